set_option maxRecDepth 100000
def wJ5_bitCount (a0 : Int32) (Q : Int32 → Prop) : Prop :=
  ∀ x1, x1 = a0 - (((a0.toUInt32 >>> ((1 : Int32).toUInt32 &&& Int32.toUInt32 31)).toInt32) &&& (1431655765 : Int32)) → (∀ x3, x3 = (x1 &&& (858993459 : Int32)) + (((x1.toUInt32 >>> ((2 : Int32).toUInt32 &&& Int32.toUInt32 31)).toInt32) &&& (858993459 : Int32)) → (∀ x5, x5 = (x3 + ((x3.toUInt32 >>> ((4 : Int32).toUInt32 &&& Int32.toUInt32 31)).toInt32)) &&& (252645135 : Int32) → (∀ x7, x7 = x5 + ((x5.toUInt32 >>> ((8 : Int32).toUInt32 &&& Int32.toUInt32 31)).toInt32) → (∀ x9, x9 = x7 + ((x7.toUInt32 >>> ((16 : Int32).toUInt32 &&& Int32.toUInt32 31)).toInt32) → (Q (x9 &&& (63 : Int32)))))))
def wJ5_numberOfLeadingZeros_73 (l0 : Int32) (l1 : Int32) (Q : Int32 → Prop) : Prop :=
  Q (l1 - ((l0.toUInt32 >>> ((1 : Int32).toUInt32 &&& Int32.toUInt32 31)).toInt32))
def wJ5_numberOfLeadingZeros_61 (l0 : Int32) (l1 : Int32) (Q : Int32 → Prop) : Prop :=
  (l0 < (4 : Int32) → wJ5_numberOfLeadingZeros_73 l0 l1 Q) ∧ (¬ l0 < (4 : Int32) → wJ5_numberOfLeadingZeros_73 ((l0.toUInt32 >>> ((2 : Int32).toUInt32 &&& Int32.toUInt32 31)).toInt32) (l1 + (-2 : Int32)) Q)
def wJ5_numberOfLeadingZeros_48 (l0 : Int32) (l1 : Int32) (Q : Int32 → Prop) : Prop :=
  (l0 < (16 : Int32) → wJ5_numberOfLeadingZeros_61 l0 l1 Q) ∧ (¬ l0 < (16 : Int32) → wJ5_numberOfLeadingZeros_61 ((l0.toUInt32 >>> ((4 : Int32).toUInt32 &&& Int32.toUInt32 31)).toInt32) (l1 + (-4 : Int32)) Q)
def wJ5_numberOfLeadingZeros_33 (l0 : Int32) (l1 : Int32) (Q : Int32 → Prop) : Prop :=
  (l0 < (256 : Int32) → wJ5_numberOfLeadingZeros_48 l0 l1 Q) ∧ (¬ l0 < (256 : Int32) → wJ5_numberOfLeadingZeros_48 ((l0.toUInt32 >>> ((8 : Int32).toUInt32 &&& Int32.toUInt32 31)).toInt32) (l1 + (-8 : Int32)) Q)
def wJ5_numberOfLeadingZeros (a0 : Int32) (Q : Int32 → Prop) : Prop :=
  (0 < a0 → (a0 < (65536 : Int32) → wJ5_numberOfLeadingZeros_33 a0 (31 : Int32) Q) ∧ (¬ a0 < (65536 : Int32) → ∀ x1, x1 = (a0.toUInt32 >>> ((16 : Int32).toUInt32 &&& Int32.toUInt32 31)).toInt32 → (wJ5_numberOfLeadingZeros_33 x1 ((31 : Int32) + (-16 : Int32)) Q))) ∧ (¬ 0 < a0 → (a0 = 0 → Q (32 : Int32)) ∧ (¬ a0 = 0 → Q (0 : Int32)))
def wJ5_highestOneBit (a0 : Int32) (Q : Int32 → Prop) : Prop :=
  wJ5_numberOfLeadingZeros a0 (fun r1 => Q (a0 &&& (((-2147483648 : Int32).toUInt32 >>> (r1.toUInt32 &&& Int32.toUInt32 31)).toInt32)))
def wJ5_numberOfTrailingZeros_74 (l0 : Int32) (l1 : Int32) (Q : Int32 → Prop) : Prop :=
  Q (l1 + ((l0.toUInt32 >>> ((1 : Int32).toUInt32 &&& Int32.toUInt32 31)).toInt32))
def wJ5_numberOfTrailingZeros_62 (l0 : Int32) (l1 : Int32) (Q : Int32 → Prop) : Prop :=
  (l0 ≤ (4 : Int32) → wJ5_numberOfTrailingZeros_74 l0 l1 Q) ∧ (¬ l0 ≤ (4 : Int32) → wJ5_numberOfTrailingZeros_74 ((l0.toUInt32 >>> ((2 : Int32).toUInt32 &&& Int32.toUInt32 31)).toInt32) (l1 + (2 : Int32)) Q)
def wJ5_numberOfTrailingZeros_49 (l0 : Int32) (l1 : Int32) (Q : Int32 → Prop) : Prop :=
  (l0 ≤ (16 : Int32) → wJ5_numberOfTrailingZeros_62 l0 l1 Q) ∧ (¬ l0 ≤ (16 : Int32) → wJ5_numberOfTrailingZeros_62 ((l0.toUInt32 >>> ((4 : Int32).toUInt32 &&& Int32.toUInt32 31)).toInt32) (l1 + (4 : Int32)) Q)
def wJ5_numberOfTrailingZeros_34 (l0 : Int32) (l1 : Int32) (Q : Int32 → Prop) : Prop :=
  (l0 ≤ (256 : Int32) → wJ5_numberOfTrailingZeros_49 l0 l1 Q) ∧ (¬ l0 ≤ (256 : Int32) → wJ5_numberOfTrailingZeros_49 ((l0.toUInt32 >>> ((8 : Int32).toUInt32 &&& Int32.toUInt32 31)).toInt32) (l1 + (8 : Int32)) Q)
def wJ5_numberOfTrailingZeros (a0 : Int32) (Q : Int32 → Prop) : Prop :=
  (0 < ((a0 ^^^ (-1 : Int32)) &&& (a0 - (1 : Int32))) → (((a0 ^^^ (-1 : Int32)) &&& (a0 - (1 : Int32))) ≤ (65536 : Int32) → wJ5_numberOfTrailingZeros_34 ((a0 ^^^ (-1 : Int32)) &&& (a0 - (1 : Int32))) (1 : Int32) Q) ∧ (¬ ((a0 ^^^ (-1 : Int32)) &&& (a0 - (1 : Int32))) ≤ (65536 : Int32) → ∀ x1, x1 = (((a0 ^^^ (-1 : Int32)) &&& (a0 - (1 : Int32))).toUInt32 >>> ((16 : Int32).toUInt32 &&& Int32.toUInt32 31)).toInt32 → (wJ5_numberOfTrailingZeros_34 x1 ((1 : Int32) + (16 : Int32)) Q))) ∧ (¬ 0 < ((a0 ^^^ (-1 : Int32)) &&& (a0 - (1 : Int32))) → Q (((a0 ^^^ (-1 : Int32)) &&& (a0 - (1 : Int32))) &&& (32 : Int32)))
def wX7_kind (a0 : Nat) (V : CV) (Q : Int32 → CV → Prop) : Prop :=
  Q (0 : Int32) V
def wX7_init (a0 : Nat) (V : CV) (Q : CV → Prop) : Prop :=
  Q V
def wX7_another (a0 : Nat) (V : CV) (Q : Nat → CV → Prop) : Prop :=
  ∀ q1, vM V q1 = none → (wX7_init q1 (sM V (hset (vM V) q1 (eSp 7 0))) (fun V4 => Q q1 V4))
def wX7_worth (a0 : Nat) (V : CV) (Q : Int32 → CV → Prop) : Prop :=
  ∃ c1 b2, isSpk c1 ∧ vM V a0 = some (eSp c1 b2) ∧ (Q b2 V)
def wX8_init (a0 : Nat) (V : CV) (Q : CV → Prop) : Prop :=
  wX7_init a0 V (fun V2 => Q V2)
def wX8_kind (a0 : Nat) (V : CV) (Q : Int32 → CV → Prop) : Prop :=
  Q (1 : Int32) V
def wX8_worth (a0 : Nat) (V : CV) (Q : Int32 → CV → Prop) : Prop :=
  ∃ c2 b3, isSpk c2 ∧ vM V a0 = some (eSp c2 b3) ∧ (wX7_worth a0 V (fun r1 V6 => Q (r1 + (5 : Int32)) V6))
def wX8_another (a0 : Nat) (V : CV) (Q : Nat → CV → Prop) : Prop :=
  ∀ q1, vM V q1 = none → (wX8_init q1 (sM V (hset (vM V) q1 (eSp 8 0))) (fun V4 => Q q1 V4))
def wX9_init (a0 : Nat) (V : CV) (Q : CV → Prop) : Prop :=
  wX7_init a0 V (fun V2 => Q V2)
def wX9_kind (a0 : Nat) (V : CV) (Q : Int32 → CV → Prop) : Prop :=
  Q (2 : Int32) V
def wX9_worth (a0 : Nat) (V : CV) (Q : Int32 → CV → Prop) : Prop :=
  ∃ c2 b3, isSpk c2 ∧ vM V a0 = some (eSp c2 b3) ∧ (wX7_worth a0 V (fun r1 V6 => Q ((100 : Int32) - r1) V6))
def wX9_another (a0 : Nat) (V : CV) (Q : Nat → CV → Prop) : Prop :=
  ∀ q1, vM V q1 = none → (wX9_init q1 (sM V (hset (vM V) q1 (eSp 9 0))) (fun V4 => Q q1 V4))
def wX10_init (a0 : Nat) (V : CV) (Q : CV → Prop) : Prop :=
  wX8_init a0 V (fun V2 => Q V2)
def wX10_another (a0 : Nat) (V : CV) (Q : Nat → CV → Prop) : Prop :=
  ∀ q1, vM V q1 = none → (wX10_init q1 (sM V (hset (vM V) q1 (eSp 10 0))) (fun V4 => Q q1 V4))
def wX10_kind (a0 : Nat) (V : CV) (Q : Int32 → CV → Prop) : Prop :=
  ∃ c2 b3, isSpk c2 ∧ vM V a0 = some (eSp c2 b3) ∧ (wX8_kind a0 V (fun r1 V6 => Q (r1 + (2 : Int32)) V6))
def wX10_worth (a0 : Nat) (V : CV) (Q : Int32 → CV → Prop) : Prop :=
  ∃ c2 b3, isSpk c2 ∧ vM V a0 = some (eSp c2 b3) ∧ (wX8_worth a0 V (fun r1 V6 => Q ((2 : Int32) * r1) V6))
def wX11_init (a0 : Nat) (V : CV) (Q : CV → Prop) : Prop :=
  wX9_init a0 V (fun V2 => Q V2)
def wX11_another (a0 : Nat) (V : CV) (Q : Nat → CV → Prop) : Prop :=
  ∀ q1, vM V q1 = none → (wX11_init q1 (sM V (hset (vM V) q1 (eSp 11 0))) (fun V4 => Q q1 V4))
def wX11_kind (a0 : Nat) (V : CV) (Q : Int32 → CV → Prop) : Prop :=
  ∃ c2 b3, isSpk c2 ∧ vM V a0 = some (eSp c2 b3) ∧ (wX9_kind a0 V (fun r1 V6 => Q (r1 + (2 : Int32)) V6))
def wX11_worth (a0 : Nat) (V : CV) (Q : Int32 → CV → Prop) : Prop :=
  ∃ c2 b3, isSpk c2 ∧ vM V a0 = some (eSp c2 b3) ∧ (wX9_worth a0 V (fun r1 V6 => Q (r1 - (7 : Int32)) V6))
def wX12_init (a0 : Nat) (V : CV) (Q : CV → Prop) : Prop :=
  wX7_init a0 V (fun V2 => Q V2)
def wX12_another (a0 : Nat) (V : CV) (Q : Nat → CV → Prop) : Prop :=
  ∀ q1, vM V q1 = none → (wX12_init q1 (sM V (hset (vM V) q1 (eSp 12 0))) (fun V4 => Q q1 V4))
def wX12_kind (a0 : Nat) (V : CV) (Q : Int32 → CV → Prop) : Prop :=
  Q (5 : Int32) V
def wX12_worth (a0 : Nat) (V : CV) (Q : Int32 → CV → Prop) : Prop :=
  ∃ c2 b3, isSpk c2 ∧ vM V a0 = some (eSp c2 b3) ∧ (wX7_worth a0 V (fun r1 V6 => Q ((10 : Int32) * r1) V6))
def wX0_divisorB (P : Int64 → Int64 → (Int64 → Prop) → Prop) (a0 : Int64) (a2 : Int64) (Q : Int64 → Prop) : Prop :=
  ((lg_cmp a2 (0 : Int64)) = 0 → Q a0) ∧ (¬ (lg_cmp a2 (0 : Int64)) = 0 → (¬ a2 = 0) ∧ (P a2 (a0 - a0 / a2 * a2) (fun r1 => Q r1)))
def wX0_divisor : Nat → Int64 → Int64 → (Int64 → Prop) → Prop
  | 0, _, _, _ => False
  | d + 1, a, b, Q => wX0_divisorB (fun a b Q => wX0_divisor d a b Q) a b Q
def wX0_divisorC (a0 a2 : Int64) (Q : Int64 → Prop) : Prop := wX0_divisor 64 a0 a2 Q
