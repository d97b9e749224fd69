set_option maxRecDepth 100000
/-! ===== Int32 by its bits: bt x i ===== -/
def bt (x : Int32) (i : Nat) : Bool := x.toBitVec.getLsbD i
theorem b_ext {x y : Int32} (h : ∀ i, i < 32 → bt x i = bt y i) : x = y := Int32.toBitVec_inj.mp (BitVec.eq_of_getLsbD_eq (fun i hi => h i hi))
theorem b_or (x y : Int32) (i : Nat) : bt (x ||| y) i = (bt x i || bt y i) := by unfold bt; rw [Int32.toBitVec_or, BitVec.getLsbD_or]
theorem b_and (x y : Int32) (i : Nat) : bt (x &&& y) i = (bt x i && bt y i) := by unfold bt; rw [Int32.toBitVec_and, BitVec.getLsbD_and]
theorem b_xor (x y : Int32) (i : Nat) : bt (x ^^^ y) i = (bt x i ^^ bt y i) := by unfold bt; rw [Int32.toBitVec_xor, BitVec.getLsbD_xor]
theorem b_big {x : Int32} {i : Nat} (h : 32 ≤ i) : bt x i = false := BitVec.getLsbD_of_ge _ _ h
theorem b_255 (i : Nat) : bt 255 i = decide (i < 8) := by
  rcases Nat.lt_or_ge i 32 with h | h
  · exact (by decide +kernel : ∀ i, i < 32 → bt 255 i = decide (i < 8)) i h
  · rw [b_big h, decide_eq_false (by omega)]
theorem b_65535 (i : Nat) : bt 65535 i = decide (i < 16) := by
  rcases Nat.lt_or_ge i 32 with h | h
  · exact (by decide +kernel : ∀ i, i < 32 → bt 65535 i = decide (i < 16)) i h
  · rw [b_big h, decide_eq_false (by omega)]
theorem b_m1 : ∀ i, i < 32 → bt (-1) i = true := by decide +kernel
theorem b_0 (i : Nat) : bt 0 i = false := BitVec.getLsbD_zero
theorem s_l : ∀ n, n < 32 → ((nI n &&& 31).toBitVec.smod 32).toNat = n := by decide +kernel
theorem s_u : ∀ n, n < 32 → (((nI n).toUInt32 &&& Int32.toUInt32 31).toBitVec % 32).toNat = n := by decide +kernel
theorem b_shl (n : Nat) (hn : n < 32) (x : Int32) {i : Nat} (hi : i < 32) : bt (x <<< (nI n &&& 31)) i = (decide (n ≤ i) && bt x (i - n)) := by
  unfold bt
  rw [Int32.toBitVec_shiftLeft]
  show (x.toBitVec <<< ((nI n &&& 31).toBitVec.smod 32).toNat).getLsbD i = _
  rw [s_l n hn, BitVec.getLsbD_shiftLeft]
  rcases Nat.lt_or_ge i n with h | h
  · simp [h, Nat.not_le.mpr h]
  · simp [hi, h, Nat.not_lt.mpr h]
theorem b_ushr (n : Nat) (hn : n < 32) (x : Int32) (i : Nat) : bt ((x.toUInt32 >>> ((nI n).toUInt32 &&& Int32.toUInt32 31)).toInt32) i = bt x (n + i) := by
  show (x.toUInt32 >>> ((nI n).toUInt32 &&& Int32.toUInt32 31)).toBitVec.getLsbD i = x.toUInt32.toBitVec.getLsbD (n + i)
  rw [UInt32.toBitVec_shiftRight]
  show (x.toUInt32.toBitVec >>> (((nI n).toUInt32 &&& Int32.toUInt32 31).toBitVec % 32).toNat).getLsbD i = _
  rw [s_u n hn, BitVec.getLsbD_ushiftRight]
theorem b_sshr (n : Nat) (hn : n < 32) (x : Int32) {i : Nat} (hi : i < 32) : bt (x >>> (nI n &&& 31)) i = if n + i < 32 then bt x (n + i) else bt x 31 := by
  unfold bt
  rw [Int32.toBitVec_shiftRight]
  show (x.toBitVec.sshiftRight ((nI n &&& 31).toBitVec.smod 32).toNat).getLsbD i = _
  rw [s_l n hn, BitVec.getLsbD_sshiftRight, BitVec.msb_eq_getLsbD_last]
  simp [hi]
/-! ===== small facts ===== -/
theorem br1 {A B : Prop} (h : B) : ((1 : Int32) = 0 → A) ∧ (¬ (1 : Int32) = 0 → B) := ⟨fun q => absurd q (by decide), fun _ => h⟩
theorem br0 {A B : Prop} (h : A) : ((0 : Int32) = 0 → A) ∧ (¬ (0 : Int32) = 0 → B) := ⟨fun _ => h, fun q => absurd rfl q⟩
theorem brY {c A B : Prop} (hc : c) (h : A) : (c → A) ∧ (¬ c → B) := ⟨fun _ => h, fun q => absurd hc q⟩
theorem brN {c A B : Prop} (hc : ¬ c) (h : B) : (c → A) ∧ (¬ c → B) := ⟨fun q => absurd q hc, fun _ => h⟩
theorem brI {c A B : Prop} (f : c → A) (g : ¬ c → B) : (c → A) ∧ (¬ c → B) := ⟨f, g⟩
theorem nar1 : narrow .boolean (.int (1 : Int32)) = .int 1 := rfl
theorem nar0 : narrow .boolean (.int (0 : Int32)) = .int 0 := rfl
theorem iteq {c : Prop} [Decidable c] {a b : Int32} {Q : Int32 → Prop} : ((c → Q a) ∧ (¬ c → Q b)) ↔ Q (if c then a else b) := by
  by_cases h : c
  · simp [h]
  · simp [h]
/-- a number between two -/
def inI (v lo hi : Int32) : Prop := lo ≤ v ∧ v ≤ hi
theorem i_lt (a b : Int32) : a < b ↔ a.toInt < b.toInt := Int32.lt_iff_toInt_lt
theorem i_le (a b : Int32) : a ≤ b ↔ a.toInt ≤ b.toInt := Int32.le_iff_toInt_le
theorem i_eq (a b : Int32) : a = b ↔ a.toInt = b.toInt := Int32.toInt_inj.symm
theorem i_nlt {a b : Int32} : ¬ a < b ↔ b ≤ a := by rw [i_lt, i_le]; omega
theorem i_nle {a b : Int32} : ¬ a ≤ b ↔ b < a := by rw [i_lt, i_le]; omega
/-- x is one of 0 .. n - 1 -/
theorem in_n {n : Nat} (hn : n < 2 ^ 30) (x : Int32) : inI x 0 (nI n - 1) ↔ ∃ p, p < n ∧ x = nI p := by
  have e1 : (nI n - 1).toInt = (n : Int) - 1 := by
    rw [show (1 : Int32) = nI 1 from rfl, pk_sub_toInt (a := n) (b := 1) hn (by decide)]
    rfl
  constructor
  · rintro ⟨h1, h2⟩
    obtain ⟨j, hj, rfl⟩ := nI_of (i_nlt.mpr h1)
    rw [i_le, nI_toInt hj, e1] at h2
    exact ⟨j, by omega, rfl⟩
  · rintro ⟨p, hp, rfl⟩
    refine ⟨nI_pos' (by omega), ?_⟩
    rw [i_le, nI_toInt (by omega), e1]
    omega
theorem in_lit {x : Int32} {M : Nat} (hM : M < 2 ^ 30) : inI x 0 (nI M) ↔ ∃ p, p ≤ M ∧ x = nI p := by
  constructor
  · rintro ⟨h1, h2⟩
    obtain ⟨j, hj, rfl⟩ := nI_of (i_nlt.mpr h1)
    exact ⟨j, (nI_leI hj (by omega)).mp h2, rfl⟩
  · rintro ⟨p, hp, rfl⟩
    exact ⟨nI_pos' (by omega), nI_le hp (by omega)⟩
theorem w_gt (a b : Int32) : a.toInt64 > b.toInt64 ↔ b < a := by
  show b.toInt64 < a.toInt64 ↔ _
  rw [Int64.lt_iff_toInt_lt, i_lt, Int32.toInt_toInt64, Int32.toInt_toInt64]
theorem w_eq (a b : Int32) : a.toInt64 = b.toInt64 ↔ a = b := by
  constructor
  · intro q; rw [i_eq, ← Int32.toInt_toInt64 a, ← Int32.toInt_toInt64 b, q]
  · intro q; rw [q]
theorem cmp_is (a b : Int32) : lg_cmp a.toInt64 b.toInt64 = if b < a then 1 else if a = b then 0 else -1 := by
  unfold lg_cmp
  simp only [w_gt, w_eq]
theorem cmp_lt (a b : Int32) : lg_cmp a.toInt64 b.toInt64 < 0 ↔ a < b := by
  rw [cmp_is]
  by_cases h1 : b < a
  · rw [if_pos h1]
    exact ⟨fun q => absurd q (by decide), fun q => by rw [i_lt] at *; omega⟩
  · rw [if_neg h1]
    by_cases h2 : a = b
    · rw [if_pos h2]
      exact ⟨fun q => absurd q (by decide), fun q => by rw [h2] at q; rw [i_lt] at q; omega⟩
    · rw [if_neg h2]
      exact ⟨fun _ => by rw [i_lt] at *; rw [i_eq] at h2; omega, fun _ => by decide⟩
theorem cmp_gt (a b : Int32) : 0 < lg_cmp a.toInt64 b.toInt64 ↔ b < a := by
  rw [cmp_is]
  by_cases h1 : b < a
  · rw [if_pos h1]
    exact ⟨fun _ => h1, fun _ => by decide⟩
  · rw [if_neg h1]
    by_cases h2 : a = b
    · rw [if_pos h2]
      exact ⟨fun q => absurd q (by decide), fun q => absurd q h1⟩
    · rw [if_neg h2]
      exact ⟨fun q => absurd q (by decide), fun q => absurd q h1⟩
/-! ===== the guards of both sides ===== -/
theorem isIn0_y {v lo hi : Int32} {Q : Int32 → Prop} (h : inI v lo hi) (hq : Q 1) : wX0_isIn v lo hi Q := by
  unfold wX0_isIn
  exact brN (i_nlt.mpr h.1) (brN (i_nlt.mpr h.2) hq)
theorem isIn0_n {v lo hi : Int32} {Q : Int32 → Prop} (h : ¬ inI v lo hi) (hq : Q 0) : wX0_isIn v lo hi Q := by
  unfold wX0_isIn
  refine brI (fun _ => hq) (fun h1 => brI (fun _ => hq) (fun h2 => absurd ⟨i_nlt.mp h1, i_nlt.mp h2⟩ h))
theorem isIn6_y {v lo hi : Int32} {L G : Int64} {Q : Int32 → Prop} (h : inI v lo hi) (hq : Q 1) (hl : L = lo.toInt64 := by rfl) (hg : G = hi.toInt64 := by rfl) : wX6_isIn v.toInt64 L G Q := by
  subst hl; subst hg
  unfold wX6_isIn
  exact brN (by rw [cmp_lt]; exact i_nlt.mpr h.1) (brN (by rw [cmp_gt]; exact i_nlt.mpr h.2) hq)
theorem isIn6_n {v lo hi : Int32} {L G : Int64} {Q : Int32 → Prop} (h : ¬ inI v lo hi) (hq : Q 0) (hl : L = lo.toInt64 := by rfl) (hg : G = hi.toInt64 := by rfl) : wX6_isIn v.toInt64 L G Q := by
  subst hl; subst hg
  unfold wX6_isIn
  refine brI (fun _ => hq) (fun h1 => brI (fun _ => hq) (fun h2 => absurd ⟨?_, ?_⟩ h))
  · rw [cmp_lt] at h1; exact i_nlt.mp h1
  · rw [cmp_gt] at h2; exact i_nlt.mp h2
/-! ===== bits of small sets ===== -/
def one (p : Nat) : Int32 := (1 : Int32) <<< (nI p &&& 31)
def ev (n : Nat) : Int32 := one n - 1
def cmpl (x : Int32) : Int32 := x ^^^ (-1 : Int32)
theorem b_one {p : Nat} (hp : p < 32) {i : Nat} (hi : i < 32) : bt (one p) i = decide (i = p) := by
  have : ∀ p, p < 32 → ∀ i, i < 32 → bt (one p) i = decide (i = p) := by decide +kernel
  exact this p hp i hi
theorem b_ev {n : Nat} (hn : n ≤ 12) {i : Nat} (hi : i < 32) : bt (ev n) i = decide (i < n) := by
  have : ∀ n, n < 13 → ∀ i, i < 32 → bt (ev n) i = decide (i < n) := by decide +kernel
  exact this n (by omega) i hi
theorem b_cmpl (x : Int32) {i : Nat} (hi : i < 32) : bt (cmpl x) i = !bt x i := by
  unfold cmpl
  rw [b_xor, b_m1 i hi]
  simp
/-- a test of one bit -/
theorem bt_test (x : Int32) {p : Nat} (hp : p < 32) : ((x >>> (nI p &&& 31)) &&& 1) = if bt x p = true then 1 else 0 := by
  apply b_ext
  intro i hi
  have h1 : bt (1 : Int32) i = decide (i = 0) := (by decide +kernel : ∀ i, i < 32 → bt (1 : Int32) i = decide (i = 0)) i hi
  rw [b_and, b_sshr p hp x hi, h1]
  by_cases h0 : i = 0
  · subst h0
    simp only [Nat.add_zero, hp, if_true, decide_true, Bool.and_true]
    cases bt x p
    · simp [b_0]
    · simp; decide
  · simp only [h0, decide_false, Bool.and_false]
    cases bt x p
    · simp [b_0]
    · simp [h1, h0]
theorem bt_1 (x : Int32) {p : Nat} (hp : p < 32) : ((x >>> (nI p &&& 31)) &&& 1) = 1 ↔ bt x p = true := by
  rw [bt_test x hp]
  cases bt x p <;> simp <;> decide
theorem bt_z (x : Int32) {p : Nat} (hp : p < 32) : ((x >>> (nI p &&& 31)) &&& 1) = 0 ↔ bt x p = false := by
  rw [bt_test x hp]
  cases bt x p <;> simp <;> decide
/-- a set of at most n -/
def subn (n : Nat) (x : Int32) : Prop := ∀ i, n ≤ i → bt x i = false
theorem subn_0 {n : Nat} : subn n 0 := fun i _ => b_0 i
theorem subn_up {n k : Nat} {x : Int32} (h : subn n x) (hk : n ≤ k) : subn k x := fun i hi => h i (by omega)
theorem subn_and {n : Nat} {x y : Int32} (h : subn n x) : subn n (x &&& y) := fun i hi => by rw [b_and, h i hi]; rfl
theorem subn_or {n : Nat} {x y : Int32} (h : subn n x) (h2 : subn n y) : subn n (x ||| y) := fun i hi => by rw [b_or, h i hi, h2 i hi]; rfl
theorem subn_ev {n : Nat} (hn : n ≤ 12) : subn n (ev n) := fun i hi => by
  rcases Nat.lt_or_ge i 32 with h | h
  · rw [b_ev hn h, decide_eq_false (by omega)]
  · exact b_big h
theorem subn_one {n p : Nat} (hp : p < n) (hn : n ≤ 32) : subn n (one p) := fun i hi => by
  rcases Nat.lt_or_ge i 32 with h | h
  · rw [b_one (by omega) h, decide_eq_false (by omega)]
  · exact b_big h
theorem z_ext {x : Int32} : x = 0 ↔ ∀ i, i < 32 → bt x i = false := by
  constructor
  · rintro rfl i _; exact b_0 i
  · intro h; exact b_ext (fun i hi => by rw [h i hi, b_0])
/-- the number of a set -/
def nu (x : Int32) : Nat := x.toBitVec.toNat
theorem nu_bit (x : Int32) (i : Nat) : (nu x).testBit i = bt x i := rfl
theorem nu_I (x : Int32) : x = nI (nu x) := Int32.toBitVec_inj.mp (by show _ = BitVec.ofNat 32 _; simp [nu])
theorem nu_lt {n : Nat} {x : Int32} (h : subn n x) : nu x < 2 ^ n := by
  apply Nat.lt_pow_two_of_testBit
  intro i hi
  rw [nu_bit]
  exact h i hi
theorem nu_inj {x y : Int32} (h : nu x = nu y) : x = y := by rw [nu_I x, nu_I y, h]
theorem nu_le {x y : Int32} (h : ∀ i, bt x i = true → bt y i = true) : nu x ≤ nu y := by
  have e : nu x &&& nu y = nu x := by
    apply Nat.eq_of_testBit_eq
    intro i
    rw [Nat.testBit_and, nu_bit, nu_bit]
    have := h i
    cases hx : bt x i
    · rfl
    · rw [this hx]; rfl
  rw [← e]
  exact Nat.and_le_right
theorem nu_less {x y : Int32} (h : ∀ i, bt x i = true → bt y i = true) (hne : x ≠ y) : nu x < nu y :=
  Nat.lt_of_le_of_ne (nu_le h) (fun e => hne (nu_inj e))
/-- how many -/
def pc (m : Nat) : Nat := (List.range 12).countP (fun i => m.testBit i)
def bcF (a0 : Int32) : Int32 :=
  let x1 := a0 - (((a0.toUInt32 >>> ((1 : Int32).toUInt32 &&& Int32.toUInt32 31)).toInt32) &&& (1431655765 : Int32))
  let x3 := (x1 &&& (858993459 : Int32)) + (((x1.toUInt32 >>> ((2 : Int32).toUInt32 &&& Int32.toUInt32 31)).toInt32) &&& (858993459 : Int32))
  let x5 := (x3 + ((x3.toUInt32 >>> ((4 : Int32).toUInt32 &&& Int32.toUInt32 31)).toInt32)) &&& (252645135 : Int32)
  let x7 := x5 + ((x5.toUInt32 >>> ((8 : Int32).toUInt32 &&& Int32.toUInt32 31)).toInt32)
  let x9 := x7 + ((x7.toUInt32 >>> ((16 : Int32).toUInt32 &&& Int32.toUInt32 31)).toInt32)
  x9 &&& (63 : Int32)
theorem bc_eq (a : Int32) (Q : Int32 → Prop) : wJ5_bitCount a Q ↔ Q (bcF a) := by
  unfold wJ5_bitCount bcF
  simp only [forall_eq]
theorem bc_all : ∀ m, m < 4096 → bcF (nI m) = nI (pc m) := by decide +kernel
theorem pc_le (m : Nat) : pc m ≤ 12 := List.countP_le_length
def pcI (x : Int32) : Int32 := nI (pc (nu x))
theorem bc_set {x : Int32} (h : subn 12 x) {Q : Int32 → Prop} (hq : Q (pcI x)) : wJ5_bitCount x Q := by
  rw [bc_eq, nu_I x, bc_all _ (nu_lt h)]
  exact hq
def onF (x l1 : Int32) : Nat → Int32
  | 0 => l1
  | k + 1 => onF x (l1 + ((x >>> (nI (11 - k) &&& 31)) &&& (1 : Int32))) k
theorem on_all : ∀ m, m < 4096 → onF (nI m) 0 12 = nI (pc m) := by decide +kernel
theorem on_eq {x : Int32} {Q : Int32 → Prop} : ∀ (k : Nat) (l1 : Int32), k ≤ 12 → Q (onF x l1 k) → wX6_ones_4 Q (k + 1) x l1 (nI (12 - k)) := by
  intro k
  induction k with
  | zero => intro l1 _ h; exact brY (by decide) h
  | succ k ih =>
    intro l1 hk h
    unfold wX6_ones_4
    refine brN (nI_ge (b := 12) (a := 12 - (k + 1)) (by omega) (by decide)) ?_
    have e : nI (12 - (k + 1)) + 1 = nI (12 - k) := by rw [nI_1]; congr 1; omega
    rw [e]
    refine ih _ (by omega) ?_
    have e2 : 12 - (k + 1) = 11 - k := by omega
    rw [e2]
    exact h
theorem ones_set {x : Int32} (h : subn 12 x) {Q : Int32 → Prop} (hq : Q (pcI x)) : wX6_ones x Q := by
  refine ⟨13, on_eq (Q := Q) 12 0 (by decide) ?_⟩
  rw [nu_I x, on_all _ (nu_lt h)]
  exact hq
