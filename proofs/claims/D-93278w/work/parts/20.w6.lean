set_option maxRecDepth 100000
def wX6_isIn (a0 : Int64) (a2 : Int64) (a4 : Int64) (Q : Int32 → Prop) : Prop :=
  ((lg_cmp a0 a2) < 0 → Q (0 : Int32)) ∧ (¬ (lg_cmp a0 a2) < 0 → (0 < (lg_cmp a0 a4) → Q (0 : Int32)) ∧ (¬ 0 < (lg_cmp a0 a4) → Q (1 : Int32)))
def wX6_isDeed (a1 : Int32) (T : TS) (Q : Int32 → TS → Prop) : Prop :=
  vp_in (1 : Int32) 3114 ∧ (wX6_isIn a1.toInt64 (0 : Int64) (((T.2 0 (1 : Int32).toNatClampNeg) - (1 : Int32)).toInt64) (fun r1 => (narrow .boolean (.int r1) = .int r1) ∧ Q r1 T))
def wX6_becomes (a1 : Int32) (a2 : Int32) (T : TS) (Q : Int32 → TS → Prop) : Prop :=
  vp_in a1 3114 ∧ (vp_in a1 3114 ∧ (Q (T.2 0 a1.toNatClampNeg) (ts T 0 a1.toNatClampNeg a2)))
def wX6_ones_4 (Q : Int32 → Prop) : Nat → Int32 → Int32 → Int32 → Prop
  | 0, _, _, _ => False
  | n + 1, l0, l1, l2 =>
  ((12 : Int32) ≤ l2 → Q l1) ∧ (¬ (12 : Int32) ≤ l2 → wX6_ones_4 Q n l0 (l1 + ((l0 >>> (l2 &&& 31)) &&& (1 : Int32))) (l2 + (1 : Int32)))
def wX6_ones (a0 : Int32) (Q : Int32 → Prop) : Prop :=
  ∃ f_4, wX6_ones_4 Q f_4 a0 (0 : Int32) (0 : Int32)
def wX6_again (a1 : Int32) (T : TS) (Q : Int32 → TS → Prop) : Prop :=
  wX6_isDeed a1 T (fun r1 T2 => (r1 = 0 → Q (-1000000001 : Int32) T2) ∧ (¬ r1 = 0 → vp_in (((66 : Int32) + ((6 : Int32) * a1)) + (4 : Int32)) 3114 ∧ (vp_in (((66 : Int32) + ((6 : Int32) * a1)) + (5 : Int32)) 3114 ∧ (wX6_becomes (((66 : Int32) + ((6 : Int32) * a1)) + (3 : Int32)) (0 : Int32) (ts (ts T2 0 (((66 : Int32) + ((6 : Int32) * a1)) + (4 : Int32)).toNatClampNeg (0 : Int32)) 0 (((66 : Int32) + ((6 : Int32) * a1)) + (5 : Int32)).toNatClampNeg (0 : Int32)) (fun r3 T4 => wX6_ones r3 (fun r5 => Q r5 T4))))))
def wX6_isPerson (a1 : Int32) (T : TS) (Q : Int32 → TS → Prop) : Prop :=
  vp_in (0 : Int32) 3114 ∧ (wX6_isIn a1.toInt64 (0 : Int64) (((T.2 0 (0 : Int32).toNatClampNeg) - (1 : Int32)).toInt64) (fun r1 => (narrow .boolean (.int r1) = .int r1) ∧ Q r1 T))
def wX6_areTwo (a1 : Int32) (a2 : Int32) (a3 : Int32) (T : TS) (Q : Int32 → TS → Prop) : Prop :=
  wX6_isPerson a1 T (fun r1 T2 => (r1 = 0 → Q (0 : Int32) T2) ∧ (¬ r1 = 0 → wX6_isPerson a2 T2 (fun r3 T4 => (r3 = 0 → Q (0 : Int32) T4) ∧ (¬ r3 = 0 → (a1 = a2 → Q (0 : Int32) T4) ∧ (¬ a1 = a2 → wX6_isIn a3.toInt64 (0 : Int64) (1 : Int64) (fun r5 => (r5 = 0 → Q (0 : Int32) T4) ∧ (¬ r5 = 0 → Q (1 : Int32) T4)))))))
def wX6_of (a1 : Int32) (a2 : Int32) (T : TS) (Q : Int32 → TS → Prop) : Prop :=
  vp_in (((6 : Int32) + ((5 : Int32) * a1)) + a2) 3114 ∧ (Q (T.2 0 (((6 : Int32) + ((5 : Int32) * a1)) + a2).toNatClampNeg) T)
def wX6_isOf_19 (l0 : Int32) (l1 : Int32) (Q : Int32 → Prop) : Prop :=
  (l1 = (2 : Int32) → (l0 = (4 : Int32) → Q (1 : Int32)) ∧ (¬ l0 = (4 : Int32) → Q (0 : Int32))) ∧ (¬ l1 = (2 : Int32) → Q (0 : Int32))
def wX6_isOf (a0 : Int32) (a1 : Int32) (Q : Int32 → Prop) : Prop :=
  (a0 = a1 → Q (1 : Int32)) ∧ (¬ a0 = a1 → (a1 = 0 → Q (1 : Int32)) ∧ (¬ a1 = 0 → (a1 = (1 : Int32) → (a0 = (3 : Int32) → Q (1 : Int32)) ∧ (¬ a0 = (3 : Int32) → wX6_isOf_19 a0 a1 Q)) ∧ (¬ a1 = (1 : Int32) → wX6_isOf_19 a0 a1 Q)))
def wX6_as (a1 : Int32) (a2 : Int32) (T : TS) (Q : Int32 → TS → Prop) : Prop :=
  wX6_isPerson a1 T (fun r1 T2 => (r1 = 0 → Q (-1000000001 : Int32) T2) ∧ (¬ r1 = 0 → wX6_isIn a2.toInt64 (0 : Int64) (5 : Int64) (fun r3 => (r3 = 0 → Q (-1000000001 : Int32) T2) ∧ (¬ r3 = 0 → wX6_of a1 (0 : Int32) T2 (fun r4 T5 => wX6_isOf r4 a2 (fun r6 => (r6 = 0 → Q (-1000000012 : Int32) T5) ∧ (¬ r6 = 0 → wX6_of a1 (1 : Int32) T5 (fun r7 T8 => Q r7 T8))))))))
def wX6_isSlot (a0 : Int32) (Q : Int32 → Prop) : Prop :=
  wX6_isIn a0.toInt64 (0 : Int64) (4 : Int64) (fun r1 => (narrow .boolean (.int r1) = .int r1) ∧ Q r1)
def wX6_ask (a1 : Int32) (a2 : Int32) (T : TS) (Q : Int32 → TS → Prop) : Prop :=
  wX6_isSlot a1 (fun r1 => (r1 = 0 → Q (-1000000001 : Int32) T) ∧ (¬ r1 = 0 → wX6_isIn a2.toInt64 (0 : Int64) (5 : Int64) (fun r2 => (r2 = 0 → Q (-1000000001 : Int32) T) ∧ (¬ r2 = 0 → vp_in a1 5 ∧ (((T.2 7 a1.toNatClampNeg) = 0 → Q (-1000000011 : Int32) T) ∧ (¬ (T.2 7 a1.toNatClampNeg) = 0 → vp_in a1 5 ∧ (((T.2 7 a1.toNatClampNeg) = (1 : Int32) → vp_in a1 5 ∧ (wX6_isOf (T.2 8 a1.toNatClampNeg) a2 (fun r3 => (r3 = 0 → Q (-1000000012 : Int32) T) ∧ (¬ r3 = 0 → vp_in a1 5 ∧ (Q (T.2 9 a1.toNatClampNeg) T))))) ∧ (¬ (T.2 7 a1.toNatClampNeg) = (1 : Int32) → Q (-1000000012 : Int32) T))))))))
def wX6_bitBecomes (a1 : Int32) (a2 : Int32) (a3 : Int32) (T : TS) (Q : Int32 → TS → Prop) : Prop :=
  vp_in a1 3114 ∧ (vp_in a1 3114 ∧ (vp_in a1 3114 ∧ (Q (((T.2 0 a1.toNatClampNeg) >>> (a2 &&& 31)) &&& (1 : Int32)) (ts T 0 a1.toNatClampNeg ((T.2 0 a1.toNatClampNeg) ^^^ (((((T.2 0 a1.toNatClampNeg) >>> (a2 &&& 31)) &&& (1 : Int32)) ^^^ a3) <<< (a2 &&& 31)))))))
def wX6_away (a1 : Int32) (a2 : Int32) (a3 : Int32) (T : TS) (Q : Int32 → TS → Prop) : Prop :=
  wX6_isPerson a1 T (fun r1 T2 => (r1 = 0 → Q (-1000000001 : Int32) T2) ∧ (¬ r1 = 0 → wX6_isIn a2.toInt64 (0 : Int64) (23 : Int64) (fun r3 => (r3 = 0 → Q (-1000000001 : Int32) T2) ∧ (¬ r3 = 0 → wX6_isIn a3.toInt64 (0 : Int64) (1 : Int64) (fun r4 => (r4 = 0 → Q (-1000000001 : Int32) T2) ∧ (¬ r4 = 0 → wX6_bitBecomes (((6 : Int32) + ((5 : Int32) * a1)) + (2 : Int32)) a2 a3 T2 (fun r5 T6 => Q r5 T6)))))))
def wX6_setAside_2 (Q : TS → Prop) : Nat → Nat → Nat → Int32 → TS → Prop
  | 0, _, _, _, _ => False
  | n + 1, l1, l2, l3, T =>
  ((2914 : Int32) ≤ l3 → Q T) ∧ (¬ (2914 : Int32) ≤ l3 → tArr l1 = true ∧ vp_in l3 (tLen l1) ∧ (tArr l2 = true ∧ vp_in l3 (tLen l2) ∧ (wX6_setAside_2 Q n l1 l2 (l3 + (1 : Int32)) (ts T l2 l3.toNatClampNeg (T.2 l1 l3.toNatClampNeg)))))
def wX6_setAside (a1 : Nat) (a2 : Nat) (T : TS) (Q : TS → Prop) : Prop :=
  ∃ f_2, wX6_setAside_2 Q f_2 a1 a2 (0 : Int32) T
def wX6_back (T : TS) (Q : Int32 → TS → Prop) : Prop :=
  ((T.1 3) = 0 → Q (-1000000002 : Int32) T) ∧ (¬ (T.1 3) = 0 → wX6_setAside 1 0 T (fun T2 => vp_in (0 : Int32) 3114 ∧ (Q (T2.2 0 (0 : Int32).toNatClampNeg) T2)))
def wX6_bolder (a1 : Int32) (a2 : Int32) (T : TS) (Q : Int32 → TS → Prop) : Prop :=
  wX6_isPerson a1 T (fun r1 T2 => (r1 = 0 → Q (-1000000001 : Int32) T2) ∧ (¬ r1 = 0 → wX6_isIn a2.toInt64 (0 : Int64) (100 : Int64) (fun r3 => (r3 = 0 → Q (-1000000001 : Int32) T2) ∧ (¬ r3 = 0 → wX6_becomes (((6 : Int32) + ((5 : Int32) * a1)) + (1 : Int32)) a2 T2 (fun r4 T5 => Q r4 T5)))))
def wX6_textAt (a1 : Int32) (T : TS) (Q : Int32 → TS → Prop) : Prop :=
  Q ((114 : Int32) + ((200 : Int32) * a1)) T
def wX6_counts_33 (k_4 : Int32 → Int32 → Int32 → TS → Prop) (l1 : Int32) (l3 : Int32) (k0 : Int32) (T : TS) (Q : Int32 → TS → Prop) : Prop :=
  k_4 l1 k0 (l3 + (1 : Int32)) T
def wX6_counts_4 (Q : Int32 → TS → Prop) : Nat → Int32 → Int32 → Int32 → TS → Prop
  | 0, _, _, _, _ => False
  | n + 1, l1, l2, l3, T =>
  vp_in (2 : Int32) 3114 ∧ (((T.2 0 (2 : Int32).toNatClampNeg) ≤ l3 → Q l2 T) ∧ (¬ (T.2 0 (2 : Int32).toNatClampNeg) ≤ l3 → wX6_textAt l3 T (fun r1 T2 => vp_in r1 3114 ∧ (((T2.2 0 r1.toNatClampNeg) = l1 → wX6_counts_33 (fun z0 z1 z2 z3 => wX6_counts_4 Q n z0 z1 z2 z3) l1 l3 l3 T2 Q) ∧ (¬ (T2.2 0 r1.toNatClampNeg) = l1 → wX6_counts_33 (fun z0 z1 z2 z3 => wX6_counts_4 Q n z0 z1 z2 z3) l1 l3 l2 T2 Q)))))
def wX6_counts (a1 : Int32) (T : TS) (Q : Int32 → TS → Prop) : Prop :=
  ∃ f_4, wX6_counts_4 Q f_4 a1 (-1 : Int32) (0 : Int32) T
def wX6_everybody (T : TS) (Q : Int32 → TS → Prop) : Prop :=
  vp_in (0 : Int32) 3114 ∧ (Q (((1 : Int32) <<< ((T.2 0 (0 : Int32).toNatClampNeg) &&& 31)) - (1 : Int32)) T)
def wX6_dee (a1 : Int32) (a2 : Int32) (T : TS) (Q : Int32 → TS → Prop) : Prop :=
  vp_in (((66 : Int32) + ((6 : Int32) * a1)) + a2) 3114 ∧ (Q (T.2 0 (((66 : Int32) + ((6 : Int32) * a1)) + a2).toNatClampNeg) T)
def wX6_left (a1 : Int32) (T : TS) (Q : Int32 → TS → Prop) : Prop :=
  wX6_everybody T (fun r1 T2 => wX6_dee a1 (3 : Int32) T2 (fun r3 T4 => Q (r1 &&& (r3 ^^^ (-1 : Int32))) T4))
def wX6_joined (a0 : Int32) (a1 : Int32) (a2 : Int32) (Q : Int32 → Prop) : Prop :=
  (a0 = 38 → (a1 = 0 → Q (0 : Int32)) ∧ (¬ a1 = 0 → (a2 = 0 → Q (0 : Int32)) ∧ (¬ a2 = 0 → Q (1 : Int32)))) ∧ (¬ a0 = 38 → (a0 = 39 → (a1 = 0 → (a2 = 0 → Q (0 : Int32)) ∧ (¬ a2 = 0 → Q (1 : Int32))) ∧ (¬ a1 = 0 → Q (1 : Int32))) ∧ (¬ a0 = 39 → (a0 = 40 → (a1 = 0 → (a2 = 0 → Q (0 : Int32)) ∧ (¬ a2 = 0 → Q (1 : Int32))) ∧ (¬ a1 = 0 → Q (1 : Int32))) ∧ (¬ a0 = 40 → (a0 = 41 → (a1 = 0 → (a2 = 0 → Q (0 : Int32)) ∧ (¬ a2 = 0 → Q (1 : Int32))) ∧ (¬ a1 = 0 → Q (1 : Int32))) ∧ (¬ a0 = 41 → (a0 = 42 → Q (a1 * a2)) ∧ (¬ a0 = 42 → (a0 = 43 → Q (a1 + a2)) ∧ (¬ a0 = 43 → (a0 = 44 → (a1 = 0 → (a2 = 0 → Q (0 : Int32)) ∧ (¬ a2 = 0 → Q (1 : Int32))) ∧ (¬ a1 = 0 → Q (1 : Int32))) ∧ (¬ a0 = 44 → (a0 = 45 → Q (a1 - a2)) ∧ (¬ a0 = 45 → (a0 = 46 → (a1 = 0 → (a2 = 0 → Q (0 : Int32)) ∧ (¬ a2 = 0 → Q (1 : Int32))) ∧ (¬ a1 = 0 → Q (1 : Int32))) ∧ (¬ a0 = 46 → (a0 = 47 → (a2 = 0 → Q (0 : Int32)) ∧ (¬ a2 = 0 → (a2 = (-1 : Int32) → Q (-a1)) ∧ (¬ a2 = (-1 : Int32) → (¬ a2 = 0) ∧ (Q (a1 / a2))))) ∧ (¬ a0 = 47 → (a0 = 48 → (a1 = 0 → (a2 = 0 → Q (0 : Int32)) ∧ (¬ a2 = 0 → Q (1 : Int32))) ∧ (¬ a1 = 0 → Q (1 : Int32))) ∧ (¬ a0 = 48 → (a0 = 49 → (a1 = 0 → (a2 = 0 → Q (0 : Int32)) ∧ (¬ a2 = 0 → Q (1 : Int32))) ∧ (¬ a1 = 0 → Q (1 : Int32))) ∧ (¬ a0 = 49 → (a0 = 50 → (a1 = 0 → (a2 = 0 → Q (0 : Int32)) ∧ (¬ a2 = 0 → Q (1 : Int32))) ∧ (¬ a1 = 0 → Q (1 : Int32))) ∧ (¬ a0 = 50 → (a0 = 51 → (a1 = 0 → (a2 = 0 → Q (0 : Int32)) ∧ (¬ a2 = 0 → Q (1 : Int32))) ∧ (¬ a1 = 0 → Q (1 : Int32))) ∧ (¬ a0 = 51 → (a0 = 52 → (a1 = 0 → (a2 = 0 → Q (0 : Int32)) ∧ (¬ a2 = 0 → Q (1 : Int32))) ∧ (¬ a1 = 0 → Q (1 : Int32))) ∧ (¬ a0 = 52 → (a0 = 53 → (a1 = 0 → (a2 = 0 → Q (0 : Int32)) ∧ (¬ a2 = 0 → Q (1 : Int32))) ∧ (¬ a1 = 0 → Q (1 : Int32))) ∧ (¬ a0 = 53 → (a0 = 54 → (a1 = 0 → (a2 = 0 → Q (0 : Int32)) ∧ (¬ a2 = 0 → Q (1 : Int32))) ∧ (¬ a1 = 0 → Q (1 : Int32))) ∧ (¬ a0 = 54 → (a0 = 55 → (a1 = 0 → (a2 = 0 → Q (0 : Int32)) ∧ (¬ a2 = 0 → Q (1 : Int32))) ∧ (¬ a1 = 0 → Q (1 : Int32))) ∧ (¬ a0 = 55 → (a0 = 56 → (a1 = 0 → (a2 = 0 → Q (0 : Int32)) ∧ (¬ a2 = 0 → Q (1 : Int32))) ∧ (¬ a1 = 0 → Q (1 : Int32))) ∧ (¬ a0 = 56 → (a0 = 57 → (a1 = 0 → (a2 = 0 → Q (0 : Int32)) ∧ (¬ a2 = 0 → Q (1 : Int32))) ∧ (¬ a1 = 0 → Q (1 : Int32))) ∧ (¬ a0 = 57 → (a0 = 58 → (a1 = 0 → (a2 = 0 → Q (0 : Int32)) ∧ (¬ a2 = 0 → Q (1 : Int32))) ∧ (¬ a1 = 0 → Q (1 : Int32))) ∧ (¬ a0 = 58 → (a0 = 59 → (a1 = 0 → (a2 = 0 → Q (0 : Int32)) ∧ (¬ a2 = 0 → Q (1 : Int32))) ∧ (¬ a1 = 0 → Q (1 : Int32))) ∧ (¬ a0 = 59 → (a0 = 60 → (a2 ≤ a1 → Q (0 : Int32)) ∧ (¬ a2 ≤ a1 → Q (1 : Int32))) ∧ (¬ a0 = 60 → (a0 = 61 → (a1 = a2 → Q (1 : Int32)) ∧ (¬ a1 = a2 → Q (0 : Int32))) ∧ (¬ a0 = 61 → (a0 = 62 → (a1 ≤ a2 → Q (0 : Int32)) ∧ (¬ a1 ≤ a2 → Q (1 : Int32))) ∧ (¬ a0 = 62 → (a1 = 0 → (a2 = 0 → Q (0 : Int32)) ∧ (¬ a2 = 0 → Q (1 : Int32))) ∧ (¬ a1 = 0 → Q (1 : Int32)))))))))))))))))))))))))))
def wX6_worked_157 (k_4 : Int32 → Int32 → Int32 → TS → Prop) (l1 : Int32) (l2 : Int32) (l3 : Int32) (T : TS) (Q : Int32 → TS → Prop) : Prop :=
  k_4 l1 l2 (l3 + (1 : Int32)) T
def wX6_worked_123 (k_4 : Int32 → Int32 → Int32 → TS → Prop) (l1 : Int32) (l2 : Int32) (l3 : Int32) (k0 : Int32) (k1 : Int32) (T : TS) (Q : Int32 → TS → Prop) : Prop :=
  vp_in k1 100 ∧ (wX6_worked_157 k_4 l1 l2 l3 (ts T 26 k1.toNatClampNeg k0) Q)
def wX6_worked_86 (k_4 : Int32 → Int32 → Int32 → TS → Prop) (l1 : Int32) (l2 : Int32) (l3 : Int32) (k0 : Int32) (k1 : Int32) (T : TS) (Q : Int32 → TS → Prop) : Prop :=
  vp_in k1 100 ∧ (wX6_worked_157 k_4 l1 (l2 + (1 : Int32)) l3 (ts T 26 k1.toNatClampNeg k0) Q)
def wX6_worked_4 (Q : Int32 → TS → Prop) : Nat → Int32 → Int32 → Int32 → TS → Prop
  | 0, _, _, _, _ => False
  | n + 1, l1, l2, l3, T =>
  wX6_textAt l1 T (fun r1 T2 => vp_in (r1 + (2 : Int32)) 3114 ∧ (((T2.2 0 (r1 + (2 : Int32)).toNatClampNeg) ≤ l3 → vp_in (0 : Int32) 100 ∧ (Q (T2.2 26 (0 : Int32).toNatClampNeg) T2)) ∧ (¬ (T2.2 0 (r1 + (2 : Int32)).toNatClampNeg) ≤ l3 → wX6_textAt l1 T2 (fun r3 T4 => vp_in ((r3 + (4 : Int32)) + ((2 : Int32) * l3)) 3114 ∧ (wX6_textAt l1 T4 (fun r5 T6 => vp_in (((r5 + (4 : Int32)) + ((2 : Int32) * l3)) + (1 : Int32)) 3114 ∧ (∀ x7, x7 = T6.2 0 (((r5 + (4 : Int32)) + ((2 : Int32) * l3)) + (1 : Int32)).toNatClampNeg → (((T4.2 0 ((r3 + (4 : Int32)) + ((2 : Int32) * l3)).toNatClampNeg) = (2 : Int32) → (x7 = (33 : Int32) → vp_in (l2 - (1 : Int32)) 100 ∧ (((T6.2 26 (l2 - (1 : Int32)).toNatClampNeg) = 0 → wX6_worked_123 (fun z0 z1 z2 z3 => wX6_worked_4 Q n z0 z1 z2 z3) l1 l2 l3 (1 : Int32) (l2 - (1 : Int32)) T6 Q) ∧ (¬ (T6.2 26 (l2 - (1 : Int32)).toNatClampNeg) = 0 → wX6_worked_123 (fun z0 z1 z2 z3 => wX6_worked_4 Q n z0 z1 z2 z3) l1 l2 l3 (0 : Int32) (l2 - (1 : Int32)) T6 Q))) ∧ (¬ x7 = (33 : Int32) → vp_in ((l2 + (-1 : Int32)) - (1 : Int32)) 100 ∧ (vp_in (l2 + (-1 : Int32)) 100 ∧ (wX6_joined x7 (T6.2 26 ((l2 + (-1 : Int32)) - (1 : Int32)).toNatClampNeg) (T6.2 26 (l2 + (-1 : Int32)).toNatClampNeg) (fun r9 => vp_in ((l2 + (-1 : Int32)) - (1 : Int32)) 100 ∧ (wX6_worked_157 (fun z0 z1 z2 z3 => wX6_worked_4 Q n z0 z1 z2 z3) l1 (l2 + (-1 : Int32)) l3 (ts T6 26 ((l2 + (-1 : Int32)) - (1 : Int32)).toNatClampNeg r9) Q)))))) ∧ (¬ (T4.2 0 ((r3 + (4 : Int32)) + ((2 : Int32) * l3)).toNatClampNeg) = (2 : Int32) → ((T4.2 0 ((r3 + (4 : Int32)) + ((2 : Int32) * l3)).toNatClampNeg) = 0 → wX6_worked_86 (fun z0 z1 z2 z3 => wX6_worked_4 Q n z0 z1 z2 z3) l1 l2 l3 x7 l2 T6 Q) ∧ (¬ (T4.2 0 ((r3 + (4 : Int32)) + ((2 : Int32) * l3)).toNatClampNeg) = 0 → vp_in x7 128 ∧ (wX6_worked_86 (fun z0 z1 z2 z3 => wX6_worked_4 Q n z0 z1 z2 z3) l1 l2 l3 (T6.2 25 x7.toNatClampNeg) l2 T6 Q)))))))))))
def wX6_worked (a1 : Int32) (T : TS) (Q : Int32 → TS → Prop) : Prop :=
  ∃ f_4, wX6_worked_4 Q f_4 a1 (0 : Int32) (0 : Int32) T
def wX6_within (a0 : Int32) (a1 : Int32) (Q : Int32 → Prop) : Prop :=
  (0 ≤ a0 → (a0 ≤ a1 → Q a0) ∧ (¬ a0 ≤ a1 → Q a1)) ∧ (¬ 0 ≤ a0 → Q (0 : Int32))
def wX6_boldness (a1 : Int32) (a2 : Int32) (T : TS) (Q : Int32 → TS → Prop) : Prop :=
  wX6_counts (2 : Int32) T (fun r1 T2 => (0 ≤ r1 → wX6_of a1 (1 : Int32) T2 (fun r3 T4 => vp_in (98 : Int32) 128 ∧ (vp_in (115 : Int32) 128 ∧ (wX6_left a2 (ts (ts T4 25 (98 : Int32).toNatClampNeg r3) 25 (115 : Int32).toNatClampNeg a1) (fun r5 T6 => wX6_ones r5 (fun r7 => vp_in (110 : Int32) 128 ∧ (wX6_worked r1 (ts T6 25 (110 : Int32).toNatClampNeg r7) (fun r8 T9 => wX6_within r8 (100 : Int32) (fun r10 => Q r10 T9))))))))) ∧ (¬ 0 ≤ r1 → wX6_of a1 (1 : Int32) T2 (fun r11 T12 => Q r11 T12)))
def wX6_step (a1 : Int32) (a2 : Int32) (T : TS) (Q : TS → Prop) : Prop :=
  vp_in ((T.1 23) + ((2 : Int32) * (T.1 22))) 3114 ∧ (vp_in ((((ts T 0 ((T.1 23) + ((2 : Int32) * (T.1 22))).toNatClampNeg a1).1 23) + ((2 : Int32) * ((ts T 0 ((T.1 23) + ((2 : Int32) * (T.1 22))).toNatClampNeg a1).1 22))) + (1 : Int32)) 3114 ∧ (Q (tf (ts (ts T 0 ((T.1 23) + ((2 : Int32) * (T.1 22))).toNatClampNeg a1) 0 ((((ts T 0 ((T.1 23) + ((2 : Int32) * (T.1 22))).toNatClampNeg a1).1 23) + ((2 : Int32) * ((ts T 0 ((T.1 23) + ((2 : Int32) * (T.1 22))).toNatClampNeg a1).1 22))) + (1 : Int32)).toNatClampNeg a2) 22 (((ts (ts T 0 ((T.1 23) + ((2 : Int32) * (T.1 22))).toNatClampNeg a1) 0 ((((ts T 0 ((T.1 23) + ((2 : Int32) * (T.1 22))).toNatClampNeg a1).1 23) + ((2 : Int32) * ((ts T 0 ((T.1 23) + ((2 : Int32) * (T.1 22))).toNatClampNeg a1).1 22))) + (1 : Int32)).toNatClampNeg a2).1 22) + (1 : Int32)))))
def wX6_isLetter (a1 : Int32) (T : TS) (Q : Int32 → TS → Prop) : Prop :=
  ((T.1 14) ≤ a1 → Q (0 : Int32) T) ∧ (¬ (T.1 14) ≤ a1 → vp_in a1 96 ∧ (wX6_isIn ((T.2 13 a1.toNatClampNeg).toInt64) (97 : Int64) (122 : Int64) (fun r1 => (r1 = 0 → Q (0 : Int32) T) ∧ (¬ r1 = 0 → Q (1 : Int32) T))))
def wX6_isDigit (a1 : Int32) (T : TS) (Q : Int32 → TS → Prop) : Prop :=
  ((T.1 14) ≤ a1 → Q (0 : Int32) T) ∧ (¬ (T.1 14) ≤ a1 → vp_in a1 96 ∧ (wX6_isIn ((T.2 13 a1.toNatClampNeg).toInt64) (48 : Int64) (57 : Int64) (fun r1 => (r1 = 0 → Q (0 : Int32) T) ∧ (¬ r1 = 0 → Q (1 : Int32) T))))
def wX6_nextToken_305 (k0 : Int32) (T : TS) (Q : TS → Prop) : Prop :=
  Q (tf T 17 k0)
def wX6_nextToken_300 (T : TS) (Q : TS → Prop) : Prop :=
  wX6_nextToken_305 (4 : Int32) T Q
def wX6_nextToken_266 (k_214 : Int32 → TS → Prop) (l1 : Int32) (k0 : Int32) (T : TS) (Q : TS → Prop) : Prop :=
  k_214 l1 (tf (tf T 18 k0) 16 (((tf T 18 k0).1 16) + (1 : Int32)))
def wX6_nextToken_214 (Q : TS → Prop) : Nat → Int32 → TS → Prop
  | 0, _, _ => False
  | n + 1, l1, T =>
  wX6_isDigit (T.1 16) T (fun r1 T2 => (r1 = 0 → (l1 = 0 → (((T2.1 16) - (T2.1 15)) ≤ (4 : Int32) → wX6_nextToken_305 (2 : Int32) T2 Q) ∧ (¬ ((T2.1 16) - (T2.1 15)) ≤ (4 : Int32) → wX6_nextToken_300 T2 Q)) ∧ (¬ l1 = 0 → wX6_nextToken_300 T2 Q)) ∧ (¬ r1 = 0 → ((4 : Int32) ≤ ((T2.1 16) - (T2.1 15)) → wX6_nextToken_266 (fun z0 z1 => wX6_nextToken_214 Q n z0 z1) l1 (T2.1 18) T2 Q) ∧ (¬ (4 : Int32) ≤ ((T2.1 16) - (T2.1 15)) → vp_in (T2.1 16) 96 ∧ (wX6_nextToken_266 (fun z0 z1 => wX6_nextToken_214 Q n z0 z1) l1 ((((10 : Int32) * (T2.1 18)) + (T2.2 13 (T2.1 16).toNatClampNeg)) - (48 : Int32)) T2 Q))))
def wX6_nextToken_192 (k0 : Int32) (T : TS) (Q : TS → Prop) : Prop :=
  Q (tf T 19 k0)
def wX6_nextToken_162 (k0 : Int32) (T : TS) (Q : TS → Prop) : Prop :=
  ((((tf T 17 k0).1 16) - ((tf T 17 k0).1 15)) = (1 : Int32) → vp_in ((tf T 17 k0).1 15) 96 ∧ (wX6_nextToken_192 ((tf T 17 k0).2 13 ((tf T 17 k0).1 15).toNatClampNeg) (tf T 17 k0) Q)) ∧ (¬ (((tf T 17 k0).1 16) - ((tf T 17 k0).1 15)) = (1 : Int32) → wX6_nextToken_192 (0 : Int32) (tf T 17 k0) Q)
def wX6_nextToken_128 (Q : TS → Prop) : Nat → Int32 → TS → Prop
  | 0, _, _ => False
  | n + 1, l1, T =>
  wX6_isLetter (T.1 16) T (fun r1 T2 => (r1 = 0 → (l1 = 0 → wX6_nextToken_162 (1 : Int32) T2 Q) ∧ (¬ l1 = 0 → wX6_nextToken_162 (4 : Int32) T2 Q)) ∧ (¬ r1 = 0 → wX6_nextToken_128 Q n l1 (tf T2 16 ((T2.1 16) + (1 : Int32)))))
def wX6_nextToken_89 (k0 : Int32) (T : TS) (Q : TS → Prop) : Prop :=
  (((tf T 15 (T.1 16)).1 15) = ((tf T 15 (T.1 16)).1 14) → Q (tf (tf T 15 (T.1 16)) 17 (0 : Int32))) ∧ (¬ ((tf T 15 (T.1 16)).1 15) = ((tf T 15 (T.1 16)).1 14) → wX6_isLetter ((tf T 15 (T.1 16)).1 15) (tf T 15 (T.1 16)) (fun r1 T2 => (r1 = 0 → wX6_isDigit (T2.1 15) T2 (fun r3 T4 => (r3 = 0 → vp_in ((tf T4 17 (3 : Int32)).1 15) 96 ∧ (Q (tf (tf (tf T4 17 (3 : Int32)) 19 ((tf T4 17 (3 : Int32)).2 13 ((tf T4 17 (3 : Int32)).1 15).toNatClampNeg)) 16 (((tf (tf T4 17 (3 : Int32)) 19 ((tf T4 17 (3 : Int32)).2 13 ((tf T4 17 (3 : Int32)).1 15).toNatClampNeg)).1 16) + (1 : Int32))))) ∧ (¬ r3 = 0 → ∃ f_214, wX6_nextToken_214 Q f_214 k0 (tf T4 18 (0 : Int32))))) ∧ (¬ r1 = 0 → ∃ f_128, wX6_nextToken_128 Q f_128 k0 T2)))
def wX6_nextToken_88 (T : TS) (Q : TS → Prop) : Prop :=
  wX6_nextToken_89 (0 : Int32) T Q
def wX6_nextToken_72 (l1 : Int32) (l2 : Int32) (T : TS) (Q : TS → Prop) : Prop :=
  (l1 = 0 → wX6_nextToken_88 T Q) ∧ (¬ l1 = 0 → (l2 = (T.1 16) → wX6_nextToken_89 (1 : Int32) T Q) ∧ (¬ l2 = (T.1 16) → wX6_nextToken_88 T Q))
def wX6_nextToken_34 (Q : TS → Prop) : Nat → Int32 → Int32 → TS → Prop
  | 0, _, _, _ => False
  | n + 1, l1, l2, T =>
  ((T.1 14) ≤ (T.1 16) → wX6_nextToken_72 l1 l2 T Q) ∧ (¬ (T.1 14) ≤ (T.1 16) → vp_in (T.1 16) 96 ∧ (((T.2 13 (T.1 16).toNatClampNeg) = (32 : Int32) → wX6_nextToken_34 Q n l1 l2 (tf T 16 ((T.1 16) + (1 : Int32)))) ∧ (¬ (T.2 13 (T.1 16).toNatClampNeg) = (32 : Int32) → wX6_nextToken_72 l1 l2 T Q)))
def wX6_nextToken_28 (k0 : Int32) (T : TS) (Q : TS → Prop) : Prop :=
  ∃ f_34, wX6_nextToken_34 Q f_34 k0 (T.1 16) T
def wX6_nextToken_27 (T : TS) (Q : TS → Prop) : Prop :=
  wX6_nextToken_28 (0 : Int32) T Q
def wX6_nextToken_23 (T : TS) (Q : TS → Prop) : Prop :=
  wX6_nextToken_28 (1 : Int32) T Q
def wX6_nextToken (T : TS) (Q : TS → Prop) : Prop :=
  ((T.1 16) ≤ 0 → wX6_nextToken_27 T Q) ∧ (¬ (T.1 16) ≤ 0 → ((T.1 17) = (1 : Int32) → wX6_nextToken_23 T Q) ∧ (¬ (T.1 17) = (1 : Int32) → ((T.1 17) = (2 : Int32) → wX6_nextToken_23 T Q) ∧ (¬ (T.1 17) = (2 : Int32) → wX6_nextToken_27 T Q)))
def wX6_isName (a0 : Int32) (a1 : Int32) (Q : Int32 → Prop) : Prop :=
  (a0 = 0 → (a1 = (115 : Int32) → Q (1 : Int32)) ∧ (¬ a1 = (115 : Int32) → (a1 = (112 : Int32) → Q (1 : Int32)) ∧ (¬ a1 = (112 : Int32) → (a1 = (119 : Int32) → Q (1 : Int32)) ∧ (¬ a1 = (119 : Int32) → Q (0 : Int32))))) ∧ (¬ a0 = 0 → (a0 = 1 → (a1 = (108 : Int32) → Q (1 : Int32)) ∧ (¬ a1 = (108 : Int32) → (a1 = (119 : Int32) → Q (1 : Int32)) ∧ (¬ a1 = (119 : Int32) → (a1 = (110 : Int32) → Q (1 : Int32)) ∧ (¬ a1 = (110 : Int32) → Q (0 : Int32))))) ∧ (¬ a0 = 1 → (a1 = (98 : Int32) → Q (1 : Int32)) ∧ (¬ a1 = (98 : Int32) → (a1 = (115 : Int32) → Q (1 : Int32)) ∧ (¬ a1 = (115 : Int32) → (a1 = (110 : Int32) → Q (1 : Int32)) ∧ (¬ a1 = (110 : Int32) → Q (0 : Int32))))))
def wX6_isSign (a1 : Int32) (T : TS) (Q : Int32 → TS → Prop) : Prop :=
  ((T.1 17) = (3 : Int32) → ((T.1 19) = a1 → Q (1 : Int32) T) ∧ (¬ (T.1 19) = a1 → Q (0 : Int32) T)) ∧ (¬ (T.1 17) = (3 : Int32) → Q (0 : Int32) T)
def wX6_drawn (T : TS) (Q : Int32 → TS → Prop) : Prop :=
  vp_in (4 : Int32) 3114 ∧ (vp_in (4 : Int32) 3114 ∧ (vp_in (4 : Int32) 3114 ∧ (Q ((((ts T 0 (4 : Int32).toNatClampNeg (((T.2 0 (4 : Int32).toNatClampNeg) * (1103515245 : Int32)) + (12345 : Int32))).2 0 (4 : Int32).toNatClampNeg).toUInt32 >>> ((8 : Int32).toUInt32 &&& Int32.toUInt32 31)).toInt32) (ts T 0 (4 : Int32).toNatClampNeg (((T.2 0 (4 : Int32).toNatClampNeg) * (1103515245 : Int32)) + (12345 : Int32))))))
def wX6_followers_52 (k_9 : Int32 → Int32 → TS → Prop) (k_19 : Int32 → Int32 → Int32 → TS → Prop) (l3 : Int32) (l4 : Int32) (k0 : Int32) (k1 : Int32) (T : TS) (Q : Int32 → TS → Prop) : Prop :=
  k_19 (k1 ||| k0) l3 (l4 + (1 : Int32)) T
def wX6_followers_19 (k_9 : Int32 → Int32 → TS → Prop) (Q : Int32 → TS → Prop) : Nat → Int32 → Int32 → Int32 → TS → Prop
  | 0, _, _, _, _ => False
  | n + 1, l2, l3, l4, T =>
  vp_in (0 : Int32) 3114 ∧ (((T.2 0 (0 : Int32).toNatClampNeg) ≤ l4 → k_9 l2 l3 T) ∧ (¬ (T.2 0 (0 : Int32).toNatClampNeg) ≤ l4 → (((l3 >>> (l4 &&& 31)) &&& (1 : Int32)) = (1 : Int32) → wX6_of l4 (4 : Int32) T (fun r1 T2 => wX6_followers_52 k_9 (fun z0 z1 z2 z3 => wX6_followers_19 k_9 Q n z0 z1 z2 z3) l3 l4 r1 l2 T2 Q)) ∧ (¬ ((l3 >>> (l4 &&& 31)) &&& (1 : Int32)) = (1 : Int32) → wX6_followers_52 k_9 (fun z0 z1 z2 z3 => wX6_followers_19 k_9 Q n z0 z1 z2 z3) l3 l4 (0 : Int32) l2 T Q)))
def wX6_followers_9 (Q : Int32 → TS → Prop) : Nat → Int32 → Int32 → TS → Prop
  | 0, _, _, _ => False
  | n + 1, l2, l3, T =>
  (l2 = l3 → Q l2 T) ∧ (¬ l2 = l3 → ∃ f_19, wX6_followers_19 (fun z0 z1 z2 => wX6_followers_9 Q n z0 z1 z2) Q f_19 l2 l2 (0 : Int32) T)
def wX6_followers (a1 : Int32) (T : TS) (Q : Int32 → TS → Prop) : Prop :=
  wX6_of a1 (4 : Int32) T (fun r1 T2 => ∃ f_9, wX6_followers_9 Q f_9 r1 (-1 : Int32) T2)
def wX6_goBy (a1 : Int32) (T : TS) (Q : Int32 → TS → Prop) : Prop :=
  wX6_followers a1 T (fun r1 T2 => Q (r1 ||| ((1 : Int32) <<< (a1 &&& 31))) T2)
def wX6_mayBe (a1 : Int32) (a2 : Int32) (a3 : Int32) (T : TS) (Q : Int32 → TS → Prop) : Prop :=
  wX6_left a2 T (fun r1 T2 => (((r1 >>> (a3 &&& 31)) &&& (1 : Int32)) = 0 → Q (0 : Int32) T2) ∧ (¬ ((r1 >>> (a3 &&& 31)) &&& (1 : Int32)) = 0 → wX6_left a2 T2 (fun r3 T4 => wX6_goBy a3 T4 (fun r5 T6 => wX6_ones (r3 &&& (r5 ^^^ (-1 : Int32))) (fun r7 => vp_in (3 : Int32) 3114 ∧ (((T6.2 0 (3 : Int32).toNatClampNeg) ≤ r7 → wX6_counts (0 : Int32) T6 (fun r8 T9 => (0 ≤ r8 → vp_in (115 : Int32) 128 ∧ (vp_in (112 : Int32) 128 ∧ (wX6_dee a2 (2 : Int32) (ts (ts T9 25 (115 : Int32).toNatClampNeg a1) 25 (112 : Int32).toNatClampNeg a3) (fun r10 T11 => vp_in (119 : Int32) 128 ∧ (wX6_worked r8 (ts T11 25 (119 : Int32).toNatClampNeg r10) (fun r12 T13 => (r12 = 0 → Q (0 : Int32) T13) ∧ (¬ r12 = 0 → Q (1 : Int32) T13))))))) ∧ (¬ 0 ≤ r8 → Q (1 : Int32) T9))) ∧ (¬ (T6.2 0 (3 : Int32).toNatClampNeg) ≤ r7 → Q (0 : Int32) T6)))))))
def wX6_least_22 (l1 : Int32) (Q : Int32 → Prop) : Prop :=
  ((12 : Int32) ≤ l1 → Q (-1 : Int32)) ∧ (¬ (12 : Int32) ≤ l1 → Q l1)
def wX6_least_2 (Q : Int32 → Prop) : Nat → Int32 → Int32 → Prop
  | 0, _, _ => False
  | n + 1, l0, l1 =>
  ((12 : Int32) ≤ l1 → wX6_least_22 l1 Q) ∧ (¬ (12 : Int32) ≤ l1 → (((l0 >>> (l1 &&& 31)) &&& (1 : Int32)) = 0 → wX6_least_2 Q n l0 (l1 + (1 : Int32))) ∧ (¬ ((l0 >>> (l1 &&& 31)) &&& (1 : Int32)) = 0 → wX6_least_22 l1 Q))
def wX6_least (a0 : Int32) (Q : Int32 → Prop) : Prop :=
  ∃ f_2, wX6_least_2 Q f_2 a0 (0 : Int32)
def wX6_greatest_3 (Q : Int32 → Prop) : Nat → Int32 → Int32 → Prop
  | 0, _, _ => False
  | n + 1, l0, l1 =>
  (l1 < 0 → Q l1) ∧ (¬ l1 < 0 → (((l0 >>> (l1 &&& 31)) &&& (1 : Int32)) = 0 → wX6_greatest_3 Q n l0 (l1 + (-1 : Int32))) ∧ (¬ ((l0 >>> (l1 &&& 31)) &&& (1 : Int32)) = 0 → Q l1))
def wX6_greatest (a0 : Int32) (Q : Int32 → Prop) : Prop :=
  ∃ f_3, wX6_greatest_3 Q f_3 a0 (11 : Int32)
def wX6_choiceOf_196 (k0 : Int32) (T : TS) (Q : Int32 → TS → Prop) : Prop :=
  wX6_least k0 (fun r1 => Q r1 T)
def wX6_choiceOf_93 (l1 : Int32) (l2 : Int32) (l3 : Int32) (l4 : Int32) (k0 : Int32) (T : TS) (Q : Int32 → TS → Prop) : Prop :=
  wX6_least k0 (fun r1 => wX6_of l1 (0 : Int32) T (fun r2 T3 => (r2 = 1 → wX6_least (l3 &&& (l4 ^^^ (-1 : Int32))) (fun r4 => Q r4 T3)) ∧ (¬ r2 = 1 → (r2 = 2 → Q r1 T3) ∧ (¬ r2 = 2 → (r2 = 3 → wX6_greatest (l3 &&& (l4 ^^^ (-1 : Int32))) (fun r5 => Q r5 T3)) ∧ (¬ r2 = 3 → (r2 = 4 → wX6_dee l2 (2 : Int32) T3 (fun r6 T7 => wX6_of l1 (1 : Int32) T7 (fun r8 T9 => (r6 ≤ r8 → Q r1 T9) ∧ (¬ r6 ≤ r8 → Q (-1 : Int32) T9)))) ∧ (¬ r2 = 4 → (r2 = 5 → (l4 = 0 → wX6_choiceOf_196 l3 T3 Q) ∧ (¬ l4 = 0 → wX6_choiceOf_196 l4 T3 Q)) ∧ (¬ r2 = 5 → wX6_least l3 (fun r10 => Q r10 T3))))))))
def wX6_choiceOf_66 (k_8 : Int32 → Int32 → Int32 → Int32 → Int32 → TS → Prop) (l1 : Int32) (l2 : Int32) (l3 : Int32) (l4 : Int32) (l5 : Int32) (T : TS) (Q : Int32 → TS → Prop) : Prop :=
  k_8 l1 l2 l3 l4 (l5 + (1 : Int32)) T
def wX6_choiceOf_63 (k_8 : Int32 → Int32 → Int32 → Int32 → Int32 → TS → Prop) (l1 : Int32) (l2 : Int32) (l3 : Int32) (l5 : Int32) (k0 : Int32) (k1 : Int32) (T : TS) (Q : Int32 → TS → Prop) : Prop :=
  wX6_choiceOf_66 k_8 l1 l2 l3 (k1 ||| k0) l5 T Q
def wX6_choiceOf_8 (Q : Int32 → TS → Prop) : Nat → Int32 → Int32 → Int32 → Int32 → Int32 → TS → Prop
  | 0, _, _, _, _, _, _ => False
  | n + 1, l1, l2, l3, l4, l5, T =>
  vp_in (0 : Int32) 3114 ∧ (((T.2 0 (0 : Int32).toNatClampNeg) ≤ l5 → wX6_of l1 (3 : Int32) T (fun r1 T2 => ((l3 &&& r1) = 0 → wX6_choiceOf_93 l1 l2 l3 l4 l3 T2 Q) ∧ (¬ (l3 &&& r1) = 0 → wX6_choiceOf_93 l1 l2 l3 l4 (l3 &&& r1) T2 Q))) ∧ (¬ (T.2 0 (0 : Int32).toNatClampNeg) ≤ l5 → wX6_mayBe l1 l2 l5 T (fun r3 T4 => (r3 = 0 → wX6_choiceOf_66 (fun z0 z1 z2 z3 z4 z5 => wX6_choiceOf_8 Q n z0 z1 z2 z3 z4 z5) l1 l2 l3 l4 l5 T4 Q) ∧ (¬ r3 = 0 → wX6_goBy l5 T4 (fun r5 T6 => wX6_dee l2 (0 : Int32) T6 (fun r7 T8 => ((r5 &&& r7) = 0 → wX6_choiceOf_63 (fun z0 z1 z2 z3 z4 z5 => wX6_choiceOf_8 Q n z0 z1 z2 z3 z4 z5) l1 l2 (l3 ||| ((1 : Int32) <<< (l5 &&& 31))) l5 (0 : Int32) l4 T8 Q) ∧ (¬ (r5 &&& r7) = 0 → wX6_choiceOf_63 (fun z0 z1 z2 z3 z4 z5 => wX6_choiceOf_8 Q n z0 z1 z2 z3 z4 z5) l1 l2 (l3 ||| ((1 : Int32) <<< (l5 &&& 31))) l5 ((1 : Int32) <<< (l5 &&& 31)) l4 T8 Q)))))))
def wX6_choiceOf (a1 : Int32) (a2 : Int32) (T : TS) (Q : Int32 → TS → Prop) : Prop :=
  ∃ f_8, wX6_choiceOf_8 Q f_8 a1 a2 (0 : Int32) (0 : Int32) (0 : Int32) T
def wX6_says_68 (k0 : Int32) (k1 : Int32) (k2 : Int32) (T : TS) (Q : TS → Prop) : Prop :=
  vp_in k2 3114 ∧ (Q (ts T 0 k2.toNatClampNeg (k1 + k0)))
def wX6_says (a1 : Int32) (a2 : Int32) (T : TS) (Q : TS → Prop) : Prop :=
  wX6_goBy a2 T (fun r1 T2 => vp_in (((66 : Int32) + ((6 : Int32) * a1)) + (3 : Int32)) 3114 ∧ (vp_in (((66 : Int32) + ((6 : Int32) * a1)) + (3 : Int32)) 3114 ∧ (vp_in (((66 : Int32) + ((6 : Int32) * a1)) + (4 : Int32)) 3114 ∧ (vp_in (((66 : Int32) + ((6 : Int32) * a1)) + (4 : Int32)) 3114 ∧ (vp_in (((66 : Int32) + ((6 : Int32) * a1)) + (5 : Int32)) 3114 ∧ (vp_in (((66 : Int32) + ((6 : Int32) * a1)) + (0 : Int32)) 3114 ∧ (((r1 &&& ((ts (ts T2 0 (((66 : Int32) + ((6 : Int32) * a1)) + (3 : Int32)).toNatClampNeg ((T2.2 0 (((66 : Int32) + ((6 : Int32) * a1)) + (3 : Int32)).toNatClampNeg) ||| r1)) 0 (((66 : Int32) + ((6 : Int32) * a1)) + (4 : Int32)).toNatClampNeg (((ts T2 0 (((66 : Int32) + ((6 : Int32) * a1)) + (3 : Int32)).toNatClampNeg ((T2.2 0 (((66 : Int32) + ((6 : Int32) * a1)) + (3 : Int32)).toNatClampNeg) ||| r1)).2 0 (((66 : Int32) + ((6 : Int32) * a1)) + (4 : Int32)).toNatClampNeg) + (1 : Int32))).2 0 (((66 : Int32) + ((6 : Int32) * a1)) + (0 : Int32)).toNatClampNeg)) = 0 → wX6_says_68 (0 : Int32) ((ts (ts T2 0 (((66 : Int32) + ((6 : Int32) * a1)) + (3 : Int32)).toNatClampNeg ((T2.2 0 (((66 : Int32) + ((6 : Int32) * a1)) + (3 : Int32)).toNatClampNeg) ||| r1)) 0 (((66 : Int32) + ((6 : Int32) * a1)) + (4 : Int32)).toNatClampNeg (((ts T2 0 (((66 : Int32) + ((6 : Int32) * a1)) + (3 : Int32)).toNatClampNeg ((T2.2 0 (((66 : Int32) + ((6 : Int32) * a1)) + (3 : Int32)).toNatClampNeg) ||| r1)).2 0 (((66 : Int32) + ((6 : Int32) * a1)) + (4 : Int32)).toNatClampNeg) + (1 : Int32))).2 0 (((66 : Int32) + ((6 : Int32) * a1)) + (5 : Int32)).toNatClampNeg) (((66 : Int32) + ((6 : Int32) * a1)) + (5 : Int32)) (ts (ts T2 0 (((66 : Int32) + ((6 : Int32) * a1)) + (3 : Int32)).toNatClampNeg ((T2.2 0 (((66 : Int32) + ((6 : Int32) * a1)) + (3 : Int32)).toNatClampNeg) ||| r1)) 0 (((66 : Int32) + ((6 : Int32) * a1)) + (4 : Int32)).toNatClampNeg (((ts T2 0 (((66 : Int32) + ((6 : Int32) * a1)) + (3 : Int32)).toNatClampNeg ((T2.2 0 (((66 : Int32) + ((6 : Int32) * a1)) + (3 : Int32)).toNatClampNeg) ||| r1)).2 0 (((66 : Int32) + ((6 : Int32) * a1)) + (4 : Int32)).toNatClampNeg) + (1 : Int32))) Q) ∧ (¬ (r1 &&& ((ts (ts T2 0 (((66 : Int32) + ((6 : Int32) * a1)) + (3 : Int32)).toNatClampNeg ((T2.2 0 (((66 : Int32) + ((6 : Int32) * a1)) + (3 : Int32)).toNatClampNeg) ||| r1)) 0 (((66 : Int32) + ((6 : Int32) * a1)) + (4 : Int32)).toNatClampNeg (((ts T2 0 (((66 : Int32) + ((6 : Int32) * a1)) + (3 : Int32)).toNatClampNeg ((T2.2 0 (((66 : Int32) + ((6 : Int32) * a1)) + (3 : Int32)).toNatClampNeg) ||| r1)).2 0 (((66 : Int32) + ((6 : Int32) * a1)) + (4 : Int32)).toNatClampNeg) + (1 : Int32))).2 0 (((66 : Int32) + ((6 : Int32) * a1)) + (0 : Int32)).toNatClampNeg)) = 0 → wX6_says_68 (1 : Int32) ((ts (ts T2 0 (((66 : Int32) + ((6 : Int32) * a1)) + (3 : Int32)).toNatClampNeg ((T2.2 0 (((66 : Int32) + ((6 : Int32) * a1)) + (3 : Int32)).toNatClampNeg) ||| r1)) 0 (((66 : Int32) + ((6 : Int32) * a1)) + (4 : Int32)).toNatClampNeg (((ts T2 0 (((66 : Int32) + ((6 : Int32) * a1)) + (3 : Int32)).toNatClampNeg ((T2.2 0 (((66 : Int32) + ((6 : Int32) * a1)) + (3 : Int32)).toNatClampNeg) ||| r1)).2 0 (((66 : Int32) + ((6 : Int32) * a1)) + (4 : Int32)).toNatClampNeg) + (1 : Int32))).2 0 (((66 : Int32) + ((6 : Int32) * a1)) + (5 : Int32)).toNatClampNeg) (((66 : Int32) + ((6 : Int32) * a1)) + (5 : Int32)) (ts (ts T2 0 (((66 : Int32) + ((6 : Int32) * a1)) + (3 : Int32)).toNatClampNeg ((T2.2 0 (((66 : Int32) + ((6 : Int32) * a1)) + (3 : Int32)).toNatClampNeg) ||| r1)) 0 (((66 : Int32) + ((6 : Int32) * a1)) + (4 : Int32)).toNatClampNeg (((ts T2 0 (((66 : Int32) + ((6 : Int32) * a1)) + (3 : Int32)).toNatClampNeg ((T2.2 0 (((66 : Int32) + ((6 : Int32) * a1)) + (3 : Int32)).toNatClampNeg) ||| r1)).2 0 (((66 : Int32) + ((6 : Int32) * a1)) + (4 : Int32)).toNatClampNeg) + (1 : Int32))) Q))))))))
def wX6_rounded_61 (k_4 : Int32 → Int32 → Int32 → TS → Prop) (l1 : Int32) (l2 : Int32) (l3 : Int32) (T : TS) (Q : Int32 → TS → Prop) : Prop :=
  k_4 l1 l2 (l3 + (1 : Int32)) T
def wX6_rounded_44 (k_4 : Int32 → Int32 → Int32 → TS → Prop) (l1 : Int32) (l2 : Int32) (l3 : Int32) (k0 : Int32) (T : TS) (Q : Int32 → TS → Prop) : Prop :=
  (k0 < 0 → wX6_rounded_61 k_4 l1 l2 l3 T Q) ∧ (¬ k0 < 0 → wX6_says l1 k0 T (fun T2 => wX6_rounded_61 k_4 l1 (l2 + (1 : Int32)) l3 T2 Q))
def wX6_rounded_4 (Q : Int32 → TS → Prop) : Nat → Int32 → Int32 → Int32 → TS → Prop
  | 0, _, _, _, _ => False
  | n + 1, l1, l2, l3, T =>
  vp_in (0 : Int32) 3114 ∧ (((T.2 0 (0 : Int32).toNatClampNeg) ≤ l3 → Q l2 T) ∧ (¬ (T.2 0 (0 : Int32).toNatClampNeg) ≤ l3 → wX6_drawn T (fun r1 T2 => wX6_boldness l3 l1 T2 (fun r3 T4 => (r3 ≤ (r1 - r1 / (100 : Int32) * (100 : Int32)) → wX6_rounded_44 (fun z0 z1 z2 z3 => wX6_rounded_4 Q n z0 z1 z2 z3) l1 l2 l3 (-1 : Int32) T4 Q) ∧ (¬ r3 ≤ (r1 - r1 / (100 : Int32) * (100 : Int32)) → wX6_choiceOf l3 l1 T4 (fun r5 T6 => wX6_rounded_44 (fun z0 z1 z2 z3 => wX6_rounded_4 Q n z0 z1 z2 z3) l1 l2 l3 r5 T6 Q))))))
def wX6_rounded (a1 : Int32) (T : TS) (Q : Int32 → TS → Prop) : Prop :=
  ∃ f_4, wX6_rounded_4 Q f_4 a1 (0 : Int32) (0 : Int32) T
def wX6_check_188 (l2 : Int32) (l3 : Int32) (l4 : Int32) (T : TS) (Q : Int32 → TS → Prop) : Prop :=
  (l4 = l3 → (l4 = ((2 : Int32) * l2) → Q (0 : Int32) T) ∧ (¬ l4 = ((2 : Int32) * l2) → Q ((1 : Int32) + l4) T)) ∧ (¬ l4 = l3 → Q ((1 : Int32) + l4) T)
def wX6_check_151 (Q : Int32 → TS → Prop) : Nat → Int32 → Int32 → Int32 → TS → Prop
  | 0, _, _, _, _ => False
  | n + 1, l2, l3, l4, T =>
  (l3 ≤ l4 → wX6_check_188 l2 l3 l4 T Q) ∧ (¬ l3 ≤ l4 → (((2 : Int32) * l2) ≤ l4 → wX6_check_188 l2 l3 l4 T Q) ∧ (¬ ((2 : Int32) * l2) ≤ l4 → vp_in l4 60 ∧ (vp_in l4 60 ∧ (((T.2 28 l4.toNatClampNeg) = (T.2 30 l4.toNatClampNeg) → wX6_check_151 Q n l2 l3 (l4 + (1 : Int32)) T) ∧ (¬ (T.2 28 l4.toNatClampNeg) = (T.2 30 l4.toNatClampNeg) → wX6_check_188 l2 l3 l4 T Q)))))
def wX6_check_83 (Q : Int32 → TS → Prop) : Nat → Int32 → Int32 → Int32 → Int32 → TS → Prop
  | 0, _, _, _, _, _ => False
  | n + 1, l1, l2, l3, l4, T =>
  (l2 ≤ l4 → wX6_setAside 2 0 T (fun T2 => ∃ f_151, wX6_check_151 Q f_151 l2 l3 (0 : Int32) T2)) ∧ (¬ l2 ≤ l4 → wX6_rounded l1 T (fun r3 T4 => wX6_left l1 T4 (fun r5 T6 => wX6_ones r5 (fun r7 => vp_in ((2 : Int32) * l4) 60 ∧ (wX6_dee l1 (5 : Int32) (ts T6 30 ((2 : Int32) * l4).toNatClampNeg r7) (fun r8 T9 => vp_in (((2 : Int32) * l4) + (1 : Int32)) 60 ∧ (wX6_check_83 Q n l1 l2 l3 (l4 + (1 : Int32)) (ts T9 30 (((2 : Int32) * l4) + (1 : Int32)).toNatClampNeg r8))))))))
def wX6_check (a1 : Int32) (a2 : Int32) (T : TS) (Q : Int32 → TS → Prop) : Prop :=
  wX6_isIn a2.toInt64 (1 : Int64) (30 : Int64) (fun r1 => (r1 = 0 → Q (-1000000001 : Int32) (tf T 29 (0 : Int32))) ∧ (¬ r1 = 0 → (((tf T 29 (0 : Int32)).1 3) = 0 → Q (-1000000002 : Int32) (tf T 29 (0 : Int32))) ∧ (¬ ((tf T 29 (0 : Int32)).1 3) = 0 → vp_in (1 : Int32) 3114 ∧ (wX6_isIn a1.toInt64 (0 : Int64) ((((tf T 29 (0 : Int32)).2 1 (1 : Int32).toNatClampNeg) - (1 : Int32)).toInt64) (fun r2 => (r2 = 0 → Q (-1000000001 : Int32) (tf T 29 (0 : Int32))) ∧ (¬ r2 = 0 → wX6_setAside 0 2 (tf T 29 (0 : Int32)) (fun T4 => wX6_setAside 1 0 T4 (fun T6 => ∃ f_83, wX6_check_83 Q f_83 a1 a2 (T.1 29) (0 : Int32) T6))))))))
def wX6_orNone (a0 : Int32) (Q : Int32 → Prop) : Prop :=
  (0 ≤ a0 → Q a0) ∧ (¬ 0 ≤ a0 → Q (-1000000005 : Int32))
def wX6_choice (a1 : Int32) (a2 : Int32) (T : TS) (Q : Int32 → TS → Prop) : Prop :=
  wX6_isPerson a1 T (fun r1 T2 => (r1 = 0 → Q (-1000000001 : Int32) T2) ∧ (¬ r1 = 0 → wX6_isDeed a2 T2 (fun r3 T4 => (r3 = 0 → Q (-1000000001 : Int32) T4) ∧ (¬ r3 = 0 → wX6_choiceOf a1 a2 T4 (fun r5 T6 => wX6_orNone r5 (fun r7 => Q r7 T6))))))
def wX6_comes (a1 : Int32) (a2 : Int32) (a3 : Int32) (T : TS) (Q : TS → Prop) : Prop :=
  vp_in (0 : Int32) 3114 ∧ (vp_in ((6 : Int32) + ((5 : Int32) * (T.2 0 (0 : Int32).toNatClampNeg))) 3114 ∧ (vp_in (((6 : Int32) + ((5 : Int32) * (T.2 0 (0 : Int32).toNatClampNeg))) + (1 : Int32)) 3114 ∧ (vp_in (((6 : Int32) + ((5 : Int32) * (T.2 0 (0 : Int32).toNatClampNeg))) + (2 : Int32)) 3114 ∧ (vp_in (((6 : Int32) + ((5 : Int32) * (T.2 0 (0 : Int32).toNatClampNeg))) + (3 : Int32)) 3114 ∧ (vp_in (((6 : Int32) + ((5 : Int32) * (T.2 0 (0 : Int32).toNatClampNeg))) + (4 : Int32)) 3114 ∧ (vp_in (0 : Int32) 3114 ∧ (vp_in (0 : Int32) 3114 ∧ (Q (ts (ts (ts (ts (ts (ts T 0 ((6 : Int32) + ((5 : Int32) * (T.2 0 (0 : Int32).toNatClampNeg))).toNatClampNeg a1) 0 (((6 : Int32) + ((5 : Int32) * (T.2 0 (0 : Int32).toNatClampNeg))) + (1 : Int32)).toNatClampNeg a2) 0 (((6 : Int32) + ((5 : Int32) * (T.2 0 (0 : Int32).toNatClampNeg))) + (2 : Int32)).toNatClampNeg a3) 0 (((6 : Int32) + ((5 : Int32) * (T.2 0 (0 : Int32).toNatClampNeg))) + (3 : Int32)).toNatClampNeg (0 : Int32)) 0 (((6 : Int32) + ((5 : Int32) * (T.2 0 (0 : Int32).toNatClampNeg))) + (4 : Int32)).toNatClampNeg (0 : Int32)) 0 (0 : Int32).toNatClampNeg (((ts (ts (ts (ts (ts T 0 ((6 : Int32) + ((5 : Int32) * (T.2 0 (0 : Int32).toNatClampNeg))).toNatClampNeg a1) 0 (((6 : Int32) + ((5 : Int32) * (T.2 0 (0 : Int32).toNatClampNeg))) + (1 : Int32)).toNatClampNeg a2) 0 (((6 : Int32) + ((5 : Int32) * (T.2 0 (0 : Int32).toNatClampNeg))) + (2 : Int32)).toNatClampNeg a3) 0 (((6 : Int32) + ((5 : Int32) * (T.2 0 (0 : Int32).toNatClampNeg))) + (3 : Int32)).toNatClampNeg (0 : Int32)) 0 (((6 : Int32) + ((5 : Int32) * (T.2 0 (0 : Int32).toNatClampNeg))) + (4 : Int32)).toNatClampNeg (0 : Int32)).2 0 (0 : Int32).toNatClampNeg) + (1 : Int32)))))))))))
def wX6_isSheet (a0 : Int32) (Q : Int32 → Prop) : Prop :=
  wX6_isIn a0.toInt64 (0 : Int64) (3 : Int64) (fun r1 => (narrow .boolean (.int r1) = .int r1) ∧ Q r1)
def wX6_copy_150 (Q : Int32 → TS → Prop) : Nat → Int32 → Int32 → Int32 → Int32 → TS → Prop
  | 0, _, _, _, _, _ => False
  | n + 1, l3, l4, l5, l6, T =>
  (l5 ≤ l6 → Q l5 T) ∧ (¬ l5 ≤ l6 → vp_in l6 24 ∧ (vp_in ((((24 : Int32) * l3) + l4) + l6) 96 ∧ (wX6_copy_150 Q n l3 l4 l5 (l6 + (1 : Int32)) (ts T 6 ((((24 : Int32) * l3) + l4) + l6).toNatClampNeg (T.2 27 l6.toNatClampNeg)))))
def wX6_copy_113 (Q : Int32 → TS → Prop) : Nat → Int32 → Int32 → Int32 → Int32 → Int32 → Int32 → TS → Prop
  | 0, _, _, _, _, _, _, _ => False
  | n + 1, l1, l2, l3, l4, l5, l6, T =>
  (l5 ≤ l6 → ∃ f_150, wX6_copy_150 Q f_150 l3 l4 l5 (0 : Int32) T) ∧ (¬ l5 ≤ l6 → vp_in ((((24 : Int32) * l1) + l2) + l6) 96 ∧ (vp_in l6 24 ∧ (wX6_copy_113 Q n l1 l2 l3 l4 l5 (l6 + (1 : Int32)) (ts T 27 l6.toNatClampNeg (T.2 6 ((((24 : Int32) * l1) + l2) + l6).toNatClampNeg)))))
def wX6_copy (a1 : Int32) (a2 : Int32) (a3 : Int32) (a4 : Int32) (a5 : Int32) (T : TS) (Q : Int32 → TS → Prop) : Prop :=
  wX6_isSheet a1 (fun r1 => (r1 = 0 → Q (-1000000001 : Int32) T) ∧ (¬ r1 = 0 → wX6_isSheet a3 (fun r2 => (r2 = 0 → Q (-1000000001 : Int32) T) ∧ (¬ r2 = 0 → vp_in a1 4 ∧ (((T.2 4 a1.toNatClampNeg) < 0 → Q (-1000000011 : Int32) T) ∧ (¬ (T.2 4 a1.toNatClampNeg) < 0 → vp_in a3 4 ∧ ((0 ≤ (T.2 4 a3.toNatClampNeg) → vp_in a1 4 ∧ (vp_in a3 4 ∧ (((T.2 4 a1.toNatClampNeg) = (T.2 4 a3.toNatClampNeg) → (a2 < 0 → Q (-1000000013 : Int32) T) ∧ (¬ a2 < 0 → (a4 < 0 → Q (-1000000013 : Int32) T) ∧ (¬ a4 < 0 → (a5 < 0 → Q (-1000000013 : Int32) T) ∧ (¬ a5 < 0 → vp_in a1 4 ∧ ((0 < (lg_cmp (a2.toInt64 + a5.toInt64) ((T.2 5 a1.toNatClampNeg).toInt64)) → Q (-1000000013 : Int32) T) ∧ (¬ 0 < (lg_cmp (a2.toInt64 + a5.toInt64) ((T.2 5 a1.toNatClampNeg).toInt64)) → vp_in a3 4 ∧ (((lg_cmp (a4.toInt64 + a5.toInt64) ((T.2 5 a3.toNatClampNeg).toInt64)) ≤ 0 → ∃ f_113, wX6_copy_113 Q f_113 a1 a2 a3 a4 a5 (0 : Int32) T) ∧ (¬ (lg_cmp (a4.toInt64 + a5.toInt64) ((T.2 5 a3.toNatClampNeg).toInt64)) ≤ 0 → Q (-1000000013 : Int32) T)))))))) ∧ (¬ (T.2 4 a1.toNatClampNeg) = (T.2 4 a3.toNatClampNeg) → Q (-1000000012 : Int32) T)))) ∧ (¬ 0 ≤ (T.2 4 a3.toNatClampNeg) → Q (-1000000011 : Int32) T))))))))
def wX6_cost (a1 : Int32) (T : TS) (Q : Int32 → TS → Prop) : Prop :=
  wX6_counts (1 : Int32) T (fun r1 T2 => (0 ≤ r1 → wX6_dee a1 (5 : Int32) T2 (fun r3 T4 => vp_in (108 : Int32) 128 ∧ (wX6_dee a1 (2 : Int32) (ts T4 25 (108 : Int32).toNatClampNeg r3) (fun r5 T6 => vp_in (119 : Int32) 128 ∧ (wX6_left a1 (ts T6 25 (119 : Int32).toNatClampNeg r5) (fun r7 T8 => wX6_ones r7 (fun r9 => vp_in (110 : Int32) 128 ∧ (wX6_worked r1 (ts T8 25 (110 : Int32).toNatClampNeg r9) (fun r10 T11 => wX6_within r10 (99999 : Int32) (fun r12 => Q r12 T11)))))))))) ∧ (¬ 0 ≤ r1 → wX6_dee a1 (5 : Int32) T2 (fun r13 T14 => wX6_dee a1 (2 : Int32) T14 (fun r15 T16 => Q (r13 * r15) T16))))
def wX6_ofAll_4 (Q : Int32 → TS → Prop) : Nat → Int32 → Int32 → Int32 → TS → Prop
  | 0, _, _, _, _ => False
  | n + 1, l1, l2, l3, T =>
  vp_in (1 : Int32) 3114 ∧ (((T.2 0 (1 : Int32).toNatClampNeg) ≤ l3 → Q l2 T) ∧ (¬ (T.2 0 (1 : Int32).toNatClampNeg) ≤ l3 → wX6_dee l3 l1 T (fun r1 T2 => wX6_ofAll_4 Q n l1 (l2 + r1) (l3 + (1 : Int32)) T2)))
def wX6_ofAll (a1 : Int32) (T : TS) (Q : Int32 → TS → Prop) : Prop :=
  ∃ f_4, wX6_ofAll_4 Q f_4 a1 (0 : Int32) (0 : Int32) T
def wX6_count (a1 : Int32) (T : TS) (Q : Int32 → TS → Prop) : Prop :=
  (a1 = 0 → vp_in (0 : Int32) 3114 ∧ (Q (T.2 0 (0 : Int32).toNatClampNeg) T)) ∧ (¬ a1 = 0 → (a1 = 1 → vp_in (1 : Int32) 3114 ∧ (Q (T.2 0 (1 : Int32).toNatClampNeg) T)) ∧ (¬ a1 = 1 → (a1 = 2 → vp_in (3 : Int32) 3114 ∧ (Q (T.2 0 (3 : Int32).toNatClampNeg) T)) ∧ (¬ a1 = 2 → (a1 = 3 → wX6_ofAll (4 : Int32) T (fun r1 T2 => Q r1 T2)) ∧ (¬ a1 = 3 → (a1 = 4 → wX6_ofAll (5 : Int32) T (fun r3 T4 => Q r3 T4)) ∧ (¬ a1 = 4 → (a1 = 5 → vp_in (2 : Int32) 3114 ∧ (Q (T.2 0 (2 : Int32).toNatClampNeg) T)) ∧ (¬ a1 = 5 → (a1 = 6 → Q (T.1 29) T) ∧ (¬ a1 = 6 → (a1 = 7 → Q (T.1 14) T) ∧ (¬ a1 = 7 → (a1 = 8 → vp_in (4 : Int32) 3114 ∧ (Q (T.2 0 (4 : Int32).toNatClampNeg) T)) ∧ (¬ a1 = 8 → Q (-1000000001 : Int32) T)))))))))
def wX6_deal_17 (Q : Int32 → TS → Prop) : Nat → Int32 → Int32 → TS → Prop
  | 0, _, _, _ => False
  | n + 1, l1, l2, T =>
  (l1 ≤ l2 → Q l2 T) ∧ (¬ l1 ≤ l2 → vp_in (0 : Int32) 3114 ∧ (((12 : Int32) ≤ (T.2 0 (0 : Int32).toNatClampNeg) → Q l2 T) ∧ (¬ (12 : Int32) ≤ (T.2 0 (0 : Int32).toNatClampNeg) → wX6_drawn T (fun r1 T2 => wX6_drawn T2 (fun r3 T4 => wX6_drawn T4 (fun r5 T6 => wX6_drawn T6 (fun r7 T8 => wX6_comes (r1 - r1 / (6 : Int32) * (6 : Int32)) (r3 - r3 / (101 : Int32) * (101 : Int32)) (r5 &&& r7) T8 (fun T10 => wX6_deal_17 Q n l1 (l2 + (1 : Int32)) T10))))))))
def wX6_deal (a1 : Int32) (T : TS) (Q : Int32 → TS → Prop) : Prop :=
  wX6_isIn a1.toInt64 (1 : Int64) (12 : Int64) (fun r1 => (r1 = 0 → Q (-1000000001 : Int32) T) ∧ (¬ r1 = 0 → ∃ f_17, wX6_deal_17 Q f_17 a1 (0 : Int32) T))
def wX6_deed_28 (l1 : Int32) (l2 : Int32) (l3 : Int32) (k0 : Int32) (T : TS) (Q : Int32 → TS → Prop) : Prop :=
  (k0 = 0 → Q (-1000000001 : Int32) T) ∧ (¬ k0 = 0 → wX6_isIn l2.toInt64 (0 : Int64) (23 : Int64) (fun r1 => (r1 = 0 → Q (-1000000001 : Int32) T) ∧ (¬ r1 = 0 → wX6_isIn l3.toInt64 (0 : Int64) (99 : Int64) (fun r2 => (r2 = 0 → Q (-1000000001 : Int32) T) ∧ (¬ r2 = 0 → vp_in (1 : Int32) 3114 ∧ (((T.2 0 (1 : Int32).toNatClampNeg) = (8 : Int32) → Q (-1000000003 : Int32) T) ∧ (¬ (T.2 0 (1 : Int32).toNatClampNeg) = (8 : Int32) → vp_in (1 : Int32) 3114 ∧ (vp_in (((66 : Int32) + ((6 : Int32) * (T.2 0 (1 : Int32).toNatClampNeg))) + (0 : Int32)) 3114 ∧ (vp_in (((66 : Int32) + ((6 : Int32) * (T.2 0 (1 : Int32).toNatClampNeg))) + (1 : Int32)) 3114 ∧ (vp_in (((66 : Int32) + ((6 : Int32) * (T.2 0 (1 : Int32).toNatClampNeg))) + (2 : Int32)) 3114 ∧ (vp_in (((66 : Int32) + ((6 : Int32) * (T.2 0 (1 : Int32).toNatClampNeg))) + (3 : Int32)) 3114 ∧ (vp_in (((66 : Int32) + ((6 : Int32) * (T.2 0 (1 : Int32).toNatClampNeg))) + (4 : Int32)) 3114 ∧ (vp_in (((66 : Int32) + ((6 : Int32) * (T.2 0 (1 : Int32).toNatClampNeg))) + (5 : Int32)) 3114 ∧ (vp_in (1 : Int32) 3114 ∧ (vp_in (1 : Int32) 3114 ∧ (vp_in (1 : Int32) 3114 ∧ (Q (((ts (ts (ts (ts (ts (ts (ts T 0 (((66 : Int32) + ((6 : Int32) * (T.2 0 (1 : Int32).toNatClampNeg))) + (0 : Int32)).toNatClampNeg l1) 0 (((66 : Int32) + ((6 : Int32) * (T.2 0 (1 : Int32).toNatClampNeg))) + (1 : Int32)).toNatClampNeg l2) 0 (((66 : Int32) + ((6 : Int32) * (T.2 0 (1 : Int32).toNatClampNeg))) + (2 : Int32)).toNatClampNeg l3) 0 (((66 : Int32) + ((6 : Int32) * (T.2 0 (1 : Int32).toNatClampNeg))) + (3 : Int32)).toNatClampNeg (0 : Int32)) 0 (((66 : Int32) + ((6 : Int32) * (T.2 0 (1 : Int32).toNatClampNeg))) + (4 : Int32)).toNatClampNeg (0 : Int32)) 0 (((66 : Int32) + ((6 : Int32) * (T.2 0 (1 : Int32).toNatClampNeg))) + (5 : Int32)).toNatClampNeg (0 : Int32)) 0 (1 : Int32).toNatClampNeg (((ts (ts (ts (ts (ts (ts T 0 (((66 : Int32) + ((6 : Int32) * (T.2 0 (1 : Int32).toNatClampNeg))) + (0 : Int32)).toNatClampNeg l1) 0 (((66 : Int32) + ((6 : Int32) * (T.2 0 (1 : Int32).toNatClampNeg))) + (1 : Int32)).toNatClampNeg l2) 0 (((66 : Int32) + ((6 : Int32) * (T.2 0 (1 : Int32).toNatClampNeg))) + (2 : Int32)).toNatClampNeg l3) 0 (((66 : Int32) + ((6 : Int32) * (T.2 0 (1 : Int32).toNatClampNeg))) + (3 : Int32)).toNatClampNeg (0 : Int32)) 0 (((66 : Int32) + ((6 : Int32) * (T.2 0 (1 : Int32).toNatClampNeg))) + (4 : Int32)).toNatClampNeg (0 : Int32)) 0 (((66 : Int32) + ((6 : Int32) * (T.2 0 (1 : Int32).toNatClampNeg))) + (5 : Int32)).toNatClampNeg (0 : Int32)).2 0 (1 : Int32).toNatClampNeg) + (1 : Int32))).2 0 (1 : Int32).toNatClampNeg) - (1 : Int32)) (ts (ts (ts (ts (ts (ts (ts T 0 (((66 : Int32) + ((6 : Int32) * (T.2 0 (1 : Int32).toNatClampNeg))) + (0 : Int32)).toNatClampNeg l1) 0 (((66 : Int32) + ((6 : Int32) * (T.2 0 (1 : Int32).toNatClampNeg))) + (1 : Int32)).toNatClampNeg l2) 0 (((66 : Int32) + ((6 : Int32) * (T.2 0 (1 : Int32).toNatClampNeg))) + (2 : Int32)).toNatClampNeg l3) 0 (((66 : Int32) + ((6 : Int32) * (T.2 0 (1 : Int32).toNatClampNeg))) + (3 : Int32)).toNatClampNeg (0 : Int32)) 0 (((66 : Int32) + ((6 : Int32) * (T.2 0 (1 : Int32).toNatClampNeg))) + (4 : Int32)).toNatClampNeg (0 : Int32)) 0 (((66 : Int32) + ((6 : Int32) * (T.2 0 (1 : Int32).toNatClampNeg))) + (5 : Int32)).toNatClampNeg (0 : Int32)) 0 (1 : Int32).toNatClampNeg (((ts (ts (ts (ts (ts (ts T 0 (((66 : Int32) + ((6 : Int32) * (T.2 0 (1 : Int32).toNatClampNeg))) + (0 : Int32)).toNatClampNeg l1) 0 (((66 : Int32) + ((6 : Int32) * (T.2 0 (1 : Int32).toNatClampNeg))) + (1 : Int32)).toNatClampNeg l2) 0 (((66 : Int32) + ((6 : Int32) * (T.2 0 (1 : Int32).toNatClampNeg))) + (2 : Int32)).toNatClampNeg l3) 0 (((66 : Int32) + ((6 : Int32) * (T.2 0 (1 : Int32).toNatClampNeg))) + (3 : Int32)).toNatClampNeg (0 : Int32)) 0 (((66 : Int32) + ((6 : Int32) * (T.2 0 (1 : Int32).toNatClampNeg))) + (4 : Int32)).toNatClampNeg (0 : Int32)) 0 (((66 : Int32) + ((6 : Int32) * (T.2 0 (1 : Int32).toNatClampNeg))) + (5 : Int32)).toNatClampNeg (0 : Int32)).2 0 (1 : Int32).toNatClampNeg) + (1 : Int32))))))))))))))))))))
def wX6_deed_27 (l1 : Int32) (l2 : Int32) (l3 : Int32) (T : TS) (Q : Int32 → TS → Prop) : Prop :=
  wX6_deed_28 l1 l2 l3 (0 : Int32) T Q
def wX6_deed (a1 : Int32) (a2 : Int32) (a3 : Int32) (T : TS) (Q : Int32 → TS → Prop) : Prop :=
  (a1 ≤ 0 → wX6_deed_27 a1 a2 a3 T Q) ∧ (¬ a1 ≤ 0 → wX6_everybody T (fun r1 T2 => ((a1 &&& (r1 ^^^ (-1 : Int32))) = 0 → wX6_ones a1 (fun r3 => ((2 : Int32) < r3 → wX6_deed_27 a1 a2 a3 T2 Q) ∧ (¬ (2 : Int32) < r3 → wX6_deed_28 a1 a2 a3 (1 : Int32) T2 Q))) ∧ (¬ (a1 &&& (r1 ^^^ (-1 : Int32))) = 0 → wX6_deed_27 a1 a2 a3 T2 Q)))
def wX6_deedTold (a1 : Int32) (a2 : Int32) (T : TS) (Q : Int32 → TS → Prop) : Prop :=
  wX6_isDeed a1 T (fun r1 T2 => (r1 = 0 → Q (-1000000001 : Int32) T2) ∧ (¬ r1 = 0 → (a2 = 0 → wX6_dee a1 a2 T2 (fun r3 T4 => Q r3 T4)) ∧ (¬ a2 = 0 → (a2 = 1 → wX6_dee a1 a2 T2 (fun r5 T6 => Q r5 T6)) ∧ (¬ a2 = 1 → (a2 = 2 → wX6_dee a1 a2 T2 (fun r7 T8 => Q r7 T8)) ∧ (¬ a2 = 2 → (a2 = 3 → wX6_left a1 T2 (fun r9 T10 => Q r9 T10)) ∧ (¬ a2 = 3 → (a2 = 4 → wX6_dee a1 a2 T2 (fun r11 T12 => Q r11 T12)) ∧ (¬ a2 = 4 → (a2 = 5 → wX6_dee a1 a2 T2 (fun r13 T14 => Q r13 T14)) ∧ (¬ a2 = 5 → (a2 = 6 → wX6_cost a1 T2 (fun r15 T16 => Q r15 T16)) ∧ (¬ a2 = 6 → (a2 = 7 → wX6_left a1 T2 (fun r17 T18 => wX6_dee a1 (0 : Int32) T18 (fun r19 T20 => (r17 = r19 → Q (1 : Int32) T20) ∧ (¬ r17 = r19 → Q (0 : Int32) T20)))) ∧ (¬ a2 = 7 → Q (-1000000001 : Int32) T2))))))))))
def wX6_fallsOn_44 (k_4 : Int32 → Int32 → Int32 → TS → Prop) (l1 : Int32) (l3 : Int32) (k0 : Int32) (k1 : Int32) (T : TS) (Q : Int32 → TS → Prop) : Prop :=
  k_4 l1 (k1 + k0) (l3 + (1 : Int32)) T
def wX6_fallsOn_4 (Q : Int32 → TS → Prop) : Nat → Int32 → Int32 → Int32 → TS → Prop
  | 0, _, _, _, _ => False
  | n + 1, l1, l2, l3, T =>
  vp_in (1 : Int32) 3114 ∧ (((T.2 0 (1 : Int32).toNatClampNeg) ≤ l3 → Q l2 T) ∧ (¬ (T.2 0 (1 : Int32).toNatClampNeg) ≤ l3 → wX6_left l3 T (fun r1 T2 => (((r1 >>> (l1 &&& 31)) &&& (1 : Int32)) = (1 : Int32) → wX6_left l3 T2 (fun r3 T4 => wX6_ones r3 (fun r5 => (¬ r5 = 0) ∧ (wX6_fallsOn_44 (fun z0 z1 z2 z3 => wX6_fallsOn_4 Q n z0 z1 z2 z3) l1 l3 ((27720 : Int32) / r5) l2 T4 Q)))) ∧ (¬ ((r1 >>> (l1 &&& 31)) &&& (1 : Int32)) = (1 : Int32) → wX6_fallsOn_44 (fun z0 z1 z2 z3 => wX6_fallsOn_4 Q n z0 z1 z2 z3) l1 l3 (0 : Int32) l2 T2 Q))))
def wX6_fallsOn (a1 : Int32) (T : TS) (Q : Int32 → TS → Prop) : Prop :=
  ∃ f_4, wX6_fallsOn_4 Q f_4 a1 (0 : Int32) (0 : Int32) T
def wX6_falls_36 (Q : Int64 → TS → Prop) : Nat → Int32 → Int32 → Int32 → Int32 → TS → Prop
  | 0, _, _, _, _, _ => False
  | n + 1, l2, l3, l4, l5, T =>
  (l5 ≤ 0 → (l2 = 0 → (¬ l4 = 0) ∧ (Q ((l3 / l4).toInt64) T)) ∧ (¬ l2 = 0 → (¬ l4 = 0) ∧ (Q (((27720 : Int32) / l4).toInt64) T))) ∧ (¬ l5 ≤ 0 → (¬ l5 = 0) ∧ (wX6_falls_36 Q n l2 l3 l5 (l4 - l4 / l5 * l5) T))
def wX6_falls (a1 : Int32) (a2 : Int32) (T : TS) (Q : Int64 → TS → Prop) : Prop :=
  wX6_isPerson a1 T (fun r1 T2 => (r1 = 0 → Q (-1000000001 : Int64) T2) ∧ (¬ r1 = 0 → wX6_isIn a2.toInt64 (0 : Int64) (1 : Int64) (fun r3 => (r3 = 0 → Q (-1000000001 : Int64) T2) ∧ (¬ r3 = 0 → wX6_fallsOn a1 T2 (fun r4 T5 => ∃ f_36, wX6_falls_36 Q f_36 a2 r4 r4 (27720 : Int32) T5)))))
def wX6_feed_47 (k_18 : Int32 → Int32 → Int32 → Int32 → TS → Prop) (l1 : Int32) (l2 : Int32) (l3 : Int32) (l4 : Int32) (k0 : Int32) (T : TS) (Q : Int32 → TS → Prop) : Prop :=
  vp_in (T.1 14) 96 ∧ (k_18 l1 l2 l3 (l4 + (1 : Int32)) (tf (ts T 13 (T.1 14).toNatClampNeg ((k0 >>> (((24 : Int32) - ((8 : Int32) * (l4 - l4 / (4 : Int32) * (4 : Int32)))) &&& 31)) &&& (255 : Int32))) 14 (((ts T 13 (T.1 14).toNatClampNeg ((k0 >>> (((24 : Int32) - ((8 : Int32) * (l4 - l4 / (4 : Int32) * (4 : Int32)))) &&& 31)) &&& (255 : Int32))).1 14) + (1 : Int32))))
def wX6_feed_18 (Q : Int32 → TS → Prop) : Nat → Int32 → Int32 → Int32 → Int32 → TS → Prop
  | 0, _, _, _, _, _ => False
  | n + 1, l1, l2, l3, l4, T =>
  ((12 : Int32) ≤ l4 → Q (T.1 14) T) ∧ (¬ (12 : Int32) ≤ l4 → ((4 : Int32) ≤ l4 → ((8 : Int32) ≤ l4 → wX6_feed_47 (fun z0 z1 z2 z3 z4 => wX6_feed_18 Q n z0 z1 z2 z3 z4) l1 l2 l3 l4 l3 T Q) ∧ (¬ (8 : Int32) ≤ l4 → wX6_feed_47 (fun z0 z1 z2 z3 z4 => wX6_feed_18 Q n z0 z1 z2 z3 z4) l1 l2 l3 l4 l2 T Q)) ∧ (¬ (4 : Int32) ≤ l4 → wX6_feed_47 (fun z0 z1 z2 z3 z4 => wX6_feed_18 Q n z0 z1 z2 z3 z4) l1 l2 l3 l4 l1 T Q))
def wX6_feed (a1 : Int32) (a2 : Int32) (a3 : Int32) (T : TS) (Q : Int32 → TS → Prop) : Prop :=
  (((T.1 14) + (12 : Int32)) ≤ (96 : Int32) → ∃ f_18, wX6_feed_18 Q f_18 a1 a2 a3 (0 : Int32) T) ∧ (¬ ((T.1 14) + (12 : Int32)) ≤ (96 : Int32) → Q (-1000000003 : Int32) T)
def wX6_fewest_181 (k_78 : Int32 → Int32 → Int32 → Int32 → Int32 → TS → Prop) (l2 : Int32) (l3 : Int32) (l4 : Int32) (l5 : Int32) (l6 : Int32) (T : TS) (Q : Int32 → TS → Prop) : Prop :=
  k_78 l2 l3 l4 l5 (l6 + (1 : Int32)) T
def wX6_fewest_179 (k_78 : Int32 → Int32 → Int32 → Int32 → Int32 → TS → Prop) (l2 : Int32) (l3 : Int32) (l4 : Int32) (l6 : Int32) (k0 : Int32) (T : TS) (Q : Int32 → TS → Prop) : Prop :=
  wX6_fewest_181 k_78 l2 l3 l4 k0 l6 T Q
def wX6_fewest_164 (k_78 : Int32 → Int32 → Int32 → Int32 → Int32 → TS → Prop) (l2 : Int32) (l3 : Int32) (l5 : Int32) (l6 : Int32) (l7 : Int32) (l8 : Int32) (k0 : Int32) (T : TS) (Q : Int32 → TS → Prop) : Prop :=
  (l8 = l3 → wX6_fewest_179 k_78 l2 l3 k0 l6 l7 T Q) ∧ (¬ l8 = l3 → wX6_fewest_179 k_78 l2 l3 k0 l6 l5 T Q)
def wX6_fewest_142 (k_78 : Int32 → Int32 → Int32 → Int32 → Int32 → TS → Prop) (k_107 : Int32 → Int32 → Int32 → Int32 → Int32 → Int32 → Int32 → Int32 → TS → Prop) (l2 : Int32) (l3 : Int32) (l4 : Int32) (l5 : Int32) (l6 : Int32) (l7 : Int32) (l9 : Int32) (k0 : Int32) (k1 : Int32) (T : TS) (Q : Int32 → TS → Prop) : Prop :=
  k_107 l2 l3 l4 l5 l6 l7 (k1 ||| k0) (l9 + (1 : Int32)) T
def wX6_fewest_107 (k_78 : Int32 → Int32 → Int32 → Int32 → Int32 → TS → Prop) (Q : Int32 → TS → Prop) : Nat → Int32 → Int32 → Int32 → Int32 → Int32 → Int32 → Int32 → Int32 → TS → Prop
  | 0, _, _, _, _, _, _, _, _, _ => False
  | n + 1, l2, l3, l4, l5, l6, l7, l8, l9, T =>
  vp_in (0 : Int32) 3114 ∧ (((T.2 0 (0 : Int32).toNatClampNeg) ≤ l9 → (l8 = l3 → wX6_fewest_164 k_78 l2 l3 l5 l6 l7 l8 l6 T Q) ∧ (¬ l8 = l3 → wX6_fewest_164 k_78 l2 l3 l5 l6 l7 l8 l4 T Q)) ∧ (¬ (T.2 0 (0 : Int32).toNatClampNeg) ≤ l9 → (((l6 >>> (l9 &&& 31)) &&& (1 : Int32)) = (1 : Int32) → vp_in l9 12 ∧ (wX6_fewest_142 k_78 (fun z0 z1 z2 z3 z4 z5 z6 z7 z8 => wX6_fewest_107 k_78 Q n z0 z1 z2 z3 z4 z5 z6 z7 z8) l2 l3 l4 l5 l6 l7 l9 (T.2 12 l9.toNatClampNeg) l8 T Q)) ∧ (¬ ((l6 >>> (l9 &&& 31)) &&& (1 : Int32)) = (1 : Int32) → wX6_fewest_142 k_78 (fun z0 z1 z2 z3 z4 z5 z6 z7 z8 => wX6_fewest_107 k_78 Q n z0 z1 z2 z3 z4 z5 z6 z7 z8) l2 l3 l4 l5 l6 l7 l9 (0 : Int32) l8 T Q)))
def wX6_fewest_78 (Q : Int32 → TS → Prop) : Nat → Int32 → Int32 → Int32 → Int32 → Int32 → TS → Prop
  | 0, _, _, _, _, _, _ => False
  | n + 1, l2, l3, l4, l5, l6, T =>
  wX6_everybody T (fun r1 T2 => (r1 < l6 → (0 ≤ l4 → (l2 = 0 → Q l5 T2) ∧ (¬ l2 = 0 → Q l4 T2)) ∧ (¬ 0 ≤ l4 → Q (-1000000005 : Int32) T2)) ∧ (¬ r1 < l6 → wX6_ones l6 (fun r3 => (l5 ≤ r3 → wX6_fewest_181 (fun z0 z1 z2 z3 z4 z5 => wX6_fewest_78 Q n z0 z1 z2 z3 z4 z5) l2 l3 l4 l5 l6 T2 Q) ∧ (¬ l5 ≤ r3 → ∃ f_107, wX6_fewest_107 (fun z0 z1 z2 z3 z4 z5 => wX6_fewest_78 Q n z0 z1 z2 z3 z4 z5) Q f_107 l2 l3 l4 l5 l6 r3 (0 : Int32) (0 : Int32) T2))))
def wX6_fewest_38 (Q : Int32 → TS → Prop) : Nat → Int32 → Int32 → Int32 → TS → Prop
  | 0, _, _, _, _ => False
  | n + 1, l2, l3, l4, T =>
  vp_in (0 : Int32) 3114 ∧ (((T.2 0 (0 : Int32).toNatClampNeg) ≤ l4 → ∃ f_78, wX6_fewest_78 Q f_78 l2 l3 (-1 : Int32) (13 : Int32) (0 : Int32) T) ∧ (¬ (T.2 0 (0 : Int32).toNatClampNeg) ≤ l4 → wX6_goBy l4 T (fun r1 T2 => vp_in l4 12 ∧ (wX6_fewest_38 Q n l2 l3 (l4 + (1 : Int32)) (ts T2 12 l4.toNatClampNeg r1)))))
def wX6_fewest (a1 : Int32) (a2 : Int32) (T : TS) (Q : Int32 → TS → Prop) : Prop :=
  wX6_isDeed a1 T (fun r1 T2 => (r1 = 0 → Q (-1000000001 : Int32) T2) ∧ (¬ r1 = 0 → wX6_isIn a2.toInt64 (0 : Int64) (1 : Int64) (fun r3 => (r3 = 0 → Q (-1000000001 : Int32) T2) ∧ (¬ r3 = 0 → wX6_everybody T2 (fun r4 T5 => wX6_dee a1 (0 : Int32) T5 (fun r6 T7 => ∃ f_38, wX6_fewest_38 Q f_38 a2 (r4 &&& (r6 ^^^ (-1 : Int32))) (0 : Int32) T7))))))
def wX6_follow (a1 : Int32) (a2 : Int32) (a3 : Int32) (T : TS) (Q : Int32 → TS → Prop) : Prop :=
  wX6_areTwo a1 a2 a3 T (fun r1 T2 => (r1 = 0 → Q (-1000000001 : Int32) T2) ∧ (¬ r1 = 0 → wX6_bitBecomes (((6 : Int32) + ((5 : Int32) * a1)) + (4 : Int32)) a2 a3 T2 (fun r3 T4 => Q r3 T4)))
def wX6_friend (a1 : Int32) (a2 : Int32) (a3 : Int32) (T : TS) (Q : Int32 → TS → Prop) : Prop :=
  wX6_areTwo a1 a2 a3 T (fun r1 T2 => (r1 = 0 → Q (-1000000001 : Int32) T2) ∧ (¬ r1 = 0 → wX6_bitBecomes (((6 : Int32) + ((5 : Int32) * a1)) + (3 : Int32)) a2 a3 T2 (fun r3 T4 => wX6_bitBecomes (((6 : Int32) + ((5 : Int32) * a2)) + (3 : Int32)) a1 a3 T4 (fun r5 T6 => Q r5 T6))))
def wX6_goneOn_4 (Q : Int32 → TS → Prop) : Nat → Int32 → Int32 → Int32 → TS → Prop
  | 0, _, _, _, _ => False
  | n + 1, l1, l2, l3, T =>
  vp_in (1 : Int32) 3114 ∧ (((T.2 0 (1 : Int32).toNatClampNeg) ≤ l3 → Q l2 T) ∧ (¬ (T.2 0 (1 : Int32).toNatClampNeg) ≤ l3 → wX6_dee l3 (3 : Int32) T (fun r1 T2 => wX6_goneOn_4 Q n l1 (l2 + ((r1 >>> (l1 &&& 31)) &&& (1 : Int32))) (l3 + (1 : Int32)) T2)))
def wX6_goneOn (a1 : Int32) (T : TS) (Q : Int32 → TS → Prop) : Prop :=
  ∃ f_4, wX6_goneOn_4 Q f_4 a1 (0 : Int32) (0 : Int32) T
def wX6_isText (a1 : Int32) (T : TS) (Q : Int32 → TS → Prop) : Prop :=
  vp_in (2 : Int32) 3114 ∧ (wX6_isIn a1.toInt64 (0 : Int64) (((T.2 0 (2 : Int32).toNatClampNeg) - (1 : Int32)).toInt64) (fun r1 => (narrow .boolean (.int r1) = .int r1) ∧ Q r1 T))
def wX6_isWordAt_10 (l1 : Int32) (l2 : Int32) (l3 : Int32) (l4 : Int32) (k0 : Int32) (T : TS) (Q : Int32 → TS → Prop) : Prop :=
  ((T.1 17) = (1 : Int32) → (((T.1 16) - (T.1 15)) = k0 → vp_in (T.1 15) 96 ∧ (((T.2 13 (T.1 15).toNatClampNeg) = l1 → vp_in ((T.1 15) + (1 : Int32)) 96 ∧ (((T.2 13 ((T.1 15) + (1 : Int32)).toNatClampNeg) = l2 → vp_in ((T.1 15) + (2 : Int32)) 96 ∧ (((T.2 13 ((T.1 15) + (2 : Int32)).toNatClampNeg) = l3 → (l4 = 0 → Q (1 : Int32) T) ∧ (¬ l4 = 0 → vp_in ((T.1 15) + (3 : Int32)) 96 ∧ (((T.2 13 ((T.1 15) + (3 : Int32)).toNatClampNeg) = l4 → Q (1 : Int32) T) ∧ (¬ (T.2 13 ((T.1 15) + (3 : Int32)).toNatClampNeg) = l4 → Q (0 : Int32) T)))) ∧ (¬ (T.2 13 ((T.1 15) + (2 : Int32)).toNatClampNeg) = l3 → Q (0 : Int32) T))) ∧ (¬ (T.2 13 ((T.1 15) + (1 : Int32)).toNatClampNeg) = l2 → Q (0 : Int32) T))) ∧ (¬ (T.2 13 (T.1 15).toNatClampNeg) = l1 → Q (0 : Int32) T))) ∧ (¬ ((T.1 16) - (T.1 15)) = k0 → Q (0 : Int32) T)) ∧ (¬ (T.1 17) = (1 : Int32) → Q (0 : Int32) T)
def wX6_isWordAt (a1 : Int32) (a2 : Int32) (a3 : Int32) (a4 : Int32) (T : TS) (Q : Int32 → TS → Prop) : Prop :=
  (a4 = 0 → wX6_isWordAt_10 a1 a2 a3 a4 (3 : Int32) T Q) ∧ (¬ a4 = 0 → wX6_isWordAt_10 a1 a2 a3 a4 (4 : Int32) T Q)
def wX6_item (a1 : Int32) (a2 : Int32) (T : TS) (Q : Int32 → TS → Prop) : Prop :=
  wX6_isSlot a1 (fun r1 => (r1 = 0 → Q (-1000000001 : Int32) T) ∧ (¬ r1 = 0 → vp_in a1 5 ∧ (((T.2 7 a1.toNatClampNeg) = (2 : Int32) → vp_in a1 5 ∧ (wX6_isIn a2.toInt64 (0 : Int64) (((T.2 10 a1.toNatClampNeg) - (1 : Int32)).toInt64) (fun r2 => (r2 = 0 → Q (-1000000013 : Int32) T) ∧ (¬ r2 = 0 → vp_in (((24 : Int32) * a1) + a2) 120 ∧ (((T.2 11 (((24 : Int32) * a1) + a2).toNatClampNeg) = (-1000000005 : Int32) → Q (-1000000012 : Int32) T) ∧ (¬ (T.2 11 (((24 : Int32) * a1) + a2).toNatClampNeg) = (-1000000005 : Int32) → Q (T.2 11 (((24 : Int32) * a1) + a2).toNatClampNeg) T)))))) ∧ (¬ (T.2 7 a1.toNatClampNeg) = (2 : Int32) → vp_in a1 5 ∧ (((T.2 7 a1.toNatClampNeg) = 0 → Q (-1000000011 : Int32) T) ∧ (¬ (T.2 7 a1.toNatClampNeg) = 0 → Q (-1000000012 : Int32) T))))))
def wX6_keep (T : TS) (Q : Int32 → TS → Prop) : Prop :=
  wX6_setAside 0 1 (tf T 3 (1 : Int32)) (fun T2 => vp_in (0 : Int32) 3114 ∧ (Q (T2.2 0 (0 : Int32).toNatClampNeg) T2))
def wX6_key (T : TS) (Q : Int32 → TS → Prop) : Prop :=
  wX6_isWordAt (109 : Int32) (97 : Int32) (121 : Int32) (0 : Int32) T (fun r1 T2 => (r1 = 0 → wX6_isWordAt (99 : Int32) (111 : Int32) (115 : Int32) (116 : Int32) T2 (fun r3 T4 => (r3 = 0 → wX6_isWordAt (98 : Int32) (111 : Int32) (108 : Int32) (100 : Int32) T4 (fun r5 T6 => (r5 = 0 → Q (-1 : Int32) T6) ∧ (¬ r5 = 0 → Q (2 : Int32) T6))) ∧ (¬ r3 = 0 → Q (1 : Int32) T4))) ∧ (¬ r1 = 0 → Q (0 : Int32) T2))
def wX6_worthOf (a0 : Int32) (a1 : Int32) (Q : Int32 → Prop) : Prop :=
  (a0 = 1 → Q (a1 + (5 : Int32))) ∧ (¬ a0 = 1 → (a0 = 2 → Q ((100 : Int32) - a1)) ∧ (¬ a0 = 2 → (a0 = 3 → Q ((2 : Int32) * (a1 + (5 : Int32)))) ∧ (¬ a0 = 3 → (a0 = 4 → Q ((93 : Int32) - a1)) ∧ (¬ a0 = 4 → (a0 = 5 → Q ((10 : Int32) * a1)) ∧ (¬ a0 = 5 → Q a1)))))
def wX6_lay_160 (Q : Int32 → TS → Prop) : Nat → Int32 → Int32 → Int32 → Int32 → TS → Prop
  | 0, _, _, _, _, _ => False
  | n + 1, l1, l3, l5, l6, T =>
  ((24 : Int32) ≤ l6 → Q l5 T) ∧ (¬ (24 : Int32) ≤ l6 → vp_in (((24 : Int32) * l3) + l6) 96 ∧ (vp_in (((24 : Int32) * l1) + l6) 120 ∧ (wX6_lay_160 Q n l1 l3 l5 (l6 + (1 : Int32)) (ts T 11 (((24 : Int32) * l1) + l6).toNatClampNeg (T.2 6 (((24 : Int32) * l3) + l6).toNatClampNeg)))))
def wX6_lay_139 (l1 : Int32) (l2 : Int32) (l3 : Int32) (l5 : Int32) (k0 : Int32) (k1 : Int32) (T : TS) (Q : Int32 → TS → Prop) : Prop :=
  vp_in k1 5 ∧ ((l2 = (2 : Int32) → vp_in l3 4 ∧ (vp_in l1 5 ∧ (∃ f_160, wX6_lay_160 Q f_160 l1 l3 l5 (0 : Int32) (ts (ts T 9 k1.toNatClampNeg k0) 10 l1.toNatClampNeg ((ts T 9 k1.toNatClampNeg k0).2 5 l3.toNatClampNeg))))) ∧ (¬ l2 = (2 : Int32) → Q l5 (ts T 9 k1.toNatClampNeg k0)))
def wX6_lay_109 (l1 : Int32) (l2 : Int32) (l3 : Int32) (l5 : Int32) (k0 : Int32) (k1 : Int32) (T : TS) (Q : Int32 → TS → Prop) : Prop :=
  vp_in k1 5 ∧ ((l2 = (1 : Int32) → wX6_of l3 (0 : Int32) (ts T 8 k1.toNatClampNeg k0) (fun r1 T2 => wX6_of l3 (1 : Int32) T2 (fun r3 T4 => wX6_worthOf r1 r3 (fun r5 => wX6_lay_139 l1 l2 l3 l5 r5 l1 T4 Q)))) ∧ (¬ l2 = (1 : Int32) → wX6_lay_139 l1 l2 l3 l5 (0 : Int32) l1 (ts T 8 k1.toNatClampNeg k0) Q))
def wX6_lay_74 (l1 : Int32) (l2 : Int32) (l3 : Int32) (T : TS) (Q : Int32 → TS → Prop) : Prop :=
  vp_in l1 5 ∧ (vp_in l1 5 ∧ ((l2 = (1 : Int32) → wX6_of l3 (0 : Int32) (ts T 7 l1.toNatClampNeg l2) (fun r1 T2 => wX6_lay_109 l1 l2 l3 (T.2 7 l1.toNatClampNeg) r1 l1 T2 Q)) ∧ (¬ l2 = (1 : Int32) → wX6_lay_109 l1 l2 l3 (T.2 7 l1.toNatClampNeg) l3 l1 (ts T 7 l1.toNatClampNeg l2) Q)))
def wX6_lay_39 (l1 : Int32) (l2 : Int32) (l3 : Int32) (k0 : Int32) (T : TS) (Q : Int32 → TS → Prop) : Prop :=
  wX6_isSlot l1 (fun r1 => (r1 = 0 → Q (-1000000001 : Int32) T) ∧ (¬ r1 = 0 → (k0 = 0 → Q (-1000000001 : Int32) T) ∧ (¬ k0 = 0 → (l2 = (2 : Int32) → vp_in l3 4 ∧ ((0 ≤ (T.2 4 l3.toNatClampNeg) → wX6_lay_74 l1 l2 l3 T Q) ∧ (¬ 0 ≤ (T.2 4 l3.toNatClampNeg) → Q (-1000000011 : Int32) T))) ∧ (¬ l2 = (2 : Int32) → wX6_lay_74 l1 l2 l3 T Q))))
def wX6_lay_34 (l1 : Int32) (l2 : Int32) (l3 : Int32) (T : TS) (Q : Int32 → TS → Prop) : Prop :=
  wX6_lay_39 l1 l2 l3 (1 : Int32) T Q
def wX6_lay_38 (l1 : Int32) (l2 : Int32) (l3 : Int32) (T : TS) (Q : Int32 → TS → Prop) : Prop :=
  wX6_lay_39 l1 l2 l3 (0 : Int32) T Q
def wX6_lay_22 (l1 : Int32) (l2 : Int32) (l3 : Int32) (T : TS) (Q : Int32 → TS → Prop) : Prop :=
  (l2 = (2 : Int32) → wX6_isSheet l3 (fun r1 => (r1 = 0 → wX6_lay_38 l1 l2 l3 T Q) ∧ (¬ r1 = 0 → wX6_lay_34 l1 l2 l3 T Q))) ∧ (¬ l2 = (2 : Int32) → wX6_lay_38 l1 l2 l3 T Q)
def wX6_lay (a1 : Int32) (a2 : Int32) (a3 : Int32) (T : TS) (Q : Int32 → TS → Prop) : Prop :=
  (a2 = 0 → wX6_lay_34 a1 a2 a3 T Q) ∧ (¬ a2 = 0 → (a2 = (3 : Int32) → wX6_lay_34 a1 a2 a3 T Q) ∧ (¬ a2 = (3 : Int32) → (a2 = (1 : Int32) → wX6_isPerson a3 T (fun r1 T2 => (r1 = 0 → wX6_lay_22 a1 a2 a3 T2 Q) ∧ (¬ r1 = 0 → wX6_lay_34 a1 a2 a3 T2 Q))) ∧ (¬ a2 = (1 : Int32) → wX6_lay_22 a1 a2 a3 T Q)))
def wX6_mark_126 (k0 : Int32) (k1 : Int32) (T : TS) (Q : Int32 → TS → Prop) : Prop :=
  vp_in k1 96 ∧ (Q (1 : Int32) (ts T 6 k1.toNatClampNeg k0))
def wX6_mark_96 (l1 : Int32) (l2 : Int32) (l3 : Int32) (T : TS) (Q : Int32 → TS → Prop) : Prop :=
  vp_in l1 4 ∧ (((T.2 4 l1.toNatClampNeg) = 0 → wX6_mark_126 ((l3 <<< ((16 : Int32) &&& 31)) >>> ((16 : Int32) &&& 31)) (((24 : Int32) * l1) + l2) T Q) ∧ (¬ (T.2 4 l1.toNatClampNeg) = 0 → wX6_mark_126 l3 (((24 : Int32) * l1) + l2) T Q))
def wX6_mark_63 (l1 : Int32) (l2 : Int32) (l3 : Int32) (T : TS) (Q : Int32 → TS → Prop) : Prop :=
  vp_in l1 4 ∧ (((T.2 4 l1.toNatClampNeg) = (1 : Int32) → (l3 = (-1000000005 : Int32) → wX6_mark_96 l1 l2 l3 T Q) ∧ (¬ l3 = (-1000000005 : Int32) → wX6_isIn l3.toInt64 (-99999 : Int64) (99999 : Int64) (fun r1 => (r1 = 0 → Q (-1000000001 : Int32) T) ∧ (¬ r1 = 0 → wX6_mark_96 l1 l2 l3 T Q)))) ∧ (¬ (T.2 4 l1.toNatClampNeg) = (1 : Int32) → wX6_mark_96 l1 l2 l3 T Q))
def wX6_mark (a1 : Int32) (a2 : Int32) (a3 : Int32) (T : TS) (Q : Int32 → TS → Prop) : Prop :=
  wX6_isSheet a1 (fun r1 => (r1 = 0 → Q (-1000000001 : Int32) T) ∧ (¬ r1 = 0 → vp_in a1 4 ∧ ((0 ≤ (T.2 4 a1.toNatClampNeg) → vp_in a1 4 ∧ (wX6_isIn a2.toInt64 (0 : Int64) (((T.2 5 a1.toNatClampNeg) - (1 : Int32)).toInt64) (fun r2 => (r2 = 0 → Q (-1000000013 : Int32) T) ∧ (¬ r2 = 0 → vp_in a1 4 ∧ (((T.2 4 a1.toNatClampNeg) = 0 → (a3 = (-1000000005 : Int32) → Q (-1000000012 : Int32) T) ∧ (¬ a3 = (-1000000005 : Int32) → wX6_mark_63 a1 a2 a3 T Q)) ∧ (¬ (T.2 4 a1.toNatClampNeg) = 0 → wX6_mark_63 a1 a2 a3 T Q)))))) ∧ (¬ 0 ≤ (T.2 4 a1.toNatClampNeg) → Q (-1000000011 : Int32) T))))
def wX6_meant (a1 : Int32) (T : TS) (Q : Int32 → TS → Prop) : Prop :=
  wX6_isDeed a1 T (fun r1 T2 => (r1 = 0 → Q (-1000000001 : Int32) T2) ∧ (¬ r1 = 0 → wX6_dee a1 (3 : Int32) T2 (fun r3 T4 => wX6_greatest r3 (fun r5 => (0 ≤ r5 → wX6_left a1 T4 (fun r6 T7 => Q (r6 &&& (((1 : Int32) <<< (r5 &&& 31)) - (1 : Int32))) T7)) ∧ (¬ 0 ≤ r5 → Q (0 : Int32) T4)))))
def wX6_most_36 (k_4 : Int32 → Int32 → TS → Prop) (l2 : Int32) (k0 : Int32) (T : TS) (Q : Int32 → TS → Prop) : Prop :=
  k_4 k0 (l2 + (1 : Int32)) T
def wX6_most_31 (k_4 : Int32 → Int32 → TS → Prop) (l2 : Int32) (T : TS) (Q : Int32 → TS → Prop) : Prop :=
  wX6_most_36 k_4 l2 l2 T Q
def wX6_most_4 (Q : Int32 → TS → Prop) : Nat → Int32 → Int32 → TS → Prop
  | 0, _, _, _ => False
  | n + 1, l1, l2, T =>
  vp_in (0 : Int32) 3114 ∧ (((T.2 0 (0 : Int32).toNatClampNeg) ≤ l2 → wX6_orNone l1 (fun r1 => Q r1 T)) ∧ (¬ (T.2 0 (0 : Int32).toNatClampNeg) ≤ l2 → (l1 < 0 → wX6_most_31 (fun z0 z1 z2 => wX6_most_4 Q n z0 z1 z2) l2 T Q) ∧ (¬ l1 < 0 → wX6_fallsOn l2 T (fun r2 T3 => wX6_fallsOn l1 T3 (fun r4 T5 => (r2 ≤ r4 → wX6_most_36 (fun z0 z1 z2 => wX6_most_4 Q n z0 z1 z2) l2 l1 T5 Q) ∧ (¬ r2 ≤ r4 → wX6_most_31 (fun z0 z1 z2 => wX6_most_4 Q n z0 z1 z2) l2 T5 Q))))))
def wX6_most (T : TS) (Q : Int32 → TS → Prop) : Prop :=
  ∃ f_4, wX6_most_4 Q f_4 (-1 : Int32) (0 : Int32) T
def wX6_person (a1 : Int32) (a2 : Int32) (T : TS) (Q : Int32 → TS → Prop) : Prop :=
  wX6_isIn a1.toInt64 (0 : Int64) (5 : Int64) (fun r1 => (r1 = 0 → Q (-1000000001 : Int32) T) ∧ (¬ r1 = 0 → wX6_isIn a2.toInt64 (0 : Int64) (100 : Int64) (fun r2 => (r2 = 0 → Q (-1000000001 : Int32) T) ∧ (¬ r2 = 0 → vp_in (0 : Int32) 3114 ∧ (((T.2 0 (0 : Int32).toNatClampNeg) = (12 : Int32) → Q (-1000000003 : Int32) T) ∧ (¬ (T.2 0 (0 : Int32).toNatClampNeg) = (12 : Int32) → wX6_comes a1 a2 (0 : Int32) T (fun T4 => vp_in (0 : Int32) 3114 ∧ (Q ((T4.2 0 (0 : Int32).toNatClampNeg) - (1 : Int32)) T4))))))))
def wX6_pour_114 (k_27 : Int32 → Int32 → Int32 → TS → Prop) (l1 : Int32) (l3 : Int32) (k0 : Int32) (k1 : Int32) (T : TS) (Q : Int32 → TS → Prop) : Prop :=
  k_27 l1 (k1 + k0) (l3 + (1 : Int32)) T
def wX6_pour_87 (k_27 : Int32 → Int32 → Int32 → TS → Prop) (l1 : Int32) (l2 : Int32) (l3 : Int32) (k0 : Int32) (T : TS) (Q : Int32 → TS → Prop) : Prop :=
  wX6_becomes (((6 : Int32) + ((5 : Int32) * l3)) + (1 : Int32)) k0 T (fun r1 T2 => (r1 = k0 → wX6_pour_114 k_27 l1 l3 (0 : Int32) l2 T2 Q) ∧ (¬ r1 = k0 → wX6_pour_114 k_27 l1 l3 (1 : Int32) l2 T2 Q))
def wX6_pour_27 (Q : Int32 → TS → Prop) : Nat → Int32 → Int32 → Int32 → TS → Prop
  | 0, _, _, _, _ => False
  | n + 1, l1, l2, l3, T =>
  vp_in l1 4 ∧ (((T.2 5 l1.toNatClampNeg) ≤ l3 → Q l2 T) ∧ (¬ (T.2 5 l1.toNatClampNeg) ≤ l3 → vp_in (0 : Int32) 3114 ∧ (((T.2 0 (0 : Int32).toNatClampNeg) ≤ l3 → Q l2 T) ∧ (¬ (T.2 0 (0 : Int32).toNatClampNeg) ≤ l3 → vp_in (((24 : Int32) * l1) + l3) 96 ∧ (wX6_of l3 (1 : Int32) T (fun r1 T2 => ((T.2 6 (((24 : Int32) * l1) + l3).toNatClampNeg) = (-1000000005 : Int32) → wX6_pour_87 (fun z0 z1 z2 z3 => wX6_pour_27 Q n z0 z1 z2 z3) l1 l2 l3 r1 T2 Q) ∧ (¬ (T.2 6 (((24 : Int32) * l1) + l3).toNatClampNeg) = (-1000000005 : Int32) → wX6_within (T.2 6 (((24 : Int32) * l1) + l3).toNatClampNeg) (100 : Int32) (fun r3 => wX6_pour_87 (fun z0 z1 z2 z3 => wX6_pour_27 Q n z0 z1 z2 z3) l1 l2 l3 r3 T2 Q))))))))
def wX6_pour (a1 : Int32) (T : TS) (Q : Int32 → TS → Prop) : Prop :=
  wX6_isSheet a1 (fun r1 => (r1 = 0 → Q (-1000000001 : Int32) T) ∧ (¬ r1 = 0 → vp_in a1 4 ∧ ((0 ≤ (T.2 4 a1.toNatClampNeg) → ∃ f_27, wX6_pour_27 Q f_27 a1 (0 : Int32) (0 : Int32) T) ∧ (¬ 0 ≤ (T.2 4 a1.toNatClampNeg) → Q (-1000000011 : Int32) T))))
def wX6_proved_60 (k_19 : Int32 → Int32 → Int32 → TS → Prop) (l1 : Int32) (l3 : Int32) (k0 : Int32) (k1 : Int32) (T : TS) (Q : Int32 → TS → Prop) : Prop :=
  k_19 l1 (k1 &&& k0) (l3 + (1 : Int32)) T
def wX6_proved_19 (Q : Int32 → TS → Prop) : Nat → Int32 → Int32 → Int32 → TS → Prop
  | 0, _, _, _, _ => False
  | n + 1, l1, l2, l3, T =>
  vp_in (0 : Int32) 3114 ∧ (((T.2 0 (0 : Int32).toNatClampNeg) ≤ l3 → Q l2 T) ∧ (¬ (T.2 0 (0 : Int32).toNatClampNeg) ≤ l3 → wX6_of l3 (2 : Int32) T (fun r1 T2 => wX6_dee l1 (1 : Int32) T2 (fun r3 T4 => (((r1 >>> (r3 &&& 31)) &&& (1 : Int32)) = (1 : Int32) → wX6_goBy l3 T4 (fun r5 T6 => wX6_proved_60 (fun z0 z1 z2 z3 => wX6_proved_19 Q n z0 z1 z2 z3) l1 l3 (r5 ^^^ (-1 : Int32)) l2 T6 Q)) ∧ (¬ ((r1 >>> (r3 &&& 31)) &&& (1 : Int32)) = (1 : Int32) → wX6_proved_60 (fun z0 z1 z2 z3 => wX6_proved_19 Q n z0 z1 z2 z3) l1 l3 (-1 : Int32) l2 T4 Q)))))
def wX6_proved (a1 : Int32) (T : TS) (Q : Int32 → TS → Prop) : Prop :=
  wX6_isDeed a1 T (fun r1 T2 => (r1 = 0 → Q (-1000000001 : Int32) T2) ∧ (¬ r1 = 0 → wX6_left a1 T2 (fun r3 T4 => ∃ f_19, wX6_proved_19 Q f_19 a1 r3 (0 : Int32) T4)))
def wX6_reads_75 (k_25 : Int32 → Int32 → TS → Prop) (l1 : Int32) (l2 : Int32) (T : TS) (Q : Int32 → TS → Prop) : Prop :=
  k_25 l1 (l2 + (1 : Int32)) T
def wX6_reads_25 (Q : Int32 → TS → Prop) : Nat → Int32 → Int32 → TS → Prop
  | 0, _, _, _ => False
  | n + 1, l1, l2, T =>
  vp_in l1 4 ∧ (((T.2 5 l1.toNatClampNeg) ≤ l2 → Q (-1000000005 : Int32) T) ∧ (¬ (T.2 5 l1.toNatClampNeg) ≤ l2 → vp_in (((24 : Int32) * l1) + l2) 96 ∧ (((T.2 6 (((24 : Int32) * l1) + l2).toNatClampNeg) = (-1000000005 : Int32) → wX6_reads_75 (fun z0 z1 z2 => wX6_reads_25 Q n z0 z1 z2) l1 l2 T Q) ∧ (¬ (T.2 6 (((24 : Int32) * l1) + l2).toNatClampNeg) = (-1000000005 : Int32) → wX6_isDeed l2 T (fun r1 T2 => (r1 = 0 → Q l2 T2) ∧ (¬ r1 = 0 → wX6_left l2 T2 (fun r3 T4 => wX6_ones r3 (fun r5 => ((T.2 6 (((24 : Int32) * l1) + l2).toNatClampNeg) = r5 → wX6_reads_75 (fun z0 z1 z2 => wX6_reads_25 Q n z0 z1 z2) l1 l2 T4 Q) ∧ (¬ (T.2 6 (((24 : Int32) * l1) + l2).toNatClampNeg) = r5 → Q l2 T4)))))))))
def wX6_reads (a1 : Int32) (T : TS) (Q : Int32 → TS → Prop) : Prop :=
  wX6_isSheet a1 (fun r1 => (r1 = 0 → Q (-1000000001 : Int32) T) ∧ (¬ r1 = 0 → vp_in a1 4 ∧ ((0 ≤ (T.2 4 a1.toNatClampNeg) → ∃ f_25, wX6_reads_25 Q f_25 a1 (0 : Int32) T) ∧ (¬ 0 ≤ (T.2 4 a1.toNatClampNeg) → Q (-1000000011 : Int32) T))))
def wX6_rest (a1 : Int32) (a2 : Int32) (T : TS) (Q : Int32 → TS → Prop) : Prop :=
  wX6_isSlot a1 (fun r1 => (r1 = 0 → Q (-1000000001 : Int32) T) ∧ (¬ r1 = 0 → vp_in a1 5 ∧ (((T.2 7 a1.toNatClampNeg) = (3 : Int32) → (a2 = 0 → Q (-1000000002 : Int32) T) ∧ (¬ a2 = 0 → vp_in a1 5 ∧ ((¬ a2 = 0) ∧ (Q ((T.2 8 a1.toNatClampNeg) - (T.2 8 a1.toNatClampNeg) / a2 * a2) T)))) ∧ (¬ (T.2 7 a1.toNatClampNeg) = (3 : Int32) → vp_in a1 5 ∧ (((T.2 7 a1.toNatClampNeg) = 0 → Q (-1000000011 : Int32) T) ∧ (¬ (T.2 7 a1.toNatClampNeg) = 0 → Q (-1000000012 : Int32) T))))))
def wX6_rounds_28 (Q : Int32 → TS → Prop) : Nat → Int32 → Int32 → Int32 → Int32 → TS → Prop
  | 0, _, _, _, _, _ => False
  | n + 1, l1, l2, l3, l4, T =>
  (l2 ≤ l4 → Q l3 T) ∧ (¬ l2 ≤ l4 → wX6_rounded l1 T (fun r1 T2 => wX6_rounds_28 Q n l1 l2 (l3 + r1) (l4 + (1 : Int32)) T2))
def wX6_rounds (a1 : Int32) (a2 : Int32) (T : TS) (Q : Int32 → TS → Prop) : Prop :=
  wX6_isDeed a1 T (fun r1 T2 => (r1 = 0 → Q (-1000000001 : Int32) T2) ∧ (¬ r1 = 0 → wX6_isIn a2.toInt64 (1 : Int64) (40 : Int64) (fun r3 => (r3 = 0 → Q (-1000000001 : Int32) T2) ∧ (¬ r3 = 0 → ∃ f_28, wX6_rounds_28 Q f_28 a1 a2 (0 : Int32) (0 : Int32) T2))))
def wX6_say (a1 : Int32) (a2 : Int32) (a3 : Int32) (T : TS) (Q : Int32 → TS → Prop) : Prop :=
  wX6_isPerson a1 T (fun r1 T2 => (r1 = 0 → Q (-1000000001 : Int32) T2) ∧ (¬ r1 = 0 → wX6_isDeed a2 T2 (fun r3 T4 => (r3 = 0 → Q (-1000000001 : Int32) T4) ∧ (¬ r3 = 0 → wX6_isPerson a3 T4 (fun r5 T6 => (r5 = 0 → Q (-1000000001 : Int32) T6) ∧ (¬ r5 = 0 → wX6_mayBe a1 a2 a3 T6 (fun r7 T8 => (r7 = 0 → Q (-1000000002 : Int32) T8) ∧ (¬ r7 = 0 → wX6_says a2 a3 T8 (fun T10 => wX6_left a2 T10 (fun r11 T12 => wX6_ones r11 (fun r13 => Q r13 T12)))))))))))
def wX6_seed (a1 : Int32) (T : TS) (Q : Int32 → TS → Prop) : Prop :=
  wX6_becomes (4 : Int32) a1 T (fun r1 T2 => Q r1 T2)
def wX6_sheet_69 (Q : Int32 → TS → Prop) : Nat → Int32 → Int32 → TS → Prop
  | 0, _, _, _ => False
  | n + 1, l1, l4, T =>
  ((24 : Int32) ≤ l4 → vp_in l1 4 ∧ (Q (T.2 5 l1.toNatClampNeg) T)) ∧ (¬ (24 : Int32) ≤ l4 → vp_in (((24 : Int32) * l1) + l4) 96 ∧ (wX6_sheet_69 Q n l1 (l4 + (1 : Int32)) (ts T 6 (((24 : Int32) * l1) + l4).toNatClampNeg (0 : Int32))))
def wX6_sheet_65 (l1 : Int32) (k0 : Int32) (k1 : Int32) (T : TS) (Q : Int32 → TS → Prop) : Prop :=
  vp_in k1 4 ∧ (∃ f_69, wX6_sheet_69 Q f_69 l1 (0 : Int32) (ts T 5 k1.toNatClampNeg k0))
def wX6_sheet_44 (l1 : Int32) (l2 : Int32) (l3 : Int32) (T : TS) (Q : Int32 → TS → Prop) : Prop :=
  vp_in l1 4 ∧ ((0 ≤ l2 → wX6_sheet_65 l1 l3 l1 (ts T 4 l1.toNatClampNeg l2) Q) ∧ (¬ 0 ≤ l2 → wX6_sheet_65 l1 (0 : Int32) l1 (ts T 4 l1.toNatClampNeg l2) Q))
def wX6_sheet_32 (l1 : Int32) (l2 : Int32) (l3 : Int32) (T : TS) (Q : Int32 → TS → Prop) : Prop :=
  (l2 < 0 → wX6_sheet_44 l1 l2 l3 T Q) ∧ (¬ l2 < 0 → (0 ≤ l3 → wX6_sheet_44 l1 l2 l3 T Q) ∧ (¬ 0 ≤ l3 → Q (-1000000014 : Int32) T))
def wX6_sheet (a1 : Int32) (a2 : Int32) (a3 : Int32) (T : TS) (Q : Int32 → TS → Prop) : Prop :=
  wX6_isSheet a1 (fun r1 => (r1 = 0 → Q (-1000000001 : Int32) T) ∧ (¬ r1 = 0 → wX6_isIn a2.toInt64 (-1 : Int64) (1 : Int64) (fun r2 => (r2 = 0 → Q (-1000000001 : Int32) T) ∧ (¬ r2 = 0 → (a2 < 0 → wX6_sheet_32 a1 a2 a3 T Q) ∧ (¬ a2 < 0 → (a3 ≤ (24 : Int32) → wX6_sheet_32 a1 a2 a3 T Q) ∧ (¬ a3 ≤ (24 : Int32) → Q (-1000000001 : Int32) T))))))
def wX6_silent_7 (Q : Int32 → TS → Prop) : Nat → Int32 → Int32 → TS → Prop
  | 0, _, _, _ => False
  | n + 1, l1, l2, T =>
  vp_in (1 : Int32) 3114 ∧ (((T.2 0 (1 : Int32).toNatClampNeg) ≤ l2 → Q l1 T) ∧ (¬ (T.2 0 (1 : Int32).toNatClampNeg) ≤ l2 → wX6_left l2 T (fun r1 T2 => wX6_silent_7 Q n (l1 &&& r1) (l2 + (1 : Int32)) T2)))
def wX6_silent (T : TS) (Q : Int32 → TS → Prop) : Prop :=
  wX6_everybody T (fun r1 T2 => ∃ f_7, wX6_silent_7 Q f_7 r1 (0 : Int32) T2)
def wX6_stop (a1 : Int32) (T : TS) (Q : Int32 → TS → Prop) : Prop :=
  wX6_isIn a1.toInt64 (0 : Int64) (4 : Int64) (fun r1 => (r1 = 0 → Q (-1000000001 : Int32) T) ∧ (¬ r1 = 0 → wX6_becomes (3 : Int32) a1 T (fun r2 T3 => Q r2 T3)))
def wX6_tell (a1 : Int32) (T : TS) (Q : Int32 → TS → Prop) : Prop :=
  ((T.1 29) = (60 : Int32) → Q (-1000000003 : Int32) T) ∧ (¬ (T.1 29) = (60 : Int32) → vp_in (T.1 29) 60 ∧ (Q ((tf (ts T 28 (T.1 29).toNatClampNeg a1) 29 (((ts T 28 (T.1 29).toNatClampNeg a1).1 29) + (1 : Int32))).1 29) (tf (ts T 28 (T.1 29).toNatClampNeg a1) 29 (((ts T 28 (T.1 29).toNatClampNeg a1).1 29) + (1 : Int32)))))
def wX6_textTold (a1 : Int32) (a2 : Int32) (T : TS) (Q : Int32 → TS → Prop) : Prop :=
  wX6_isText a1 T (fun r1 T2 => (r1 = 0 → Q (-1000000001 : Int32) T2) ∧ (¬ r1 = 0 → wX6_isIn a2.toInt64 (0 : Int64) (1 : Int64) (fun r3 => (r3 = 0 → Q (-1000000001 : Int32) T2) ∧ (¬ r3 = 0 → wX6_textAt a1 T2 (fun r4 T5 => vp_in (r4 + a2) 3114 ∧ (Q (T5.2 0 (r4 + a2).toNatClampNeg) T5))))))
def wX6_told (a1 : Int32) (a2 : Int32) (T : TS) (Q : Int32 → TS → Prop) : Prop :=
  wX6_isPerson a1 T (fun r1 T2 => (r1 = 0 → Q (-1000000001 : Int32) T2) ∧ (¬ r1 = 0 → (a2 = 0 → wX6_of a1 a2 T2 (fun r3 T4 => Q r3 T4)) ∧ (¬ a2 = 0 → (a2 = 1 → wX6_of a1 a2 T2 (fun r5 T6 => Q r5 T6)) ∧ (¬ a2 = 1 → (a2 = 2 → wX6_of a1 a2 T2 (fun r7 T8 => Q r7 T8)) ∧ (¬ a2 = 2 → (a2 = 3 → wX6_of a1 a2 T2 (fun r9 T10 => Q r9 T10)) ∧ (¬ a2 = 3 → (a2 = 4 → wX6_followers a1 T2 (fun r11 T12 => Q r11 T12)) ∧ (¬ a2 = 4 → (a2 = 5 → wX6_of a1 (0 : Int32) T2 (fun r13 T14 => wX6_of a1 (1 : Int32) T14 (fun r15 T16 => wX6_worthOf r13 r15 (fun r17 => Q r17 T16)))) ∧ (¬ a2 = 5 → (a2 = 6 → wX6_goneOn a1 T2 (fun r18 T19 => Q r18 T19)) ∧ (¬ a2 = 6 → Q (-1000000001 : Int32) T2)))))))))
def wX6_trim (a1 : Int32) (T : TS) (Q : Int32 → TS → Prop) : Prop :=
  wX6_isIn a1.toInt64 (0 : Int64) ((T.1 14).toInt64) (fun r1 => (r1 = 0 → Q (-1000000001 : Int32) T) ∧ (¬ r1 = 0 → Q a1 (tf T 14 a1)))
def wX6_turns (a1 : Int32) (a2 : Int32) (T : TS) (Q : Int32 → TS → Prop) : Prop :=
  wX6_isPerson a1 T (fun r1 T2 => (r1 = 0 → Q (-1000000001 : Int32) T2) ∧ (¬ r1 = 0 → wX6_isIn a2.toInt64 (0 : Int64) (5 : Int64) (fun r3 => (r3 = 0 → Q (-1000000001 : Int32) T2) ∧ (¬ r3 = 0 → wX6_becomes ((6 : Int32) + ((5 : Int32) * a1)) a2 T2 (fun r4 T5 => Q r4 T5)))))
def wX6_why (a1 : Int32) (T : TS) (Q : Int32 → TS → Prop) : Prop :=
  wX6_isIn a1.toInt64 (0 : Int64) (2 : Int64) (fun r1 => (r1 = 0 → Q (-1000000001 : Int32) T) ∧ (¬ r1 = 0 → wX6_counts a1 T (fun r2 T3 => wX6_orNone r2 (fun r4 => Q r4 T3))))
def wX6_term_28 (P : Int32 → TS → (Int32 → TS → Prop) → Prop) (k_10 : Int32 → TS → Prop) (l1 : Int32) (T : TS) (Q : Int32 → TS → Prop) : Prop :=
  wX6_nextToken T (fun T2 => P l1 T2 (fun r3 T4 => (r3 = 0 → Q (0 : Int32) T4) ∧ (¬ r3 = 0 → wX6_step (2 : Int32) (T.1 19) T4 (fun T6 => k_10 l1 T6))))
def wX6_term_10 (P : Int32 → TS → (Int32 → TS → Prop) → Prop) (Q : Int32 → TS → Prop) : Nat → Int32 → TS → Prop
  | 0, _, _ => False
  | n + 1, l1, T =>
  wX6_isSign (42 : Int32) T (fun r1 T2 => (r1 = 0 → wX6_isSign (47 : Int32) T2 (fun r3 T4 => (r3 = 0 → Q (1 : Int32) T4) ∧ (¬ r3 = 0 → wX6_term_28 P (fun z0 z1 => wX6_term_10 P Q n z0 z1) l1 T4 Q))) ∧ (¬ r1 = 0 → wX6_term_28 P (fun z0 z1 => wX6_term_10 P Q n z0 z1) l1 T2 Q))
def wX6_term (P : Int32 → TS → (Int32 → TS → Prop) → Prop) (a1 : Int32) (T : TS) (Q : Int32 → TS → Prop) : Prop :=
  P a1 T (fun r1 T2 => (r1 = 0 → Q (0 : Int32) T2) ∧ (¬ r1 = 0 → ∃ f_10, wX6_term_10 P Q f_10 a1 T2))
def wX6_sum_28 (P : Int32 → TS → (Int32 → TS → Prop) → Prop) (k_10 : Int32 → TS → Prop) (l1 : Int32) (T : TS) (Q : Int32 → TS → Prop) : Prop :=
  wX6_nextToken T (fun T2 => wX6_term P l1 T2 (fun r3 T4 => (r3 = 0 → Q (0 : Int32) T4) ∧ (¬ r3 = 0 → wX6_step (2 : Int32) (T.1 19) T4 (fun T6 => k_10 l1 T6))))
def wX6_sum_10 (P : Int32 → TS → (Int32 → TS → Prop) → Prop) (Q : Int32 → TS → Prop) : Nat → Int32 → TS → Prop
  | 0, _, _ => False
  | n + 1, l1, T =>
  wX6_isSign (43 : Int32) T (fun r1 T2 => (r1 = 0 → wX6_isSign (45 : Int32) T2 (fun r3 T4 => (r3 = 0 → Q (1 : Int32) T4) ∧ (¬ r3 = 0 → wX6_sum_28 P (fun z0 z1 => wX6_sum_10 P Q n z0 z1) l1 T4 Q))) ∧ (¬ r1 = 0 → wX6_sum_28 P (fun z0 z1 => wX6_sum_10 P Q n z0 z1) l1 T2 Q))
def wX6_sum (P : Int32 → TS → (Int32 → TS → Prop) → Prop) (a1 : Int32) (T : TS) (Q : Int32 → TS → Prop) : Prop :=
  wX6_term P a1 T (fun r1 T2 => (r1 = 0 → Q (0 : Int32) T2) ∧ (¬ r1 = 0 → ∃ f_10, wX6_sum_10 P Q f_10 a1 T2))
def wX6_test_37 (P : Int32 → TS → (Int32 → TS → Prop) → Prop) (l1 : Int32) (T : TS) (Q : Int32 → TS → Prop) : Prop :=
  wX6_nextToken T (fun T2 => wX6_sum P l1 T2 (fun r3 T4 => (r3 = 0 → Q (0 : Int32) T4) ∧ (¬ r3 = 0 → wX6_step (2 : Int32) (T.1 19) T4 (fun T6 => Q (1 : Int32) T6))))
def wX6_test (P : Int32 → TS → (Int32 → TS → Prop) → Prop) (a1 : Int32) (T : TS) (Q : Int32 → TS → Prop) : Prop :=
  wX6_sum P a1 T (fun r1 T2 => (r1 = 0 → Q (0 : Int32) T2) ∧ (¬ r1 = 0 → wX6_isSign (60 : Int32) T2 (fun r3 T4 => (r3 = 0 → wX6_isSign (61 : Int32) T4 (fun r5 T6 => (r5 = 0 → wX6_isSign (62 : Int32) T6 (fun r7 T8 => (r7 = 0 → Q (1 : Int32) T8) ∧ (¬ r7 = 0 → wX6_test_37 P a1 T8 Q))) ∧ (¬ r5 = 0 → wX6_test_37 P a1 T6 Q))) ∧ (¬ r3 = 0 → wX6_test_37 P a1 T4 Q))))
def wX6_both_10 (P : Int32 → TS → (Int32 → TS → Prop) → Prop) (Q : Int32 → TS → Prop) : Nat → Int32 → TS → Prop
  | 0, _, _ => False
  | n + 1, l1, T =>
  wX6_isSign (38 : Int32) T (fun r1 T2 => (r1 = 0 → Q (1 : Int32) T2) ∧ (¬ r1 = 0 → wX6_nextToken T2 (fun T4 => wX6_test P l1 T4 (fun r5 T6 => (r5 = 0 → Q (0 : Int32) T6) ∧ (¬ r5 = 0 → wX6_step (2 : Int32) (38 : Int32) T6 (fun T8 => wX6_both_10 P Q n l1 T8))))))
def wX6_both (P : Int32 → TS → (Int32 → TS → Prop) → Prop) (a1 : Int32) (T : TS) (Q : Int32 → TS → Prop) : Prop :=
  wX6_test P a1 T (fun r1 T2 => (r1 = 0 → Q (0 : Int32) T2) ∧ (¬ r1 = 0 → ∃ f_10, wX6_both_10 P Q f_10 a1 T2))
def wX6_either_10 (P : Int32 → TS → (Int32 → TS → Prop) → Prop) (Q : Int32 → TS → Prop) : Nat → Int32 → TS → Prop
  | 0, _, _ => False
  | n + 1, l1, T =>
  wX6_isSign (124 : Int32) T (fun r1 T2 => (r1 = 0 → Q (1 : Int32) T2) ∧ (¬ r1 = 0 → wX6_nextToken T2 (fun T4 => wX6_both P l1 T4 (fun r5 T6 => (r5 = 0 → Q (0 : Int32) T6) ∧ (¬ r5 = 0 → wX6_step (2 : Int32) (124 : Int32) T6 (fun T8 => wX6_either_10 P Q n l1 T8))))))
def wX6_either (P : Int32 → TS → (Int32 → TS → Prop) → Prop) (a1 : Int32) (T : TS) (Q : Int32 → TS → Prop) : Prop :=
  wX6_both P a1 T (fun r1 T2 => (r1 = 0 → Q (0 : Int32) T2) ∧ (¬ r1 = 0 → ∃ f_10, wX6_either_10 P Q f_10 a1 T2))
def wX6_part0B_145 (P : Int32 → TS → (Int32 → TS → Prop) → Prop) (l1 : Int32) (T : TS) (Q : Int32 → TS → Prop) : Prop :=
  wX6_isSign (40 : Int32) T (fun r1 T2 => (r1 = 0 → Q (0 : Int32) T2) ∧ (¬ r1 = 0 → ((T2.1 20) = (8 : Int32) → Q (0 : Int32) T2) ∧ (¬ (T2.1 20) = (8 : Int32) → wX6_nextToken (tf T2 20 ((T2.1 20) + (1 : Int32))) (fun T4 => wX6_either P l1 T4 (fun r5 T6 => (r5 = 0 → Q (0 : Int32) T6) ∧ (¬ r5 = 0 → wX6_isSign (41 : Int32) T6 (fun r7 T8 => (r7 = 0 → Q (0 : Int32) T8) ∧ (¬ r7 = 0 → wX6_nextToken (tf T8 20 ((T8.1 20) - (1 : Int32))) (fun T10 => Q (1 : Int32) T10)))))))))
def wX6_part0B_84 (P : Int32 → TS → (Int32 → TS → Prop) → Prop) (l1 : Int32) (T : TS) (Q : Int32 → TS → Prop) : Prop :=
  wX6_isSign (33 : Int32) T (fun r1 T2 => (r1 = 0 → wX6_part0B_145 P l1 T2 Q) ∧ (¬ r1 = 0 → ((8 : Int32) ≤ (T2.1 21) → wX6_part0B_145 P l1 T2 Q) ∧ (¬ (8 : Int32) ≤ (T2.1 21) → wX6_nextToken (tf T2 21 ((T2.1 21) + (1 : Int32))) (fun T4 => P l1 T4 (fun r5 T6 => (r5 = 0 → Q (0 : Int32) T6) ∧ (¬ r5 = 0 → wX6_step (2 : Int32) (33 : Int32) (tf T6 21 ((T6.1 21) - (1 : Int32))) (fun T8 => Q (1 : Int32) T8)))))))
def wX6_part0B (P : Int32 → TS → (Int32 → TS → Prop) → Prop) (a1 : Int32) (T : TS) (Q : Int32 → TS → Prop) : Prop :=
  ((T.1 17) = (2 : Int32) → wX6_step (0 : Int32) (T.1 18) T (fun T7 => wX6_nextToken (tf T7 24 ((T7.1 24) + (1 : Int32))) (fun T9 => Q (1 : Int32) T9))) ∧ (¬ (T.1 17) = (2 : Int32) → ((T.1 17) = (1 : Int32) → ((T.1 19) = 0 → wX6_part0B_84 P a1 T Q) ∧ (¬ (T.1 19) = 0 → wX6_isName a1 (T.1 19) (fun r1 => (r1 = 0 → wX6_part0B_84 P a1 T Q) ∧ (¬ r1 = 0 → wX6_step (1 : Int32) (T.1 19) T (fun T3 => wX6_nextToken (tf T3 24 ((T3.1 24) + (1 : Int32))) (fun T5 => Q (1 : Int32) T5)))))) ∧ (¬ (T.1 17) = (1 : Int32) → wX6_part0B_84 P a1 T Q))
def wX6_part0 : Nat → Int32 → TS → (Int32 → TS → Prop) → Prop
  | 0, _, _, _ => False
  | d + 1, a, T, Q => wX6_part0B (fun a T Q => wX6_part0 d a T Q) a T Q
def wX6_eitherC (a1 : Int32) (T : TS) (Q : Int32 → TS → Prop) : Prop := wX6_either (fun a T Q => wX6_part0 20 a T Q) a1 T Q
def wX6_parse_111 (l1 : Int32) (l2 : Int32) (T : TS) (Q : Int32 → TS → Prop) : Prop :=
  (l2 = 0 → Q (-1 : Int32) (tf T 14 (0 : Int32))) ∧ (¬ l2 = 0 → Q l1 (tf T 14 (0 : Int32)))
def wX6_parse_110 (l1 : Int32) (k0 : Int32) (T : TS) (Q : Int32 → TS → Prop) : Prop :=
  wX6_parse_111 l1 k0 T Q
def wX6_parse_109 (l1 : Int32) (T : TS) (Q : Int32 → TS → Prop) : Prop :=
  wX6_parse_110 l1 (0 : Int32) T Q
def wX6_parse_81 (l1 : Int32) (k0 : Int32) (T : TS) (Q : Int32 → TS → Prop) : Prop :=
  (k0 = 0 → wX6_parse_111 l1 k0 T Q) ∧ (¬ k0 = 0 → wX6_nextToken T (fun T2 => wX6_eitherC l1 T2 (fun r3 T4 => (r3 = 0 → wX6_parse_109 l1 T4 Q) ∧ (¬ r3 = 0 → ((T4.1 17) = 0 → wX6_parse_110 l1 (1 : Int32) T4 Q) ∧ (¬ (T4.1 17) = 0 → wX6_parse_109 l1 T4 Q)))))
def wX6_parse_60 (k0 : Int32) (T : TS) (Q : Int32 → TS → Prop) : Prop :=
  wX6_nextToken (tf T 23 k0) (fun T2 => wX6_key T2 (fun r3 T4 => (r3 < 0 → wX6_parse_81 r3 (0 : Int32) T4 Q) ∧ (¬ r3 < 0 → wX6_parse_81 r3 (1 : Int32) T4 Q)))
def wX6_parse (T : TS) (Q : Int32 → TS → Prop) : Prop :=
  vp_in (2 : Int32) 3114 ∧ (((14 : Int32) ≤ ((tf (tf (tf (tf (tf (tf T 16 (0 : Int32)) 17 (3 : Int32)) 20 (0 : Int32)) 21 (0 : Int32)) 22 (0 : Int32)) 24 (0 : Int32)).2 0 (2 : Int32).toNatClampNeg) → wX6_parse_60 (2914 : Int32) (tf (tf (tf (tf (tf (tf T 16 (0 : Int32)) 17 (3 : Int32)) 20 (0 : Int32)) 21 (0 : Int32)) 22 (0 : Int32)) 24 (0 : Int32)) Q) ∧ (¬ (14 : Int32) ≤ ((tf (tf (tf (tf (tf (tf T 16 (0 : Int32)) 17 (3 : Int32)) 20 (0 : Int32)) 21 (0 : Int32)) 22 (0 : Int32)) 24 (0 : Int32)).2 0 (2 : Int32).toNatClampNeg) → vp_in (2 : Int32) 3114 ∧ (wX6_textAt ((tf (tf (tf (tf (tf (tf T 16 (0 : Int32)) 17 (3 : Int32)) 20 (0 : Int32)) 21 (0 : Int32)) 22 (0 : Int32)) 24 (0 : Int32)).2 0 (2 : Int32).toNatClampNeg) (tf (tf (tf (tf (tf (tf T 16 (0 : Int32)) 17 (3 : Int32)) 20 (0 : Int32)) 21 (0 : Int32)) 22 (0 : Int32)) 24 (0 : Int32)) (fun r1 T2 => wX6_parse_60 (r1 + (4 : Int32)) T2 Q))))
def wX6_text (T : TS) (Q : Int32 → TS → Prop) : Prop :=
  wX6_parse T (fun r1 T2 => (0 ≤ r1 → vp_in (2 : Int32) 3114 ∧ (((T2.2 0 (2 : Int32).toNatClampNeg) = (14 : Int32) → Q (-1000000003 : Int32) T2) ∧ (¬ (T2.2 0 (2 : Int32).toNatClampNeg) = (14 : Int32) → vp_in (2 : Int32) 3114 ∧ (wX6_textAt (T2.2 0 (2 : Int32).toNatClampNeg) T2 (fun r3 T4 => vp_in (r3 + (0 : Int32)) 3114 ∧ (vp_in (r3 + (1 : Int32)) 3114 ∧ (vp_in (r3 + (2 : Int32)) 3114 ∧ (vp_in (2 : Int32) 3114 ∧ (vp_in (2 : Int32) 3114 ∧ (vp_in (2 : Int32) 3114 ∧ (Q (((ts (ts (ts (ts T4 0 (r3 + (0 : Int32)).toNatClampNeg r1) 0 (r3 + (1 : Int32)).toNatClampNeg ((ts T4 0 (r3 + (0 : Int32)).toNatClampNeg r1).1 24)) 0 (r3 + (2 : Int32)).toNatClampNeg ((ts (ts T4 0 (r3 + (0 : Int32)).toNatClampNeg r1) 0 (r3 + (1 : Int32)).toNatClampNeg ((ts T4 0 (r3 + (0 : Int32)).toNatClampNeg r1).1 24)).1 22)) 0 (2 : Int32).toNatClampNeg (((ts (ts (ts T4 0 (r3 + (0 : Int32)).toNatClampNeg r1) 0 (r3 + (1 : Int32)).toNatClampNeg ((ts T4 0 (r3 + (0 : Int32)).toNatClampNeg r1).1 24)) 0 (r3 + (2 : Int32)).toNatClampNeg ((ts (ts T4 0 (r3 + (0 : Int32)).toNatClampNeg r1) 0 (r3 + (1 : Int32)).toNatClampNeg ((ts T4 0 (r3 + (0 : Int32)).toNatClampNeg r1).1 24)).1 22)).2 0 (2 : Int32).toNatClampNeg) + (1 : Int32))).2 0 (2 : Int32).toNatClampNeg) - (1 : Int32)) (ts (ts (ts (ts T4 0 (r3 + (0 : Int32)).toNatClampNeg r1) 0 (r3 + (1 : Int32)).toNatClampNeg ((ts T4 0 (r3 + (0 : Int32)).toNatClampNeg r1).1 24)) 0 (r3 + (2 : Int32)).toNatClampNeg ((ts (ts T4 0 (r3 + (0 : Int32)).toNatClampNeg r1) 0 (r3 + (1 : Int32)).toNatClampNeg ((ts T4 0 (r3 + (0 : Int32)).toNatClampNeg r1).1 24)).1 22)) 0 (2 : Int32).toNatClampNeg (((ts (ts (ts T4 0 (r3 + (0 : Int32)).toNatClampNeg r1) 0 (r3 + (1 : Int32)).toNatClampNeg ((ts T4 0 (r3 + (0 : Int32)).toNatClampNeg r1).1 24)) 0 (r3 + (2 : Int32)).toNatClampNeg ((ts (ts T4 0 (r3 + (0 : Int32)).toNatClampNeg r1) 0 (r3 + (1 : Int32)).toNatClampNeg ((ts T4 0 (r3 + (0 : Int32)).toNatClampNeg r1).1 24)).1 22)).2 0 (2 : Int32).toNatClampNeg) + (1 : Int32)))))))))))))) ∧ (¬ 0 ≤ r1 → Q ((-100 : Int32) - (T2.1 15)) T2))
