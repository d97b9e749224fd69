set_option maxRecDepth 100000
def wX0_term_38 (P : Nat → CV → (CV → Prop) → (CV → Prop) → Prop) (k_5 : Nat → CV → Prop) (l1 : Nat) (k0 : Int32) (V : CV) (Q : CV → Prop) (E : CV → Prop) : Prop :=
  wX0_goes V (fun V2 => P l1 V2 (fun V4 => ∃ f6 f7 f8, vM V4 l1 = some (eWd f6 f7 f8) ∧ (wX13_add l1 k0 (0 : Int32) V4 (fun V10 => k_5 l1 V10))) (fun V4 => E V4)) (fun V2 => E V2)
def wX0_term_23 (P : Nat → CV → (CV → Prop) → (CV → Prop) → Prop) (k_5 : Nat → CV → Prop) (l1 : Nat) (V : CV) (Q : CV → Prop) (E : CV → Prop) : Prop :=
  wX0_isSign (42 : Int32) V (fun r1 V2 => (r1 = 0 → wX0_term_38 P k_5 l1 (12 : Int32) V2 Q E) ∧ (¬ r1 = 0 → wX0_term_38 P k_5 l1 (4 : Int32) V2 Q E))
def wX0_term_5 (P : Nat → CV → (CV → Prop) → (CV → Prop) → Prop) (Q : CV → Prop) (E : CV → Prop) : Nat → Nat → CV → Prop
  | 0, _, _ => False
  | n + 1, l1, V =>
  wX0_isSign (42 : Int32) V (fun r1 V2 => (r1 = 0 → wX0_isSign (47 : Int32) V2 (fun r3 V4 => (r3 = 0 → Q V4) ∧ (¬ r3 = 0 → wX0_term_23 P (fun z0 z1 => wX0_term_5 P Q E n z0 z1) l1 V4 Q E))) ∧ (¬ r1 = 0 → wX0_term_23 P (fun z0 z1 => wX0_term_5 P Q E n z0 z1) l1 V2 Q E))
def wX0_term (P : Nat → CV → (CV → Prop) → (CV → Prop) → Prop) (a1 : Nat) (V : CV) (Q : CV → Prop) (E : CV → Prop) : Prop :=
  P a1 V (fun V2 => ∃ f_5, wX0_term_5 P Q E f_5 a1 V2) (fun V2 => E V2)
def wX0_sum_38 (P : Nat → CV → (CV → Prop) → (CV → Prop) → Prop) (k_5 : Nat → CV → Prop) (l1 : Nat) (k0 : Int32) (V : CV) (Q : CV → Prop) (E : CV → Prop) : Prop :=
  wX0_goes V (fun V2 => wX0_term P l1 V2 (fun V4 => ∃ f6 f7 f8, vM V4 l1 = some (eWd f6 f7 f8) ∧ (wX13_add l1 k0 (0 : Int32) V4 (fun V10 => k_5 l1 V10))) (fun V4 => E V4)) (fun V2 => E V2)
def wX0_sum_23 (P : Nat → CV → (CV → Prop) → (CV → Prop) → Prop) (k_5 : Nat → CV → Prop) (l1 : Nat) (V : CV) (Q : CV → Prop) (E : CV → Prop) : Prop :=
  wX0_isSign (43 : Int32) V (fun r1 V2 => (r1 = 0 → wX0_sum_38 P k_5 l1 (6 : Int32) V2 Q E) ∧ (¬ r1 = 0 → wX0_sum_38 P k_5 l1 (5 : Int32) V2 Q E))
def wX0_sum_5 (P : Nat → CV → (CV → Prop) → (CV → Prop) → Prop) (Q : CV → Prop) (E : CV → Prop) : Nat → Nat → CV → Prop
  | 0, _, _ => False
  | n + 1, l1, V =>
  wX0_isSign (43 : Int32) V (fun r1 V2 => (r1 = 0 → wX0_isSign (45 : Int32) V2 (fun r3 V4 => (r3 = 0 → Q V4) ∧ (¬ r3 = 0 → wX0_sum_23 P (fun z0 z1 => wX0_sum_5 P Q E n z0 z1) l1 V4 Q E))) ∧ (¬ r1 = 0 → wX0_sum_23 P (fun z0 z1 => wX0_sum_5 P Q E n z0 z1) l1 V2 Q E))
def wX0_sum (P : Nat → CV → (CV → Prop) → (CV → Prop) → Prop) (a1 : Nat) (V : CV) (Q : CV → Prop) (E : CV → Prop) : Prop :=
  wX0_term P a1 V (fun V2 => ∃ f_5, wX0_sum_5 P Q E f_5 a1 V2) (fun V2 => E V2)
def wX0_test_48 (P : Nat → CV → (CV → Prop) → (CV → Prop) → Prop) (l1 : Nat) (k0 : Int32) (V : CV) (Q : CV → Prop) (E : CV → Prop) : Prop :=
  (k0 = 0 → Q V) ∧ (¬ k0 = 0 → wX0_goes V (fun V2 => wX0_sum P l1 V2 (fun V4 => ∃ f6 f7 f8, vM V4 l1 = some (eWd f6 f7 f8) ∧ (wX13_add l1 k0 (0 : Int32) V4 (fun V10 => Q V10))) (fun V4 => E V4)) (fun V2 => E V2))
def wX0_test (P : Nat → CV → (CV → Prop) → (CV → Prop) → Prop) (a1 : Nat) (V : CV) (Q : CV → Prop) (E : CV → Prop) : Prop :=
  wX0_sum P a1 V (fun V2 => wX0_isSign (60 : Int32) V2 (fun r3 V4 => (r3 = 0 → wX0_isSign (61 : Int32) V4 (fun r5 V6 => (r5 = 0 → wX0_isSign (62 : Int32) V6 (fun r7 V8 => (r7 = 0 → wX0_test_48 P a1 (0 : Int32) V8 Q E) ∧ (¬ r7 = 0 → wX0_test_48 P a1 (9 : Int32) V8 Q E))) ∧ (¬ r5 = 0 → wX0_test_48 P a1 (8 : Int32) V6 Q E))) ∧ (¬ r3 = 0 → wX0_test_48 P a1 (7 : Int32) V4 Q E))) (fun V2 => E V2)
def wX0_and_5 (P : Nat → CV → (CV → Prop) → (CV → Prop) → Prop) (Q : CV → Prop) (E : CV → Prop) : Nat → Nat → CV → Prop
  | 0, _, _ => False
  | n + 1, l1, V =>
  wX0_isSign (38 : Int32) V (fun r1 V2 => (r1 = 0 → Q V2) ∧ (¬ r1 = 0 → wX0_goes V2 (fun V4 => wX0_test P l1 V4 (fun V6 => ∃ f8 f9 f10, vM V6 l1 = some (eWd f8 f9 f10) ∧ (wX13_add l1 (10 : Int32) (0 : Int32) V6 (fun V12 => wX0_and_5 P Q E n l1 V12))) (fun V6 => E V6)) (fun V4 => E V4)))
def wX0_and (P : Nat → CV → (CV → Prop) → (CV → Prop) → Prop) (a1 : Nat) (V : CV) (Q : CV → Prop) (E : CV → Prop) : Prop :=
  wX0_test P a1 V (fun V2 => ∃ f_5, wX0_and_5 P Q E f_5 a1 V2) (fun V2 => E V2)
def wX0_or_5 (P : Nat → CV → (CV → Prop) → (CV → Prop) → Prop) (Q : CV → Prop) (E : CV → Prop) : Nat → Nat → CV → Prop
  | 0, _, _ => False
  | n + 1, l1, V =>
  wX0_isSign (124 : Int32) V (fun r1 V2 => (r1 = 0 → Q V2) ∧ (¬ r1 = 0 → wX0_goes V2 (fun V4 => wX0_and P l1 V4 (fun V6 => ∃ f8 f9 f10, vM V6 l1 = some (eWd f8 f9 f10) ∧ (wX13_add l1 (11 : Int32) (0 : Int32) V6 (fun V12 => wX0_or_5 P Q E n l1 V12))) (fun V6 => E V6)) (fun V4 => E V4)))
def wX0_or (P : Nat → CV → (CV → Prop) → (CV → Prop) → Prop) (a1 : Nat) (V : CV) (Q : CV → Prop) (E : CV → Prop) : Prop :=
  wX0_and P a1 V (fun V2 => ∃ f_5, wX0_or_5 P Q E f_5 a1 V2) (fun V2 => E V2)
def wX0_pieceB_223 (P : Nat → CV → (CV → Prop) → (CV → Prop) → Prop) (l1 : Nat) (V : CV) (Q : CV → Prop) (E : CV → Prop) : Prop :=
  vp_in (vI (sI V 13 ((vI V 13) + (1 : Int32))) 8) 96 ∧ (∃ f3 f4 f5, vM (sI V 13 ((vI V 13) + (1 : Int32))) l1 = some (eWd f3 f4 f5) ∧ (wX13_add l1 (2 : Int32) (vA (sI V 13 ((vI V 13) + (1 : Int32))) 5 (vI (sI V 13 ((vI V 13) + (1 : Int32))) 8).toNatClampNeg) (sI V 13 ((vI V 13) + (1 : Int32))) (fun V7 => wX0_goes V7 (fun V9 => Q V9) (fun V9 => E V9))))
def wX0_pieceB_219 (P : Nat → CV → (CV → Prop) → (CV → Prop) → Prop) (l1 : Nat) (V : CV) (Q : CV → Prop) (E : CV → Prop) : Prop :=
  wX0_wrong V (fun V2 => wX0_pieceB_223 P l1 V2 Q E) (fun V2 => E V2)
def wX0_pieceB_179 (P : Nat → CV → (CV → Prop) → (CV → Prop) → Prop) (l1 : Nat) (V : CV) (Q : CV → Prop) (E : CV → Prop) : Prop :=
  ((vI V 8) = (vI V 10) → wX0_pieceB_219 P l1 V Q E) ∧ (¬ (vI V 8) = (vI V 10) → (((vI V 9) - (vI V 8)) = (1 : Int32) → vp_in (vI V 8) 96 ∧ (wX0_isName (vA V 5 (vI V 8).toNatClampNeg) V (fun r2 V3 => (r2 = 0 → wX0_pieceB_219 P l1 V3 Q E) ∧ (¬ r2 = 0 → wX0_pieceB_223 P l1 V3 Q E)))) ∧ (¬ ((vI V 9) - (vI V 8)) = (1 : Int32) → wX0_pieceB_219 P l1 V Q E))
def wX0_pieceB_114 (P : Nat → CV → (CV → Prop) → (CV → Prop) → Prop) (V : CV) (Q : CV → Prop) (E : CV → Prop) : Prop :=
  wX0_goes V (fun V2 => Q (sI V2 11 ((vI V2 11) - (1 : Int32)))) (fun V2 => E V2)
def wX0_pieceB_82 (P : Nat → CV → (CV → Prop) → (CV → Prop) → Prop) (l1 : Nat) (V : CV) (Q : CV → Prop) (E : CV → Prop) : Prop :=
  wX0_goes (sI V 11 ((vI V 11) + (1 : Int32))) (fun V2 => wX0_or P l1 V2 (fun V4 => wX0_isSign (41 : Int32) V4 (fun r5 V6 => (r5 = 0 → wX0_wrong V6 (fun V8 => wX0_pieceB_114 P V8 Q E) (fun V8 => E V8)) ∧ (¬ r5 = 0 → wX0_pieceB_114 P V6 Q E))) (fun V4 => E V4)) (fun V2 => E V2)
def wX0_pieceB_22 (P : Nat → CV → (CV → Prop) → (CV → Prop) → Prop) (l1 : Nat) (V : CV) (Q : CV → Prop) (E : CV → Prop) : Prop :=
  wX0_goes (sI V 12 ((vI V 12) + (1 : Int32))) (fun V2 => P l1 V2 (fun V4 => ∃ f6 f7 f8, vM V4 l1 = some (eWd f6 f7 f8) ∧ (wX13_add l1 (3 : Int32) (0 : Int32) V4 (fun V10 => Q (sI V10 12 ((vI V10 12) - (1 : Int32)))))) (fun V4 => E V4)) (fun V2 => E V2)
def wX0_pieceB (P : Nat → CV → (CV → Prop) → (CV → Prop) → Prop) (a1 : Nat) (V : CV) (Q : CV → Prop) (E : CV → Prop) : Prop :=
  wX0_isSign (33 : Int32) V (fun r1 V2 => (r1 = 0 → wX0_isSign (40 : Int32) V2 (fun r3 V4 => (r3 = 0 → ((vI V4 10) ≤ (vI V4 8) → wX0_pieceB_179 P a1 V4 Q E) ∧ (¬ (vI V4 10) ≤ (vI V4 8) → vp_in (vI V4 8) 96 ∧ (wX0_isDigit (vA V4 5 (vI V4 8).toNatClampNeg) (fun r6 => (r6 = 0 → wX0_pieceB_179 P a1 V4 Q E) ∧ (¬ r6 = 0 → wX0_number (sI V4 13 ((vI V4 13) + (1 : Int32))) (fun r7 V8 => ∃ f10 f11 f12, vM V8 a1 = some (eWd f10 f11 f12) ∧ (wX13_add a1 (1 : Int32) r7 V8 (fun V14 => Q V14))) (fun V8 => E V8)))))) ∧ (¬ r3 = 0 → ((vI V4 11) = (8 : Int32) → wX0_wrong V4 (fun V16 => wX0_pieceB_82 P a1 V16 Q E) (fun V16 => E V16)) ∧ (¬ (vI V4 11) = (8 : Int32) → wX0_pieceB_82 P a1 V4 Q E)))) ∧ (¬ r1 = 0 → ((vI V2 12) = (8 : Int32) → wX0_wrong V2 (fun V18 => wX0_pieceB_22 P a1 V18 Q E) (fun V18 => E V18)) ∧ (¬ (vI V2 12) = (8 : Int32) → wX0_pieceB_22 P a1 V2 Q E)))
def wX0_piece : Nat → Nat → CV → (CV → Prop) → (CV → Prop) → Prop
  | 0, _, _, _, _ => False
  | d + 1, a, V, Q, E => wX0_pieceB (fun a V Q E => wX0_piece d a V Q E) a V Q E
def wX0_orC (a1 : Nat) (V : CV) (Q : CV → Prop) (E : CV → Prop) : Prop := wX0_or (fun a V Q E => wX0_piece 20 a V Q E) a1 V Q E
def wX0_expression (V : CV) (Q : Nat → CV → Prop) (E : CV → Prop) : Prop :=
  ∀ q1, vM V q1 = none → (wX13_init q1 (sM V (hset (vM V) q1 (.inr (13, [.null, .null, .int 0])))) (fun V4 => wX0_orC q1 V4 (fun V6 => Q q1 V6) (fun V6 => E V6)))
def wX0_textRead_60 (l1 : Nat) (V : CV) (Q : Nat → CV → Prop) (E : CV → Prop) : Prop :=
  ∀ q1, vM V q1 = none → (wX14_init q1 (vI (sM V (hset (vM V) q1 (.inr (14, [.int 0, .null, .int 0])))) 14) l1 (vI (sM V (hset (vM V) q1 (.inr (14, [.int 0, .null, .int 0])))) 13) (sM V (hset (vM V) q1 (.inr (14, [.int 0, .null, .int 0])))) (fun V4 => Q q1 V4))
def wX0_textRead (V : CV) (Q : Nat → CV → Prop) (E : CV → Prop) : Prop :=
  wX0_goes (sI (sI (sI (sI (sI V 10 (vI V 6)) 9 (0 : Int32)) 11 (0 : Int32)) 12 (0 : Int32)) 13 (0 : Int32)) (fun V2 => wX0_key V2 (fun r3 V4 => wX0_expression (sI V4 14 r3) (fun r5 V6 => ((vI V6 10) ≤ (vI V6 8) → wX0_textRead_60 r5 V6 Q E) ∧ (¬ (vI V6 10) ≤ (vI V6 8) → wX0_wrong V6 (fun V8 => wX0_textRead_60 r5 V8 Q E) (fun V8 => E V8))) (fun V6 => E V6)) (fun V4 => E V4)) (fun V2 => E V2)
def wX0_text (V : CV) (Q : Int32 → CV → Prop) : Prop :=
  wX0_textRead V (fun r1 V2 => ((vS V2 0 9) = (14 : Int32) → Q (-1000000003 : Int32) (sI V2 6 (0 : Int32))) ∧ (¬ (vS V2 0 9) = (14 : Int32) → ∃ f4 f5 f6, vM V2 r1 = some (eTx f4 f5 f6) ∧ vp_in (vS V2 0 9) 14 ∧ (∀ x8, x8 = (vS (sS (sTx V2 0 (vS V2 0 9).toNatClampNeg (some r1)) 0 9 ((vS (sTx V2 0 (vS V2 0 9).toNatClampNeg (some r1)) 0 9) + (1 : Int32))) 0 9) - (1 : Int32) → (Q x8 (sI (sS (sTx V2 0 (vS V2 0 9).toNatClampNeg (some r1)) 0 9 ((vS (sTx V2 0 (vS V2 0 9).toNatClampNeg (some r1)) 0 9) + (1 : Int32))) 6 (0 : Int32)))))) (fun V2 => ∃ x10, (vFl V2)[6]? = some (.int x10) ∧ (Q ((-100 : Int32) - x10) (sI V2 6 (0 : Int32))))
