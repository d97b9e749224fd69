set_option maxRecDepth 100000
def wJ4_isLatin1 (a0 : Nat) (V : CV) (Q : Int32 → CV → Prop) : Prop :=
  a0 < 3 ∧ (((1 : Int32) = 0 → Q (0 : Int32) V) ∧ (¬ (1 : Int32) = 0 → ((0 : Int32) = 0 → Q (1 : Int32) V) ∧ (¬ (0 : Int32) = 0 → Q (0 : Int32) V)))
def wJ8_checkIndex_9 (l0 : Int32) (l1 : Int32) (l2 : Option Nat) (V : CV) (Q : Int32 → CV → Prop) : Prop :=
  False
def wJ8_checkIndex (a0 : Int32) (a1 : Int32) (a2 : Option Nat) (V : CV) (Q : Int32 → CV → Prop) : Prop :=
  (a0 < 0 → wJ8_checkIndex_9 a0 a1 a2 V Q) ∧ (¬ a0 < 0 → (a0 < a1 → Q a0 V) ∧ (¬ a0 < a1 → wJ8_checkIndex_9 a0 a1 a2 V Q))
def wJ4_checkIndex (a0 : Int32) (a1 : Int32) (V : CV) (Q : CV → Prop) : Prop :=
  ∀ y1, (wJ8_checkIndex a0 a1 y1 V (fun r3 V4 => Q V4))
def wJ7_charAt (a0 : Nat) (a1 : Int32) (V : CV) (Q : Int32 → CV → Prop) : Prop :=
  a0 < 3 ∧ (wJ4_checkIndex a1 (Int32.ofNat (sLen.getD a0 0)) V (fun V2 => vp_in a1 (sLen.getD a0 0) ∧ ((narrow .char (.int (((((sByt.getD a0 []).getD a1.toNatClampNeg 0) &&& (255 : Int32)).toUInt32 % 65536).toInt32)) = .int (((((sByt.getD a0 []).getD a1.toNatClampNeg 0) &&& (255 : Int32)).toUInt32 % 65536).toInt32)) ∧ Q (((((sByt.getD a0 []).getD a1.toNatClampNeg 0) &&& (255 : Int32)).toUInt32 % 65536).toInt32) V2)))
def wJ4_charAt (a0 : Nat) (a1 : Int32) (V : CV) (Q : Int32 → CV → Prop) : Prop :=
  a0 < 3 ∧ (wJ4_isLatin1 a0 V (fun r1 V2 => (r1 = 0 → False) ∧ (¬ r1 = 0 → wJ7_charAt a0 a1 V2 (fun r3 V4 => (narrow .char (.int r3) = .int r3) ∧ Q r3 V4))))
def wJ4_coder (a0 : Nat) (V : CV) (Q : Int32 → CV → Prop) : Prop :=
  a0 < 3 ∧ (((1 : Int32) = 0 → (narrow .byte (.int (1 : Int32)) = .int (1 : Int32)) ∧ Q (1 : Int32) V) ∧ (¬ (1 : Int32) = 0 → (narrow .byte (.int (0 : Int32)) = .int (0 : Int32)) ∧ Q (0 : Int32) V))
def wJ4_length (a0 : Nat) (V : CV) (Q : Int32 → CV → Prop) : Prop :=
  a0 < 3 ∧ (wJ4_coder a0 V (fun r1 V2 => Q ((Int32.ofNat (sLen.getD a0 0)) >>> (r1 &&& 31)) V2))
def wX0_isIn (a0 : Int32) (a1 : Int32) (a2 : Int32) (Q : Int32 → Prop) : Prop :=
  (a0 < a1 → Q (0 : Int32)) ∧ (¬ a0 < a1 → (a2 < a0 → Q (0 : Int32)) ∧ (¬ a2 < a0 → Q (1 : Int32)))
def wX0_isDeed (a1 : Int32) (V : CV) (Q : Int32 → CV → Prop) : Prop :=
  wX0_isIn a1 (0 : Int32) ((vS V 0 7) - (1 : Int32)) (fun r1 => (narrow .boolean (.int r1) = .int r1) ∧ Q r1 V)
def wX2_leftMany (a0 : Nat) (a0' : Nat) (V : CV) (Q : Int32 → CV → Prop) : Prop :=
  a0 < 3 ∧ (a0' < 8 ∧ (wJ5_bitCount (vD V a0 a0' 3) (fun r1 => Q r1 V)))
def wX1_all (a0 : Nat) (V : CV) (Q : Int32 → CV → Prop) : Prop :=
  a0 < 3 ∧ (Q (((1 : Int32) <<< ((vS V a0 2) &&& 31)) - (1 : Int32)) V)
def wX0_begins (a1 : Nat) (a1' : Nat) (V : CV) (Q : CV → Prop) : Prop :=
  a1 < 3 ∧ (a1' < 8 ∧ (wX1_all 0 V (fun r1 V2 => Q (sD (sD (sD V2 a1 a1' 3 r1) a1 a1' 4 (0 : Int32)) a1 a1' 5 (0 : Int32)))))
def wX0_again (a1 : Int32) (V : CV) (Q : Int32 → CV → Prop) : Prop :=
  wX0_isDeed a1 V (fun r1 V2 => (r1 = 0 → Q (-1000000001 : Int32) V2) ∧ (¬ r1 = 0 → vp_in a1 8 ∧ (wX2_leftMany 0 a1.toNatClampNeg V2 (fun r4 V5 => vp_in a1 8 ∧ (wX0_begins 0 a1.toNatClampNeg V5 (fun V8 => Q ((vS V2 0 2) - r4) V8))))))
def wX0_isSign (a1 : Int32) (V : CV) (Q : Int32 → CV → Prop) : Prop :=
  ((vI V 10) ≤ (vI V 8) → Q (0 : Int32) V) ∧ (¬ (vI V 10) ≤ (vI V 8) → (((vI V 9) - (vI V 8)) = (1 : Int32) → vp_in (vI V 8) 96 ∧ (((vA V 5 (vI V 8).toNatClampNeg) = a1 → Q (1 : Int32) V) ∧ (¬ (vA V 5 (vI V 8).toNatClampNeg) = a1 → Q (0 : Int32) V))) ∧ (¬ ((vI V 9) - (vI V 8)) = (1 : Int32) → Q (0 : Int32) V))
def wX0_wrong (V : CV) (Q : CV → Prop) (E : CV → Prop) : Prop :=
  6 < (vFl V).length ∧ (E (sFl V ((vFl V).set 6 (.int (vI V 8)))))
def wX0_isLetter (a0 : Int32) (Q : Int32 → Prop) : Prop :=
  wX0_isIn a0 (97 : Int32) (122 : Int32) (fun r1 => (narrow .boolean (.int r1) = .int r1) ∧ Q r1)
def wX0_isDigit (a0 : Int32) (Q : Int32 → Prop) : Prop :=
  wX0_isIn a0 (48 : Int32) (57 : Int32) (fun r1 => (narrow .boolean (.int r1) = .int r1) ∧ Q r1)
def wX0_goes_290 (V : CV) (Q : CV → Prop) (E : CV → Prop) : Prop :=
  wX0_wrong V (fun V2 => Q V2) (fun V2 => E V2)
def wX0_goes_275 (l2 : Int32) (l3 : Int32) (k0 : Int32) (V : CV) (Q : CV → Prop) (E : CV → Prop) : Prop :=
  (k0 = 0 → Q V) ∧ (¬ k0 = 0 → (l2 = 0 → (l3 = 0 → Q V) ∧ (¬ l3 = 0 → wX0_goes_290 V Q E)) ∧ (¬ l2 = 0 → wX0_goes_290 V Q E))
def wX0_goes_274 (l2 : Int32) (l3 : Int32) (V : CV) (Q : CV → Prop) (E : CV → Prop) : Prop :=
  wX0_goes_275 l2 l3 (0 : Int32) V Q E
def wX0_goes_270 (l2 : Int32) (l3 : Int32) (V : CV) (Q : CV → Prop) (E : CV → Prop) : Prop :=
  wX0_goes_275 l2 l3 (1 : Int32) V Q E
def wX0_goes_230 (l1 : Int32) (l2 : Int32) (l3 : Int32) (V : CV) (Q : CV → Prop) (E : CV → Prop) : Prop :=
  ((vI V 8) = l1 → (l1 ≤ 0 → wX0_goes_274 l2 l3 V Q E) ∧ (¬ l1 ≤ 0 → vp_in (l1 - (1 : Int32)) 96 ∧ (wX0_isLetter (vA V 5 (l1 - (1 : Int32)).toNatClampNeg) (fun r2 => (r2 = 0 → vp_in (l1 - (1 : Int32)) 96 ∧ (wX0_isDigit (vA V 5 (l1 - (1 : Int32)).toNatClampNeg) (fun r4 => (r4 = 0 → wX0_goes_274 l2 l3 V Q E) ∧ (¬ r4 = 0 → wX0_goes_270 l2 l3 V Q E)))) ∧ (¬ r2 = 0 → wX0_goes_270 l2 l3 V Q E))))) ∧ (¬ (vI V 8) = l1 → wX0_goes_274 l2 l3 V Q E)
def wX0_goes_170 (Q : CV → Prop) (E : CV → Prop) : Nat → Int32 → Int32 → Int32 → CV → Prop
  | 0, _, _, _, _ => False
  | n + 1, l1, l2, l3, V =>
  ((vI V 10) ≤ (vI V 9) → wX0_goes_230 l1 l2 l3 V Q E) ∧ (¬ (vI V 10) ≤ (vI V 9) → vp_in (vI V 9) 96 ∧ (wX0_isDigit (vA V 5 (vI V 9).toNatClampNeg) (fun r2 => (r2 = 0 → wX0_goes_230 l1 l2 l3 V Q E) ∧ (¬ r2 = 0 → wX0_goes_170 Q E n l1 l2 l3 (sI V 9 ((vI V 9) + (1 : Int32)))))))
def wX0_goes_127 (Q : CV → Prop) (E : CV → Prop) : Nat → Int32 → Int32 → Int32 → CV → Prop
  | 0, _, _, _, _ => False
  | n + 1, l1, l2, l3, V =>
  ((vI V 10) ≤ (vI V 9) → wX0_goes_230 l1 l2 l3 V Q E) ∧ (¬ (vI V 10) ≤ (vI V 9) → vp_in (vI V 9) 96 ∧ (wX0_isLetter (vA V 5 (vI V 9).toNatClampNeg) (fun r2 => (r2 = 0 → wX0_goes_230 l1 l2 l3 V Q E) ∧ (¬ r2 = 0 → wX0_goes_127 Q E n l1 l2 l3 (sI V 9 ((vI V 9) + (1 : Int32)))))))
def wX0_goes_122 (l1 : Int32) (l2 : Int32) (k0 : Int32) (V : CV) (Q : CV → Prop) (E : CV → Prop) : Prop :=
  (l2 = 0 → (k0 = 0 → ((vI V 10) ≤ (vI V 8) → wX0_goes_230 l1 l2 k0 V Q E) ∧ (¬ (vI V 10) ≤ (vI V 8) → wX0_goes_230 l1 l2 k0 (sI V 9 ((vI V 9) + (1 : Int32))) Q E)) ∧ (¬ k0 = 0 → ∃ f_170, wX0_goes_170 Q E f_170 l1 l2 k0 V)) ∧ (¬ l2 = 0 → ∃ f_127, wX0_goes_127 Q E f_127 l1 l2 k0 V)
def wX0_goes_121 (l1 : Int32) (l2 : Int32) (V : CV) (Q : CV → Prop) (E : CV → Prop) : Prop :=
  wX0_goes_122 l1 l2 (0 : Int32) V Q E
def wX0_goes_90 (l1 : Int32) (k0 : Int32) (V : CV) (Q : CV → Prop) (E : CV → Prop) : Prop :=
  ((vI V 10) ≤ (vI V 8) → wX0_goes_121 l1 k0 V Q E) ∧ (¬ (vI V 10) ≤ (vI V 8) → vp_in (vI V 8) 96 ∧ (wX0_isDigit (vA V 5 (vI V 8).toNatClampNeg) (fun r2 => (r2 = 0 → wX0_goes_121 l1 k0 V Q E) ∧ (¬ r2 = 0 → wX0_goes_122 l1 k0 (1 : Int32) V Q E))))
def wX0_goes_89 (l1 : Int32) (V : CV) (Q : CV → Prop) (E : CV → Prop) : Prop :=
  wX0_goes_90 l1 (0 : Int32) V Q E
def wX0_goes_51 (l1 : Int32) (V : CV) (Q : CV → Prop) (E : CV → Prop) : Prop :=
  ((vI (sI V 9 (vI V 8)) 10) ≤ (vI (sI V 9 (vI V 8)) 8) → wX0_goes_89 l1 (sI V 9 (vI V 8)) Q E) ∧ (¬ (vI (sI V 9 (vI V 8)) 10) ≤ (vI (sI V 9 (vI V 8)) 8) → vp_in (vI (sI V 9 (vI V 8)) 8) 96 ∧ (wX0_isLetter (vA (sI V 9 (vI V 8)) 5 (vI (sI V 9 (vI V 8)) 8).toNatClampNeg) (fun r2 => (r2 = 0 → wX0_goes_89 l1 (sI V 9 (vI V 8)) Q E) ∧ (¬ r2 = 0 → wX0_goes_90 l1 (1 : Int32) (sI V 9 (vI V 8)) Q E))))
def wX0_goes_13 (Q : CV → Prop) (E : CV → Prop) : Nat → Int32 → CV → Prop
  | 0, _, _ => False
  | n + 1, l1, V =>
  ((vI V 10) ≤ (vI V 8) → wX0_goes_51 l1 V Q E) ∧ (¬ (vI V 10) ≤ (vI V 8) → vp_in (vI V 8) 96 ∧ (((vA V 5 (vI V 8).toNatClampNeg) = (32 : Int32) → wX0_goes_13 Q E n l1 (sI V 8 ((vI V 8) + (1 : Int32)))) ∧ (¬ (vA V 5 (vI V 8).toNatClampNeg) = (32 : Int32) → wX0_goes_51 l1 V Q E)))
def wX0_goes (V : CV) (Q : CV → Prop) (E : CV → Prop) : Prop :=
  ∃ f_13, wX0_goes_13 Q E f_13 (vI V 9) (sI V 8 (vI V 9))
def wX13_add (a0 : Nat) (a1 : Int32) (a2 : Int32) (V : CV) (Q : CV → Prop) : Prop :=
  ∃ f1 f2 f3, vM V a0 = some (eWd f1 f2 f3) ∧ (∃ n6 f7, vM V f1 = some (eIA n6 f7) ∧ vp_in f3 n6 ∧ (∃ f9 f10 f11, vM (sM V (hset (vM V) f1 (eIA n6 (upd f7 f3.toNatClampNeg a1)))) a0 = some (eWd f9 f10 f11) ∧ (∃ n14 f15, vM (sM V (hset (vM V) f1 (eIA n6 (upd f7 f3.toNatClampNeg a1)))) f10 = some (eIA n14 f15) ∧ vp_in f11 n14 ∧ (∃ f17 f18 f19, vM (sM (sM V (hset (vM V) f1 (eIA n6 (upd f7 f3.toNatClampNeg a1)))) (hset (vM (sM V (hset (vM V) f1 (eIA n6 (upd f7 f3.toNatClampNeg a1))))) f10 (eIA n14 (upd f15 f11.toNatClampNeg a2)))) a0 = some (eWd f17 f18 f19) ∧ (Q (sM (sM (sM V (hset (vM V) f1 (eIA n6 (upd f7 f3.toNatClampNeg a1)))) (hset (vM (sM V (hset (vM V) f1 (eIA n6 (upd f7 f3.toNatClampNeg a1))))) f10 (eIA n14 (upd f15 f11.toNatClampNeg a2)))) (hset (vM (sM (sM V (hset (vM V) f1 (eIA n6 (upd f7 f3.toNatClampNeg a1)))) (hset (vM (sM V (hset (vM V) f1 (eIA n6 (upd f7 f3.toNatClampNeg a1))))) f10 (eIA n14 (upd f15 f11.toNatClampNeg a2))))) a0 (eWd f17 f18 (f19 + (1 : Int32))))))))))
def wX0_number_50 (Q : Int32 → CV → Prop) (E : CV → Prop) : Nat → Int32 → Int32 → CV → Prop
  | 0, _, _, _ => False
  | n + 1, l1, l2, V =>
  ((vI V 9) ≤ l2 → wX0_goes V (fun V2 => Q l1 V2) (fun V2 => E V2)) ∧ (¬ (vI V 9) ≤ l2 → vp_in l2 96 ∧ (wX0_number_50 Q E n ((((10 : Int32) * l1) + (vA V 5 l2.toNatClampNeg)) - (48 : Int32)) (l2 + (1 : Int32)) V))
def wX0_number_43 (V : CV) (Q : Int32 → CV → Prop) (E : CV → Prop) : Prop :=
  ∃ f_50, wX0_number_50 Q E f_50 (0 : Int32) (vI V 8) V
def wX0_number_39 (V : CV) (Q : Int32 → CV → Prop) (E : CV → Prop) : Prop :=
  wX0_wrong V (fun V2 => wX0_number_43 V2 Q E) (fun V2 => E V2)
def wX0_number (V : CV) (Q : Int32 → CV → Prop) (E : CV → Prop) : Prop :=
  ((vI V 8) = (vI V 10) → wX0_number_39 V Q E) ∧ (¬ (vI V 8) = (vI V 10) → vp_in (vI V 8) 96 ∧ (wX0_isDigit (vA V 5 (vI V 8).toNatClampNeg) (fun r2 => (r2 = 0 → wX0_number_39 V Q E) ∧ (¬ r2 = 0 → (((vI V 9) - (vI V 8)) ≤ (4 : Int32) → wX0_number_43 V Q E) ∧ (¬ ((vI V 9) - (vI V 8)) ≤ (4 : Int32) → wX0_number_39 V Q E)))))
def wX0_isName (a1 : Int32) (V : CV) (Q : Int32 → CV → Prop) : Prop :=
  (a1 = 98 → ((vI V 14) = (2 : Int32) → Q (1 : Int32) V) ∧ (¬ (vI V 14) = (2 : Int32) → Q (0 : Int32) V)) ∧ (¬ a1 = 98 → (a1 = 108 → ((vI V 14) = (1 : Int32) → Q (1 : Int32) V) ∧ (¬ (vI V 14) = (1 : Int32) → Q (0 : Int32) V)) ∧ (¬ a1 = 108 → (a1 = 110 → ((vI V 14) = 0 → Q (0 : Int32) V) ∧ (¬ (vI V 14) = 0 → Q (1 : Int32) V)) ∧ (¬ a1 = 110 → (a1 = 112 → ((vI V 14) = 0 → Q (1 : Int32) V) ∧ (¬ (vI V 14) = 0 → Q (0 : Int32) V)) ∧ (¬ a1 = 112 → (a1 = 115 → ((vI V 14) = (1 : Int32) → Q (0 : Int32) V) ∧ (¬ (vI V 14) = (1 : Int32) → Q (1 : Int32) V)) ∧ (¬ a1 = 115 → (a1 = 119 → ((vI V 14) = (2 : Int32) → Q (0 : Int32) V) ∧ (¬ (vI V 14) = (2 : Int32) → Q (1 : Int32) V)) ∧ (¬ a1 = 119 → Q (0 : Int32) V))))))
def wX0_isPerson (a1 : Int32) (V : CV) (Q : Int32 → CV → Prop) : Prop :=
  wX0_isIn a1 (0 : Int32) ((vS V 0 2) - (1 : Int32)) (fun r1 => (narrow .boolean (.int r1) = .int r1) ∧ Q r1 V)
def wX0_areTwo (a1 : Int32) (a2 : Int32) (a3 : Int32) (V : CV) (Q : Int32 → CV → Prop) : Prop :=
  wX0_isPerson a1 V (fun r1 V2 => (r1 = 0 → Q (0 : Int32) V2) ∧ (¬ r1 = 0 → wX0_isPerson a2 V2 (fun r3 V4 => (r3 = 0 → Q (0 : Int32) V4) ∧ (¬ r3 = 0 → (a1 = a2 → Q (0 : Int32) V4) ∧ (¬ a1 = a2 → wX0_isIn a3 (0 : Int32) (1 : Int32) (fun r5 => (r5 = 0 → Q (0 : Int32) V4) ∧ (¬ r5 = 0 → Q (1 : Int32) V4)))))))
def wX0_takenFor (a0 : Nat) (a1 : Int32) (V : CV) (Q : Nat → CV → Prop) (E : CV → Prop) : Prop :=
  (a1 = 1 → (∃ c1 b2, isSpk c1 ∧ vM V a0 = some (eSp c1 b2) ∧ ((c1 = 8 ∨ c1 = 10 → Q a0 V) ∧ (¬ (c1 = 8 ∨ c1 = 10) → E V))) ∨ (∃ r5, vM V a0 = some (eSh r5) ∧ (E V)) ∨ (∃ v6, vM V a0 = some (eFg v6) ∧ (E V))) ∧ (¬ a1 = 1 → (a1 = 2 → (∃ c7 b8, isSpk c7 ∧ vM V a0 = some (eSp c7 b8) ∧ ((c7 = 9 ∨ c7 = 11 → Q a0 V) ∧ (¬ (c7 = 9 ∨ c7 = 11) → E V))) ∨ (∃ r11, vM V a0 = some (eSh r11) ∧ (E V)) ∨ (∃ v12, vM V a0 = some (eFg v12) ∧ (E V))) ∧ (¬ a1 = 2 → (a1 = 3 → (∃ c13 b14, isSpk c13 ∧ vM V a0 = some (eSp c13 b14) ∧ ((c13 = 10 → Q a0 V) ∧ (¬ (c13 = 10) → E V))) ∨ (∃ r17, vM V a0 = some (eSh r17) ∧ (E V)) ∨ (∃ v18, vM V a0 = some (eFg v18) ∧ (E V))) ∧ (¬ a1 = 3 → (a1 = 4 → (∃ c19 b20, isSpk c19 ∧ vM V a0 = some (eSp c19 b20) ∧ ((c19 = 11 → Q a0 V) ∧ (¬ (c19 = 11) → E V))) ∨ (∃ r23, vM V a0 = some (eSh r23) ∧ (E V)) ∨ (∃ v24, vM V a0 = some (eFg v24) ∧ (E V))) ∧ (¬ a1 = 4 → (a1 = 5 → (∃ c25 b26, isSpk c25 ∧ vM V a0 = some (eSp c25 b26) ∧ ((c25 = 12 → Q a0 V) ∧ (¬ (c25 = 12) → E V))) ∨ (∃ r29, vM V a0 = some (eSh r29) ∧ (E V)) ∨ (∃ v30, vM V a0 = some (eFg v30) ∧ (E V))) ∧ (¬ a1 = 5 → (∃ c31 b32, isSpk c31 ∧ vM V a0 = some (eSp c31 b32) ∧ (Q a0 V)) ∨ (∃ r35, vM V a0 = some (eSh r35) ∧ (E V)) ∨ (∃ v36, vM V a0 = some (eFg v36) ∧ (E V)))))))
def wX0_as (a1 : Int32) (a2 : Int32) (V : CV) (Q : Int32 → CV → Prop) : Prop :=
  wX0_isPerson a1 V (fun r1 V2 => (r1 = 0 → Q (-1000000001 : Int32) V2) ∧ (¬ r1 = 0 → wX0_isIn a2 (0 : Int32) (5 : Int32) (fun r3 => (r3 = 0 → Q (-1000000001 : Int32) V2) ∧ (¬ r3 = 0 → vp_in a1 12 ∧ (∃ y5, vSp V2 0 a1.toNatClampNeg = some y5 ∧ (wX0_takenFor y5 a2 V2 (fun r7 V8 => ∃ c9 b10, isSpk c9 ∧ vM V8 r7 = some (eSp c9 b10) ∧ (Q b10 V8)) (fun V8 => Q (-1000000012 : Int32) V8)))))))
def wX0_isSlot (a0 : Int32) (Q : Int32 → Prop) : Prop :=
  wX0_isIn a0 (0 : Int32) (4 : Int32) (fun r1 => (narrow .boolean (.int r1) = .int r1) ∧ Q r1)
def wX0_ask (a1 : Int32) (a2 : Int32) (V : CV) (Q : Int32 → CV → Prop) : Prop :=
  wX0_isSlot a1 (fun r1 => (r1 = 0 → Q (-1000000001 : Int32) V) ∧ (¬ r1 = 0 → wX0_isIn a2 (0 : Int32) (5 : Int32) (fun r2 => (r2 = 0 → Q (-1000000001 : Int32) V) ∧ (¬ r2 = 0 → vp_in a1 5 ∧ (((vHe V a1.toNatClampNeg) = none → Q (-1000000011 : Int32) V) ∧ (¬ (vHe V a1.toNatClampNeg) = none → ∃ y4, vHe V a1.toNatClampNeg = some y4 ∧ (wX0_takenFor y4 a2 V (fun r6 V7 => wSp_worth r6 V7 (fun r8 V9 => Q r8 V9)) (fun V7 => Q (-1000000012 : Int32) V7))))))))
def wX0_has (a0 : Int32) (a1 : Int32) (Q : Int32 → Prop) : Prop :=
  (((a0 >>> (a1 &&& 31)) &&& (1 : Int32)) = (1 : Int32) → Q (1 : Int32)) ∧ (¬ ((a0 >>> (a1 &&& 31)) &&& (1 : Int32)) = (1 : Int32) → Q (0 : Int32))
def wX0_becomes_43 (l4 : Int32) (k0 : Int32) (k1 : Int32) (k2 : Nat) (k2' : Nat) (V : CV) (Q : Int32 → CV → Prop) : Prop :=
  vp_in k1 12 ∧ (Q l4 (sSA V k2 k2' k1.toNatClampNeg k0))
def wX0_becomes_15 (l0 : Nat) (l0' : Nat) (l1 : Int32) (l2 : Int32) (l3 : Int32) (k0 : Int32) (V : CV) (Q : Int32 → CV → Prop) : Prop :=
  (l3 = (1 : Int32) → vp_in l1 12 ∧ (wX0_becomes_43 k0 ((vSA V l0 l0' l1.toNatClampNeg) ||| ((1 : Int32) <<< (l2 &&& 31))) l1 l0 l0' V Q)) ∧ (¬ l3 = (1 : Int32) → vp_in l1 12 ∧ (wX0_becomes_43 k0 ((vSA V l0 l0' l1.toNatClampNeg) &&& (((1 : Int32) <<< (l2 &&& 31)) ^^^ (-1 : Int32))) l1 l0 l0' V Q))
def wX0_becomes (a0 : Nat) (a0' : Nat) (a1 : Int32) (a2 : Int32) (a3 : Int32) (V : CV) (Q : Int32 → CV → Prop) : Prop :=
  a0 < 3 ∧ ((a0' = 4 ∨ a0' = 5 ∨ a0' = 6) ∧ (vp_in a1 12 ∧ (wX0_has (vSA V a0 a0' a1.toNatClampNeg) a2 (fun r2 => (r2 = 0 → wX0_becomes_15 a0 a0' a1 a2 a3 (0 : Int32) V Q) ∧ (¬ r2 = 0 → wX0_becomes_15 a0 a0' a1 a2 a3 (1 : Int32) V Q)))))
def wX0_away (a1 : Int32) (a2 : Int32) (a3 : Int32) (V : CV) (Q : Int32 → CV → Prop) : Prop :=
  wX0_isPerson a1 V (fun r1 V2 => (r1 = 0 → Q (-1000000001 : Int32) V2) ∧ (¬ r1 = 0 → wX0_isIn a2 (0 : Int32) (23 : Int32) (fun r3 => (r3 = 0 → Q (-1000000001 : Int32) V2) ∧ (¬ r3 = 0 → wX0_isIn a3 (0 : Int32) (1 : Int32) (fun r4 => (r4 = 0 → Q (-1000000001 : Int32) V2) ∧ (¬ r4 = 0 → wX0_becomes 0 4 a1 a2 a3 V2 (fun r5 V6 => Q r5 V6)))))))
def wX1_takesSpeaker_35 (l0 : Nat) (l1 : Int32) (l2 : Nat) (V : CV) (Q : CV → Prop) : Prop :=
  vp_in l1 12 ∧ (∃ c2 b3, isSpk c2 ∧ vM V l2 = some (eSp c2 b3) ∧ (∃ y6, vSp V l0 l1.toNatClampNeg = some y6 ∧ (∃ c8 b9, isSpk c8 ∧ vM V y6 = some (eSp c8 b9) ∧ (Q (sM V (hset (vM V) y6 (eSp c8 b3)))))))
def wX1_takesSpeaker_25 (l0 : Nat) (l1 : Int32) (l2 : Nat) (V : CV) (Q : CV → Prop) : Prop :=
  wSp_another l2 V (fun r1 V2 => ∃ c4 b5, isSpk c4 ∧ vM V2 r1 = some (eSp c4 b5) ∧ vp_in l1 12 ∧ (wX1_takesSpeaker_35 l0 l1 l2 (sSp V2 l0 l1.toNatClampNeg (some r1)) Q))
def wX1_takesSpeaker (a0 : Nat) (a1 : Int32) (a2 : Nat) (V : CV) (Q : CV → Prop) : Prop :=
  a0 < 3 ∧ (vp_in a1 12 ∧ (((vSp V a0 a1.toNatClampNeg) = none → wX1_takesSpeaker_25 a0 a1 a2 V Q) ∧ (¬ (vSp V a0 a1.toNatClampNeg) = none → vp_in a1 12 ∧ (∃ y3, vSp V a0 a1.toNatClampNeg = some y3 ∧ (wSp_kind y3 V (fun r5 V6 => wSp_kind a2 V6 (fun r7 V8 => (r5 = r7 → wX1_takesSpeaker_35 a0 a1 a2 V8 Q) ∧ (¬ r5 = r7 → wX1_takesSpeaker_25 a0 a1 a2 V8 Q))))))))
def wX0_copyRow (a0 : Nat) (a0' : Nat) (a1 : Nat) (a1' : Nat) (V : CV) (Q : CV → Prop) : Prop :=
  a0 < 3 ∧ ((a0' = 4 ∨ a0' = 5 ∨ a0' = 6) ∧ (a1 < 3 ∧ ((a1' = 4 ∨ a1' = 5 ∨ a1' = 6) ∧ (Q (sSAA V a1 a1' (fun j => if j < 12 then vSA V a0 a0' j else vSA V a1 a1' j))))))
def wX2_copyOf (a0 : Nat) (a0' : Nat) (a1 : Nat) (a1' : Nat) (V : CV) (Q : CV → Prop) : Prop :=
  a0 < 3 ∧ (a0' < 8 ∧ (a1 < 3 ∧ (a1' < 8 ∧ (Q (sD (sD (sD (sD (sD (sD V a0 a0' 0 (vD V a1 a1' 0)) a0 a0' 1 (vD (sD V a0 a0' 0 (vD V a1 a1' 0)) a1 a1' 1)) a0 a0' 2 (vD (sD (sD V a0 a0' 0 (vD V a1 a1' 0)) a0 a0' 1 (vD (sD V a0 a0' 0 (vD V a1 a1' 0)) a1 a1' 1)) a1 a1' 2)) a0 a0' 3 (vD (sD (sD (sD V a0 a0' 0 (vD V a1 a1' 0)) a0 a0' 1 (vD (sD V a0 a0' 0 (vD V a1 a1' 0)) a1 a1' 1)) a0 a0' 2 (vD (sD (sD V a0 a0' 0 (vD V a1 a1' 0)) a0 a0' 1 (vD (sD V a0 a0' 0 (vD V a1 a1' 0)) a1 a1' 1)) a1 a1' 2)) a1 a1' 3)) a0 a0' 4 (vD (sD (sD (sD (sD V a0 a0' 0 (vD V a1 a1' 0)) a0 a0' 1 (vD (sD V a0 a0' 0 (vD V a1 a1' 0)) a1 a1' 1)) a0 a0' 2 (vD (sD (sD V a0 a0' 0 (vD V a1 a1' 0)) a0 a0' 1 (vD (sD V a0 a0' 0 (vD V a1 a1' 0)) a1 a1' 1)) a1 a1' 2)) a0 a0' 3 (vD (sD (sD (sD V a0 a0' 0 (vD V a1 a1' 0)) a0 a0' 1 (vD (sD V a0 a0' 0 (vD V a1 a1' 0)) a1 a1' 1)) a0 a0' 2 (vD (sD (sD V a0 a0' 0 (vD V a1 a1' 0)) a0 a0' 1 (vD (sD V a0 a0' 0 (vD V a1 a1' 0)) a1 a1' 1)) a1 a1' 2)) a1 a1' 3)) a1 a1' 4)) a0 a0' 5 (vD (sD (sD (sD (sD (sD V a0 a0' 0 (vD V a1 a1' 0)) a0 a0' 1 (vD (sD V a0 a0' 0 (vD V a1 a1' 0)) a1 a1' 1)) a0 a0' 2 (vD (sD (sD V a0 a0' 0 (vD V a1 a1' 0)) a0 a0' 1 (vD (sD V a0 a0' 0 (vD V a1 a1' 0)) a1 a1' 1)) a1 a1' 2)) a0 a0' 3 (vD (sD (sD (sD V a0 a0' 0 (vD V a1 a1' 0)) a0 a0' 1 (vD (sD V a0 a0' 0 (vD V a1 a1' 0)) a1 a1' 1)) a0 a0' 2 (vD (sD (sD V a0 a0' 0 (vD V a1 a1' 0)) a0 a0' 1 (vD (sD V a0 a0' 0 (vD V a1 a1' 0)) a1 a1' 1)) a1 a1' 2)) a1 a1' 3)) a0 a0' 4 (vD (sD (sD (sD (sD V a0 a0' 0 (vD V a1 a1' 0)) a0 a0' 1 (vD (sD V a0 a0' 0 (vD V a1 a1' 0)) a1 a1' 1)) a0 a0' 2 (vD (sD (sD V a0 a0' 0 (vD V a1 a1' 0)) a0 a0' 1 (vD (sD V a0 a0' 0 (vD V a1 a1' 0)) a1 a1' 1)) a1 a1' 2)) a0 a0' 3 (vD (sD (sD (sD V a0 a0' 0 (vD V a1 a1' 0)) a0 a0' 1 (vD (sD V a0 a0' 0 (vD V a1 a1' 0)) a1 a1' 1)) a0 a0' 2 (vD (sD (sD V a0 a0' 0 (vD V a1 a1' 0)) a0 a0' 1 (vD (sD V a0 a0' 0 (vD V a1 a1' 0)) a1 a1' 1)) a1 a1' 2)) a1 a1' 3)) a1 a1' 4)) a1 a1' 5))))))
def wX1_copyOf_94 (Q : CV → Prop) : Nat → Nat → Nat → Int32 → CV → Prop
  | 0, _, _, _, _ => False
  | n + 1, l0, l1, l2, V =>
  ((vS V l0 7) ≤ l2 → (∀ j, j < 14 → ∀ y, vTx (sS V l0 9 (vS V l1 9)) l1 j = some y → ∃ a b c, vM (sS V l0 9 (vS V l1 9)) y = some (eTx a b c)) ∧ (Q (sTxA (sS V l0 9 (vS V l1 9)) l0 (fun j => if j < 14 then vTx (sS V l0 9 (vS V l1 9)) l1 j else vTx (sS V l0 9 (vS V l1 9)) l0 j)))) ∧ (¬ (vS V l0 7) ≤ l2 → vp_in l2 8 ∧ (vp_in l2 8 ∧ (wX2_copyOf l0 l2.toNatClampNeg l1 l2.toNatClampNeg V (fun V5 => wX1_copyOf_94 Q n l0 l1 (l2 + (1 : Int32)) V5))))
def wX1_copyOf_26 (Q : CV → Prop) : Nat → Nat → Nat → Int32 → CV → Prop
  | 0, _, _, _, _ => False
  | n + 1, l0, l1, l2, V =>
  ((vS V l0 2) ≤ l2 → wX0_copyRow l1 4 l0 4 V (fun V2 => wX0_copyRow l1 5 l0 5 V2 (fun V4 => wX0_copyRow l1 6 l0 6 V4 (fun V6 => ∃ f_94, wX1_copyOf_94 Q f_94 l0 l1 (0 : Int32) (sS V6 l0 7 (vS V6 l1 7)))))) ∧ (¬ (vS V l0 2) ≤ l2 → vp_in l2 12 ∧ (∃ y8, vSp V l1 l2.toNatClampNeg = some y8 ∧ (wX1_takesSpeaker l0 l2 y8 V (fun V11 => wX1_copyOf_26 Q n l0 l1 (l2 + (1 : Int32)) V11))))
def wX1_copyOf (a0 : Nat) (a1 : Nat) (V : CV) (Q : CV → Prop) : Prop :=
  a0 < 3 ∧ (a1 < 3 ∧ (wX1_copyOf_26 Q 13 a0 a1 (0 : Int32) (sS (sS (sS V a0 0 (vS V a1 0)) a0 1 (vS (sS V a0 0 (vS V a1 0)) a1 1)) a0 2 (vS (sS (sS V a0 0 (vS V a1 0)) a0 1 (vS (sS V a0 0 (vS V a1 0)) a1 1)) a1 2))))
def wX0_back (V : CV) (Q : Int32 → CV → Prop) : Prop :=
  ((vI V 3) = 0 → Q (-1000000002 : Int32) V) ∧ (¬ (vI V 3) = 0 → wX1_copyOf 0 1 V (fun V2 => Q (vS V2 0 2) V2))
def wX0_counts_36 (k_4 : Int32 → Int32 → Int32 → CV → Prop) (l1 : Int32) (l3 : Int32) (k0 : Int32) (V : CV) (Q : Int32 → CV → Prop) : Prop :=
  k_4 l1 k0 (l3 + (1 : Int32)) V
def wX0_counts_4 (Q : Int32 → CV → Prop) : Nat → Int32 → Int32 → Int32 → CV → Prop
  | 0, _, _, _, _ => False
  | n + 1, l1, l2, l3, V =>
  ((vS V 0 9) ≤ l3 → Q l2 V) ∧ (¬ (vS V 0 9) ≤ l3 → vp_in l3 14 ∧ (∃ y2, vTx V 0 l3.toNatClampNeg = some y2 ∧ (∃ f4 f5 f6, vM V y2 = some (eTx f4 f5 f6) ∧ ((f4 = l1 → wX0_counts_36 (fun z0 z1 z2 z3 => wX0_counts_4 Q n z0 z1 z2 z3) l1 l3 l3 V Q) ∧ (¬ f4 = l1 → wX0_counts_36 (fun z0 z1 z2 z3 => wX0_counts_4 Q n z0 z1 z2 z3) l1 l3 l2 V Q)))))
def wX0_counts (a1 : Int32) (V : CV) (Q : Int32 → CV → Prop) : Prop :=
  ∃ f_4, wX0_counts_4 Q f_4 a1 (-1 : Int32) (0 : Int32) V
def wX0_both (a0 : Int32) (a1 : Int32) (a2 : Int32) (Q : Int32 → Prop) : Prop :=
  (a0 = 4 → Q (a1 * a2)) ∧ (¬ a0 = 4 → (a0 = 5 → Q (a1 + a2)) ∧ (¬ a0 = 5 → (a0 = 6 → Q (a1 - a2)) ∧ (¬ a0 = 6 → (a0 = 7 → (a2 ≤ a1 → Q (0 : Int32)) ∧ (¬ a2 ≤ a1 → Q (1 : Int32))) ∧ (¬ a0 = 7 → (a0 = 8 → (a1 = a2 → Q (1 : Int32)) ∧ (¬ a1 = a2 → Q (0 : Int32))) ∧ (¬ a0 = 8 → (a0 = 9 → (a1 ≤ a2 → Q (0 : Int32)) ∧ (¬ a1 ≤ a2 → Q (1 : Int32))) ∧ (¬ a0 = 9 → (a0 = 10 → (a1 = 0 → Q (0 : Int32)) ∧ (¬ a1 = 0 → (a2 = 0 → Q (0 : Int32)) ∧ (¬ a2 = 0 → Q (1 : Int32)))) ∧ (¬ a0 = 10 → (a0 = 11 → (a1 = 0 → (a2 = 0 → Q (0 : Int32)) ∧ (¬ a2 = 0 → Q (1 : Int32))) ∧ (¬ a1 = 0 → Q (1 : Int32))) ∧ (¬ a0 = 11 → (a0 = 12 → (a2 = 0 → Q (0 : Int32)) ∧ (¬ a2 = 0 → (¬ a2 = 0) ∧ (Q (a1 / a2)))) ∧ (¬ a0 = 12 → (a1 = 0 → (a2 = 0 → Q (0 : Int32)) ∧ (¬ a2 = 0 → Q (1 : Int32))) ∧ (¬ a1 = 0 → Q (1 : Int32)))))))))))
def wX0_reckon_133 (k_4 : Nat → Int32 → Int32 → CV → Prop) (l1 : Nat) (l2 : Int32) (l3 : Int32) (V : CV) (Q : Int32 → CV → Prop) : Prop :=
  k_4 l1 l2 (l3 + (1 : Int32)) V
def wX0_reckon_63 (k_4 : Nat → Int32 → Int32 → CV → Prop) (l1 : Nat) (l2 : Int32) (l3 : Int32) (k0 : Int32) (k1 : Int32) (V : CV) (Q : Int32 → CV → Prop) : Prop :=
  vp_in k1 96 ∧ (wX0_reckon_133 k_4 l1 (l2 + (1 : Int32)) l3 (sA V 4 k1.toNatClampNeg k0) Q)
def wX0_reckon_32 (k_4 : Nat → Int32 → Int32 → CV → Prop) (l1 : Nat) (l2 : Int32) (l3 : Int32) (l4 : Int32) (V : CV) (Q : Int32 → CV → Prop) : Prop :=
  (l4 = (1 : Int32) → ∃ f10 f11 f12, vM V l1 = some (eWd f10 f11 f12) ∧ (∃ n15 f16, vM V f11 = some (eIA n15 f16) ∧ vp_in l3 n15 ∧ (wX0_reckon_63 k_4 l1 l2 l3 (f16 l3.toNatClampNeg) l2 V Q))) ∧ (¬ l4 = (1 : Int32) → ∃ f1 f2 f3, vM V l1 = some (eWd f1 f2 f3) ∧ (∃ n6 f7, vM V f2 = some (eIA n6 f7) ∧ vp_in l3 n6 ∧ (vp_in (f7 l3.toNatClampNeg) 128 ∧ (wX0_reckon_63 k_4 l1 l2 l3 (vA V 15 (f7 l3.toNatClampNeg).toNatClampNeg) l2 V Q))))
def wX0_reckon_99 (k_4 : Nat → Int32 → Int32 → CV → Prop) (l1 : Nat) (l2 : Int32) (l3 : Int32) (k0 : Int32) (k1 : Int32) (V : CV) (Q : Int32 → CV → Prop) : Prop :=
  vp_in k1 96 ∧ (wX0_reckon_133 k_4 l1 l2 l3 (sA V 4 k1.toNatClampNeg k0) Q)
def wX0_reckon_4 (Q : Int32 → CV → Prop) : Nat → Nat → Int32 → Int32 → CV → Prop
  | 0, _, _, _, _ => False
  | n + 1, l1, l2, l3, V =>
  ∃ f1 f2 f3, vM V l1 = some (eWd f1 f2 f3) ∧ ((f3 ≤ l3 → vp_in (0 : Int32) 96 ∧ (Q (vA V 4 (0 : Int32).toNatClampNeg) V)) ∧ (¬ f3 ≤ l3 → ∃ n7 f8, vM V f1 = some (eIA n7 f8) ∧ vp_in l3 n7 ∧ (((f8 l3.toNatClampNeg) = (1 : Int32) → wX0_reckon_32 (fun z0 z1 z2 z3 => wX0_reckon_4 Q n z0 z1 z2 z3) l1 l2 l3 (f8 l3.toNatClampNeg) V Q) ∧ (¬ (f8 l3.toNatClampNeg) = (1 : Int32) → ((f8 l3.toNatClampNeg) = (2 : Int32) → wX0_reckon_32 (fun z0 z1 z2 z3 => wX0_reckon_4 Q n z0 z1 z2 z3) l1 l2 l3 (f8 l3.toNatClampNeg) V Q) ∧ (¬ (f8 l3.toNatClampNeg) = (2 : Int32) → ((f8 l3.toNatClampNeg) = (3 : Int32) → vp_in (l2 - (1 : Int32)) 96 ∧ (((vA V 4 (l2 - (1 : Int32)).toNatClampNeg) = 0 → wX0_reckon_99 (fun z0 z1 z2 z3 => wX0_reckon_4 Q n z0 z1 z2 z3) l1 l2 l3 (1 : Int32) (l2 - (1 : Int32)) V Q) ∧ (¬ (vA V 4 (l2 - (1 : Int32)).toNatClampNeg) = 0 → wX0_reckon_99 (fun z0 z1 z2 z3 => wX0_reckon_4 Q n z0 z1 z2 z3) l1 l2 l3 (0 : Int32) (l2 - (1 : Int32)) V Q))) ∧ (¬ (f8 l3.toNatClampNeg) = (3 : Int32) → vp_in ((l2 + (-1 : Int32)) - (1 : Int32)) 96 ∧ (vp_in (l2 + (-1 : Int32)) 96 ∧ (wX0_both (f8 l3.toNatClampNeg) (vA V 4 ((l2 + (-1 : Int32)) - (1 : Int32)).toNatClampNeg) (vA V 4 (l2 + (-1 : Int32)).toNatClampNeg) (fun r12 => vp_in ((l2 + (-1 : Int32)) - (1 : Int32)) 96 ∧ (wX0_reckon_133 (fun z0 z1 z2 z3 => wX0_reckon_4 Q n z0 z1 z2 z3) l1 (l2 + (-1 : Int32)) l3 (sA V 4 ((l2 + (-1 : Int32)) - (1 : Int32)).toNatClampNeg r12) Q))))))))))
def wX0_reckon (a1 : Nat) (V : CV) (Q : Int32 → CV → Prop) : Prop :=
  ∃ f_4, wX0_reckon_4 Q f_4 a1 (0 : Int32) (0 : Int32) V
def wX0_within (a0 : Int32) (a1 : Int32) (a2 : Int32) (Q : Int32 → Prop) : Prop :=
  Q (if a1 < (if a0 < a2 then a0 else a2) then (if a0 < a2 then a0 else a2) else a1)
def wX0_boldOf (a1 : Int32) (a2 : Nat) (a2' : Nat) (V : CV) (Q : Int32 → CV → Prop) : Prop :=
  a2 < 3 ∧ (a2' < 8 ∧ (vp_in a1 12 ∧ (∃ y2, vSp V 0 a1.toNatClampNeg = some y2 ∧ (∃ c4 b5, isSpk c4 ∧ vM V y2 = some (eSp c4 b5) ∧ (wX0_counts (2 : Int32) V (fun r8 V9 => (r8 = (-1 : Int32) → Q b5 V9) ∧ (¬ r8 = (-1 : Int32) → vp_in (98 : Int32) 128 ∧ (vp_in (115 : Int32) 128 ∧ (wX2_leftMany a2 a2' (sA (sA V9 15 (98 : Int32).toNatClampNeg b5) 15 (115 : Int32).toNatClampNeg a1) (fun r12 V13 => vp_in (110 : Int32) 128 ∧ (vp_in r8 14 ∧ (∃ y16, vTx (sA V13 15 (110 : Int32).toNatClampNeg r12) 0 r8.toNatClampNeg = some y16 ∧ (∃ f18 f19 f20, vM (sA V13 15 (110 : Int32).toNatClampNeg r12) y16 = some (eTx f18 f19 f20) ∧ (wX0_reckon f19 (sA V13 15 (110 : Int32).toNatClampNeg r12) (fun r22 V23 => wX0_within r22 (0 : Int32) (100 : Int32) (fun r24 => Q r24 V23))))))))))))))))
def wX0_isBold (a0 : Int32) (Q : Int32 → Prop) : Prop :=
  wX0_isIn a0 (0 : Int32) (100 : Int32) (fun r1 => (narrow .boolean (.int r1) = .int r1) ∧ Q r1)
def wX0_bolder (a1 : Int32) (a2 : Int32) (V : CV) (Q : Int32 → CV → Prop) : Prop :=
  wX0_isPerson a1 V (fun r1 V2 => (r1 = 0 → Q (-1000000001 : Int32) V2) ∧ (¬ r1 = 0 → wX0_isBold a2 (fun r3 => (r3 = 0 → Q (-1000000001 : Int32) V2) ∧ (¬ r3 = 0 → vp_in a1 12 ∧ (∃ y5, vSp V2 0 a1.toNatClampNeg = some y5 ∧ (∃ c7 b8, isSpk c7 ∧ vM V2 y5 = some (eSp c7 b8) ∧ (vp_in a1 12 ∧ (∃ y12, vSp V2 0 a1.toNatClampNeg = some y12 ∧ (∃ c14 b15, isSpk c14 ∧ vM V2 y12 = some (eSp c14 b15) ∧ (Q b8 (sM V2 (hset (vM V2) y12 (eSp c14 a2)))))))))))))
def wX4_isFloats (a0 : Nat) (V : CV) (Q : Int32 → CV → Prop) : Prop :=
  ∃ f1, vM V a0 = some (eSh f1) ∧ ((f1 = none ∧ (Q (0 : Int32) V)) ∨ (∃ y8 n4 f5, f1 = some y8 ∧ vM V y8 = some (eFA n4 f5) ∧ (Q (1 : Int32) V)) ∨ (∃ y14 n10 f11, f1 = some y14 ∧ vM V y14 = some (eHA n10 f11) ∧ (Q (0 : Int32) V)))
def wX0_carries_81 (Q : CV → Prop) : Nat → Int32 → Int32 → Nat → Int32 → CV → Prop
  | 0, _, _, _, _, _ => False
  | n + 1, l4, l5, l7, l8, V =>
  (l5 ≤ l8 → Q V) ∧ (¬ l5 ≤ l8 → vp_in l8 24 ∧ (∃ n3 f4, vM V l7 = some (eFA n3 f4) ∧ vp_in (l4 + l8) n3 ∧ (wX0_carries_81 Q n l4 l5 l7 (l8 + (1 : Int32)) (sM V (hset (vM V) l7 (eFA n3 (vf_upd f4 (l4 + l8).toNatClampNeg (vF V l8.toNatClampNeg))))))))
def wX0_carries_51 (Q : CV → Prop) : Nat → Int32 → Int32 → Int32 → Nat → Nat → Int32 → CV → Prop
  | 0, _, _, _, _, _, _, _ => False
  | n + 1, l2, l4, l5, l6, l7, l8, V =>
  (l5 ≤ l8 → ∃ f_81, wX0_carries_81 Q f_81 l4 l5 l7 (0 : Int32) V) ∧ (¬ l5 ≤ l8 → ∃ n2 f3, vM V l6 = some (eFA n2 f3) ∧ vp_in (l2 + l8) n2 ∧ (vp_in l8 24 ∧ (wX0_carries_51 Q n l2 l4 l5 l6 l7 (l8 + (1 : Int32)) (sF V l8.toNatClampNeg (f3 (l2 + l8).toNatClampNeg)))))
def wX0_carries (a1 : Nat) (a2 : Int32) (a3 : Nat) (a4 : Int32) (a5 : Int32) (V : CV) (Q : CV → Prop) : Prop :=
  ∃ f2, vM V a1 = some (eSh f2) ∧ (wX4_isFloats a1 V (fun r1 V4 => (r1 = 0 → ∃ f19, vM V4 a1 = some (eSh f19) ∧ (∃ y21, f19 = some y21 ∧ (∃ n23 f24, vM V4 y21 = some (eHA n23 f24) ∧ (∃ f26, vM V4 a3 = some (eSh f26) ∧ (∃ y28, f26 = some y28 ∧ (∃ n30 f31, vM V4 y28 = some (eHA n30 f31) ∧ ((¬ a2 < 0) ∧ (¬ a4 < 0) ∧ (¬ a5 < 0) ∧ a2.toNatClampNeg + a5.toNatClampNeg ≤ n23 ∧ a4.toNatClampNeg + a5.toNatClampNeg ≤ n30 ∧ (∀ i, i < a5.toNatClampNeg → fits .short (.int (f24 (a2.toNatClampNeg + i))) = true) ∧ (Q (sM V4 (hset (vM V4) y28 (eHA n30 (va_cpy f24 f31 a2.toNatClampNeg a4.toNatClampNeg a5.toNatClampNeg)))))))))))) ∧ (¬ r1 = 0 → ∃ f5, vM V4 a1 = some (eSh f5) ∧ (∃ y7, f5 = some y7 ∧ (∃ n9 f10, vM V4 y7 = some (eFA n9 f10) ∧ (∃ f12, vM V4 a3 = some (eSh f12) ∧ (∃ y14, f12 = some y14 ∧ (∃ n16 f17, vM V4 y14 = some (eFA n16 f17) ∧ (∃ f_51, wX0_carries_51 Q f_51 a2 a4 a5 y7 y14 (0 : Int32) V4)))))))))
def wX0_findFollowers_109 (k_20 : Int32 → CV → Prop) (k_28 : Int32 → Int32 → CV → Prop) (l2 : Int32) (l3 : Int32) (k0 : Int32) (V : CV) (Q : CV → Prop) : Prop :=
  vp_in l2 12 ∧ (k_28 k0 (l2 + (1 : Int32)) (sA V 16 l2.toNatClampNeg l3))
def wX0_findFollowers_104 (k_20 : Int32 → CV → Prop) (k_28 : Int32 → Int32 → CV → Prop) (l2 : Int32) (l3 : Int32) (V : CV) (Q : CV → Prop) : Prop :=
  wX0_findFollowers_109 k_20 k_28 l2 l3 (1 : Int32) V Q
def wX0_findFollowers_82 (k_20 : Int32 → CV → Prop) (k_28 : Int32 → Int32 → CV → Prop) (k_49 : Int32 → Int32 → Int32 → Int32 → CV → Prop) (l1 : Int32) (l2 : Int32) (l4 : Int32) (k0 : Int32) (k1 : Int32) (V : CV) (Q : CV → Prop) : Prop :=
  k_49 l1 l2 (k1 ||| k0) (l4 + (1 : Int32)) V
def wX0_findFollowers_49 (k_20 : Int32 → CV → Prop) (k_28 : Int32 → Int32 → CV → Prop) (Q : CV → Prop) : Nat → Int32 → Int32 → Int32 → Int32 → CV → Prop
  | 0, _, _, _, _, _ => False
  | n + 1, l1, l2, l3, l4, V =>
  ((vS V 0 2) ≤ l4 → (l1 = 0 → vp_in l2 12 ∧ ((l3 = (vA V 16 l2.toNatClampNeg) → wX0_findFollowers_109 k_20 k_28 l2 l3 (0 : Int32) V Q) ∧ (¬ l3 = (vA V 16 l2.toNatClampNeg) → wX0_findFollowers_104 k_20 k_28 l2 l3 V Q))) ∧ (¬ l1 = 0 → wX0_findFollowers_104 k_20 k_28 l2 l3 V Q)) ∧ (¬ (vS V 0 2) ≤ l4 → wX0_has l3 l4 (fun r2 => (r2 = 0 → wX0_findFollowers_82 k_20 k_28 (fun z0 z1 z2 z3 z4 => wX0_findFollowers_49 k_20 k_28 Q n z0 z1 z2 z3 z4) l1 l2 l4 (0 : Int32) l3 V Q) ∧ (¬ r2 = 0 → vp_in l4 12 ∧ (wX0_findFollowers_82 k_20 k_28 (fun z0 z1 z2 z3 z4 => wX0_findFollowers_49 k_20 k_28 Q n z0 z1 z2 z3 z4) l1 l2 l4 (vA V 16 l4.toNatClampNeg) l3 V Q))))
def wX0_findFollowers_28 (k_20 : Int32 → CV → Prop) (Q : CV → Prop) : Nat → Int32 → Int32 → CV → Prop
  | 0, _, _, _ => False
  | n + 1, l1, l2, V =>
  ((vS V 0 2) ≤ l2 → k_20 l1 V) ∧ (¬ (vS V 0 2) ≤ l2 → vp_in l2 12 ∧ (∃ f_49, wX0_findFollowers_49 k_20 (fun z0 z1 z2 => wX0_findFollowers_28 k_20 Q n z0 z1 z2) Q f_49 l1 l2 (vA V 16 l2.toNatClampNeg) (0 : Int32) V))
def wX0_findFollowers_20 (Q : CV → Prop) : Nat → Int32 → CV → Prop
  | 0, _, _ => False
  | n + 1, l1, V =>
  (l1 = 0 → Q V) ∧ (¬ l1 = 0 → ∃ f_28, wX0_findFollowers_28 (fun z0 z1 => wX0_findFollowers_20 Q n z0 z1) Q f_28 (0 : Int32) (0 : Int32) V)
def wX0_findFollowers (V : CV) (Q : CV → Prop) : Prop :=
  ∃ f_20, wX0_findFollowers_20 Q f_20 (1 : Int32) (sAA V 16 (fun j => if j < 12 then vSA V 0 6 j else vA V 16 j))
def wX1_draw (a0 : Nat) (V : CV) (Q : Int32 → CV → Prop) : Prop :=
  a0 < 3 ∧ (Q (((vS (sS V a0 0 (((vS V a0 0) * (1103515245 : Int32)) + (12345 : Int32))) a0 0).toUInt32 >>> ((8 : Int32).toUInt32 &&& Int32.toUInt32 31)).toInt32) (sS V a0 0 (((vS V a0 0) * (1103515245 : Int32)) + (12345 : Int32))))
def wX0_goBy (a1 : Int32) (V : CV) (Q : Int32 → CV → Prop) : Prop :=
  vp_in a1 12 ∧ (Q ((vA V 16 a1.toNatClampNeg) ||| ((1 : Int32) <<< (a1 &&& 31))) V)
def wX0_mayBe (a1 : Int32) (a2 : Nat) (a2' : Nat) (a3 : Int32) (V : CV) (Q : Int32 → CV → Prop) : Prop :=
  a2 < 3 ∧ (a2' < 8 ∧ (wX0_has (vD V a2 a2' 3) a3 (fun r1 => (r1 = 0 → Q (0 : Int32) V) ∧ (¬ r1 = 0 → wX0_goBy a3 V (fun r2 V3 => wJ5_bitCount ((vD V a2 a2' 3) &&& (r2 ^^^ (-1 : Int32))) (fun r4 => ((vS V3 0 1) ≤ r4 → wX0_counts (0 : Int32) V3 (fun r5 V6 => (r5 = (-1 : Int32) → Q (1 : Int32) V6) ∧ (¬ r5 = (-1 : Int32) → vp_in (115 : Int32) 128 ∧ (vp_in (112 : Int32) 128 ∧ (vp_in (119 : Int32) 128 ∧ (vp_in r5 14 ∧ (∃ y11, vTx (sA (sA (sA V6 15 (115 : Int32).toNatClampNeg a1) 15 (112 : Int32).toNatClampNeg a3) 15 (119 : Int32).toNatClampNeg (vD (sA (sA V6 15 (115 : Int32).toNatClampNeg a1) 15 (112 : Int32).toNatClampNeg a3) a2 a2' 2)) 0 r5.toNatClampNeg = some y11 ∧ (∃ f13 f14 f15, vM (sA (sA (sA V6 15 (115 : Int32).toNatClampNeg a1) 15 (112 : Int32).toNatClampNeg a3) 15 (119 : Int32).toNatClampNeg (vD (sA (sA V6 15 (115 : Int32).toNatClampNeg a1) 15 (112 : Int32).toNatClampNeg a3) a2 a2' 2)) y11 = some (eTx f13 f14 f15) ∧ (wX0_reckon f14 (sA (sA (sA V6 15 (115 : Int32).toNatClampNeg a1) 15 (112 : Int32).toNatClampNeg a3) 15 (119 : Int32).toNatClampNeg (vD (sA (sA V6 15 (115 : Int32).toNatClampNeg a1) 15 (112 : Int32).toNatClampNeg a3) a2 a2' 2)) (fun r17 V18 => (r17 = 0 → Q (0 : Int32) V18) ∧ (¬ r17 = 0 → Q (1 : Int32) V18))))))))))) ∧ (¬ (vS V3 0 1) ≤ r4 → Q (0 : Int32) V3)))))))
def wX0_choiceOf_66 (k_8 : Int32 → Nat → Nat → Int32 → Int32 → Int32 → CV → Prop) (l1 : Int32) (l2 : Nat) (l2' : Nat) (l3 : Int32) (l5 : Int32) (k0 : Int32) (k1 : Int32) (V : CV) (Q : Int32 → CV → Prop) : Prop :=
  k_8 l1 l2 l2' l3 (k1 ||| k0) (l5 + (1 : Int32)) V
def wX0_choiceOf_40 (k_8 : Int32 → Nat → Nat → Int32 → Int32 → Int32 → CV → Prop) (l1 : Int32) (l2 : Nat) (l2' : Nat) (l4 : Int32) (l5 : Int32) (k0 : Int32) (k1 : Int32) (V : CV) (Q : Int32 → CV → Prop) : Prop :=
  wX0_goBy l5 V (fun r1 V2 => ((r1 &&& (vD V2 l2 l2' 0)) = 0 → wX0_choiceOf_66 k_8 l1 l2 l2' (k1 ||| k0) l5 (0 : Int32) l4 V2 Q) ∧ (¬ (r1 &&& (vD V2 l2 l2' 0)) = 0 → wX0_choiceOf_66 k_8 l1 l2 l2' (k1 ||| k0) l5 ((1 : Int32) <<< (l5 &&& 31)) l4 V2 Q))
def wX0_choiceOf_8 (Q : Int32 → CV → Prop) : Nat → Int32 → Nat → Nat → Int32 → Int32 → Int32 → CV → Prop
  | 0, _, _, _, _, _, _, _ => False
  | n + 1, l1, l2, l2', l3, l4, l5, V =>
  ((vS V 0 2) ≤ l5 → vp_in l1 12 ∧ (vp_in l1 12 ∧ (∃ y3, vSp V 0 l1.toNatClampNeg = some y3 ∧ (wSp_choice y3 l3 l4 (vSA V 0 5 l1.toNatClampNeg) (vD V l2 l2' 2) V (fun r5 V6 => Q r5 V6))))) ∧ (¬ (vS V 0 2) ≤ l5 → wX0_mayBe l1 l2 l2' l5 V (fun r7 V8 => (r7 = 0 → wX0_choiceOf_40 (fun z0 z1 z2 z3 z4 z5 z6 => wX0_choiceOf_8 Q n z0 z1 z2 z3 z4 z5 z6) l1 l2 l2' l4 l5 (0 : Int32) l3 V8 Q) ∧ (¬ r7 = 0 → wX0_choiceOf_40 (fun z0 z1 z2 z3 z4 z5 z6 => wX0_choiceOf_8 Q n z0 z1 z2 z3 z4 z5 z6) l1 l2 l2' l4 l5 ((1 : Int32) <<< (l5 &&& 31)) l3 V8 Q)))
def wX0_choiceOf (a1 : Int32) (a2 : Nat) (a2' : Nat) (V : CV) (Q : Int32 → CV → Prop) : Prop :=
  a2 < 3 ∧ (a2' < 8 ∧ (∃ f_8, wX0_choiceOf_8 Q f_8 a1 a2 a2' (0 : Int32) (0 : Int32) (0 : Int32) V))
def wX0_saysOf_25 (l1 : Nat) (l1' : Nat) (l3 : Int32) (k0 : Int32) (k1 : Int32) (k2 : Nat) (k2' : Nat) (V : CV) (Q : CV → Prop) : Prop :=
  Q (sD (sD (sD V k2 k2' 5 (k1 + k0)) l1 l1' 3 ((vD (sD V k2 k2' 5 (k1 + k0)) l1 l1' 3) &&& (l3 ^^^ (-1 : Int32)))) l1 l1' 4 ((vD (sD (sD V k2 k2' 5 (k1 + k0)) l1 l1' 3 ((vD (sD V k2 k2' 5 (k1 + k0)) l1 l1' 3) &&& (l3 ^^^ (-1 : Int32)))) l1 l1' 4) + (1 : Int32)))
def wX0_saysOf (a1 : Nat) (a1' : Nat) (a2 : Int32) (V : CV) (Q : CV → Prop) : Prop :=
  a1 < 3 ∧ (a1' < 8 ∧ (wX0_goBy a2 V (fun r1 V2 => ((r1 &&& (vD V2 a1 a1' 0)) = 0 → wX0_saysOf_25 a1 a1' r1 (0 : Int32) (vD V2 a1 a1' 5) a1 a1' V2 Q) ∧ (¬ (r1 &&& (vD V2 a1 a1' 0)) = 0 → wX0_saysOf_25 a1 a1' r1 (1 : Int32) (vD V2 a1 a1' 5) a1 a1' V2 Q))))
def wX0_round_68 (k_8 : Nat → Nat → Int32 → Int32 → CV → Prop) (l1 : Nat) (l1' : Nat) (l2 : Int32) (l3 : Int32) (V : CV) (Q : Int32 → CV → Prop) : Prop :=
  k_8 l1 l1' l2 (l3 + (1 : Int32)) V
def wX0_round_8 (Q : Int32 → CV → Prop) : Nat → Nat → Nat → Int32 → Int32 → CV → Prop
  | 0, _, _, _, _, _ => False
  | n + 1, l1, l1', l2, l3, V =>
  ((vS V 0 2) ≤ l3 → Q l2 V) ∧ (¬ (vS V 0 2) ≤ l3 → wX1_draw 0 V (fun r1 V2 => wX0_boldOf l3 l1 l1' V2 (fun r3 V4 => ((r1 - r1 / (100 : Int32) * (100 : Int32)) < r3 → wX0_choiceOf l3 l1 l1' V4 (fun r5 V6 => (r5 = (-1 : Int32) → wX0_round_68 (fun z0 z1 z2 z3 z4 => wX0_round_8 Q n z0 z1 z2 z3 z4) l1 l1' l2 l3 V6 Q) ∧ (¬ r5 = (-1 : Int32) → wX0_saysOf l1 l1' r5 V6 (fun V8 => wX0_round_68 (fun z0 z1 z2 z3 z4 => wX0_round_8 Q n z0 z1 z2 z3 z4) l1 l1' (l2 + (1 : Int32)) l3 V8 Q)))) ∧ (¬ (r1 - r1 / (100 : Int32) * (100 : Int32)) < r3 → wX0_round_68 (fun z0 z1 z2 z3 z4 => wX0_round_8 Q n z0 z1 z2 z3 z4) l1 l1' l2 l3 V4 Q))))
def wX0_round (a1 : Nat) (a1' : Nat) (V : CV) (Q : Int32 → CV → Prop) : Prop :=
  a1 < 3 ∧ (a1' < 8 ∧ (wX0_findFollowers V (fun V2 => ∃ f_8, wX0_round_8 Q f_8 a1 a1' (0 : Int32) (0 : Int32) V2)))
def wX0_rowsOfRounds_35 (Q : Int32 → CV → Prop) : Nat → Int32 → Nat → Int32 → CV → Prop
  | 0, _, _, _, _ => False
  | n + 1, l2, l3', l4, V =>
  (l2 ≤ l4 → wX1_copyOf 0 2 V (fun V2 => Q ((2 : Int32) * l2) V2)) ∧ (¬ l2 ≤ l4 → wX0_round 0 l3' V (fun r3 V4 => wX2_leftMany 0 l3' V4 (fun r5 V6 => vp_in ((2 : Int32) * l4) 60 ∧ (vp_in (((2 : Int32) * l4) + (1 : Int32)) 60 ∧ (wX0_rowsOfRounds_35 Q n l2 l3' (l4 + (1 : Int32)) (sA (sA V6 24 ((2 : Int32) * l4).toNatClampNeg r5) 24 (((2 : Int32) * l4) + (1 : Int32)).toNatClampNeg (vD (sA V6 24 ((2 : Int32) * l4).toNatClampNeg r5) 0 l3' 5)))))))
def wX0_rowsOfRounds (a1 : Int32) (a2 : Int32) (V : CV) (Q : Int32 → CV → Prop) : Prop :=
  wX1_copyOf 2 0 V (fun V2 => wX1_copyOf 0 1 V2 (fun V4 => vp_in a1 8 ∧ (∃ f_35, wX0_rowsOfRounds_35 Q f_35 a2 a1.toNatClampNeg (0 : Int32) V4)))
def wX0_check_65 (Q : Int32 → CV → Prop) : Nat → Int32 → Int32 → Int32 → CV → Prop
  | 0, _, _, _, _ => False
  | n + 1, l3, l4, l5, V =>
  (l3 ≤ l5 → (l4 ≤ l3 → Q (0 : Int32) V) ∧ (¬ l4 ≤ l3 → Q ((1 : Int32) + l3) V)) ∧ (¬ l3 ≤ l5 → (l4 ≤ l5 → Q ((1 : Int32) + l5) V) ∧ (¬ l4 ≤ l5 → vp_in l5 60 ∧ (vp_in l5 60 ∧ (((vA V 22 l5.toNatClampNeg) = (vA V 24 l5.toNatClampNeg) → wX0_check_65 Q n l3 l4 (l5 + (1 : Int32)) V) ∧ (¬ (vA V 22 l5.toNatClampNeg) = (vA V 24 l5.toNatClampNeg) → Q ((1 : Int32) + l5) V)))))
def wX0_check (a1 : Int32) (a2 : Int32) (V : CV) (Q : Int32 → CV → Prop) : Prop :=
  wX0_isIn a2 (1 : Int32) (30 : Int32) (fun r1 => (r1 = 0 → Q (-1000000001 : Int32) (sI V 23 (0 : Int32))) ∧ (¬ r1 = 0 → ((vI (sI V 23 (0 : Int32)) 3) = 0 → Q (-1000000002 : Int32) (sI V 23 (0 : Int32))) ∧ (¬ (vI (sI V 23 (0 : Int32)) 3) = 0 → wX0_isIn a1 (0 : Int32) ((vS (sI V 23 (0 : Int32)) 1 7) - (1 : Int32)) (fun r2 => (r2 = 0 → Q (-1000000001 : Int32) (sI V 23 (0 : Int32))) ∧ (¬ r2 = 0 → wX0_rowsOfRounds a1 a2 (sI V 23 (0 : Int32)) (fun r3 V4 => ∃ f_65, wX0_check_65 Q f_65 (vI V 23) r3 (0 : Int32) V4))))))
def wX0_orNone (a0 : Int32) (Q : Int32 → Prop) : Prop :=
  (a0 = (-1 : Int32) → Q (-1000000005 : Int32)) ∧ (¬ a0 = (-1 : Int32) → Q a0)
def wX0_choice (a1 : Int32) (a2 : Int32) (V : CV) (Q : Int32 → CV → Prop) : Prop :=
  wX0_isPerson a1 V (fun r1 V2 => (r1 = 0 → Q (-1000000001 : Int32) V2) ∧ (¬ r1 = 0 → wX0_isDeed a2 V2 (fun r3 V4 => (r3 = 0 → Q (-1000000001 : Int32) V4) ∧ (¬ r3 = 0 → wX0_findFollowers V4 (fun V6 => vp_in a2 8 ∧ (wX0_choiceOf a1 0 a2.toNatClampNeg V6 (fun r8 V9 => wX0_orNone r8 (fun r10 => Q r10 V9))))))))
def wX0_speakerOf (a0 : Int32) (V : CV) (Q : Nat → CV → Prop) : Prop :=
  (a0 = 1 → ∀ q1, vM V q1 = none → (wX8_init q1 (sM V (hset (vM V) q1 (eSp 8 0))) (fun V4 => Q q1 V4))) ∧ (¬ a0 = 1 → (a0 = 2 → ∀ q5, vM V q5 = none → (wX9_init q5 (sM V (hset (vM V) q5 (eSp 9 0))) (fun V8 => Q q5 V8))) ∧ (¬ a0 = 2 → (a0 = 3 → ∀ q9, vM V q9 = none → (wX10_init q9 (sM V (hset (vM V) q9 (eSp 10 0))) (fun V12 => Q q9 V12))) ∧ (¬ a0 = 3 → (a0 = 4 → ∀ q13, vM V q13 = none → (wX11_init q13 (sM V (hset (vM V) q13 (eSp 11 0))) (fun V16 => Q q13 V16))) ∧ (¬ a0 = 4 → (a0 = 5 → ∀ q17, vM V q17 = none → (wX12_init q17 (sM V (hset (vM V) q17 (eSp 12 0))) (fun V20 => Q q17 V20))) ∧ (¬ a0 = 5 → ∀ q21, vM V q21 = none → (wX7_init q21 (sM V (hset (vM V) q21 (eSp 7 0))) (fun V24 => Q q21 V24)))))))
def wX0_comes_86 (Q : Int32 → CV → Prop) : Nat → Int32 → Int32 → CV → Prop
  | 0, _, _, _ => False
  | n + 1, l4, l5, V =>
  ((vS V 0 7) ≤ l5 → Q l4 V) ∧ (¬ (vS V 0 7) ≤ l5 → vp_in l5 8 ∧ (wX0_comes_86 Q n l4 (l5 + (1 : Int32)) (sD V 0 l5.toNatClampNeg 3 ((vD V 0 l5.toNatClampNeg 3) ||| ((1 : Int32) <<< (l4 &&& 31))))))
def wX0_comes (a1 : Int32) (a2 : Int32) (a3 : Int32) (V : CV) (Q : Int32 → CV → Prop) : Prop :=
  wX0_speakerOf a1 V (fun r1 V2 => ∃ c4 b5, isSpk c4 ∧ vM V2 r1 = some (eSp c4 b5) ∧ vp_in (vS V 0 2) 12 ∧ (vp_in (vS V 0 2) 12 ∧ (∃ y9, vSp (sSp V2 0 (vS V 0 2).toNatClampNeg (some r1)) 0 (vS V 0 2).toNatClampNeg = some y9 ∧ (∃ c11 b12, isSpk c11 ∧ vM (sSp V2 0 (vS V 0 2).toNatClampNeg (some r1)) y9 = some (eSp c11 b12) ∧ (vp_in (vS V 0 2) 12 ∧ (vp_in (vS V 0 2) 12 ∧ (vp_in (vS V 0 2) 12 ∧ (∃ f_86, wX0_comes_86 Q f_86 (vS V 0 2) (0 : Int32) (sS (sSA (sSA (sSA (sM (sSp V2 0 (vS V 0 2).toNatClampNeg (some r1)) (hset (vM (sSp V2 0 (vS V 0 2).toNatClampNeg (some r1))) y9 (eSp c11 a2))) 0 4 (vS V 0 2).toNatClampNeg a3) 0 5 (vS V 0 2).toNatClampNeg (0 : Int32)) 0 6 (vS V 0 2).toNatClampNeg (0 : Int32)) 0 2 ((vS (sSA (sSA (sSA (sM (sSp V2 0 (vS V 0 2).toNatClampNeg (some r1)) (hset (vM (sSp V2 0 (vS V 0 2).toNatClampNeg (some r1))) y9 (eSp c11 a2))) 0 4 (vS V 0 2).toNatClampNeg a3) 0 5 (vS V 0 2).toNatClampNeg (0 : Int32)) 0 6 (vS V 0 2).toNatClampNeg (0 : Int32)) 0 2) + (1 : Int32)))))))))))
def wX0_isSheet (a0 : Int32) (Q : Int32 → Prop) : Prop :=
  wX0_isIn a0 (0 : Int32) (3 : Int32) (fun r1 => (narrow .boolean (.int r1) = .int r1) ∧ Q r1)
def wX4_isThere (a0 : Nat) (V : CV) (Q : Int32 → CV → Prop) : Prop :=
  ∃ f1, vM V a0 = some (eSh f1) ∧ ((f1 = none → Q (0 : Int32) V) ∧ (¬ f1 = none → Q (1 : Int32) V))
def wX4_size (a0 : Nat) (V : CV) (Q : Int32 → CV → Prop) : Prop :=
  ∃ f2, vM V a0 = some (eSh f2) ∧ (wX4_isFloats a0 V (fun r1 V4 => (r1 = 0 → ∃ f5, vM V4 a0 = some (eSh f5) ∧ (∃ y7, f5 = some y7 ∧ (∃ n9 f10, vM V4 y7 = some (eHA n9 f10) ∧ (Q (nI n9) V4)))) ∧ (¬ r1 = 0 → ∃ f12, vM V4 a0 = some (eSh f12) ∧ (∃ y14, f12 = some y14 ∧ (∃ n16 f17, vM V4 y14 = some (eFA n16 f17) ∧ (Q (nI n16) V4))))))
def wX0_copy (a1 : Int32) (a2 : Int32) (a3 : Int32) (a4 : Int32) (a5 : Int32) (V : CV) (Q : Int32 → CV → Prop) : Prop :=
  wX0_isSheet a1 (fun r1 => (r1 = 0 → Q (-1000000001 : Int32) V) ∧ (¬ r1 = 0 → wX0_isSheet a3 (fun r2 => (r2 = 0 → Q (-1000000001 : Int32) V) ∧ (¬ r2 = 0 → vp_in a1 4 ∧ (vp_in a3 4 ∧ (∃ y5, vSh V a1.toNatClampNeg = some y5 ∧ (∃ f8, vM V y5 = some (eSh f8) ∧ (wX4_isThere y5 V (fun r7 V10 => (r7 = 0 → Q (-1000000011 : Int32) V10) ∧ (¬ r7 = 0 → ∃ y11, vSh V a3.toNatClampNeg = some y11 ∧ (∃ f14, vM V10 y11 = some (eSh f14) ∧ (wX4_isThere y11 V10 (fun r13 V16 => (r13 = 0 → Q (-1000000011 : Int32) V16) ∧ (¬ r13 = 0 → ∃ y17, vSh V a1.toNatClampNeg = some y17 ∧ (∃ f20, vM V16 y17 = some (eSh f20) ∧ (wX4_isFloats y17 V16 (fun r19 V22 => ∃ y23, vSh V a3.toNatClampNeg = some y23 ∧ (∃ f26, vM V22 y23 = some (eSh f26) ∧ (wX4_isFloats y23 V22 (fun r25 V28 => (r19 = r25 → (a2 < 0 → Q (-1000000013 : Int32) V28) ∧ (¬ a2 < 0 → (a4 < 0 → Q (-1000000013 : Int32) V28) ∧ (¬ a4 < 0 → (a5 < 0 → Q (-1000000013 : Int32) V28) ∧ (¬ a5 < 0 → ∃ y29, vSh V a1.toNatClampNeg = some y29 ∧ (∃ f32, vM V28 y29 = some (eSh f32) ∧ (wX4_size y29 V28 (fun r31 V34 => ((r31 - a5) < a2 → Q (-1000000013 : Int32) V34) ∧ (¬ (r31 - a5) < a2 → ∃ y35, vSh V a3.toNatClampNeg = some y35 ∧ (∃ f38, vM V34 y35 = some (eSh f38) ∧ (wX4_size y35 V34 (fun r37 V40 => (a4 ≤ (r37 - a5) → ∃ y41, vSh V a1.toNatClampNeg = some y41 ∧ (∃ y43, vSh V a3.toNatClampNeg = some y43 ∧ (wX0_carries y41 a2 y43 a4 a5 V40 (fun V46 => Q a5 V46)))) ∧ (¬ a4 ≤ (r37 - a5) → Q (-1000000013 : Int32) V40)))))))))))) ∧ (¬ r19 = r25 → Q (-1000000012 : Int32) V28)))))))))))))))))))))
def wX0_costOf (a1 : Nat) (a1' : Nat) (V : CV) (Q : Int32 → CV → Prop) : Prop :=
  a1 < 3 ∧ (a1' < 8 ∧ (wX0_counts (1 : Int32) V (fun r1 V2 => (r1 = (-1 : Int32) → Q ((vD V2 a1 a1' 5) * (vD V2 a1 a1' 2)) V2) ∧ (¬ r1 = (-1 : Int32) → vp_in (108 : Int32) 128 ∧ (vp_in (119 : Int32) 128 ∧ (wX2_leftMany a1 a1' (sA (sA V2 15 (108 : Int32).toNatClampNeg (vD V2 a1 a1' 5)) 15 (119 : Int32).toNatClampNeg (vD (sA V2 15 (108 : Int32).toNatClampNeg (vD V2 a1 a1' 5)) a1 a1' 2)) (fun r5 V6 => vp_in (110 : Int32) 128 ∧ (vp_in r1 14 ∧ (∃ y9, vTx (sA V6 15 (110 : Int32).toNatClampNeg r5) 0 r1.toNatClampNeg = some y9 ∧ (∃ f11 f12 f13, vM (sA V6 15 (110 : Int32).toNatClampNeg r5) y9 = some (eTx f11 f12 f13) ∧ (wX0_reckon f12 (sA V6 15 (110 : Int32).toNatClampNeg r5) (fun r15 V16 => wX0_within r15 (0 : Int32) (99999 : Int32) (fun r17 => Q r17 V16)))))))))))))
def wX0_sumOf_47 (k_4 : Int32 → Int32 → Int32 → CV → Prop) (l1 : Int32) (l3 : Int32) (k0 : Int32) (k1 : Int32) (V : CV) (Q : Int32 → CV → Prop) : Prop :=
  k_4 l1 (k1 + k0) (l3 + (1 : Int32)) V
def wX0_sumOf_4 (Q : Int32 → CV → Prop) : Nat → Int32 → Int32 → Int32 → CV → Prop
  | 0, _, _, _, _ => False
  | n + 1, l1, l2, l3, V =>
  ((vS V 0 7) ≤ l3 → Q l2 V) ∧ (¬ (vS V 0 7) ≤ l3 → (l1 = 0 → vp_in l3 8 ∧ (wX0_sumOf_47 (fun z0 z1 z2 z3 => wX0_sumOf_4 Q n z0 z1 z2 z3) l1 l3 (vD V 0 l3.toNatClampNeg 4) l2 V Q)) ∧ (¬ l1 = 0 → vp_in l3 8 ∧ (wX0_sumOf_47 (fun z0 z1 z2 z3 => wX0_sumOf_4 Q n z0 z1 z2 z3) l1 l3 (vD V 0 l3.toNatClampNeg 5) l2 V Q)))
def wX0_sumOf (a1 : Int32) (V : CV) (Q : Int32 → CV → Prop) : Prop :=
  ∃ f_4, wX0_sumOf_4 Q f_4 a1 (0 : Int32) (0 : Int32) V
def wX0_count (a1 : Int32) (V : CV) (Q : Int32 → CV → Prop) : Prop :=
  (a1 = 0 → Q (vS V 0 2) V) ∧ (¬ a1 = 0 → (a1 = 1 → Q (vS V 0 7) V) ∧ (¬ a1 = 1 → (a1 = 2 → Q (vS V 0 1) V) ∧ (¬ a1 = 2 → (a1 = 3 → wX0_sumOf (0 : Int32) V (fun r1 V2 => Q r1 V2)) ∧ (¬ a1 = 3 → (a1 = 4 → wX0_sumOf (1 : Int32) V (fun r3 V4 => Q r3 V4)) ∧ (¬ a1 = 4 → (a1 = 5 → Q (vS V 0 9) V) ∧ (¬ a1 = 5 → (a1 = 6 → Q (vI V 23) V) ∧ (¬ a1 = 6 → (a1 = 7 → Q (vI V 6) V) ∧ (¬ a1 = 7 → (a1 = 8 → Q (vS V 0 0) V) ∧ (¬ a1 = 8 → Q (-1000000001 : Int32) V)))))))))
def wX0_deal_15 (Q : Int32 → CV → Prop) : Nat → Int32 → Int32 → CV → Prop
  | 0, _, _, _ => False
  | n + 1, l1, l2, V =>
  (l1 ≤ l2 → Q l2 V) ∧ (¬ l1 ≤ l2 → ((12 : Int32) ≤ (vS V 0 2) → Q l2 V) ∧ (¬ (12 : Int32) ≤ (vS V 0 2) → wX1_draw 0 V (fun r1 V2 => wX1_draw 0 V2 (fun r3 V4 => wX1_draw 0 V4 (fun r5 V6 => wX1_draw 0 V6 (fun r7 V8 => wX0_comes (r1 - r1 / (6 : Int32) * (6 : Int32)) (r3 - r3 / (101 : Int32) * (101 : Int32)) (r5 &&& r7) V8 (fun r9 V10 => wX0_deal_15 Q n l1 (l2 + (1 : Int32)) V10)))))))
def wX0_deal (a1 : Int32) (V : CV) (Q : Int32 → CV → Prop) : Prop :=
  wX0_isIn a1 (1 : Int32) (12 : Int32) (fun r1 => (r1 = 0 → Q (-1000000001 : Int32) V) ∧ (¬ r1 = 0 → wX0_deal_15 Q 13 a1 (0 : Int32) V))
def wX0_isSet (a1 : Int32) (V : CV) (Q : Int32 → CV → Prop) : Prop :=
  (a1 < 0 → Q (0 : Int32) V) ∧ (¬ a1 < 0 → ((a1 >>> ((vS V 0 2) &&& 31)) = 0 → Q (1 : Int32) V) ∧ (¬ (a1 >>> ((vS V 0 2) &&& 31)) = 0 → Q (0 : Int32) V))
def wX0_deed (a1 : Int32) (a2 : Int32) (a3 : Int32) (V : CV) (Q : Int32 → CV → Prop) : Prop :=
  wX0_isSet a1 V (fun r1 V2 => (r1 = 0 → Q (-1000000001 : Int32) V2) ∧ (¬ r1 = 0 → wJ5_bitCount a1 (fun r3 => wX0_isIn r3 (1 : Int32) (2 : Int32) (fun r4 => (r4 = 0 → Q (-1000000001 : Int32) V2) ∧ (¬ r4 = 0 → wX0_isIn a2 (0 : Int32) (23 : Int32) (fun r5 => (r5 = 0 → Q (-1000000001 : Int32) V2) ∧ (¬ r5 = 0 → wX0_isIn a3 (0 : Int32) (99 : Int32) (fun r6 => (r6 = 0 → Q (-1000000001 : Int32) V2) ∧ (¬ r6 = 0 → ((vS V2 0 7) = (8 : Int32) → Q (-1000000003 : Int32) V2) ∧ (¬ (vS V2 0 7) = (8 : Int32) → vp_in (vS V2 0 7) 8 ∧ (wX0_begins 0 ((vS V2 0 7).toNatClampNeg) (sD (sD (sD V2 0 ((vS V2 0 7).toNatClampNeg) 0 a1) 0 ((vS V2 0 7).toNatClampNeg) 1 a2) 0 ((vS V2 0 7).toNatClampNeg) 2 a3) (fun V9 => Q ((vS (sS V9 0 7 ((vS V9 0 7) + (1 : Int32))) 0 7) - (1 : Int32)) (sS V9 0 7 ((vS V9 0 7) + (1 : Int32)))))))))))))))
def wX0_deedTold (a1 : Int32) (a2 : Int32) (V : CV) (Q : Int32 → CV → Prop) : Prop :=
  wX0_isDeed a1 V (fun r1 V2 => (r1 = 0 → Q (-1000000001 : Int32) V2) ∧ (¬ r1 = 0 → vp_in a1 8 ∧ ((a2 = 0 → Q (vD V2 0 a1.toNatClampNeg 0) V2) ∧ (¬ a2 = 0 → (a2 = 1 → Q (vD V2 0 a1.toNatClampNeg 1) V2) ∧ (¬ a2 = 1 → (a2 = 2 → Q (vD V2 0 a1.toNatClampNeg 2) V2) ∧ (¬ a2 = 2 → (a2 = 3 → Q (vD V2 0 a1.toNatClampNeg 3) V2) ∧ (¬ a2 = 3 → (a2 = 4 → Q (vD V2 0 a1.toNatClampNeg 4) V2) ∧ (¬ a2 = 4 → (a2 = 5 → Q (vD V2 0 a1.toNatClampNeg 5) V2) ∧ (¬ a2 = 5 → (a2 = 6 → wX0_costOf 0 a1.toNatClampNeg V2 (fun r4 V5 => Q r4 V5)) ∧ (¬ a2 = 6 → (a2 = 7 → ((vD V2 0 a1.toNatClampNeg 3) = (vD V2 0 a1.toNatClampNeg 0) → Q (1 : Int32) V2) ∧ (¬ (vD V2 0 a1.toNatClampNeg 3) = (vD V2 0 a1.toNatClampNeg 0) → Q (0 : Int32) V2)) ∧ (¬ a2 = 7 → Q (-1000000001 : Int32) V2)))))))))))
def wX13_init (a0 : Nat) (V : CV) (Q : CV → Prop) : Prop :=
  ∀ q1, vM V q1 = none → (∃ fs3, vM (sM V (hset (vM V) q1 (eIA 96 (fun _ => 0)))) a0 = some (.inr (13, fs3)) ∧ 0 < fs3.length ∧ (∀ q6, vM (sM (sM V (hset (vM V) q1 (eIA 96 (fun _ => 0)))) (hset (vM (sM V (hset (vM V) q1 (eIA 96 (fun _ => 0))))) a0 (.inr (13, fs3.set 0 (.ref q1))))) q6 = none → (∃ fs8, vM (sM (sM (sM V (hset (vM V) q1 (eIA 96 (fun _ => 0)))) (hset (vM (sM V (hset (vM V) q1 (eIA 96 (fun _ => 0))))) a0 (.inr (13, fs3.set 0 (.ref q1))))) (hset (vM (sM (sM V (hset (vM V) q1 (eIA 96 (fun _ => 0)))) (hset (vM (sM V (hset (vM V) q1 (eIA 96 (fun _ => 0))))) a0 (.inr (13, fs3.set 0 (.ref q1)))))) q6 (eIA 96 (fun _ => 0)))) a0 = some (.inr (13, fs8)) ∧ 1 < fs8.length ∧ (Q (sM (sM (sM (sM V (hset (vM V) q1 (eIA 96 (fun _ => 0)))) (hset (vM (sM V (hset (vM V) q1 (eIA 96 (fun _ => 0))))) a0 (.inr (13, fs3.set 0 (.ref q1))))) (hset (vM (sM (sM V (hset (vM V) q1 (eIA 96 (fun _ => 0)))) (hset (vM (sM V (hset (vM V) q1 (eIA 96 (fun _ => 0))))) a0 (.inr (13, fs3.set 0 (.ref q1)))))) q6 (eIA 96 (fun _ => 0)))) (hset (vM (sM (sM (sM V (hset (vM V) q1 (eIA 96 (fun _ => 0)))) (hset (vM (sM V (hset (vM V) q1 (eIA 96 (fun _ => 0))))) a0 (.inr (13, fs3.set 0 (.ref q1))))) (hset (vM (sM (sM V (hset (vM V) q1 (eIA 96 (fun _ => 0)))) (hset (vM (sM V (hset (vM V) q1 (eIA 96 (fun _ => 0))))) a0 (.inr (13, fs3.set 0 (.ref q1)))))) q6 (eIA 96 (fun _ => 0))))) a0 (.inr (13, fs8.set 1 (.ref q6)))))))))
def wX0_findFalls_117 (k_12 : Int32 → Int32 → CV → Prop) (l1 : Int32) (l2 : Int32) (V : CV) (Q : CV → Prop) : Prop :=
  k_12 l1 (l2 + (1 : Int32)) V
def wX0_findFalls_12 (Q : CV → Prop) : Nat → Int32 → Int32 → CV → Prop
  | 0, _, _, _ => False
  | n + 1, l1, l2, V =>
  ((vS V 0 7) ≤ l2 → Q V) ∧ (¬ (vS V 0 7) ≤ l2 → vp_in l2 8 ∧ (wX0_has (vD V 0 l2.toNatClampNeg 3) l1 (fun r2 => (r2 = 0 → wX0_findFalls_117 (fun z0 z1 z2 => wX0_findFalls_12 Q n z0 z1 z2) l1 l2 V Q) ∧ (¬ r2 = 0 → wX2_leftMany 0 l2.toNatClampNeg V (fun r3 V4 => wX0_divisorC (vJ (sJ (sJ V4 17 (((vJ V4 17) * r3.toInt64) + (vJ V4 18))) 18 ((vJ (sJ V4 17 (((vJ V4 17) * r3.toInt64) + (vJ V4 18))) 18) * r3.toInt64)) 17) (vJ (sJ (sJ V4 17 (((vJ V4 17) * r3.toInt64) + (vJ V4 18))) 18 ((vJ (sJ V4 17 (((vJ V4 17) * r3.toInt64) + (vJ V4 18))) 18) * r3.toInt64)) 18) (fun r5 => (¬ r5 = 0) ∧ ((¬ r5 = 0) ∧ (wX0_findFalls_117 (fun z0 z1 z2 => wX0_findFalls_12 Q n z0 z1 z2) l1 l2 (sJ (sJ (sJ (sJ V4 17 (((vJ V4 17) * r3.toInt64) + (vJ V4 18))) 18 ((vJ (sJ V4 17 (((vJ V4 17) * r3.toInt64) + (vJ V4 18))) 18) * r3.toInt64)) 17 ((vJ (sJ (sJ V4 17 (((vJ V4 17) * r3.toInt64) + (vJ V4 18))) 18 ((vJ (sJ V4 17 (((vJ V4 17) * r3.toInt64) + (vJ V4 18))) 18) * r3.toInt64)) 17) / r5)) 18 ((vJ (sJ (sJ (sJ V4 17 (((vJ V4 17) * r3.toInt64) + (vJ V4 18))) 18 ((vJ (sJ V4 17 (((vJ V4 17) * r3.toInt64) + (vJ V4 18))) 18) * r3.toInt64)) 17 ((vJ (sJ (sJ V4 17 (((vJ V4 17) * r3.toInt64) + (vJ V4 18))) 18 ((vJ (sJ V4 17 (((vJ V4 17) * r3.toInt64) + (vJ V4 18))) 18) * r3.toInt64)) 17) / r5)) 18) / r5)) Q))))))))
def wX0_findFalls (a1 : Int32) (V : CV) (Q : CV → Prop) : Prop :=
  ∃ f_12, wX0_findFalls_12 Q f_12 a1 (0 : Int32) (sJ (sJ V 17 (0 : Int64)) 18 (1 : Int64))
def wX0_falls (a1 : Int32) (a2 : Int32) (V : CV) (Q : Int64 → CV → Prop) : Prop :=
  wX0_isPerson a1 V (fun r1 V2 => (r1 = 0 → Q (-1000000001 : Int64) V2) ∧ (¬ r1 = 0 → wX0_isIn a2 (0 : Int32) (1 : Int32) (fun r3 => (r3 = 0 → Q (-1000000001 : Int64) V2) ∧ (¬ r3 = 0 → wX0_findFalls a1 V2 (fun V5 => (a2 = 0 → Q (vJ V5 17) V5) ∧ (¬ a2 = 0 → Q (vJ V5 18) V5))))))
def wX0_four_3 (Q : CV → Prop) : Nat → Int32 → Int32 → CV → Prop
  | 0, _, _, _ => False
  | n + 1, l1, l2, V =>
  (l2 < 0 → Q V) ∧ (¬ l2 < 0 → vp_in (vI V 6) 96 ∧ (wX0_four_3 Q n l1 (l2 + (-8 : Int32)) (sI (sA V 5 (vI V 6).toNatClampNeg (vp_nar .byte ((l1 >>> (l2 &&& 31)).toInt8.toInt32))) 6 ((vI (sA V 5 (vI V 6).toNatClampNeg (vp_nar .byte ((l1 >>> (l2 &&& 31)).toInt8.toInt32))) 6) + (1 : Int32)))))
def wX0_four (a1 : Int32) (V : CV) (Q : CV → Prop) : Prop :=
  ∃ f_3, wX0_four_3 Q f_3 a1 (24 : Int32) V
def wX0_feed (a1 : Int32) (a2 : Int32) (a3 : Int32) (V : CV) (Q : Int32 → CV → Prop) : Prop :=
  (((vI V 6) + (12 : Int32)) ≤ (96 : Int32) → wX0_four a1 V (fun V2 => wX0_four a2 V2 (fun V4 => wX0_four a3 V4 (fun V6 => Q (vI V6 6) V6)))) ∧ (¬ ((vI V 6) + (12 : Int32)) ≤ (96 : Int32) → Q (-1000000003 : Int32) V)
def wX0_fewestOf_135 (k_24 : Nat → Nat → Int32 → Int32 → Int32 → CV → Prop) (l1 : Nat) (l1' : Nat) (l2 : Int32) (l3 : Int32) (l4 : Int32) (V : CV) (Q : Int32 → CV → Prop) : Prop :=
  k_24 l1 l1' l2 l3 (l4 + (1 : Int32)) V
def wX0_fewestOf_134 (k_24 : Nat → Nat → Int32 → Int32 → Int32 → CV → Prop) (l1 : Nat) (l1' : Nat) (l2 : Int32) (l4 : Int32) (k0 : Int32) (V : CV) (Q : Int32 → CV → Prop) : Prop :=
  wX0_fewestOf_135 k_24 l1 l1' l2 k0 l4 V Q
def wX0_fewestOf_100 (k_24 : Nat → Nat → Int32 → Int32 → Int32 → CV → Prop) (k_66 : Nat → Nat → Int32 → Int32 → Int32 → Int32 → Int32 → CV → Prop) (l1 : Nat) (l1' : Nat) (l2 : Int32) (l3 : Int32) (l4 : Int32) (l6 : Int32) (k0 : Int32) (k1 : Int32) (V : CV) (Q : Int32 → CV → Prop) : Prop :=
  (((k1 ||| k0) &&& (vD V l1 l1' 0)) = 0 → k_66 l1 l1' l2 l3 l4 (k1 ||| k0) (l6 + (1 : Int32)) V) ∧ (¬ ((k1 ||| k0) &&& (vD V l1 l1' 0)) = 0 → wX0_fewestOf_135 k_24 l1 l1' l2 l3 l4 V Q)
def wX0_fewestOf_66 (k_24 : Nat → Nat → Int32 → Int32 → Int32 → CV → Prop) (Q : Int32 → CV → Prop) : Nat → Nat → Nat → Int32 → Int32 → Int32 → Int32 → Int32 → CV → Prop
  | 0, _, _, _, _, _, _, _, _ => False
  | n + 1, l1, l1', l2, l3, l4, l5, l6, V =>
  ((vS V 0 2) ≤ l6 → (l5 = l2 → wX0_fewestOf_134 k_24 l1 l1' l2 l4 l4 V Q) ∧ (¬ l5 = l2 → wX0_fewestOf_134 k_24 l1 l1' l2 l4 l3 V Q)) ∧ (¬ (vS V 0 2) ≤ l6 → wX0_has l4 l6 (fun r1 => (r1 = 0 → wX0_fewestOf_100 k_24 (fun z0 z1 z2 z3 z4 z5 z6 z7 => wX0_fewestOf_66 k_24 Q n z0 z1 z2 z3 z4 z5 z6 z7) l1 l1' l2 l3 l4 l6 (0 : Int32) l5 V Q) ∧ (¬ r1 = 0 → wX0_goBy l6 V (fun r2 V3 => wX0_fewestOf_100 k_24 (fun z0 z1 z2 z3 z4 z5 z6 z7 => wX0_fewestOf_66 k_24 Q n z0 z1 z2 z3 z4 z5 z6 z7) l1 l1' l2 l3 l4 l6 r2 l5 V3 Q))))
def wX0_fewestOf_60 (k_24 : Nat → Nat → Int32 → Int32 → Int32 → CV → Prop) (l1 : Nat) (l1' : Nat) (l2 : Int32) (l3 : Int32) (l4 : Int32) (V : CV) (Q : Int32 → CV → Prop) : Prop :=
  ∃ f_66, wX0_fewestOf_66 k_24 Q f_66 l1 l1' l2 l3 l4 (0 : Int32) (0 : Int32) V
def wX0_fewestOf_24 (Q : Int32 → CV → Prop) : Nat → Nat → Nat → Int32 → Int32 → Int32 → CV → Prop
  | 0, _, _, _, _, _, _ => False
  | n + 1, l1, l1', l2, l3, l4, V =>
  (l2 < l4 → Q l3 V) ∧ (¬ l2 < l4 → ((l4 &&& (vD V l1 l1' 0)) = 0 → (l3 = (-1 : Int32) → wX0_fewestOf_60 (fun z0 z1 z2 z3 z4 z5 => wX0_fewestOf_24 Q n z0 z1 z2 z3 z4 z5) l1 l1' l2 l3 l4 V Q) ∧ (¬ l3 = (-1 : Int32) → wJ5_bitCount l4 (fun r1 => wJ5_bitCount l3 (fun r2 => (r1 < r2 → wX0_fewestOf_60 (fun z0 z1 z2 z3 z4 z5 => wX0_fewestOf_24 Q n z0 z1 z2 z3 z4 z5) l1 l1' l2 l3 l4 V Q) ∧ (¬ r1 < r2 → wX0_fewestOf_135 (fun z0 z1 z2 z3 z4 z5 => wX0_fewestOf_24 Q n z0 z1 z2 z3 z4 z5) l1 l1' l2 l3 l4 V Q))))) ∧ (¬ (l4 &&& (vD V l1 l1' 0)) = 0 → wX0_fewestOf_135 (fun z0 z1 z2 z3 z4 z5 => wX0_fewestOf_24 Q n z0 z1 z2 z3 z4 z5) l1 l1' l2 l3 l4 V Q))
def wX0_fewestOf (a1 : Nat) (a1' : Nat) (V : CV) (Q : Int32 → CV → Prop) : Prop :=
  a1 < 3 ∧ (a1' < 8 ∧ (wX0_findFollowers V (fun V2 => wX1_all 0 V2 (fun r3 V4 => ∃ f_24, wX0_fewestOf_24 Q f_24 a1 a1' (r3 &&& ((vD V4 a1 a1' 0) ^^^ (-1 : Int32))) (-1 : Int32) (0 : Int32) V4))))
def wX0_fewest (a1 : Int32) (a2 : Int32) (V : CV) (Q : Int32 → CV → Prop) : Prop :=
  wX0_isDeed a1 V (fun r1 V2 => (r1 = 0 → Q (-1000000001 : Int32) V2) ∧ (¬ r1 = 0 → wX0_isIn a2 (0 : Int32) (1 : Int32) (fun r3 => (r3 = 0 → Q (-1000000001 : Int32) V2) ∧ (¬ r3 = 0 → vp_in a1 8 ∧ (wX0_fewestOf 0 a1.toNatClampNeg V2 (fun r5 V6 => (r5 = (-1 : Int32) → Q (-1000000005 : Int32) V6) ∧ (¬ r5 = (-1 : Int32) → (a2 = 0 → wJ5_bitCount r5 (fun r7 => Q r7 V6)) ∧ (¬ a2 = 0 → Q r5 V6))))))))
def wX0_follow (a1 : Int32) (a2 : Int32) (a3 : Int32) (V : CV) (Q : Int32 → CV → Prop) : Prop :=
  wX0_areTwo a1 a2 a3 V (fun r1 V2 => (r1 = 0 → Q (-1000000001 : Int32) V2) ∧ (¬ r1 = 0 → wX0_becomes 0 6 a1 a2 a3 V2 (fun r3 V4 => Q r3 V4)))
def wX0_friend (a1 : Int32) (a2 : Int32) (a3 : Int32) (V : CV) (Q : Int32 → CV → Prop) : Prop :=
  wX0_areTwo a1 a2 a3 V (fun r1 V2 => (r1 = 0 → Q (-1000000001 : Int32) V2) ∧ (¬ r1 = 0 → wX0_becomes 0 5 a1 a2 a3 V2 (fun r3 V4 => wX0_becomes 0 5 a2 a1 a3 V4 (fun r5 V6 => Q (r5 &&& r3) V6))))
def wX0_goneOn_40 (k_4 : Int32 → Int32 → Int32 → CV → Prop) (l1 : Int32) (l3 : Int32) (k0 : Int32) (k1 : Int32) (V : CV) (Q : Int32 → CV → Prop) : Prop :=
  k_4 l1 (k1 + k0) (l3 + (1 : Int32)) V
def wX0_goneOn_4 (Q : Int32 → CV → Prop) : Nat → Int32 → Int32 → Int32 → CV → Prop
  | 0, _, _, _, _ => False
  | n + 1, l1, l2, l3, V =>
  ((vS V 0 7) ≤ l3 → Q l2 V) ∧ (¬ (vS V 0 7) ≤ l3 → vp_in l3 8 ∧ (wX0_has (vD V 0 l3.toNatClampNeg 3) l1 (fun r2 => (r2 = 0 → wX0_goneOn_40 (fun z0 z1 z2 z3 => wX0_goneOn_4 Q n z0 z1 z2 z3) l1 l3 (1 : Int32) l2 V Q) ∧ (¬ r2 = 0 → wX0_goneOn_40 (fun z0 z1 z2 z3 => wX0_goneOn_4 Q n z0 z1 z2 z3) l1 l3 (0 : Int32) l2 V Q))))
def wX0_goneOn (a1 : Int32) (V : CV) (Q : Int32 → CV → Prop) : Prop :=
  ∃ f_4, wX0_goneOn_4 Q f_4 a1 (0 : Int32) (0 : Int32) V
def wX4_init (a0 : Nat) (V : CV) (Q : CV → Prop) : Prop :=
  Q V
def wX0_isWord_60 (k_24 : Nat → Int32 → Int32 → CV → Prop) (l1 : Nat) (l3 : Int32) (k0 : Int32) (V : CV) (Q : Int32 → CV → Prop) : Prop :=
  k_24 l1 k0 (l3 + (1 : Int32)) V
def wX0_isWord_24 (Q : Int32 → CV → Prop) : Nat → Nat → Int32 → Int32 → CV → Prop
  | 0, _, _, _, _ => False
  | n + 1, l1, l2, l3, V =>
  wJ4_length l1 V (fun r1 V2 => (r1 ≤ l3 → (narrow .boolean (.int l2) = .int l2) ∧ Q l2 V2) ∧ (¬ r1 ≤ l3 → (l2 = 0 → (narrow .boolean (.int l2) = .int l2) ∧ Q l2 V2) ∧ (¬ l2 = 0 → vp_in ((vI V2 8) + l3) 96 ∧ (wJ4_charAt l1 l3 V2 (fun r4 V5 => ((vA V2 5 ((vI V2 8) + l3).toNatClampNeg) = r4 → wX0_isWord_60 (fun z0 z1 z2 z3 => wX0_isWord_24 Q n z0 z1 z2 z3) l1 l3 (1 : Int32) V5 Q) ∧ (¬ (vA V2 5 ((vI V2 8) + l3).toNatClampNeg) = r4 → wX0_isWord_60 (fun z0 z1 z2 z3 => wX0_isWord_24 Q n z0 z1 z2 z3) l1 l3 (0 : Int32) V5 Q))))))
def wX0_isWord_21 (l1 : Nat) (k0 : Int32) (V : CV) (Q : Int32 → CV → Prop) : Prop :=
  ∃ f_24, wX0_isWord_24 Q f_24 l1 k0 (0 : Int32) V
def wX0_isWord (a1 : Nat) (V : CV) (Q : Int32 → CV → Prop) : Prop :=
  a1 < 3 ∧ (wJ4_length a1 V (fun r1 V2 => (((vI V 9) - (vI V 8)) = r1 → wX0_isWord_21 a1 (1 : Int32) V2 Q) ∧ (¬ ((vI V 9) - (vI V 8)) = r1 → wX0_isWord_21 a1 (0 : Int32) V2 Q)))
def wX4_isNumber (a0 : Nat) (a1 : Int32) (V : CV) (Q : Int32 → CV → Prop) : Prop :=
  ∃ f2, vM V a0 = some (eSh f2) ∧ (wX4_isFloats a0 V (fun r1 V4 => (r1 = 0 → Q (1 : Int32) V4) ∧ (¬ r1 = 0 → ∃ f5, vM V4 a0 = some (eSh f5) ∧ (∃ y7, f5 = some y7 ∧ (∃ n9 f10, vM V4 y7 = some (eFA n9 f10) ∧ (vp_in a1 n9 ∧ (∃ y13, f5 = some y13 ∧ (∃ n15 f16, vM V4 y13 = some (eFA n15 f16) ∧ (vp_in a1 n15 ∧ (((Op.cmpValue (FP.fcmp (f10 a1.toNatClampNeg) (f16 a1.toNatClampNeg)) .l) = 0 → Q (1 : Int32) V4) ∧ (¬ (Op.cmpValue (FP.fcmp (f10 a1.toNatClampNeg) (f16 a1.toNatClampNeg)) .l) = 0 → Q (0 : Int32) V4)))))))))))
def wX4_at (a0 : Nat) (a1 : Int32) (V : CV) (Q : Int32 → CV → Prop) : Prop :=
  ∃ f2, vM V a0 = some (eSh f2) ∧ (wX4_isFloats a0 V (fun r1 V4 => (r1 = 0 → ∃ f5, vM V4 a0 = some (eSh f5) ∧ (∃ y7, f5 = some y7 ∧ (∃ n9 f10, vM V4 y7 = some (eHA n9 f10) ∧ (vp_in a1 n9 ∧ (Q (f10 a1.toNatClampNeg) V4))))) ∧ (¬ r1 = 0 → ∃ f13, vM V4 a0 = some (eSh f13) ∧ (∃ y15, f13 = some y15 ∧ (∃ n17 f18, vM V4 y15 = some (eFA n17 f18) ∧ (vp_in a1 n17 ∧ (Q (FP.f2i (f18 a1.toNatClampNeg)) V4)))))))
def wX0_item (a1 : Int32) (a2 : Int32) (V : CV) (Q : Int32 → CV → Prop) : Prop :=
  wX0_isSlot a1 (fun r1 => (r1 = 0 → Q (-1000000001 : Int32) V) ∧ (¬ r1 = 0 → vp_in a1 5 ∧ (((vHe V a1.toNatClampNeg) = none → Q (-1000000011 : Int32) V) ∧ (¬ (vHe V a1.toNatClampNeg) = none → ∃ y3, vHe V a1.toNatClampNeg = some y3 ∧ ((∃ c5 b6, isSpk c5 ∧ vM V y3 = some (eSp c5 b6) ∧ (Q (-1000000012 : Int32) V)) ∨ (∃ r9, vM V y3 = some (eSh r9) ∧ (wX4_size y3 V (fun r11 V12 => wX0_isIn a2 (0 : Int32) (r11 - (1 : Int32)) (fun r13 => (r13 = 0 → Q (-1000000013 : Int32) V12) ∧ (¬ r13 = 0 → ∃ f15, vM V12 y3 = some (eSh f15) ∧ (wX4_isNumber y3 a2 V12 (fun r14 V17 => (r14 = 0 → Q (-1000000012 : Int32) V17) ∧ (¬ r14 = 0 → ∃ f19, vM V17 y3 = some (eSh f19) ∧ (wX4_at y3 a2 V17 (fun r18 V21 => Q r18 V21)))))))))) ∨ (∃ v10, vM V y3 = some (eFg v10) ∧ (Q (-1000000012 : Int32) V)))))))
def wX0_keep (V : CV) (Q : Int32 → CV → Prop) : Prop :=
  wX1_copyOf 1 0 V (fun V2 => Q (vS (sI V2 3 (1 : Int32)) 0 2) (sI V2 3 (1 : Int32)))
def wX0_key_50 (l1 : Int32) (V : CV) (Q : Int32 → CV → Prop) (E : CV → Prop) : Prop :=
  wX0_goes V (fun V2 => Q l1 V2) (fun V2 => E V2)
def wX0_key_40 (k0 : Int32) (V : CV) (Q : Int32 → CV → Prop) (E : CV → Prop) : Prop :=
  (k0 = (-1 : Int32) → wX0_wrong V (fun V2 => wX0_key_50 k0 V2 Q E) (fun V2 => E V2)) ∧ (¬ k0 = (-1 : Int32) → wX0_key_50 k0 V Q E)
def wX0_key (V : CV) (Q : Int32 → CV → Prop) (E : CV → Prop) : Prop :=
  wX0_isWord 0 V (fun r1 V2 => (r1 = 0 → wX0_isWord 1 V2 (fun r3 V4 => (r3 = 0 → wX0_isWord 2 V4 (fun r5 V6 => (r5 = 0 → wX0_key_40 (-1 : Int32) V6 Q E) ∧ (¬ r5 = 0 → wX0_key_40 (2 : Int32) V6 Q E))) ∧ (¬ r3 = 0 → wX0_key_40 (1 : Int32) V4 Q E))) ∧ (¬ r1 = 0 → wX0_key_40 (0 : Int32) V2 Q E))
def wX5_thing (a0 : Nat) (V : CV) (Q : Int32 → CV → Prop) : Prop :=
  a0 < 5 ∧ (((vHe V a0) = none → Q (0 : Int32) V) ∧ (¬ (vHe V a0) = none → ((vHe V a0) = none ∧ (((0 : Int32) = 0 → ((vHe V a0) = none ∧ (((0 : Int32) = 0 → Q (3 : Int32) V) ∧ (¬ (0 : Int32) = 0 → Q (2 : Int32) V))) ∨ (∃ y7 c3 b4, vHe V a0 = some y7 ∧ isSpk c3 ∧ vM V y7 = some (eSp c3 b4) ∧ (((0 : Int32) = 0 → Q (3 : Int32) V) ∧ (¬ (0 : Int32) = 0 → Q (2 : Int32) V))) ∨ (∃ y12 r9, vHe V a0 = some y12 ∧ vM V y12 = some (eSh r9) ∧ (((1 : Int32) = 0 → Q (3 : Int32) V) ∧ (¬ (1 : Int32) = 0 → Q (2 : Int32) V))) ∨ (∃ y17 v14, vHe V a0 = some y17 ∧ vM V y17 = some (eFg v14) ∧ (((0 : Int32) = 0 → Q (3 : Int32) V) ∧ (¬ (0 : Int32) = 0 → Q (2 : Int32) V)))) ∧ (¬ (0 : Int32) = 0 → Q (1 : Int32) V))) ∨ (∃ y23 c19 b20, vHe V a0 = some y23 ∧ isSpk c19 ∧ vM V y23 = some (eSp c19 b20) ∧ (((1 : Int32) = 0 → ((vHe V a0) = none ∧ (((0 : Int32) = 0 → Q (3 : Int32) V) ∧ (¬ (0 : Int32) = 0 → Q (2 : Int32) V))) ∨ (∃ y30 c26 b27, vHe V a0 = some y30 ∧ isSpk c26 ∧ vM V y30 = some (eSp c26 b27) ∧ (((0 : Int32) = 0 → Q (3 : Int32) V) ∧ (¬ (0 : Int32) = 0 → Q (2 : Int32) V))) ∨ (∃ y35 r32, vHe V a0 = some y35 ∧ vM V y35 = some (eSh r32) ∧ (((1 : Int32) = 0 → Q (3 : Int32) V) ∧ (¬ (1 : Int32) = 0 → Q (2 : Int32) V))) ∨ (∃ y40 v37, vHe V a0 = some y40 ∧ vM V y40 = some (eFg v37) ∧ (((0 : Int32) = 0 → Q (3 : Int32) V) ∧ (¬ (0 : Int32) = 0 → Q (2 : Int32) V)))) ∧ (¬ (1 : Int32) = 0 → Q (1 : Int32) V))) ∨ (∃ y45 r42, vHe V a0 = some y45 ∧ vM V y45 = some (eSh r42) ∧ (((0 : Int32) = 0 → ((vHe V a0) = none ∧ (((0 : Int32) = 0 → Q (3 : Int32) V) ∧ (¬ (0 : Int32) = 0 → Q (2 : Int32) V))) ∨ (∃ y52 c48 b49, vHe V a0 = some y52 ∧ isSpk c48 ∧ vM V y52 = some (eSp c48 b49) ∧ (((0 : Int32) = 0 → Q (3 : Int32) V) ∧ (¬ (0 : Int32) = 0 → Q (2 : Int32) V))) ∨ (∃ y57 r54, vHe V a0 = some y57 ∧ vM V y57 = some (eSh r54) ∧ (((1 : Int32) = 0 → Q (3 : Int32) V) ∧ (¬ (1 : Int32) = 0 → Q (2 : Int32) V))) ∨ (∃ y62 v59, vHe V a0 = some y62 ∧ vM V y62 = some (eFg v59) ∧ (((0 : Int32) = 0 → Q (3 : Int32) V) ∧ (¬ (0 : Int32) = 0 → Q (2 : Int32) V)))) ∧ (¬ (0 : Int32) = 0 → Q (1 : Int32) V))) ∨ (∃ y67 v64, vHe V a0 = some y67 ∧ vM V y67 = some (eFg v64) ∧ (((0 : Int32) = 0 → ((vHe V a0) = none ∧ (((0 : Int32) = 0 → Q (3 : Int32) V) ∧ (¬ (0 : Int32) = 0 → Q (2 : Int32) V))) ∨ (∃ y74 c70 b71, vHe V a0 = some y74 ∧ isSpk c70 ∧ vM V y74 = some (eSp c70 b71) ∧ (((0 : Int32) = 0 → Q (3 : Int32) V) ∧ (¬ (0 : Int32) = 0 → Q (2 : Int32) V))) ∨ (∃ y79 r76, vHe V a0 = some y79 ∧ vM V y79 = some (eSh r76) ∧ (((1 : Int32) = 0 → Q (3 : Int32) V) ∧ (¬ (1 : Int32) = 0 → Q (2 : Int32) V))) ∨ (∃ y84 v81, vHe V a0 = some y84 ∧ vM V y84 = some (eFg v81) ∧ (((0 : Int32) = 0 → Q (3 : Int32) V) ∧ (¬ (0 : Int32) = 0 → Q (2 : Int32) V)))) ∧ (¬ (0 : Int32) = 0 → Q (1 : Int32) V)))))
def wX7_copy (a0 : Nat) (V : CV) (Q : Nat → CV → Prop) : Prop :=
  wSp_another a0 V (fun r1 V2 => ∃ c3 b4, isSpk c3 ∧ vM V2 a0 = some (eSp c3 b4) ∧ (∃ c7 b8, isSpk c7 ∧ vM V2 r1 = some (eSp c7 b8) ∧ (Q r1 (sM V2 (hset (vM V2) r1 (eSp c7 b4))))))
def wX0_rowOf (a0 : Int32) (a1 : Int32) (V : CV) (Q : Nat → CV → Prop) (E : CV → Prop) : Prop :=
  (a0 = 0 → (a1 < 0 → E V) ∧ (¬ a1 < 0 → a1.toNatClampNeg ≤ 24 ∧ ∀ q3, vM V q3 = none → (Q q3 (sM V (hset (vM V) q3 (eHA (a1.toNatClampNeg) (fun _ => 0))))))) ∧ (¬ a0 = 0 → (a1 < 0 → E V) ∧ (¬ a1 < 0 → a1.toNatClampNeg ≤ 24 ∧ ∀ q8, vM V q8 = none → (Q q8 (sM V (hset (vM V) q8 (eFA (a1.toNatClampNeg) (fun _ => 0)))))))
def wX0_own (a1 : Nat) (V : CV) (Q : Nat → CV → Prop) : Prop :=
  ∀ q1, vM V q1 = none → (wX4_init q1 (sM V (hset (vM V) q1 (eSh none))) (fun V4 => ∃ f6, vM V4 a1 = some (eSh f6) ∧ (wX4_isFloats a1 V4 (fun r5 V8 => ∃ f10, vM V8 a1 = some (eSh f10) ∧ (wX4_size a1 V8 (fun r9 V12 => wX0_rowOf r5 r9 V12 (fun r13 V14 => ∃ f15, vM V14 q1 = some (eSh f15) ∧ (∃ f18, vM (sM V14 (hset (vM V14) q1 (eSh (some r13)))) a1 = some (eSh f18) ∧ (wX4_size a1 (sM V14 (hset (vM V14) q1 (eSh (some r13)))) (fun r17 V20 => wX0_carries a1 (0 : Int32) q1 (0 : Int32) r17 V20 (fun V22 => Q q1 V22))))) (fun V14 => False)))))))
def wX15_init (a0 : Nat) (a1 : Int32) (V : CV) (Q : CV → Prop) : Prop :=
  ∃ fs1, vM V a0 = some (.inr (15, fs1)) ∧ 0 < fs1.length ∧ (Q (sM V (hset (vM V) a0 (.inr (15, fs1.set 0 (.int a1))))))
def wX0_lay_136 (l4 : Int32) (k0 : Option Nat) (k1 : Nat) (V : CV) (Q : Int32 → CV → Prop) : Prop :=
  Q l4 (sHe V k1 k0)
def wX0_lay_65 (l1 : Int32) (l2 : Int32) (l3 : Int32) (V : CV) (Q : Int32 → CV → Prop) : Prop :=
  vp_in l1 5 ∧ (wX5_thing l1.toNatClampNeg V (fun r2 V3 => vp_in l1 5 ∧ ((l2 = 0 → wX0_lay_136 r2 none l1.toNatClampNeg V3 Q) ∧ (¬ l2 = 0 → (l2 = (1 : Int32) → vp_in l3 12 ∧ (∃ y15, vSp V3 0 l3.toNatClampNeg = some y15 ∧ (∃ c18 b19, isSpk c18 ∧ vM V3 y15 = some (eSp c18 b19) ∧ (wX7_copy y15 V3 (fun r17 V22 => wX0_lay_136 r2 (some r17) l1.toNatClampNeg V22 Q))))) ∧ (¬ l2 = (1 : Int32) → (l2 = (2 : Int32) → vp_in l3 4 ∧ (∃ y10, vSh V3 l3.toNatClampNeg = some y10 ∧ (wX0_own y10 V3 (fun r12 V13 => wX0_lay_136 r2 (some r12) l1.toNatClampNeg V13 Q)))) ∧ (¬ l2 = (2 : Int32) → ∀ q5, vM V3 q5 = none → (wX15_init q5 l3 (sM V3 (hset (vM V3) q5 (eFg 0))) (fun V8 => wX0_lay_136 r2 (some q5) l1.toNatClampNeg V8 Q))))))))
def wX0_lay_44 (l1 : Int32) (l2 : Int32) (l3 : Int32) (V : CV) (Q : Int32 → CV → Prop) : Prop :=
  (l2 = (2 : Int32) → vp_in l3 4 ∧ (∃ y2, vSh V l3.toNatClampNeg = some y2 ∧ (∃ f5, vM V y2 = some (eSh f5) ∧ (wX4_isThere y2 V (fun r4 V7 => (r4 = 0 → Q (-1000000011 : Int32) V7) ∧ (¬ r4 = 0 → wX0_lay_65 l1 l2 l3 V7 Q)))))) ∧ (¬ l2 = (2 : Int32) → wX0_lay_65 l1 l2 l3 V Q)
def wX0_lay_29 (l1 : Int32) (l2 : Int32) (l3 : Int32) (V : CV) (Q : Int32 → CV → Prop) : Prop :=
  (l2 = (2 : Int32) → wX0_isSheet l3 (fun r1 => (r1 = 0 → Q (-1000000001 : Int32) V) ∧ (¬ r1 = 0 → wX0_lay_44 l1 l2 l3 V Q))) ∧ (¬ l2 = (2 : Int32) → wX0_lay_44 l1 l2 l3 V Q)
def wX0_lay (a1 : Int32) (a2 : Int32) (a3 : Int32) (V : CV) (Q : Int32 → CV → Prop) : Prop :=
  wX0_isSlot a1 (fun r1 => (r1 = 0 → Q (-1000000001 : Int32) V) ∧ (¬ r1 = 0 → wX0_isIn a2 (0 : Int32) (3 : Int32) (fun r2 => (r2 = 0 → Q (-1000000001 : Int32) V) ∧ (¬ r2 = 0 → (a2 = (1 : Int32) → wX0_isPerson a3 V (fun r3 V4 => (r3 = 0 → Q (-1000000001 : Int32) V4) ∧ (¬ r3 = 0 → wX0_lay_29 a1 a2 a3 V4 Q))) ∧ (¬ a2 = (1 : Int32) → wX0_lay_29 a1 a2 a3 V Q)))))
def wX4_put (a0 : Nat) (a1 : Int32) (a2 : Int32) (V : CV) (Q : CV → Prop) : Prop :=
  ∃ f2, vM V a0 = some (eSh f2) ∧ (wX4_isFloats a0 V (fun r1 V4 => (r1 = 0 → ∃ f5, vM V4 a0 = some (eSh f5) ∧ (∃ y7, f5 = some y7 ∧ (∃ n9 f10, vM V4 y7 = some (eHA n9 f10) ∧ (vp_in a1 n9 ∧ (Q (sM V4 (hset (vM V4) y7 (eHA n9 (upd f10 a1.toNatClampNeg (vp_nar .short a2.toInt16.toInt32)))))))))) ∧ (¬ r1 = 0 → ∃ f13, vM V4 a0 = some (eSh f13) ∧ (∃ y15, f13 = some y15 ∧ (∃ n17 f18, vM V4 y15 = some (eFA n17 f18) ∧ (vp_in a1 n17 ∧ (Q (sM V4 (hset (vM V4) y15 (eFA n17 (vf_upd f18 a1.toNatClampNeg (FP.i2f a2))))))))))))
def wX0_markIn_54 (l0 : Nat) (l1 : Int32) (l2 : Int32) (V : CV) (Q : Int32 → CV → Prop) : Prop :=
  ∃ f2, vM V l0 = some (eSh f2) ∧ (wX4_put l0 l1 l2 V (fun V4 => Q (1 : Int32) V4))
def wX0_markIn (a0 : Nat) (a1 : Int32) (a2 : Int32) (V : CV) (Q : Int32 → CV → Prop) : Prop :=
  (a2 = (-1000000005 : Int32) → ∃ f7, vM V a0 = some (eSh f7) ∧ (wX4_isFloats a0 V (fun r6 V9 => (r6 = 0 → Q (-1000000012 : Int32) V9) ∧ (¬ r6 = 0 → ∃ f10, vM V9 a0 = some (eSh f10) ∧ (∃ y12, f10 = some y12 ∧ (∃ n14 f15, vM V9 y12 = some (eFA n14 f15) ∧ (vp_in a1 n14 ∧ (Q (1 : Int32) (sM V9 (hset (vM V9) y12 (eFA n14 (vf_upd f15 a1.toNatClampNeg (2143289344 : UInt32))))))))))))) ∧ (¬ a2 = (-1000000005 : Int32) → ∃ f2, vM V a0 = some (eSh f2) ∧ (wX4_isFloats a0 V (fun r1 V4 => (r1 = 0 → wX0_markIn_54 a0 a1 a2 V4 Q) ∧ (¬ r1 = 0 → wX0_isIn a2 (-99999 : Int32) (99999 : Int32) (fun r5 => (r5 = 0 → Q (-1000000001 : Int32) V4) ∧ (¬ r5 = 0 → wX0_markIn_54 a0 a1 a2 V4 Q))))))
def wX0_mark (a1 : Int32) (a2 : Int32) (a3 : Int32) (V : CV) (Q : Int32 → CV → Prop) : Prop :=
  wX0_isSheet a1 (fun r1 => (r1 = 0 → Q (-1000000001 : Int32) V) ∧ (¬ r1 = 0 → vp_in a1 4 ∧ (∃ y3, vSh V a1.toNatClampNeg = some y3 ∧ (∃ f6, vM V y3 = some (eSh f6) ∧ (wX4_isThere y3 V (fun r5 V8 => (r5 = 0 → Q (-1000000011 : Int32) V8) ∧ (¬ r5 = 0 → ∃ y9, vSh V a1.toNatClampNeg = some y9 ∧ (∃ f12, vM V8 y9 = some (eSh f12) ∧ (wX4_size y9 V8 (fun r11 V14 => wX0_isIn a2 (0 : Int32) (r11 - (1 : Int32)) (fun r15 => (r15 = 0 → Q (-1000000013 : Int32) V14) ∧ (¬ r15 = 0 → ∃ y16, vSh V a1.toNatClampNeg = some y16 ∧ (wX0_markIn y16 a2 a3 V14 (fun r18 V19 => Q r18 V19))))))))))))))
def wX0_meant (a1 : Int32) (V : CV) (Q : Int32 → CV → Prop) : Prop :=
  wX0_isDeed a1 V (fun r1 V2 => (r1 = 0 → Q (-1000000001 : Int32) V2) ∧ (¬ r1 = 0 → vp_in a1 8 ∧ (wX1_all 0 V2 (fun r4 V5 => wJ5_highestOneBit (r4 &&& ((vD V2 0 a1.toNatClampNeg 3) ^^^ (-1 : Int32))) (fun r6 => (r6 = 0 → Q (0 : Int32) V5) ∧ (¬ r6 = 0 → Q ((vD V2 0 a1.toNatClampNeg 3) &&& (r6 - (1 : Int32))) V5))))))
def wX0_most_64 (k_10 : Int32 → Int64 → Int64 → Int32 → CV → Prop) (l1 : Int32) (l2 : Int64) (l4 : Int64) (l6 : Int32) (V : CV) (Q : Int32 → CV → Prop) : Prop :=
  k_10 l1 l2 l4 (l6 + (1 : Int32)) V
def wX0_most_50 (k_10 : Int32 → Int64 → Int64 → Int32 → CV → Prop) (l6 : Int32) (V : CV) (Q : Int32 → CV → Prop) : Prop :=
  wX0_most_64 k_10 l6 (vJ V 17) (vJ V 18) l6 V Q
def wX0_most_10 (Q : Int32 → CV → Prop) : Nat → Int32 → Int64 → Int64 → Int32 → CV → Prop
  | 0, _, _, _, _, _ => False
  | n + 1, l1, l2, l4, l6, V =>
  ((vS V 0 2) ≤ l6 → wX0_orNone l1 (fun r1 => Q r1 V)) ∧ (¬ (vS V 0 2) ≤ l6 → wX0_findFalls l6 V (fun V3 => (l1 = (-1 : Int32) → wX0_most_50 (fun z0 z1 z2 z3 z4 => wX0_most_10 Q n z0 z1 z2 z3 z4) l6 V3 Q) ∧ (¬ l1 = (-1 : Int32) → ((lg_cmp ((vJ V3 17) * l4) (l2 * (vJ V3 18))) ≤ 0 → wX0_most_64 (fun z0 z1 z2 z3 z4 => wX0_most_10 Q n z0 z1 z2 z3 z4) l1 l2 l4 l6 V3 Q) ∧ (¬ (lg_cmp ((vJ V3 17) * l4) (l2 * (vJ V3 18))) ≤ 0 → wX0_most_50 (fun z0 z1 z2 z3 z4 => wX0_most_10 Q n z0 z1 z2 z3 z4) l6 V3 Q))))
def wX0_most (V : CV) (Q : Int32 → CV → Prop) : Prop :=
  ∃ f_10, wX0_most_10 Q f_10 (-1 : Int32) (0 : Int64) (1 : Int64) (0 : Int32) V
def wX0_person (a1 : Int32) (a2 : Int32) (V : CV) (Q : Int32 → CV → Prop) : Prop :=
  wX0_isIn a1 (0 : Int32) (5 : Int32) (fun r1 => (r1 = 0 → Q (-1000000001 : Int32) V) ∧ (¬ r1 = 0 → wX0_isBold a2 (fun r2 => (r2 = 0 → Q (-1000000001 : Int32) V) ∧ (¬ r2 = 0 → ((vS V 0 2) = (12 : Int32) → Q (-1000000003 : Int32) V) ∧ (¬ (vS V 0 2) = (12 : Int32) → wX0_comes a1 a2 (0 : Int32) V (fun r3 V4 => Q r3 V4))))))
def wX0_pour_132 (k_33 : Option Nat → Int32 → Int32 → CV → Prop) (l2 : Option Nat) (l4 : Int32) (k0 : Int32) (k1 : Int32) (V : CV) (Q : Int32 → CV → Prop) : Prop :=
  k_33 l2 (k1 + k0) (l4 + (1 : Int32)) V
def wX0_pour_105 (k_33 : Option Nat → Int32 → Int32 → CV → Prop) (l2 : Option Nat) (l3 : Int32) (l4 : Int32) (l5 : Int32) (k0 : Int32) (k1 : Option Nat) (V : CV) (Q : Int32 → CV → Prop) : Prop :=
  ∃ y1, k1 = some y1 ∧ (∃ c3 b4, isSpk c3 ∧ vM V y1 = some (eSp c3 b4) ∧ (vp_in l4 12 ∧ (∃ y8, vSp (sM V (hset (vM V) y1 (eSp c3 k0))) 0 l4.toNatClampNeg = some y8 ∧ (∃ c10 b11, isSpk c10 ∧ vM (sM V (hset (vM V) y1 (eSp c3 k0))) y8 = some (eSp c10 b11) ∧ ((b11 = l5 → wX0_pour_132 k_33 l2 l4 (0 : Int32) l3 (sM V (hset (vM V) y1 (eSp c3 k0))) Q) ∧ (¬ b11 = l5 → wX0_pour_132 k_33 l2 l4 (1 : Int32) l3 (sM V (hset (vM V) y1 (eSp c3 k0))) Q))))))
def wX0_pour_33 (Q : Int32 → CV → Prop) : Nat → Option Nat → Int32 → Int32 → CV → Prop
  | 0, _, _, _, _ => False
  | n + 1, l2, l3, l4, V =>
  ((vS V 0 2) ≤ l4 → Q l3 V) ∧ (¬ (vS V 0 2) ≤ l4 → ∃ y1, l2 = some y1 ∧ (∃ f4, vM V y1 = some (eSh f4) ∧ (wX4_size y1 V (fun r3 V6 => (r3 ≤ l4 → Q l3 V6) ∧ (¬ r3 ≤ l4 → vp_in l4 12 ∧ (∃ y8, vSp V6 0 l4.toNatClampNeg = some y8 ∧ (∃ c10 b11, isSpk c10 ∧ vM V6 y8 = some (eSp c10 b11) ∧ (vp_in l4 12 ∧ (∃ y15, l2 = some y15 ∧ (∃ f18, vM V6 y15 = some (eSh f18) ∧ (wX4_isNumber y15 l4 V6 (fun r17 V20 => (r17 = 0 → wX0_pour_105 (fun z0 z1 z2 z3 => wX0_pour_33 Q n z0 z1 z2 z3) l2 l3 l4 b11 b11 (vSp V6 0 l4.toNatClampNeg) V20 Q) ∧ (¬ r17 = 0 → ∃ y21, l2 = some y21 ∧ (∃ f24, vM V20 y21 = some (eSh f24) ∧ (wX4_at y21 l4 V20 (fun r23 V26 => wX0_within r23 (0 : Int32) (100 : Int32) (fun r27 => wX0_pour_105 (fun z0 z1 z2 z3 => wX0_pour_33 Q n z0 z1 z2 z3) l2 l3 l4 b11 r27 (vSp V6 0 l4.toNatClampNeg) V26 Q)))))))))))))))))
def wX0_pour (a1 : Int32) (V : CV) (Q : Int32 → CV → Prop) : Prop :=
  wX0_isSheet a1 (fun r1 => (r1 = 0 → Q (-1000000001 : Int32) V) ∧ (¬ r1 = 0 → vp_in a1 4 ∧ (∃ y3, vSh V a1.toNatClampNeg = some y3 ∧ (∃ f6, vM V y3 = some (eSh f6) ∧ (wX4_isThere y3 V (fun r5 V8 => (r5 = 0 → Q (-1000000011 : Int32) V8) ∧ (¬ r5 = 0 → ∃ f_33, wX0_pour_33 Q f_33 (vSh V a1.toNatClampNeg) (0 : Int32) (0 : Int32) V8)))))))
def wX0_proved_78 (k_33 : Nat → Int32 → Int32 → CV → Prop) (l2' : Nat) (l4 : Int32) (k0 : Int32) (k1 : Int32) (V : CV) (Q : Int32 → CV → Prop) : Prop :=
  k_33 l2' (k1 &&& k0) (l4 + (1 : Int32)) V
def wX0_proved_33 (Q : Int32 → CV → Prop) : Nat → Nat → Int32 → Int32 → CV → Prop
  | 0, _, _, _, _ => False
  | n + 1, l2', l3, l4, V =>
  ((vS V 0 2) ≤ l4 → Q l3 V) ∧ (¬ (vS V 0 2) ≤ l4 → vp_in l4 12 ∧ (wX0_has (vSA V 0 4 l4.toNatClampNeg) (vD V 0 l2' 1) (fun r2 => (r2 = 0 → wX0_proved_78 (fun z0 z1 z2 z3 => wX0_proved_33 Q n z0 z1 z2 z3) l2' l4 (-1 : Int32) l3 V Q) ∧ (¬ r2 = 0 → wX0_goBy l4 V (fun r3 V4 => wX0_proved_78 (fun z0 z1 z2 z3 => wX0_proved_33 Q n z0 z1 z2 z3) l2' l4 (r3 ^^^ (-1 : Int32)) l3 V4 Q)))))
def wX0_proved (a1 : Int32) (V : CV) (Q : Int32 → CV → Prop) : Prop :=
  wX0_isDeed a1 V (fun r1 V2 => (r1 = 0 → Q (-1000000001 : Int32) V2) ∧ (¬ r1 = 0 → wX0_findFollowers V2 (fun V4 => vp_in a1 8 ∧ (∃ f_33, wX0_proved_33 Q f_33 a1.toNatClampNeg (vD V4 0 a1.toNatClampNeg 3) (0 : Int32) V4))))
def wX0_reads_76 (k_30 : Option Nat → Int32 → CV → Prop) (l2 : Option Nat) (l3 : Int32) (V : CV) (Q : Int32 → CV → Prop) : Prop :=
  k_30 l2 (l3 + (1 : Int32)) V
def wX0_reads_30 (Q : Int32 → CV → Prop) : Nat → Option Nat → Int32 → CV → Prop
  | 0, _, _, _ => False
  | n + 1, l2, l3, V =>
  ∃ y1, l2 = some y1 ∧ (∃ f4, vM V y1 = some (eSh f4) ∧ (wX4_size y1 V (fun r3 V6 => (r3 ≤ l3 → Q (-1000000005 : Int32) V6) ∧ (¬ r3 ≤ l3 → ∃ y7, l2 = some y7 ∧ (∃ f10, vM V6 y7 = some (eSh f10) ∧ (wX4_isNumber y7 l3 V6 (fun r9 V12 => (r9 = 0 → wX0_reads_76 (fun z0 z1 z2 => wX0_reads_30 Q n z0 z1 z2) l2 l3 V12 Q) ∧ (¬ r9 = 0 → wX0_isDeed l3 V12 (fun r13 V14 => (r13 = 0 → Q l3 V14) ∧ (¬ r13 = 0 → ∃ y15, l2 = some y15 ∧ (∃ f18, vM V14 y15 = some (eSh f18) ∧ (wX4_at y15 l3 V14 (fun r17 V20 => vp_in l3 8 ∧ (wX2_leftMany 0 l3.toNatClampNeg V20 (fun r22 V23 => (r17 = r22 → wX0_reads_76 (fun z0 z1 z2 => wX0_reads_30 Q n z0 z1 z2) l2 l3 V23 Q) ∧ (¬ r17 = r22 → Q l3 V23))))))))))))))))
def wX0_reads (a1 : Int32) (V : CV) (Q : Int32 → CV → Prop) : Prop :=
  wX0_isSheet a1 (fun r1 => (r1 = 0 → Q (-1000000001 : Int32) V) ∧ (¬ r1 = 0 → vp_in a1 4 ∧ (∃ y3, vSh V a1.toNatClampNeg = some y3 ∧ (∃ f6, vM V y3 = some (eSh f6) ∧ (wX4_isThere y3 V (fun r5 V8 => (r5 = 0 → Q (-1000000011 : Int32) V8) ∧ (¬ r5 = 0 → ∃ f_30, wX0_reads_30 Q f_30 (vSh V a1.toNatClampNeg) (0 : Int32) V8)))))))
def wX0_rest (a1 : Int32) (a2 : Int32) (V : CV) (Q : Int32 → CV → Prop) : Prop :=
  wX0_isSlot a1 (fun r1 => (r1 = 0 → Q (-1000000001 : Int32) V) ∧ (¬ r1 = 0 → vp_in a1 5 ∧ (((vHe V a1.toNatClampNeg) = none → Q (-1000000011 : Int32) V) ∧ (¬ (vHe V a1.toNatClampNeg) = none → ((vHe V a1.toNatClampNeg) = none ∧ (((0 : Int32) = 0 → Q (-1000000012 : Int32) V) ∧ (¬ (0 : Int32) = 0 → ∃ y4, vHe V a1.toNatClampNeg = some y4 ∧ (∃ f6, vM V y4 = some (eFg f6) ∧ ((a2 = 0 → Q (-1000000002 : Int32) V) ∧ (¬ a2 = 0 → (¬ a2 = 0) ∧ (Q (f6 - f6 / a2 * a2) V))))))) ∨ (∃ y12 c8 b9, vHe V a1.toNatClampNeg = some y12 ∧ isSpk c8 ∧ vM V y12 = some (eSp c8 b9) ∧ (((0 : Int32) = 0 → Q (-1000000012 : Int32) V) ∧ (¬ (0 : Int32) = 0 → ∃ y14, vHe V a1.toNatClampNeg = some y14 ∧ (∃ f16, vM V y14 = some (eFg f16) ∧ ((a2 = 0 → Q (-1000000002 : Int32) V) ∧ (¬ a2 = 0 → (¬ a2 = 0) ∧ (Q (f16 - f16 / a2 * a2) V))))))) ∨ (∃ y21 r18, vHe V a1.toNatClampNeg = some y21 ∧ vM V y21 = some (eSh r18) ∧ (((0 : Int32) = 0 → Q (-1000000012 : Int32) V) ∧ (¬ (0 : Int32) = 0 → ∃ y23, vHe V a1.toNatClampNeg = some y23 ∧ (∃ f25, vM V y23 = some (eFg f25) ∧ ((a2 = 0 → Q (-1000000002 : Int32) V) ∧ (¬ a2 = 0 → (¬ a2 = 0) ∧ (Q (f25 - f25 / a2 * a2) V))))))) ∨ (∃ y30 v27, vHe V a1.toNatClampNeg = some y30 ∧ vM V y30 = some (eFg v27) ∧ (((1 : Int32) = 0 → Q (-1000000012 : Int32) V) ∧ (¬ (1 : Int32) = 0 → ∃ y32, vHe V a1.toNatClampNeg = some y32 ∧ (∃ f34, vM V y32 = some (eFg f34) ∧ ((a2 = 0 → Q (-1000000002 : Int32) V) ∧ (¬ a2 = 0 → (¬ a2 = 0) ∧ (Q (f34 - f34 / a2 * a2) V)))))))))))
def wX0_rounds_26 (Q : Int32 → CV → Prop) : Nat → Int32 → Int32 → Int32 → Int32 → CV → Prop
  | 0, _, _, _, _, _ => False
  | n + 1, l1, l2, l3, l4, V =>
  (l2 ≤ l4 → Q l3 V) ∧ (¬ l2 ≤ l4 → vp_in l1 8 ∧ (wX0_round 0 l1.toNatClampNeg V (fun r2 V3 => wX0_rounds_26 Q n l1 l2 (l3 + r2) (l4 + (1 : Int32)) V3)))
def wX0_rounds (a1 : Int32) (a2 : Int32) (V : CV) (Q : Int32 → CV → Prop) : Prop :=
  wX0_isDeed a1 V (fun r1 V2 => (r1 = 0 → Q (-1000000001 : Int32) V2) ∧ (¬ r1 = 0 → wX0_isIn a2 (1 : Int32) (40 : Int32) (fun r3 => (r3 = 0 → Q (-1000000001 : Int32) V2) ∧ (¬ r3 = 0 → ∃ f_26, wX0_rounds_26 Q f_26 a1 a2 (0 : Int32) (0 : Int32) V2))))
def wX0_say (a1 : Int32) (a2 : Int32) (a3 : Int32) (V : CV) (Q : Int32 → CV → Prop) : Prop :=
  wX0_isPerson a1 V (fun r1 V2 => (r1 = 0 → Q (-1000000001 : Int32) V2) ∧ (¬ r1 = 0 → wX0_isDeed a2 V2 (fun r3 V4 => (r3 = 0 → Q (-1000000001 : Int32) V4) ∧ (¬ r3 = 0 → wX0_isPerson a3 V4 (fun r5 V6 => (r5 = 0 → Q (-1000000001 : Int32) V6) ∧ (¬ r5 = 0 → wX0_findFollowers V6 (fun V8 => vp_in a2 8 ∧ (wX0_mayBe a1 0 a2.toNatClampNeg a3 V8 (fun r10 V11 => (r10 = 0 → Q (-1000000002 : Int32) V11) ∧ (¬ r10 = 0 → wX0_saysOf 0 a2.toNatClampNeg a3 V11 (fun V13 => wX2_leftMany 0 a2.toNatClampNeg V13 (fun r14 V15 => Q r14 V15))))))))))))
def wX0_seed (a1 : Int32) (V : CV) (Q : Int32 → CV → Prop) : Prop :=
  Q (vS V 0 0) (sS V 0 0 a1)
def wX0_sheet_61 (l3 : Int32) (k0 : Int32) (k1 : Option Nat) (V : CV) (Q : Int32 → CV → Prop) : Prop :=
  wX0_rowOf k0 l3 V (fun r1 V2 => ∃ y3, k1 = some y3 ∧ (∃ f5, vM V2 y3 = some (eSh f5) ∧ (Q l3 (sM V2 (hset (vM V2) y3 (eSh (some r1))))))) (fun V2 => Q (-1000000014 : Int32) V2)
def wX0_sheet_29 (l1 : Int32) (l2 : Int32) (l3 : Int32) (V : CV) (Q : Int32 → CV → Prop) : Prop :=
  (0 ≤ l2 → vp_in l1 4 ∧ ((l2 = (1 : Int32) → wX0_sheet_61 l3 (1 : Int32) (vSh V l1.toNatClampNeg) V Q) ∧ (¬ l2 = (1 : Int32) → wX0_sheet_61 l3 (0 : Int32) (vSh V l1.toNatClampNeg) V Q))) ∧ (¬ 0 ≤ l2 → vp_in l1 4 ∧ (∃ y3, vSh V l1.toNatClampNeg = some y3 ∧ (∃ f5, vM V y3 = some (eSh f5) ∧ (Q (0 : Int32) (sM V (hset (vM V) y3 (eSh none)))))))
def wX0_sheet (a1 : Int32) (a2 : Int32) (a3 : Int32) (V : CV) (Q : Int32 → CV → Prop) : Prop :=
  wX0_isSheet a1 (fun r1 => (r1 = 0 → Q (-1000000001 : Int32) V) ∧ (¬ r1 = 0 → wX0_isIn a2 (-1 : Int32) (1 : Int32) (fun r2 => (r2 = 0 → Q (-1000000001 : Int32) V) ∧ (¬ r2 = 0 → (a2 < 0 → wX0_sheet_29 a1 a2 a3 V Q) ∧ (¬ a2 < 0 → (a3 ≤ (24 : Int32) → wX0_sheet_29 a1 a2 a3 V Q) ∧ (¬ a3 ≤ (24 : Int32) → Q (-1000000001 : Int32) V))))))
def wX0_silent_10 (Q : Int32 → CV → Prop) : Nat → Int32 → Int32 → CV → Prop
  | 0, _, _, _ => False
  | n + 1, l1, l2, V =>
  ((vS V 0 7) ≤ l2 → Q l1 V) ∧ (¬ (vS V 0 7) ≤ l2 → vp_in l2 8 ∧ (wX0_silent_10 Q n (l1 &&& (vD V 0 l2.toNatClampNeg 3)) (l2 + (1 : Int32)) V))
def wX0_silent (V : CV) (Q : Int32 → CV → Prop) : Prop :=
  wX1_all 0 V (fun r1 V2 => ∃ f_10, wX0_silent_10 Q f_10 r1 (0 : Int32) V2)
def wX0_stop (a1 : Int32) (V : CV) (Q : Int32 → CV → Prop) : Prop :=
  wX0_isIn a1 (0 : Int32) (4 : Int32) (fun r1 => (r1 = 0 → Q (-1000000001 : Int32) V) ∧ (¬ r1 = 0 → Q (vS V 0 1) (sS V 0 1 a1)))
def wX0_tell (a1 : Int32) (V : CV) (Q : Int32 → CV → Prop) : Prop :=
  ((vI V 23) = (60 : Int32) → Q (-1000000003 : Int32) V) ∧ (¬ (vI V 23) = (60 : Int32) → vp_in (vI V 23) 60 ∧ (Q (vI (sI (sA V 22 (vI V 23).toNatClampNeg a1) 23 ((vI (sA V 22 (vI V 23).toNatClampNeg a1) 23) + (1 : Int32))) 23) (sI (sA V 22 (vI V 23).toNatClampNeg a1) 23 ((vI (sA V 22 (vI V 23).toNatClampNeg a1) 23) + (1 : Int32)))))
def wX14_init (a0 : Nat) (a1 : Int32) (a2 : Nat) (a3 : Int32) (V : CV) (Q : CV → Prop) : Prop :=
  ∃ fs1, vM V a0 = some (.inr (14, fs1)) ∧ 0 < fs1.length ∧ (∃ fs4, vM (sM V (hset (vM V) a0 (.inr (14, fs1.set 0 (.int a1))))) a0 = some (.inr (14, fs4)) ∧ 1 < fs4.length ∧ (∃ fs7, vM (sM (sM V (hset (vM V) a0 (.inr (14, fs1.set 0 (.int a1))))) (hset (vM (sM V (hset (vM V) a0 (.inr (14, fs1.set 0 (.int a1)))))) a0 (.inr (14, fs4.set 1 (.ref a2))))) a0 = some (.inr (14, fs7)) ∧ 2 < fs7.length ∧ (Q (sM (sM (sM V (hset (vM V) a0 (.inr (14, fs1.set 0 (.int a1))))) (hset (vM (sM V (hset (vM V) a0 (.inr (14, fs1.set 0 (.int a1)))))) a0 (.inr (14, fs4.set 1 (.ref a2))))) (hset (vM (sM (sM V (hset (vM V) a0 (.inr (14, fs1.set 0 (.int a1))))) (hset (vM (sM V (hset (vM V) a0 (.inr (14, fs1.set 0 (.int a1)))))) a0 (.inr (14, fs4.set 1 (.ref a2)))))) a0 (.inr (14, fs7.set 2 (.int a3))))))))
def wX0_textTold (a1 : Int32) (a2 : Int32) (V : CV) (Q : Int32 → CV → Prop) : Prop :=
  wX0_isIn a1 (0 : Int32) ((vS V 0 9) - (1 : Int32)) (fun r1 => (r1 = 0 → Q (-1000000001 : Int32) V) ∧ (¬ r1 = 0 → wX0_isIn a2 (0 : Int32) (1 : Int32) (fun r2 => (r2 = 0 → Q (-1000000001 : Int32) V) ∧ (¬ r2 = 0 → (a2 = 0 → vp_in a1 14 ∧ (∃ y11, vTx V 0 a1.toNatClampNeg = some y11 ∧ (∃ f13 f14 f15, vM V y11 = some (eTx f13 f14 f15) ∧ (Q f13 V)))) ∧ (¬ a2 = 0 → vp_in a1 14 ∧ (∃ y4, vTx V 0 a1.toNatClampNeg = some y4 ∧ (∃ f6 f7 f8, vM V y4 = some (eTx f6 f7 f8) ∧ (Q f8 V))))))))
def wX0_told (a1 : Int32) (a2 : Int32) (V : CV) (Q : Int32 → CV → Prop) : Prop :=
  wX0_isPerson a1 V (fun r1 V2 => (r1 = 0 → Q (-1000000001 : Int32) V2) ∧ (¬ r1 = 0 → vp_in a1 12 ∧ ((a2 = 0 → ∃ y4, vSp V2 0 a1.toNatClampNeg = some y4 ∧ (wSp_kind y4 V2 (fun r6 V7 => Q r6 V7))) ∧ (¬ a2 = 0 → (a2 = 1 → ∃ y8, vSp V2 0 a1.toNatClampNeg = some y8 ∧ (∃ c10 b11, isSpk c10 ∧ vM V2 y8 = some (eSp c10 b11) ∧ (Q b11 V2))) ∧ (¬ a2 = 1 → (a2 = 2 → vp_in a1 12 ∧ (Q (vSA V2 0 4 a1.toNatClampNeg) V2)) ∧ (¬ a2 = 2 → (a2 = 3 → vp_in a1 12 ∧ (Q (vSA V2 0 5 a1.toNatClampNeg) V2)) ∧ (¬ a2 = 3 → (a2 = 4 → wX0_findFollowers V2 (fun V17 => vp_in a1 12 ∧ (Q (vA V17 16 a1.toNatClampNeg) V17))) ∧ (¬ a2 = 4 → (a2 = 5 → ∃ y19, vSp V2 0 a1.toNatClampNeg = some y19 ∧ (wSp_worth y19 V2 (fun r21 V22 => Q r21 V22))) ∧ (¬ a2 = 5 → (a2 = 6 → wX0_goneOn a1 V2 (fun r23 V24 => Q r23 V24)) ∧ (¬ a2 = 6 → Q (-1000000001 : Int32) V2))))))))))
def wX0_trim (a1 : Int32) (V : CV) (Q : Int32 → CV → Prop) : Prop :=
  wX0_isIn a1 (0 : Int32) (vI V 6) (fun r1 => (r1 = 0 → Q (-1000000001 : Int32) V) ∧ (¬ r1 = 0 → Q a1 (sI V 6 a1)))
def wX0_turns (a1 : Int32) (a2 : Int32) (V : CV) (Q : Int32 → CV → Prop) : Prop :=
  wX0_isPerson a1 V (fun r1 V2 => (r1 = 0 → Q (-1000000001 : Int32) V2) ∧ (¬ r1 = 0 → wX0_isIn a2 (0 : Int32) (5 : Int32) (fun r3 => (r3 = 0 → Q (-1000000001 : Int32) V2) ∧ (¬ r3 = 0 → vp_in a1 12 ∧ (wX0_speakerOf a2 V2 (fun r5 V6 => ∃ c8 b9, isSpk c8 ∧ vM V6 r5 = some (eSp c8 b9) ∧ vp_in a1 12 ∧ (vp_in a1 12 ∧ (∃ y13, vSp V2 0 a1.toNatClampNeg = some y13 ∧ (∃ c15 b16, isSpk c15 ∧ vM (sSp V6 0 a1.toNatClampNeg (some r5)) y13 = some (eSp c15 b16) ∧ (∃ y19, vSp (sSp V6 0 a1.toNatClampNeg (some r5)) 0 a1.toNatClampNeg = some y19 ∧ (∃ c21 b22, isSpk c21 ∧ vM (sSp V6 0 a1.toNatClampNeg (some r5)) y19 = some (eSp c21 b22) ∧ (∃ y25, vSp V2 0 a1.toNatClampNeg = some y25 ∧ (wSp_kind y25 (sM (sSp V6 0 a1.toNatClampNeg (some r5)) (hset (vM (sSp V6 0 a1.toNatClampNeg (some r5))) y19 (eSp c21 b16))) (fun r27 V28 => Q r27 V28))))))))))))))
def wX0_why (a1 : Int32) (V : CV) (Q : Int32 → CV → Prop) : Prop :=
  wX0_isIn a1 (0 : Int32) (2 : Int32) (fun r1 => (r1 = 0 → Q (-1000000001 : Int32) V) ∧ (¬ r1 = 0 → wX0_counts a1 V (fun r2 V3 => wX0_orNone r2 (fun r4 => Q r4 V3))))
