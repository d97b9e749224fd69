set_option maxRecDepth 100000
def rX6_part0 (d : Nat) : Room := { frames := 8 * d + 8, cells := 0, slots := 0, locals := 300 * d + 300 }
def rX6_term (d : Nat) : Room := { frames := 8 * d + 9, cells := 0, slots := 0, locals := 300 * d + 325 }
def rX6_sum (d : Nat) : Room := { frames := 8 * d + 10, cells := 0, slots := 0, locals := 300 * d + 350 }
def rX6_test (d : Nat) : Room := { frames := 8 * d + 11, cells := 0, slots := 0, locals := 300 * d + 375 }
def rX6_both (d : Nat) : Room := { frames := 8 * d + 12, cells := 0, slots := 0, locals := 300 * d + 400 }
def rX6_either (d : Nat) : Room := { frames := 8 * d + 13, cells := 0, slots := 0, locals := 300 * d + 425 }
theorem kX6_X6_part0B {p : Program} {l : Launch} {e : Env} {R rm : Room} {s : State} {m : MethodId} {args : Array Value} {below : List Frame} {meth : Method} {c : Code} {H : Heap} {locs : List Loc} {cells slots : Nat} {Q0 : State → Prop} {cc : ByteArray} {pc nL : Nat} {ls : Array Slot} {rest : List Value} {ret : Option FieldType} {D : DD} {A : Nat → Prop} {s0 : State} {ad : AD} {T : TS} {a1 : Int32} {Q : Int32 → TS → Prop} (F : FX p l c cc s args m RX6 D A s0 nL meth ret) (hB : tB D A ad T H) (hS : va_S A s.heap H locs) (hM : Met l yX6_part0 (ws_ yX6_part0 cX6_part0 2 (some .boolean)) rm (va_Pc [.ref (ad 0 0 0), .int a1] (fun U => tB D A ad T U.heap ∧ CX l D A s0 U)) (va_Qi Q (fun u t => tB D A ad u t.heap) A) 0 0 A) (hz : rm.cells = 0 ∧ rm.slots = 0) (hR : rm.frames + 1 ≤ R.frames ∧ 8 + (2 + 11) + rm.locals ≤ R.locals) (hc : cells + 0 ≤ R.cells ∧ slots + 0 ≤ R.slots) (hsz : ls.size = nL) (hW : (rest.map fun v => v.category).sum ≤ 8) (hdg : decode cc pc = .ok (.invokevirtual 254, 3)) (kk : ∀ (r : Int32) (u : TS) (H1 : Heap) (locs1 : List Loc), Q r u → tB D A ad u H1 → va_S A s.heap H1 locs1 → W p l e R s m args below meth c H1 locs1 cells slots Q0 (F0 m (pc + 3) ls (.int r :: rest))) : W p l e R s m args below meth c H locs cells slots Q0 (F0 m pc ls (.int a1 :: .ref (ad 0 0 0) :: rest)) :=
  k_i (Bw := tB D A ad) (k_runV (Bw := tB D A ad) (n := 1) (As := [.int a1]) F hB hS (t_recv F hB) hM q1607 q1609 qs76 q92 q1610 (by decide +kernel) hR hz hc rfl hsz rfl hW hdg) hS kk
theorem kX6_X6_term {p : Program} {l : Launch} {e : Env} {R rm : Room} {s : State} {m : MethodId} {args : Array Value} {below : List Frame} {meth : Method} {c : Code} {H : Heap} {locs : List Loc} {cells slots : Nat} {Q0 : State → Prop} {cc : ByteArray} {pc nL : Nat} {ls : Array Slot} {rest : List Value} {ret : Option FieldType} {D : DD} {A : Nat → Prop} {s0 : State} {ad : AD} {T : TS} {a1 : Int32} {Q : Int32 → TS → Prop} (F : FX p l c cc s args m RX6 D A s0 nL meth ret) (hB : tB D A ad T H) (hS : va_S A s.heap H locs) (hM : Met l yX6_term (ws_ yX6_term cX6_term 3 (some .boolean)) rm (va_Pc [.ref (ad 0 0 0), .int a1] (fun U => tB D A ad T U.heap ∧ CX l D A s0 U)) (va_Qi Q (fun u t => tB D A ad u t.heap) A) 0 0 A) (hz : rm.cells = 0 ∧ rm.slots = 0) (hR : rm.frames + 1 ≤ R.frames ∧ 8 + (3 + 11) + rm.locals ≤ R.locals) (hc : cells + 0 ≤ R.cells ∧ slots + 0 ≤ R.slots) (hsz : ls.size = nL) (hW : (rest.map fun v => v.category).sum ≤ 8) (hdg : decode cc pc = .ok (.invokevirtual 251, 3)) (kk : ∀ (r : Int32) (u : TS) (H1 : Heap) (locs1 : List Loc), Q r u → tB D A ad u H1 → va_S A s.heap H1 locs1 → W p l e R s m args below meth c H1 locs1 cells slots Q0 (F0 m (pc + 3) ls (.int r :: rest))) : W p l e R s m args below meth c H locs cells slots Q0 (F0 m pc ls (.int a1 :: .ref (ad 0 0 0) :: rest)) :=
  k_i (Bw := tB D A ad) (k_runV (Bw := tB D A ad) (n := 1) (As := [.int a1]) F hB hS (t_recv F hB) hM q1603 q1605 qs75 q92 q1606 (by decide +kernel) hR hz hc rfl hsz rfl hW hdg) hS kk
theorem kX6_X6_sum {p : Program} {l : Launch} {e : Env} {R rm : Room} {s : State} {m : MethodId} {args : Array Value} {below : List Frame} {meth : Method} {c : Code} {H : Heap} {locs : List Loc} {cells slots : Nat} {Q0 : State → Prop} {cc : ByteArray} {pc nL : Nat} {ls : Array Slot} {rest : List Value} {ret : Option FieldType} {D : DD} {A : Nat → Prop} {s0 : State} {ad : AD} {T : TS} {a1 : Int32} {Q : Int32 → TS → Prop} (F : FX p l c cc s args m RX6 D A s0 nL meth ret) (hB : tB D A ad T H) (hS : va_S A s.heap H locs) (hM : Met l yX6_sum (ws_ yX6_sum cX6_sum 3 (some .boolean)) rm (va_Pc [.ref (ad 0 0 0), .int a1] (fun U => tB D A ad T U.heap ∧ CX l D A s0 U)) (va_Qi Q (fun u t => tB D A ad u t.heap) A) 0 0 A) (hz : rm.cells = 0 ∧ rm.slots = 0) (hR : rm.frames + 1 ≤ R.frames ∧ 8 + (3 + 11) + rm.locals ≤ R.locals) (hc : cells + 0 ≤ R.cells ∧ slots + 0 ≤ R.slots) (hsz : ls.size = nL) (hW : (rest.map fun v => v.category).sum ≤ 8) (hdg : decode cc pc = .ok (.invokevirtual 248, 3)) (kk : ∀ (r : Int32) (u : TS) (H1 : Heap) (locs1 : List Loc), Q r u → tB D A ad u H1 → va_S A s.heap H1 locs1 → W p l e R s m args below meth c H1 locs1 cells slots Q0 (F0 m (pc + 3) ls (.int r :: rest))) : W p l e R s m args below meth c H locs cells slots Q0 (F0 m pc ls (.int a1 :: .ref (ad 0 0 0) :: rest)) :=
  k_i (Bw := tB D A ad) (k_runV (Bw := tB D A ad) (n := 1) (As := [.int a1]) F hB hS (t_recv F hB) hM q1599 q1601 qs74 q92 q1602 (by decide +kernel) hR hz hc rfl hsz rfl hW hdg) hS kk
theorem kX6_X6_test {p : Program} {l : Launch} {e : Env} {R rm : Room} {s : State} {m : MethodId} {args : Array Value} {below : List Frame} {meth : Method} {c : Code} {H : Heap} {locs : List Loc} {cells slots : Nat} {Q0 : State → Prop} {cc : ByteArray} {pc nL : Nat} {ls : Array Slot} {rest : List Value} {ret : Option FieldType} {D : DD} {A : Nat → Prop} {s0 : State} {ad : AD} {T : TS} {a1 : Int32} {Q : Int32 → TS → Prop} (F : FX p l c cc s args m RX6 D A s0 nL meth ret) (hB : tB D A ad T H) (hS : va_S A s.heap H locs) (hM : Met l yX6_test (ws_ yX6_test cX6_test 3 (some .boolean)) rm (va_Pc [.ref (ad 0 0 0), .int a1] (fun U => tB D A ad T U.heap ∧ CX l D A s0 U)) (va_Qi Q (fun u t => tB D A ad u t.heap) A) 0 0 A) (hz : rm.cells = 0 ∧ rm.slots = 0) (hR : rm.frames + 1 ≤ R.frames ∧ 8 + (3 + 11) + rm.locals ≤ R.locals) (hc : cells + 0 ≤ R.cells ∧ slots + 0 ≤ R.slots) (hsz : ls.size = nL) (hW : (rest.map fun v => v.category).sum ≤ 8) (hdg : decode cc pc = .ok (.invokevirtual 245, 3)) (kk : ∀ (r : Int32) (u : TS) (H1 : Heap) (locs1 : List Loc), Q r u → tB D A ad u H1 → va_S A s.heap H1 locs1 → W p l e R s m args below meth c H1 locs1 cells slots Q0 (F0 m (pc + 3) ls (.int r :: rest))) : W p l e R s m args below meth c H locs cells slots Q0 (F0 m pc ls (.int a1 :: .ref (ad 0 0 0) :: rest)) :=
  k_i (Bw := tB D A ad) (k_runV (Bw := tB D A ad) (n := 1) (As := [.int a1]) F hB hS (t_recv F hB) hM q1595 q1597 qs73 q92 q1598 (by decide +kernel) hR hz hc rfl hsz rfl hW hdg) hS kk
theorem kX6_X6_both {p : Program} {l : Launch} {e : Env} {R rm : Room} {s : State} {m : MethodId} {args : Array Value} {below : List Frame} {meth : Method} {c : Code} {H : Heap} {locs : List Loc} {cells slots : Nat} {Q0 : State → Prop} {cc : ByteArray} {pc nL : Nat} {ls : Array Slot} {rest : List Value} {ret : Option FieldType} {D : DD} {A : Nat → Prop} {s0 : State} {ad : AD} {T : TS} {a1 : Int32} {Q : Int32 → TS → Prop} (F : FX p l c cc s args m RX6 D A s0 nL meth ret) (hB : tB D A ad T H) (hS : va_S A s.heap H locs) (hM : Met l yX6_both (ws_ yX6_both cX6_both 2 (some .boolean)) rm (va_Pc [.ref (ad 0 0 0), .int a1] (fun U => tB D A ad T U.heap ∧ CX l D A s0 U)) (va_Qi Q (fun u t => tB D A ad u t.heap) A) 0 0 A) (hz : rm.cells = 0 ∧ rm.slots = 0) (hR : rm.frames + 1 ≤ R.frames ∧ 8 + (2 + 11) + rm.locals ≤ R.locals) (hc : cells + 0 ≤ R.cells ∧ slots + 0 ≤ R.slots) (hsz : ls.size = nL) (hW : (rest.map fun v => v.category).sum ≤ 8) (hdg : decode cc pc = .ok (.invokevirtual 233, 3)) (kk : ∀ (r : Int32) (u : TS) (H1 : Heap) (locs1 : List Loc), Q r u → tB D A ad u H1 → va_S A s.heap H1 locs1 → W p l e R s m args below meth c H1 locs1 cells slots Q0 (F0 m (pc + 3) ls (.int r :: rest))) : W p l e R s m args below meth c H locs cells slots Q0 (F0 m pc ls (.int a1 :: .ref (ad 0 0 0) :: rest)) :=
  k_i (Bw := tB D A ad) (k_runV (Bw := tB D A ad) (n := 1) (As := [.int a1]) F hB hS (t_recv F hB) hM q1591 q1593 qs72 q92 q1594 (by decide +kernel) hR hz hc rfl hsz rfl hW hdg) hS kk
theorem kX6_X6_either {p : Program} {l : Launch} {e : Env} {R rm : Room} {s : State} {m : MethodId} {args : Array Value} {below : List Frame} {meth : Method} {c : Code} {H : Heap} {locs : List Loc} {cells slots : Nat} {Q0 : State → Prop} {cc : ByteArray} {pc nL : Nat} {ls : Array Slot} {rest : List Value} {ret : Option FieldType} {D : DD} {A : Nat → Prop} {s0 : State} {ad : AD} {T : TS} {a1 : Int32} {Q : Int32 → TS → Prop} (F : FX p l c cc s args m RX6 D A s0 nL meth ret) (hB : tB D A ad T H) (hS : va_S A s.heap H locs) (hM : Met l yX6_either (ws_ yX6_either cX6_either 2 (some .boolean)) rm (va_Pc [.ref (ad 0 0 0), .int a1] (fun U => tB D A ad T U.heap ∧ CX l D A s0 U)) (va_Qi Q (fun u t => tB D A ad u t.heap) A) 0 0 A) (hz : rm.cells = 0 ∧ rm.slots = 0) (hR : rm.frames + 1 ≤ R.frames ∧ 8 + (2 + 11) + rm.locals ≤ R.locals) (hc : cells + 0 ≤ R.cells ∧ slots + 0 ≤ R.slots) (hsz : ls.size = nL) (hW : (rest.map fun v => v.category).sum ≤ 8) (hdg : decode cc pc = .ok (.invokevirtual 269, 3)) (kk : ∀ (r : Int32) (u : TS) (H1 : Heap) (locs1 : List Loc), Q r u → tB D A ad u H1 → va_S A s.heap H1 locs1 → W p l e R s m args below meth c H1 locs1 cells slots Q0 (F0 m (pc + 3) ls (.int r :: rest))) : W p l e R s m args below meth c H locs cells slots Q0 (F0 m pc ls (.int a1 :: .ref (ad 0 0 0) :: rest)) :=
  k_i (Bw := tB D A ad) (k_runV (Bw := tB D A ad) (n := 1) (As := [.int a1]) F hB hS (t_recv F hB) hM q1587 q1589 qs71 q92 q1590 (by decide +kernel) hR hz hc rfl hsz rfl hW hdg) hS kk
set_option maxHeartbeats 4000000 in
theorem bX6_term_28 {p : Program} {l : Launch} {e : Env} {s : State} {m : MethodId} {args : Array Value} {below : List Frame} {meth : Method} {c : Code} {D : DD} {A : Nat → Prop} {s0 : State} {ad : AD} {Q : Int32 → TS → Prop} {k_10 : Int32 → TS → Prop} {l1 : Int32} {T : TS} {H : Heap} {locs : List Loc} {ls : Array Slot} (F : FX p l c cX6_term s args m RX6 D A s0 3 meth (some .boolean)) {P : Int32 → TS → (Int32 → TS → Prop) → Prop} {d : Nat} (hP : ∀ (a1 : Int32) (T : TS) (Q : Int32 → TS → Prop), P a1 T Q → Met l yX6_part0 (ws_ yX6_part0 cX6_part0 2 (some .boolean)) (rX6_part0 d) (va_Pc [.ref (ad 0 0 0), .int a1] (fun U => tB D A ad T U.heap ∧ CX l D A s0 U)) (va_Qi Q (fun u t => tB D A ad u t.heap) A) 0 0 A) (h_10 : ∀ (l1 : Int32) (T : TS), k_10 l1 T → ∀ (H : Heap) (locs : List Loc) (ls : Array Slot), tB D A ad T H → va_S A s.heap H locs → lv_has ls 3 [(0, .ref (ad 0 0 0)), (1, .int l1)] → W p l e (rX6_term d) s m args below meth c H locs 0 0 (MQ below (va_Qi Q (fun u t => tB D A ad u t.heap) A) args s 0 0 A) (F0 m 10 ls [])) (hB : tB D A ad T H) (hS : va_S A s.heap H locs) (hw : wX6_term_28 P k_10 l1 T Q) (hl : lv_has ls 3 [(0, .ref (ad 0 0 0)), (1, .int l1)]) : W p l e (rX6_term d) s m args below meth c H locs 0 0 (MQ below (va_Qi Q (fun u t => tB D A ad u t.heap) A) args s 0 0 A) (F0 m 28 ls []) := by
  have hx := F.1.x
  have hb := F.1.b
  unfold wX6_term_28 at hw
  refine lv_aload_n hx hb dX6_term_28 rfl (lv_at hl 0 rfl) ?_
  refine tg_19 F hB dX6_term_29 ?_
  refine lv_istore_n (lv' := [(2, .int (T.1 19)), (0, .ref (ad 0 0 0)), (1, .int l1)]) hx hb dX6_term_32 rfl hl (by decide) rfl (fun ls hl => ?_)
  refine lv_aload_n hx hb dX6_term_33 rfl (lv_at hl 1 rfl) ?_
  refine kX6_X6_nextToken F hB hS hw ⟨by show _ + 1 ≤ _; simp only [rX6_part0, rX6_term, rX6_sum, rX6_test, rX6_both, rX6_either, rX6_nextToken, rX6_isSign, rX6_step, rX6_isName]; omega, by show _ + _ ≤ _; simp only [rX6_part0, rX6_term, rX6_sum, rX6_test, rX6_both, rX6_either, rX6_nextToken, rX6_isSign, rX6_step, rX6_isName]; omega⟩ ⟨Nat.zero_le _, Nat.zero_le _⟩ hl.1 (Nat.le_of_ble_eq_true rfl) dX6_term_34 (fun T2 H locs hw hB hS => ?_)
  refine lv_aload_n hx hb dX6_term_37 rfl (lv_at hl 1 rfl) ?_
  refine lv_iload_n hx hb dX6_term_38 rfl (lv_at hl 2 rfl) ?_
  refine kX6_X6_part0B F hB hS (hP _ _ _ hw) ⟨rfl, rfl⟩ ⟨by show _ + 1 ≤ _; simp only [rX6_part0, rX6_term, rX6_sum, rX6_test, rX6_both, rX6_either, rX6_nextToken, rX6_isSign, rX6_step, rX6_isName]; omega, by show _ + _ ≤ _; simp only [rX6_part0, rX6_term, rX6_sum, rX6_test, rX6_both, rX6_either, rX6_nextToken, rX6_isSign, rX6_step, rX6_isName]; omega⟩ ⟨Nat.zero_le _, Nat.zero_le _⟩ hl.1 (Nat.le_of_ble_eq_true rfl) dX6_term_39 (fun r3 T4 H locs hw hB hS => ?_)
  refine lv_if_ne (tgt := 47) hx hb dX6_term_42 (by decide) (fun q => ?_) (fun q => ?_)
  · replace hw := hw.2 q
    refine lv_aload_n hx hb dX6_term_47 rfl (lv_at hl 1 rfl) ?_
    refine lv_iconst (v := 2) hx hb dX6_term_48 (by decide) ?_
    refine lv_iload_n hx hb dX6_term_49 rfl (lv_at hl 0 rfl) ?_
    refine kX6_X6_step F hB hS hw ⟨by show _ + 1 ≤ _; simp only [rX6_part0, rX6_term, rX6_sum, rX6_test, rX6_both, rX6_either, rX6_nextToken, rX6_isSign, rX6_step, rX6_isName]; omega, by show _ + _ ≤ _; simp only [rX6_part0, rX6_term, rX6_sum, rX6_test, rX6_both, rX6_either, rX6_nextToken, rX6_isSign, rX6_step, rX6_isName]; omega⟩ ⟨Nat.zero_le _, Nat.zero_le _⟩ hl.1 (Nat.le_of_ble_eq_true rfl) dX6_term_50 (fun T6 H locs hw hB hS => ?_)
    refine lv_goto (tgt := 10) hx hb dX6_term_53 (by decide) ?_
    exact h_10 _ _ hw _ _ _ hB hS (lv_sub hl [1, 2] rfl)
  · replace hw := hw.1 q
    refine lv_iconst (v := 0) hx hb dX6_term_45 (by decide) ?_
    exact W.zret hx hb F.1.r rfl (fun t ht hW => ⟨⟨_, _, rfl, hw, x_B (Bw := tB D A ad) ht hB⟩, hS.F ht⟩) hS.2.2 dX6_term_46 (hlocks := F.1.k)
set_option maxHeartbeats 4000000 in
theorem bX6_term_10 {p : Program} {l : Launch} {e : Env} {s : State} {m : MethodId} {args : Array Value} {below : List Frame} {meth : Method} {c : Code} {D : DD} {A : Nat → Prop} {s0 : State} {ad : AD} {Q : Int32 → TS → Prop} (F : FX p l c cX6_term s args m RX6 D A s0 3 meth (some .boolean)) {P : Int32 → TS → (Int32 → TS → Prop) → Prop} {d : Nat} (hP : ∀ (a1 : Int32) (T : TS) (Q : Int32 → TS → Prop), P a1 T Q → Met l yX6_part0 (ws_ yX6_part0 cX6_part0 2 (some .boolean)) (rX6_part0 d) (va_Pc [.ref (ad 0 0 0), .int a1] (fun U => tB D A ad T U.heap ∧ CX l D A s0 U)) (va_Qi Q (fun u t => tB D A ad u t.heap) A) 0 0 A) : ∀ (n : Nat) (l1 : Int32) (T : TS), wX6_term_10 P Q n l1 T → ∀ (H : Heap) (locs : List Loc) (ls : Array Slot), tB D A ad T H → va_S A s.heap H locs → lv_has ls 3 [(0, .ref (ad 0 0 0)), (1, .int l1)] → W p l e (rX6_term d) s m args below meth c H locs 0 0 (MQ below (va_Qi Q (fun u t => tB D A ad u t.heap) A) args s 0 0 A) (F0 m 10 ls []) := by
  have hx := F.1.x
  have hb := F.1.b
  intro n
  induction n with
  | zero => intro l1 T hw; exact hw.elim
  | succ n ih =>
    intro l1 T hw H locs ls hB hS hl
    unfold wX6_term_10 at hw
    refine lv_aload_n hx hb dX6_term_10 rfl (lv_at hl 0 rfl) ?_
    refine lv_bipush (v := 42) hx hb dX6_term_11 (by decide) ?_
    refine kX6_X6_isSign F hB hS hw ⟨by show _ + 1 ≤ _; simp only [rX6_part0, rX6_term, rX6_sum, rX6_test, rX6_both, rX6_either, rX6_nextToken, rX6_isSign, rX6_step, rX6_isName]; omega, by show _ + _ ≤ _; simp only [rX6_part0, rX6_term, rX6_sum, rX6_test, rX6_both, rX6_either, rX6_nextToken, rX6_isSign, rX6_step, rX6_isName]; omega⟩ ⟨Nat.zero_le _, Nat.zero_le _⟩ hl.1 (Nat.le_of_ble_eq_true rfl) dX6_term_13 (fun r1 T2 H locs hw hB hS => ?_)
    refine lv_if_ne (tgt := 28) hx hb dX6_term_16 (by decide) (fun q => ?_) (fun q => ?_)
    · replace hw := hw.2 q
      exact bX6_term_28 F hP ih hB hS hw hl
    · replace hw := hw.1 q
      refine lv_aload_n hx hb dX6_term_19 rfl (lv_at hl 0 rfl) ?_
      refine lv_bipush (v := 47) hx hb dX6_term_20 (by decide) ?_
      refine kX6_X6_isSign F hB hS hw ⟨by show _ + 1 ≤ _; simp only [rX6_part0, rX6_term, rX6_sum, rX6_test, rX6_both, rX6_either, rX6_nextToken, rX6_isSign, rX6_step, rX6_isName]; omega, by show _ + _ ≤ _; simp only [rX6_part0, rX6_term, rX6_sum, rX6_test, rX6_both, rX6_either, rX6_nextToken, rX6_isSign, rX6_step, rX6_isName]; omega⟩ ⟨Nat.zero_le _, Nat.zero_le _⟩ hl.1 (Nat.le_of_ble_eq_true rfl) dX6_term_22 (fun r3 T4 H locs hw hB hS => ?_)
      refine lv_if_eq (tgt := 56) hx hb dX6_term_25 (by decide) (fun q => ?_) (fun q => ?_)
      · replace hw := hw.1 q
        refine lv_iconst (v := 1) hx hb dX6_term_56 (by decide) ?_
        exact W.zret hx hb F.1.r rfl (fun t ht hW => ⟨⟨_, _, rfl, hw, x_B (Bw := tB D A ad) ht hB⟩, hS.F ht⟩) hS.2.2 dX6_term_57 (hlocks := F.1.k)
      · replace hw := hw.2 q
        exact bX6_term_28 F hP ih hB hS hw hl
set_option maxHeartbeats 4000000 in
theorem bX6_term_0 {p : Program} {l : Launch} {e : Env} {s : State} {m : MethodId} {args : Array Value} {below : List Frame} {meth : Method} {c : Code} {D : DD} {A : Nat → Prop} {s0 : State} {ad : AD} {Q : Int32 → TS → Prop} {a1 : Int32} {T : TS} {H : Heap} {locs : List Loc} {ls : Array Slot} (F : FX p l c cX6_term s args m RX6 D A s0 3 meth (some .boolean)) {P : Int32 → TS → (Int32 → TS → Prop) → Prop} {d : Nat} (hP : ∀ (a1 : Int32) (T : TS) (Q : Int32 → TS → Prop), P a1 T Q → Met l yX6_part0 (ws_ yX6_part0 cX6_part0 2 (some .boolean)) (rX6_part0 d) (va_Pc [.ref (ad 0 0 0), .int a1] (fun U => tB D A ad T U.heap ∧ CX l D A s0 U)) (va_Qi Q (fun u t => tB D A ad u t.heap) A) 0 0 A) (hB : tB D A ad T H) (hS : va_S A s.heap H locs) (hw : wX6_term P a1 T Q) (hl : lv_has ls 3 [(0, .ref (ad 0 0 0)), (1, .int a1)]) : W p l e (rX6_term d) s m args below meth c H locs 0 0 (MQ below (va_Qi Q (fun u t => tB D A ad u t.heap) A) args s 0 0 A) (F0 m 0 ls []) := by
  have hx := F.1.x
  have hb := F.1.b
  unfold wX6_term at hw
  refine lv_aload_n hx hb dX6_term_0 rfl (lv_at hl 0 rfl) ?_
  refine lv_iload_n hx hb dX6_term_1 rfl (lv_at hl 1 rfl) ?_
  refine kX6_X6_part0B F hB hS (hP _ _ _ hw) ⟨rfl, rfl⟩ ⟨by show _ + 1 ≤ _; simp only [rX6_part0, rX6_term, rX6_sum, rX6_test, rX6_both, rX6_either, rX6_nextToken, rX6_isSign, rX6_step, rX6_isName]; omega, by show _ + _ ≤ _; simp only [rX6_part0, rX6_term, rX6_sum, rX6_test, rX6_both, rX6_either, rX6_nextToken, rX6_isSign, rX6_step, rX6_isName]; omega⟩ ⟨Nat.zero_le _, Nat.zero_le _⟩ hl.1 (Nat.le_of_ble_eq_true rfl) dX6_term_2 (fun r1 T2 H locs hw hB hS => ?_)
  refine lv_if_ne (tgt := 10) hx hb dX6_term_5 (by decide) (fun q => ?_) (fun q => ?_)
  · replace hw := hw.2 q
    obtain ⟨f_10, hw⟩ := hw
    exact bX6_term_10 F hP f_10 _ _ hw _ _ _ hB hS hl
  · replace hw := hw.1 q
    refine lv_iconst (v := 0) hx hb dX6_term_8 (by decide) ?_
    exact W.zret hx hb F.1.r rfl (fun t ht hW => ⟨⟨_, _, rfl, hw, x_B (Bw := tB D A ad) ht hB⟩, hS.F ht⟩) hS.2.2 dX6_term_9 (hlocks := F.1.k)
set_option maxHeartbeats 4000000 in
theorem mX6_term {l : Launch} {D : DD} {A : Nat → Prop} {s0 : State} {ad : AD} {T : TS} {P : Int32 → TS → (Int32 → TS → Prop) → Prop} {d : Nat} (hP : ∀ (a1 : Int32) (T : TS) (Q : Int32 → TS → Prop), P a1 T Q → Met l yX6_part0 (ws_ yX6_part0 cX6_part0 2 (some .boolean)) (rX6_part0 d) (va_Pc [.ref (ad 0 0 0), .int a1] (fun U => tB D A ad T U.heap ∧ CX l D A s0 U)) (va_Qi Q (fun u t => tB D A ad u t.heap) A) 0 0 A) {a1 : Int32} {Q : Int32 → TS → Prop} (hw : wX6_term P a1 T Q) : Met l yX6_term (ws_ yX6_term cX6_term 3 (some .boolean)) (rX6_term d) (va_Pc [.ref (ad 0 0 0), .int a1] (fun U => tB D A ad T U.heap ∧ CX l D A s0 U)) (va_Qi Q (fun u t => tB D A ad u t.heap) A) 0 0 A := by
  refine Met.ofW (cc := cX6_term) (maxL := 3) (ret := some .boolean) (by decide) rfl ?_
  intro p e s m args below meth c s₁ B hml hv
  obtain ⟨rfl, hB, hC⟩ := hv
  have F : FX p l c cX6_term s _ m RX6 D A s0 3 meth (some .boolean) := ⟨mk_FP B hml rfl, hC⟩
  have hS : va_S A s.heap s.heap [] := va_S.rf
  have hl := lv_entry ([.ref (ad 0 0 0), .int a1]) (n := 3) (Nat.le_of_ble_eq_true rfl)
  rw [lg_entry_eq]
  generalize (lg_sl ([.ref (ad 0 0 0), .int a1]) ++ List.replicate (3 - (lg_sl ([.ref (ad 0 0 0), .int a1])).length) Slot.unset).toArray = ls at hl ⊢
  exact bX6_term_0 F hP hB hS hw hl
set_option maxHeartbeats 4000000 in
theorem bX6_sum_28 {p : Program} {l : Launch} {e : Env} {s : State} {m : MethodId} {args : Array Value} {below : List Frame} {meth : Method} {c : Code} {D : DD} {A : Nat → Prop} {s0 : State} {ad : AD} {Q : Int32 → TS → Prop} {k_10 : Int32 → TS → Prop} {l1 : Int32} {T : TS} {H : Heap} {locs : List Loc} {ls : Array Slot} (F : FX p l c cX6_sum s args m RX6 D A s0 3 meth (some .boolean)) {P : Int32 → TS → (Int32 → TS → Prop) → Prop} {d : Nat} (hP : ∀ (a1 : Int32) (T : TS) (Q : Int32 → TS → Prop), P a1 T Q → Met l yX6_part0 (ws_ yX6_part0 cX6_part0 2 (some .boolean)) (rX6_part0 d) (va_Pc [.ref (ad 0 0 0), .int a1] (fun U => tB D A ad T U.heap ∧ CX l D A s0 U)) (va_Qi Q (fun u t => tB D A ad u t.heap) A) 0 0 A) (h_10 : ∀ (l1 : Int32) (T : TS), k_10 l1 T → ∀ (H : Heap) (locs : List Loc) (ls : Array Slot), tB D A ad T H → va_S A s.heap H locs → lv_has ls 3 [(0, .ref (ad 0 0 0)), (1, .int l1)] → W p l e (rX6_sum d) s m args below meth c H locs 0 0 (MQ below (va_Qi Q (fun u t => tB D A ad u t.heap) A) args s 0 0 A) (F0 m 10 ls [])) (hB : tB D A ad T H) (hS : va_S A s.heap H locs) (hw : wX6_sum_28 P k_10 l1 T Q) (hl : lv_has ls 3 [(0, .ref (ad 0 0 0)), (1, .int l1)]) : W p l e (rX6_sum d) s m args below meth c H locs 0 0 (MQ below (va_Qi Q (fun u t => tB D A ad u t.heap) A) args s 0 0 A) (F0 m 28 ls []) := by
  have hx := F.1.x
  have hb := F.1.b
  unfold wX6_sum_28 at hw
  refine lv_aload_n hx hb dX6_sum_28 rfl (lv_at hl 0 rfl) ?_
  refine tg_19 F hB dX6_sum_29 ?_
  refine lv_istore_n (lv' := [(2, .int (T.1 19)), (0, .ref (ad 0 0 0)), (1, .int l1)]) hx hb dX6_sum_32 rfl hl (by decide) rfl (fun ls hl => ?_)
  refine lv_aload_n hx hb dX6_sum_33 rfl (lv_at hl 1 rfl) ?_
  refine kX6_X6_nextToken F hB hS hw ⟨by show _ + 1 ≤ _; simp only [rX6_part0, rX6_term, rX6_sum, rX6_test, rX6_both, rX6_either, rX6_nextToken, rX6_isSign, rX6_step, rX6_isName]; omega, by show _ + _ ≤ _; simp only [rX6_part0, rX6_term, rX6_sum, rX6_test, rX6_both, rX6_either, rX6_nextToken, rX6_isSign, rX6_step, rX6_isName]; omega⟩ ⟨Nat.zero_le _, Nat.zero_le _⟩ hl.1 (Nat.le_of_ble_eq_true rfl) dX6_sum_34 (fun T2 H locs hw hB hS => ?_)
  refine lv_aload_n hx hb dX6_sum_37 rfl (lv_at hl 1 rfl) ?_
  refine lv_iload_n hx hb dX6_sum_38 rfl (lv_at hl 2 rfl) ?_
  refine kX6_X6_term F hB hS (mX6_term hP hw) ⟨rfl, rfl⟩ ⟨by show _ + 1 ≤ _; simp only [rX6_part0, rX6_term, rX6_sum, rX6_test, rX6_both, rX6_either, rX6_nextToken, rX6_isSign, rX6_step, rX6_isName]; omega, by show _ + _ ≤ _; simp only [rX6_part0, rX6_term, rX6_sum, rX6_test, rX6_both, rX6_either, rX6_nextToken, rX6_isSign, rX6_step, rX6_isName]; omega⟩ ⟨Nat.zero_le _, Nat.zero_le _⟩ hl.1 (Nat.le_of_ble_eq_true rfl) dX6_sum_39 (fun r3 T4 H locs hw hB hS => ?_)
  refine lv_if_ne (tgt := 47) hx hb dX6_sum_42 (by decide) (fun q => ?_) (fun q => ?_)
  · replace hw := hw.2 q
    refine lv_aload_n hx hb dX6_sum_47 rfl (lv_at hl 1 rfl) ?_
    refine lv_iconst (v := 2) hx hb dX6_sum_48 (by decide) ?_
    refine lv_iload_n hx hb dX6_sum_49 rfl (lv_at hl 0 rfl) ?_
    refine kX6_X6_step F hB hS hw ⟨by show _ + 1 ≤ _; simp only [rX6_part0, rX6_term, rX6_sum, rX6_test, rX6_both, rX6_either, rX6_nextToken, rX6_isSign, rX6_step, rX6_isName]; omega, by show _ + _ ≤ _; simp only [rX6_part0, rX6_term, rX6_sum, rX6_test, rX6_both, rX6_either, rX6_nextToken, rX6_isSign, rX6_step, rX6_isName]; omega⟩ ⟨Nat.zero_le _, Nat.zero_le _⟩ hl.1 (Nat.le_of_ble_eq_true rfl) dX6_sum_50 (fun T6 H locs hw hB hS => ?_)
    refine lv_goto (tgt := 10) hx hb dX6_sum_53 (by decide) ?_
    exact h_10 _ _ hw _ _ _ hB hS (lv_sub hl [1, 2] rfl)
  · replace hw := hw.1 q
    refine lv_iconst (v := 0) hx hb dX6_sum_45 (by decide) ?_
    exact W.zret hx hb F.1.r rfl (fun t ht hW => ⟨⟨_, _, rfl, hw, x_B (Bw := tB D A ad) ht hB⟩, hS.F ht⟩) hS.2.2 dX6_sum_46 (hlocks := F.1.k)
set_option maxHeartbeats 4000000 in
theorem bX6_sum_10 {p : Program} {l : Launch} {e : Env} {s : State} {m : MethodId} {args : Array Value} {below : List Frame} {meth : Method} {c : Code} {D : DD} {A : Nat → Prop} {s0 : State} {ad : AD} {Q : Int32 → TS → Prop} (F : FX p l c cX6_sum s args m RX6 D A s0 3 meth (some .boolean)) {P : Int32 → TS → (Int32 → TS → Prop) → Prop} {d : Nat} (hP : ∀ (a1 : Int32) (T : TS) (Q : Int32 → TS → Prop), P a1 T Q → Met l yX6_part0 (ws_ yX6_part0 cX6_part0 2 (some .boolean)) (rX6_part0 d) (va_Pc [.ref (ad 0 0 0), .int a1] (fun U => tB D A ad T U.heap ∧ CX l D A s0 U)) (va_Qi Q (fun u t => tB D A ad u t.heap) A) 0 0 A) : ∀ (n : Nat) (l1 : Int32) (T : TS), wX6_sum_10 P Q n l1 T → ∀ (H : Heap) (locs : List Loc) (ls : Array Slot), tB D A ad T H → va_S A s.heap H locs → lv_has ls 3 [(0, .ref (ad 0 0 0)), (1, .int l1)] → W p l e (rX6_sum d) s m args below meth c H locs 0 0 (MQ below (va_Qi Q (fun u t => tB D A ad u t.heap) A) args s 0 0 A) (F0 m 10 ls []) := by
  have hx := F.1.x
  have hb := F.1.b
  intro n
  induction n with
  | zero => intro l1 T hw; exact hw.elim
  | succ n ih =>
    intro l1 T hw H locs ls hB hS hl
    unfold wX6_sum_10 at hw
    refine lv_aload_n hx hb dX6_sum_10 rfl (lv_at hl 0 rfl) ?_
    refine lv_bipush (v := 43) hx hb dX6_sum_11 (by decide) ?_
    refine kX6_X6_isSign F hB hS hw ⟨by show _ + 1 ≤ _; simp only [rX6_part0, rX6_term, rX6_sum, rX6_test, rX6_both, rX6_either, rX6_nextToken, rX6_isSign, rX6_step, rX6_isName]; omega, by show _ + _ ≤ _; simp only [rX6_part0, rX6_term, rX6_sum, rX6_test, rX6_both, rX6_either, rX6_nextToken, rX6_isSign, rX6_step, rX6_isName]; omega⟩ ⟨Nat.zero_le _, Nat.zero_le _⟩ hl.1 (Nat.le_of_ble_eq_true rfl) dX6_sum_13 (fun r1 T2 H locs hw hB hS => ?_)
    refine lv_if_ne (tgt := 28) hx hb dX6_sum_16 (by decide) (fun q => ?_) (fun q => ?_)
    · replace hw := hw.2 q
      exact bX6_sum_28 F hP ih hB hS hw hl
    · replace hw := hw.1 q
      refine lv_aload_n hx hb dX6_sum_19 rfl (lv_at hl 0 rfl) ?_
      refine lv_bipush (v := 45) hx hb dX6_sum_20 (by decide) ?_
      refine kX6_X6_isSign F hB hS hw ⟨by show _ + 1 ≤ _; simp only [rX6_part0, rX6_term, rX6_sum, rX6_test, rX6_both, rX6_either, rX6_nextToken, rX6_isSign, rX6_step, rX6_isName]; omega, by show _ + _ ≤ _; simp only [rX6_part0, rX6_term, rX6_sum, rX6_test, rX6_both, rX6_either, rX6_nextToken, rX6_isSign, rX6_step, rX6_isName]; omega⟩ ⟨Nat.zero_le _, Nat.zero_le _⟩ hl.1 (Nat.le_of_ble_eq_true rfl) dX6_sum_22 (fun r3 T4 H locs hw hB hS => ?_)
      refine lv_if_eq (tgt := 56) hx hb dX6_sum_25 (by decide) (fun q => ?_) (fun q => ?_)
      · replace hw := hw.1 q
        refine lv_iconst (v := 1) hx hb dX6_sum_56 (by decide) ?_
        exact W.zret hx hb F.1.r rfl (fun t ht hW => ⟨⟨_, _, rfl, hw, x_B (Bw := tB D A ad) ht hB⟩, hS.F ht⟩) hS.2.2 dX6_sum_57 (hlocks := F.1.k)
      · replace hw := hw.2 q
        exact bX6_sum_28 F hP ih hB hS hw hl
set_option maxHeartbeats 4000000 in
theorem bX6_sum_0 {p : Program} {l : Launch} {e : Env} {s : State} {m : MethodId} {args : Array Value} {below : List Frame} {meth : Method} {c : Code} {D : DD} {A : Nat → Prop} {s0 : State} {ad : AD} {Q : Int32 → TS → Prop} {a1 : Int32} {T : TS} {H : Heap} {locs : List Loc} {ls : Array Slot} (F : FX p l c cX6_sum s args m RX6 D A s0 3 meth (some .boolean)) {P : Int32 → TS → (Int32 → TS → Prop) → Prop} {d : Nat} (hP : ∀ (a1 : Int32) (T : TS) (Q : Int32 → TS → Prop), P a1 T Q → Met l yX6_part0 (ws_ yX6_part0 cX6_part0 2 (some .boolean)) (rX6_part0 d) (va_Pc [.ref (ad 0 0 0), .int a1] (fun U => tB D A ad T U.heap ∧ CX l D A s0 U)) (va_Qi Q (fun u t => tB D A ad u t.heap) A) 0 0 A) (hB : tB D A ad T H) (hS : va_S A s.heap H locs) (hw : wX6_sum P a1 T Q) (hl : lv_has ls 3 [(0, .ref (ad 0 0 0)), (1, .int a1)]) : W p l e (rX6_sum d) s m args below meth c H locs 0 0 (MQ below (va_Qi Q (fun u t => tB D A ad u t.heap) A) args s 0 0 A) (F0 m 0 ls []) := by
  have hx := F.1.x
  have hb := F.1.b
  unfold wX6_sum at hw
  refine lv_aload_n hx hb dX6_sum_0 rfl (lv_at hl 0 rfl) ?_
  refine lv_iload_n hx hb dX6_sum_1 rfl (lv_at hl 1 rfl) ?_
  refine kX6_X6_term F hB hS (mX6_term hP hw) ⟨rfl, rfl⟩ ⟨by show _ + 1 ≤ _; simp only [rX6_part0, rX6_term, rX6_sum, rX6_test, rX6_both, rX6_either, rX6_nextToken, rX6_isSign, rX6_step, rX6_isName]; omega, by show _ + _ ≤ _; simp only [rX6_part0, rX6_term, rX6_sum, rX6_test, rX6_both, rX6_either, rX6_nextToken, rX6_isSign, rX6_step, rX6_isName]; omega⟩ ⟨Nat.zero_le _, Nat.zero_le _⟩ hl.1 (Nat.le_of_ble_eq_true rfl) dX6_sum_2 (fun r1 T2 H locs hw hB hS => ?_)
  refine lv_if_ne (tgt := 10) hx hb dX6_sum_5 (by decide) (fun q => ?_) (fun q => ?_)
  · replace hw := hw.2 q
    obtain ⟨f_10, hw⟩ := hw
    exact bX6_sum_10 F hP f_10 _ _ hw _ _ _ hB hS hl
  · replace hw := hw.1 q
    refine lv_iconst (v := 0) hx hb dX6_sum_8 (by decide) ?_
    exact W.zret hx hb F.1.r rfl (fun t ht hW => ⟨⟨_, _, rfl, hw, x_B (Bw := tB D A ad) ht hB⟩, hS.F ht⟩) hS.2.2 dX6_sum_9 (hlocks := F.1.k)
set_option maxHeartbeats 4000000 in
theorem mX6_sum {l : Launch} {D : DD} {A : Nat → Prop} {s0 : State} {ad : AD} {T : TS} {P : Int32 → TS → (Int32 → TS → Prop) → Prop} {d : Nat} (hP : ∀ (a1 : Int32) (T : TS) (Q : Int32 → TS → Prop), P a1 T Q → Met l yX6_part0 (ws_ yX6_part0 cX6_part0 2 (some .boolean)) (rX6_part0 d) (va_Pc [.ref (ad 0 0 0), .int a1] (fun U => tB D A ad T U.heap ∧ CX l D A s0 U)) (va_Qi Q (fun u t => tB D A ad u t.heap) A) 0 0 A) {a1 : Int32} {Q : Int32 → TS → Prop} (hw : wX6_sum P a1 T Q) : Met l yX6_sum (ws_ yX6_sum cX6_sum 3 (some .boolean)) (rX6_sum d) (va_Pc [.ref (ad 0 0 0), .int a1] (fun U => tB D A ad T U.heap ∧ CX l D A s0 U)) (va_Qi Q (fun u t => tB D A ad u t.heap) A) 0 0 A := by
  refine Met.ofW (cc := cX6_sum) (maxL := 3) (ret := some .boolean) (by decide) rfl ?_
  intro p e s m args below meth c s₁ B hml hv
  obtain ⟨rfl, hB, hC⟩ := hv
  have F : FX p l c cX6_sum s _ m RX6 D A s0 3 meth (some .boolean) := ⟨mk_FP B hml rfl, hC⟩
  have hS : va_S A s.heap s.heap [] := va_S.rf
  have hl := lv_entry ([.ref (ad 0 0 0), .int a1]) (n := 3) (Nat.le_of_ble_eq_true rfl)
  rw [lg_entry_eq]
  generalize (lg_sl ([.ref (ad 0 0 0), .int a1]) ++ List.replicate (3 - (lg_sl ([.ref (ad 0 0 0), .int a1])).length) Slot.unset).toArray = ls at hl ⊢
  exact bX6_sum_0 F hP hB hS hw hl
set_option maxHeartbeats 4000000 in
theorem bX6_test_37 {p : Program} {l : Launch} {e : Env} {s : State} {m : MethodId} {args : Array Value} {below : List Frame} {meth : Method} {c : Code} {D : DD} {A : Nat → Prop} {s0 : State} {ad : AD} {Q : Int32 → TS → Prop} {l1 : Int32} {T : TS} {H : Heap} {locs : List Loc} {ls : Array Slot} (F : FX p l c cX6_test s args m RX6 D A s0 3 meth (some .boolean)) {P : Int32 → TS → (Int32 → TS → Prop) → Prop} {d : Nat} (hP : ∀ (a1 : Int32) (T : TS) (Q : Int32 → TS → Prop), P a1 T Q → Met l yX6_part0 (ws_ yX6_part0 cX6_part0 2 (some .boolean)) (rX6_part0 d) (va_Pc [.ref (ad 0 0 0), .int a1] (fun U => tB D A ad T U.heap ∧ CX l D A s0 U)) (va_Qi Q (fun u t => tB D A ad u t.heap) A) 0 0 A) (hB : tB D A ad T H) (hS : va_S A s.heap H locs) (hw : wX6_test_37 P l1 T Q) (hl : lv_has ls 3 [(0, .ref (ad 0 0 0)), (1, .int l1)]) : W p l e (rX6_test d) s m args below meth c H locs 0 0 (MQ below (va_Qi Q (fun u t => tB D A ad u t.heap) A) args s 0 0 A) (F0 m 37 ls []) := by
  have hx := F.1.x
  have hb := F.1.b
  unfold wX6_test_37 at hw
  refine lv_aload_n hx hb dX6_test_37 rfl (lv_at hl 0 rfl) ?_
  refine tg_19 F hB dX6_test_38 ?_
  refine lv_istore_n (lv' := [(2, .int (T.1 19)), (0, .ref (ad 0 0 0)), (1, .int l1)]) hx hb dX6_test_41 rfl hl (by decide) rfl (fun ls hl => ?_)
  refine lv_aload_n hx hb dX6_test_42 rfl (lv_at hl 1 rfl) ?_
  refine kX6_X6_nextToken F hB hS hw ⟨by show _ + 1 ≤ _; simp only [rX6_part0, rX6_term, rX6_sum, rX6_test, rX6_both, rX6_either, rX6_nextToken, rX6_isSign, rX6_step, rX6_isName]; omega, by show _ + _ ≤ _; simp only [rX6_part0, rX6_term, rX6_sum, rX6_test, rX6_both, rX6_either, rX6_nextToken, rX6_isSign, rX6_step, rX6_isName]; omega⟩ ⟨Nat.zero_le _, Nat.zero_le _⟩ hl.1 (Nat.le_of_ble_eq_true rfl) dX6_test_43 (fun T2 H locs hw hB hS => ?_)
  refine lv_aload_n hx hb dX6_test_46 rfl (lv_at hl 1 rfl) ?_
  refine lv_iload_n hx hb dX6_test_47 rfl (lv_at hl 2 rfl) ?_
  refine kX6_X6_sum F hB hS (mX6_sum hP hw) ⟨rfl, rfl⟩ ⟨by show _ + 1 ≤ _; simp only [rX6_part0, rX6_term, rX6_sum, rX6_test, rX6_both, rX6_either, rX6_nextToken, rX6_isSign, rX6_step, rX6_isName]; omega, by show _ + _ ≤ _; simp only [rX6_part0, rX6_term, rX6_sum, rX6_test, rX6_both, rX6_either, rX6_nextToken, rX6_isSign, rX6_step, rX6_isName]; omega⟩ ⟨Nat.zero_le _, Nat.zero_le _⟩ hl.1 (Nat.le_of_ble_eq_true rfl) dX6_test_48 (fun r3 T4 H locs hw hB hS => ?_)
  refine lv_if_ne (tgt := 56) hx hb dX6_test_51 (by decide) (fun q => ?_) (fun q => ?_)
  · replace hw := hw.2 q
    refine lv_aload_n hx hb dX6_test_56 rfl (lv_at hl 1 rfl) ?_
    refine lv_iconst (v := 2) hx hb dX6_test_57 (by decide) ?_
    refine lv_iload_n hx hb dX6_test_58 rfl (lv_at hl 0 rfl) ?_
    refine kX6_X6_step F hB hS hw ⟨by show _ + 1 ≤ _; simp only [rX6_part0, rX6_term, rX6_sum, rX6_test, rX6_both, rX6_either, rX6_nextToken, rX6_isSign, rX6_step, rX6_isName]; omega, by show _ + _ ≤ _; simp only [rX6_part0, rX6_term, rX6_sum, rX6_test, rX6_both, rX6_either, rX6_nextToken, rX6_isSign, rX6_step, rX6_isName]; omega⟩ ⟨Nat.zero_le _, Nat.zero_le _⟩ hl.1 (Nat.le_of_ble_eq_true rfl) dX6_test_59 (fun T6 H locs hw hB hS => ?_)
    refine lv_iconst (v := 1) hx hb dX6_test_62 (by decide) ?_
    exact W.zret hx hb F.1.r rfl (fun t ht hW => ⟨⟨_, _, rfl, hw, x_B (Bw := tB D A ad) ht hB⟩, hS.F ht⟩) hS.2.2 dX6_test_63 (hlocks := F.1.k)
  · replace hw := hw.1 q
    refine lv_iconst (v := 0) hx hb dX6_test_54 (by decide) ?_
    exact W.zret hx hb F.1.r rfl (fun t ht hW => ⟨⟨_, _, rfl, hw, x_B (Bw := tB D A ad) ht hB⟩, hS.F ht⟩) hS.2.2 dX6_test_55 (hlocks := F.1.k)
set_option maxHeartbeats 4000000 in
theorem bX6_test_0 {p : Program} {l : Launch} {e : Env} {s : State} {m : MethodId} {args : Array Value} {below : List Frame} {meth : Method} {c : Code} {D : DD} {A : Nat → Prop} {s0 : State} {ad : AD} {Q : Int32 → TS → Prop} {a1 : Int32} {T : TS} {H : Heap} {locs : List Loc} {ls : Array Slot} (F : FX p l c cX6_test s args m RX6 D A s0 3 meth (some .boolean)) {P : Int32 → TS → (Int32 → TS → Prop) → Prop} {d : Nat} (hP : ∀ (a1 : Int32) (T : TS) (Q : Int32 → TS → Prop), P a1 T Q → Met l yX6_part0 (ws_ yX6_part0 cX6_part0 2 (some .boolean)) (rX6_part0 d) (va_Pc [.ref (ad 0 0 0), .int a1] (fun U => tB D A ad T U.heap ∧ CX l D A s0 U)) (va_Qi Q (fun u t => tB D A ad u t.heap) A) 0 0 A) (hB : tB D A ad T H) (hS : va_S A s.heap H locs) (hw : wX6_test P a1 T Q) (hl : lv_has ls 3 [(0, .ref (ad 0 0 0)), (1, .int a1)]) : W p l e (rX6_test d) s m args below meth c H locs 0 0 (MQ below (va_Qi Q (fun u t => tB D A ad u t.heap) A) args s 0 0 A) (F0 m 0 ls []) := by
  have hx := F.1.x
  have hb := F.1.b
  unfold wX6_test at hw
  refine lv_aload_n hx hb dX6_test_0 rfl (lv_at hl 0 rfl) ?_
  refine lv_iload_n hx hb dX6_test_1 rfl (lv_at hl 1 rfl) ?_
  refine kX6_X6_sum F hB hS (mX6_sum hP hw) ⟨rfl, rfl⟩ ⟨by show _ + 1 ≤ _; simp only [rX6_part0, rX6_term, rX6_sum, rX6_test, rX6_both, rX6_either, rX6_nextToken, rX6_isSign, rX6_step, rX6_isName]; omega, by show _ + _ ≤ _; simp only [rX6_part0, rX6_term, rX6_sum, rX6_test, rX6_both, rX6_either, rX6_nextToken, rX6_isSign, rX6_step, rX6_isName]; omega⟩ ⟨Nat.zero_le _, Nat.zero_le _⟩ hl.1 (Nat.le_of_ble_eq_true rfl) dX6_test_2 (fun r1 T2 H locs hw hB hS => ?_)
  refine lv_if_ne (tgt := 10) hx hb dX6_test_5 (by decide) (fun q => ?_) (fun q => ?_)
  · replace hw := hw.2 q
    refine lv_aload_n hx hb dX6_test_10 rfl (lv_at hl 0 rfl) ?_
    refine lv_bipush (v := 60) hx hb dX6_test_11 (by decide) ?_
    refine kX6_X6_isSign F hB hS hw ⟨by show _ + 1 ≤ _; simp only [rX6_part0, rX6_term, rX6_sum, rX6_test, rX6_both, rX6_either, rX6_nextToken, rX6_isSign, rX6_step, rX6_isName]; omega, by show _ + _ ≤ _; simp only [rX6_part0, rX6_term, rX6_sum, rX6_test, rX6_both, rX6_either, rX6_nextToken, rX6_isSign, rX6_step, rX6_isName]; omega⟩ ⟨Nat.zero_le _, Nat.zero_le _⟩ hl.1 (Nat.le_of_ble_eq_true rfl) dX6_test_13 (fun r3 T4 H locs hw hB hS => ?_)
    refine lv_if_ne (tgt := 37) hx hb dX6_test_16 (by decide) (fun q => ?_) (fun q => ?_)
    · replace hw := hw.2 q
      exact bX6_test_37 F hP hB hS hw hl
    · replace hw := hw.1 q
      refine lv_aload_n hx hb dX6_test_19 rfl (lv_at hl 0 rfl) ?_
      refine lv_bipush (v := 61) hx hb dX6_test_20 (by decide) ?_
      refine kX6_X6_isSign F hB hS hw ⟨by show _ + 1 ≤ _; simp only [rX6_part0, rX6_term, rX6_sum, rX6_test, rX6_both, rX6_either, rX6_nextToken, rX6_isSign, rX6_step, rX6_isName]; omega, by show _ + _ ≤ _; simp only [rX6_part0, rX6_term, rX6_sum, rX6_test, rX6_both, rX6_either, rX6_nextToken, rX6_isSign, rX6_step, rX6_isName]; omega⟩ ⟨Nat.zero_le _, Nat.zero_le _⟩ hl.1 (Nat.le_of_ble_eq_true rfl) dX6_test_22 (fun r5 T6 H locs hw hB hS => ?_)
      refine lv_if_ne (tgt := 37) hx hb dX6_test_25 (by decide) (fun q => ?_) (fun q => ?_)
      · replace hw := hw.2 q
        exact bX6_test_37 F hP hB hS hw hl
      · replace hw := hw.1 q
        refine lv_aload_n hx hb dX6_test_28 rfl (lv_at hl 0 rfl) ?_
        refine lv_bipush (v := 62) hx hb dX6_test_29 (by decide) ?_
        refine kX6_X6_isSign F hB hS hw ⟨by show _ + 1 ≤ _; simp only [rX6_part0, rX6_term, rX6_sum, rX6_test, rX6_both, rX6_either, rX6_nextToken, rX6_isSign, rX6_step, rX6_isName]; omega, by show _ + _ ≤ _; simp only [rX6_part0, rX6_term, rX6_sum, rX6_test, rX6_both, rX6_either, rX6_nextToken, rX6_isSign, rX6_step, rX6_isName]; omega⟩ ⟨Nat.zero_le _, Nat.zero_le _⟩ hl.1 (Nat.le_of_ble_eq_true rfl) dX6_test_31 (fun r7 T8 H locs hw hB hS => ?_)
        refine lv_if_eq (tgt := 62) hx hb dX6_test_34 (by decide) (fun q => ?_) (fun q => ?_)
        · replace hw := hw.1 q
          refine lv_iconst (v := 1) hx hb dX6_test_62 (by decide) ?_
          exact W.zret hx hb F.1.r rfl (fun t ht hW => ⟨⟨_, _, rfl, hw, x_B (Bw := tB D A ad) ht hB⟩, hS.F ht⟩) hS.2.2 dX6_test_63 (hlocks := F.1.k)
        · replace hw := hw.2 q
          exact bX6_test_37 F hP hB hS hw hl
  · replace hw := hw.1 q
    refine lv_iconst (v := 0) hx hb dX6_test_8 (by decide) ?_
    exact W.zret hx hb F.1.r rfl (fun t ht hW => ⟨⟨_, _, rfl, hw, x_B (Bw := tB D A ad) ht hB⟩, hS.F ht⟩) hS.2.2 dX6_test_9 (hlocks := F.1.k)
set_option maxHeartbeats 4000000 in
theorem mX6_test {l : Launch} {D : DD} {A : Nat → Prop} {s0 : State} {ad : AD} {T : TS} {P : Int32 → TS → (Int32 → TS → Prop) → Prop} {d : Nat} (hP : ∀ (a1 : Int32) (T : TS) (Q : Int32 → TS → Prop), P a1 T Q → Met l yX6_part0 (ws_ yX6_part0 cX6_part0 2 (some .boolean)) (rX6_part0 d) (va_Pc [.ref (ad 0 0 0), .int a1] (fun U => tB D A ad T U.heap ∧ CX l D A s0 U)) (va_Qi Q (fun u t => tB D A ad u t.heap) A) 0 0 A) {a1 : Int32} {Q : Int32 → TS → Prop} (hw : wX6_test P a1 T Q) : Met l yX6_test (ws_ yX6_test cX6_test 3 (some .boolean)) (rX6_test d) (va_Pc [.ref (ad 0 0 0), .int a1] (fun U => tB D A ad T U.heap ∧ CX l D A s0 U)) (va_Qi Q (fun u t => tB D A ad u t.heap) A) 0 0 A := by
  refine Met.ofW (cc := cX6_test) (maxL := 3) (ret := some .boolean) (by decide) rfl ?_
  intro p e s m args below meth c s₁ B hml hv
  obtain ⟨rfl, hB, hC⟩ := hv
  have F : FX p l c cX6_test s _ m RX6 D A s0 3 meth (some .boolean) := ⟨mk_FP B hml rfl, hC⟩
  have hS : va_S A s.heap s.heap [] := va_S.rf
  have hl := lv_entry ([.ref (ad 0 0 0), .int a1]) (n := 3) (Nat.le_of_ble_eq_true rfl)
  rw [lg_entry_eq]
  generalize (lg_sl ([.ref (ad 0 0 0), .int a1]) ++ List.replicate (3 - (lg_sl ([.ref (ad 0 0 0), .int a1])).length) Slot.unset).toArray = ls at hl ⊢
  exact bX6_test_0 F hP hB hS hw hl
set_option maxHeartbeats 4000000 in
theorem bX6_both_10 {p : Program} {l : Launch} {e : Env} {s : State} {m : MethodId} {args : Array Value} {below : List Frame} {meth : Method} {c : Code} {D : DD} {A : Nat → Prop} {s0 : State} {ad : AD} {Q : Int32 → TS → Prop} (F : FX p l c cX6_both s args m RX6 D A s0 2 meth (some .boolean)) {P : Int32 → TS → (Int32 → TS → Prop) → Prop} {d : Nat} (hP : ∀ (a1 : Int32) (T : TS) (Q : Int32 → TS → Prop), P a1 T Q → Met l yX6_part0 (ws_ yX6_part0 cX6_part0 2 (some .boolean)) (rX6_part0 d) (va_Pc [.ref (ad 0 0 0), .int a1] (fun U => tB D A ad T U.heap ∧ CX l D A s0 U)) (va_Qi Q (fun u t => tB D A ad u t.heap) A) 0 0 A) : ∀ (n : Nat) (l1 : Int32) (T : TS), wX6_both_10 P Q n l1 T → ∀ (H : Heap) (locs : List Loc) (ls : Array Slot), tB D A ad T H → va_S A s.heap H locs → lv_has ls 2 [(0, .ref (ad 0 0 0)), (1, .int l1)] → W p l e (rX6_both d) s m args below meth c H locs 0 0 (MQ below (va_Qi Q (fun u t => tB D A ad u t.heap) A) args s 0 0 A) (F0 m 10 ls []) := by
  have hx := F.1.x
  have hb := F.1.b
  intro n
  induction n with
  | zero => intro l1 T hw; exact hw.elim
  | succ n ih =>
    intro l1 T hw H locs ls hB hS hl
    unfold wX6_both_10 at hw
    refine lv_aload_n hx hb dX6_both_10 rfl (lv_at hl 0 rfl) ?_
    refine lv_bipush (v := 38) hx hb dX6_both_11 (by decide) ?_
    refine kX6_X6_isSign F hB hS hw ⟨by show _ + 1 ≤ _; simp only [rX6_part0, rX6_term, rX6_sum, rX6_test, rX6_both, rX6_either, rX6_nextToken, rX6_isSign, rX6_step, rX6_isName]; omega, by show _ + _ ≤ _; simp only [rX6_part0, rX6_term, rX6_sum, rX6_test, rX6_both, rX6_either, rX6_nextToken, rX6_isSign, rX6_step, rX6_isName]; omega⟩ ⟨Nat.zero_le _, Nat.zero_le _⟩ hl.1 (Nat.le_of_ble_eq_true rfl) dX6_both_13 (fun r1 T2 H locs hw hB hS => ?_)
    refine lv_if_eq (tgt := 43) hx hb dX6_both_16 (by decide) (fun q => ?_) (fun q => ?_)
    · replace hw := hw.1 q
      refine lv_iconst (v := 1) hx hb dX6_both_43 (by decide) ?_
      exact W.zret hx hb F.1.r rfl (fun t ht hW => ⟨⟨_, _, rfl, hw, x_B (Bw := tB D A ad) ht hB⟩, hS.F ht⟩) hS.2.2 dX6_both_44 (hlocks := F.1.k)
    · replace hw := hw.2 q
      refine lv_aload_n hx hb dX6_both_19 rfl (lv_at hl 0 rfl) ?_
      refine kX6_X6_nextToken F hB hS hw ⟨by show _ + 1 ≤ _; simp only [rX6_part0, rX6_term, rX6_sum, rX6_test, rX6_both, rX6_either, rX6_nextToken, rX6_isSign, rX6_step, rX6_isName]; omega, by show _ + _ ≤ _; simp only [rX6_part0, rX6_term, rX6_sum, rX6_test, rX6_both, rX6_either, rX6_nextToken, rX6_isSign, rX6_step, rX6_isName]; omega⟩ ⟨Nat.zero_le _, Nat.zero_le _⟩ hl.1 (Nat.le_of_ble_eq_true rfl) dX6_both_20 (fun T4 H locs hw hB hS => ?_)
      refine lv_aload_n hx hb dX6_both_23 rfl (lv_at hl 0 rfl) ?_
      refine lv_iload_n hx hb dX6_both_24 rfl (lv_at hl 1 rfl) ?_
      refine kX6_X6_test F hB hS (mX6_test hP hw) ⟨rfl, rfl⟩ ⟨by show _ + 1 ≤ _; simp only [rX6_part0, rX6_term, rX6_sum, rX6_test, rX6_both, rX6_either, rX6_nextToken, rX6_isSign, rX6_step, rX6_isName]; omega, by show _ + _ ≤ _; simp only [rX6_part0, rX6_term, rX6_sum, rX6_test, rX6_both, rX6_either, rX6_nextToken, rX6_isSign, rX6_step, rX6_isName]; omega⟩ ⟨Nat.zero_le _, Nat.zero_le _⟩ hl.1 (Nat.le_of_ble_eq_true rfl) dX6_both_25 (fun r5 T6 H locs hw hB hS => ?_)
      refine lv_if_ne (tgt := 33) hx hb dX6_both_28 (by decide) (fun q => ?_) (fun q => ?_)
      · replace hw := hw.2 q
        refine lv_aload_n hx hb dX6_both_33 rfl (lv_at hl 0 rfl) ?_
        refine lv_iconst (v := 2) hx hb dX6_both_34 (by decide) ?_
        refine lv_bipush (v := 38) hx hb dX6_both_35 (by decide) ?_
        refine kX6_X6_step F hB hS hw ⟨by show _ + 1 ≤ _; simp only [rX6_part0, rX6_term, rX6_sum, rX6_test, rX6_both, rX6_either, rX6_nextToken, rX6_isSign, rX6_step, rX6_isName]; omega, by show _ + _ ≤ _; simp only [rX6_part0, rX6_term, rX6_sum, rX6_test, rX6_both, rX6_either, rX6_nextToken, rX6_isSign, rX6_step, rX6_isName]; omega⟩ ⟨Nat.zero_le _, Nat.zero_le _⟩ hl.1 (Nat.le_of_ble_eq_true rfl) dX6_both_37 (fun T8 H locs hw hB hS => ?_)
        refine lv_goto (tgt := 10) hx hb dX6_both_40 (by decide) ?_
        exact ih _ _ hw _ _ _ hB hS hl
      · replace hw := hw.1 q
        refine lv_iconst (v := 0) hx hb dX6_both_31 (by decide) ?_
        exact W.zret hx hb F.1.r rfl (fun t ht hW => ⟨⟨_, _, rfl, hw, x_B (Bw := tB D A ad) ht hB⟩, hS.F ht⟩) hS.2.2 dX6_both_32 (hlocks := F.1.k)
set_option maxHeartbeats 4000000 in
theorem bX6_both_0 {p : Program} {l : Launch} {e : Env} {s : State} {m : MethodId} {args : Array Value} {below : List Frame} {meth : Method} {c : Code} {D : DD} {A : Nat → Prop} {s0 : State} {ad : AD} {Q : Int32 → TS → Prop} {a1 : Int32} {T : TS} {H : Heap} {locs : List Loc} {ls : Array Slot} (F : FX p l c cX6_both s args m RX6 D A s0 2 meth (some .boolean)) {P : Int32 → TS → (Int32 → TS → Prop) → Prop} {d : Nat} (hP : ∀ (a1 : Int32) (T : TS) (Q : Int32 → TS → Prop), P a1 T Q → Met l yX6_part0 (ws_ yX6_part0 cX6_part0 2 (some .boolean)) (rX6_part0 d) (va_Pc [.ref (ad 0 0 0), .int a1] (fun U => tB D A ad T U.heap ∧ CX l D A s0 U)) (va_Qi Q (fun u t => tB D A ad u t.heap) A) 0 0 A) (hB : tB D A ad T H) (hS : va_S A s.heap H locs) (hw : wX6_both P a1 T Q) (hl : lv_has ls 2 [(0, .ref (ad 0 0 0)), (1, .int a1)]) : W p l e (rX6_both d) s m args below meth c H locs 0 0 (MQ below (va_Qi Q (fun u t => tB D A ad u t.heap) A) args s 0 0 A) (F0 m 0 ls []) := by
  have hx := F.1.x
  have hb := F.1.b
  unfold wX6_both at hw
  refine lv_aload_n hx hb dX6_both_0 rfl (lv_at hl 0 rfl) ?_
  refine lv_iload_n hx hb dX6_both_1 rfl (lv_at hl 1 rfl) ?_
  refine kX6_X6_test F hB hS (mX6_test hP hw) ⟨rfl, rfl⟩ ⟨by show _ + 1 ≤ _; simp only [rX6_part0, rX6_term, rX6_sum, rX6_test, rX6_both, rX6_either, rX6_nextToken, rX6_isSign, rX6_step, rX6_isName]; omega, by show _ + _ ≤ _; simp only [rX6_part0, rX6_term, rX6_sum, rX6_test, rX6_both, rX6_either, rX6_nextToken, rX6_isSign, rX6_step, rX6_isName]; omega⟩ ⟨Nat.zero_le _, Nat.zero_le _⟩ hl.1 (Nat.le_of_ble_eq_true rfl) dX6_both_2 (fun r1 T2 H locs hw hB hS => ?_)
  refine lv_if_ne (tgt := 10) hx hb dX6_both_5 (by decide) (fun q => ?_) (fun q => ?_)
  · replace hw := hw.2 q
    obtain ⟨f_10, hw⟩ := hw
    exact bX6_both_10 F hP f_10 _ _ hw _ _ _ hB hS hl
  · replace hw := hw.1 q
    refine lv_iconst (v := 0) hx hb dX6_both_8 (by decide) ?_
    exact W.zret hx hb F.1.r rfl (fun t ht hW => ⟨⟨_, _, rfl, hw, x_B (Bw := tB D A ad) ht hB⟩, hS.F ht⟩) hS.2.2 dX6_both_9 (hlocks := F.1.k)
set_option maxHeartbeats 4000000 in
theorem mX6_both {l : Launch} {D : DD} {A : Nat → Prop} {s0 : State} {ad : AD} {T : TS} {P : Int32 → TS → (Int32 → TS → Prop) → Prop} {d : Nat} (hP : ∀ (a1 : Int32) (T : TS) (Q : Int32 → TS → Prop), P a1 T Q → Met l yX6_part0 (ws_ yX6_part0 cX6_part0 2 (some .boolean)) (rX6_part0 d) (va_Pc [.ref (ad 0 0 0), .int a1] (fun U => tB D A ad T U.heap ∧ CX l D A s0 U)) (va_Qi Q (fun u t => tB D A ad u t.heap) A) 0 0 A) {a1 : Int32} {Q : Int32 → TS → Prop} (hw : wX6_both P a1 T Q) : Met l yX6_both (ws_ yX6_both cX6_both 2 (some .boolean)) (rX6_both d) (va_Pc [.ref (ad 0 0 0), .int a1] (fun U => tB D A ad T U.heap ∧ CX l D A s0 U)) (va_Qi Q (fun u t => tB D A ad u t.heap) A) 0 0 A := by
  refine Met.ofW (cc := cX6_both) (maxL := 2) (ret := some .boolean) (by decide) rfl ?_
  intro p e s m args below meth c s₁ B hml hv
  obtain ⟨rfl, hB, hC⟩ := hv
  have F : FX p l c cX6_both s _ m RX6 D A s0 2 meth (some .boolean) := ⟨mk_FP B hml rfl, hC⟩
  have hS : va_S A s.heap s.heap [] := va_S.rf
  have hl := lv_entry ([.ref (ad 0 0 0), .int a1]) (n := 2) (Nat.le_of_ble_eq_true rfl)
  rw [lg_entry_eq]
  generalize (lg_sl ([.ref (ad 0 0 0), .int a1]) ++ List.replicate (2 - (lg_sl ([.ref (ad 0 0 0), .int a1])).length) Slot.unset).toArray = ls at hl ⊢
  exact bX6_both_0 F hP hB hS hw hl
set_option maxHeartbeats 4000000 in
theorem bX6_either_10 {p : Program} {l : Launch} {e : Env} {s : State} {m : MethodId} {args : Array Value} {below : List Frame} {meth : Method} {c : Code} {D : DD} {A : Nat → Prop} {s0 : State} {ad : AD} {Q : Int32 → TS → Prop} (F : FX p l c cX6_either s args m RX6 D A s0 2 meth (some .boolean)) {P : Int32 → TS → (Int32 → TS → Prop) → Prop} {d : Nat} (hP : ∀ (a1 : Int32) (T : TS) (Q : Int32 → TS → Prop), P a1 T Q → Met l yX6_part0 (ws_ yX6_part0 cX6_part0 2 (some .boolean)) (rX6_part0 d) (va_Pc [.ref (ad 0 0 0), .int a1] (fun U => tB D A ad T U.heap ∧ CX l D A s0 U)) (va_Qi Q (fun u t => tB D A ad u t.heap) A) 0 0 A) : ∀ (n : Nat) (l1 : Int32) (T : TS), wX6_either_10 P Q n l1 T → ∀ (H : Heap) (locs : List Loc) (ls : Array Slot), tB D A ad T H → va_S A s.heap H locs → lv_has ls 2 [(0, .ref (ad 0 0 0)), (1, .int l1)] → W p l e (rX6_either d) s m args below meth c H locs 0 0 (MQ below (va_Qi Q (fun u t => tB D A ad u t.heap) A) args s 0 0 A) (F0 m 10 ls []) := by
  have hx := F.1.x
  have hb := F.1.b
  intro n
  induction n with
  | zero => intro l1 T hw; exact hw.elim
  | succ n ih =>
    intro l1 T hw H locs ls hB hS hl
    unfold wX6_either_10 at hw
    refine lv_aload_n hx hb dX6_either_10 rfl (lv_at hl 0 rfl) ?_
    refine lv_bipush (v := 124) hx hb dX6_either_11 (by decide) ?_
    refine kX6_X6_isSign F hB hS hw ⟨by show _ + 1 ≤ _; simp only [rX6_part0, rX6_term, rX6_sum, rX6_test, rX6_both, rX6_either, rX6_nextToken, rX6_isSign, rX6_step, rX6_isName]; omega, by show _ + _ ≤ _; simp only [rX6_part0, rX6_term, rX6_sum, rX6_test, rX6_both, rX6_either, rX6_nextToken, rX6_isSign, rX6_step, rX6_isName]; omega⟩ ⟨Nat.zero_le _, Nat.zero_le _⟩ hl.1 (Nat.le_of_ble_eq_true rfl) dX6_either_13 (fun r1 T2 H locs hw hB hS => ?_)
    refine lv_if_eq (tgt := 43) hx hb dX6_either_16 (by decide) (fun q => ?_) (fun q => ?_)
    · replace hw := hw.1 q
      refine lv_iconst (v := 1) hx hb dX6_either_43 (by decide) ?_
      exact W.zret hx hb F.1.r rfl (fun t ht hW => ⟨⟨_, _, rfl, hw, x_B (Bw := tB D A ad) ht hB⟩, hS.F ht⟩) hS.2.2 dX6_either_44 (hlocks := F.1.k)
    · replace hw := hw.2 q
      refine lv_aload_n hx hb dX6_either_19 rfl (lv_at hl 0 rfl) ?_
      refine kX6_X6_nextToken F hB hS hw ⟨by show _ + 1 ≤ _; simp only [rX6_part0, rX6_term, rX6_sum, rX6_test, rX6_both, rX6_either, rX6_nextToken, rX6_isSign, rX6_step, rX6_isName]; omega, by show _ + _ ≤ _; simp only [rX6_part0, rX6_term, rX6_sum, rX6_test, rX6_both, rX6_either, rX6_nextToken, rX6_isSign, rX6_step, rX6_isName]; omega⟩ ⟨Nat.zero_le _, Nat.zero_le _⟩ hl.1 (Nat.le_of_ble_eq_true rfl) dX6_either_20 (fun T4 H locs hw hB hS => ?_)
      refine lv_aload_n hx hb dX6_either_23 rfl (lv_at hl 0 rfl) ?_
      refine lv_iload_n hx hb dX6_either_24 rfl (lv_at hl 1 rfl) ?_
      refine kX6_X6_both F hB hS (mX6_both hP hw) ⟨rfl, rfl⟩ ⟨by show _ + 1 ≤ _; simp only [rX6_part0, rX6_term, rX6_sum, rX6_test, rX6_both, rX6_either, rX6_nextToken, rX6_isSign, rX6_step, rX6_isName]; omega, by show _ + _ ≤ _; simp only [rX6_part0, rX6_term, rX6_sum, rX6_test, rX6_both, rX6_either, rX6_nextToken, rX6_isSign, rX6_step, rX6_isName]; omega⟩ ⟨Nat.zero_le _, Nat.zero_le _⟩ hl.1 (Nat.le_of_ble_eq_true rfl) dX6_either_25 (fun r5 T6 H locs hw hB hS => ?_)
      refine lv_if_ne (tgt := 33) hx hb dX6_either_28 (by decide) (fun q => ?_) (fun q => ?_)
      · replace hw := hw.2 q
        refine lv_aload_n hx hb dX6_either_33 rfl (lv_at hl 0 rfl) ?_
        refine lv_iconst (v := 2) hx hb dX6_either_34 (by decide) ?_
        refine lv_bipush (v := 124) hx hb dX6_either_35 (by decide) ?_
        refine kX6_X6_step F hB hS hw ⟨by show _ + 1 ≤ _; simp only [rX6_part0, rX6_term, rX6_sum, rX6_test, rX6_both, rX6_either, rX6_nextToken, rX6_isSign, rX6_step, rX6_isName]; omega, by show _ + _ ≤ _; simp only [rX6_part0, rX6_term, rX6_sum, rX6_test, rX6_both, rX6_either, rX6_nextToken, rX6_isSign, rX6_step, rX6_isName]; omega⟩ ⟨Nat.zero_le _, Nat.zero_le _⟩ hl.1 (Nat.le_of_ble_eq_true rfl) dX6_either_37 (fun T8 H locs hw hB hS => ?_)
        refine lv_goto (tgt := 10) hx hb dX6_either_40 (by decide) ?_
        exact ih _ _ hw _ _ _ hB hS hl
      · replace hw := hw.1 q
        refine lv_iconst (v := 0) hx hb dX6_either_31 (by decide) ?_
        exact W.zret hx hb F.1.r rfl (fun t ht hW => ⟨⟨_, _, rfl, hw, x_B (Bw := tB D A ad) ht hB⟩, hS.F ht⟩) hS.2.2 dX6_either_32 (hlocks := F.1.k)
set_option maxHeartbeats 4000000 in
theorem bX6_either_0 {p : Program} {l : Launch} {e : Env} {s : State} {m : MethodId} {args : Array Value} {below : List Frame} {meth : Method} {c : Code} {D : DD} {A : Nat → Prop} {s0 : State} {ad : AD} {Q : Int32 → TS → Prop} {a1 : Int32} {T : TS} {H : Heap} {locs : List Loc} {ls : Array Slot} (F : FX p l c cX6_either s args m RX6 D A s0 2 meth (some .boolean)) {P : Int32 → TS → (Int32 → TS → Prop) → Prop} {d : Nat} (hP : ∀ (a1 : Int32) (T : TS) (Q : Int32 → TS → Prop), P a1 T Q → Met l yX6_part0 (ws_ yX6_part0 cX6_part0 2 (some .boolean)) (rX6_part0 d) (va_Pc [.ref (ad 0 0 0), .int a1] (fun U => tB D A ad T U.heap ∧ CX l D A s0 U)) (va_Qi Q (fun u t => tB D A ad u t.heap) A) 0 0 A) (hB : tB D A ad T H) (hS : va_S A s.heap H locs) (hw : wX6_either P a1 T Q) (hl : lv_has ls 2 [(0, .ref (ad 0 0 0)), (1, .int a1)]) : W p l e (rX6_either d) s m args below meth c H locs 0 0 (MQ below (va_Qi Q (fun u t => tB D A ad u t.heap) A) args s 0 0 A) (F0 m 0 ls []) := by
  have hx := F.1.x
  have hb := F.1.b
  unfold wX6_either at hw
  refine lv_aload_n hx hb dX6_either_0 rfl (lv_at hl 0 rfl) ?_
  refine lv_iload_n hx hb dX6_either_1 rfl (lv_at hl 1 rfl) ?_
  refine kX6_X6_both F hB hS (mX6_both hP hw) ⟨rfl, rfl⟩ ⟨by show _ + 1 ≤ _; simp only [rX6_part0, rX6_term, rX6_sum, rX6_test, rX6_both, rX6_either, rX6_nextToken, rX6_isSign, rX6_step, rX6_isName]; omega, by show _ + _ ≤ _; simp only [rX6_part0, rX6_term, rX6_sum, rX6_test, rX6_both, rX6_either, rX6_nextToken, rX6_isSign, rX6_step, rX6_isName]; omega⟩ ⟨Nat.zero_le _, Nat.zero_le _⟩ hl.1 (Nat.le_of_ble_eq_true rfl) dX6_either_2 (fun r1 T2 H locs hw hB hS => ?_)
  refine lv_if_ne (tgt := 10) hx hb dX6_either_5 (by decide) (fun q => ?_) (fun q => ?_)
  · replace hw := hw.2 q
    obtain ⟨f_10, hw⟩ := hw
    exact bX6_either_10 F hP f_10 _ _ hw _ _ _ hB hS hl
  · replace hw := hw.1 q
    refine lv_iconst (v := 0) hx hb dX6_either_8 (by decide) ?_
    exact W.zret hx hb F.1.r rfl (fun t ht hW => ⟨⟨_, _, rfl, hw, x_B (Bw := tB D A ad) ht hB⟩, hS.F ht⟩) hS.2.2 dX6_either_9 (hlocks := F.1.k)
set_option maxHeartbeats 4000000 in
theorem mX6_either {l : Launch} {D : DD} {A : Nat → Prop} {s0 : State} {ad : AD} {T : TS} {P : Int32 → TS → (Int32 → TS → Prop) → Prop} {d : Nat} (hP : ∀ (a1 : Int32) (T : TS) (Q : Int32 → TS → Prop), P a1 T Q → Met l yX6_part0 (ws_ yX6_part0 cX6_part0 2 (some .boolean)) (rX6_part0 d) (va_Pc [.ref (ad 0 0 0), .int a1] (fun U => tB D A ad T U.heap ∧ CX l D A s0 U)) (va_Qi Q (fun u t => tB D A ad u t.heap) A) 0 0 A) {a1 : Int32} {Q : Int32 → TS → Prop} (hw : wX6_either P a1 T Q) : Met l yX6_either (ws_ yX6_either cX6_either 2 (some .boolean)) (rX6_either d) (va_Pc [.ref (ad 0 0 0), .int a1] (fun U => tB D A ad T U.heap ∧ CX l D A s0 U)) (va_Qi Q (fun u t => tB D A ad u t.heap) A) 0 0 A := by
  refine Met.ofW (cc := cX6_either) (maxL := 2) (ret := some .boolean) (by decide) rfl ?_
  intro p e s m args below meth c s₁ B hml hv
  obtain ⟨rfl, hB, hC⟩ := hv
  have F : FX p l c cX6_either s _ m RX6 D A s0 2 meth (some .boolean) := ⟨mk_FP B hml rfl, hC⟩
  have hS : va_S A s.heap s.heap [] := va_S.rf
  have hl := lv_entry ([.ref (ad 0 0 0), .int a1]) (n := 2) (Nat.le_of_ble_eq_true rfl)
  rw [lg_entry_eq]
  generalize (lg_sl ([.ref (ad 0 0 0), .int a1]) ++ List.replicate (2 - (lg_sl ([.ref (ad 0 0 0), .int a1])).length) Slot.unset).toArray = ls at hl ⊢
  exact bX6_either_0 F hP hB hS hw hl
set_option maxHeartbeats 4000000 in
theorem bX6_part0B_145 {p : Program} {l : Launch} {e : Env} {s : State} {m : MethodId} {args : Array Value} {below : List Frame} {meth : Method} {c : Code} {D : DD} {A : Nat → Prop} {s0 : State} {ad : AD} {Q : Int32 → TS → Prop} {l1 : Int32} {T : TS} {H : Heap} {locs : List Loc} {ls : Array Slot} (F : FX p l c cX6_part0 s args m RX6 D A s0 2 meth (some .boolean)) {P : Int32 → TS → (Int32 → TS → Prop) → Prop} {d : Nat} (hP : ∀ (a1 : Int32) (T : TS) (Q : Int32 → TS → Prop), P a1 T Q → Met l yX6_part0 (ws_ yX6_part0 cX6_part0 2 (some .boolean)) (rX6_part0 d) (va_Pc [.ref (ad 0 0 0), .int a1] (fun U => tB D A ad T U.heap ∧ CX l D A s0 U)) (va_Qi Q (fun u t => tB D A ad u t.heap) A) 0 0 A) (hB : tB D A ad T H) (hS : va_S A s.heap H locs) (hw : wX6_part0B_145 P l1 T Q) (hl : lv_has ls 2 [(0, .ref (ad 0 0 0)), (1, .int l1)]) : W p l e (rX6_part0 (d + 1)) s m args below meth c H locs 0 0 (MQ below (va_Qi Q (fun u t => tB D A ad u t.heap) A) args s 0 0 A) (F0 m 145 ls []) := by
  have hx := F.1.x
  have hb := F.1.b
  unfold wX6_part0B_145 at hw
  refine lv_aload_n hx hb dX6_part0_145 rfl (lv_at hl 0 rfl) ?_
  refine lv_bipush (v := 40) hx hb dX6_part0_146 (by decide) ?_
  refine kX6_X6_isSign F hB hS hw ⟨by show _ + 1 ≤ _; simp only [rX6_part0, rX6_term, rX6_sum, rX6_test, rX6_both, rX6_either, rX6_nextToken, rX6_isSign, rX6_step, rX6_isName]; omega, by show _ + _ ≤ _; simp only [rX6_part0, rX6_term, rX6_sum, rX6_test, rX6_both, rX6_either, rX6_nextToken, rX6_isSign, rX6_step, rX6_isName]; omega⟩ ⟨Nat.zero_le _, Nat.zero_le _⟩ hl.1 (Nat.le_of_ble_eq_true rfl) dX6_part0_148 (fun r1 T2 H locs hw hB hS => ?_)
  refine lv_if_eq (tgt := 163) hx hb dX6_part0_151 (by decide) (fun q => ?_) (fun q => ?_)
  · replace hw := hw.1 q
    refine lv_iconst (v := 0) hx hb dX6_part0_163 (by decide) ?_
    exact W.zret hx hb F.1.r rfl (fun t ht hW => ⟨⟨_, _, rfl, hw, x_B (Bw := tB D A ad) ht hB⟩, hS.F ht⟩) hS.2.2 dX6_part0_164 (hlocks := F.1.k)
  · replace hw := hw.2 q
    refine lv_aload_n hx hb dX6_part0_154 rfl (lv_at hl 0 rfl) ?_
    refine tg_20 F hB dX6_part0_155 ?_
    refine lv_bipush (v := 8) hx hb dX6_part0_158 (by decide) ?_
    refine lv_icmp_ne (tgt := 165) hx hb dX6_part0_160 (by decide) (fun q => ?_) (fun q => ?_)
    · replace hw := hw.2 q
      refine lv_aload_n hx hb dX6_part0_165 rfl (lv_at hl 0 rfl) ?_
      refine lv_dup hx hb dX6_part0_166 rfl ?_
      refine tg_20 F hB dX6_part0_167 ?_
      refine lv_iconst (v := 1) hx hb dX6_part0_170 (by decide) ?_
      refine lv_iadd hx hb dX6_part0_171 ?_
      refine tp_20 F hB hS dX6_part0_172 (fun H locs hB hS => ?_)
      refine lv_aload_n hx hb dX6_part0_175 rfl (lv_at hl 0 rfl) ?_
      refine kX6_X6_nextToken F hB hS hw ⟨by show _ + 1 ≤ _; simp only [rX6_part0, rX6_term, rX6_sum, rX6_test, rX6_both, rX6_either, rX6_nextToken, rX6_isSign, rX6_step, rX6_isName]; omega, by show _ + _ ≤ _; simp only [rX6_part0, rX6_term, rX6_sum, rX6_test, rX6_both, rX6_either, rX6_nextToken, rX6_isSign, rX6_step, rX6_isName]; omega⟩ ⟨Nat.zero_le _, Nat.zero_le _⟩ hl.1 (Nat.le_of_ble_eq_true rfl) dX6_part0_176 (fun T4 H locs hw hB hS => ?_)
      refine lv_aload_n hx hb dX6_part0_179 rfl (lv_at hl 0 rfl) ?_
      refine lv_iload_n hx hb dX6_part0_180 rfl (lv_at hl 1 rfl) ?_
      refine kX6_X6_either F hB hS (mX6_either hP hw) ⟨rfl, rfl⟩ ⟨by show _ + 1 ≤ _; simp only [rX6_part0, rX6_term, rX6_sum, rX6_test, rX6_both, rX6_either, rX6_nextToken, rX6_isSign, rX6_step, rX6_isName]; omega, by show _ + _ ≤ _; simp only [rX6_part0, rX6_term, rX6_sum, rX6_test, rX6_both, rX6_either, rX6_nextToken, rX6_isSign, rX6_step, rX6_isName]; omega⟩ ⟨Nat.zero_le _, Nat.zero_le _⟩ hl.1 (Nat.le_of_ble_eq_true rfl) dX6_part0_181 (fun r5 T6 H locs hw hB hS => ?_)
      refine lv_if_eq (tgt := 196) hx hb dX6_part0_184 (by decide) (fun q => ?_) (fun q => ?_)
      · replace hw := hw.1 q
        refine lv_iconst (v := 0) hx hb dX6_part0_196 (by decide) ?_
        exact W.zret hx hb F.1.r rfl (fun t ht hW => ⟨⟨_, _, rfl, hw, x_B (Bw := tB D A ad) ht hB⟩, hS.F ht⟩) hS.2.2 dX6_part0_197 (hlocks := F.1.k)
      · replace hw := hw.2 q
        refine lv_aload_n hx hb dX6_part0_187 rfl (lv_at hl 0 rfl) ?_
        refine lv_bipush (v := 41) hx hb dX6_part0_188 (by decide) ?_
        refine kX6_X6_isSign F hB hS hw ⟨by show _ + 1 ≤ _; simp only [rX6_part0, rX6_term, rX6_sum, rX6_test, rX6_both, rX6_either, rX6_nextToken, rX6_isSign, rX6_step, rX6_isName]; omega, by show _ + _ ≤ _; simp only [rX6_part0, rX6_term, rX6_sum, rX6_test, rX6_both, rX6_either, rX6_nextToken, rX6_isSign, rX6_step, rX6_isName]; omega⟩ ⟨Nat.zero_le _, Nat.zero_le _⟩ hl.1 (Nat.le_of_ble_eq_true rfl) dX6_part0_190 (fun r7 T8 H locs hw hB hS => ?_)
        refine lv_if_ne (tgt := 198) hx hb dX6_part0_193 (by decide) (fun q => ?_) (fun q => ?_)
        · replace hw := hw.2 q
          refine lv_aload_n hx hb dX6_part0_198 rfl (lv_at hl 0 rfl) ?_
          refine lv_dup hx hb dX6_part0_199 rfl ?_
          refine tg_20 F hB dX6_part0_200 ?_
          refine lv_iconst (v := 1) hx hb dX6_part0_203 (by decide) ?_
          refine lv_isub hx hb dX6_part0_204 ?_
          refine tp_20 F hB hS dX6_part0_205 (fun H locs hB hS => ?_)
          refine lv_aload_n hx hb dX6_part0_208 rfl (lv_at hl 0 rfl) ?_
          refine kX6_X6_nextToken F hB hS hw ⟨by show _ + 1 ≤ _; simp only [rX6_part0, rX6_term, rX6_sum, rX6_test, rX6_both, rX6_either, rX6_nextToken, rX6_isSign, rX6_step, rX6_isName]; omega, by show _ + _ ≤ _; simp only [rX6_part0, rX6_term, rX6_sum, rX6_test, rX6_both, rX6_either, rX6_nextToken, rX6_isSign, rX6_step, rX6_isName]; omega⟩ ⟨Nat.zero_le _, Nat.zero_le _⟩ hl.1 (Nat.le_of_ble_eq_true rfl) dX6_part0_209 (fun T10 H locs hw hB hS => ?_)
          refine lv_iconst (v := 1) hx hb dX6_part0_212 (by decide) ?_
          exact W.zret hx hb F.1.r rfl (fun t ht hW => ⟨⟨_, _, rfl, hw, x_B (Bw := tB D A ad) ht hB⟩, hS.F ht⟩) hS.2.2 dX6_part0_213 (hlocks := F.1.k)
        · replace hw := hw.1 q
          refine lv_iconst (v := 0) hx hb dX6_part0_196 (by decide) ?_
          exact W.zret hx hb F.1.r rfl (fun t ht hW => ⟨⟨_, _, rfl, hw, x_B (Bw := tB D A ad) ht hB⟩, hS.F ht⟩) hS.2.2 dX6_part0_197 (hlocks := F.1.k)
    · replace hw := hw.1 q
      refine lv_iconst (v := 0) hx hb dX6_part0_163 (by decide) ?_
      exact W.zret hx hb F.1.r rfl (fun t ht hW => ⟨⟨_, _, rfl, hw, x_B (Bw := tB D A ad) ht hB⟩, hS.F ht⟩) hS.2.2 dX6_part0_164 (hlocks := F.1.k)
set_option maxHeartbeats 4000000 in
theorem bX6_part0B_84 {p : Program} {l : Launch} {e : Env} {s : State} {m : MethodId} {args : Array Value} {below : List Frame} {meth : Method} {c : Code} {D : DD} {A : Nat → Prop} {s0 : State} {ad : AD} {Q : Int32 → TS → Prop} {l1 : Int32} {T : TS} {H : Heap} {locs : List Loc} {ls : Array Slot} (F : FX p l c cX6_part0 s args m RX6 D A s0 2 meth (some .boolean)) {P : Int32 → TS → (Int32 → TS → Prop) → Prop} {d : Nat} (hP : ∀ (a1 : Int32) (T : TS) (Q : Int32 → TS → Prop), P a1 T Q → Met l yX6_part0 (ws_ yX6_part0 cX6_part0 2 (some .boolean)) (rX6_part0 d) (va_Pc [.ref (ad 0 0 0), .int a1] (fun U => tB D A ad T U.heap ∧ CX l D A s0 U)) (va_Qi Q (fun u t => tB D A ad u t.heap) A) 0 0 A) (hB : tB D A ad T H) (hS : va_S A s.heap H locs) (hw : wX6_part0B_84 P l1 T Q) (hl : lv_has ls 2 [(0, .ref (ad 0 0 0)), (1, .int l1)]) : W p l e (rX6_part0 (d + 1)) s m args below meth c H locs 0 0 (MQ below (va_Qi Q (fun u t => tB D A ad u t.heap) A) args s 0 0 A) (F0 m 84 ls []) := by
  have hx := F.1.x
  have hb := F.1.b
  unfold wX6_part0B_84 at hw
  refine lv_aload_n hx hb dX6_part0_84 rfl (lv_at hl 0 rfl) ?_
  refine lv_bipush (v := 33) hx hb dX6_part0_85 (by decide) ?_
  refine kX6_X6_isSign F hB hS hw ⟨by show _ + 1 ≤ _; simp only [rX6_part0, rX6_term, rX6_sum, rX6_test, rX6_both, rX6_either, rX6_nextToken, rX6_isSign, rX6_step, rX6_isName]; omega, by show _ + _ ≤ _; simp only [rX6_part0, rX6_term, rX6_sum, rX6_test, rX6_both, rX6_either, rX6_nextToken, rX6_isSign, rX6_step, rX6_isName]; omega⟩ ⟨Nat.zero_le _, Nat.zero_le _⟩ hl.1 (Nat.le_of_ble_eq_true rfl) dX6_part0_87 (fun r1 T2 H locs hw hB hS => ?_)
  refine lv_if_eq (tgt := 145) hx hb dX6_part0_90 (by decide) (fun q => ?_) (fun q => ?_)
  · replace hw := hw.1 q
    exact bX6_part0B_145 F hP hB hS hw hl
  · replace hw := hw.2 q
    refine lv_aload_n hx hb dX6_part0_93 rfl (lv_at hl 0 rfl) ?_
    refine tg_21 F hB dX6_part0_94 ?_
    refine lv_bipush (v := 8) hx hb dX6_part0_97 (by decide) ?_
    refine lv_icmp_ge (tgt := 145) hx hb dX6_part0_99 (by decide) (fun q => ?_) (fun q => ?_)
    · replace hw := hw.1 q
      exact bX6_part0B_145 F hP hB hS hw hl
    · replace hw := hw.2 q
      refine lv_aload_n hx hb dX6_part0_102 rfl (lv_at hl 0 rfl) ?_
      refine lv_dup hx hb dX6_part0_103 rfl ?_
      refine tg_21 F hB dX6_part0_104 ?_
      refine lv_iconst (v := 1) hx hb dX6_part0_107 (by decide) ?_
      refine lv_iadd hx hb dX6_part0_108 ?_
      refine tp_21 F hB hS dX6_part0_109 (fun H locs hB hS => ?_)
      refine lv_aload_n hx hb dX6_part0_112 rfl (lv_at hl 0 rfl) ?_
      refine kX6_X6_nextToken F hB hS hw ⟨by show _ + 1 ≤ _; simp only [rX6_part0, rX6_term, rX6_sum, rX6_test, rX6_both, rX6_either, rX6_nextToken, rX6_isSign, rX6_step, rX6_isName]; omega, by show _ + _ ≤ _; simp only [rX6_part0, rX6_term, rX6_sum, rX6_test, rX6_both, rX6_either, rX6_nextToken, rX6_isSign, rX6_step, rX6_isName]; omega⟩ ⟨Nat.zero_le _, Nat.zero_le _⟩ hl.1 (Nat.le_of_ble_eq_true rfl) dX6_part0_113 (fun T4 H locs hw hB hS => ?_)
      refine lv_aload_n hx hb dX6_part0_116 rfl (lv_at hl 0 rfl) ?_
      refine lv_iload_n hx hb dX6_part0_117 rfl (lv_at hl 1 rfl) ?_
      refine kX6_X6_part0B F hB hS (hP _ _ _ hw) ⟨rfl, rfl⟩ ⟨by show _ + 1 ≤ _; simp only [rX6_part0, rX6_term, rX6_sum, rX6_test, rX6_both, rX6_either, rX6_nextToken, rX6_isSign, rX6_step, rX6_isName]; omega, by show _ + _ ≤ _; simp only [rX6_part0, rX6_term, rX6_sum, rX6_test, rX6_both, rX6_either, rX6_nextToken, rX6_isSign, rX6_step, rX6_isName]; omega⟩ ⟨Nat.zero_le _, Nat.zero_le _⟩ hl.1 (Nat.le_of_ble_eq_true rfl) dX6_part0_118 (fun r5 T6 H locs hw hB hS => ?_)
      refine lv_if_ne (tgt := 126) hx hb dX6_part0_121 (by decide) (fun q => ?_) (fun q => ?_)
      · replace hw := hw.2 q
        refine lv_aload_n hx hb dX6_part0_126 rfl (lv_at hl 0 rfl) ?_
        refine lv_dup hx hb dX6_part0_127 rfl ?_
        refine tg_21 F hB dX6_part0_128 ?_
        refine lv_iconst (v := 1) hx hb dX6_part0_131 (by decide) ?_
        refine lv_isub hx hb dX6_part0_132 ?_
        refine tp_21 F hB hS dX6_part0_133 (fun H locs hB hS => ?_)
        refine lv_aload_n hx hb dX6_part0_136 rfl (lv_at hl 0 rfl) ?_
        refine lv_iconst (v := 2) hx hb dX6_part0_137 (by decide) ?_
        refine lv_bipush (v := 33) hx hb dX6_part0_138 (by decide) ?_
        refine kX6_X6_step F hB hS hw ⟨by show _ + 1 ≤ _; simp only [rX6_part0, rX6_term, rX6_sum, rX6_test, rX6_both, rX6_either, rX6_nextToken, rX6_isSign, rX6_step, rX6_isName]; omega, by show _ + _ ≤ _; simp only [rX6_part0, rX6_term, rX6_sum, rX6_test, rX6_both, rX6_either, rX6_nextToken, rX6_isSign, rX6_step, rX6_isName]; omega⟩ ⟨Nat.zero_le _, Nat.zero_le _⟩ hl.1 (Nat.le_of_ble_eq_true rfl) dX6_part0_140 (fun T8 H locs hw hB hS => ?_)
        refine lv_iconst (v := 1) hx hb dX6_part0_143 (by decide) ?_
        exact W.zret hx hb F.1.r rfl (fun t ht hW => ⟨⟨_, _, rfl, hw, x_B (Bw := tB D A ad) ht hB⟩, hS.F ht⟩) hS.2.2 dX6_part0_144 (hlocks := F.1.k)
      · replace hw := hw.1 q
        refine lv_iconst (v := 0) hx hb dX6_part0_124 (by decide) ?_
        exact W.zret hx hb F.1.r rfl (fun t ht hW => ⟨⟨_, _, rfl, hw, x_B (Bw := tB D A ad) ht hB⟩, hS.F ht⟩) hS.2.2 dX6_part0_125 (hlocks := F.1.k)
set_option maxHeartbeats 4000000 in
theorem bX6_part0B_0 {p : Program} {l : Launch} {e : Env} {s : State} {m : MethodId} {args : Array Value} {below : List Frame} {meth : Method} {c : Code} {D : DD} {A : Nat → Prop} {s0 : State} {ad : AD} {Q : Int32 → TS → Prop} {a1 : Int32} {T : TS} {H : Heap} {locs : List Loc} {ls : Array Slot} (F : FX p l c cX6_part0 s args m RX6 D A s0 2 meth (some .boolean)) {P : Int32 → TS → (Int32 → TS → Prop) → Prop} {d : Nat} (hP : ∀ (a1 : Int32) (T : TS) (Q : Int32 → TS → Prop), P a1 T Q → Met l yX6_part0 (ws_ yX6_part0 cX6_part0 2 (some .boolean)) (rX6_part0 d) (va_Pc [.ref (ad 0 0 0), .int a1] (fun U => tB D A ad T U.heap ∧ CX l D A s0 U)) (va_Qi Q (fun u t => tB D A ad u t.heap) A) 0 0 A) (hB : tB D A ad T H) (hS : va_S A s.heap H locs) (hw : wX6_part0B P a1 T Q) (hl : lv_has ls 2 [(0, .ref (ad 0 0 0)), (1, .int a1)]) : W p l e (rX6_part0 (d + 1)) s m args below meth c H locs 0 0 (MQ below (va_Qi Q (fun u t => tB D A ad u t.heap) A) args s 0 0 A) (F0 m 0 ls []) := by
  have hx := F.1.x
  have hb := F.1.b
  unfold wX6_part0B at hw
  refine lv_aload_n hx hb dX6_part0_0 rfl (lv_at hl 0 rfl) ?_
  refine tg_17 F hB dX6_part0_1 ?_
  refine lv_iconst (v := 2) hx hb dX6_part0_4 (by decide) ?_
  refine lv_icmp_ne (tgt := 33) hx hb dX6_part0_5 (by decide) (fun q => ?_) (fun q => ?_)
  · replace hw := hw.2 q
    refine lv_aload_n hx hb dX6_part0_33 rfl (lv_at hl 0 rfl) ?_
    refine tg_17 F hB dX6_part0_34 ?_
    refine lv_iconst (v := 1) hx hb dX6_part0_37 (by decide) ?_
    refine lv_icmp_ne (tgt := 84) hx hb dX6_part0_38 (by decide) (fun q => ?_) (fun q => ?_)
    · replace hw := hw.2 q
      exact bX6_part0B_84 F hP hB hS hw hl
    · replace hw := hw.1 q
      refine lv_aload_n hx hb dX6_part0_41 rfl (lv_at hl 0 rfl) ?_
      refine tg_19 F hB dX6_part0_42 ?_
      refine lv_if_eq (tgt := 84) hx hb dX6_part0_45 (by decide) (fun q => ?_) (fun q => ?_)
      · replace hw := hw.1 q
        exact bX6_part0B_84 F hP hB hS hw hl
      · replace hw := hw.2 q
        refine lv_iload_n hx hb dX6_part0_48 rfl (lv_at hl 1 rfl) ?_
        refine lv_aload_n hx hb dX6_part0_49 rfl (lv_at hl 0 rfl) ?_
        refine tg_19 F hB dX6_part0_50 ?_
        refine kX6_X6_isName F.1 hw ⟨by show _ + 1 ≤ _; simp only [rX6_part0, rX6_term, rX6_sum, rX6_test, rX6_both, rX6_either, rX6_nextToken, rX6_isSign, rX6_step, rX6_isName]; omega, by show _ + _ ≤ _; simp only [rX6_part0, rX6_term, rX6_sum, rX6_test, rX6_both, rX6_either, rX6_nextToken, rX6_isSign, rX6_step, rX6_isName]; omega⟩ ⟨Nat.zero_le _, Nat.zero_le _⟩ hl.1 (Nat.le_of_ble_eq_true rfl) dX6_part0_53 (fun r1 hw => ?_)
        refine lv_if_eq (tgt := 84) hx hb dX6_part0_56 (by decide) (fun q => ?_) (fun q => ?_)
        · replace hw := hw.1 q
          exact bX6_part0B_84 F hP hB hS hw hl
        · replace hw := hw.2 q
          refine lv_aload_n hx hb dX6_part0_59 rfl (lv_at hl 0 rfl) ?_
          refine lv_iconst (v := 1) hx hb dX6_part0_60 (by decide) ?_
          refine lv_aload_n hx hb dX6_part0_61 rfl (lv_at hl 0 rfl) ?_
          refine tg_19 F hB dX6_part0_62 ?_
          refine kX6_X6_step F hB hS hw ⟨by show _ + 1 ≤ _; simp only [rX6_part0, rX6_term, rX6_sum, rX6_test, rX6_both, rX6_either, rX6_nextToken, rX6_isSign, rX6_step, rX6_isName]; omega, by show _ + _ ≤ _; simp only [rX6_part0, rX6_term, rX6_sum, rX6_test, rX6_both, rX6_either, rX6_nextToken, rX6_isSign, rX6_step, rX6_isName]; omega⟩ ⟨Nat.zero_le _, Nat.zero_le _⟩ hl.1 (Nat.le_of_ble_eq_true rfl) dX6_part0_65 (fun T3 H locs hw hB hS => ?_)
          refine lv_aload_n hx hb dX6_part0_68 rfl (lv_at hl 0 rfl) ?_
          refine lv_dup hx hb dX6_part0_69 rfl ?_
          refine tg_24 F hB dX6_part0_70 ?_
          refine lv_iconst (v := 1) hx hb dX6_part0_73 (by decide) ?_
          refine lv_iadd hx hb dX6_part0_74 ?_
          refine tp_24 F hB hS dX6_part0_75 (fun H locs hB hS => ?_)
          refine lv_aload_n hx hb dX6_part0_78 rfl (lv_at hl 0 rfl) ?_
          refine kX6_X6_nextToken F hB hS hw ⟨by show _ + 1 ≤ _; simp only [rX6_part0, rX6_term, rX6_sum, rX6_test, rX6_both, rX6_either, rX6_nextToken, rX6_isSign, rX6_step, rX6_isName]; omega, by show _ + _ ≤ _; simp only [rX6_part0, rX6_term, rX6_sum, rX6_test, rX6_both, rX6_either, rX6_nextToken, rX6_isSign, rX6_step, rX6_isName]; omega⟩ ⟨Nat.zero_le _, Nat.zero_le _⟩ hl.1 (Nat.le_of_ble_eq_true rfl) dX6_part0_79 (fun T5 H locs hw hB hS => ?_)
          refine lv_iconst (v := 1) hx hb dX6_part0_82 (by decide) ?_
          exact W.zret hx hb F.1.r rfl (fun t ht hW => ⟨⟨_, _, rfl, hw, x_B (Bw := tB D A ad) ht hB⟩, hS.F ht⟩) hS.2.2 dX6_part0_83 (hlocks := F.1.k)
  · replace hw := hw.1 q
    refine lv_aload_n hx hb dX6_part0_8 rfl (lv_at hl 0 rfl) ?_
    refine lv_iconst (v := 0) hx hb dX6_part0_9 (by decide) ?_
    refine lv_aload_n hx hb dX6_part0_10 rfl (lv_at hl 0 rfl) ?_
    refine tg_18 F hB dX6_part0_11 ?_
    refine kX6_X6_step F hB hS hw ⟨by show _ + 1 ≤ _; simp only [rX6_part0, rX6_term, rX6_sum, rX6_test, rX6_both, rX6_either, rX6_nextToken, rX6_isSign, rX6_step, rX6_isName]; omega, by show _ + _ ≤ _; simp only [rX6_part0, rX6_term, rX6_sum, rX6_test, rX6_both, rX6_either, rX6_nextToken, rX6_isSign, rX6_step, rX6_isName]; omega⟩ ⟨Nat.zero_le _, Nat.zero_le _⟩ hl.1 (Nat.le_of_ble_eq_true rfl) dX6_part0_14 (fun T7 H locs hw hB hS => ?_)
    refine lv_aload_n hx hb dX6_part0_17 rfl (lv_at hl 0 rfl) ?_
    refine lv_dup hx hb dX6_part0_18 rfl ?_
    refine tg_24 F hB dX6_part0_19 ?_
    refine lv_iconst (v := 1) hx hb dX6_part0_22 (by decide) ?_
    refine lv_iadd hx hb dX6_part0_23 ?_
    refine tp_24 F hB hS dX6_part0_24 (fun H locs hB hS => ?_)
    refine lv_aload_n hx hb dX6_part0_27 rfl (lv_at hl 0 rfl) ?_
    refine kX6_X6_nextToken F hB hS hw ⟨by show _ + 1 ≤ _; simp only [rX6_part0, rX6_term, rX6_sum, rX6_test, rX6_both, rX6_either, rX6_nextToken, rX6_isSign, rX6_step, rX6_isName]; omega, by show _ + _ ≤ _; simp only [rX6_part0, rX6_term, rX6_sum, rX6_test, rX6_both, rX6_either, rX6_nextToken, rX6_isSign, rX6_step, rX6_isName]; omega⟩ ⟨Nat.zero_le _, Nat.zero_le _⟩ hl.1 (Nat.le_of_ble_eq_true rfl) dX6_part0_28 (fun T9 H locs hw hB hS => ?_)
    refine lv_iconst (v := 1) hx hb dX6_part0_31 (by decide) ?_
    exact W.zret hx hb F.1.r rfl (fun t ht hW => ⟨⟨_, _, rfl, hw, x_B (Bw := tB D A ad) ht hB⟩, hS.F ht⟩) hS.2.2 dX6_part0_32 (hlocks := F.1.k)
set_option maxHeartbeats 4000000 in
theorem mX6_part0B {l : Launch} {D : DD} {A : Nat → Prop} {s0 : State} {ad : AD} {T : TS} {P : Int32 → TS → (Int32 → TS → Prop) → Prop} {d : Nat} (hP : ∀ (a1 : Int32) (T : TS) (Q : Int32 → TS → Prop), P a1 T Q → Met l yX6_part0 (ws_ yX6_part0 cX6_part0 2 (some .boolean)) (rX6_part0 d) (va_Pc [.ref (ad 0 0 0), .int a1] (fun U => tB D A ad T U.heap ∧ CX l D A s0 U)) (va_Qi Q (fun u t => tB D A ad u t.heap) A) 0 0 A) {a1 : Int32} {Q : Int32 → TS → Prop} (hw : wX6_part0B P a1 T Q) : Met l yX6_part0 (ws_ yX6_part0 cX6_part0 2 (some .boolean)) (rX6_part0 (d + 1)) (va_Pc [.ref (ad 0 0 0), .int a1] (fun U => tB D A ad T U.heap ∧ CX l D A s0 U)) (va_Qi Q (fun u t => tB D A ad u t.heap) A) 0 0 A := by
  refine Met.ofW (cc := cX6_part0) (maxL := 2) (ret := some .boolean) (by decide) rfl ?_
  intro p e s m args below meth c s₁ B hml hv
  obtain ⟨rfl, hB, hC⟩ := hv
  have F : FX p l c cX6_part0 s _ m RX6 D A s0 2 meth (some .boolean) := ⟨mk_FP B hml rfl, hC⟩
  have hS : va_S A s.heap s.heap [] := va_S.rf
  have hl := lv_entry ([.ref (ad 0 0 0), .int a1]) (n := 2) (Nat.le_of_ble_eq_true rfl)
  rw [lg_entry_eq]
  generalize (lg_sl ([.ref (ad 0 0 0), .int a1]) ++ List.replicate (2 - (lg_sl ([.ref (ad 0 0 0), .int a1])).length) Slot.unset).toArray = ls at hl ⊢
  exact bX6_part0B_0 F hP hB hS hw hl
theorem mX6_part0 {l : Launch} {D : DD} {A : Nat → Prop} {s0 : State} {ad : AD} : ∀ (d : Nat), ∀ (a1 : Int32) (T : TS) (Q : Int32 → TS → Prop), wX6_part0 d a1 T Q → Met l yX6_part0 (ws_ yX6_part0 cX6_part0 2 (some .boolean)) (rX6_part0 d) (va_Pc [.ref (ad 0 0 0), .int a1] (fun U => tB D A ad T U.heap ∧ CX l D A s0 U)) (va_Qi Q (fun u t => tB D A ad u t.heap) A) 0 0 A := by
  intro d
  induction d with
  | zero => intro a1 T Q hw; exact hw.elim
  | succ d ih => intro a1 T Q hw; unfold wX6_part0 at hw; exact mX6_part0B (P := fun a T Q => wX6_part0 d a T Q) (d := d) ih hw
def rX6_eitherC : Room := { frames := 173, cells := 0, slots := 0, locals := 6425 }
theorem mX6_eitherC {l : Launch} {D : DD} {A : Nat → Prop} {s0 : State} {ad : AD} {T : TS} {a1 : Int32} {Q : Int32 → TS → Prop} (hw : wX6_eitherC a1 T Q) : Met l yX6_either (ws_ yX6_either cX6_either 2 (some .boolean)) rX6_eitherC (va_Pc [.ref (ad 0 0 0), .int a1] (fun U => tB D A ad T U.heap ∧ CX l D A s0 U)) (va_Qi Q (fun u t => tB D A ad u t.heap) A) 0 0 A := mX6_either (d := 20) (mX6_part0 20) hw
theorem kX6_X6_eitherC {p : Program} {l : Launch} {e : Env} {R : Room} {s : State} {m : MethodId} {args : Array Value} {below : List Frame} {meth : Method} {c : Code} {H : Heap} {locs : List Loc} {cells slots : Nat} {Q0 : State → Prop} {cc : ByteArray} {pc nL : Nat} {ls : Array Slot} {rest : List Value} {ret : Option FieldType} {D : DD} {A : Nat → Prop} {s0 : State} {ad : AD} {T : TS} {a1 : Int32} {Q : Int32 → TS → Prop} (F : FX p l c cc s args m RX6 D A s0 nL meth ret) (hB : tB D A ad T H) (hS : va_S A s.heap H locs) (hw : wX6_eitherC a1 T Q) (hR : rX6_eitherC.frames + 1 ≤ R.frames ∧ 8 + (2 + 11) + rX6_eitherC.locals ≤ R.locals) (hc : cells + 0 ≤ R.cells ∧ slots + 0 ≤ R.slots) (hsz : ls.size = nL) (hW : (rest.map fun v => v.category).sum ≤ 8) (hdg : decode cc pc = .ok (.invokevirtual 269, 3)) (kk : ∀ (r : Int32) (u : TS) (H1 : Heap) (locs1 : List Loc), Q r u → tB D A ad u H1 → va_S A s.heap H1 locs1 → W p l e R s m args below meth c H1 locs1 cells slots Q0 (F0 m (pc + 3) ls (.int r :: rest))) : W p l e R s m args below meth c H locs cells slots Q0 (F0 m pc ls (.int a1 :: .ref (ad 0 0 0) :: rest)) :=
  k_i (Bw := tB D A ad) (k_runV (Bw := tB D A ad) (n := 1) (As := [.int a1]) F hB hS (t_recv F hB) (mX6_eitherC hw) q1587 q1589 qs71 q92 q1590 (by decide +kernel) hR ⟨rfl, rfl⟩ hc rfl hsz rfl hW hdg) hS kk
def rX6_parse : Room := { frames := 174, cells := 0, slots := 0, locals := 6446 }
set_option maxHeartbeats 4000000 in
theorem bX6_parse_111 {p : Program} {l : Launch} {e : Env} {s : State} {m : MethodId} {args : Array Value} {below : List Frame} {meth : Method} {c : Code} {D : DD} {A : Nat → Prop} {s0 : State} {ad : AD} {Q : Int32 → TS → Prop} {l1 : Int32} {l2 : Int32} {T : TS} {H : Heap} {locs : List Loc} {ls : Array Slot} (F : FX p l c cX6_parse s args m RX6 D A s0 3 meth (some .int)) (hB : tB D A ad T H) (hS : va_S A s.heap H locs) (hw : wX6_parse_111 l1 l2 T Q) (hl : lv_has ls 3 [(0, .ref (ad 0 0 0)), (1, .int l1), (2, .int l2)]) : W p l e rX6_parse s m args below meth c H locs 0 0 (MQ below (va_Qi Q (fun u t => tB D A ad u t.heap) A) args s 0 0 A) (F0 m 111 ls []) := by
  have hx := F.1.x
  have hb := F.1.b
  unfold wX6_parse_111 at hw
  refine lv_aload_n hx hb dX6_parse_111 rfl (lv_at hl 0 rfl) ?_
  refine lv_iconst (v := 0) hx hb dX6_parse_112 (by decide) ?_
  refine tp_14 F hB hS dX6_parse_113 (fun H locs hB hS => ?_)
  refine lv_iload_n hx hb dX6_parse_116 rfl (lv_at hl 2 rfl) ?_
  refine lv_if_eq (tgt := 124) hx hb dX6_parse_117 (by decide) (fun q => ?_) (fun q => ?_)
  · replace hw := hw.1 q
    refine lv_iconst (v := -1) hx hb dX6_parse_124 (by decide) ?_
    exact W.iret hx hb F.1.r (fun t ht hW => ⟨⟨_, _, rfl, hw, x_B (Bw := tB D A ad) ht hB⟩, hS.F ht⟩) hS.2.2 dX6_parse_125 (hlocks := F.1.k)
  · replace hw := hw.2 q
    refine lv_iload_n hx hb dX6_parse_120 rfl (lv_at hl 1 rfl) ?_
    refine lv_goto (tgt := 125) hx hb dX6_parse_121 (by decide) ?_
    exact W.iret hx hb F.1.r (fun t ht hW => ⟨⟨_, _, rfl, hw, x_B (Bw := tB D A ad) ht hB⟩, hS.F ht⟩) hS.2.2 dX6_parse_125 (hlocks := F.1.k)
set_option maxHeartbeats 4000000 in
theorem bX6_parse_110 {p : Program} {l : Launch} {e : Env} {s : State} {m : MethodId} {args : Array Value} {below : List Frame} {meth : Method} {c : Code} {D : DD} {A : Nat → Prop} {s0 : State} {ad : AD} {Q : Int32 → TS → Prop} {l1 : Int32} {k0 : Int32} {T : TS} {H : Heap} {locs : List Loc} {ls : Array Slot} (F : FX p l c cX6_parse s args m RX6 D A s0 3 meth (some .int)) (hB : tB D A ad T H) (hS : va_S A s.heap H locs) (hw : wX6_parse_110 l1 k0 T Q) (hl : lv_has ls 3 [(0, .ref (ad 0 0 0)), (1, .int l1)]) : W p l e rX6_parse s m args below meth c H locs 0 0 (MQ below (va_Qi Q (fun u t => tB D A ad u t.heap) A) args s 0 0 A) (F0 m 110 ls [.int k0]) := by
  have hx := F.1.x
  have hb := F.1.b
  unfold wX6_parse_110 at hw
  refine lv_istore_n (lv' := [(2, .int k0), (0, .ref (ad 0 0 0)), (1, .int l1)]) hx hb dX6_parse_110 rfl hl (by decide) rfl (fun ls hl => ?_)
  exact bX6_parse_111 F hB hS hw (lv_sub hl [1, 2, 0] rfl)
set_option maxHeartbeats 4000000 in
theorem bX6_parse_109 {p : Program} {l : Launch} {e : Env} {s : State} {m : MethodId} {args : Array Value} {below : List Frame} {meth : Method} {c : Code} {D : DD} {A : Nat → Prop} {s0 : State} {ad : AD} {Q : Int32 → TS → Prop} {l1 : Int32} {T : TS} {H : Heap} {locs : List Loc} {ls : Array Slot} (F : FX p l c cX6_parse s args m RX6 D A s0 3 meth (some .int)) (hB : tB D A ad T H) (hS : va_S A s.heap H locs) (hw : wX6_parse_109 l1 T Q) (hl : lv_has ls 3 [(0, .ref (ad 0 0 0)), (1, .int l1)]) : W p l e rX6_parse s m args below meth c H locs 0 0 (MQ below (va_Qi Q (fun u t => tB D A ad u t.heap) A) args s 0 0 A) (F0 m 109 ls []) := by
  have hx := F.1.x
  have hb := F.1.b
  unfold wX6_parse_109 at hw
  refine lv_iconst (v := 0) hx hb dX6_parse_109 (by decide) ?_
  exact bX6_parse_110 F hB hS hw hl
set_option maxHeartbeats 4000000 in
theorem bX6_parse_81 {p : Program} {l : Launch} {e : Env} {s : State} {m : MethodId} {args : Array Value} {below : List Frame} {meth : Method} {c : Code} {D : DD} {A : Nat → Prop} {s0 : State} {ad : AD} {Q : Int32 → TS → Prop} {l1 : Int32} {k0 : Int32} {T : TS} {H : Heap} {locs : List Loc} {ls : Array Slot} (F : FX p l c cX6_parse s args m RX6 D A s0 3 meth (some .int)) (hB : tB D A ad T H) (hS : va_S A s.heap H locs) (hw : wX6_parse_81 l1 k0 T Q) (hl : lv_has ls 3 [(0, .ref (ad 0 0 0)), (1, .int l1)]) : W p l e rX6_parse s m args below meth c H locs 0 0 (MQ below (va_Qi Q (fun u t => tB D A ad u t.heap) A) args s 0 0 A) (F0 m 81 ls [.int k0]) := by
  have hx := F.1.x
  have hb := F.1.b
  unfold wX6_parse_81 at hw
  refine lv_istore_n (lv' := [(2, .int k0), (0, .ref (ad 0 0 0)), (1, .int l1)]) hx hb dX6_parse_81 rfl hl (by decide) rfl (fun ls hl => ?_)
  refine lv_iload_n hx hb dX6_parse_82 rfl (lv_at hl 0 rfl) ?_
  refine lv_if_eq (tgt := 111) hx hb dX6_parse_83 (by decide) (fun q => ?_) (fun q => ?_)
  · replace hw := hw.1 q
    exact bX6_parse_111 F hB hS hw (lv_sub hl [1, 2, 0] rfl)
  · replace hw := hw.2 q
    refine lv_aload_n hx hb dX6_parse_86 rfl (lv_at hl 1 rfl) ?_
    refine kX6_X6_nextToken F hB hS hw ⟨Nat.le_of_ble_eq_true rfl, Nat.le_of_ble_eq_true rfl⟩ ⟨Nat.zero_le _, Nat.zero_le _⟩ hl.1 (Nat.le_of_ble_eq_true rfl) dX6_parse_87 (fun T2 H locs hw hB hS => ?_)
    refine lv_aload_n hx hb dX6_parse_90 rfl (lv_at hl 1 rfl) ?_
    refine lv_iload_n hx hb dX6_parse_91 rfl (lv_at hl 2 rfl) ?_
    refine kX6_X6_eitherC F hB hS hw ⟨Nat.le_of_ble_eq_true rfl, Nat.le_of_ble_eq_true rfl⟩ ⟨Nat.zero_le _, Nat.zero_le _⟩ hl.1 (Nat.le_of_ble_eq_true rfl) dX6_parse_92 (fun r3 T4 H locs hw hB hS => ?_)
    refine lv_if_eq (tgt := 109) hx hb dX6_parse_95 (by decide) (fun q => ?_) (fun q => ?_)
    · replace hw := hw.1 q
      exact bX6_parse_109 F hB hS hw (lv_sub hl [1, 2] rfl)
    · replace hw := hw.2 q
      refine lv_aload_n hx hb dX6_parse_98 rfl (lv_at hl 1 rfl) ?_
      refine tg_17 F hB dX6_parse_99 ?_
      refine lv_if_ne (tgt := 109) hx hb dX6_parse_102 (by decide) (fun q => ?_) (fun q => ?_)
      · replace hw := hw.2 q
        exact bX6_parse_109 F hB hS hw (lv_sub hl [1, 2] rfl)
      · replace hw := hw.1 q
        refine lv_iconst (v := 1) hx hb dX6_parse_105 (by decide) ?_
        refine lv_goto (tgt := 110) hx hb dX6_parse_106 (by decide) ?_
        exact bX6_parse_110 F hB hS hw (lv_sub hl [1, 2] rfl)
set_option maxHeartbeats 4000000 in
theorem bX6_parse_60 {p : Program} {l : Launch} {e : Env} {s : State} {m : MethodId} {args : Array Value} {below : List Frame} {meth : Method} {c : Code} {D : DD} {A : Nat → Prop} {s0 : State} {ad : AD} {Q : Int32 → TS → Prop} {k0 : Int32} {T : TS} {H : Heap} {locs : List Loc} {ls : Array Slot} (F : FX p l c cX6_parse s args m RX6 D A s0 3 meth (some .int)) (hB : tB D A ad T H) (hS : va_S A s.heap H locs) (hw : wX6_parse_60 k0 T Q) (hl : lv_has ls 3 [(0, .ref (ad 0 0 0))]) : W p l e rX6_parse s m args below meth c H locs 0 0 (MQ below (va_Qi Q (fun u t => tB D A ad u t.heap) A) args s 0 0 A) (F0 m 60 ls [.int k0, .ref (ad 0 0 0)]) := by
  have hx := F.1.x
  have hb := F.1.b
  unfold wX6_parse_60 at hw
  refine tp_23 F hB hS dX6_parse_60 (fun H locs hB hS => ?_)
  refine lv_aload_n hx hb dX6_parse_63 rfl (lv_at hl 0 rfl) ?_
  refine kX6_X6_nextToken F hB hS hw ⟨Nat.le_of_ble_eq_true rfl, Nat.le_of_ble_eq_true rfl⟩ ⟨Nat.zero_le _, Nat.zero_le _⟩ hl.1 (Nat.le_of_ble_eq_true rfl) dX6_parse_64 (fun T2 H locs hw hB hS => ?_)
  refine lv_aload_n hx hb dX6_parse_67 rfl (lv_at hl 0 rfl) ?_
  refine kX6_X6_key F hB hS hw ⟨Nat.le_of_ble_eq_true rfl, Nat.le_of_ble_eq_true rfl⟩ ⟨Nat.zero_le _, Nat.zero_le _⟩ hl.1 (Nat.le_of_ble_eq_true rfl) dX6_parse_68 (fun r3 T4 H locs hw hB hS => ?_)
  refine lv_istore_n (lv' := [(1, .int r3), (0, .ref (ad 0 0 0))]) hx hb dX6_parse_71 rfl hl (by decide) rfl (fun ls hl => ?_)
  refine lv_iload_n hx hb dX6_parse_72 rfl (lv_at hl 0 rfl) ?_
  refine lv_if_lt (tgt := 80) hx hb dX6_parse_73 (by decide) (fun q => ?_) (fun q => ?_)
  · replace hw := hw.1 q
    refine lv_iconst (v := 0) hx hb dX6_parse_80 (by decide) ?_
    exact bX6_parse_81 F hB hS hw (lv_sub hl [1, 0] rfl)
  · replace hw := hw.2 q
    refine lv_iconst (v := 1) hx hb dX6_parse_76 (by decide) ?_
    refine lv_goto (tgt := 81) hx hb dX6_parse_77 (by decide) ?_
    exact bX6_parse_81 F hB hS hw (lv_sub hl [1, 0] rfl)
set_option maxHeartbeats 4000000 in
theorem bX6_parse_0 {p : Program} {l : Launch} {e : Env} {s : State} {m : MethodId} {args : Array Value} {below : List Frame} {meth : Method} {c : Code} {D : DD} {A : Nat → Prop} {s0 : State} {ad : AD} {Q : Int32 → TS → Prop} {T : TS} {H : Heap} {locs : List Loc} {ls : Array Slot} (F : FX p l c cX6_parse s args m RX6 D A s0 3 meth (some .int)) (hB : tB D A ad T H) (hS : va_S A s.heap H locs) (hw : wX6_parse T Q) (hl : lv_has ls 3 [(0, .ref (ad 0 0 0))]) : W p l e rX6_parse s m args below meth c H locs 0 0 (MQ below (va_Qi Q (fun u t => tB D A ad u t.heap) A) args s 0 0 A) (F0 m 0 ls []) := by
  have hx := F.1.x
  have hb := F.1.b
  unfold wX6_parse at hw
  refine lv_aload_n hx hb dX6_parse_0 rfl (lv_at hl 0 rfl) ?_
  refine lv_iconst (v := 0) hx hb dX6_parse_1 (by decide) ?_
  refine tp_16 F hB hS dX6_parse_2 (fun H locs hB hS => ?_)
  refine lv_aload_n hx hb dX6_parse_5 rfl (lv_at hl 0 rfl) ?_
  refine lv_iconst (v := 3) hx hb dX6_parse_6 (by decide) ?_
  refine tp_17 F hB hS dX6_parse_7 (fun H locs hB hS => ?_)
  refine lv_aload_n hx hb dX6_parse_10 rfl (lv_at hl 0 rfl) ?_
  refine lv_iconst (v := 0) hx hb dX6_parse_11 (by decide) ?_
  refine tp_20 F hB hS dX6_parse_12 (fun H locs hB hS => ?_)
  refine lv_aload_n hx hb dX6_parse_15 rfl (lv_at hl 0 rfl) ?_
  refine lv_iconst (v := 0) hx hb dX6_parse_16 (by decide) ?_
  refine tp_21 F hB hS dX6_parse_17 (fun H locs hB hS => ?_)
  refine lv_aload_n hx hb dX6_parse_20 rfl (lv_at hl 0 rfl) ?_
  refine lv_iconst (v := 0) hx hb dX6_parse_21 (by decide) ?_
  refine tp_22 F hB hS dX6_parse_22 (fun H locs hB hS => ?_)
  refine lv_aload_n hx hb dX6_parse_25 rfl (lv_at hl 0 rfl) ?_
  refine lv_iconst (v := 0) hx hb dX6_parse_26 (by decide) ?_
  refine tp_24 F hB hS dX6_parse_27 (fun H locs hB hS => ?_)
  refine lv_aload_n hx hb dX6_parse_30 rfl (lv_at hl 0 rfl) ?_
  refine lv_aload_n hx hb dX6_parse_31 rfl (lv_at hl 0 rfl) ?_
  refine tg_0 F hB dX6_parse_32 ?_
  refine lv_iconst (v := 2) hx hb dX6_parse_35 (by decide) ?_
  obtain ⟨hin, hw⟩ := hw
  refine t_ald F hB (k := 0) rfl hin dX6_parse_36 ?_
  refine lv_bipush (v := 14) hx hb dX6_parse_37 (by decide) ?_
  refine lv_icmp_ge (tgt := 57) hx hb dX6_parse_39 (by decide) (fun q => ?_) (fun q => ?_)
  · replace hw := hw.1 q
    refine lv_sipush (v := 2914) hx hb dX6_parse_57 (by decide) ?_
    exact bX6_parse_60 F hB hS hw hl
  · replace hw := hw.2 q
    refine lv_aload_n hx hb dX6_parse_42 rfl (lv_at hl 0 rfl) ?_
    refine lv_aload_n hx hb dX6_parse_43 rfl (lv_at hl 0 rfl) ?_
    refine tg_0 F hB dX6_parse_44 ?_
    refine lv_iconst (v := 2) hx hb dX6_parse_47 (by decide) ?_
    obtain ⟨hin, hw⟩ := hw
    refine t_ald F hB (k := 0) rfl hin dX6_parse_48 ?_
    refine kX6_X6_textAt F hB hS hw ⟨Nat.le_of_ble_eq_true rfl, Nat.le_of_ble_eq_true rfl⟩ ⟨Nat.zero_le _, Nat.zero_le _⟩ hl.1 (Nat.le_of_ble_eq_true rfl) dX6_parse_49 (fun r1 T2 H locs hw hB hS => ?_)
    refine lv_iconst (v := 4) hx hb dX6_parse_52 (by decide) ?_
    refine lv_iadd hx hb dX6_parse_53 ?_
    refine lv_goto (tgt := 60) hx hb dX6_parse_54 (by decide) ?_
    exact bX6_parse_60 F hB hS hw hl
set_option maxHeartbeats 4000000 in
theorem mX6_parse {l : Launch} {D : DD} {A : Nat → Prop} {s0 : State} {ad : AD} {T : TS}  {Q : Int32 → TS → Prop} (hw : wX6_parse T Q) : Met l yX6_parse (ws_ yX6_parse cX6_parse 3 (some .int)) rX6_parse (va_Pc [.ref (ad 0 0 0)] (fun U => tB D A ad T U.heap ∧ CX l D A s0 U)) (va_Qi Q (fun u t => tB D A ad u t.heap) A) 0 0 A := by
  refine Met.ofW (cc := cX6_parse) (maxL := 3) (ret := some .int) (by decide) rfl ?_
  intro p e s m args below meth c s₁ B hml hv
  obtain ⟨rfl, hB, hC⟩ := hv
  have F : FX p l c cX6_parse s _ m RX6 D A s0 3 meth (some .int) := ⟨mk_FP B hml rfl, hC⟩
  have hS : va_S A s.heap s.heap [] := va_S.rf
  have hl := lv_entry ([.ref (ad 0 0 0)]) (n := 3) (Nat.le_of_ble_eq_true rfl)
  rw [lg_entry_eq]
  generalize (lg_sl ([.ref (ad 0 0 0)]) ++ List.replicate (3 - (lg_sl ([.ref (ad 0 0 0)])).length) Slot.unset).toArray = ls at hl ⊢
  exact bX6_parse_0 F hB hS hw hl
theorem kX6_X6_parse {p : Program} {l : Launch} {e : Env} {R : Room} {s : State} {m : MethodId} {args : Array Value} {below : List Frame} {meth : Method} {c : Code} {H : Heap} {locs : List Loc} {cells slots : Nat} {Q0 : State → Prop} {cc : ByteArray} {pc nL : Nat} {ls : Array Slot} {rest : List Value} {ret : Option FieldType} {D : DD} {A : Nat → Prop} {s0 : State} {ad : AD} {T : TS} {Q : Int32 → TS → Prop} (F : FX p l c cc s args m RX6 D A s0 nL meth ret) (hB : tB D A ad T H) (hS : va_S A s.heap H locs) (hw : wX6_parse T Q) (hR : rX6_parse.frames + 1 ≤ R.frames ∧ 8 + (3 + 11) + rX6_parse.locals ≤ R.locals) (hc : cells + 0 ≤ R.cells ∧ slots + 0 ≤ R.slots) (hsz : ls.size = nL) (hW : (rest.map fun v => v.category).sum ≤ 8) (hdg : decode cc pc = .ok (.invokevirtual 278, 3)) (kk : ∀ (r : Int32) (u : TS) (H1 : Heap) (locs1 : List Loc), Q r u → tB D A ad u H1 → va_S A s.heap H1 locs1 → W p l e R s m args below meth c H1 locs1 cells slots Q0 (F0 m (pc + 3) ls (.int r :: rest))) : W p l e R s m args below meth c H locs cells slots Q0 (F0 m pc ls (.ref (ad 0 0 0) :: rest)) :=
  k_i (Bw := tB D A ad) (k_runV (Bw := tB D A ad) (n := 0) (As := []) F hB hS (t_recv F hB) (mX6_parse hw) q1559 q1561 qs65 q92 q1562 (by decide +kernel) hR ⟨rfl, rfl⟩ hc rfl hsz rfl hW hdg) hS kk
def rX6_text : Room := { frames := 175, cells := 0, slots := 0, locals := 6468 }
set_option maxHeartbeats 4000000 in
theorem bX6_text_0 {p : Program} {l : Launch} {e : Env} {s : State} {m : MethodId} {args : Array Value} {below : List Frame} {meth : Method} {c : Code} {D : DD} {A : Nat → Prop} {s0 : State} {ad : AD} {Q : Int32 → TS → Prop} {T : TS} {H : Heap} {locs : List Loc} {ls : Array Slot} (F : FX p l c cX6_text s args m RX6 D A s0 3 meth (some .int)) (hB : tB D A ad T H) (hS : va_S A s.heap H locs) (hw : wX6_text T Q) (hl : lv_has ls 3 [(0, .ref (ad 0 0 0))]) : W p l e rX6_text s m args below meth c H locs 0 0 (MQ below (va_Qi Q (fun u t => tB D A ad u t.heap) A) args s 0 0 A) (F0 m 0 ls []) := by
  have hx := F.1.x
  have hb := F.1.b
  unfold wX6_text at hw
  refine lv_aload_n hx hb dX6_text_0 rfl (lv_at hl 0 rfl) ?_
  refine kX6_X6_parse F hB hS hw ⟨Nat.le_of_ble_eq_true rfl, Nat.le_of_ble_eq_true rfl⟩ ⟨Nat.zero_le _, Nat.zero_le _⟩ hl.1 (Nat.le_of_ble_eq_true rfl) dX6_text_1 (fun r1 T2 H locs hw hB hS => ?_)
  refine lv_istore_n (lv' := [(1, .int r1), (0, .ref (ad 0 0 0))]) hx hb dX6_text_4 rfl hl (by decide) rfl (fun ls hl => ?_)
  refine lv_iload_n hx hb dX6_text_5 rfl (lv_at hl 0 rfl) ?_
  refine lv_if_ge (tgt := 17) hx hb dX6_text_6 (by decide) (fun q => ?_) (fun q => ?_)
  · replace hw := hw.1 q
    refine lv_aload_n hx hb dX6_text_17 rfl (lv_at hl 1 rfl) ?_
    refine tg_0 F hB dX6_text_18 ?_
    refine lv_iconst (v := 2) hx hb dX6_text_21 (by decide) ?_
    obtain ⟨hin, hw⟩ := hw
    refine t_ald F hB (k := 0) rfl hin dX6_text_22 ?_
    refine lv_bipush (v := 14) hx hb dX6_text_23 (by decide) ?_
    refine lv_icmp_ne (tgt := 31) hx hb dX6_text_25 (by decide) (fun q => ?_) (fun q => ?_)
    · replace hw := hw.2 q
      refine lv_aload_n hx hb dX6_text_31 rfl (lv_at hl 1 rfl) ?_
      refine lv_aload_n hx hb dX6_text_32 rfl (lv_at hl 1 rfl) ?_
      refine tg_0 F hB dX6_text_33 ?_
      refine lv_iconst (v := 2) hx hb dX6_text_36 (by decide) ?_
      obtain ⟨hin, hw⟩ := hw
      refine t_ald F hB (k := 0) rfl hin dX6_text_37 ?_
      refine kX6_X6_textAt F hB hS hw ⟨Nat.le_of_ble_eq_true rfl, Nat.le_of_ble_eq_true rfl⟩ ⟨Nat.zero_le _, Nat.zero_le _⟩ hl.1 (Nat.le_of_ble_eq_true rfl) dX6_text_38 (fun r3 T4 H locs hw hB hS => ?_)
      refine lv_istore_n (lv' := [(2, .int r3), (1, .int r1), (0, .ref (ad 0 0 0))]) hx hb dX6_text_41 rfl hl (by decide) rfl (fun ls hl => ?_)
      refine lv_aload_n hx hb dX6_text_42 rfl (lv_at hl 2 rfl) ?_
      refine tg_0 F hB dX6_text_43 ?_
      refine lv_iload_n hx hb dX6_text_46 rfl (lv_at hl 0 rfl) ?_
      refine lv_iconst (v := 0) hx hb dX6_text_47 (by decide) ?_
      refine lv_iadd hx hb dX6_text_48 ?_
      refine lv_iload_n hx hb dX6_text_49 rfl (lv_at hl 1 rfl) ?_
      obtain ⟨hin, hw⟩ := hw
      refine t_ast F hB hS (k := 0) rfl hin dX6_text_50 (fun H locs hB hS => ?_)
      refine lv_aload_n hx hb dX6_text_51 rfl (lv_at hl 2 rfl) ?_
      refine tg_0 F hB dX6_text_52 ?_
      refine lv_iload_n hx hb dX6_text_55 rfl (lv_at hl 0 rfl) ?_
      refine lv_iconst (v := 1) hx hb dX6_text_56 (by decide) ?_
      refine lv_iadd hx hb dX6_text_57 ?_
      refine lv_aload_n hx hb dX6_text_58 rfl (lv_at hl 2 rfl) ?_
      refine tg_24 F hB dX6_text_59 ?_
      obtain ⟨hin, hw⟩ := hw
      refine t_ast F hB hS (k := 0) rfl hin dX6_text_62 (fun H locs hB hS => ?_)
      refine lv_aload_n hx hb dX6_text_63 rfl (lv_at hl 2 rfl) ?_
      refine tg_0 F hB dX6_text_64 ?_
      refine lv_iload_n hx hb dX6_text_67 rfl (lv_at hl 0 rfl) ?_
      refine lv_iconst (v := 2) hx hb dX6_text_68 (by decide) ?_
      refine lv_iadd hx hb dX6_text_69 ?_
      refine lv_aload_n hx hb dX6_text_70 rfl (lv_at hl 2 rfl) ?_
      refine tg_22 F hB dX6_text_71 ?_
      obtain ⟨hin, hw⟩ := hw
      refine t_ast F hB hS (k := 0) rfl hin dX6_text_74 (fun H locs hB hS => ?_)
      refine lv_aload_n hx hb dX6_text_75 rfl (lv_at hl 2 rfl) ?_
      refine tg_0 F hB dX6_text_76 ?_
      refine lv_iconst (v := 2) hx hb dX6_text_79 (by decide) ?_
      refine lv_dup2_11 hx hb dX6_text_80 rfl rfl ?_
      obtain ⟨hin, hw⟩ := hw
      refine t_ald F hB (k := 0) rfl hin dX6_text_81 ?_
      refine lv_iconst (v := 1) hx hb dX6_text_82 (by decide) ?_
      refine lv_iadd hx hb dX6_text_83 ?_
      obtain ⟨hin, hw⟩ := hw
      refine t_ast F hB hS (k := 0) rfl hin dX6_text_84 (fun H locs hB hS => ?_)
      refine lv_aload_n hx hb dX6_text_85 rfl (lv_at hl 2 rfl) ?_
      refine tg_0 F hB dX6_text_86 ?_
      refine lv_iconst (v := 2) hx hb dX6_text_89 (by decide) ?_
      obtain ⟨hin, hw⟩ := hw
      refine t_ald F hB (k := 0) rfl hin dX6_text_90 ?_
      refine lv_iconst (v := 1) hx hb dX6_text_91 (by decide) ?_
      refine lv_isub hx hb dX6_text_92 ?_
      exact W.iret hx hb F.1.r (fun t ht hW => ⟨⟨_, _, rfl, hw, x_B (Bw := tB D A ad) ht hB⟩, hS.F ht⟩) hS.2.2 dX6_text_93 (hlocks := F.1.k)
    · replace hw := hw.1 q
      refine lv_ldc hx hb F.1.o (F.1.t _ q1327) dX6_text_28 ?_
      exact W.iret hx hb F.1.r (fun t ht hW => ⟨⟨_, _, rfl, hw, x_B (Bw := tB D A ad) ht hB⟩, hS.F ht⟩) hS.2.2 dX6_text_30 (hlocks := F.1.k)
  · replace hw := hw.2 q
    refine lv_bipush (v := -100) hx hb dX6_text_9 (by decide) ?_
    refine lv_aload_n hx hb dX6_text_11 rfl (lv_at hl 1 rfl) ?_
    refine tg_15 F hB dX6_text_12 ?_
    refine lv_isub hx hb dX6_text_15 ?_
    exact W.iret hx hb F.1.r (fun t ht hW => ⟨⟨_, _, rfl, hw, x_B (Bw := tB D A ad) ht hB⟩, hS.F ht⟩) hS.2.2 dX6_text_16 (hlocks := F.1.k)
set_option maxHeartbeats 4000000 in
theorem mX6_text {l : Launch} {D : DD} {A : Nat → Prop} {s0 : State} {ad : AD} {T : TS}  {Q : Int32 → TS → Prop} (hw : wX6_text T Q) : Met l yX6_text (ws_ yX6_text cX6_text 3 (some .int)) rX6_text (va_Pc [.ref (ad 0 0 0)] (fun U => tB D A ad T U.heap ∧ CX l D A s0 U)) (va_Qi Q (fun u t => tB D A ad u t.heap) A) 0 0 A := by
  refine Met.ofW (cc := cX6_text) (maxL := 3) (ret := some .int) (by decide) rfl ?_
  intro p e s m args below meth c s₁ B hml hv
  obtain ⟨rfl, hB, hC⟩ := hv
  have F : FX p l c cX6_text s _ m RX6 D A s0 3 meth (some .int) := ⟨mk_FP B hml rfl, hC⟩
  have hS : va_S A s.heap s.heap [] := va_S.rf
  have hl := lv_entry ([.ref (ad 0 0 0)]) (n := 3) (Nat.le_of_ble_eq_true rfl)
  rw [lg_entry_eq]
  generalize (lg_sl ([.ref (ad 0 0 0)]) ++ List.replicate (3 - (lg_sl ([.ref (ad 0 0 0)])).length) Slot.unset).toArray = ls at hl ⊢
  exact bX6_text_0 F hB hS hw hl
