set_option maxRecDepth 100000
def rX6_isIn : Room := { frames := 0, cells := 0, slots := 0, locals := 0 }
set_option maxHeartbeats 4000000 in
theorem bX6_isIn_0 {p : Program} {l : Launch} {e : Env} {s : State} {m : MethodId} {args : Array Value} {below : List Frame} {meth : Method} {c : Code} {Q : Int32 → Prop} {a0 : Int64} {a2 : Int64} {a4 : Int64} {ls : Array Slot} (F : FP p c cX6_isIn s args m RX6 6 meth (some .boolean)) (hw : wX6_isIn a0 a2 a4 Q) (hl : lv_has ls 6 [(0, .long a0), (2, .long a2), (4, .long a4)]) : W p l e rX6_isIn s m args below meth c s.heap [] 0 0 (MQ below (vp_Si Q) args s 0 0 (fun _ => False)) (F0 m 0 ls []) := by
  have hx := F.x
  have hb := F.b
  unfold wX6_isIn at hw
  refine lv_lload_n hx hb dX6_isIn_0 rfl (lv_at hl 0 rfl) ?_
  refine lv_lload_n hx hb dX6_isIn_1 rfl (lv_at hl 1 rfl) ?_
  refine W.lcmp hx hb dX6_isIn_2 ?_
  refine lv_if_lt (tgt := 17) hx hb dX6_isIn_3 (by decide) (fun q => ?_) (fun q => ?_)
  · replace hw := hw.1 q
    refine lv_iconst (v := 0) hx hb dX6_isIn_17 (by decide) ?_
    exact W.zret hx hb F.r rfl (fun t ht hW => ⟨_, rfl, hw, ht⟩) (fun _ h => absurd h List.not_mem_nil) dX6_isIn_18 (hlocks := F.k)
  · replace hw := hw.2 q
    refine lv_lload_n hx hb dX6_isIn_6 rfl (lv_at hl 0 rfl) ?_
    refine lv_lload hx hb dX6_isIn_7 (lv_at hl 2 rfl) ?_
    refine W.lcmp hx hb dX6_isIn_9 ?_
    refine lv_if_gt (tgt := 17) hx hb dX6_isIn_10 (by decide) (fun q => ?_) (fun q => ?_)
    · replace hw := hw.1 q
      refine lv_iconst (v := 0) hx hb dX6_isIn_17 (by decide) ?_
      exact W.zret hx hb F.r rfl (fun t ht hW => ⟨_, rfl, hw, ht⟩) (fun _ h => absurd h List.not_mem_nil) dX6_isIn_18 (hlocks := F.k)
    · replace hw := hw.2 q
      refine lv_iconst (v := 1) hx hb dX6_isIn_13 (by decide) ?_
      refine lv_goto (tgt := 18) hx hb dX6_isIn_14 (by decide) ?_
      exact W.zret hx hb F.r rfl (fun t ht hW => ⟨_, rfl, hw, ht⟩) (fun _ h => absurd h List.not_mem_nil) dX6_isIn_18 (hlocks := F.k)
set_option maxHeartbeats 4000000 in
theorem mX6_isIn {l : Launch}  {a0 : Int64} {a2 : Int64} {a4 : Int64} {Q : Int32 → Prop} (hw : wX6_isIn a0 a2 a4 Q) : Met l yX6_isIn (ws_ yX6_isIn cX6_isIn 6 (some .boolean)) rX6_isIn (va_Pc [.long a0, .long a2, .long a4] (fun _ => True)) (vp_Si Q) 0 0 (fun _ => False) := by
  refine Met.ofW (cc := cX6_isIn) (maxL := 6) (ret := some .boolean) (by decide) rfl ?_
  intro p e s m args below meth c s₁ B hml hv
  obtain ⟨rfl, -⟩ := hv
  have F : FP p c cX6_isIn s _ m RX6 6 meth (some .boolean) := mk_FP B hml rfl
  have hl := lv_entry ([.long a0, .long a2, .long a4]) (n := 6) (Nat.le_of_ble_eq_true rfl)
  rw [lg_entry_eq]
  generalize (lg_sl ([.long a0, .long a2, .long a4]) ++ List.replicate (6 - (lg_sl ([.long a0, .long a2, .long a4])).length) Slot.unset).toArray = ls at hl ⊢
  exact bX6_isIn_0 F hw hl
theorem kX6_X6_isIn {p : Program} {l : Launch} {e : Env} {R : Room} {s : State} {m : MethodId} {args : Array Value} {below : List Frame} {meth : Method} {c : Code} {H : Heap} {locs : List Loc} {cells slots : Nat} {Q0 : State → Prop} {cc : ByteArray} {pc nL : Nat} {ls : Array Slot} {rest : List Value} {ret : Option FieldType} {a0 : Int64} {a2 : Int64} {a4 : Int64} {Q : Int32 → Prop} (F : FP p c cc s args m RX6 nL meth ret) (hw : wX6_isIn a0 a2 a4 Q) (hR : rX6_isIn.frames + 1 ≤ R.frames ∧ 8 + (6 + 11) + rX6_isIn.locals ≤ R.locals) (hc : cells ≤ R.cells ∧ slots ≤ R.slots) (hsz : ls.size = nL) (hW : (rest.map fun v => v.category).sum ≤ 8) (hdg : decode cc pc = .ok (.invokestatic 65, 3)) (kk : ∀ r : Int32, Q r → W p l e R s m args below meth c H locs cells slots Q0 (F0 m (pc + 3) ls (.int r :: rest))) : W p l e R s m args below meth c H locs cells slots Q0 (F0 m pc ls (.long a4 :: .long a2 :: .long a0 :: rest)) :=
  k_csi (k_runP (n := 3) (As := [.long a0, .long a2, .long a4]) F (mX6_isIn hw) q1322 q1323 q92 q1324 (by decide +kernel) hR ⟨rfl, rfl⟩ hc rfl hsz rfl hW hdg) kk
def rX6_isDeed : Room := { frames := 1, cells := 0, slots := 0, locals := 25 }
set_option maxHeartbeats 4000000 in
theorem bX6_isDeed_0 {p : Program} {l : Launch} {e : Env} {s : State} {m : MethodId} {args : Array Value} {below : List Frame} {meth : Method} {c : Code} {D : DD} {A : Nat → Prop} {s0 : State} {ad : AD} {Q : Int32 → TS → Prop} {a1 : Int32} {T : TS} {H : Heap} {locs : List Loc} {ls : Array Slot} (F : FX p l c cX6_isDeed s args m RX6 D A s0 2 meth (some .boolean)) (hB : tB D A ad T H) (hS : va_S A s.heap H locs) (hw : wX6_isDeed a1 T Q) (hl : lv_has ls 2 [(0, .ref (ad 0 0 0)), (1, .int a1)]) : W p l e rX6_isDeed s m args below meth c H locs 0 0 (MQ below (va_Qi Q (fun u t => tB D A ad u t.heap) A) args s 0 0 A) (F0 m 0 ls []) := by
  have hx := F.1.x
  have hb := F.1.b
  unfold wX6_isDeed at hw
  refine lv_iload_n hx hb dX6_isDeed_0 rfl (lv_at hl 1 rfl) ?_
  refine lv_i2l hx hb dX6_isDeed_1 rfl ?_
  refine lv_lconst (v := 0) hx hb dX6_isDeed_2 (by decide) ?_
  refine lv_aload_n hx hb dX6_isDeed_3 rfl (lv_at hl 0 rfl) ?_
  refine tg_0 F hB dX6_isDeed_4 ?_
  refine lv_iconst (v := 1) hx hb dX6_isDeed_7 (by decide) ?_
  obtain ⟨hin, hw⟩ := hw
  refine t_ald F hB (k := 0) rfl hin dX6_isDeed_8 ?_
  refine lv_iconst (v := 1) hx hb dX6_isDeed_9 (by decide) ?_
  refine lv_isub hx hb dX6_isDeed_10 ?_
  refine lv_i2l hx hb dX6_isDeed_11 rfl ?_
  refine kX6_X6_isIn F.1 hw ⟨Nat.le_of_ble_eq_true rfl, Nat.le_of_ble_eq_true rfl⟩ ⟨Nat.zero_le _, Nat.zero_le _⟩ hl.1 (Nat.le_of_ble_eq_true rfl) dX6_isDeed_12 (fun r1 hw => ?_)
  obtain ⟨hn, hw⟩ := hw
  exact W.zret hx hb F.1.r hn (fun t ht hW => ⟨⟨_, _, rfl, hw, x_B (Bw := tB D A ad) ht hB⟩, hS.F ht⟩) hS.2.2 dX6_isDeed_15 (hlocks := F.1.k)
set_option maxHeartbeats 4000000 in
theorem mX6_isDeed {l : Launch} {D : DD} {A : Nat → Prop} {s0 : State} {ad : AD} {T : TS} {a1 : Int32} {Q : Int32 → TS → Prop} (hw : wX6_isDeed a1 T Q) : Met l yX6_isDeed (ws_ yX6_isDeed cX6_isDeed 2 (some .boolean)) rX6_isDeed (va_Pc [.ref (ad 0 0 0), .int a1] (fun U => tB D A ad T U.heap ∧ CX l D A s0 U)) (va_Qi Q (fun u t => tB D A ad u t.heap) A) 0 0 A := by
  refine Met.ofW (cc := cX6_isDeed) (maxL := 2) (ret := some .boolean) (by decide) rfl ?_
  intro p e s m args below meth c s₁ B hml hv
  obtain ⟨rfl, hB, hC⟩ := hv
  have F : FX p l c cX6_isDeed s _ m RX6 D A s0 2 meth (some .boolean) := ⟨mk_FP B hml rfl, hC⟩
  have hS : va_S A s.heap s.heap [] := va_S.rf
  have hl := lv_entry ([.ref (ad 0 0 0), .int a1]) (n := 2) (Nat.le_of_ble_eq_true rfl)
  rw [lg_entry_eq]
  generalize (lg_sl ([.ref (ad 0 0 0), .int a1]) ++ List.replicate (2 - (lg_sl ([.ref (ad 0 0 0), .int a1])).length) Slot.unset).toArray = ls at hl ⊢
  exact bX6_isDeed_0 F hB hS hw hl
theorem kX6_X6_isDeed {p : Program} {l : Launch} {e : Env} {R : Room} {s : State} {m : MethodId} {args : Array Value} {below : List Frame} {meth : Method} {c : Code} {H : Heap} {locs : List Loc} {cells slots : Nat} {Q0 : State → Prop} {cc : ByteArray} {pc nL : Nat} {ls : Array Slot} {rest : List Value} {ret : Option FieldType} {D : DD} {A : Nat → Prop} {s0 : State} {ad : AD} {T : TS} {a1 : Int32} {Q : Int32 → TS → Prop} (F : FX p l c cc s args m RX6 D A s0 nL meth ret) (hB : tB D A ad T H) (hS : va_S A s.heap H locs) (hw : wX6_isDeed a1 T Q) (hR : rX6_isDeed.frames + 1 ≤ R.frames ∧ 8 + (2 + 11) + rX6_isDeed.locals ≤ R.locals) (hc : cells + 0 ≤ R.cells ∧ slots + 0 ≤ R.slots) (hsz : ls.size = nL) (hW : (rest.map fun v => v.category).sum ≤ 8) (hdg : decode cc pc = .ok (.invokevirtual 146, 3)) (kk : ∀ (r : Int32) (u : TS) (H1 : Heap) (locs1 : List Loc), Q r u → tB D A ad u H1 → va_S A s.heap H1 locs1 → W p l e R s m args below meth c H1 locs1 cells slots Q0 (F0 m (pc + 3) ls (.int r :: rest))) : W p l e R s m args below meth c H locs cells slots Q0 (F0 m pc ls (.int a1 :: .ref (ad 0 0 0) :: rest)) :=
  k_i (Bw := tB D A ad) (k_runV (Bw := tB D A ad) (n := 1) (As := [.int a1]) F hB hS (t_recv F hB) (mX6_isDeed hw) q1430 q1432 qs52 q92 q1433 (by decide +kernel) hR ⟨rfl, rfl⟩ hc rfl hsz rfl hW hdg) hS kk
def rX6_becomes : Room := { frames := 0, cells := 0, slots := 0, locals := 0 }
set_option maxHeartbeats 4000000 in
theorem bX6_becomes_0 {p : Program} {l : Launch} {e : Env} {s : State} {m : MethodId} {args : Array Value} {below : List Frame} {meth : Method} {c : Code} {D : DD} {A : Nat → Prop} {s0 : State} {ad : AD} {Q : Int32 → TS → Prop} {a1 : Int32} {a2 : Int32} {T : TS} {H : Heap} {locs : List Loc} {ls : Array Slot} (F : FX p l c cX6_becomes s args m RX6 D A s0 4 meth (some .int)) (hB : tB D A ad T H) (hS : va_S A s.heap H locs) (hw : wX6_becomes a1 a2 T Q) (hl : lv_has ls 4 [(0, .ref (ad 0 0 0)), (1, .int a1), (2, .int a2)]) : W p l e rX6_becomes s m args below meth c H locs 0 0 (MQ below (va_Qi Q (fun u t => tB D A ad u t.heap) A) args s 0 0 A) (F0 m 0 ls []) := by
  have hx := F.1.x
  have hb := F.1.b
  unfold wX6_becomes at hw
  refine lv_aload_n hx hb dX6_becomes_0 rfl (lv_at hl 0 rfl) ?_
  refine tg_0 F hB dX6_becomes_1 ?_
  refine lv_iload_n hx hb dX6_becomes_4 rfl (lv_at hl 1 rfl) ?_
  obtain ⟨hin, hw⟩ := hw
  refine t_ald F hB (k := 0) rfl hin dX6_becomes_5 ?_
  refine lv_istore_n (lv' := [(3, .int (T.2 0 a1.toNatClampNeg)), (0, .ref (ad 0 0 0)), (1, .int a1), (2, .int a2)]) hx hb dX6_becomes_6 rfl hl (by decide) rfl (fun ls hl => ?_)
  refine lv_aload_n hx hb dX6_becomes_7 rfl (lv_at hl 1 rfl) ?_
  refine tg_0 F hB dX6_becomes_8 ?_
  refine lv_iload_n hx hb dX6_becomes_11 rfl (lv_at hl 2 rfl) ?_
  refine lv_iload_n hx hb dX6_becomes_12 rfl (lv_at hl 3 rfl) ?_
  obtain ⟨hin, hw⟩ := hw
  refine t_ast F hB hS (k := 0) rfl hin dX6_becomes_13 (fun H locs hB hS => ?_)
  refine lv_iload_n hx hb dX6_becomes_14 rfl (lv_at hl 0 rfl) ?_
  exact W.iret hx hb F.1.r (fun t ht hW => ⟨⟨_, _, rfl, hw, x_B (Bw := tB D A ad) ht hB⟩, hS.F ht⟩) hS.2.2 dX6_becomes_15 (hlocks := F.1.k)
set_option maxHeartbeats 4000000 in
theorem mX6_becomes {l : Launch} {D : DD} {A : Nat → Prop} {s0 : State} {ad : AD} {T : TS} {a1 : Int32} {a2 : Int32} {Q : Int32 → TS → Prop} (hw : wX6_becomes a1 a2 T Q) : Met l yX6_becomes (ws_ yX6_becomes cX6_becomes 4 (some .int)) rX6_becomes (va_Pc [.ref (ad 0 0 0), .int a1, .int a2] (fun U => tB D A ad T U.heap ∧ CX l D A s0 U)) (va_Qi Q (fun u t => tB D A ad u t.heap) A) 0 0 A := by
  refine Met.ofW (cc := cX6_becomes) (maxL := 4) (ret := some .int) (by decide) rfl ?_
  intro p e s m args below meth c s₁ B hml hv
  obtain ⟨rfl, hB, hC⟩ := hv
  have F : FX p l c cX6_becomes s _ m RX6 D A s0 4 meth (some .int) := ⟨mk_FP B hml rfl, hC⟩
  have hS : va_S A s.heap s.heap [] := va_S.rf
  have hl := lv_entry ([.ref (ad 0 0 0), .int a1, .int a2]) (n := 4) (Nat.le_of_ble_eq_true rfl)
  rw [lg_entry_eq]
  generalize (lg_sl ([.ref (ad 0 0 0), .int a1, .int a2]) ++ List.replicate (4 - (lg_sl ([.ref (ad 0 0 0), .int a1, .int a2])).length) Slot.unset).toArray = ls at hl ⊢
  exact bX6_becomes_0 F hB hS hw hl
theorem kX6_X6_becomes {p : Program} {l : Launch} {e : Env} {R : Room} {s : State} {m : MethodId} {args : Array Value} {below : List Frame} {meth : Method} {c : Code} {H : Heap} {locs : List Loc} {cells slots : Nat} {Q0 : State → Prop} {cc : ByteArray} {pc nL : Nat} {ls : Array Slot} {rest : List Value} {ret : Option FieldType} {D : DD} {A : Nat → Prop} {s0 : State} {ad : AD} {T : TS} {a1 : Int32} {a2 : Int32} {Q : Int32 → TS → Prop} (F : FX p l c cc s args m RX6 D A s0 nL meth ret) (hB : tB D A ad T H) (hS : va_S A s.heap H locs) (hw : wX6_becomes a1 a2 T Q) (hR : rX6_becomes.frames + 1 ≤ R.frames ∧ 8 + (4 + 11) + rX6_becomes.locals ≤ R.locals) (hc : cells + 0 ≤ R.cells ∧ slots + 0 ≤ R.slots) (hsz : ls.size = nL) (hW : (rest.map fun v => v.category).sum ≤ 8) (hdg : decode cc pc = .ok (.invokevirtual 110, 3)) (kk : ∀ (r : Int32) (u : TS) (H1 : Heap) (locs1 : List Loc), Q r u → tB D A ad u H1 → va_S A s.heap H1 locs1 → W p l e R s m args below meth c H1 locs1 cells slots Q0 (F0 m (pc + 3) ls (.int r :: rest))) : W p l e R s m args below meth c H locs cells slots Q0 (F0 m pc ls (.int a2 :: .int a1 :: .ref (ad 0 0 0) :: rest)) :=
  k_i (Bw := tB D A ad) (k_runV (Bw := tB D A ad) (n := 2) (As := [.int a1, .int a2]) F hB hS (t_recv F hB) (mX6_becomes hw) q1371 q1373 qs47 q92 q1374 (by decide +kernel) hR ⟨rfl, rfl⟩ hc rfl hsz rfl hW hdg) hS kk
def rX6_ones : Room := { frames := 0, cells := 0, slots := 0, locals := 0 }
set_option maxHeartbeats 4000000 in
theorem bX6_ones_4 {p : Program} {l : Launch} {e : Env} {s : State} {m : MethodId} {args : Array Value} {below : List Frame} {meth : Method} {c : Code} {Q : Int32 → Prop} (F : FP p c cX6_ones s args m RX6 3 meth (some .int)) : ∀ (n : Nat) (l0 : Int32) (l1 : Int32) (l2 : Int32), wX6_ones_4 Q n l0 l1 l2 → ∀ (ls : Array Slot), lv_has ls 3 [(0, .int l0), (1, .int l1), (2, .int l2)] → W p l e rX6_ones s m args below meth c s.heap [] 0 0 (MQ below (vp_Si Q) args s 0 0 (fun _ => False)) (F0 m 4 ls []) := by
  have hx := F.x
  have hb := F.b
  intro n
  induction n with
  | zero => intro l0 l1 l2 hw; exact hw.elim
  | succ n ih =>
    intro l0 l1 l2 hw ls hl
    unfold wX6_ones_4 at hw
    refine lv_iload_n hx hb dX6_ones_4 rfl (lv_at hl 2 rfl) ?_
    refine lv_bipush (v := 12) hx hb dX6_ones_5 (by decide) ?_
    refine lv_icmp_ge (tgt := 24) hx hb dX6_ones_7 (by decide) (fun q => ?_) (fun q => ?_)
    · replace hw := hw.1 q
      refine lv_iload_n hx hb dX6_ones_24 rfl (lv_at hl 1 rfl) ?_
      exact W.iret hx hb F.r (fun t ht hW => ⟨_, rfl, hw, ht⟩) (fun _ h => absurd h List.not_mem_nil) dX6_ones_25 (hlocks := F.k)
    · replace hw := hw.2 q
      refine lv_iload_n hx hb dX6_ones_10 rfl (lv_at hl 1 rfl) ?_
      refine lv_iload_n hx hb dX6_ones_11 rfl (lv_at hl 0 rfl) ?_
      refine lv_iload_n hx hb dX6_ones_12 rfl (lv_at hl 2 rfl) ?_
      refine lv_ishr hx hb dX6_ones_13 ?_
      refine lv_iconst (v := 1) hx hb dX6_ones_14 (by decide) ?_
      refine lv_iand hx hb dX6_ones_15 ?_
      refine lv_iadd hx hb dX6_ones_16 ?_
      refine lv_istore_n (lv' := [(1, .int (l1 + ((l0 >>> (l2 &&& 31)) &&& (1 : Int32)))), (0, .int l0), (2, .int l2)]) hx hb dX6_ones_17 rfl hl (by decide) rfl (fun ls hl => ?_)
      refine lv_iinc (v := l2 + (1 : Int32)) (lv' := [(2, .int (l2 + (1 : Int32))), (1, .int (l1 + ((l0 >>> (l2 &&& 31)) &&& (1 : Int32)))), (0, .int l0)]) hx hb dX6_ones_18 hl (k := 2) rfl (x_inc (by decide)) (by decide) rfl (fun ls hl => ?_)
      refine lv_goto (tgt := 4) hx hb dX6_ones_21 (by decide) ?_
      exact ih _ _ _ hw _ (lv_sub hl [2, 1, 0] rfl)
set_option maxHeartbeats 4000000 in
theorem bX6_ones_0 {p : Program} {l : Launch} {e : Env} {s : State} {m : MethodId} {args : Array Value} {below : List Frame} {meth : Method} {c : Code} {Q : Int32 → Prop} {a0 : Int32} {ls : Array Slot} (F : FP p c cX6_ones s args m RX6 3 meth (some .int)) (hw : wX6_ones a0 Q) (hl : lv_has ls 3 [(0, .int a0)]) : W p l e rX6_ones s m args below meth c s.heap [] 0 0 (MQ below (vp_Si Q) args s 0 0 (fun _ => False)) (F0 m 0 ls []) := by
  have hx := F.x
  have hb := F.b
  unfold wX6_ones at hw
  refine lv_iconst (v := 0) hx hb dX6_ones_0 (by decide) ?_
  refine lv_istore_n (lv' := [(1, .int (0 : Int32)), (0, .int a0)]) hx hb dX6_ones_1 rfl hl (by decide) rfl (fun ls hl => ?_)
  refine lv_iconst (v := 0) hx hb dX6_ones_2 (by decide) ?_
  refine lv_istore_n (lv' := [(2, .int (0 : Int32)), (1, .int (0 : Int32)), (0, .int a0)]) hx hb dX6_ones_3 rfl hl (by decide) rfl (fun ls hl => ?_)
  obtain ⟨f_4, hw⟩ := hw
  exact bX6_ones_4 F f_4 _ _ _ hw _ (lv_sub hl [2, 1, 0] rfl)
set_option maxHeartbeats 4000000 in
theorem mX6_ones {l : Launch}  {a0 : Int32} {Q : Int32 → Prop} (hw : wX6_ones a0 Q) : Met l yX6_ones (ws_ yX6_ones cX6_ones 3 (some .int)) rX6_ones (va_Pc [.int a0] (fun _ => True)) (vp_Si Q) 0 0 (fun _ => False) := by
  refine Met.ofW (cc := cX6_ones) (maxL := 3) (ret := some .int) (by decide) rfl ?_
  intro p e s m args below meth c s₁ B hml hv
  obtain ⟨rfl, -⟩ := hv
  have F : FP p c cX6_ones s _ m RX6 3 meth (some .int) := mk_FP B hml rfl
  have hl := lv_entry ([.int a0]) (n := 3) (Nat.le_of_ble_eq_true rfl)
  rw [lg_entry_eq]
  generalize (lg_sl ([.int a0]) ++ List.replicate (3 - (lg_sl ([.int a0])).length) Slot.unset).toArray = ls at hl ⊢
  exact bX6_ones_0 F hw hl
theorem kX6_X6_ones {p : Program} {l : Launch} {e : Env} {R : Room} {s : State} {m : MethodId} {args : Array Value} {below : List Frame} {meth : Method} {c : Code} {H : Heap} {locs : List Loc} {cells slots : Nat} {Q0 : State → Prop} {cc : ByteArray} {pc nL : Nat} {ls : Array Slot} {rest : List Value} {ret : Option FieldType} {a0 : Int32} {Q : Int32 → Prop} (F : FP p c cc s args m RX6 nL meth ret) (hw : wX6_ones a0 Q) (hR : rX6_ones.frames + 1 ≤ R.frames ∧ 8 + (3 + 11) + rX6_ones.locals ≤ R.locals) (hc : cells ≤ R.cells ∧ slots ≤ R.slots) (hsz : ls.size = nL) (hW : (rest.map fun v => v.category).sum ≤ 8) (hdg : decode cc pc = .ok (.invokestatic 128, 3)) (kk : ∀ r : Int32, Q r → W p l e R s m args below meth c H locs cells slots Q0 (F0 m (pc + 3) ls (.int r :: rest))) : W p l e R s m args below meth c H locs cells slots Q0 (F0 m pc ls (.int a0 :: rest)) :=
  k_csi (k_runP (n := 1) (As := [.int a0]) F (mX6_ones hw) q1422 q1423 q92 q1424 (by decide +kernel) hR ⟨rfl, rfl⟩ hc rfl hsz rfl hW hdg) kk
def rX6_again : Room := { frames := 2, cells := 0, slots := 0, locals := 46 }
set_option maxHeartbeats 4000000 in
theorem bX6_again_0 {p : Program} {l : Launch} {e : Env} {s : State} {m : MethodId} {args : Array Value} {below : List Frame} {meth : Method} {c : Code} {D : DD} {A : Nat → Prop} {s0 : State} {ad : AD} {Q : Int32 → TS → Prop} {a1 : Int32} {T : TS} {H : Heap} {locs : List Loc} {ls : Array Slot} (F : FX p l c cX6_again s args m RX6 D A s0 3 meth (some .int)) (hB : tB D A ad T H) (hS : va_S A s.heap H locs) (hw : wX6_again a1 T Q) (hl : lv_has ls 3 [(0, .ref (ad 0 0 0)), (1, .int a1)]) : W p l e rX6_again s m args below meth c H locs 0 0 (MQ below (va_Qi Q (fun u t => tB D A ad u t.heap) A) args s 0 0 A) (F0 m 0 ls []) := by
  have hx := F.1.x
  have hb := F.1.b
  unfold wX6_again at hw
  refine lv_aload_n hx hb dX6_again_0 rfl (lv_at hl 0 rfl) ?_
  refine lv_iload_n hx hb dX6_again_1 rfl (lv_at hl 1 rfl) ?_
  refine kX6_X6_isDeed F hB hS hw ⟨Nat.le_of_ble_eq_true rfl, Nat.le_of_ble_eq_true rfl⟩ ⟨Nat.zero_le _, Nat.zero_le _⟩ hl.1 (Nat.le_of_ble_eq_true rfl) dX6_again_2 (fun r1 T2 H locs hw hB hS => ?_)
  refine lv_if_ne (tgt := 11) hx hb dX6_again_5 (by decide) (fun q => ?_) (fun q => ?_)
  · replace hw := hw.2 q
    refine lv_bipush (v := 66) hx hb dX6_again_11 (by decide) ?_
    refine lv_bipush (v := 6) hx hb dX6_again_13 (by decide) ?_
    refine lv_iload_n hx hb dX6_again_15 rfl (lv_at hl 1 rfl) ?_
    refine lv_imul hx hb dX6_again_16 ?_
    refine lv_iadd hx hb dX6_again_17 ?_
    refine lv_istore_n (lv' := [(2, .int ((66 : Int32) + ((6 : Int32) * a1))), (0, .ref (ad 0 0 0)), (1, .int a1)]) hx hb dX6_again_18 rfl hl (by decide) rfl (fun ls hl => ?_)
    refine lv_aload_n hx hb dX6_again_19 rfl (lv_at hl 1 rfl) ?_
    refine tg_0 F hB dX6_again_20 ?_
    refine lv_iload_n hx hb dX6_again_23 rfl (lv_at hl 0 rfl) ?_
    refine lv_iconst (v := 4) hx hb dX6_again_24 (by decide) ?_
    refine lv_iadd hx hb dX6_again_25 ?_
    refine lv_iconst (v := 0) hx hb dX6_again_26 (by decide) ?_
    obtain ⟨hin, hw⟩ := hw
    refine t_ast F hB hS (k := 0) rfl hin dX6_again_27 (fun H locs hB hS => ?_)
    refine lv_aload_n hx hb dX6_again_28 rfl (lv_at hl 1 rfl) ?_
    refine tg_0 F hB dX6_again_29 ?_
    refine lv_iload_n hx hb dX6_again_32 rfl (lv_at hl 0 rfl) ?_
    refine lv_iconst (v := 5) hx hb dX6_again_33 (by decide) ?_
    refine lv_iadd hx hb dX6_again_34 ?_
    refine lv_iconst (v := 0) hx hb dX6_again_35 (by decide) ?_
    obtain ⟨hin, hw⟩ := hw
    refine t_ast F hB hS (k := 0) rfl hin dX6_again_36 (fun H locs hB hS => ?_)
    refine lv_aload_n hx hb dX6_again_37 rfl (lv_at hl 1 rfl) ?_
    refine lv_iload_n hx hb dX6_again_38 rfl (lv_at hl 0 rfl) ?_
    refine lv_iconst (v := 3) hx hb dX6_again_39 (by decide) ?_
    refine lv_iadd hx hb dX6_again_40 ?_
    refine lv_iconst (v := 0) hx hb dX6_again_41 (by decide) ?_
    refine kX6_X6_becomes F hB hS hw ⟨Nat.le_of_ble_eq_true rfl, Nat.le_of_ble_eq_true rfl⟩ ⟨Nat.zero_le _, Nat.zero_le _⟩ hl.1 (Nat.le_of_ble_eq_true rfl) dX6_again_42 (fun r3 T4 H locs hw hB hS => ?_)
    refine kX6_X6_ones F.1 hw ⟨Nat.le_of_ble_eq_true rfl, Nat.le_of_ble_eq_true rfl⟩ ⟨Nat.zero_le _, Nat.zero_le _⟩ hl.1 (Nat.le_of_ble_eq_true rfl) dX6_again_45 (fun r5 hw => ?_)
    exact W.iret hx hb F.1.r (fun t ht hW => ⟨⟨_, _, rfl, hw, x_B (Bw := tB D A ad) ht hB⟩, hS.F ht⟩) hS.2.2 dX6_again_48 (hlocks := F.1.k)
  · replace hw := hw.1 q
    refine lv_ldc hx hb F.1.o (F.1.t _ q1326) dX6_again_8 ?_
    exact W.iret hx hb F.1.r (fun t ht hW => ⟨⟨_, _, rfl, hw, x_B (Bw := tB D A ad) ht hB⟩, hS.F ht⟩) hS.2.2 dX6_again_10 (hlocks := F.1.k)
set_option maxHeartbeats 4000000 in
theorem mX6_again {l : Launch} {D : DD} {A : Nat → Prop} {s0 : State} {ad : AD} {T : TS} {a1 : Int32} {Q : Int32 → TS → Prop} (hw : wX6_again a1 T Q) : Met l yX6_again (ws_ yX6_again cX6_again 3 (some .int)) rX6_again (va_Pc [.ref (ad 0 0 0), .int a1] (fun U => tB D A ad T U.heap ∧ CX l D A s0 U)) (va_Qi Q (fun u t => tB D A ad u t.heap) A) 0 0 A := by
  refine Met.ofW (cc := cX6_again) (maxL := 3) (ret := some .int) (by decide) rfl ?_
  intro p e s m args below meth c s₁ B hml hv
  obtain ⟨rfl, hB, hC⟩ := hv
  have F : FX p l c cX6_again s _ m RX6 D A s0 3 meth (some .int) := ⟨mk_FP B hml rfl, hC⟩
  have hS : va_S A s.heap s.heap [] := va_S.rf
  have hl := lv_entry ([.ref (ad 0 0 0), .int a1]) (n := 3) (Nat.le_of_ble_eq_true rfl)
  rw [lg_entry_eq]
  generalize (lg_sl ([.ref (ad 0 0 0), .int a1]) ++ List.replicate (3 - (lg_sl ([.ref (ad 0 0 0), .int a1])).length) Slot.unset).toArray = ls at hl ⊢
  exact bX6_again_0 F hB hS hw hl
def rX6_isPerson : Room := { frames := 1, cells := 0, slots := 0, locals := 25 }
set_option maxHeartbeats 4000000 in
theorem bX6_isPerson_0 {p : Program} {l : Launch} {e : Env} {s : State} {m : MethodId} {args : Array Value} {below : List Frame} {meth : Method} {c : Code} {D : DD} {A : Nat → Prop} {s0 : State} {ad : AD} {Q : Int32 → TS → Prop} {a1 : Int32} {T : TS} {H : Heap} {locs : List Loc} {ls : Array Slot} (F : FX p l c cX6_isPerson s args m RX6 D A s0 2 meth (some .boolean)) (hB : tB D A ad T H) (hS : va_S A s.heap H locs) (hw : wX6_isPerson a1 T Q) (hl : lv_has ls 2 [(0, .ref (ad 0 0 0)), (1, .int a1)]) : W p l e rX6_isPerson s m args below meth c H locs 0 0 (MQ below (va_Qi Q (fun u t => tB D A ad u t.heap) A) args s 0 0 A) (F0 m 0 ls []) := by
  have hx := F.1.x
  have hb := F.1.b
  unfold wX6_isPerson at hw
  refine lv_iload_n hx hb dX6_isPerson_0 rfl (lv_at hl 1 rfl) ?_
  refine lv_i2l hx hb dX6_isPerson_1 rfl ?_
  refine lv_lconst (v := 0) hx hb dX6_isPerson_2 (by decide) ?_
  refine lv_aload_n hx hb dX6_isPerson_3 rfl (lv_at hl 0 rfl) ?_
  refine tg_0 F hB dX6_isPerson_4 ?_
  refine lv_iconst (v := 0) hx hb dX6_isPerson_7 (by decide) ?_
  obtain ⟨hin, hw⟩ := hw
  refine t_ald F hB (k := 0) rfl hin dX6_isPerson_8 ?_
  refine lv_iconst (v := 1) hx hb dX6_isPerson_9 (by decide) ?_
  refine lv_isub hx hb dX6_isPerson_10 ?_
  refine lv_i2l hx hb dX6_isPerson_11 rfl ?_
  refine kX6_X6_isIn F.1 hw ⟨Nat.le_of_ble_eq_true rfl, Nat.le_of_ble_eq_true rfl⟩ ⟨Nat.zero_le _, Nat.zero_le _⟩ hl.1 (Nat.le_of_ble_eq_true rfl) dX6_isPerson_12 (fun r1 hw => ?_)
  obtain ⟨hn, hw⟩ := hw
  exact W.zret hx hb F.1.r hn (fun t ht hW => ⟨⟨_, _, rfl, hw, x_B (Bw := tB D A ad) ht hB⟩, hS.F ht⟩) hS.2.2 dX6_isPerson_15 (hlocks := F.1.k)
set_option maxHeartbeats 4000000 in
theorem mX6_isPerson {l : Launch} {D : DD} {A : Nat → Prop} {s0 : State} {ad : AD} {T : TS} {a1 : Int32} {Q : Int32 → TS → Prop} (hw : wX6_isPerson a1 T Q) : Met l yX6_isPerson (ws_ yX6_isPerson cX6_isPerson 2 (some .boolean)) rX6_isPerson (va_Pc [.ref (ad 0 0 0), .int a1] (fun U => tB D A ad T U.heap ∧ CX l D A s0 U)) (va_Qi Q (fun u t => tB D A ad u t.heap) A) 0 0 A := by
  refine Met.ofW (cc := cX6_isPerson) (maxL := 2) (ret := some .boolean) (by decide) rfl ?_
  intro p e s m args below meth c s₁ B hml hv
  obtain ⟨rfl, hB, hC⟩ := hv
  have F : FX p l c cX6_isPerson s _ m RX6 D A s0 2 meth (some .boolean) := ⟨mk_FP B hml rfl, hC⟩
  have hS : va_S A s.heap s.heap [] := va_S.rf
  have hl := lv_entry ([.ref (ad 0 0 0), .int a1]) (n := 2) (Nat.le_of_ble_eq_true rfl)
  rw [lg_entry_eq]
  generalize (lg_sl ([.ref (ad 0 0 0), .int a1]) ++ List.replicate (2 - (lg_sl ([.ref (ad 0 0 0), .int a1])).length) Slot.unset).toArray = ls at hl ⊢
  exact bX6_isPerson_0 F hB hS hw hl
theorem kX6_X6_isPerson {p : Program} {l : Launch} {e : Env} {R : Room} {s : State} {m : MethodId} {args : Array Value} {below : List Frame} {meth : Method} {c : Code} {H : Heap} {locs : List Loc} {cells slots : Nat} {Q0 : State → Prop} {cc : ByteArray} {pc nL : Nat} {ls : Array Slot} {rest : List Value} {ret : Option FieldType} {D : DD} {A : Nat → Prop} {s0 : State} {ad : AD} {T : TS} {a1 : Int32} {Q : Int32 → TS → Prop} (F : FX p l c cc s args m RX6 D A s0 nL meth ret) (hB : tB D A ad T H) (hS : va_S A s.heap H locs) (hw : wX6_isPerson a1 T Q) (hR : rX6_isPerson.frames + 1 ≤ R.frames ∧ 8 + (2 + 11) + rX6_isPerson.locals ≤ R.locals) (hc : cells + 0 ≤ R.cells ∧ slots + 0 ≤ R.slots) (hsz : ls.size = nL) (hW : (rest.map fun v => v.category).sum ≤ 8) (hdg : decode cc pc = .ok (.invokevirtual 95, 3)) (kk : ∀ (r : Int32) (u : TS) (H1 : Heap) (locs1 : List Loc), Q r u → tB D A ad u H1 → va_S A s.heap H1 locs1 → W p l e R s m args below meth c H1 locs1 cells slots Q0 (F0 m (pc + 3) ls (.int r :: rest))) : W p l e R s m args below meth c H locs cells slots Q0 (F0 m pc ls (.int a1 :: .ref (ad 0 0 0) :: rest)) :=
  k_i (Bw := tB D A ad) (k_runV (Bw := tB D A ad) (n := 1) (As := [.int a1]) F hB hS (t_recv F hB) (mX6_isPerson hw) q1336 q1338 qs42 q92 q1339 (by decide +kernel) hR ⟨rfl, rfl⟩ hc rfl hsz rfl hW hdg) hS kk
def rX6_areTwo : Room := { frames := 2, cells := 0, slots := 0, locals := 46 }
set_option maxHeartbeats 4000000 in
theorem bX6_areTwo_0 {p : Program} {l : Launch} {e : Env} {s : State} {m : MethodId} {args : Array Value} {below : List Frame} {meth : Method} {c : Code} {D : DD} {A : Nat → Prop} {s0 : State} {ad : AD} {Q : Int32 → TS → Prop} {a1 : Int32} {a2 : Int32} {a3 : Int32} {T : TS} {H : Heap} {locs : List Loc} {ls : Array Slot} (F : FX p l c cX6_areTwo s args m RX6 D A s0 4 meth (some .boolean)) (hB : tB D A ad T H) (hS : va_S A s.heap H locs) (hw : wX6_areTwo a1 a2 a3 T Q) (hl : lv_has ls 4 [(0, .ref (ad 0 0 0)), (1, .int a1), (2, .int a2), (3, .int a3)]) : W p l e rX6_areTwo s m args below meth c H locs 0 0 (MQ below (va_Qi Q (fun u t => tB D A ad u t.heap) A) args s 0 0 A) (F0 m 0 ls []) := by
  have hx := F.1.x
  have hb := F.1.b
  unfold wX6_areTwo at hw
  refine lv_aload_n hx hb dX6_areTwo_0 rfl (lv_at hl 0 rfl) ?_
  refine lv_iload_n hx hb dX6_areTwo_1 rfl (lv_at hl 1 rfl) ?_
  refine kX6_X6_isPerson F hB hS hw ⟨Nat.le_of_ble_eq_true rfl, Nat.le_of_ble_eq_true rfl⟩ ⟨Nat.zero_le _, Nat.zero_le _⟩ hl.1 (Nat.le_of_ble_eq_true rfl) dX6_areTwo_2 (fun r1 T2 H locs hw hB hS => ?_)
  refine lv_if_eq (tgt := 35) hx hb dX6_areTwo_5 (by decide) (fun q => ?_) (fun q => ?_)
  · replace hw := hw.1 q
    refine lv_iconst (v := 0) hx hb dX6_areTwo_35 (by decide) ?_
    exact W.zret hx hb F.1.r rfl (fun t ht hW => ⟨⟨_, _, rfl, hw, x_B (Bw := tB D A ad) ht hB⟩, hS.F ht⟩) hS.2.2 dX6_areTwo_36 (hlocks := F.1.k)
  · replace hw := hw.2 q
    refine lv_aload_n hx hb dX6_areTwo_8 rfl (lv_at hl 0 rfl) ?_
    refine lv_iload_n hx hb dX6_areTwo_9 rfl (lv_at hl 2 rfl) ?_
    refine kX6_X6_isPerson F hB hS hw ⟨Nat.le_of_ble_eq_true rfl, Nat.le_of_ble_eq_true rfl⟩ ⟨Nat.zero_le _, Nat.zero_le _⟩ hl.1 (Nat.le_of_ble_eq_true rfl) dX6_areTwo_10 (fun r3 T4 H locs hw hB hS => ?_)
    refine lv_if_eq (tgt := 35) hx hb dX6_areTwo_13 (by decide) (fun q => ?_) (fun q => ?_)
    · replace hw := hw.1 q
      refine lv_iconst (v := 0) hx hb dX6_areTwo_35 (by decide) ?_
      exact W.zret hx hb F.1.r rfl (fun t ht hW => ⟨⟨_, _, rfl, hw, x_B (Bw := tB D A ad) ht hB⟩, hS.F ht⟩) hS.2.2 dX6_areTwo_36 (hlocks := F.1.k)
    · replace hw := hw.2 q
      refine lv_iload_n hx hb dX6_areTwo_16 rfl (lv_at hl 1 rfl) ?_
      refine lv_iload_n hx hb dX6_areTwo_17 rfl (lv_at hl 2 rfl) ?_
      refine lv_icmp_eq (tgt := 35) hx hb dX6_areTwo_18 (by decide) (fun q => ?_) (fun q => ?_)
      · replace hw := hw.1 q
        refine lv_iconst (v := 0) hx hb dX6_areTwo_35 (by decide) ?_
        exact W.zret hx hb F.1.r rfl (fun t ht hW => ⟨⟨_, _, rfl, hw, x_B (Bw := tB D A ad) ht hB⟩, hS.F ht⟩) hS.2.2 dX6_areTwo_36 (hlocks := F.1.k)
      · replace hw := hw.2 q
        refine lv_iload_n hx hb dX6_areTwo_21 rfl (lv_at hl 3 rfl) ?_
        refine lv_i2l hx hb dX6_areTwo_22 rfl ?_
        refine lv_lconst (v := 0) hx hb dX6_areTwo_23 (by decide) ?_
        refine lv_lconst (v := 1) hx hb dX6_areTwo_24 (by decide) ?_
        refine kX6_X6_isIn F.1 hw ⟨Nat.le_of_ble_eq_true rfl, Nat.le_of_ble_eq_true rfl⟩ ⟨Nat.zero_le _, Nat.zero_le _⟩ hl.1 (Nat.le_of_ble_eq_true rfl) dX6_areTwo_25 (fun r5 hw => ?_)
        refine lv_if_eq (tgt := 35) hx hb dX6_areTwo_28 (by decide) (fun q => ?_) (fun q => ?_)
        · replace hw := hw.1 q
          refine lv_iconst (v := 0) hx hb dX6_areTwo_35 (by decide) ?_
          exact W.zret hx hb F.1.r rfl (fun t ht hW => ⟨⟨_, _, rfl, hw, x_B (Bw := tB D A ad) ht hB⟩, hS.F ht⟩) hS.2.2 dX6_areTwo_36 (hlocks := F.1.k)
        · replace hw := hw.2 q
          refine lv_iconst (v := 1) hx hb dX6_areTwo_31 (by decide) ?_
          refine lv_goto (tgt := 36) hx hb dX6_areTwo_32 (by decide) ?_
          exact W.zret hx hb F.1.r rfl (fun t ht hW => ⟨⟨_, _, rfl, hw, x_B (Bw := tB D A ad) ht hB⟩, hS.F ht⟩) hS.2.2 dX6_areTwo_36 (hlocks := F.1.k)
set_option maxHeartbeats 4000000 in
theorem mX6_areTwo {l : Launch} {D : DD} {A : Nat → Prop} {s0 : State} {ad : AD} {T : TS} {a1 : Int32} {a2 : Int32} {a3 : Int32} {Q : Int32 → TS → Prop} (hw : wX6_areTwo a1 a2 a3 T Q) : Met l yX6_areTwo (ws_ yX6_areTwo cX6_areTwo 4 (some .boolean)) rX6_areTwo (va_Pc [.ref (ad 0 0 0), .int a1, .int a2, .int a3] (fun U => tB D A ad T U.heap ∧ CX l D A s0 U)) (va_Qi Q (fun u t => tB D A ad u t.heap) A) 0 0 A := by
  refine Met.ofW (cc := cX6_areTwo) (maxL := 4) (ret := some .boolean) (by decide) rfl ?_
  intro p e s m args below meth c s₁ B hml hv
  obtain ⟨rfl, hB, hC⟩ := hv
  have F : FX p l c cX6_areTwo s _ m RX6 D A s0 4 meth (some .boolean) := ⟨mk_FP B hml rfl, hC⟩
  have hS : va_S A s.heap s.heap [] := va_S.rf
  have hl := lv_entry ([.ref (ad 0 0 0), .int a1, .int a2, .int a3]) (n := 4) (Nat.le_of_ble_eq_true rfl)
  rw [lg_entry_eq]
  generalize (lg_sl ([.ref (ad 0 0 0), .int a1, .int a2, .int a3]) ++ List.replicate (4 - (lg_sl ([.ref (ad 0 0 0), .int a1, .int a2, .int a3])).length) Slot.unset).toArray = ls at hl ⊢
  exact bX6_areTwo_0 F hB hS hw hl
theorem kX6_X6_areTwo {p : Program} {l : Launch} {e : Env} {R : Room} {s : State} {m : MethodId} {args : Array Value} {below : List Frame} {meth : Method} {c : Code} {H : Heap} {locs : List Loc} {cells slots : Nat} {Q0 : State → Prop} {cc : ByteArray} {pc nL : Nat} {ls : Array Slot} {rest : List Value} {ret : Option FieldType} {D : DD} {A : Nat → Prop} {s0 : State} {ad : AD} {T : TS} {a1 : Int32} {a2 : Int32} {a3 : Int32} {Q : Int32 → TS → Prop} (F : FX p l c cc s args m RX6 D A s0 nL meth ret) (hB : tB D A ad T H) (hS : va_S A s.heap H locs) (hw : wX6_areTwo a1 a2 a3 T Q) (hR : rX6_areTwo.frames + 1 ≤ R.frames ∧ 8 + (4 + 11) + rX6_areTwo.locals ≤ R.locals) (hc : cells + 0 ≤ R.cells ∧ slots + 0 ≤ R.slots) (hsz : ls.size = nL) (hW : (rest.map fun v => v.category).sum ≤ 8) (hdg : decode cc pc = .ok (.invokevirtual 119, 3)) (kk : ∀ (r : Int32) (u : TS) (H1 : Heap) (locs1 : List Loc), Q r u → tB D A ad u H1 → va_S A s.heap H1 locs1 → W p l e R s m args below meth c H1 locs1 cells slots Q0 (F0 m (pc + 3) ls (.int r :: rest))) : W p l e R s m args below meth c H locs cells slots Q0 (F0 m pc ls (.int a3 :: .int a2 :: .int a1 :: .ref (ad 0 0 0) :: rest)) :=
  k_i (Bw := tB D A ad) (k_runV (Bw := tB D A ad) (n := 3) (As := [.int a1, .int a2, .int a3]) F hB hS (t_recv F hB) (mX6_areTwo hw) q1392 q1394 qs49 q92 q1395 (by decide +kernel) hR ⟨rfl, rfl⟩ hc rfl hsz rfl hW hdg) hS kk
def rX6_of : Room := { frames := 0, cells := 0, slots := 0, locals := 0 }
set_option maxHeartbeats 4000000 in
theorem bX6_of_0 {p : Program} {l : Launch} {e : Env} {s : State} {m : MethodId} {args : Array Value} {below : List Frame} {meth : Method} {c : Code} {D : DD} {A : Nat → Prop} {s0 : State} {ad : AD} {Q : Int32 → TS → Prop} {a1 : Int32} {a2 : Int32} {T : TS} {H : Heap} {locs : List Loc} {ls : Array Slot} (F : FX p l c cX6_of s args m RX6 D A s0 3 meth (some .int)) (hB : tB D A ad T H) (hS : va_S A s.heap H locs) (hw : wX6_of a1 a2 T Q) (hl : lv_has ls 3 [(0, .ref (ad 0 0 0)), (1, .int a1), (2, .int a2)]) : W p l e rX6_of s m args below meth c H locs 0 0 (MQ below (va_Qi Q (fun u t => tB D A ad u t.heap) A) args s 0 0 A) (F0 m 0 ls []) := by
  have hx := F.1.x
  have hb := F.1.b
  unfold wX6_of at hw
  refine lv_aload_n hx hb dX6_of_0 rfl (lv_at hl 0 rfl) ?_
  refine tg_0 F hB dX6_of_1 ?_
  refine lv_bipush (v := 6) hx hb dX6_of_4 (by decide) ?_
  refine lv_iconst (v := 5) hx hb dX6_of_6 (by decide) ?_
  refine lv_iload_n hx hb dX6_of_7 rfl (lv_at hl 1 rfl) ?_
  refine lv_imul hx hb dX6_of_8 ?_
  refine lv_iadd hx hb dX6_of_9 ?_
  refine lv_iload_n hx hb dX6_of_10 rfl (lv_at hl 2 rfl) ?_
  refine lv_iadd hx hb dX6_of_11 ?_
  obtain ⟨hin, hw⟩ := hw
  refine t_ald F hB (k := 0) rfl hin dX6_of_12 ?_
  exact W.iret hx hb F.1.r (fun t ht hW => ⟨⟨_, _, rfl, hw, x_B (Bw := tB D A ad) ht hB⟩, hS.F ht⟩) hS.2.2 dX6_of_13 (hlocks := F.1.k)
set_option maxHeartbeats 4000000 in
theorem mX6_of {l : Launch} {D : DD} {A : Nat → Prop} {s0 : State} {ad : AD} {T : TS} {a1 : Int32} {a2 : Int32} {Q : Int32 → TS → Prop} (hw : wX6_of a1 a2 T Q) : Met l yX6_of (ws_ yX6_of cX6_of 3 (some .int)) rX6_of (va_Pc [.ref (ad 0 0 0), .int a1, .int a2] (fun U => tB D A ad T U.heap ∧ CX l D A s0 U)) (va_Qi Q (fun u t => tB D A ad u t.heap) A) 0 0 A := by
  refine Met.ofW (cc := cX6_of) (maxL := 3) (ret := some .int) (by decide) rfl ?_
  intro p e s m args below meth c s₁ B hml hv
  obtain ⟨rfl, hB, hC⟩ := hv
  have F : FX p l c cX6_of s _ m RX6 D A s0 3 meth (some .int) := ⟨mk_FP B hml rfl, hC⟩
  have hS : va_S A s.heap s.heap [] := va_S.rf
  have hl := lv_entry ([.ref (ad 0 0 0), .int a1, .int a2]) (n := 3) (Nat.le_of_ble_eq_true rfl)
  rw [lg_entry_eq]
  generalize (lg_sl ([.ref (ad 0 0 0), .int a1, .int a2]) ++ List.replicate (3 - (lg_sl ([.ref (ad 0 0 0), .int a1, .int a2])).length) Slot.unset).toArray = ls at hl ⊢
  exact bX6_of_0 F hB hS hw hl
theorem kX6_X6_of {p : Program} {l : Launch} {e : Env} {R : Room} {s : State} {m : MethodId} {args : Array Value} {below : List Frame} {meth : Method} {c : Code} {H : Heap} {locs : List Loc} {cells slots : Nat} {Q0 : State → Prop} {cc : ByteArray} {pc nL : Nat} {ls : Array Slot} {rest : List Value} {ret : Option FieldType} {D : DD} {A : Nat → Prop} {s0 : State} {ad : AD} {T : TS} {a1 : Int32} {a2 : Int32} {Q : Int32 → TS → Prop} (F : FX p l c cc s args m RX6 D A s0 nL meth ret) (hB : tB D A ad T H) (hS : va_S A s.heap H locs) (hw : wX6_of a1 a2 T Q) (hR : rX6_of.frames + 1 ≤ R.frames ∧ 8 + (3 + 11) + rX6_of.locals ≤ R.locals) (hc : cells + 0 ≤ R.cells ∧ slots + 0 ≤ R.slots) (hsz : ls.size = nL) (hW : (rest.map fun v => v.category).sum ≤ 8) (hdg : decode cc pc = .ok (.invokevirtual 88, 3)) (kk : ∀ (r : Int32) (u : TS) (H1 : Heap) (locs1 : List Loc), Q r u → tB D A ad u H1 → va_S A s.heap H1 locs1 → W p l e R s m args below meth c H1 locs1 cells slots Q0 (F0 m (pc + 3) ls (.int r :: rest))) : W p l e R s m args below meth c H locs cells slots Q0 (F0 m pc ls (.int a2 :: .int a1 :: .ref (ad 0 0 0) :: rest)) :=
  k_i (Bw := tB D A ad) (k_runV (Bw := tB D A ad) (n := 2) (As := [.int a1, .int a2]) F hB hS (t_recv F hB) (mX6_of hw) q1340 q1342 qs43 q92 q1343 (by decide +kernel) hR ⟨rfl, rfl⟩ hc rfl hsz rfl hW hdg) hS kk
def rX6_isOf : Room := { frames := 0, cells := 0, slots := 0, locals := 0 }
set_option maxHeartbeats 4000000 in
theorem bX6_isOf_19 {p : Program} {l : Launch} {e : Env} {s : State} {m : MethodId} {args : Array Value} {below : List Frame} {meth : Method} {c : Code} {Q : Int32 → Prop} {l0 : Int32} {l1 : Int32} {ls : Array Slot} (F : FP p c cX6_isOf s args m RX6 2 meth (some .boolean)) (hw : wX6_isOf_19 l0 l1 Q) (hl : lv_has ls 2 [(0, .int l0), (1, .int l1)]) : W p l e rX6_isOf s m args below meth c s.heap [] 0 0 (MQ below (vp_Si Q) args s 0 0 (fun _ => False)) (F0 m 19 ls []) := by
  have hx := F.x
  have hb := F.b
  unfold wX6_isOf_19 at hw
  refine lv_iload_n hx hb dX6_isOf_19 rfl (lv_at hl 1 rfl) ?_
  refine lv_iconst (v := 2) hx hb dX6_isOf_20 (by decide) ?_
  refine lv_icmp_ne (tgt := 33) hx hb dX6_isOf_21 (by decide) (fun q => ?_) (fun q => ?_)
  · replace hw := hw.2 q
    refine lv_iconst (v := 0) hx hb dX6_isOf_33 (by decide) ?_
    exact W.zret hx hb F.r rfl (fun t ht hW => ⟨_, rfl, hw, ht⟩) (fun _ h => absurd h List.not_mem_nil) dX6_isOf_34 (hlocks := F.k)
  · replace hw := hw.1 q
    refine lv_iload_n hx hb dX6_isOf_24 rfl (lv_at hl 0 rfl) ?_
    refine lv_iconst (v := 4) hx hb dX6_isOf_25 (by decide) ?_
    refine lv_icmp_ne (tgt := 33) hx hb dX6_isOf_26 (by decide) (fun q => ?_) (fun q => ?_)
    · replace hw := hw.2 q
      refine lv_iconst (v := 0) hx hb dX6_isOf_33 (by decide) ?_
      exact W.zret hx hb F.r rfl (fun t ht hW => ⟨_, rfl, hw, ht⟩) (fun _ h => absurd h List.not_mem_nil) dX6_isOf_34 (hlocks := F.k)
    · replace hw := hw.1 q
      refine lv_iconst (v := 1) hx hb dX6_isOf_29 (by decide) ?_
      refine lv_goto (tgt := 34) hx hb dX6_isOf_30 (by decide) ?_
      exact W.zret hx hb F.r rfl (fun t ht hW => ⟨_, rfl, hw, ht⟩) (fun _ h => absurd h List.not_mem_nil) dX6_isOf_34 (hlocks := F.k)
set_option maxHeartbeats 4000000 in
theorem bX6_isOf_0 {p : Program} {l : Launch} {e : Env} {s : State} {m : MethodId} {args : Array Value} {below : List Frame} {meth : Method} {c : Code} {Q : Int32 → Prop} {a0 : Int32} {a1 : Int32} {ls : Array Slot} (F : FP p c cX6_isOf s args m RX6 2 meth (some .boolean)) (hw : wX6_isOf a0 a1 Q) (hl : lv_has ls 2 [(0, .int a0), (1, .int a1)]) : W p l e rX6_isOf s m args below meth c s.heap [] 0 0 (MQ below (vp_Si Q) args s 0 0 (fun _ => False)) (F0 m 0 ls []) := by
  have hx := F.x
  have hb := F.b
  unfold wX6_isOf at hw
  refine lv_iload_n hx hb dX6_isOf_0 rfl (lv_at hl 0 rfl) ?_
  refine lv_iload_n hx hb dX6_isOf_1 rfl (lv_at hl 1 rfl) ?_
  refine lv_icmp_eq (tgt := 29) hx hb dX6_isOf_2 (by decide) (fun q => ?_) (fun q => ?_)
  · replace hw := hw.1 q
    refine lv_iconst (v := 1) hx hb dX6_isOf_29 (by decide) ?_
    refine lv_goto (tgt := 34) hx hb dX6_isOf_30 (by decide) ?_
    exact W.zret hx hb F.r rfl (fun t ht hW => ⟨_, rfl, hw, ht⟩) (fun _ h => absurd h List.not_mem_nil) dX6_isOf_34 (hlocks := F.k)
  · replace hw := hw.2 q
    refine lv_iload_n hx hb dX6_isOf_5 rfl (lv_at hl 1 rfl) ?_
    refine lv_if_eq (tgt := 29) hx hb dX6_isOf_6 (by decide) (fun q => ?_) (fun q => ?_)
    · replace hw := hw.1 q
      refine lv_iconst (v := 1) hx hb dX6_isOf_29 (by decide) ?_
      refine lv_goto (tgt := 34) hx hb dX6_isOf_30 (by decide) ?_
      exact W.zret hx hb F.r rfl (fun t ht hW => ⟨_, rfl, hw, ht⟩) (fun _ h => absurd h List.not_mem_nil) dX6_isOf_34 (hlocks := F.k)
    · replace hw := hw.2 q
      refine lv_iload_n hx hb dX6_isOf_9 rfl (lv_at hl 1 rfl) ?_
      refine lv_iconst (v := 1) hx hb dX6_isOf_10 (by decide) ?_
      refine lv_icmp_ne (tgt := 19) hx hb dX6_isOf_11 (by decide) (fun q => ?_) (fun q => ?_)
      · replace hw := hw.2 q
        exact bX6_isOf_19 F hw hl
      · replace hw := hw.1 q
        refine lv_iload_n hx hb dX6_isOf_14 rfl (lv_at hl 0 rfl) ?_
        refine lv_iconst (v := 3) hx hb dX6_isOf_15 (by decide) ?_
        refine lv_icmp_eq (tgt := 29) hx hb dX6_isOf_16 (by decide) (fun q => ?_) (fun q => ?_)
        · replace hw := hw.1 q
          refine lv_iconst (v := 1) hx hb dX6_isOf_29 (by decide) ?_
          refine lv_goto (tgt := 34) hx hb dX6_isOf_30 (by decide) ?_
          exact W.zret hx hb F.r rfl (fun t ht hW => ⟨_, rfl, hw, ht⟩) (fun _ h => absurd h List.not_mem_nil) dX6_isOf_34 (hlocks := F.k)
        · replace hw := hw.2 q
          exact bX6_isOf_19 F hw hl
set_option maxHeartbeats 4000000 in
theorem mX6_isOf {l : Launch}  {a0 : Int32} {a1 : Int32} {Q : Int32 → Prop} (hw : wX6_isOf a0 a1 Q) : Met l yX6_isOf (ws_ yX6_isOf cX6_isOf 2 (some .boolean)) rX6_isOf (va_Pc [.int a0, .int a1] (fun _ => True)) (vp_Si Q) 0 0 (fun _ => False) := by
  refine Met.ofW (cc := cX6_isOf) (maxL := 2) (ret := some .boolean) (by decide) rfl ?_
  intro p e s m args below meth c s₁ B hml hv
  obtain ⟨rfl, -⟩ := hv
  have F : FP p c cX6_isOf s _ m RX6 2 meth (some .boolean) := mk_FP B hml rfl
  have hl := lv_entry ([.int a0, .int a1]) (n := 2) (Nat.le_of_ble_eq_true rfl)
  rw [lg_entry_eq]
  generalize (lg_sl ([.int a0, .int a1]) ++ List.replicate (2 - (lg_sl ([.int a0, .int a1])).length) Slot.unset).toArray = ls at hl ⊢
  exact bX6_isOf_0 F hw hl
theorem kX6_X6_isOf {p : Program} {l : Launch} {e : Env} {R : Room} {s : State} {m : MethodId} {args : Array Value} {below : List Frame} {meth : Method} {c : Code} {H : Heap} {locs : List Loc} {cells slots : Nat} {Q0 : State → Prop} {cc : ByteArray} {pc nL : Nat} {ls : Array Slot} {rest : List Value} {ret : Option FieldType} {a0 : Int32} {a1 : Int32} {Q : Int32 → Prop} (F : FP p c cc s args m RX6 nL meth ret) (hw : wX6_isOf a0 a1 Q) (hR : rX6_isOf.frames + 1 ≤ R.frames ∧ 8 + (2 + 11) + rX6_isOf.locals ≤ R.locals) (hc : cells ≤ R.cells ∧ slots ≤ R.slots) (hsz : ls.size = nL) (hW : (rest.map fun v => v.category).sum ≤ 8) (hdg : decode cc pc = .ok (.invokestatic 105, 3)) (kk : ∀ r : Int32, Q r → W p l e R s m args below meth c H locs cells slots Q0 (F0 m (pc + 3) ls (.int r :: rest))) : W p l e R s m args below meth c H locs cells slots Q0 (F0 m pc ls (.int a1 :: .int a0 :: rest)) :=
  k_csi (k_runP (n := 2) (As := [.int a0, .int a1]) F (mX6_isOf hw) q1363 q1364 q92 q1365 (by decide +kernel) hR ⟨rfl, rfl⟩ hc rfl hsz rfl hW hdg) kk
def rX6_as : Room := { frames := 2, cells := 0, slots := 0, locals := 46 }
set_option maxHeartbeats 4000000 in
theorem bX6_as_0 {p : Program} {l : Launch} {e : Env} {s : State} {m : MethodId} {args : Array Value} {below : List Frame} {meth : Method} {c : Code} {D : DD} {A : Nat → Prop} {s0 : State} {ad : AD} {Q : Int32 → TS → Prop} {a1 : Int32} {a2 : Int32} {T : TS} {H : Heap} {locs : List Loc} {ls : Array Slot} (F : FX p l c cX6_as s args m RX6 D A s0 3 meth (some .int)) (hB : tB D A ad T H) (hS : va_S A s.heap H locs) (hw : wX6_as a1 a2 T Q) (hl : lv_has ls 3 [(0, .ref (ad 0 0 0)), (1, .int a1), (2, .int a2)]) : W p l e rX6_as s m args below meth c H locs 0 0 (MQ below (va_Qi Q (fun u t => tB D A ad u t.heap) A) args s 0 0 A) (F0 m 0 ls []) := by
  have hx := F.1.x
  have hb := F.1.b
  unfold wX6_as at hw
  refine lv_aload_n hx hb dX6_as_0 rfl (lv_at hl 0 rfl) ?_
  refine lv_iload_n hx hb dX6_as_1 rfl (lv_at hl 1 rfl) ?_
  refine kX6_X6_isPerson F hB hS hw ⟨Nat.le_of_ble_eq_true rfl, Nat.le_of_ble_eq_true rfl⟩ ⟨Nat.zero_le _, Nat.zero_le _⟩ hl.1 (Nat.le_of_ble_eq_true rfl) dX6_as_2 (fun r1 T2 H locs hw hB hS => ?_)
  refine lv_if_eq (tgt := 20) hx hb dX6_as_5 (by decide) (fun q => ?_) (fun q => ?_)
  · replace hw := hw.1 q
    refine lv_ldc hx hb F.1.o (F.1.t _ q1326) dX6_as_20 ?_
    exact W.iret hx hb F.1.r (fun t ht hW => ⟨⟨_, _, rfl, hw, x_B (Bw := tB D A ad) ht hB⟩, hS.F ht⟩) hS.2.2 dX6_as_22 (hlocks := F.1.k)
  · replace hw := hw.2 q
    refine lv_iload_n hx hb dX6_as_8 rfl (lv_at hl 2 rfl) ?_
    refine lv_i2l hx hb dX6_as_9 rfl ?_
    refine lv_lconst (v := 0) hx hb dX6_as_10 (by decide) ?_
    refine lv_ldc2 hx hb F.1.o (F.1.t _ q1321) dX6_as_11 ?_
    refine kX6_X6_isIn F.1 hw ⟨Nat.le_of_ble_eq_true rfl, Nat.le_of_ble_eq_true rfl⟩ ⟨Nat.zero_le _, Nat.zero_le _⟩ hl.1 (Nat.le_of_ble_eq_true rfl) dX6_as_14 (fun r3 hw => ?_)
    refine lv_if_ne (tgt := 23) hx hb dX6_as_17 (by decide) (fun q => ?_) (fun q => ?_)
    · replace hw := hw.2 q
      refine lv_aload_n hx hb dX6_as_23 rfl (lv_at hl 0 rfl) ?_
      refine lv_iload_n hx hb dX6_as_24 rfl (lv_at hl 1 rfl) ?_
      refine lv_iconst (v := 0) hx hb dX6_as_25 (by decide) ?_
      refine kX6_X6_of F hB hS hw ⟨Nat.le_of_ble_eq_true rfl, Nat.le_of_ble_eq_true rfl⟩ ⟨Nat.zero_le _, Nat.zero_le _⟩ hl.1 (Nat.le_of_ble_eq_true rfl) dX6_as_26 (fun r4 T5 H locs hw hB hS => ?_)
      refine lv_iload_n hx hb dX6_as_29 rfl (lv_at hl 2 rfl) ?_
      refine kX6_X6_isOf F.1 hw ⟨Nat.le_of_ble_eq_true rfl, Nat.le_of_ble_eq_true rfl⟩ ⟨Nat.zero_le _, Nat.zero_le _⟩ hl.1 (Nat.le_of_ble_eq_true rfl) dX6_as_30 (fun r6 hw => ?_)
      refine lv_if_eq (tgt := 45) hx hb dX6_as_33 (by decide) (fun q => ?_) (fun q => ?_)
      · replace hw := hw.1 q
        refine lv_ldc hx hb F.1.o (F.1.t _ q1366) dX6_as_45 ?_
        exact W.iret hx hb F.1.r (fun t ht hW => ⟨⟨_, _, rfl, hw, x_B (Bw := tB D A ad) ht hB⟩, hS.F ht⟩) hS.2.2 dX6_as_47 (hlocks := F.1.k)
      · replace hw := hw.2 q
        refine lv_aload_n hx hb dX6_as_36 rfl (lv_at hl 0 rfl) ?_
        refine lv_iload_n hx hb dX6_as_37 rfl (lv_at hl 1 rfl) ?_
        refine lv_iconst (v := 1) hx hb dX6_as_38 (by decide) ?_
        refine kX6_X6_of F hB hS hw ⟨Nat.le_of_ble_eq_true rfl, Nat.le_of_ble_eq_true rfl⟩ ⟨Nat.zero_le _, Nat.zero_le _⟩ hl.1 (Nat.le_of_ble_eq_true rfl) dX6_as_39 (fun r7 T8 H locs hw hB hS => ?_)
        refine lv_goto (tgt := 47) hx hb dX6_as_42 (by decide) ?_
        exact W.iret hx hb F.1.r (fun t ht hW => ⟨⟨_, _, rfl, hw, x_B (Bw := tB D A ad) ht hB⟩, hS.F ht⟩) hS.2.2 dX6_as_47 (hlocks := F.1.k)
    · replace hw := hw.1 q
      refine lv_ldc hx hb F.1.o (F.1.t _ q1326) dX6_as_20 ?_
      exact W.iret hx hb F.1.r (fun t ht hW => ⟨⟨_, _, rfl, hw, x_B (Bw := tB D A ad) ht hB⟩, hS.F ht⟩) hS.2.2 dX6_as_22 (hlocks := F.1.k)
set_option maxHeartbeats 4000000 in
theorem mX6_as {l : Launch} {D : DD} {A : Nat → Prop} {s0 : State} {ad : AD} {T : TS} {a1 : Int32} {a2 : Int32} {Q : Int32 → TS → Prop} (hw : wX6_as a1 a2 T Q) : Met l yX6_as (ws_ yX6_as cX6_as 3 (some .int)) rX6_as (va_Pc [.ref (ad 0 0 0), .int a1, .int a2] (fun U => tB D A ad T U.heap ∧ CX l D A s0 U)) (va_Qi Q (fun u t => tB D A ad u t.heap) A) 0 0 A := by
  refine Met.ofW (cc := cX6_as) (maxL := 3) (ret := some .int) (by decide) rfl ?_
  intro p e s m args below meth c s₁ B hml hv
  obtain ⟨rfl, hB, hC⟩ := hv
  have F : FX p l c cX6_as s _ m RX6 D A s0 3 meth (some .int) := ⟨mk_FP B hml rfl, hC⟩
  have hS : va_S A s.heap s.heap [] := va_S.rf
  have hl := lv_entry ([.ref (ad 0 0 0), .int a1, .int a2]) (n := 3) (Nat.le_of_ble_eq_true rfl)
  rw [lg_entry_eq]
  generalize (lg_sl ([.ref (ad 0 0 0), .int a1, .int a2]) ++ List.replicate (3 - (lg_sl ([.ref (ad 0 0 0), .int a1, .int a2])).length) Slot.unset).toArray = ls at hl ⊢
  exact bX6_as_0 F hB hS hw hl
def rX6_isSlot : Room := { frames := 1, cells := 0, slots := 0, locals := 25 }
set_option maxHeartbeats 4000000 in
theorem bX6_isSlot_0 {p : Program} {l : Launch} {e : Env} {s : State} {m : MethodId} {args : Array Value} {below : List Frame} {meth : Method} {c : Code} {Q : Int32 → Prop} {a0 : Int32} {ls : Array Slot} (F : FP p c cX6_isSlot s args m RX6 1 meth (some .boolean)) (hw : wX6_isSlot a0 Q) (hl : lv_has ls 1 [(0, .int a0)]) : W p l e rX6_isSlot s m args below meth c s.heap [] 0 0 (MQ below (vp_Si Q) args s 0 0 (fun _ => False)) (F0 m 0 ls []) := by
  have hx := F.x
  have hb := F.b
  unfold wX6_isSlot at hw
  refine lv_iload_n hx hb dX6_isSlot_0 rfl (lv_at hl 0 rfl) ?_
  refine lv_i2l hx hb dX6_isSlot_1 rfl ?_
  refine lv_lconst (v := 0) hx hb dX6_isSlot_2 (by decide) ?_
  refine lv_ldc2 hx hb F.o (F.t _ q1469) dX6_isSlot_3 ?_
  refine kX6_X6_isIn F hw ⟨Nat.le_of_ble_eq_true rfl, Nat.le_of_ble_eq_true rfl⟩ ⟨Nat.zero_le _, Nat.zero_le _⟩ hl.1 (Nat.le_of_ble_eq_true rfl) dX6_isSlot_6 (fun r1 hw => ?_)
  obtain ⟨hn, hw⟩ := hw
  exact W.zret hx hb F.r hn (fun t ht hW => ⟨_, rfl, hw, ht⟩) (fun _ h => absurd h List.not_mem_nil) dX6_isSlot_9 (hlocks := F.k)
set_option maxHeartbeats 4000000 in
theorem mX6_isSlot {l : Launch}  {a0 : Int32} {Q : Int32 → Prop} (hw : wX6_isSlot a0 Q) : Met l yX6_isSlot (ws_ yX6_isSlot cX6_isSlot 1 (some .boolean)) rX6_isSlot (va_Pc [.int a0] (fun _ => True)) (vp_Si Q) 0 0 (fun _ => False) := by
  refine Met.ofW (cc := cX6_isSlot) (maxL := 1) (ret := some .boolean) (by decide) rfl ?_
  intro p e s m args below meth c s₁ B hml hv
  obtain ⟨rfl, -⟩ := hv
  have F : FP p c cX6_isSlot s _ m RX6 1 meth (some .boolean) := mk_FP B hml rfl
  have hl := lv_entry ([.int a0]) (n := 1) (Nat.le_of_ble_eq_true rfl)
  rw [lg_entry_eq]
  generalize (lg_sl ([.int a0]) ++ List.replicate (1 - (lg_sl ([.int a0])).length) Slot.unset).toArray = ls at hl ⊢
  exact bX6_isSlot_0 F hw hl
theorem kX6_X6_isSlot {p : Program} {l : Launch} {e : Env} {R : Room} {s : State} {m : MethodId} {args : Array Value} {below : List Frame} {meth : Method} {c : Code} {H : Heap} {locs : List Loc} {cells slots : Nat} {Q0 : State → Prop} {cc : ByteArray} {pc nL : Nat} {ls : Array Slot} {rest : List Value} {ret : Option FieldType} {a0 : Int32} {Q : Int32 → Prop} (F : FP p c cc s args m RX6 nL meth ret) (hw : wX6_isSlot a0 Q) (hR : rX6_isSlot.frames + 1 ≤ R.frames ∧ 8 + (1 + 11) + rX6_isSlot.locals ≤ R.locals) (hc : cells ≤ R.cells ∧ slots ≤ R.slots) (hsz : ls.size = nL) (hW : (rest.map fun v => v.category).sum ≤ 8) (hdg : decode cc pc = .ok (.invokestatic 303, 3)) (kk : ∀ r : Int32, Q r → W p l e R s m args below meth c H locs cells slots Q0 (F0 m (pc + 3) ls (.int r :: rest))) : W p l e R s m args below meth c H locs cells slots Q0 (F0 m pc ls (.int a0 :: rest)) :=
  k_csi (k_runP (n := 1) (As := [.int a0]) F (mX6_isSlot hw) q1669 q1670 q92 q1671 (by decide +kernel) hR ⟨rfl, rfl⟩ hc rfl hsz rfl hW hdg) kk
def rX6_ask : Room := { frames := 2, cells := 0, slots := 0, locals := 45 }
set_option maxHeartbeats 4000000 in
theorem bX6_ask_0 {p : Program} {l : Launch} {e : Env} {s : State} {m : MethodId} {args : Array Value} {below : List Frame} {meth : Method} {c : Code} {D : DD} {A : Nat → Prop} {s0 : State} {ad : AD} {Q : Int32 → TS → Prop} {a1 : Int32} {a2 : Int32} {T : TS} {H : Heap} {locs : List Loc} {ls : Array Slot} (F : FX p l c cX6_ask s args m RX6 D A s0 3 meth (some .int)) (hB : tB D A ad T H) (hS : va_S A s.heap H locs) (hw : wX6_ask a1 a2 T Q) (hl : lv_has ls 3 [(0, .ref (ad 0 0 0)), (1, .int a1), (2, .int a2)]) : W p l e rX6_ask s m args below meth c H locs 0 0 (MQ below (va_Qi Q (fun u t => tB D A ad u t.heap) A) args s 0 0 A) (F0 m 0 ls []) := by
  have hx := F.1.x
  have hb := F.1.b
  unfold wX6_ask at hw
  refine lv_iload_n hx hb dX6_ask_0 rfl (lv_at hl 1 rfl) ?_
  refine kX6_X6_isSlot F.1 hw ⟨Nat.le_of_ble_eq_true rfl, Nat.le_of_ble_eq_true rfl⟩ ⟨Nat.zero_le _, Nat.zero_le _⟩ hl.1 (Nat.le_of_ble_eq_true rfl) dX6_ask_1 (fun r1 hw => ?_)
  refine lv_if_eq (tgt := 19) hx hb dX6_ask_4 (by decide) (fun q => ?_) (fun q => ?_)
  · replace hw := hw.1 q
    refine lv_ldc hx hb F.1.o (F.1.t _ q1326) dX6_ask_19 ?_
    exact W.iret hx hb F.1.r (fun t ht hW => ⟨⟨_, _, rfl, hw, x_B (Bw := tB D A ad) ht hB⟩, hS.F ht⟩) hS.2.2 dX6_ask_21 (hlocks := F.1.k)
  · replace hw := hw.2 q
    refine lv_iload_n hx hb dX6_ask_7 rfl (lv_at hl 2 rfl) ?_
    refine lv_i2l hx hb dX6_ask_8 rfl ?_
    refine lv_lconst (v := 0) hx hb dX6_ask_9 (by decide) ?_
    refine lv_ldc2 hx hb F.1.o (F.1.t _ q1321) dX6_ask_10 ?_
    refine kX6_X6_isIn F.1 hw ⟨Nat.le_of_ble_eq_true rfl, Nat.le_of_ble_eq_true rfl⟩ ⟨Nat.zero_le _, Nat.zero_le _⟩ hl.1 (Nat.le_of_ble_eq_true rfl) dX6_ask_13 (fun r2 hw => ?_)
    refine lv_if_ne (tgt := 22) hx hb dX6_ask_16 (by decide) (fun q => ?_) (fun q => ?_)
    · replace hw := hw.2 q
      refine lv_aload_n hx hb dX6_ask_22 rfl (lv_at hl 0 rfl) ?_
      refine tg_7 F hB dX6_ask_23 ?_
      refine lv_iload_n hx hb dX6_ask_26 rfl (lv_at hl 1 rfl) ?_
      obtain ⟨hin, hw⟩ := hw
      refine t_ald F hB (k := 7) rfl hin dX6_ask_27 ?_
      refine lv_if_ne (tgt := 35) hx hb dX6_ask_28 (by decide) (fun q => ?_) (fun q => ?_)
      · replace hw := hw.2 q
        refine lv_aload_n hx hb dX6_ask_35 rfl (lv_at hl 0 rfl) ?_
        refine tg_7 F hB dX6_ask_36 ?_
        refine lv_iload_n hx hb dX6_ask_39 rfl (lv_at hl 1 rfl) ?_
        obtain ⟨hin, hw⟩ := hw
        refine t_ald F hB (k := 7) rfl hin dX6_ask_40 ?_
        refine lv_iconst (v := 1) hx hb dX6_ask_41 (by decide) ?_
        refine lv_icmp_ne (tgt := 67) hx hb dX6_ask_42 (by decide) (fun q => ?_) (fun q => ?_)
        · replace hw := hw.2 q
          refine lv_ldc hx hb F.1.o (F.1.t _ q1366) dX6_ask_67 ?_
          exact W.iret hx hb F.1.r (fun t ht hW => ⟨⟨_, _, rfl, hw, x_B (Bw := tB D A ad) ht hB⟩, hS.F ht⟩) hS.2.2 dX6_ask_69 (hlocks := F.1.k)
        · replace hw := hw.1 q
          refine lv_aload_n hx hb dX6_ask_45 rfl (lv_at hl 0 rfl) ?_
          refine tg_8 F hB dX6_ask_46 ?_
          refine lv_iload_n hx hb dX6_ask_49 rfl (lv_at hl 1 rfl) ?_
          obtain ⟨hin, hw⟩ := hw
          refine t_ald F hB (k := 8) rfl hin dX6_ask_50 ?_
          refine lv_iload_n hx hb dX6_ask_51 rfl (lv_at hl 2 rfl) ?_
          refine kX6_X6_isOf F.1 hw ⟨Nat.le_of_ble_eq_true rfl, Nat.le_of_ble_eq_true rfl⟩ ⟨Nat.zero_le _, Nat.zero_le _⟩ hl.1 (Nat.le_of_ble_eq_true rfl) dX6_ask_52 (fun r3 hw => ?_)
          refine lv_if_eq (tgt := 67) hx hb dX6_ask_55 (by decide) (fun q => ?_) (fun q => ?_)
          · replace hw := hw.1 q
            refine lv_ldc hx hb F.1.o (F.1.t _ q1366) dX6_ask_67 ?_
            exact W.iret hx hb F.1.r (fun t ht hW => ⟨⟨_, _, rfl, hw, x_B (Bw := tB D A ad) ht hB⟩, hS.F ht⟩) hS.2.2 dX6_ask_69 (hlocks := F.1.k)
          · replace hw := hw.2 q
            refine lv_aload_n hx hb dX6_ask_58 rfl (lv_at hl 0 rfl) ?_
            refine tg_9 F hB dX6_ask_59 ?_
            refine lv_iload_n hx hb dX6_ask_62 rfl (lv_at hl 1 rfl) ?_
            obtain ⟨hin, hw⟩ := hw
            refine t_ald F hB (k := 9) rfl hin dX6_ask_63 ?_
            refine lv_goto (tgt := 69) hx hb dX6_ask_64 (by decide) ?_
            exact W.iret hx hb F.1.r (fun t ht hW => ⟨⟨_, _, rfl, hw, x_B (Bw := tB D A ad) ht hB⟩, hS.F ht⟩) hS.2.2 dX6_ask_69 (hlocks := F.1.k)
      · replace hw := hw.1 q
        refine lv_ldcw hx hb F.1.o (F.1.t _ q1649) dX6_ask_31 ?_
        exact W.iret hx hb F.1.r (fun t ht hW => ⟨⟨_, _, rfl, hw, x_B (Bw := tB D A ad) ht hB⟩, hS.F ht⟩) hS.2.2 dX6_ask_34 (hlocks := F.1.k)
    · replace hw := hw.1 q
      refine lv_ldc hx hb F.1.o (F.1.t _ q1326) dX6_ask_19 ?_
      exact W.iret hx hb F.1.r (fun t ht hW => ⟨⟨_, _, rfl, hw, x_B (Bw := tB D A ad) ht hB⟩, hS.F ht⟩) hS.2.2 dX6_ask_21 (hlocks := F.1.k)
set_option maxHeartbeats 4000000 in
theorem mX6_ask {l : Launch} {D : DD} {A : Nat → Prop} {s0 : State} {ad : AD} {T : TS} {a1 : Int32} {a2 : Int32} {Q : Int32 → TS → Prop} (hw : wX6_ask a1 a2 T Q) : Met l yX6_ask (ws_ yX6_ask cX6_ask 3 (some .int)) rX6_ask (va_Pc [.ref (ad 0 0 0), .int a1, .int a2] (fun U => tB D A ad T U.heap ∧ CX l D A s0 U)) (va_Qi Q (fun u t => tB D A ad u t.heap) A) 0 0 A := by
  refine Met.ofW (cc := cX6_ask) (maxL := 3) (ret := some .int) (by decide) rfl ?_
  intro p e s m args below meth c s₁ B hml hv
  obtain ⟨rfl, hB, hC⟩ := hv
  have F : FX p l c cX6_ask s _ m RX6 D A s0 3 meth (some .int) := ⟨mk_FP B hml rfl, hC⟩
  have hS : va_S A s.heap s.heap [] := va_S.rf
  have hl := lv_entry ([.ref (ad 0 0 0), .int a1, .int a2]) (n := 3) (Nat.le_of_ble_eq_true rfl)
  rw [lg_entry_eq]
  generalize (lg_sl ([.ref (ad 0 0 0), .int a1, .int a2]) ++ List.replicate (3 - (lg_sl ([.ref (ad 0 0 0), .int a1, .int a2])).length) Slot.unset).toArray = ls at hl ⊢
  exact bX6_ask_0 F hB hS hw hl
def rX6_bitBecomes : Room := { frames := 0, cells := 0, slots := 0, locals := 0 }
set_option maxHeartbeats 4000000 in
theorem bX6_bitBecomes_0 {p : Program} {l : Launch} {e : Env} {s : State} {m : MethodId} {args : Array Value} {below : List Frame} {meth : Method} {c : Code} {D : DD} {A : Nat → Prop} {s0 : State} {ad : AD} {Q : Int32 → TS → Prop} {a1 : Int32} {a2 : Int32} {a3 : Int32} {T : TS} {H : Heap} {locs : List Loc} {ls : Array Slot} (F : FX p l c cX6_bitBecomes s args m RX6 D A s0 5 meth (some .int)) (hB : tB D A ad T H) (hS : va_S A s.heap H locs) (hw : wX6_bitBecomes a1 a2 a3 T Q) (hl : lv_has ls 5 [(0, .ref (ad 0 0 0)), (1, .int a1), (2, .int a2), (3, .int a3)]) : W p l e rX6_bitBecomes s m args below meth c H locs 0 0 (MQ below (va_Qi Q (fun u t => tB D A ad u t.heap) A) args s 0 0 A) (F0 m 0 ls []) := by
  have hx := F.1.x
  have hb := F.1.b
  unfold wX6_bitBecomes at hw
  refine lv_aload_n hx hb dX6_bitBecomes_0 rfl (lv_at hl 0 rfl) ?_
  refine tg_0 F hB dX6_bitBecomes_1 ?_
  refine lv_iload_n hx hb dX6_bitBecomes_4 rfl (lv_at hl 1 rfl) ?_
  obtain ⟨hin, hw⟩ := hw
  refine t_ald F hB (k := 0) rfl hin dX6_bitBecomes_5 ?_
  refine lv_iload_n hx hb dX6_bitBecomes_6 rfl (lv_at hl 2 rfl) ?_
  refine lv_ishr hx hb dX6_bitBecomes_7 ?_
  refine lv_iconst (v := 1) hx hb dX6_bitBecomes_8 (by decide) ?_
  refine lv_iand hx hb dX6_bitBecomes_9 ?_
  refine lv_istore (lv' := [(4, .int (((T.2 0 a1.toNatClampNeg) >>> (a2 &&& 31)) &&& (1 : Int32))), (0, .ref (ad 0 0 0)), (1, .int a1), (2, .int a2), (3, .int a3)]) hx hb dX6_bitBecomes_10 hl (by decide) rfl (fun ls hl => ?_)
  refine lv_aload_n hx hb dX6_bitBecomes_12 rfl (lv_at hl 1 rfl) ?_
  refine tg_0 F hB dX6_bitBecomes_13 ?_
  refine lv_iload_n hx hb dX6_bitBecomes_16 rfl (lv_at hl 2 rfl) ?_
  refine lv_dup2_11 hx hb dX6_bitBecomes_17 rfl rfl ?_
  obtain ⟨hin, hw⟩ := hw
  refine t_ald F hB (k := 0) rfl hin dX6_bitBecomes_18 ?_
  refine lv_iload hx hb dX6_bitBecomes_19 (lv_at hl 0 rfl) ?_
  refine lv_iload_n hx hb dX6_bitBecomes_21 rfl (lv_at hl 4 rfl) ?_
  refine lv_ixor hx hb dX6_bitBecomes_22 ?_
  refine lv_iload_n hx hb dX6_bitBecomes_23 rfl (lv_at hl 3 rfl) ?_
  refine lv_ishl hx hb dX6_bitBecomes_24 ?_
  refine lv_ixor hx hb dX6_bitBecomes_25 ?_
  obtain ⟨hin, hw⟩ := hw
  refine t_ast F hB hS (k := 0) rfl hin dX6_bitBecomes_26 (fun H locs hB hS => ?_)
  refine lv_iload hx hb dX6_bitBecomes_27 (lv_at hl 0 rfl) ?_
  exact W.iret hx hb F.1.r (fun t ht hW => ⟨⟨_, _, rfl, hw, x_B (Bw := tB D A ad) ht hB⟩, hS.F ht⟩) hS.2.2 dX6_bitBecomes_29 (hlocks := F.1.k)
set_option maxHeartbeats 4000000 in
theorem mX6_bitBecomes {l : Launch} {D : DD} {A : Nat → Prop} {s0 : State} {ad : AD} {T : TS} {a1 : Int32} {a2 : Int32} {a3 : Int32} {Q : Int32 → TS → Prop} (hw : wX6_bitBecomes a1 a2 a3 T Q) : Met l yX6_bitBecomes (ws_ yX6_bitBecomes cX6_bitBecomes 5 (some .int)) rX6_bitBecomes (va_Pc [.ref (ad 0 0 0), .int a1, .int a2, .int a3] (fun U => tB D A ad T U.heap ∧ CX l D A s0 U)) (va_Qi Q (fun u t => tB D A ad u t.heap) A) 0 0 A := by
  refine Met.ofW (cc := cX6_bitBecomes) (maxL := 5) (ret := some .int) (by decide) rfl ?_
  intro p e s m args below meth c s₁ B hml hv
  obtain ⟨rfl, hB, hC⟩ := hv
  have F : FX p l c cX6_bitBecomes s _ m RX6 D A s0 5 meth (some .int) := ⟨mk_FP B hml rfl, hC⟩
  have hS : va_S A s.heap s.heap [] := va_S.rf
  have hl := lv_entry ([.ref (ad 0 0 0), .int a1, .int a2, .int a3]) (n := 5) (Nat.le_of_ble_eq_true rfl)
  rw [lg_entry_eq]
  generalize (lg_sl ([.ref (ad 0 0 0), .int a1, .int a2, .int a3]) ++ List.replicate (5 - (lg_sl ([.ref (ad 0 0 0), .int a1, .int a2, .int a3])).length) Slot.unset).toArray = ls at hl ⊢
  exact bX6_bitBecomes_0 F hB hS hw hl
theorem kX6_X6_bitBecomes {p : Program} {l : Launch} {e : Env} {R : Room} {s : State} {m : MethodId} {args : Array Value} {below : List Frame} {meth : Method} {c : Code} {H : Heap} {locs : List Loc} {cells slots : Nat} {Q0 : State → Prop} {cc : ByteArray} {pc nL : Nat} {ls : Array Slot} {rest : List Value} {ret : Option FieldType} {D : DD} {A : Nat → Prop} {s0 : State} {ad : AD} {T : TS} {a1 : Int32} {a2 : Int32} {a3 : Int32} {Q : Int32 → TS → Prop} (F : FX p l c cc s args m RX6 D A s0 nL meth ret) (hB : tB D A ad T H) (hS : va_S A s.heap H locs) (hw : wX6_bitBecomes a1 a2 a3 T Q) (hR : rX6_bitBecomes.frames + 1 ≤ R.frames ∧ 8 + (5 + 11) + rX6_bitBecomes.locals ≤ R.locals) (hc : cells + 0 ≤ R.cells ∧ slots + 0 ≤ R.slots) (hsz : ls.size = nL) (hW : (rest.map fun v => v.category).sum ≤ 8) (hdg : decode cc pc = .ok (.invokevirtual 115, 3)) (kk : ∀ (r : Int32) (u : TS) (H1 : Heap) (locs1 : List Loc), Q r u → tB D A ad u H1 → va_S A s.heap H1 locs1 → W p l e R s m args below meth c H1 locs1 cells slots Q0 (F0 m (pc + 3) ls (.int r :: rest))) : W p l e R s m args below meth c H locs cells slots Q0 (F0 m pc ls (.int a3 :: .int a2 :: .int a1 :: .ref (ad 0 0 0) :: rest)) :=
  k_i (Bw := tB D A ad) (k_runV (Bw := tB D A ad) (n := 3) (As := [.int a1, .int a2, .int a3]) F hB hS (t_recv F hB) (mX6_bitBecomes hw) q1384 q1386 qs48 q92 q1387 (by decide +kernel) hR ⟨rfl, rfl⟩ hc rfl hsz rfl hW hdg) hS kk
def rX6_away : Room := { frames := 2, cells := 0, slots := 0, locals := 46 }
set_option maxHeartbeats 4000000 in
theorem bX6_away_0 {p : Program} {l : Launch} {e : Env} {s : State} {m : MethodId} {args : Array Value} {below : List Frame} {meth : Method} {c : Code} {D : DD} {A : Nat → Prop} {s0 : State} {ad : AD} {Q : Int32 → TS → Prop} {a1 : Int32} {a2 : Int32} {a3 : Int32} {T : TS} {H : Heap} {locs : List Loc} {ls : Array Slot} (F : FX p l c cX6_away s args m RX6 D A s0 4 meth (some .int)) (hB : tB D A ad T H) (hS : va_S A s.heap H locs) (hw : wX6_away a1 a2 a3 T Q) (hl : lv_has ls 4 [(0, .ref (ad 0 0 0)), (1, .int a1), (2, .int a2), (3, .int a3)]) : W p l e rX6_away s m args below meth c H locs 0 0 (MQ below (va_Qi Q (fun u t => tB D A ad u t.heap) A) args s 0 0 A) (F0 m 0 ls []) := by
  have hx := F.1.x
  have hb := F.1.b
  unfold wX6_away at hw
  refine lv_aload_n hx hb dX6_away_0 rfl (lv_at hl 0 rfl) ?_
  refine lv_iload_n hx hb dX6_away_1 rfl (lv_at hl 1 rfl) ?_
  refine kX6_X6_isPerson F hB hS hw ⟨Nat.le_of_ble_eq_true rfl, Nat.le_of_ble_eq_true rfl⟩ ⟨Nat.zero_le _, Nat.zero_le _⟩ hl.1 (Nat.le_of_ble_eq_true rfl) dX6_away_2 (fun r1 T2 H locs hw hB hS => ?_)
  refine lv_if_eq (tgt := 30) hx hb dX6_away_5 (by decide) (fun q => ?_) (fun q => ?_)
  · replace hw := hw.1 q
    refine lv_ldc hx hb F.1.o (F.1.t _ q1326) dX6_away_30 ?_
    exact W.iret hx hb F.1.r (fun t ht hW => ⟨⟨_, _, rfl, hw, x_B (Bw := tB D A ad) ht hB⟩, hS.F ht⟩) hS.2.2 dX6_away_32 (hlocks := F.1.k)
  · replace hw := hw.2 q
    refine lv_iload_n hx hb dX6_away_8 rfl (lv_at hl 2 rfl) ?_
    refine lv_i2l hx hb dX6_away_9 rfl ?_
    refine lv_lconst (v := 0) hx hb dX6_away_10 (by decide) ?_
    refine lv_ldc2 hx hb F.1.o (F.1.t _ q1383) dX6_away_11 ?_
    refine kX6_X6_isIn F.1 hw ⟨Nat.le_of_ble_eq_true rfl, Nat.le_of_ble_eq_true rfl⟩ ⟨Nat.zero_le _, Nat.zero_le _⟩ hl.1 (Nat.le_of_ble_eq_true rfl) dX6_away_14 (fun r3 hw => ?_)
    refine lv_if_eq (tgt := 30) hx hb dX6_away_17 (by decide) (fun q => ?_) (fun q => ?_)
    · replace hw := hw.1 q
      refine lv_ldc hx hb F.1.o (F.1.t _ q1326) dX6_away_30 ?_
      exact W.iret hx hb F.1.r (fun t ht hW => ⟨⟨_, _, rfl, hw, x_B (Bw := tB D A ad) ht hB⟩, hS.F ht⟩) hS.2.2 dX6_away_32 (hlocks := F.1.k)
    · replace hw := hw.2 q
      refine lv_iload_n hx hb dX6_away_20 rfl (lv_at hl 3 rfl) ?_
      refine lv_i2l hx hb dX6_away_21 rfl ?_
      refine lv_lconst (v := 0) hx hb dX6_away_22 (by decide) ?_
      refine lv_lconst (v := 1) hx hb dX6_away_23 (by decide) ?_
      refine kX6_X6_isIn F.1 hw ⟨Nat.le_of_ble_eq_true rfl, Nat.le_of_ble_eq_true rfl⟩ ⟨Nat.zero_le _, Nat.zero_le _⟩ hl.1 (Nat.le_of_ble_eq_true rfl) dX6_away_24 (fun r4 hw => ?_)
      refine lv_if_ne (tgt := 33) hx hb dX6_away_27 (by decide) (fun q => ?_) (fun q => ?_)
      · replace hw := hw.2 q
        refine lv_aload_n hx hb dX6_away_33 rfl (lv_at hl 0 rfl) ?_
        refine lv_bipush (v := 6) hx hb dX6_away_34 (by decide) ?_
        refine lv_iconst (v := 5) hx hb dX6_away_36 (by decide) ?_
        refine lv_iload_n hx hb dX6_away_37 rfl (lv_at hl 1 rfl) ?_
        refine lv_imul hx hb dX6_away_38 ?_
        refine lv_iadd hx hb dX6_away_39 ?_
        refine lv_iconst (v := 2) hx hb dX6_away_40 (by decide) ?_
        refine lv_iadd hx hb dX6_away_41 ?_
        refine lv_iload_n hx hb dX6_away_42 rfl (lv_at hl 2 rfl) ?_
        refine lv_iload_n hx hb dX6_away_43 rfl (lv_at hl 3 rfl) ?_
        refine kX6_X6_bitBecomes F hB hS hw ⟨Nat.le_of_ble_eq_true rfl, Nat.le_of_ble_eq_true rfl⟩ ⟨Nat.zero_le _, Nat.zero_le _⟩ hl.1 (Nat.le_of_ble_eq_true rfl) dX6_away_44 (fun r5 T6 H locs hw hB hS => ?_)
        exact W.iret hx hb F.1.r (fun t ht hW => ⟨⟨_, _, rfl, hw, x_B (Bw := tB D A ad) ht hB⟩, hS.F ht⟩) hS.2.2 dX6_away_47 (hlocks := F.1.k)
      · replace hw := hw.1 q
        refine lv_ldc hx hb F.1.o (F.1.t _ q1326) dX6_away_30 ?_
        exact W.iret hx hb F.1.r (fun t ht hW => ⟨⟨_, _, rfl, hw, x_B (Bw := tB D A ad) ht hB⟩, hS.F ht⟩) hS.2.2 dX6_away_32 (hlocks := F.1.k)
set_option maxHeartbeats 4000000 in
theorem mX6_away {l : Launch} {D : DD} {A : Nat → Prop} {s0 : State} {ad : AD} {T : TS} {a1 : Int32} {a2 : Int32} {a3 : Int32} {Q : Int32 → TS → Prop} (hw : wX6_away a1 a2 a3 T Q) : Met l yX6_away (ws_ yX6_away cX6_away 4 (some .int)) rX6_away (va_Pc [.ref (ad 0 0 0), .int a1, .int a2, .int a3] (fun U => tB D A ad T U.heap ∧ CX l D A s0 U)) (va_Qi Q (fun u t => tB D A ad u t.heap) A) 0 0 A := by
  refine Met.ofW (cc := cX6_away) (maxL := 4) (ret := some .int) (by decide) rfl ?_
  intro p e s m args below meth c s₁ B hml hv
  obtain ⟨rfl, hB, hC⟩ := hv
  have F : FX p l c cX6_away s _ m RX6 D A s0 4 meth (some .int) := ⟨mk_FP B hml rfl, hC⟩
  have hS : va_S A s.heap s.heap [] := va_S.rf
  have hl := lv_entry ([.ref (ad 0 0 0), .int a1, .int a2, .int a3]) (n := 4) (Nat.le_of_ble_eq_true rfl)
  rw [lg_entry_eq]
  generalize (lg_sl ([.ref (ad 0 0 0), .int a1, .int a2, .int a3]) ++ List.replicate (4 - (lg_sl ([.ref (ad 0 0 0), .int a1, .int a2, .int a3])).length) Slot.unset).toArray = ls at hl ⊢
  exact bX6_away_0 F hB hS hw hl
def rX6_setAside : Room := { frames := 0, cells := 0, slots := 0, locals := 0 }
set_option maxHeartbeats 4000000 in
theorem bX6_setAside_2 {p : Program} {l : Launch} {e : Env} {s : State} {m : MethodId} {args : Array Value} {below : List Frame} {meth : Method} {c : Code} {D : DD} {A : Nat → Prop} {s0 : State} {ad : AD} {Q : TS → Prop} (F : FX p l c cX6_setAside s args m RX6 D A s0 4 meth (none)) : ∀ (n : Nat) (l1 : Nat) (l2 : Nat) (l3 : Int32) (T : TS), wX6_setAside_2 Q n l1 l2 l3 T → ∀ (H : Heap) (locs : List Loc) (ls : Array Slot), tB D A ad T H → va_S A s.heap H locs → lv_has ls 4 [(1, .ref (ad 1 l1 0)), (2, .ref (ad 1 l2 0)), (3, .int l3)] → W p l e rX6_setAside s m args below meth c H locs 0 0 (MQ below (va_Qv Q (fun u t => tB D A ad u t.heap) A) args s 0 0 A) (F0 m 2 ls []) := by
  have hx := F.1.x
  have hb := F.1.b
  intro n
  induction n with
  | zero => intro l1 l2 l3 T hw; exact hw.elim
  | succ n ih =>
    intro l1 l2 l3 T hw H locs ls hB hS hl
    unfold wX6_setAside_2 at hw
    refine lv_iload_n hx hb dX6_setAside_2 rfl (lv_at hl 2 rfl) ?_
    refine lv_sipush (v := 2914) hx hb dX6_setAside_3 (by decide) ?_
    refine lv_icmp_ge (tgt := 21) hx hb dX6_setAside_6 (by decide) (fun q => ?_) (fun q => ?_)
    · replace hw := hw.1 q
      exact W.vret hx hb F.1.r (fun t ht hW => ⟨⟨_, rfl, hw, x_B (Bw := tB D A ad) ht hB⟩, hS.F ht⟩) hS.2.2 dX6_setAside_21 (hlocks := F.1.k)
    · replace hw := hw.2 q
      refine lv_aload_n hx hb dX6_setAside_9 rfl (lv_at hl 1 rfl) ?_
      refine lv_iload_n hx hb dX6_setAside_10 rfl (lv_at hl 2 rfl) ?_
      refine lv_aload_n hx hb dX6_setAside_11 rfl (lv_at hl 0 rfl) ?_
      refine lv_iload_n hx hb dX6_setAside_12 rfl (lv_at hl 2 rfl) ?_
      obtain ⟨hk, hin, hw⟩ := hw
      refine t_ald F hB (k := l1) hk hin dX6_setAside_13 ?_
      obtain ⟨hk, hin, hw⟩ := hw
      refine t_ast F hB hS (k := l2) hk hin dX6_setAside_14 (fun H locs hB hS => ?_)
      refine lv_iinc (v := l3 + (1 : Int32)) (lv' := [(3, .int (l3 + (1 : Int32))), (1, .ref (ad 1 l1 0)), (2, .ref (ad 1 l2 0))]) hx hb dX6_setAside_15 hl (k := 2) rfl (x_inc (by decide)) (by decide) rfl (fun ls hl => ?_)
      refine lv_goto (tgt := 2) hx hb dX6_setAside_18 (by decide) ?_
      exact ih _ _ _ _ hw _ _ _ hB hS (lv_sub hl [1, 2, 0] rfl)
set_option maxHeartbeats 4000000 in
theorem bX6_setAside_0 {p : Program} {l : Launch} {e : Env} {s : State} {m : MethodId} {args : Array Value} {below : List Frame} {meth : Method} {c : Code} {D : DD} {A : Nat → Prop} {s0 : State} {ad : AD} {Q : TS → Prop} {a1 : Nat} {a2 : Nat} {T : TS} {H : Heap} {locs : List Loc} {ls : Array Slot} (F : FX p l c cX6_setAside s args m RX6 D A s0 4 meth (none)) (hB : tB D A ad T H) (hS : va_S A s.heap H locs) (hw : wX6_setAside a1 a2 T Q) (hl : lv_has ls 4 [(0, .ref (ad 0 0 0)), (1, .ref (ad 1 a1 0)), (2, .ref (ad 1 a2 0))]) : W p l e rX6_setAside s m args below meth c H locs 0 0 (MQ below (va_Qv Q (fun u t => tB D A ad u t.heap) A) args s 0 0 A) (F0 m 0 ls []) := by
  have hx := F.1.x
  have hb := F.1.b
  unfold wX6_setAside at hw
  refine lv_iconst (v := 0) hx hb dX6_setAside_0 (by decide) ?_
  refine lv_istore_n (lv' := [(3, .int (0 : Int32)), (0, .ref (ad 0 0 0)), (1, .ref (ad 1 a1 0)), (2, .ref (ad 1 a2 0))]) hx hb dX6_setAside_1 rfl hl (by decide) rfl (fun ls hl => ?_)
  obtain ⟨f_2, hw⟩ := hw
  exact bX6_setAside_2 F f_2 _ _ _ _ hw _ _ _ hB hS (lv_sub hl [2, 3, 0] rfl)
set_option maxHeartbeats 4000000 in
theorem mX6_setAside {l : Launch} {D : DD} {A : Nat → Prop} {s0 : State} {ad : AD} {T : TS} {a1 : Nat} {a2 : Nat} {Q : TS → Prop} (hw : wX6_setAside a1 a2 T Q) : Met l yX6_setAside (ws_ yX6_setAside cX6_setAside 4 (none)) rX6_setAside (va_Pc [.ref (ad 0 0 0), .ref (ad 1 a1 0), .ref (ad 1 a2 0)] (fun U => tB D A ad T U.heap ∧ CX l D A s0 U)) (va_Qv Q (fun u t => tB D A ad u t.heap) A) 0 0 A := by
  refine Met.ofW (cc := cX6_setAside) (maxL := 4) (ret := none) (by decide) rfl ?_
  intro p e s m args below meth c s₁ B hml hv
  obtain ⟨rfl, hB, hC⟩ := hv
  have F : FX p l c cX6_setAside s _ m RX6 D A s0 4 meth (none) := ⟨mk_FP B hml rfl, hC⟩
  have hS : va_S A s.heap s.heap [] := va_S.rf
  have hl := lv_entry ([.ref (ad 0 0 0), .ref (ad 1 a1 0), .ref (ad 1 a2 0)]) (n := 4) (Nat.le_of_ble_eq_true rfl)
  rw [lg_entry_eq]
  generalize (lg_sl ([.ref (ad 0 0 0), .ref (ad 1 a1 0), .ref (ad 1 a2 0)]) ++ List.replicate (4 - (lg_sl ([.ref (ad 0 0 0), .ref (ad 1 a1 0), .ref (ad 1 a2 0)])).length) Slot.unset).toArray = ls at hl ⊢
  exact bX6_setAside_0 F hB hS hw hl
theorem kX6_X6_setAside {p : Program} {l : Launch} {e : Env} {R : Room} {s : State} {m : MethodId} {args : Array Value} {below : List Frame} {meth : Method} {c : Code} {H : Heap} {locs : List Loc} {cells slots : Nat} {Q0 : State → Prop} {cc : ByteArray} {pc nL : Nat} {ls : Array Slot} {rest : List Value} {ret : Option FieldType} {D : DD} {A : Nat → Prop} {s0 : State} {ad : AD} {T : TS} {a1 : Nat} {a2 : Nat} {Q : TS → Prop} (F : FX p l c cc s args m RX6 D A s0 nL meth ret) (hB : tB D A ad T H) (hS : va_S A s.heap H locs) (hw : wX6_setAside a1 a2 T Q) (hR : rX6_setAside.frames + 1 ≤ R.frames ∧ 8 + (4 + 11) + rX6_setAside.locals ≤ R.locals) (hc : cells + 0 ≤ R.cells ∧ slots + 0 ≤ R.slots) (hsz : ls.size = nL) (hW : (rest.map fun v => v.category).sum ≤ 8) (hdg : decode cc pc = .ok (.invokevirtual 315, 3)) (kk : ∀ (u : TS) (H1 : Heap) (locs1 : List Loc), Q u → tB D A ad u H1 → va_S A s.heap H1 locs1 → W p l e R s m args below meth c H1 locs1 cells slots Q0 (F0 m (pc + 3) ls (rest))) : W p l e R s m args below meth c H locs cells slots Q0 (F0 m pc ls (.ref (ad 1 a2 0) :: .ref (ad 1 a1 0) :: .ref (ad 0 0 0) :: rest)) :=
  k_v (Bw := tB D A ad) (k_runV (Bw := tB D A ad) (n := 2) (As := [.ref (ad 1 a1 0), .ref (ad 1 a2 0)]) F hB hS (t_recv F hB) (mX6_setAside hw) q1693 q1695 qs80 q92 q1696 (by decide +kernel) hR ⟨rfl, rfl⟩ hc rfl hsz rfl hW hdg) hS kk
def rX6_back : Room := { frames := 1, cells := 0, slots := 0, locals := 23 }
set_option maxHeartbeats 4000000 in
theorem bX6_back_0 {p : Program} {l : Launch} {e : Env} {s : State} {m : MethodId} {args : Array Value} {below : List Frame} {meth : Method} {c : Code} {D : DD} {A : Nat → Prop} {s0 : State} {ad : AD} {Q : Int32 → TS → Prop} {T : TS} {H : Heap} {locs : List Loc} {ls : Array Slot} (F : FX p l c cX6_back s args m RX6 D A s0 1 meth (some .int)) (hB : tB D A ad T H) (hS : va_S A s.heap H locs) (hw : wX6_back T Q) (hl : lv_has ls 1 [(0, .ref (ad 0 0 0))]) : W p l e rX6_back s m args below meth c H locs 0 0 (MQ below (va_Qi Q (fun u t => tB D A ad u t.heap) A) args s 0 0 A) (F0 m 0 ls []) := by
  have hx := F.1.x
  have hb := F.1.b
  unfold wX6_back at hw
  refine lv_aload_n hx hb dX6_back_0 rfl (lv_at hl 0 rfl) ?_
  refine tg_3 F hB dX6_back_1 ?_
  refine lv_if_ne (tgt := 10) hx hb dX6_back_4 (by decide) (fun q => ?_) (fun q => ?_)
  · replace hw := hw.2 q
    refine lv_aload_n hx hb dX6_back_10 rfl (lv_at hl 0 rfl) ?_
    refine lv_aload_n hx hb dX6_back_11 rfl (lv_at hl 0 rfl) ?_
    refine tg_1 F hB dX6_back_12 ?_
    refine lv_aload_n hx hb dX6_back_15 rfl (lv_at hl 0 rfl) ?_
    refine tg_0 F hB dX6_back_16 ?_
    refine kX6_X6_setAside F hB hS hw ⟨Nat.le_of_ble_eq_true rfl, Nat.le_of_ble_eq_true rfl⟩ ⟨Nat.zero_le _, Nat.zero_le _⟩ hl.1 (Nat.le_of_ble_eq_true rfl) dX6_back_19 (fun T2 H locs hw hB hS => ?_)
    refine lv_aload_n hx hb dX6_back_22 rfl (lv_at hl 0 rfl) ?_
    refine tg_0 F hB dX6_back_23 ?_
    refine lv_iconst (v := 0) hx hb dX6_back_26 (by decide) ?_
    obtain ⟨hin, hw⟩ := hw
    refine t_ald F hB (k := 0) rfl hin dX6_back_27 ?_
    exact W.iret hx hb F.1.r (fun t ht hW => ⟨⟨_, _, rfl, hw, x_B (Bw := tB D A ad) ht hB⟩, hS.F ht⟩) hS.2.2 dX6_back_28 (hlocks := F.1.k)
  · replace hw := hw.1 q
    refine lv_ldc hx hb F.1.o (F.1.t _ q1482) dX6_back_7 ?_
    exact W.iret hx hb F.1.r (fun t ht hW => ⟨⟨_, _, rfl, hw, x_B (Bw := tB D A ad) ht hB⟩, hS.F ht⟩) hS.2.2 dX6_back_9 (hlocks := F.1.k)
set_option maxHeartbeats 4000000 in
theorem mX6_back {l : Launch} {D : DD} {A : Nat → Prop} {s0 : State} {ad : AD} {T : TS}  {Q : Int32 → TS → Prop} (hw : wX6_back T Q) : Met l yX6_back (ws_ yX6_back cX6_back 1 (some .int)) rX6_back (va_Pc [.ref (ad 0 0 0)] (fun U => tB D A ad T U.heap ∧ CX l D A s0 U)) (va_Qi Q (fun u t => tB D A ad u t.heap) A) 0 0 A := by
  refine Met.ofW (cc := cX6_back) (maxL := 1) (ret := some .int) (by decide) rfl ?_
  intro p e s m args below meth c s₁ B hml hv
  obtain ⟨rfl, hB, hC⟩ := hv
  have F : FX p l c cX6_back s _ m RX6 D A s0 1 meth (some .int) := ⟨mk_FP B hml rfl, hC⟩
  have hS : va_S A s.heap s.heap [] := va_S.rf
  have hl := lv_entry ([.ref (ad 0 0 0)]) (n := 1) (Nat.le_of_ble_eq_true rfl)
  rw [lg_entry_eq]
  generalize (lg_sl ([.ref (ad 0 0 0)]) ++ List.replicate (1 - (lg_sl ([.ref (ad 0 0 0)])).length) Slot.unset).toArray = ls at hl ⊢
  exact bX6_back_0 F hB hS hw hl
def rX6_bolder : Room := { frames := 2, cells := 0, slots := 0, locals := 46 }
set_option maxHeartbeats 4000000 in
theorem bX6_bolder_0 {p : Program} {l : Launch} {e : Env} {s : State} {m : MethodId} {args : Array Value} {below : List Frame} {meth : Method} {c : Code} {D : DD} {A : Nat → Prop} {s0 : State} {ad : AD} {Q : Int32 → TS → Prop} {a1 : Int32} {a2 : Int32} {T : TS} {H : Heap} {locs : List Loc} {ls : Array Slot} (F : FX p l c cX6_bolder s args m RX6 D A s0 3 meth (some .int)) (hB : tB D A ad T H) (hS : va_S A s.heap H locs) (hw : wX6_bolder a1 a2 T Q) (hl : lv_has ls 3 [(0, .ref (ad 0 0 0)), (1, .int a1), (2, .int a2)]) : W p l e rX6_bolder s m args below meth c H locs 0 0 (MQ below (va_Qi Q (fun u t => tB D A ad u t.heap) A) args s 0 0 A) (F0 m 0 ls []) := by
  have hx := F.1.x
  have hb := F.1.b
  unfold wX6_bolder at hw
  refine lv_aload_n hx hb dX6_bolder_0 rfl (lv_at hl 0 rfl) ?_
  refine lv_iload_n hx hb dX6_bolder_1 rfl (lv_at hl 1 rfl) ?_
  refine kX6_X6_isPerson F hB hS hw ⟨Nat.le_of_ble_eq_true rfl, Nat.le_of_ble_eq_true rfl⟩ ⟨Nat.zero_le _, Nat.zero_le _⟩ hl.1 (Nat.le_of_ble_eq_true rfl) dX6_bolder_2 (fun r1 T2 H locs hw hB hS => ?_)
  refine lv_if_eq (tgt := 36) hx hb dX6_bolder_5 (by decide) (fun q => ?_) (fun q => ?_)
  · replace hw := hw.1 q
    refine lv_ldc hx hb F.1.o (F.1.t _ q1326) dX6_bolder_36 ?_
    exact W.iret hx hb F.1.r (fun t ht hW => ⟨⟨_, _, rfl, hw, x_B (Bw := tB D A ad) ht hB⟩, hS.F ht⟩) hS.2.2 dX6_bolder_38 (hlocks := F.1.k)
  · replace hw := hw.2 q
    refine lv_iload_n hx hb dX6_bolder_8 rfl (lv_at hl 2 rfl) ?_
    refine lv_i2l hx hb dX6_bolder_9 rfl ?_
    refine lv_lconst (v := 0) hx hb dX6_bolder_10 (by decide) ?_
    refine lv_ldc2 hx hb F.1.o (F.1.t _ q1325) dX6_bolder_11 ?_
    refine kX6_X6_isIn F.1 hw ⟨Nat.le_of_ble_eq_true rfl, Nat.le_of_ble_eq_true rfl⟩ ⟨Nat.zero_le _, Nat.zero_le _⟩ hl.1 (Nat.le_of_ble_eq_true rfl) dX6_bolder_14 (fun r3 hw => ?_)
    refine lv_if_eq (tgt := 36) hx hb dX6_bolder_17 (by decide) (fun q => ?_) (fun q => ?_)
    · replace hw := hw.1 q
      refine lv_ldc hx hb F.1.o (F.1.t _ q1326) dX6_bolder_36 ?_
      exact W.iret hx hb F.1.r (fun t ht hW => ⟨⟨_, _, rfl, hw, x_B (Bw := tB D A ad) ht hB⟩, hS.F ht⟩) hS.2.2 dX6_bolder_38 (hlocks := F.1.k)
    · replace hw := hw.2 q
      refine lv_aload_n hx hb dX6_bolder_20 rfl (lv_at hl 0 rfl) ?_
      refine lv_bipush (v := 6) hx hb dX6_bolder_21 (by decide) ?_
      refine lv_iconst (v := 5) hx hb dX6_bolder_23 (by decide) ?_
      refine lv_iload_n hx hb dX6_bolder_24 rfl (lv_at hl 1 rfl) ?_
      refine lv_imul hx hb dX6_bolder_25 ?_
      refine lv_iadd hx hb dX6_bolder_26 ?_
      refine lv_iconst (v := 1) hx hb dX6_bolder_27 (by decide) ?_
      refine lv_iadd hx hb dX6_bolder_28 ?_
      refine lv_iload_n hx hb dX6_bolder_29 rfl (lv_at hl 2 rfl) ?_
      refine kX6_X6_becomes F hB hS hw ⟨Nat.le_of_ble_eq_true rfl, Nat.le_of_ble_eq_true rfl⟩ ⟨Nat.zero_le _, Nat.zero_le _⟩ hl.1 (Nat.le_of_ble_eq_true rfl) dX6_bolder_30 (fun r4 T5 H locs hw hB hS => ?_)
      refine lv_goto (tgt := 38) hx hb dX6_bolder_33 (by decide) ?_
      exact W.iret hx hb F.1.r (fun t ht hW => ⟨⟨_, _, rfl, hw, x_B (Bw := tB D A ad) ht hB⟩, hS.F ht⟩) hS.2.2 dX6_bolder_38 (hlocks := F.1.k)
set_option maxHeartbeats 4000000 in
theorem mX6_bolder {l : Launch} {D : DD} {A : Nat → Prop} {s0 : State} {ad : AD} {T : TS} {a1 : Int32} {a2 : Int32} {Q : Int32 → TS → Prop} (hw : wX6_bolder a1 a2 T Q) : Met l yX6_bolder (ws_ yX6_bolder cX6_bolder 3 (some .int)) rX6_bolder (va_Pc [.ref (ad 0 0 0), .int a1, .int a2] (fun U => tB D A ad T U.heap ∧ CX l D A s0 U)) (va_Qi Q (fun u t => tB D A ad u t.heap) A) 0 0 A := by
  refine Met.ofW (cc := cX6_bolder) (maxL := 3) (ret := some .int) (by decide) rfl ?_
  intro p e s m args below meth c s₁ B hml hv
  obtain ⟨rfl, hB, hC⟩ := hv
  have F : FX p l c cX6_bolder s _ m RX6 D A s0 3 meth (some .int) := ⟨mk_FP B hml rfl, hC⟩
  have hS : va_S A s.heap s.heap [] := va_S.rf
  have hl := lv_entry ([.ref (ad 0 0 0), .int a1, .int a2]) (n := 3) (Nat.le_of_ble_eq_true rfl)
  rw [lg_entry_eq]
  generalize (lg_sl ([.ref (ad 0 0 0), .int a1, .int a2]) ++ List.replicate (3 - (lg_sl ([.ref (ad 0 0 0), .int a1, .int a2])).length) Slot.unset).toArray = ls at hl ⊢
  exact bX6_bolder_0 F hB hS hw hl
def rX6_textAt : Room := { frames := 0, cells := 0, slots := 0, locals := 0 }
set_option maxHeartbeats 4000000 in
theorem bX6_textAt_0 {p : Program} {l : Launch} {e : Env} {s : State} {m : MethodId} {args : Array Value} {below : List Frame} {meth : Method} {c : Code} {D : DD} {A : Nat → Prop} {s0 : State} {ad : AD} {Q : Int32 → TS → Prop} {a1 : Int32} {T : TS} {H : Heap} {locs : List Loc} {ls : Array Slot} (F : FX p l c cX6_textAt s args m RX6 D A s0 2 meth (some .int)) (hB : tB D A ad T H) (hS : va_S A s.heap H locs) (hw : wX6_textAt a1 T Q) (hl : lv_has ls 2 [(0, .ref (ad 0 0 0)), (1, .int a1)]) : W p l e rX6_textAt s m args below meth c H locs 0 0 (MQ below (va_Qi Q (fun u t => tB D A ad u t.heap) A) args s 0 0 A) (F0 m 0 ls []) := by
  have hx := F.1.x
  have hb := F.1.b
  unfold wX6_textAt at hw
  refine lv_bipush (v := 114) hx hb dX6_textAt_0 (by decide) ?_
  refine lv_sipush (v := 200) hx hb dX6_textAt_2 (by decide) ?_
  refine lv_iload_n hx hb dX6_textAt_5 rfl (lv_at hl 1 rfl) ?_
  refine lv_imul hx hb dX6_textAt_6 ?_
  refine lv_iadd hx hb dX6_textAt_7 ?_
  exact W.iret hx hb F.1.r (fun t ht hW => ⟨⟨_, _, rfl, hw, x_B (Bw := tB D A ad) ht hB⟩, hS.F ht⟩) hS.2.2 dX6_textAt_8 (hlocks := F.1.k)
set_option maxHeartbeats 4000000 in
theorem mX6_textAt {l : Launch} {D : DD} {A : Nat → Prop} {s0 : State} {ad : AD} {T : TS} {a1 : Int32} {Q : Int32 → TS → Prop} (hw : wX6_textAt a1 T Q) : Met l yX6_textAt (ws_ yX6_textAt cX6_textAt 2 (some .int)) rX6_textAt (va_Pc [.ref (ad 0 0 0), .int a1] (fun U => tB D A ad T U.heap ∧ CX l D A s0 U)) (va_Qi Q (fun u t => tB D A ad u t.heap) A) 0 0 A := by
  refine Met.ofW (cc := cX6_textAt) (maxL := 2) (ret := some .int) (by decide) rfl ?_
  intro p e s m args below meth c s₁ B hml hv
  obtain ⟨rfl, hB, hC⟩ := hv
  have F : FX p l c cX6_textAt s _ m RX6 D A s0 2 meth (some .int) := ⟨mk_FP B hml rfl, hC⟩
  have hS : va_S A s.heap s.heap [] := va_S.rf
  have hl := lv_entry ([.ref (ad 0 0 0), .int a1]) (n := 2) (Nat.le_of_ble_eq_true rfl)
  rw [lg_entry_eq]
  generalize (lg_sl ([.ref (ad 0 0 0), .int a1]) ++ List.replicate (2 - (lg_sl ([.ref (ad 0 0 0), .int a1])).length) Slot.unset).toArray = ls at hl ⊢
  exact bX6_textAt_0 F hB hS hw hl
theorem kX6_X6_textAt {p : Program} {l : Launch} {e : Env} {R : Room} {s : State} {m : MethodId} {args : Array Value} {below : List Frame} {meth : Method} {c : Code} {H : Heap} {locs : List Loc} {cells slots : Nat} {Q0 : State → Prop} {cc : ByteArray} {pc nL : Nat} {ls : Array Slot} {rest : List Value} {ret : Option FieldType} {D : DD} {A : Nat → Prop} {s0 : State} {ad : AD} {T : TS} {a1 : Int32} {Q : Int32 → TS → Prop} (F : FX p l c cc s args m RX6 D A s0 nL meth ret) (hB : tB D A ad T H) (hS : va_S A s.heap H locs) (hw : wX6_textAt a1 T Q) (hR : rX6_textAt.frames + 1 ≤ R.frames ∧ 8 + (2 + 11) + rX6_textAt.locals ≤ R.locals) (hc : cells + 0 ≤ R.cells ∧ slots + 0 ≤ R.slots) (hsz : ls.size = nL) (hW : (rest.map fun v => v.category).sum ≤ 8) (hdg : decode cc pc = .ok (.invokevirtual 272, 3)) (kk : ∀ (r : Int32) (u : TS) (H1 : Heap) (locs1 : List Loc), Q r u → tB D A ad u H1 → va_S A s.heap H1 locs1 → W p l e R s m args below meth c H1 locs1 cells slots Q0 (F0 m (pc + 3) ls (.int r :: rest))) : W p l e R s m args below meth c H locs cells slots Q0 (F0 m pc ls (.int a1 :: .ref (ad 0 0 0) :: rest)) :=
  k_i (Bw := tB D A ad) (k_runV (Bw := tB D A ad) (n := 1) (As := [.int a1]) F hB hS (t_recv F hB) (mX6_textAt hw) q1446 q1448 qs56 q92 q1449 (by decide +kernel) hR ⟨rfl, rfl⟩ hc rfl hsz rfl hW hdg) hS kk
def rX6_counts : Room := { frames := 1, cells := 0, slots := 0, locals := 21 }
set_option maxHeartbeats 4000000 in
theorem bX6_counts_33 {p : Program} {l : Launch} {e : Env} {s : State} {m : MethodId} {args : Array Value} {below : List Frame} {meth : Method} {c : Code} {D : DD} {A : Nat → Prop} {s0 : State} {ad : AD} {Q : Int32 → TS → Prop} {k_4 : Int32 → Int32 → Int32 → TS → Prop} {l1 : Int32} {l3 : Int32} {k0 : Int32} {T : TS} {H : Heap} {locs : List Loc} {ls : Array Slot} (F : FX p l c cX6_counts s args m RX6 D A s0 4 meth (some .int)) (h_4 : ∀ (l1 : Int32) (l2 : Int32) (l3 : Int32) (T : TS), k_4 l1 l2 l3 T → ∀ (H : Heap) (locs : List Loc) (ls : Array Slot), tB D A ad T H → va_S A s.heap H locs → lv_has ls 4 [(0, .ref (ad 0 0 0)), (1, .int l1), (2, .int l2), (3, .int l3)] → W p l e rX6_counts s m args below meth c H locs 0 0 (MQ below (va_Qi Q (fun u t => tB D A ad u t.heap) A) args s 0 0 A) (F0 m 4 ls [])) (hB : tB D A ad T H) (hS : va_S A s.heap H locs) (hw : wX6_counts_33 k_4 l1 l3 k0 T Q) (hl : lv_has ls 4 [(0, .ref (ad 0 0 0)), (1, .int l1), (3, .int l3)]) : W p l e rX6_counts s m args below meth c H locs 0 0 (MQ below (va_Qi Q (fun u t => tB D A ad u t.heap) A) args s 0 0 A) (F0 m 33 ls [.int k0]) := by
  have hx := F.1.x
  have hb := F.1.b
  unfold wX6_counts_33 at hw
  refine lv_istore_n (lv' := [(2, .int k0), (0, .ref (ad 0 0 0)), (1, .int l1), (3, .int l3)]) hx hb dX6_counts_33 rfl hl (by decide) rfl (fun ls hl => ?_)
  refine lv_iinc (v := l3 + (1 : Int32)) (lv' := [(3, .int (l3 + (1 : Int32))), (2, .int k0), (0, .ref (ad 0 0 0)), (1, .int l1)]) hx hb dX6_counts_34 hl (k := 3) rfl (x_inc (by decide)) (by decide) rfl (fun ls hl => ?_)
  refine lv_goto (tgt := 4) hx hb dX6_counts_37 (by decide) ?_
  exact h_4 _ _ _ _ hw _ _ _ hB hS (lv_sub hl [2, 3, 1, 0] rfl)
set_option maxHeartbeats 4000000 in
theorem bX6_counts_4 {p : Program} {l : Launch} {e : Env} {s : State} {m : MethodId} {args : Array Value} {below : List Frame} {meth : Method} {c : Code} {D : DD} {A : Nat → Prop} {s0 : State} {ad : AD} {Q : Int32 → TS → Prop} (F : FX p l c cX6_counts s args m RX6 D A s0 4 meth (some .int)) : ∀ (n : Nat) (l1 : Int32) (l2 : Int32) (l3 : Int32) (T : TS), wX6_counts_4 Q n l1 l2 l3 T → ∀ (H : Heap) (locs : List Loc) (ls : Array Slot), tB D A ad T H → va_S A s.heap H locs → lv_has ls 4 [(0, .ref (ad 0 0 0)), (1, .int l1), (2, .int l2), (3, .int l3)] → W p l e rX6_counts s m args below meth c H locs 0 0 (MQ below (va_Qi Q (fun u t => tB D A ad u t.heap) A) args s 0 0 A) (F0 m 4 ls []) := by
  have hx := F.1.x
  have hb := F.1.b
  intro n
  induction n with
  | zero => intro l1 l2 l3 T hw; exact hw.elim
  | succ n ih =>
    intro l1 l2 l3 T hw H locs ls hB hS hl
    unfold wX6_counts_4 at hw
    refine lv_iload_n hx hb dX6_counts_4 rfl (lv_at hl 3 rfl) ?_
    refine lv_aload_n hx hb dX6_counts_5 rfl (lv_at hl 0 rfl) ?_
    refine tg_0 F hB dX6_counts_6 ?_
    refine lv_iconst (v := 2) hx hb dX6_counts_9 (by decide) ?_
    obtain ⟨hin, hw⟩ := hw
    refine t_ald F hB (k := 0) rfl hin dX6_counts_10 ?_
    refine lv_icmp_ge (tgt := 40) hx hb dX6_counts_11 (by decide) (fun q => ?_) (fun q => ?_)
    · replace hw := hw.1 q
      refine lv_iload_n hx hb dX6_counts_40 rfl (lv_at hl 2 rfl) ?_
      exact W.iret hx hb F.1.r (fun t ht hW => ⟨⟨_, _, rfl, hw, x_B (Bw := tB D A ad) ht hB⟩, hS.F ht⟩) hS.2.2 dX6_counts_41 (hlocks := F.1.k)
    · replace hw := hw.2 q
      refine lv_aload_n hx hb dX6_counts_14 rfl (lv_at hl 0 rfl) ?_
      refine tg_0 F hB dX6_counts_15 ?_
      refine lv_aload_n hx hb dX6_counts_18 rfl (lv_at hl 0 rfl) ?_
      refine lv_iload_n hx hb dX6_counts_19 rfl (lv_at hl 3 rfl) ?_
      refine kX6_X6_textAt F hB hS hw ⟨Nat.le_of_ble_eq_true rfl, Nat.le_of_ble_eq_true rfl⟩ ⟨Nat.zero_le _, Nat.zero_le _⟩ hl.1 (Nat.le_of_ble_eq_true rfl) dX6_counts_20 (fun r1 T2 H locs hw hB hS => ?_)
      obtain ⟨hin, hw⟩ := hw
      refine t_ald F hB (k := 0) rfl hin dX6_counts_23 ?_
      refine lv_iload_n hx hb dX6_counts_24 rfl (lv_at hl 1 rfl) ?_
      refine lv_icmp_ne (tgt := 32) hx hb dX6_counts_25 (by decide) (fun q => ?_) (fun q => ?_)
      · replace hw := hw.2 q
        refine lv_iload_n hx hb dX6_counts_32 rfl (lv_at hl 2 rfl) ?_
        exact bX6_counts_33 F ih hB hS hw (lv_sub hl [0, 1, 3] rfl)
      · replace hw := hw.1 q
        refine lv_iload_n hx hb dX6_counts_28 rfl (lv_at hl 3 rfl) ?_
        refine lv_goto (tgt := 33) hx hb dX6_counts_29 (by decide) ?_
        exact bX6_counts_33 F ih hB hS hw (lv_sub hl [0, 1, 3] rfl)
set_option maxHeartbeats 4000000 in
theorem bX6_counts_0 {p : Program} {l : Launch} {e : Env} {s : State} {m : MethodId} {args : Array Value} {below : List Frame} {meth : Method} {c : Code} {D : DD} {A : Nat → Prop} {s0 : State} {ad : AD} {Q : Int32 → TS → Prop} {a1 : Int32} {T : TS} {H : Heap} {locs : List Loc} {ls : Array Slot} (F : FX p l c cX6_counts s args m RX6 D A s0 4 meth (some .int)) (hB : tB D A ad T H) (hS : va_S A s.heap H locs) (hw : wX6_counts a1 T Q) (hl : lv_has ls 4 [(0, .ref (ad 0 0 0)), (1, .int a1)]) : W p l e rX6_counts s m args below meth c H locs 0 0 (MQ below (va_Qi Q (fun u t => tB D A ad u t.heap) A) args s 0 0 A) (F0 m 0 ls []) := by
  have hx := F.1.x
  have hb := F.1.b
  unfold wX6_counts at hw
  refine lv_iconst (v := -1) hx hb dX6_counts_0 (by decide) ?_
  refine lv_istore_n (lv' := [(2, .int (-1 : Int32)), (0, .ref (ad 0 0 0)), (1, .int a1)]) hx hb dX6_counts_1 rfl hl (by decide) rfl (fun ls hl => ?_)
  refine lv_iconst (v := 0) hx hb dX6_counts_2 (by decide) ?_
  refine lv_istore_n (lv' := [(3, .int (0 : Int32)), (2, .int (-1 : Int32)), (0, .ref (ad 0 0 0)), (1, .int a1)]) hx hb dX6_counts_3 rfl hl (by decide) rfl (fun ls hl => ?_)
  obtain ⟨f_4, hw⟩ := hw
  exact bX6_counts_4 F f_4 _ _ _ _ hw _ _ _ hB hS (lv_sub hl [2, 3, 1, 0] rfl)
set_option maxHeartbeats 4000000 in
theorem mX6_counts {l : Launch} {D : DD} {A : Nat → Prop} {s0 : State} {ad : AD} {T : TS} {a1 : Int32} {Q : Int32 → TS → Prop} (hw : wX6_counts a1 T Q) : Met l yX6_counts (ws_ yX6_counts cX6_counts 4 (some .int)) rX6_counts (va_Pc [.ref (ad 0 0 0), .int a1] (fun U => tB D A ad T U.heap ∧ CX l D A s0 U)) (va_Qi Q (fun u t => tB D A ad u t.heap) A) 0 0 A := by
  refine Met.ofW (cc := cX6_counts) (maxL := 4) (ret := some .int) (by decide) rfl ?_
  intro p e s m args below meth c s₁ B hml hv
  obtain ⟨rfl, hB, hC⟩ := hv
  have F : FX p l c cX6_counts s _ m RX6 D A s0 4 meth (some .int) := ⟨mk_FP B hml rfl, hC⟩
  have hS : va_S A s.heap s.heap [] := va_S.rf
  have hl := lv_entry ([.ref (ad 0 0 0), .int a1]) (n := 4) (Nat.le_of_ble_eq_true rfl)
  rw [lg_entry_eq]
  generalize (lg_sl ([.ref (ad 0 0 0), .int a1]) ++ List.replicate (4 - (lg_sl ([.ref (ad 0 0 0), .int a1])).length) Slot.unset).toArray = ls at hl ⊢
  exact bX6_counts_0 F hB hS hw hl
theorem kX6_X6_counts {p : Program} {l : Launch} {e : Env} {R : Room} {s : State} {m : MethodId} {args : Array Value} {below : List Frame} {meth : Method} {c : Code} {H : Heap} {locs : List Loc} {cells slots : Nat} {Q0 : State → Prop} {cc : ByteArray} {pc nL : Nat} {ls : Array Slot} {rest : List Value} {ret : Option FieldType} {D : DD} {A : Nat → Prop} {s0 : State} {ad : AD} {T : TS} {a1 : Int32} {Q : Int32 → TS → Prop} (F : FX p l c cc s args m RX6 D A s0 nL meth ret) (hB : tB D A ad T H) (hS : va_S A s.heap H locs) (hw : wX6_counts a1 T Q) (hR : rX6_counts.frames + 1 ≤ R.frames ∧ 8 + (4 + 11) + rX6_counts.locals ≤ R.locals) (hc : cells + 0 ≤ R.cells ∧ slots + 0 ≤ R.slots) (hsz : ls.size = nL) (hW : (rest.map fun v => v.category).sum ≤ 8) (hdg : decode cc pc = .ok (.invokevirtual 133, 3)) (kk : ∀ (r : Int32) (u : TS) (H1 : Heap) (locs1 : List Loc), Q r u → tB D A ad u H1 → va_S A s.heap H1 locs1 → W p l e R s m args below meth c H1 locs1 cells slots Q0 (F0 m (pc + 3) ls (.int r :: rest))) : W p l e R s m args below meth c H locs cells slots Q0 (F0 m pc ls (.int a1 :: .ref (ad 0 0 0) :: rest)) :=
  k_i (Bw := tB D A ad) (k_runV (Bw := tB D A ad) (n := 1) (As := [.int a1]) F hB hS (t_recv F hB) (mX6_counts hw) q1442 q1444 qs55 q92 q1445 (by decide +kernel) hR ⟨rfl, rfl⟩ hc rfl hsz rfl hW hdg) hS kk
def rX6_everybody : Room := { frames := 0, cells := 0, slots := 0, locals := 0 }
set_option maxHeartbeats 4000000 in
theorem bX6_everybody_0 {p : Program} {l : Launch} {e : Env} {s : State} {m : MethodId} {args : Array Value} {below : List Frame} {meth : Method} {c : Code} {D : DD} {A : Nat → Prop} {s0 : State} {ad : AD} {Q : Int32 → TS → Prop} {T : TS} {H : Heap} {locs : List Loc} {ls : Array Slot} (F : FX p l c cX6_everybody s args m RX6 D A s0 1 meth (some .int)) (hB : tB D A ad T H) (hS : va_S A s.heap H locs) (hw : wX6_everybody T Q) (hl : lv_has ls 1 [(0, .ref (ad 0 0 0))]) : W p l e rX6_everybody s m args below meth c H locs 0 0 (MQ below (va_Qi Q (fun u t => tB D A ad u t.heap) A) args s 0 0 A) (F0 m 0 ls []) := by
  have hx := F.1.x
  have hb := F.1.b
  unfold wX6_everybody at hw
  refine lv_iconst (v := 1) hx hb dX6_everybody_0 (by decide) ?_
  refine lv_aload_n hx hb dX6_everybody_1 rfl (lv_at hl 0 rfl) ?_
  refine tg_0 F hB dX6_everybody_2 ?_
  refine lv_iconst (v := 0) hx hb dX6_everybody_5 (by decide) ?_
  obtain ⟨hin, hw⟩ := hw
  refine t_ald F hB (k := 0) rfl hin dX6_everybody_6 ?_
  refine lv_ishl hx hb dX6_everybody_7 ?_
  refine lv_iconst (v := 1) hx hb dX6_everybody_8 (by decide) ?_
  refine lv_isub hx hb dX6_everybody_9 ?_
  exact W.iret hx hb F.1.r (fun t ht hW => ⟨⟨_, _, rfl, hw, x_B (Bw := tB D A ad) ht hB⟩, hS.F ht⟩) hS.2.2 dX6_everybody_10 (hlocks := F.1.k)
set_option maxHeartbeats 4000000 in
theorem mX6_everybody {l : Launch} {D : DD} {A : Nat → Prop} {s0 : State} {ad : AD} {T : TS}  {Q : Int32 → TS → Prop} (hw : wX6_everybody T Q) : Met l yX6_everybody (ws_ yX6_everybody cX6_everybody 1 (some .int)) rX6_everybody (va_Pc [.ref (ad 0 0 0)] (fun U => tB D A ad T U.heap ∧ CX l D A s0 U)) (va_Qi Q (fun u t => tB D A ad u t.heap) A) 0 0 A := by
  refine Met.ofW (cc := cX6_everybody) (maxL := 1) (ret := some .int) (by decide) rfl ?_
  intro p e s m args below meth c s₁ B hml hv
  obtain ⟨rfl, hB, hC⟩ := hv
  have F : FX p l c cX6_everybody s _ m RX6 D A s0 1 meth (some .int) := ⟨mk_FP B hml rfl, hC⟩
  have hS : va_S A s.heap s.heap [] := va_S.rf
  have hl := lv_entry ([.ref (ad 0 0 0)]) (n := 1) (Nat.le_of_ble_eq_true rfl)
  rw [lg_entry_eq]
  generalize (lg_sl ([.ref (ad 0 0 0)]) ++ List.replicate (1 - (lg_sl ([.ref (ad 0 0 0)])).length) Slot.unset).toArray = ls at hl ⊢
  exact bX6_everybody_0 F hB hS hw hl
theorem kX6_X6_everybody {p : Program} {l : Launch} {e : Env} {R : Room} {s : State} {m : MethodId} {args : Array Value} {below : List Frame} {meth : Method} {c : Code} {H : Heap} {locs : List Loc} {cells slots : Nat} {Q0 : State → Prop} {cc : ByteArray} {pc nL : Nat} {ls : Array Slot} {rest : List Value} {ret : Option FieldType} {D : DD} {A : Nat → Prop} {s0 : State} {ad : AD} {T : TS} {Q : Int32 → TS → Prop} (F : FX p l c cc s args m RX6 D A s0 nL meth ret) (hB : tB D A ad T H) (hS : va_S A s.heap H locs) (hw : wX6_everybody T Q) (hR : rX6_everybody.frames + 1 ≤ R.frames ∧ 8 + (1 + 11) + rX6_everybody.locals ≤ R.locals) (hc : cells + 0 ≤ R.cells ∧ slots + 0 ≤ R.slots) (hsz : ls.size = nL) (hW : (rest.map fun v => v.category).sum ≤ 8) (hdg : decode cc pc = .ok (.invokevirtual 69, 3)) (kk : ∀ (r : Int32) (u : TS) (H1 : Heap) (locs1 : List Loc), Q r u → tB D A ad u H1 → va_S A s.heap H1 locs1 → W p l e R s m args below meth c H1 locs1 cells slots Q0 (F0 m (pc + 3) ls (.int r :: rest))) : W p l e R s m args below meth c H locs cells slots Q0 (F0 m pc ls (.ref (ad 0 0 0) :: rest)) :=
  k_i (Bw := tB D A ad) (k_runV (Bw := tB D A ad) (n := 0) (As := []) F hB hS (t_recv F hB) (mX6_everybody hw) q1418 q1420 qs51 q92 q1421 (by decide +kernel) hR ⟨rfl, rfl⟩ hc rfl hsz rfl hW hdg) hS kk
def rX6_dee : Room := { frames := 0, cells := 0, slots := 0, locals := 0 }
set_option maxHeartbeats 4000000 in
theorem bX6_dee_0 {p : Program} {l : Launch} {e : Env} {s : State} {m : MethodId} {args : Array Value} {below : List Frame} {meth : Method} {c : Code} {D : DD} {A : Nat → Prop} {s0 : State} {ad : AD} {Q : Int32 → TS → Prop} {a1 : Int32} {a2 : Int32} {T : TS} {H : Heap} {locs : List Loc} {ls : Array Slot} (F : FX p l c cX6_dee s args m RX6 D A s0 3 meth (some .int)) (hB : tB D A ad T H) (hS : va_S A s.heap H locs) (hw : wX6_dee a1 a2 T Q) (hl : lv_has ls 3 [(0, .ref (ad 0 0 0)), (1, .int a1), (2, .int a2)]) : W p l e rX6_dee s m args below meth c H locs 0 0 (MQ below (va_Qi Q (fun u t => tB D A ad u t.heap) A) args s 0 0 A) (F0 m 0 ls []) := by
  have hx := F.1.x
  have hb := F.1.b
  unfold wX6_dee at hw
  refine lv_aload_n hx hb dX6_dee_0 rfl (lv_at hl 0 rfl) ?_
  refine tg_0 F hB dX6_dee_1 ?_
  refine lv_bipush (v := 66) hx hb dX6_dee_4 (by decide) ?_
  refine lv_bipush (v := 6) hx hb dX6_dee_6 (by decide) ?_
  refine lv_iload_n hx hb dX6_dee_8 rfl (lv_at hl 1 rfl) ?_
  refine lv_imul hx hb dX6_dee_9 ?_
  refine lv_iadd hx hb dX6_dee_10 ?_
  refine lv_iload_n hx hb dX6_dee_11 rfl (lv_at hl 2 rfl) ?_
  refine lv_iadd hx hb dX6_dee_12 ?_
  obtain ⟨hin, hw⟩ := hw
  refine t_ald F hB (k := 0) rfl hin dX6_dee_13 ?_
  exact W.iret hx hb F.1.r (fun t ht hW => ⟨⟨_, _, rfl, hw, x_B (Bw := tB D A ad) ht hB⟩, hS.F ht⟩) hS.2.2 dX6_dee_14 (hlocks := F.1.k)
set_option maxHeartbeats 4000000 in
theorem mX6_dee {l : Launch} {D : DD} {A : Nat → Prop} {s0 : State} {ad : AD} {T : TS} {a1 : Int32} {a2 : Int32} {Q : Int32 → TS → Prop} (hw : wX6_dee a1 a2 T Q) : Met l yX6_dee (ws_ yX6_dee cX6_dee 3 (some .int)) rX6_dee (va_Pc [.ref (ad 0 0 0), .int a1, .int a2] (fun U => tB D A ad T U.heap ∧ CX l D A s0 U)) (va_Qi Q (fun u t => tB D A ad u t.heap) A) 0 0 A := by
  refine Met.ofW (cc := cX6_dee) (maxL := 3) (ret := some .int) (by decide) rfl ?_
  intro p e s m args below meth c s₁ B hml hv
  obtain ⟨rfl, hB, hC⟩ := hv
  have F : FX p l c cX6_dee s _ m RX6 D A s0 3 meth (some .int) := ⟨mk_FP B hml rfl, hC⟩
  have hS : va_S A s.heap s.heap [] := va_S.rf
  have hl := lv_entry ([.ref (ad 0 0 0), .int a1, .int a2]) (n := 3) (Nat.le_of_ble_eq_true rfl)
  rw [lg_entry_eq]
  generalize (lg_sl ([.ref (ad 0 0 0), .int a1, .int a2]) ++ List.replicate (3 - (lg_sl ([.ref (ad 0 0 0), .int a1, .int a2])).length) Slot.unset).toArray = ls at hl ⊢
  exact bX6_dee_0 F hB hS hw hl
theorem kX6_X6_dee {p : Program} {l : Launch} {e : Env} {R : Room} {s : State} {m : MethodId} {args : Array Value} {below : List Frame} {meth : Method} {c : Code} {H : Heap} {locs : List Loc} {cells slots : Nat} {Q0 : State → Prop} {cc : ByteArray} {pc nL : Nat} {ls : Array Slot} {rest : List Value} {ret : Option FieldType} {D : DD} {A : Nat → Prop} {s0 : State} {ad : AD} {T : TS} {a1 : Int32} {a2 : Int32} {Q : Int32 → TS → Prop} (F : FX p l c cc s args m RX6 D A s0 nL meth ret) (hB : tB D A ad T H) (hS : va_S A s.heap H locs) (hw : wX6_dee a1 a2 T Q) (hR : rX6_dee.frames + 1 ≤ R.frames ∧ 8 + (3 + 11) + rX6_dee.locals ≤ R.locals) (hc : cells + 0 ≤ R.cells ∧ slots + 0 ≤ R.slots) (hsz : ls.size = nL) (hW : (rest.map fun v => v.category).sum ≤ 8) (hdg : decode cc pc = .ok (.invokevirtual 73, 3)) (kk : ∀ (r : Int32) (u : TS) (H1 : Heap) (locs1 : List Loc), Q r u → tB D A ad u H1 → va_S A s.heap H1 locs1 → W p l e R s m args below meth c H1 locs1 cells slots Q0 (F0 m (pc + 3) ls (.int r :: rest))) : W p l e R s m args below meth c H locs cells slots Q0 (F0 m pc ls (.int a2 :: .int a1 :: .ref (ad 0 0 0) :: rest)) :=
  k_i (Bw := tB D A ad) (k_runV (Bw := tB D A ad) (n := 2) (As := [.int a1, .int a2]) F hB hS (t_recv F hB) (mX6_dee hw) q1355 q1357 qs46 q92 q1358 (by decide +kernel) hR ⟨rfl, rfl⟩ hc rfl hsz rfl hW hdg) hS kk
def rX6_left : Room := { frames := 1, cells := 0, slots := 0, locals := 22 }
set_option maxHeartbeats 4000000 in
theorem bX6_left_0 {p : Program} {l : Launch} {e : Env} {s : State} {m : MethodId} {args : Array Value} {below : List Frame} {meth : Method} {c : Code} {D : DD} {A : Nat → Prop} {s0 : State} {ad : AD} {Q : Int32 → TS → Prop} {a1 : Int32} {T : TS} {H : Heap} {locs : List Loc} {ls : Array Slot} (F : FX p l c cX6_left s args m RX6 D A s0 2 meth (some .int)) (hB : tB D A ad T H) (hS : va_S A s.heap H locs) (hw : wX6_left a1 T Q) (hl : lv_has ls 2 [(0, .ref (ad 0 0 0)), (1, .int a1)]) : W p l e rX6_left s m args below meth c H locs 0 0 (MQ below (va_Qi Q (fun u t => tB D A ad u t.heap) A) args s 0 0 A) (F0 m 0 ls []) := by
  have hx := F.1.x
  have hb := F.1.b
  unfold wX6_left at hw
  refine lv_aload_n hx hb dX6_left_0 rfl (lv_at hl 0 rfl) ?_
  refine kX6_X6_everybody F hB hS hw ⟨Nat.le_of_ble_eq_true rfl, Nat.le_of_ble_eq_true rfl⟩ ⟨Nat.zero_le _, Nat.zero_le _⟩ hl.1 (Nat.le_of_ble_eq_true rfl) dX6_left_1 (fun r1 T2 H locs hw hB hS => ?_)
  refine lv_aload_n hx hb dX6_left_4 rfl (lv_at hl 0 rfl) ?_
  refine lv_iload_n hx hb dX6_left_5 rfl (lv_at hl 1 rfl) ?_
  refine lv_iconst (v := 3) hx hb dX6_left_6 (by decide) ?_
  refine kX6_X6_dee F hB hS hw ⟨Nat.le_of_ble_eq_true rfl, Nat.le_of_ble_eq_true rfl⟩ ⟨Nat.zero_le _, Nat.zero_le _⟩ hl.1 (Nat.le_of_ble_eq_true rfl) dX6_left_7 (fun r3 T4 H locs hw hB hS => ?_)
  refine lv_iconst (v := -1) hx hb dX6_left_10 (by decide) ?_
  refine lv_ixor hx hb dX6_left_11 ?_
  refine lv_iand hx hb dX6_left_12 ?_
  exact W.iret hx hb F.1.r (fun t ht hW => ⟨⟨_, _, rfl, hw, x_B (Bw := tB D A ad) ht hB⟩, hS.F ht⟩) hS.2.2 dX6_left_13 (hlocks := F.1.k)
set_option maxHeartbeats 4000000 in
theorem mX6_left {l : Launch} {D : DD} {A : Nat → Prop} {s0 : State} {ad : AD} {T : TS} {a1 : Int32} {Q : Int32 → TS → Prop} (hw : wX6_left a1 T Q) : Met l yX6_left (ws_ yX6_left cX6_left 2 (some .int)) rX6_left (va_Pc [.ref (ad 0 0 0), .int a1] (fun U => tB D A ad T U.heap ∧ CX l D A s0 U)) (va_Qi Q (fun u t => tB D A ad u t.heap) A) 0 0 A := by
  refine Met.ofW (cc := cX6_left) (maxL := 2) (ret := some .int) (by decide) rfl ?_
  intro p e s m args below meth c s₁ B hml hv
  obtain ⟨rfl, hB, hC⟩ := hv
  have F : FX p l c cX6_left s _ m RX6 D A s0 2 meth (some .int) := ⟨mk_FP B hml rfl, hC⟩
  have hS : va_S A s.heap s.heap [] := va_S.rf
  have hl := lv_entry ([.ref (ad 0 0 0), .int a1]) (n := 2) (Nat.le_of_ble_eq_true rfl)
  rw [lg_entry_eq]
  generalize (lg_sl ([.ref (ad 0 0 0), .int a1]) ++ List.replicate (2 - (lg_sl ([.ref (ad 0 0 0), .int a1])).length) Slot.unset).toArray = ls at hl ⊢
  exact bX6_left_0 F hB hS hw hl
theorem kX6_X6_left {p : Program} {l : Launch} {e : Env} {R : Room} {s : State} {m : MethodId} {args : Array Value} {below : List Frame} {meth : Method} {c : Code} {H : Heap} {locs : List Loc} {cells slots : Nat} {Q0 : State → Prop} {cc : ByteArray} {pc nL : Nat} {ls : Array Slot} {rest : List Value} {ret : Option FieldType} {D : DD} {A : Nat → Prop} {s0 : State} {ad : AD} {T : TS} {a1 : Int32} {Q : Int32 → TS → Prop} (F : FX p l c cc s args m RX6 D A s0 nL meth ret) (hB : tB D A ad T H) (hS : va_S A s.heap H locs) (hw : wX6_left a1 T Q) (hR : rX6_left.frames + 1 ≤ R.frames ∧ 8 + (2 + 11) + rX6_left.locals ≤ R.locals) (hc : cells + 0 ≤ R.cells ∧ slots + 0 ≤ R.slots) (hsz : ls.size = nL) (hW : (rest.map fun v => v.category).sum ≤ 8) (hdg : decode cc pc = .ok (.invokevirtual 136, 3)) (kk : ∀ (r : Int32) (u : TS) (H1 : Heap) (locs1 : List Loc), Q r u → tB D A ad u H1 → va_S A s.heap H1 locs1 → W p l e R s m args below meth c H1 locs1 cells slots Q0 (F0 m (pc + 3) ls (.int r :: rest))) : W p l e R s m args below meth c H locs cells slots Q0 (F0 m pc ls (.int a1 :: .ref (ad 0 0 0) :: rest)) :=
  k_i (Bw := tB D A ad) (k_runV (Bw := tB D A ad) (n := 1) (As := [.int a1]) F hB hS (t_recv F hB) (mX6_left hw) q1434 q1436 qs53 q92 q1437 (by decide +kernel) hR ⟨rfl, rfl⟩ hc rfl hsz rfl hW hdg) hS kk
def rX6_joined : Room := { frames := 0, cells := 0, slots := 0, locals := 0 }
set_option maxHeartbeats 4000000 in
theorem bX6_joined_0 {p : Program} {l : Launch} {e : Env} {s : State} {m : MethodId} {args : Array Value} {below : List Frame} {meth : Method} {c : Code} {Q : Int32 → Prop} {a0 : Int32} {a1 : Int32} {a2 : Int32} {ls : Array Slot} (F : FP p c cX6_joined s args m RX6 3 meth (some .int)) (hw : wX6_joined a0 a1 a2 Q) (hl : lv_has ls 3 [(0, .int a0), (1, .int a1), (2, .int a2)]) : W p l e rX6_joined s m args below meth c s.heap [] 0 0 (MQ below (vp_Si Q) args s 0 0 (fun _ => False)) (F0 m 0 ls []) := by
  have hx := F.x
  have hb := F.b
  unfold wX6_joined at hw
  refine lv_iload_n hx hb dX6_joined_0 rfl (lv_at hl 0 rfl) ?_
  by_cases q38 : a0 = 38
  · replace hw := hw.1 q38
    refine lv_tableIn (off := 182) (tgt := 183) hx hb dX6_joined_1 (by rw [q38]; decide) (by rw [q38]; decide) (by rw [q38]; rfl) (by decide) ?_
    refine lv_iload_n hx hb dX6_joined_183 rfl (lv_at hl 1 rfl) ?_
    refine lv_if_eq (tgt := 195) hx hb dX6_joined_184 (by decide) (fun q => ?_) (fun q => ?_)
    · replace hw := hw.1 q
      refine lv_iconst (v := 0) hx hb dX6_joined_195 (by decide) ?_
      exact W.iret hx hb F.r (fun t ht hW => ⟨_, rfl, hw, ht⟩) (fun _ h => absurd h List.not_mem_nil) dX6_joined_196 (hlocks := F.k)
    · replace hw := hw.2 q
      refine lv_iload_n hx hb dX6_joined_187 rfl (lv_at hl 2 rfl) ?_
      refine lv_if_eq (tgt := 195) hx hb dX6_joined_188 (by decide) (fun q => ?_) (fun q => ?_)
      · replace hw := hw.1 q
        refine lv_iconst (v := 0) hx hb dX6_joined_195 (by decide) ?_
        exact W.iret hx hb F.r (fun t ht hW => ⟨_, rfl, hw, ht⟩) (fun _ h => absurd h List.not_mem_nil) dX6_joined_196 (hlocks := F.k)
      · replace hw := hw.2 q
        refine lv_iconst (v := 1) hx hb dX6_joined_191 (by decide) ?_
        refine lv_goto (tgt := 196) hx hb dX6_joined_192 (by decide) ?_
        exact W.iret hx hb F.r (fun t ht hW => ⟨_, rfl, hw, ht⟩) (fun _ h => absurd h List.not_mem_nil) dX6_joined_196 (hlocks := F.k)
  replace hw := hw.2 q38
  by_cases q39 : a0 = 39
  · replace hw := hw.1 q39
    refine lv_tableIn (off := 196) (tgt := 197) hx hb dX6_joined_1 (by rw [q39]; decide) (by rw [q39]; decide) (by rw [q39]; rfl) (by decide) ?_
    refine lv_iload_n hx hb dX6_joined_197 rfl (lv_at hl 1 rfl) ?_
    refine lv_if_ne (tgt := 205) hx hb dX6_joined_198 (by decide) (fun q => ?_) (fun q => ?_)
    · replace hw := hw.2 q
      refine lv_iconst (v := 1) hx hb dX6_joined_205 (by decide) ?_
      refine lv_goto (tgt := 210) hx hb dX6_joined_206 (by decide) ?_
      exact W.iret hx hb F.r (fun t ht hW => ⟨_, rfl, hw, ht⟩) (fun _ h => absurd h List.not_mem_nil) dX6_joined_210 (hlocks := F.k)
    · replace hw := hw.1 q
      refine lv_iload_n hx hb dX6_joined_201 rfl (lv_at hl 2 rfl) ?_
      refine lv_if_eq (tgt := 209) hx hb dX6_joined_202 (by decide) (fun q => ?_) (fun q => ?_)
      · replace hw := hw.1 q
        refine lv_iconst (v := 0) hx hb dX6_joined_209 (by decide) ?_
        exact W.iret hx hb F.r (fun t ht hW => ⟨_, rfl, hw, ht⟩) (fun _ h => absurd h List.not_mem_nil) dX6_joined_210 (hlocks := F.k)
      · replace hw := hw.2 q
        refine lv_iconst (v := 1) hx hb dX6_joined_205 (by decide) ?_
        refine lv_goto (tgt := 210) hx hb dX6_joined_206 (by decide) ?_
        exact W.iret hx hb F.r (fun t ht hW => ⟨_, rfl, hw, ht⟩) (fun _ h => absurd h List.not_mem_nil) dX6_joined_210 (hlocks := F.k)
  replace hw := hw.2 q39
  by_cases q40 : a0 = 40
  · replace hw := hw.1 q40
    refine lv_tableIn (off := 196) (tgt := 197) hx hb dX6_joined_1 (by rw [q40]; decide) (by rw [q40]; decide) (by rw [q40]; rfl) (by decide) ?_
    refine lv_iload_n hx hb dX6_joined_197 rfl (lv_at hl 1 rfl) ?_
    refine lv_if_ne (tgt := 205) hx hb dX6_joined_198 (by decide) (fun q => ?_) (fun q => ?_)
    · replace hw := hw.2 q
      refine lv_iconst (v := 1) hx hb dX6_joined_205 (by decide) ?_
      refine lv_goto (tgt := 210) hx hb dX6_joined_206 (by decide) ?_
      exact W.iret hx hb F.r (fun t ht hW => ⟨_, rfl, hw, ht⟩) (fun _ h => absurd h List.not_mem_nil) dX6_joined_210 (hlocks := F.k)
    · replace hw := hw.1 q
      refine lv_iload_n hx hb dX6_joined_201 rfl (lv_at hl 2 rfl) ?_
      refine lv_if_eq (tgt := 209) hx hb dX6_joined_202 (by decide) (fun q => ?_) (fun q => ?_)
      · replace hw := hw.1 q
        refine lv_iconst (v := 0) hx hb dX6_joined_209 (by decide) ?_
        exact W.iret hx hb F.r (fun t ht hW => ⟨_, rfl, hw, ht⟩) (fun _ h => absurd h List.not_mem_nil) dX6_joined_210 (hlocks := F.k)
      · replace hw := hw.2 q
        refine lv_iconst (v := 1) hx hb dX6_joined_205 (by decide) ?_
        refine lv_goto (tgt := 210) hx hb dX6_joined_206 (by decide) ?_
        exact W.iret hx hb F.r (fun t ht hW => ⟨_, rfl, hw, ht⟩) (fun _ h => absurd h List.not_mem_nil) dX6_joined_210 (hlocks := F.k)
  replace hw := hw.2 q40
  by_cases q41 : a0 = 41
  · replace hw := hw.1 q41
    refine lv_tableIn (off := 196) (tgt := 197) hx hb dX6_joined_1 (by rw [q41]; decide) (by rw [q41]; decide) (by rw [q41]; rfl) (by decide) ?_
    refine lv_iload_n hx hb dX6_joined_197 rfl (lv_at hl 1 rfl) ?_
    refine lv_if_ne (tgt := 205) hx hb dX6_joined_198 (by decide) (fun q => ?_) (fun q => ?_)
    · replace hw := hw.2 q
      refine lv_iconst (v := 1) hx hb dX6_joined_205 (by decide) ?_
      refine lv_goto (tgt := 210) hx hb dX6_joined_206 (by decide) ?_
      exact W.iret hx hb F.r (fun t ht hW => ⟨_, rfl, hw, ht⟩) (fun _ h => absurd h List.not_mem_nil) dX6_joined_210 (hlocks := F.k)
    · replace hw := hw.1 q
      refine lv_iload_n hx hb dX6_joined_201 rfl (lv_at hl 2 rfl) ?_
      refine lv_if_eq (tgt := 209) hx hb dX6_joined_202 (by decide) (fun q => ?_) (fun q => ?_)
      · replace hw := hw.1 q
        refine lv_iconst (v := 0) hx hb dX6_joined_209 (by decide) ?_
        exact W.iret hx hb F.r (fun t ht hW => ⟨_, rfl, hw, ht⟩) (fun _ h => absurd h List.not_mem_nil) dX6_joined_210 (hlocks := F.k)
      · replace hw := hw.2 q
        refine lv_iconst (v := 1) hx hb dX6_joined_205 (by decide) ?_
        refine lv_goto (tgt := 210) hx hb dX6_joined_206 (by decide) ?_
        exact W.iret hx hb F.r (fun t ht hW => ⟨_, rfl, hw, ht⟩) (fun _ h => absurd h List.not_mem_nil) dX6_joined_210 (hlocks := F.k)
  replace hw := hw.2 q41
  by_cases q42 : a0 = 42
  · replace hw := hw.1 q42
    refine lv_tableIn (off := 123) (tgt := 124) hx hb dX6_joined_1 (by rw [q42]; decide) (by rw [q42]; decide) (by rw [q42]; rfl) (by decide) ?_
    refine lv_iload_n hx hb dX6_joined_124 rfl (lv_at hl 1 rfl) ?_
    refine lv_iload_n hx hb dX6_joined_125 rfl (lv_at hl 2 rfl) ?_
    refine lv_imul hx hb dX6_joined_126 ?_
    exact W.iret hx hb F.r (fun t ht hW => ⟨_, rfl, hw, ht⟩) (fun _ h => absurd h List.not_mem_nil) dX6_joined_127 (hlocks := F.k)
  replace hw := hw.2 q42
  by_cases q43 : a0 = 43
  · replace hw := hw.1 q43
    refine lv_tableIn (off := 115) (tgt := 116) hx hb dX6_joined_1 (by rw [q43]; decide) (by rw [q43]; decide) (by rw [q43]; rfl) (by decide) ?_
    refine lv_iload_n hx hb dX6_joined_116 rfl (lv_at hl 1 rfl) ?_
    refine lv_iload_n hx hb dX6_joined_117 rfl (lv_at hl 2 rfl) ?_
    refine lv_iadd hx hb dX6_joined_118 ?_
    exact W.iret hx hb F.r (fun t ht hW => ⟨_, rfl, hw, ht⟩) (fun _ h => absurd h List.not_mem_nil) dX6_joined_119 (hlocks := F.k)
  replace hw := hw.2 q43
  by_cases q44 : a0 = 44
  · replace hw := hw.1 q44
    refine lv_tableIn (off := 196) (tgt := 197) hx hb dX6_joined_1 (by rw [q44]; decide) (by rw [q44]; decide) (by rw [q44]; rfl) (by decide) ?_
    refine lv_iload_n hx hb dX6_joined_197 rfl (lv_at hl 1 rfl) ?_
    refine lv_if_ne (tgt := 205) hx hb dX6_joined_198 (by decide) (fun q => ?_) (fun q => ?_)
    · replace hw := hw.2 q
      refine lv_iconst (v := 1) hx hb dX6_joined_205 (by decide) ?_
      refine lv_goto (tgt := 210) hx hb dX6_joined_206 (by decide) ?_
      exact W.iret hx hb F.r (fun t ht hW => ⟨_, rfl, hw, ht⟩) (fun _ h => absurd h List.not_mem_nil) dX6_joined_210 (hlocks := F.k)
    · replace hw := hw.1 q
      refine lv_iload_n hx hb dX6_joined_201 rfl (lv_at hl 2 rfl) ?_
      refine lv_if_eq (tgt := 209) hx hb dX6_joined_202 (by decide) (fun q => ?_) (fun q => ?_)
      · replace hw := hw.1 q
        refine lv_iconst (v := 0) hx hb dX6_joined_209 (by decide) ?_
        exact W.iret hx hb F.r (fun t ht hW => ⟨_, rfl, hw, ht⟩) (fun _ h => absurd h List.not_mem_nil) dX6_joined_210 (hlocks := F.k)
      · replace hw := hw.2 q
        refine lv_iconst (v := 1) hx hb dX6_joined_205 (by decide) ?_
        refine lv_goto (tgt := 210) hx hb dX6_joined_206 (by decide) ?_
        exact W.iret hx hb F.r (fun t ht hW => ⟨_, rfl, hw, ht⟩) (fun _ h => absurd h List.not_mem_nil) dX6_joined_210 (hlocks := F.k)
  replace hw := hw.2 q44
  by_cases q45 : a0 = 45
  · replace hw := hw.1 q45
    refine lv_tableIn (off := 119) (tgt := 120) hx hb dX6_joined_1 (by rw [q45]; decide) (by rw [q45]; decide) (by rw [q45]; rfl) (by decide) ?_
    refine lv_iload_n hx hb dX6_joined_120 rfl (lv_at hl 1 rfl) ?_
    refine lv_iload_n hx hb dX6_joined_121 rfl (lv_at hl 2 rfl) ?_
    refine lv_isub hx hb dX6_joined_122 ?_
    exact W.iret hx hb F.r (fun t ht hW => ⟨_, rfl, hw, ht⟩) (fun _ h => absurd h List.not_mem_nil) dX6_joined_123 (hlocks := F.k)
  replace hw := hw.2 q45
  by_cases q46 : a0 = 46
  · replace hw := hw.1 q46
    refine lv_tableIn (off := 196) (tgt := 197) hx hb dX6_joined_1 (by rw [q46]; decide) (by rw [q46]; decide) (by rw [q46]; rfl) (by decide) ?_
    refine lv_iload_n hx hb dX6_joined_197 rfl (lv_at hl 1 rfl) ?_
    refine lv_if_ne (tgt := 205) hx hb dX6_joined_198 (by decide) (fun q => ?_) (fun q => ?_)
    · replace hw := hw.2 q
      refine lv_iconst (v := 1) hx hb dX6_joined_205 (by decide) ?_
      refine lv_goto (tgt := 210) hx hb dX6_joined_206 (by decide) ?_
      exact W.iret hx hb F.r (fun t ht hW => ⟨_, rfl, hw, ht⟩) (fun _ h => absurd h List.not_mem_nil) dX6_joined_210 (hlocks := F.k)
    · replace hw := hw.1 q
      refine lv_iload_n hx hb dX6_joined_201 rfl (lv_at hl 2 rfl) ?_
      refine lv_if_eq (tgt := 209) hx hb dX6_joined_202 (by decide) (fun q => ?_) (fun q => ?_)
      · replace hw := hw.1 q
        refine lv_iconst (v := 0) hx hb dX6_joined_209 (by decide) ?_
        exact W.iret hx hb F.r (fun t ht hW => ⟨_, rfl, hw, ht⟩) (fun _ h => absurd h List.not_mem_nil) dX6_joined_210 (hlocks := F.k)
      · replace hw := hw.2 q
        refine lv_iconst (v := 1) hx hb dX6_joined_205 (by decide) ?_
        refine lv_goto (tgt := 210) hx hb dX6_joined_206 (by decide) ?_
        exact W.iret hx hb F.r (fun t ht hW => ⟨_, rfl, hw, ht⟩) (fun _ h => absurd h List.not_mem_nil) dX6_joined_210 (hlocks := F.k)
  replace hw := hw.2 q46
  by_cases q47 : a0 = 47
  · replace hw := hw.1 q47
    refine lv_tableIn (off := 127) (tgt := 128) hx hb dX6_joined_1 (by rw [q47]; decide) (by rw [q47]; decide) (by rw [q47]; rfl) (by decide) ?_
    refine lv_iload_n hx hb dX6_joined_128 rfl (lv_at hl 2 rfl) ?_
    refine lv_if_ne (tgt := 136) hx hb dX6_joined_129 (by decide) (fun q => ?_) (fun q => ?_)
    · replace hw := hw.2 q
      refine lv_iload_n hx hb dX6_joined_136 rfl (lv_at hl 2 rfl) ?_
      refine lv_iconst (v := -1) hx hb dX6_joined_137 (by decide) ?_
      refine lv_icmp_ne (tgt := 146) hx hb dX6_joined_138 (by decide) (fun q => ?_) (fun q => ?_)
      · replace hw := hw.2 q
        refine lv_iload_n hx hb dX6_joined_146 rfl (lv_at hl 1 rfl) ?_
        refine lv_iload_n hx hb dX6_joined_147 rfl (lv_at hl 2 rfl) ?_
        obtain ⟨hne, hw⟩ := hw
        refine lv_idiv hx hb dX6_joined_148 hne ?_
        exact W.iret hx hb F.r (fun t ht hW => ⟨_, rfl, hw, ht⟩) (fun _ h => absurd h List.not_mem_nil) dX6_joined_149 (hlocks := F.k)
      · replace hw := hw.1 q
        refine lv_iload_n hx hb dX6_joined_141 rfl (lv_at hl 1 rfl) ?_
        refine lv_ineg hx hb dX6_joined_142 ?_
        refine lv_goto (tgt := 149) hx hb dX6_joined_143 (by decide) ?_
        exact W.iret hx hb F.r (fun t ht hW => ⟨_, rfl, hw, ht⟩) (fun _ h => absurd h List.not_mem_nil) dX6_joined_149 (hlocks := F.k)
    · replace hw := hw.1 q
      refine lv_iconst (v := 0) hx hb dX6_joined_132 (by decide) ?_
      refine lv_goto (tgt := 149) hx hb dX6_joined_133 (by decide) ?_
      exact W.iret hx hb F.r (fun t ht hW => ⟨_, rfl, hw, ht⟩) (fun _ h => absurd h List.not_mem_nil) dX6_joined_149 (hlocks := F.k)
  replace hw := hw.2 q47
  by_cases q48 : a0 = 48
  · replace hw := hw.1 q48
    refine lv_tableIn (off := 196) (tgt := 197) hx hb dX6_joined_1 (by rw [q48]; decide) (by rw [q48]; decide) (by rw [q48]; rfl) (by decide) ?_
    refine lv_iload_n hx hb dX6_joined_197 rfl (lv_at hl 1 rfl) ?_
    refine lv_if_ne (tgt := 205) hx hb dX6_joined_198 (by decide) (fun q => ?_) (fun q => ?_)
    · replace hw := hw.2 q
      refine lv_iconst (v := 1) hx hb dX6_joined_205 (by decide) ?_
      refine lv_goto (tgt := 210) hx hb dX6_joined_206 (by decide) ?_
      exact W.iret hx hb F.r (fun t ht hW => ⟨_, rfl, hw, ht⟩) (fun _ h => absurd h List.not_mem_nil) dX6_joined_210 (hlocks := F.k)
    · replace hw := hw.1 q
      refine lv_iload_n hx hb dX6_joined_201 rfl (lv_at hl 2 rfl) ?_
      refine lv_if_eq (tgt := 209) hx hb dX6_joined_202 (by decide) (fun q => ?_) (fun q => ?_)
      · replace hw := hw.1 q
        refine lv_iconst (v := 0) hx hb dX6_joined_209 (by decide) ?_
        exact W.iret hx hb F.r (fun t ht hW => ⟨_, rfl, hw, ht⟩) (fun _ h => absurd h List.not_mem_nil) dX6_joined_210 (hlocks := F.k)
      · replace hw := hw.2 q
        refine lv_iconst (v := 1) hx hb dX6_joined_205 (by decide) ?_
        refine lv_goto (tgt := 210) hx hb dX6_joined_206 (by decide) ?_
        exact W.iret hx hb F.r (fun t ht hW => ⟨_, rfl, hw, ht⟩) (fun _ h => absurd h List.not_mem_nil) dX6_joined_210 (hlocks := F.k)
  replace hw := hw.2 q48
  by_cases q49 : a0 = 49
  · replace hw := hw.1 q49
    refine lv_tableIn (off := 196) (tgt := 197) hx hb dX6_joined_1 (by rw [q49]; decide) (by rw [q49]; decide) (by rw [q49]; rfl) (by decide) ?_
    refine lv_iload_n hx hb dX6_joined_197 rfl (lv_at hl 1 rfl) ?_
    refine lv_if_ne (tgt := 205) hx hb dX6_joined_198 (by decide) (fun q => ?_) (fun q => ?_)
    · replace hw := hw.2 q
      refine lv_iconst (v := 1) hx hb dX6_joined_205 (by decide) ?_
      refine lv_goto (tgt := 210) hx hb dX6_joined_206 (by decide) ?_
      exact W.iret hx hb F.r (fun t ht hW => ⟨_, rfl, hw, ht⟩) (fun _ h => absurd h List.not_mem_nil) dX6_joined_210 (hlocks := F.k)
    · replace hw := hw.1 q
      refine lv_iload_n hx hb dX6_joined_201 rfl (lv_at hl 2 rfl) ?_
      refine lv_if_eq (tgt := 209) hx hb dX6_joined_202 (by decide) (fun q => ?_) (fun q => ?_)
      · replace hw := hw.1 q
        refine lv_iconst (v := 0) hx hb dX6_joined_209 (by decide) ?_
        exact W.iret hx hb F.r (fun t ht hW => ⟨_, rfl, hw, ht⟩) (fun _ h => absurd h List.not_mem_nil) dX6_joined_210 (hlocks := F.k)
      · replace hw := hw.2 q
        refine lv_iconst (v := 1) hx hb dX6_joined_205 (by decide) ?_
        refine lv_goto (tgt := 210) hx hb dX6_joined_206 (by decide) ?_
        exact W.iret hx hb F.r (fun t ht hW => ⟨_, rfl, hw, ht⟩) (fun _ h => absurd h List.not_mem_nil) dX6_joined_210 (hlocks := F.k)
  replace hw := hw.2 q49
  by_cases q50 : a0 = 50
  · replace hw := hw.1 q50
    refine lv_tableIn (off := 196) (tgt := 197) hx hb dX6_joined_1 (by rw [q50]; decide) (by rw [q50]; decide) (by rw [q50]; rfl) (by decide) ?_
    refine lv_iload_n hx hb dX6_joined_197 rfl (lv_at hl 1 rfl) ?_
    refine lv_if_ne (tgt := 205) hx hb dX6_joined_198 (by decide) (fun q => ?_) (fun q => ?_)
    · replace hw := hw.2 q
      refine lv_iconst (v := 1) hx hb dX6_joined_205 (by decide) ?_
      refine lv_goto (tgt := 210) hx hb dX6_joined_206 (by decide) ?_
      exact W.iret hx hb F.r (fun t ht hW => ⟨_, rfl, hw, ht⟩) (fun _ h => absurd h List.not_mem_nil) dX6_joined_210 (hlocks := F.k)
    · replace hw := hw.1 q
      refine lv_iload_n hx hb dX6_joined_201 rfl (lv_at hl 2 rfl) ?_
      refine lv_if_eq (tgt := 209) hx hb dX6_joined_202 (by decide) (fun q => ?_) (fun q => ?_)
      · replace hw := hw.1 q
        refine lv_iconst (v := 0) hx hb dX6_joined_209 (by decide) ?_
        exact W.iret hx hb F.r (fun t ht hW => ⟨_, rfl, hw, ht⟩) (fun _ h => absurd h List.not_mem_nil) dX6_joined_210 (hlocks := F.k)
      · replace hw := hw.2 q
        refine lv_iconst (v := 1) hx hb dX6_joined_205 (by decide) ?_
        refine lv_goto (tgt := 210) hx hb dX6_joined_206 (by decide) ?_
        exact W.iret hx hb F.r (fun t ht hW => ⟨_, rfl, hw, ht⟩) (fun _ h => absurd h List.not_mem_nil) dX6_joined_210 (hlocks := F.k)
  replace hw := hw.2 q50
  by_cases q51 : a0 = 51
  · replace hw := hw.1 q51
    refine lv_tableIn (off := 196) (tgt := 197) hx hb dX6_joined_1 (by rw [q51]; decide) (by rw [q51]; decide) (by rw [q51]; rfl) (by decide) ?_
    refine lv_iload_n hx hb dX6_joined_197 rfl (lv_at hl 1 rfl) ?_
    refine lv_if_ne (tgt := 205) hx hb dX6_joined_198 (by decide) (fun q => ?_) (fun q => ?_)
    · replace hw := hw.2 q
      refine lv_iconst (v := 1) hx hb dX6_joined_205 (by decide) ?_
      refine lv_goto (tgt := 210) hx hb dX6_joined_206 (by decide) ?_
      exact W.iret hx hb F.r (fun t ht hW => ⟨_, rfl, hw, ht⟩) (fun _ h => absurd h List.not_mem_nil) dX6_joined_210 (hlocks := F.k)
    · replace hw := hw.1 q
      refine lv_iload_n hx hb dX6_joined_201 rfl (lv_at hl 2 rfl) ?_
      refine lv_if_eq (tgt := 209) hx hb dX6_joined_202 (by decide) (fun q => ?_) (fun q => ?_)
      · replace hw := hw.1 q
        refine lv_iconst (v := 0) hx hb dX6_joined_209 (by decide) ?_
        exact W.iret hx hb F.r (fun t ht hW => ⟨_, rfl, hw, ht⟩) (fun _ h => absurd h List.not_mem_nil) dX6_joined_210 (hlocks := F.k)
      · replace hw := hw.2 q
        refine lv_iconst (v := 1) hx hb dX6_joined_205 (by decide) ?_
        refine lv_goto (tgt := 210) hx hb dX6_joined_206 (by decide) ?_
        exact W.iret hx hb F.r (fun t ht hW => ⟨_, rfl, hw, ht⟩) (fun _ h => absurd h List.not_mem_nil) dX6_joined_210 (hlocks := F.k)
  replace hw := hw.2 q51
  by_cases q52 : a0 = 52
  · replace hw := hw.1 q52
    refine lv_tableIn (off := 196) (tgt := 197) hx hb dX6_joined_1 (by rw [q52]; decide) (by rw [q52]; decide) (by rw [q52]; rfl) (by decide) ?_
    refine lv_iload_n hx hb dX6_joined_197 rfl (lv_at hl 1 rfl) ?_
    refine lv_if_ne (tgt := 205) hx hb dX6_joined_198 (by decide) (fun q => ?_) (fun q => ?_)
    · replace hw := hw.2 q
      refine lv_iconst (v := 1) hx hb dX6_joined_205 (by decide) ?_
      refine lv_goto (tgt := 210) hx hb dX6_joined_206 (by decide) ?_
      exact W.iret hx hb F.r (fun t ht hW => ⟨_, rfl, hw, ht⟩) (fun _ h => absurd h List.not_mem_nil) dX6_joined_210 (hlocks := F.k)
    · replace hw := hw.1 q
      refine lv_iload_n hx hb dX6_joined_201 rfl (lv_at hl 2 rfl) ?_
      refine lv_if_eq (tgt := 209) hx hb dX6_joined_202 (by decide) (fun q => ?_) (fun q => ?_)
      · replace hw := hw.1 q
        refine lv_iconst (v := 0) hx hb dX6_joined_209 (by decide) ?_
        exact W.iret hx hb F.r (fun t ht hW => ⟨_, rfl, hw, ht⟩) (fun _ h => absurd h List.not_mem_nil) dX6_joined_210 (hlocks := F.k)
      · replace hw := hw.2 q
        refine lv_iconst (v := 1) hx hb dX6_joined_205 (by decide) ?_
        refine lv_goto (tgt := 210) hx hb dX6_joined_206 (by decide) ?_
        exact W.iret hx hb F.r (fun t ht hW => ⟨_, rfl, hw, ht⟩) (fun _ h => absurd h List.not_mem_nil) dX6_joined_210 (hlocks := F.k)
  replace hw := hw.2 q52
  by_cases q53 : a0 = 53
  · replace hw := hw.1 q53
    refine lv_tableIn (off := 196) (tgt := 197) hx hb dX6_joined_1 (by rw [q53]; decide) (by rw [q53]; decide) (by rw [q53]; rfl) (by decide) ?_
    refine lv_iload_n hx hb dX6_joined_197 rfl (lv_at hl 1 rfl) ?_
    refine lv_if_ne (tgt := 205) hx hb dX6_joined_198 (by decide) (fun q => ?_) (fun q => ?_)
    · replace hw := hw.2 q
      refine lv_iconst (v := 1) hx hb dX6_joined_205 (by decide) ?_
      refine lv_goto (tgt := 210) hx hb dX6_joined_206 (by decide) ?_
      exact W.iret hx hb F.r (fun t ht hW => ⟨_, rfl, hw, ht⟩) (fun _ h => absurd h List.not_mem_nil) dX6_joined_210 (hlocks := F.k)
    · replace hw := hw.1 q
      refine lv_iload_n hx hb dX6_joined_201 rfl (lv_at hl 2 rfl) ?_
      refine lv_if_eq (tgt := 209) hx hb dX6_joined_202 (by decide) (fun q => ?_) (fun q => ?_)
      · replace hw := hw.1 q
        refine lv_iconst (v := 0) hx hb dX6_joined_209 (by decide) ?_
        exact W.iret hx hb F.r (fun t ht hW => ⟨_, rfl, hw, ht⟩) (fun _ h => absurd h List.not_mem_nil) dX6_joined_210 (hlocks := F.k)
      · replace hw := hw.2 q
        refine lv_iconst (v := 1) hx hb dX6_joined_205 (by decide) ?_
        refine lv_goto (tgt := 210) hx hb dX6_joined_206 (by decide) ?_
        exact W.iret hx hb F.r (fun t ht hW => ⟨_, rfl, hw, ht⟩) (fun _ h => absurd h List.not_mem_nil) dX6_joined_210 (hlocks := F.k)
  replace hw := hw.2 q53
  by_cases q54 : a0 = 54
  · replace hw := hw.1 q54
    refine lv_tableIn (off := 196) (tgt := 197) hx hb dX6_joined_1 (by rw [q54]; decide) (by rw [q54]; decide) (by rw [q54]; rfl) (by decide) ?_
    refine lv_iload_n hx hb dX6_joined_197 rfl (lv_at hl 1 rfl) ?_
    refine lv_if_ne (tgt := 205) hx hb dX6_joined_198 (by decide) (fun q => ?_) (fun q => ?_)
    · replace hw := hw.2 q
      refine lv_iconst (v := 1) hx hb dX6_joined_205 (by decide) ?_
      refine lv_goto (tgt := 210) hx hb dX6_joined_206 (by decide) ?_
      exact W.iret hx hb F.r (fun t ht hW => ⟨_, rfl, hw, ht⟩) (fun _ h => absurd h List.not_mem_nil) dX6_joined_210 (hlocks := F.k)
    · replace hw := hw.1 q
      refine lv_iload_n hx hb dX6_joined_201 rfl (lv_at hl 2 rfl) ?_
      refine lv_if_eq (tgt := 209) hx hb dX6_joined_202 (by decide) (fun q => ?_) (fun q => ?_)
      · replace hw := hw.1 q
        refine lv_iconst (v := 0) hx hb dX6_joined_209 (by decide) ?_
        exact W.iret hx hb F.r (fun t ht hW => ⟨_, rfl, hw, ht⟩) (fun _ h => absurd h List.not_mem_nil) dX6_joined_210 (hlocks := F.k)
      · replace hw := hw.2 q
        refine lv_iconst (v := 1) hx hb dX6_joined_205 (by decide) ?_
        refine lv_goto (tgt := 210) hx hb dX6_joined_206 (by decide) ?_
        exact W.iret hx hb F.r (fun t ht hW => ⟨_, rfl, hw, ht⟩) (fun _ h => absurd h List.not_mem_nil) dX6_joined_210 (hlocks := F.k)
  replace hw := hw.2 q54
  by_cases q55 : a0 = 55
  · replace hw := hw.1 q55
    refine lv_tableIn (off := 196) (tgt := 197) hx hb dX6_joined_1 (by rw [q55]; decide) (by rw [q55]; decide) (by rw [q55]; rfl) (by decide) ?_
    refine lv_iload_n hx hb dX6_joined_197 rfl (lv_at hl 1 rfl) ?_
    refine lv_if_ne (tgt := 205) hx hb dX6_joined_198 (by decide) (fun q => ?_) (fun q => ?_)
    · replace hw := hw.2 q
      refine lv_iconst (v := 1) hx hb dX6_joined_205 (by decide) ?_
      refine lv_goto (tgt := 210) hx hb dX6_joined_206 (by decide) ?_
      exact W.iret hx hb F.r (fun t ht hW => ⟨_, rfl, hw, ht⟩) (fun _ h => absurd h List.not_mem_nil) dX6_joined_210 (hlocks := F.k)
    · replace hw := hw.1 q
      refine lv_iload_n hx hb dX6_joined_201 rfl (lv_at hl 2 rfl) ?_
      refine lv_if_eq (tgt := 209) hx hb dX6_joined_202 (by decide) (fun q => ?_) (fun q => ?_)
      · replace hw := hw.1 q
        refine lv_iconst (v := 0) hx hb dX6_joined_209 (by decide) ?_
        exact W.iret hx hb F.r (fun t ht hW => ⟨_, rfl, hw, ht⟩) (fun _ h => absurd h List.not_mem_nil) dX6_joined_210 (hlocks := F.k)
      · replace hw := hw.2 q
        refine lv_iconst (v := 1) hx hb dX6_joined_205 (by decide) ?_
        refine lv_goto (tgt := 210) hx hb dX6_joined_206 (by decide) ?_
        exact W.iret hx hb F.r (fun t ht hW => ⟨_, rfl, hw, ht⟩) (fun _ h => absurd h List.not_mem_nil) dX6_joined_210 (hlocks := F.k)
  replace hw := hw.2 q55
  by_cases q56 : a0 = 56
  · replace hw := hw.1 q56
    refine lv_tableIn (off := 196) (tgt := 197) hx hb dX6_joined_1 (by rw [q56]; decide) (by rw [q56]; decide) (by rw [q56]; rfl) (by decide) ?_
    refine lv_iload_n hx hb dX6_joined_197 rfl (lv_at hl 1 rfl) ?_
    refine lv_if_ne (tgt := 205) hx hb dX6_joined_198 (by decide) (fun q => ?_) (fun q => ?_)
    · replace hw := hw.2 q
      refine lv_iconst (v := 1) hx hb dX6_joined_205 (by decide) ?_
      refine lv_goto (tgt := 210) hx hb dX6_joined_206 (by decide) ?_
      exact W.iret hx hb F.r (fun t ht hW => ⟨_, rfl, hw, ht⟩) (fun _ h => absurd h List.not_mem_nil) dX6_joined_210 (hlocks := F.k)
    · replace hw := hw.1 q
      refine lv_iload_n hx hb dX6_joined_201 rfl (lv_at hl 2 rfl) ?_
      refine lv_if_eq (tgt := 209) hx hb dX6_joined_202 (by decide) (fun q => ?_) (fun q => ?_)
      · replace hw := hw.1 q
        refine lv_iconst (v := 0) hx hb dX6_joined_209 (by decide) ?_
        exact W.iret hx hb F.r (fun t ht hW => ⟨_, rfl, hw, ht⟩) (fun _ h => absurd h List.not_mem_nil) dX6_joined_210 (hlocks := F.k)
      · replace hw := hw.2 q
        refine lv_iconst (v := 1) hx hb dX6_joined_205 (by decide) ?_
        refine lv_goto (tgt := 210) hx hb dX6_joined_206 (by decide) ?_
        exact W.iret hx hb F.r (fun t ht hW => ⟨_, rfl, hw, ht⟩) (fun _ h => absurd h List.not_mem_nil) dX6_joined_210 (hlocks := F.k)
  replace hw := hw.2 q56
  by_cases q57 : a0 = 57
  · replace hw := hw.1 q57
    refine lv_tableIn (off := 196) (tgt := 197) hx hb dX6_joined_1 (by rw [q57]; decide) (by rw [q57]; decide) (by rw [q57]; rfl) (by decide) ?_
    refine lv_iload_n hx hb dX6_joined_197 rfl (lv_at hl 1 rfl) ?_
    refine lv_if_ne (tgt := 205) hx hb dX6_joined_198 (by decide) (fun q => ?_) (fun q => ?_)
    · replace hw := hw.2 q
      refine lv_iconst (v := 1) hx hb dX6_joined_205 (by decide) ?_
      refine lv_goto (tgt := 210) hx hb dX6_joined_206 (by decide) ?_
      exact W.iret hx hb F.r (fun t ht hW => ⟨_, rfl, hw, ht⟩) (fun _ h => absurd h List.not_mem_nil) dX6_joined_210 (hlocks := F.k)
    · replace hw := hw.1 q
      refine lv_iload_n hx hb dX6_joined_201 rfl (lv_at hl 2 rfl) ?_
      refine lv_if_eq (tgt := 209) hx hb dX6_joined_202 (by decide) (fun q => ?_) (fun q => ?_)
      · replace hw := hw.1 q
        refine lv_iconst (v := 0) hx hb dX6_joined_209 (by decide) ?_
        exact W.iret hx hb F.r (fun t ht hW => ⟨_, rfl, hw, ht⟩) (fun _ h => absurd h List.not_mem_nil) dX6_joined_210 (hlocks := F.k)
      · replace hw := hw.2 q
        refine lv_iconst (v := 1) hx hb dX6_joined_205 (by decide) ?_
        refine lv_goto (tgt := 210) hx hb dX6_joined_206 (by decide) ?_
        exact W.iret hx hb F.r (fun t ht hW => ⟨_, rfl, hw, ht⟩) (fun _ h => absurd h List.not_mem_nil) dX6_joined_210 (hlocks := F.k)
  replace hw := hw.2 q57
  by_cases q58 : a0 = 58
  · replace hw := hw.1 q58
    refine lv_tableIn (off := 196) (tgt := 197) hx hb dX6_joined_1 (by rw [q58]; decide) (by rw [q58]; decide) (by rw [q58]; rfl) (by decide) ?_
    refine lv_iload_n hx hb dX6_joined_197 rfl (lv_at hl 1 rfl) ?_
    refine lv_if_ne (tgt := 205) hx hb dX6_joined_198 (by decide) (fun q => ?_) (fun q => ?_)
    · replace hw := hw.2 q
      refine lv_iconst (v := 1) hx hb dX6_joined_205 (by decide) ?_
      refine lv_goto (tgt := 210) hx hb dX6_joined_206 (by decide) ?_
      exact W.iret hx hb F.r (fun t ht hW => ⟨_, rfl, hw, ht⟩) (fun _ h => absurd h List.not_mem_nil) dX6_joined_210 (hlocks := F.k)
    · replace hw := hw.1 q
      refine lv_iload_n hx hb dX6_joined_201 rfl (lv_at hl 2 rfl) ?_
      refine lv_if_eq (tgt := 209) hx hb dX6_joined_202 (by decide) (fun q => ?_) (fun q => ?_)
      · replace hw := hw.1 q
        refine lv_iconst (v := 0) hx hb dX6_joined_209 (by decide) ?_
        exact W.iret hx hb F.r (fun t ht hW => ⟨_, rfl, hw, ht⟩) (fun _ h => absurd h List.not_mem_nil) dX6_joined_210 (hlocks := F.k)
      · replace hw := hw.2 q
        refine lv_iconst (v := 1) hx hb dX6_joined_205 (by decide) ?_
        refine lv_goto (tgt := 210) hx hb dX6_joined_206 (by decide) ?_
        exact W.iret hx hb F.r (fun t ht hW => ⟨_, rfl, hw, ht⟩) (fun _ h => absurd h List.not_mem_nil) dX6_joined_210 (hlocks := F.k)
  replace hw := hw.2 q58
  by_cases q59 : a0 = 59
  · replace hw := hw.1 q59
    refine lv_tableIn (off := 196) (tgt := 197) hx hb dX6_joined_1 (by rw [q59]; decide) (by rw [q59]; decide) (by rw [q59]; rfl) (by decide) ?_
    refine lv_iload_n hx hb dX6_joined_197 rfl (lv_at hl 1 rfl) ?_
    refine lv_if_ne (tgt := 205) hx hb dX6_joined_198 (by decide) (fun q => ?_) (fun q => ?_)
    · replace hw := hw.2 q
      refine lv_iconst (v := 1) hx hb dX6_joined_205 (by decide) ?_
      refine lv_goto (tgt := 210) hx hb dX6_joined_206 (by decide) ?_
      exact W.iret hx hb F.r (fun t ht hW => ⟨_, rfl, hw, ht⟩) (fun _ h => absurd h List.not_mem_nil) dX6_joined_210 (hlocks := F.k)
    · replace hw := hw.1 q
      refine lv_iload_n hx hb dX6_joined_201 rfl (lv_at hl 2 rfl) ?_
      refine lv_if_eq (tgt := 209) hx hb dX6_joined_202 (by decide) (fun q => ?_) (fun q => ?_)
      · replace hw := hw.1 q
        refine lv_iconst (v := 0) hx hb dX6_joined_209 (by decide) ?_
        exact W.iret hx hb F.r (fun t ht hW => ⟨_, rfl, hw, ht⟩) (fun _ h => absurd h List.not_mem_nil) dX6_joined_210 (hlocks := F.k)
      · replace hw := hw.2 q
        refine lv_iconst (v := 1) hx hb dX6_joined_205 (by decide) ?_
        refine lv_goto (tgt := 210) hx hb dX6_joined_206 (by decide) ?_
        exact W.iret hx hb F.r (fun t ht hW => ⟨_, rfl, hw, ht⟩) (fun _ h => absurd h List.not_mem_nil) dX6_joined_210 (hlocks := F.k)
  replace hw := hw.2 q59
  by_cases q60 : a0 = 60
  · replace hw := hw.1 q60
    refine lv_tableIn (off := 149) (tgt := 150) hx hb dX6_joined_1 (by rw [q60]; decide) (by rw [q60]; decide) (by rw [q60]; rfl) (by decide) ?_
    refine lv_iload_n hx hb dX6_joined_150 rfl (lv_at hl 1 rfl) ?_
    refine lv_iload_n hx hb dX6_joined_151 rfl (lv_at hl 2 rfl) ?_
    refine lv_icmp_ge (tgt := 159) hx hb dX6_joined_152 (by decide) (fun q => ?_) (fun q => ?_)
    · replace hw := hw.1 q
      refine lv_iconst (v := 0) hx hb dX6_joined_159 (by decide) ?_
      exact W.iret hx hb F.r (fun t ht hW => ⟨_, rfl, hw, ht⟩) (fun _ h => absurd h List.not_mem_nil) dX6_joined_160 (hlocks := F.k)
    · replace hw := hw.2 q
      refine lv_iconst (v := 1) hx hb dX6_joined_155 (by decide) ?_
      refine lv_goto (tgt := 160) hx hb dX6_joined_156 (by decide) ?_
      exact W.iret hx hb F.r (fun t ht hW => ⟨_, rfl, hw, ht⟩) (fun _ h => absurd h List.not_mem_nil) dX6_joined_160 (hlocks := F.k)
  replace hw := hw.2 q60
  by_cases q61 : a0 = 61
  · replace hw := hw.1 q61
    refine lv_tableIn (off := 171) (tgt := 172) hx hb dX6_joined_1 (by rw [q61]; decide) (by rw [q61]; decide) (by rw [q61]; rfl) (by decide) ?_
    refine lv_iload_n hx hb dX6_joined_172 rfl (lv_at hl 1 rfl) ?_
    refine lv_iload_n hx hb dX6_joined_173 rfl (lv_at hl 2 rfl) ?_
    refine lv_icmp_ne (tgt := 181) hx hb dX6_joined_174 (by decide) (fun q => ?_) (fun q => ?_)
    · replace hw := hw.2 q
      refine lv_iconst (v := 0) hx hb dX6_joined_181 (by decide) ?_
      exact W.iret hx hb F.r (fun t ht hW => ⟨_, rfl, hw, ht⟩) (fun _ h => absurd h List.not_mem_nil) dX6_joined_182 (hlocks := F.k)
    · replace hw := hw.1 q
      refine lv_iconst (v := 1) hx hb dX6_joined_177 (by decide) ?_
      refine lv_goto (tgt := 182) hx hb dX6_joined_178 (by decide) ?_
      exact W.iret hx hb F.r (fun t ht hW => ⟨_, rfl, hw, ht⟩) (fun _ h => absurd h List.not_mem_nil) dX6_joined_182 (hlocks := F.k)
  replace hw := hw.2 q61
  by_cases q62 : a0 = 62
  · replace hw := hw.1 q62
    refine lv_tableIn (off := 160) (tgt := 161) hx hb dX6_joined_1 (by rw [q62]; decide) (by rw [q62]; decide) (by rw [q62]; rfl) (by decide) ?_
    refine lv_iload_n hx hb dX6_joined_161 rfl (lv_at hl 1 rfl) ?_
    refine lv_iload_n hx hb dX6_joined_162 rfl (lv_at hl 2 rfl) ?_
    refine lv_icmp_le (tgt := 170) hx hb dX6_joined_163 (by decide) (fun q => ?_) (fun q => ?_)
    · replace hw := hw.1 q
      refine lv_iconst (v := 0) hx hb dX6_joined_170 (by decide) ?_
      exact W.iret hx hb F.r (fun t ht hW => ⟨_, rfl, hw, ht⟩) (fun _ h => absurd h List.not_mem_nil) dX6_joined_171 (hlocks := F.k)
    · replace hw := hw.2 q
      refine lv_iconst (v := 1) hx hb dX6_joined_166 (by decide) ?_
      refine lv_goto (tgt := 171) hx hb dX6_joined_167 (by decide) ?_
      exact W.iret hx hb F.r (fun t ht hW => ⟨_, rfl, hw, ht⟩) (fun _ h => absurd h List.not_mem_nil) dX6_joined_171 (hlocks := F.k)
  replace hw := hw.2 q62
  refine lv_tableOut (tgt := 197) hx hb dX6_joined_1 (by have n38 := x_ne q38 (a := 38) (by decide); have n39 := x_ne q39 (a := 39) (by decide); have n40 := x_ne q40 (a := 40) (by decide); have n41 := x_ne q41 (a := 41) (by decide); have n42 := x_ne q42 (a := 42) (by decide); have n43 := x_ne q43 (a := 43) (by decide); have n44 := x_ne q44 (a := 44) (by decide); have n45 := x_ne q45 (a := 45) (by decide); have n46 := x_ne q46 (a := 46) (by decide); have n47 := x_ne q47 (a := 47) (by decide); have n48 := x_ne q48 (a := 48) (by decide); have n49 := x_ne q49 (a := 49) (by decide); have n50 := x_ne q50 (a := 50) (by decide); have n51 := x_ne q51 (a := 51) (by decide); have n52 := x_ne q52 (a := 52) (by decide); have n53 := x_ne q53 (a := 53) (by decide); have n54 := x_ne q54 (a := 54) (by decide); have n55 := x_ne q55 (a := 55) (by decide); have n56 := x_ne q56 (a := 56) (by decide); have n57 := x_ne q57 (a := 57) (by decide); have n58 := x_ne q58 (a := 58) (by decide); have n59 := x_ne q59 (a := 59) (by decide); have n60 := x_ne q60 (a := 60) (by decide); have n61 := x_ne q61 (a := 61) (by decide); have n62 := x_ne q62 (a := 62) (by decide); omega) (by decide) ?_
  refine lv_iload_n hx hb dX6_joined_197 rfl (lv_at hl 1 rfl) ?_
  refine lv_if_ne (tgt := 205) hx hb dX6_joined_198 (by decide) (fun q => ?_) (fun q => ?_)
  · replace hw := hw.2 q
    refine lv_iconst (v := 1) hx hb dX6_joined_205 (by decide) ?_
    refine lv_goto (tgt := 210) hx hb dX6_joined_206 (by decide) ?_
    exact W.iret hx hb F.r (fun t ht hW => ⟨_, rfl, hw, ht⟩) (fun _ h => absurd h List.not_mem_nil) dX6_joined_210 (hlocks := F.k)
  · replace hw := hw.1 q
    refine lv_iload_n hx hb dX6_joined_201 rfl (lv_at hl 2 rfl) ?_
    refine lv_if_eq (tgt := 209) hx hb dX6_joined_202 (by decide) (fun q => ?_) (fun q => ?_)
    · replace hw := hw.1 q
      refine lv_iconst (v := 0) hx hb dX6_joined_209 (by decide) ?_
      exact W.iret hx hb F.r (fun t ht hW => ⟨_, rfl, hw, ht⟩) (fun _ h => absurd h List.not_mem_nil) dX6_joined_210 (hlocks := F.k)
    · replace hw := hw.2 q
      refine lv_iconst (v := 1) hx hb dX6_joined_205 (by decide) ?_
      refine lv_goto (tgt := 210) hx hb dX6_joined_206 (by decide) ?_
      exact W.iret hx hb F.r (fun t ht hW => ⟨_, rfl, hw, ht⟩) (fun _ h => absurd h List.not_mem_nil) dX6_joined_210 (hlocks := F.k)
set_option maxHeartbeats 4000000 in
theorem mX6_joined {l : Launch}  {a0 : Int32} {a1 : Int32} {a2 : Int32} {Q : Int32 → Prop} (hw : wX6_joined a0 a1 a2 Q) : Met l yX6_joined (ws_ yX6_joined cX6_joined 3 (some .int)) rX6_joined (va_Pc [.int a0, .int a1, .int a2] (fun _ => True)) (vp_Si Q) 0 0 (fun _ => False) := by
  refine Met.ofW (cc := cX6_joined) (maxL := 3) (ret := some .int) (by decide) rfl ?_
  intro p e s m args below meth c s₁ B hml hv
  obtain ⟨rfl, -⟩ := hv
  have F : FP p c cX6_joined s _ m RX6 3 meth (some .int) := mk_FP B hml rfl
  have hl := lv_entry ([.int a0, .int a1, .int a2]) (n := 3) (Nat.le_of_ble_eq_true rfl)
  rw [lg_entry_eq]
  generalize (lg_sl ([.int a0, .int a1, .int a2]) ++ List.replicate (3 - (lg_sl ([.int a0, .int a1, .int a2])).length) Slot.unset).toArray = ls at hl ⊢
  exact bX6_joined_0 F hw hl
theorem kX6_X6_joined {p : Program} {l : Launch} {e : Env} {R : Room} {s : State} {m : MethodId} {args : Array Value} {below : List Frame} {meth : Method} {c : Code} {H : Heap} {locs : List Loc} {cells slots : Nat} {Q0 : State → Prop} {cc : ByteArray} {pc nL : Nat} {ls : Array Slot} {rest : List Value} {ret : Option FieldType} {a0 : Int32} {a1 : Int32} {a2 : Int32} {Q : Int32 → Prop} (F : FP p c cc s args m RX6 nL meth ret) (hw : wX6_joined a0 a1 a2 Q) (hR : rX6_joined.frames + 1 ≤ R.frames ∧ 8 + (3 + 11) + rX6_joined.locals ≤ R.locals) (hc : cells ≤ R.cells ∧ slots ≤ R.slots) (hsz : ls.size = nL) (hW : (rest.map fun v => v.category).sum ≤ 8) (hdg : decode cc pc = .ok (.invokestatic 286, 3)) (kk : ∀ r : Int32, Q r → W p l e R s m args below meth c H locs cells slots Q0 (F0 m (pc + 3) ls (.int r :: rest))) : W p l e R s m args below meth c H locs cells slots Q0 (F0 m pc ls (.int a2 :: .int a1 :: .int a0 :: rest)) :=
  k_csi (k_runP (n := 3) (As := [.int a0, .int a1, .int a2]) F (mX6_joined hw) q1454 q1455 q92 q1456 (by decide +kernel) hR ⟨rfl, rfl⟩ hc rfl hsz rfl hW hdg) kk
def rX6_worked : Room := { frames := 1, cells := 0, slots := 0, locals := 22 }
set_option maxHeartbeats 4000000 in
theorem bX6_worked_157 {p : Program} {l : Launch} {e : Env} {s : State} {m : MethodId} {args : Array Value} {below : List Frame} {meth : Method} {c : Code} {D : DD} {A : Nat → Prop} {s0 : State} {ad : AD} {Q : Int32 → TS → Prop} {k_4 : Int32 → Int32 → Int32 → TS → Prop} {l1 : Int32} {l2 : Int32} {l3 : Int32} {T : TS} {H : Heap} {locs : List Loc} {ls : Array Slot} (F : FX p l c cX6_worked s args m RX6 D A s0 6 meth (some .int)) (h_4 : ∀ (l1 : Int32) (l2 : Int32) (l3 : Int32) (T : TS), k_4 l1 l2 l3 T → ∀ (H : Heap) (locs : List Loc) (ls : Array Slot), tB D A ad T H → va_S A s.heap H locs → lv_has ls 6 [(0, .ref (ad 0 0 0)), (1, .int l1), (2, .int l2), (3, .int l3)] → W p l e rX6_worked s m args below meth c H locs 0 0 (MQ below (va_Qi Q (fun u t => tB D A ad u t.heap) A) args s 0 0 A) (F0 m 4 ls [])) (hB : tB D A ad T H) (hS : va_S A s.heap H locs) (hw : wX6_worked_157 k_4 l1 l2 l3 T Q) (hl : lv_has ls 6 [(0, .ref (ad 0 0 0)), (1, .int l1), (2, .int l2), (3, .int l3)]) : W p l e rX6_worked s m args below meth c H locs 0 0 (MQ below (va_Qi Q (fun u t => tB D A ad u t.heap) A) args s 0 0 A) (F0 m 157 ls []) := by
  have hx := F.1.x
  have hb := F.1.b
  unfold wX6_worked_157 at hw
  refine lv_iinc (v := l3 + (1 : Int32)) (lv' := [(3, .int (l3 + (1 : Int32))), (0, .ref (ad 0 0 0)), (1, .int l1), (2, .int l2)]) hx hb dX6_worked_157 hl (k := 3) rfl (x_inc (by decide)) (by decide) rfl (fun ls hl => ?_)
  refine lv_goto (tgt := 4) hx hb dX6_worked_160 (by decide) ?_
  exact h_4 _ _ _ _ hw _ _ _ hB hS (lv_sub hl [1, 2, 3, 0] rfl)
set_option maxHeartbeats 4000000 in
theorem bX6_worked_123 {p : Program} {l : Launch} {e : Env} {s : State} {m : MethodId} {args : Array Value} {below : List Frame} {meth : Method} {c : Code} {D : DD} {A : Nat → Prop} {s0 : State} {ad : AD} {Q : Int32 → TS → Prop} {k_4 : Int32 → Int32 → Int32 → TS → Prop} {l1 : Int32} {l2 : Int32} {l3 : Int32} {k0 : Int32} {k1 : Int32} {T : TS} {H : Heap} {locs : List Loc} {ls : Array Slot} (F : FX p l c cX6_worked s args m RX6 D A s0 6 meth (some .int)) (h_4 : ∀ (l1 : Int32) (l2 : Int32) (l3 : Int32) (T : TS), k_4 l1 l2 l3 T → ∀ (H : Heap) (locs : List Loc) (ls : Array Slot), tB D A ad T H → va_S A s.heap H locs → lv_has ls 6 [(0, .ref (ad 0 0 0)), (1, .int l1), (2, .int l2), (3, .int l3)] → W p l e rX6_worked s m args below meth c H locs 0 0 (MQ below (va_Qi Q (fun u t => tB D A ad u t.heap) A) args s 0 0 A) (F0 m 4 ls [])) (hB : tB D A ad T H) (hS : va_S A s.heap H locs) (hw : wX6_worked_123 k_4 l1 l2 l3 k0 k1 T Q) (hl : lv_has ls 6 [(0, .ref (ad 0 0 0)), (1, .int l1), (2, .int l2), (3, .int l3)]) : W p l e rX6_worked s m args below meth c H locs 0 0 (MQ below (va_Qi Q (fun u t => tB D A ad u t.heap) A) args s 0 0 A) (F0 m 123 ls [.int k0, .int k1, .ref (ad 1 26 0)]) := by
  have hx := F.1.x
  have hb := F.1.b
  unfold wX6_worked_123 at hw
  obtain ⟨hin, hw⟩ := hw
  refine t_ast F hB hS (k := 26) rfl hin dX6_worked_123 (fun H locs hB hS => ?_)
  refine lv_goto (tgt := 157) hx hb dX6_worked_124 (by decide) ?_
  exact bX6_worked_157 F h_4 hB hS hw hl
set_option maxHeartbeats 4000000 in
theorem bX6_worked_86 {p : Program} {l : Launch} {e : Env} {s : State} {m : MethodId} {args : Array Value} {below : List Frame} {meth : Method} {c : Code} {D : DD} {A : Nat → Prop} {s0 : State} {ad : AD} {Q : Int32 → TS → Prop} {k_4 : Int32 → Int32 → Int32 → TS → Prop} {l1 : Int32} {l2 : Int32} {l3 : Int32} {k0 : Int32} {k1 : Int32} {T : TS} {H : Heap} {locs : List Loc} {ls : Array Slot} (F : FX p l c cX6_worked s args m RX6 D A s0 6 meth (some .int)) (h_4 : ∀ (l1 : Int32) (l2 : Int32) (l3 : Int32) (T : TS), k_4 l1 l2 l3 T → ∀ (H : Heap) (locs : List Loc) (ls : Array Slot), tB D A ad T H → va_S A s.heap H locs → lv_has ls 6 [(0, .ref (ad 0 0 0)), (1, .int l1), (2, .int l2), (3, .int l3)] → W p l e rX6_worked s m args below meth c H locs 0 0 (MQ below (va_Qi Q (fun u t => tB D A ad u t.heap) A) args s 0 0 A) (F0 m 4 ls [])) (hB : tB D A ad T H) (hS : va_S A s.heap H locs) (hw : wX6_worked_86 k_4 l1 l2 l3 k0 k1 T Q) (hl : lv_has ls 6 [(0, .ref (ad 0 0 0)), (1, .int l1), (2, .int l2), (3, .int l3)]) : W p l e rX6_worked s m args below meth c H locs 0 0 (MQ below (va_Qi Q (fun u t => tB D A ad u t.heap) A) args s 0 0 A) (F0 m 86 ls [.int k0, .int k1, .ref (ad 1 26 0)]) := by
  have hx := F.1.x
  have hb := F.1.b
  unfold wX6_worked_86 at hw
  obtain ⟨hin, hw⟩ := hw
  refine t_ast F hB hS (k := 26) rfl hin dX6_worked_86 (fun H locs hB hS => ?_)
  refine lv_iinc (v := l2 + (1 : Int32)) (lv' := [(2, .int (l2 + (1 : Int32))), (0, .ref (ad 0 0 0)), (1, .int l1), (3, .int l3)]) hx hb dX6_worked_87 hl (k := 2) rfl (x_inc (by decide)) (by decide) rfl (fun ls hl => ?_)
  refine lv_goto (tgt := 157) hx hb dX6_worked_90 (by decide) ?_
  exact bX6_worked_157 F h_4 hB hS hw (lv_sub hl [1, 2, 0, 3] rfl)
set_option maxHeartbeats 4000000 in
theorem bX6_worked_4 {p : Program} {l : Launch} {e : Env} {s : State} {m : MethodId} {args : Array Value} {below : List Frame} {meth : Method} {c : Code} {D : DD} {A : Nat → Prop} {s0 : State} {ad : AD} {Q : Int32 → TS → Prop} (F : FX p l c cX6_worked s args m RX6 D A s0 6 meth (some .int)) : ∀ (n : Nat) (l1 : Int32) (l2 : Int32) (l3 : Int32) (T : TS), wX6_worked_4 Q n l1 l2 l3 T → ∀ (H : Heap) (locs : List Loc) (ls : Array Slot), tB D A ad T H → va_S A s.heap H locs → lv_has ls 6 [(0, .ref (ad 0 0 0)), (1, .int l1), (2, .int l2), (3, .int l3)] → W p l e rX6_worked s m args below meth c H locs 0 0 (MQ below (va_Qi Q (fun u t => tB D A ad u t.heap) A) args s 0 0 A) (F0 m 4 ls []) := by
  have hx := F.1.x
  have hb := F.1.b
  intro n
  induction n with
  | zero => intro l1 l2 l3 T hw; exact hw.elim
  | succ n ih =>
    intro l1 l2 l3 T hw H locs ls hB hS hl
    unfold wX6_worked_4 at hw
    refine lv_iload_n hx hb dX6_worked_4 rfl (lv_at hl 3 rfl) ?_
    refine lv_aload_n hx hb dX6_worked_5 rfl (lv_at hl 0 rfl) ?_
    refine tg_0 F hB dX6_worked_6 ?_
    refine lv_aload_n hx hb dX6_worked_9 rfl (lv_at hl 0 rfl) ?_
    refine lv_iload_n hx hb dX6_worked_10 rfl (lv_at hl 1 rfl) ?_
    refine kX6_X6_textAt F hB hS hw ⟨Nat.le_of_ble_eq_true rfl, Nat.le_of_ble_eq_true rfl⟩ ⟨Nat.zero_le _, Nat.zero_le _⟩ hl.1 (Nat.le_of_ble_eq_true rfl) dX6_worked_11 (fun r1 T2 H locs hw hB hS => ?_)
    refine lv_iconst (v := 2) hx hb dX6_worked_14 (by decide) ?_
    refine lv_iadd hx hb dX6_worked_15 ?_
    obtain ⟨hin, hw⟩ := hw
    refine t_ald F hB (k := 0) rfl hin dX6_worked_16 ?_
    refine lv_icmp_ge (tgt := 163) hx hb dX6_worked_17 (by decide) (fun q => ?_) (fun q => ?_)
    · replace hw := hw.1 q
      refine lv_aload_n hx hb dX6_worked_163 rfl (lv_at hl 0 rfl) ?_
      refine tg_26 F hB dX6_worked_164 ?_
      refine lv_iconst (v := 0) hx hb dX6_worked_167 (by decide) ?_
      obtain ⟨hin, hw⟩ := hw
      refine t_ald F hB (k := 26) rfl hin dX6_worked_168 ?_
      exact W.iret hx hb F.1.r (fun t ht hW => ⟨⟨_, _, rfl, hw, x_B (Bw := tB D A ad) ht hB⟩, hS.F ht⟩) hS.2.2 dX6_worked_169 (hlocks := F.1.k)
    · replace hw := hw.2 q
      refine lv_aload_n hx hb dX6_worked_20 rfl (lv_at hl 0 rfl) ?_
      refine tg_0 F hB dX6_worked_21 ?_
      refine lv_aload_n hx hb dX6_worked_24 rfl (lv_at hl 0 rfl) ?_
      refine lv_iload_n hx hb dX6_worked_25 rfl (lv_at hl 1 rfl) ?_
      refine kX6_X6_textAt F hB hS hw ⟨Nat.le_of_ble_eq_true rfl, Nat.le_of_ble_eq_true rfl⟩ ⟨Nat.zero_le _, Nat.zero_le _⟩ hl.1 (Nat.le_of_ble_eq_true rfl) dX6_worked_26 (fun r3 T4 H locs hw hB hS => ?_)
      refine lv_iconst (v := 4) hx hb dX6_worked_29 (by decide) ?_
      refine lv_iadd hx hb dX6_worked_30 ?_
      refine lv_iconst (v := 2) hx hb dX6_worked_31 (by decide) ?_
      refine lv_iload_n hx hb dX6_worked_32 rfl (lv_at hl 3 rfl) ?_
      refine lv_imul hx hb dX6_worked_33 ?_
      refine lv_iadd hx hb dX6_worked_34 ?_
      obtain ⟨hin, hw⟩ := hw
      refine t_ald F hB (k := 0) rfl hin dX6_worked_35 ?_
      refine lv_istore (lv' := [(4, .int (T4.2 0 ((r3 + (4 : Int32)) + ((2 : Int32) * l3)).toNatClampNeg)), (0, .ref (ad 0 0 0)), (1, .int l1), (2, .int l2), (3, .int l3)]) hx hb dX6_worked_36 hl (by decide) rfl (fun ls hl => ?_)
      refine lv_aload_n hx hb dX6_worked_38 rfl (lv_at hl 1 rfl) ?_
      refine tg_0 F hB dX6_worked_39 ?_
      refine lv_aload_n hx hb dX6_worked_42 rfl (lv_at hl 1 rfl) ?_
      refine lv_iload_n hx hb dX6_worked_43 rfl (lv_at hl 2 rfl) ?_
      refine kX6_X6_textAt F hB hS hw ⟨Nat.le_of_ble_eq_true rfl, Nat.le_of_ble_eq_true rfl⟩ ⟨Nat.zero_le _, Nat.zero_le _⟩ hl.1 (Nat.le_of_ble_eq_true rfl) dX6_worked_44 (fun r5 T6 H locs hw hB hS => ?_)
      refine lv_iconst (v := 4) hx hb dX6_worked_47 (by decide) ?_
      refine lv_iadd hx hb dX6_worked_48 ?_
      refine lv_iconst (v := 2) hx hb dX6_worked_49 (by decide) ?_
      refine lv_iload_n hx hb dX6_worked_50 rfl (lv_at hl 4 rfl) ?_
      refine lv_imul hx hb dX6_worked_51 ?_
      refine lv_iadd hx hb dX6_worked_52 ?_
      refine lv_iconst (v := 1) hx hb dX6_worked_53 (by decide) ?_
      refine lv_iadd hx hb dX6_worked_54 ?_
      obtain ⟨hin, hw⟩ := hw
      refine t_ald F hB (k := 0) rfl hin dX6_worked_55 ?_
      refine lv_topi (fun x7 e8 => ?_)
      replace hw := hw x7 e8
      refine lv_istore (lv' := [(5, .int x7), (4, .int (T4.2 0 ((r3 + (4 : Int32)) + ((2 : Int32) * l3)).toNatClampNeg)), (0, .ref (ad 0 0 0)), (1, .int l1), (2, .int l2), (3, .int l3)]) hx hb dX6_worked_56 hl (by decide) rfl (fun ls hl => ?_)
      refine lv_iload hx hb dX6_worked_58 (lv_at hl 1 rfl) ?_
      refine lv_iconst (v := 2) hx hb dX6_worked_60 (by decide) ?_
      refine lv_icmp_eq (tgt := 93) hx hb dX6_worked_61 (by decide) (fun q => ?_) (fun q => ?_)
      · replace hw := hw.1 q
        refine lv_iload hx hb dX6_worked_93 (lv_at hl 0 rfl) ?_
        refine lv_bipush (v := 33) hx hb dX6_worked_95 (by decide) ?_
        refine lv_icmp_ne (tgt := 127) hx hb dX6_worked_97 (by decide) (fun q => ?_) (fun q => ?_)
        · replace hw := hw.2 q
          refine lv_iinc (v := l2 + (-1 : Int32)) (lv' := [(2, .int (l2 + (-1 : Int32))), (5, .int x7), (4, .int (T4.2 0 ((r3 + (4 : Int32)) + ((2 : Int32) * l3)).toNatClampNeg)), (0, .ref (ad 0 0 0)), (1, .int l1), (3, .int l3)]) hx hb dX6_worked_127 hl (k := 4) rfl (x_inc (by decide)) (by decide) rfl (fun ls hl => ?_)
          refine lv_aload_n hx hb dX6_worked_130 rfl (lv_at hl 3 rfl) ?_
          refine tg_26 F hB dX6_worked_131 ?_
          refine lv_iload_n hx hb dX6_worked_134 rfl (lv_at hl 0 rfl) ?_
          refine lv_iconst (v := 1) hx hb dX6_worked_135 (by decide) ?_
          refine lv_isub hx hb dX6_worked_136 ?_
          refine lv_iload hx hb dX6_worked_137 (lv_at hl 1 rfl) ?_
          refine lv_aload_n hx hb dX6_worked_139 rfl (lv_at hl 3 rfl) ?_
          refine tg_26 F hB dX6_worked_140 ?_
          refine lv_iload_n hx hb dX6_worked_143 rfl (lv_at hl 0 rfl) ?_
          refine lv_iconst (v := 1) hx hb dX6_worked_144 (by decide) ?_
          refine lv_isub hx hb dX6_worked_145 ?_
          obtain ⟨hin, hw⟩ := hw
          refine t_ald F hB (k := 26) rfl hin dX6_worked_146 ?_
          refine lv_aload_n hx hb dX6_worked_147 rfl (lv_at hl 3 rfl) ?_
          refine tg_26 F hB dX6_worked_148 ?_
          refine lv_iload_n hx hb dX6_worked_151 rfl (lv_at hl 0 rfl) ?_
          obtain ⟨hin, hw⟩ := hw
          refine t_ald F hB (k := 26) rfl hin dX6_worked_152 ?_
          refine kX6_X6_joined F.1 hw ⟨Nat.le_of_ble_eq_true rfl, Nat.le_of_ble_eq_true rfl⟩ ⟨Nat.zero_le _, Nat.zero_le _⟩ hl.1 (Nat.le_of_ble_eq_true rfl) dX6_worked_153 (fun r9 hw => ?_)
          obtain ⟨hin, hw⟩ := hw
          refine t_ast F hB hS (k := 26) rfl hin dX6_worked_156 (fun H locs hB hS => ?_)
          exact bX6_worked_157 F ih hB hS hw (lv_sub hl [3, 4, 0, 5] rfl)
        · replace hw := hw.1 q
          refine lv_aload_n hx hb dX6_worked_100 rfl (lv_at hl 2 rfl) ?_
          refine tg_26 F hB dX6_worked_101 ?_
          refine lv_iload_n hx hb dX6_worked_104 rfl (lv_at hl 4 rfl) ?_
          refine lv_iconst (v := 1) hx hb dX6_worked_105 (by decide) ?_
          refine lv_isub hx hb dX6_worked_106 ?_
          refine lv_aload_n hx hb dX6_worked_107 rfl (lv_at hl 2 rfl) ?_
          refine tg_26 F hB dX6_worked_108 ?_
          refine lv_iload_n hx hb dX6_worked_111 rfl (lv_at hl 4 rfl) ?_
          refine lv_iconst (v := 1) hx hb dX6_worked_112 (by decide) ?_
          refine lv_isub hx hb dX6_worked_113 ?_
          obtain ⟨hin, hw⟩ := hw
          refine t_ald F hB (k := 26) rfl hin dX6_worked_114 ?_
          refine lv_if_ne (tgt := 122) hx hb dX6_worked_115 (by decide) (fun q => ?_) (fun q => ?_)
          · replace hw := hw.2 q
            refine lv_iconst (v := 0) hx hb dX6_worked_122 (by decide) ?_
            exact bX6_worked_123 F ih hB hS hw (lv_sub hl [2, 3, 4, 5] rfl)
          · replace hw := hw.1 q
            refine lv_iconst (v := 1) hx hb dX6_worked_118 (by decide) ?_
            refine lv_goto (tgt := 123) hx hb dX6_worked_119 (by decide) ?_
            exact bX6_worked_123 F ih hB hS hw (lv_sub hl [2, 3, 4, 5] rfl)
      · replace hw := hw.2 q
        refine lv_aload_n hx hb dX6_worked_64 rfl (lv_at hl 2 rfl) ?_
        refine tg_26 F hB dX6_worked_65 ?_
        refine lv_iload_n hx hb dX6_worked_68 rfl (lv_at hl 4 rfl) ?_
        refine lv_iload hx hb dX6_worked_69 (lv_at hl 1 rfl) ?_
        refine lv_if_ne (tgt := 79) hx hb dX6_worked_71 (by decide) (fun q => ?_) (fun q => ?_)
        · replace hw := hw.2 q
          refine lv_aload_n hx hb dX6_worked_79 rfl (lv_at hl 2 rfl) ?_
          refine tg_25 F hB dX6_worked_80 ?_
          refine lv_iload hx hb dX6_worked_83 (lv_at hl 0 rfl) ?_
          obtain ⟨hin, hw⟩ := hw
          refine t_ald F hB (k := 25) rfl hin dX6_worked_85 ?_
          exact bX6_worked_86 F ih hB hS hw (lv_sub hl [2, 3, 4, 5] rfl)
        · replace hw := hw.1 q
          refine lv_iload hx hb dX6_worked_74 (lv_at hl 0 rfl) ?_
          refine lv_goto (tgt := 86) hx hb dX6_worked_76 (by decide) ?_
          exact bX6_worked_86 F ih hB hS hw (lv_sub hl [2, 3, 4, 5] rfl)
set_option maxHeartbeats 4000000 in
theorem bX6_worked_0 {p : Program} {l : Launch} {e : Env} {s : State} {m : MethodId} {args : Array Value} {below : List Frame} {meth : Method} {c : Code} {D : DD} {A : Nat → Prop} {s0 : State} {ad : AD} {Q : Int32 → TS → Prop} {a1 : Int32} {T : TS} {H : Heap} {locs : List Loc} {ls : Array Slot} (F : FX p l c cX6_worked s args m RX6 D A s0 6 meth (some .int)) (hB : tB D A ad T H) (hS : va_S A s.heap H locs) (hw : wX6_worked a1 T Q) (hl : lv_has ls 6 [(0, .ref (ad 0 0 0)), (1, .int a1)]) : W p l e rX6_worked s m args below meth c H locs 0 0 (MQ below (va_Qi Q (fun u t => tB D A ad u t.heap) A) args s 0 0 A) (F0 m 0 ls []) := by
  have hx := F.1.x
  have hb := F.1.b
  unfold wX6_worked at hw
  refine lv_iconst (v := 0) hx hb dX6_worked_0 (by decide) ?_
  refine lv_istore_n (lv' := [(2, .int (0 : Int32)), (0, .ref (ad 0 0 0)), (1, .int a1)]) hx hb dX6_worked_1 rfl hl (by decide) rfl (fun ls hl => ?_)
  refine lv_iconst (v := 0) hx hb dX6_worked_2 (by decide) ?_
  refine lv_istore_n (lv' := [(3, .int (0 : Int32)), (2, .int (0 : Int32)), (0, .ref (ad 0 0 0)), (1, .int a1)]) hx hb dX6_worked_3 rfl hl (by decide) rfl (fun ls hl => ?_)
  obtain ⟨f_4, hw⟩ := hw
  exact bX6_worked_4 F f_4 _ _ _ _ hw _ _ _ hB hS (lv_sub hl [2, 3, 1, 0] rfl)
set_option maxHeartbeats 4000000 in
theorem mX6_worked {l : Launch} {D : DD} {A : Nat → Prop} {s0 : State} {ad : AD} {T : TS} {a1 : Int32} {Q : Int32 → TS → Prop} (hw : wX6_worked a1 T Q) : Met l yX6_worked (ws_ yX6_worked cX6_worked 6 (some .int)) rX6_worked (va_Pc [.ref (ad 0 0 0), .int a1] (fun U => tB D A ad T U.heap ∧ CX l D A s0 U)) (va_Qi Q (fun u t => tB D A ad u t.heap) A) 0 0 A := by
  refine Met.ofW (cc := cX6_worked) (maxL := 6) (ret := some .int) (by decide) rfl ?_
  intro p e s m args below meth c s₁ B hml hv
  obtain ⟨rfl, hB, hC⟩ := hv
  have F : FX p l c cX6_worked s _ m RX6 D A s0 6 meth (some .int) := ⟨mk_FP B hml rfl, hC⟩
  have hS : va_S A s.heap s.heap [] := va_S.rf
  have hl := lv_entry ([.ref (ad 0 0 0), .int a1]) (n := 6) (Nat.le_of_ble_eq_true rfl)
  rw [lg_entry_eq]
  generalize (lg_sl ([.ref (ad 0 0 0), .int a1]) ++ List.replicate (6 - (lg_sl ([.ref (ad 0 0 0), .int a1])).length) Slot.unset).toArray = ls at hl ⊢
  exact bX6_worked_0 F hB hS hw hl
theorem kX6_X6_worked {p : Program} {l : Launch} {e : Env} {R : Room} {s : State} {m : MethodId} {args : Array Value} {below : List Frame} {meth : Method} {c : Code} {H : Heap} {locs : List Loc} {cells slots : Nat} {Q0 : State → Prop} {cc : ByteArray} {pc nL : Nat} {ls : Array Slot} {rest : List Value} {ret : Option FieldType} {D : DD} {A : Nat → Prop} {s0 : State} {ad : AD} {T : TS} {a1 : Int32} {Q : Int32 → TS → Prop} (F : FX p l c cc s args m RX6 D A s0 nL meth ret) (hB : tB D A ad T H) (hS : va_S A s.heap H locs) (hw : wX6_worked a1 T Q) (hR : rX6_worked.frames + 1 ≤ R.frames ∧ 8 + (6 + 11) + rX6_worked.locals ≤ R.locals) (hc : cells + 0 ≤ R.cells ∧ slots + 0 ≤ R.slots) (hsz : ls.size = nL) (hW : (rest.map fun v => v.category).sum ≤ 8) (hdg : decode cc pc = .ok (.invokevirtual 139, 3)) (kk : ∀ (r : Int32) (u : TS) (H1 : Heap) (locs1 : List Loc), Q r u → tB D A ad u H1 → va_S A s.heap H1 locs1 → W p l e R s m args below meth c H1 locs1 cells slots Q0 (F0 m (pc + 3) ls (.int r :: rest))) : W p l e R s m args below meth c H locs cells slots Q0 (F0 m pc ls (.int a1 :: .ref (ad 0 0 0) :: rest)) :=
  k_i (Bw := tB D A ad) (k_runV (Bw := tB D A ad) (n := 1) (As := [.int a1]) F hB hS (t_recv F hB) (mX6_worked hw) q1450 q1452 qs57 q92 q1453 (by decide +kernel) hR ⟨rfl, rfl⟩ hc rfl hsz rfl hW hdg) hS kk
def rX6_within : Room := { frames := 0, cells := 0, slots := 0, locals := 0 }
set_option maxHeartbeats 4000000 in
theorem bX6_within_0 {p : Program} {l : Launch} {e : Env} {s : State} {m : MethodId} {args : Array Value} {below : List Frame} {meth : Method} {c : Code} {Q : Int32 → Prop} {a0 : Int32} {a1 : Int32} {ls : Array Slot} (F : FP p c cX6_within s args m RX6 2 meth (some .int)) (hw : wX6_within a0 a1 Q) (hl : lv_has ls 2 [(0, .int a0), (1, .int a1)]) : W p l e rX6_within s m args below meth c s.heap [] 0 0 (MQ below (vp_Si Q) args s 0 0 (fun _ => False)) (F0 m 0 ls []) := by
  have hx := F.x
  have hb := F.b
  unfold wX6_within at hw
  refine lv_iload_n hx hb dX6_within_0 rfl (lv_at hl 0 rfl) ?_
  refine lv_if_ge (tgt := 8) hx hb dX6_within_1 (by decide) (fun q => ?_) (fun q => ?_)
  · replace hw := hw.1 q
    refine lv_iload_n hx hb dX6_within_8 rfl (lv_at hl 0 rfl) ?_
    refine lv_iload_n hx hb dX6_within_9 rfl (lv_at hl 1 rfl) ?_
    refine lv_icmp_le (tgt := 17) hx hb dX6_within_10 (by decide) (fun q => ?_) (fun q => ?_)
    · replace hw := hw.1 q
      refine lv_iload_n hx hb dX6_within_17 rfl (lv_at hl 0 rfl) ?_
      exact W.iret hx hb F.r (fun t ht hW => ⟨_, rfl, hw, ht⟩) (fun _ h => absurd h List.not_mem_nil) dX6_within_18 (hlocks := F.k)
    · replace hw := hw.2 q
      refine lv_iload_n hx hb dX6_within_13 rfl (lv_at hl 1 rfl) ?_
      refine lv_goto (tgt := 18) hx hb dX6_within_14 (by decide) ?_
      exact W.iret hx hb F.r (fun t ht hW => ⟨_, rfl, hw, ht⟩) (fun _ h => absurd h List.not_mem_nil) dX6_within_18 (hlocks := F.k)
  · replace hw := hw.2 q
    refine lv_iconst (v := 0) hx hb dX6_within_4 (by decide) ?_
    refine lv_goto (tgt := 18) hx hb dX6_within_5 (by decide) ?_
    exact W.iret hx hb F.r (fun t ht hW => ⟨_, rfl, hw, ht⟩) (fun _ h => absurd h List.not_mem_nil) dX6_within_18 (hlocks := F.k)
set_option maxHeartbeats 4000000 in
theorem mX6_within {l : Launch}  {a0 : Int32} {a1 : Int32} {Q : Int32 → Prop} (hw : wX6_within a0 a1 Q) : Met l yX6_within (ws_ yX6_within cX6_within 2 (some .int)) rX6_within (va_Pc [.int a0, .int a1] (fun _ => True)) (vp_Si Q) 0 0 (fun _ => False) := by
  refine Met.ofW (cc := cX6_within) (maxL := 2) (ret := some .int) (by decide) rfl ?_
  intro p e s m args below meth c s₁ B hml hv
  obtain ⟨rfl, -⟩ := hv
  have F : FP p c cX6_within s _ m RX6 2 meth (some .int) := mk_FP B hml rfl
  have hl := lv_entry ([.int a0, .int a1]) (n := 2) (Nat.le_of_ble_eq_true rfl)
  rw [lg_entry_eq]
  generalize (lg_sl ([.int a0, .int a1]) ++ List.replicate (2 - (lg_sl ([.int a0, .int a1])).length) Slot.unset).toArray = ls at hl ⊢
  exact bX6_within_0 F hw hl
theorem kX6_X6_within {p : Program} {l : Launch} {e : Env} {R : Room} {s : State} {m : MethodId} {args : Array Value} {below : List Frame} {meth : Method} {c : Code} {H : Heap} {locs : List Loc} {cells slots : Nat} {Q0 : State → Prop} {cc : ByteArray} {pc nL : Nat} {ls : Array Slot} {rest : List Value} {ret : Option FieldType} {a0 : Int32} {a1 : Int32} {Q : Int32 → Prop} (F : FP p c cc s args m RX6 nL meth ret) (hw : wX6_within a0 a1 Q) (hR : rX6_within.frames + 1 ≤ R.frames ∧ 8 + (2 + 11) + rX6_within.locals ≤ R.locals) (hc : cells ≤ R.cells ∧ slots ≤ R.slots) (hsz : ls.size = nL) (hW : (rest.map fun v => v.category).sum ≤ 8) (hdg : decode cc pc = .ok (.invokestatic 143, 3)) (kk : ∀ r : Int32, Q r → W p l e R s m args below meth c H locs cells slots Q0 (F0 m (pc + 3) ls (.int r :: rest))) : W p l e R s m args below meth c H locs cells slots Q0 (F0 m pc ls (.int a1 :: .int a0 :: rest)) :=
  k_csi (k_runP (n := 2) (As := [.int a0, .int a1]) F (mX6_within hw) q1458 q1459 q92 q1460 (by decide +kernel) hR ⟨rfl, rfl⟩ hc rfl hsz rfl hW hdg) kk
def rX6_boldness : Room := { frames := 2, cells := 0, slots := 0, locals := 47 }
set_option maxHeartbeats 4000000 in
theorem bX6_boldness_0 {p : Program} {l : Launch} {e : Env} {s : State} {m : MethodId} {args : Array Value} {below : List Frame} {meth : Method} {c : Code} {D : DD} {A : Nat → Prop} {s0 : State} {ad : AD} {Q : Int32 → TS → Prop} {a1 : Int32} {a2 : Int32} {T : TS} {H : Heap} {locs : List Loc} {ls : Array Slot} (F : FX p l c cX6_boldness s args m RX6 D A s0 4 meth (some .int)) (hB : tB D A ad T H) (hS : va_S A s.heap H locs) (hw : wX6_boldness a1 a2 T Q) (hl : lv_has ls 4 [(0, .ref (ad 0 0 0)), (1, .int a1), (2, .int a2)]) : W p l e rX6_boldness s m args below meth c H locs 0 0 (MQ below (va_Qi Q (fun u t => tB D A ad u t.heap) A) args s 0 0 A) (F0 m 0 ls []) := by
  have hx := F.1.x
  have hb := F.1.b
  unfold wX6_boldness at hw
  refine lv_aload_n hx hb dX6_boldness_0 rfl (lv_at hl 0 rfl) ?_
  refine lv_iconst (v := 2) hx hb dX6_boldness_1 (by decide) ?_
  refine kX6_X6_counts F hB hS hw ⟨Nat.le_of_ble_eq_true rfl, Nat.le_of_ble_eq_true rfl⟩ ⟨Nat.zero_le _, Nat.zero_le _⟩ hl.1 (Nat.le_of_ble_eq_true rfl) dX6_boldness_2 (fun r1 T2 H locs hw hB hS => ?_)
  refine lv_istore_n (lv' := [(3, .int r1), (0, .ref (ad 0 0 0)), (1, .int a1), (2, .int a2)]) hx hb dX6_boldness_5 rfl hl (by decide) rfl (fun ls hl => ?_)
  refine lv_iload_n hx hb dX6_boldness_6 rfl (lv_at hl 0 rfl) ?_
  refine lv_if_ge (tgt := 17) hx hb dX6_boldness_7 (by decide) (fun q => ?_) (fun q => ?_)
  · replace hw := hw.1 q
    refine lv_aload_n hx hb dX6_boldness_17 rfl (lv_at hl 1 rfl) ?_
    refine tg_25 F hB dX6_boldness_18 ?_
    refine lv_bipush (v := 98) hx hb dX6_boldness_21 (by decide) ?_
    refine lv_aload_n hx hb dX6_boldness_23 rfl (lv_at hl 1 rfl) ?_
    refine lv_iload_n hx hb dX6_boldness_24 rfl (lv_at hl 2 rfl) ?_
    refine lv_iconst (v := 1) hx hb dX6_boldness_25 (by decide) ?_
    refine kX6_X6_of F hB hS hw ⟨Nat.le_of_ble_eq_true rfl, Nat.le_of_ble_eq_true rfl⟩ ⟨Nat.zero_le _, Nat.zero_le _⟩ hl.1 (Nat.le_of_ble_eq_true rfl) dX6_boldness_26 (fun r3 T4 H locs hw hB hS => ?_)
    obtain ⟨hin, hw⟩ := hw
    refine t_ast F hB hS (k := 25) rfl hin dX6_boldness_29 (fun H locs hB hS => ?_)
    refine lv_aload_n hx hb dX6_boldness_30 rfl (lv_at hl 1 rfl) ?_
    refine tg_25 F hB dX6_boldness_31 ?_
    refine lv_bipush (v := 115) hx hb dX6_boldness_34 (by decide) ?_
    refine lv_iload_n hx hb dX6_boldness_36 rfl (lv_at hl 2 rfl) ?_
    obtain ⟨hin, hw⟩ := hw
    refine t_ast F hB hS (k := 25) rfl hin dX6_boldness_37 (fun H locs hB hS => ?_)
    refine lv_aload_n hx hb dX6_boldness_38 rfl (lv_at hl 1 rfl) ?_
    refine tg_25 F hB dX6_boldness_39 ?_
    refine lv_bipush (v := 110) hx hb dX6_boldness_42 (by decide) ?_
    refine lv_aload_n hx hb dX6_boldness_44 rfl (lv_at hl 1 rfl) ?_
    refine lv_iload_n hx hb dX6_boldness_45 rfl (lv_at hl 3 rfl) ?_
    refine kX6_X6_left F hB hS hw ⟨Nat.le_of_ble_eq_true rfl, Nat.le_of_ble_eq_true rfl⟩ ⟨Nat.zero_le _, Nat.zero_le _⟩ hl.1 (Nat.le_of_ble_eq_true rfl) dX6_boldness_46 (fun r5 T6 H locs hw hB hS => ?_)
    refine kX6_X6_ones F.1 hw ⟨Nat.le_of_ble_eq_true rfl, Nat.le_of_ble_eq_true rfl⟩ ⟨Nat.zero_le _, Nat.zero_le _⟩ hl.1 (Nat.le_of_ble_eq_true rfl) dX6_boldness_49 (fun r7 hw => ?_)
    obtain ⟨hin, hw⟩ := hw
    refine t_ast F hB hS (k := 25) rfl hin dX6_boldness_52 (fun H locs hB hS => ?_)
    refine lv_aload_n hx hb dX6_boldness_53 rfl (lv_at hl 1 rfl) ?_
    refine lv_iload_n hx hb dX6_boldness_54 rfl (lv_at hl 0 rfl) ?_
    refine kX6_X6_worked F hB hS hw ⟨Nat.le_of_ble_eq_true rfl, Nat.le_of_ble_eq_true rfl⟩ ⟨Nat.zero_le _, Nat.zero_le _⟩ hl.1 (Nat.le_of_ble_eq_true rfl) dX6_boldness_55 (fun r8 T9 H locs hw hB hS => ?_)
    refine lv_bipush (v := 100) hx hb dX6_boldness_58 (by decide) ?_
    refine kX6_X6_within F.1 hw ⟨Nat.le_of_ble_eq_true rfl, Nat.le_of_ble_eq_true rfl⟩ ⟨Nat.zero_le _, Nat.zero_le _⟩ hl.1 (Nat.le_of_ble_eq_true rfl) dX6_boldness_60 (fun r10 hw => ?_)
    exact W.iret hx hb F.1.r (fun t ht hW => ⟨⟨_, _, rfl, hw, x_B (Bw := tB D A ad) ht hB⟩, hS.F ht⟩) hS.2.2 dX6_boldness_63 (hlocks := F.1.k)
  · replace hw := hw.2 q
    refine lv_aload_n hx hb dX6_boldness_10 rfl (lv_at hl 1 rfl) ?_
    refine lv_iload_n hx hb dX6_boldness_11 rfl (lv_at hl 2 rfl) ?_
    refine lv_iconst (v := 1) hx hb dX6_boldness_12 (by decide) ?_
    refine kX6_X6_of F hB hS hw ⟨Nat.le_of_ble_eq_true rfl, Nat.le_of_ble_eq_true rfl⟩ ⟨Nat.zero_le _, Nat.zero_le _⟩ hl.1 (Nat.le_of_ble_eq_true rfl) dX6_boldness_13 (fun r11 T12 H locs hw hB hS => ?_)
    exact W.iret hx hb F.1.r (fun t ht hW => ⟨⟨_, _, rfl, hw, x_B (Bw := tB D A ad) ht hB⟩, hS.F ht⟩) hS.2.2 dX6_boldness_16 (hlocks := F.1.k)
set_option maxHeartbeats 4000000 in
theorem mX6_boldness {l : Launch} {D : DD} {A : Nat → Prop} {s0 : State} {ad : AD} {T : TS} {a1 : Int32} {a2 : Int32} {Q : Int32 → TS → Prop} (hw : wX6_boldness a1 a2 T Q) : Met l yX6_boldness (ws_ yX6_boldness cX6_boldness 4 (some .int)) rX6_boldness (va_Pc [.ref (ad 0 0 0), .int a1, .int a2] (fun U => tB D A ad T U.heap ∧ CX l D A s0 U)) (va_Qi Q (fun u t => tB D A ad u t.heap) A) 0 0 A := by
  refine Met.ofW (cc := cX6_boldness) (maxL := 4) (ret := some .int) (by decide) rfl ?_
  intro p e s m args below meth c s₁ B hml hv
  obtain ⟨rfl, hB, hC⟩ := hv
  have F : FX p l c cX6_boldness s _ m RX6 D A s0 4 meth (some .int) := ⟨mk_FP B hml rfl, hC⟩
  have hS : va_S A s.heap s.heap [] := va_S.rf
  have hl := lv_entry ([.ref (ad 0 0 0), .int a1, .int a2]) (n := 4) (Nat.le_of_ble_eq_true rfl)
  rw [lg_entry_eq]
  generalize (lg_sl ([.ref (ad 0 0 0), .int a1, .int a2]) ++ List.replicate (4 - (lg_sl ([.ref (ad 0 0 0), .int a1, .int a2])).length) Slot.unset).toArray = ls at hl ⊢
  exact bX6_boldness_0 F hB hS hw hl
theorem kX6_X6_boldness {p : Program} {l : Launch} {e : Env} {R : Room} {s : State} {m : MethodId} {args : Array Value} {below : List Frame} {meth : Method} {c : Code} {H : Heap} {locs : List Loc} {cells slots : Nat} {Q0 : State → Prop} {cc : ByteArray} {pc nL : Nat} {ls : Array Slot} {rest : List Value} {ret : Option FieldType} {D : DD} {A : Nat → Prop} {s0 : State} {ad : AD} {T : TS} {a1 : Int32} {a2 : Int32} {Q : Int32 → TS → Prop} (F : FX p l c cc s args m RX6 D A s0 nL meth ret) (hB : tB D A ad T H) (hS : va_S A s.heap H locs) (hw : wX6_boldness a1 a2 T Q) (hR : rX6_boldness.frames + 1 ≤ R.frames ∧ 8 + (4 + 11) + rX6_boldness.locals ≤ R.locals) (hc : cells + 0 ≤ R.cells ∧ slots + 0 ≤ R.slots) (hsz : ls.size = nL) (hW : (rest.map fun v => v.category).sum ≤ 8) (hdg : decode cc pc = .ok (.invokevirtual 177, 3)) (kk : ∀ (r : Int32) (u : TS) (H1 : Heap) (locs1 : List Loc), Q r u → tB D A ad u H1 → va_S A s.heap H1 locs1 → W p l e R s m args below meth c H1 locs1 cells slots Q0 (F0 m (pc + 3) ls (.int r :: rest))) : W p l e R s m args below meth c H locs cells slots Q0 (F0 m pc ls (.int a2 :: .int a1 :: .ref (ad 0 0 0) :: rest)) :=
  k_i (Bw := tB D A ad) (k_runV (Bw := tB D A ad) (n := 2) (As := [.int a1, .int a2]) F hB hS (t_recv F hB) (mX6_boldness hw) q1514 q1516 qs63 q92 q1517 (by decide +kernel) hR ⟨rfl, rfl⟩ hc rfl hsz rfl hW hdg) hS kk
def rX6_step : Room := { frames := 0, cells := 0, slots := 0, locals := 0 }
set_option maxHeartbeats 4000000 in
theorem bX6_step_0 {p : Program} {l : Launch} {e : Env} {s : State} {m : MethodId} {args : Array Value} {below : List Frame} {meth : Method} {c : Code} {D : DD} {A : Nat → Prop} {s0 : State} {ad : AD} {Q : TS → Prop} {a1 : Int32} {a2 : Int32} {T : TS} {H : Heap} {locs : List Loc} {ls : Array Slot} (F : FX p l c cX6_step s args m RX6 D A s0 3 meth (none)) (hB : tB D A ad T H) (hS : va_S A s.heap H locs) (hw : wX6_step a1 a2 T Q) (hl : lv_has ls 3 [(0, .ref (ad 0 0 0)), (1, .int a1), (2, .int a2)]) : W p l e rX6_step s m args below meth c H locs 0 0 (MQ below (va_Qv Q (fun u t => tB D A ad u t.heap) A) args s 0 0 A) (F0 m 0 ls []) := by
  have hx := F.1.x
  have hb := F.1.b
  unfold wX6_step at hw
  refine lv_aload_n hx hb dX6_step_0 rfl (lv_at hl 0 rfl) ?_
  refine tg_0 F hB dX6_step_1 ?_
  refine lv_aload_n hx hb dX6_step_4 rfl (lv_at hl 0 rfl) ?_
  refine tg_23 F hB dX6_step_5 ?_
  refine lv_iconst (v := 2) hx hb dX6_step_8 (by decide) ?_
  refine lv_aload_n hx hb dX6_step_9 rfl (lv_at hl 0 rfl) ?_
  refine tg_22 F hB dX6_step_10 ?_
  refine lv_imul hx hb dX6_step_13 ?_
  refine lv_iadd hx hb dX6_step_14 ?_
  refine lv_iload_n hx hb dX6_step_15 rfl (lv_at hl 1 rfl) ?_
  obtain ⟨hin, hw⟩ := hw
  refine t_ast F hB hS (k := 0) rfl hin dX6_step_16 (fun H locs hB hS => ?_)
  refine lv_aload_n hx hb dX6_step_17 rfl (lv_at hl 0 rfl) ?_
  refine tg_0 F hB dX6_step_18 ?_
  refine lv_aload_n hx hb dX6_step_21 rfl (lv_at hl 0 rfl) ?_
  refine tg_23 F hB dX6_step_22 ?_
  refine lv_iconst (v := 2) hx hb dX6_step_25 (by decide) ?_
  refine lv_aload_n hx hb dX6_step_26 rfl (lv_at hl 0 rfl) ?_
  refine tg_22 F hB dX6_step_27 ?_
  refine lv_imul hx hb dX6_step_30 ?_
  refine lv_iadd hx hb dX6_step_31 ?_
  refine lv_iconst (v := 1) hx hb dX6_step_32 (by decide) ?_
  refine lv_iadd hx hb dX6_step_33 ?_
  refine lv_iload_n hx hb dX6_step_34 rfl (lv_at hl 2 rfl) ?_
  obtain ⟨hin, hw⟩ := hw
  refine t_ast F hB hS (k := 0) rfl hin dX6_step_35 (fun H locs hB hS => ?_)
  refine lv_aload_n hx hb dX6_step_36 rfl (lv_at hl 0 rfl) ?_
  refine lv_dup hx hb dX6_step_37 rfl ?_
  refine tg_22 F hB dX6_step_38 ?_
  refine lv_iconst (v := 1) hx hb dX6_step_41 (by decide) ?_
  refine lv_iadd hx hb dX6_step_42 ?_
  refine tp_22 F hB hS dX6_step_43 (fun H locs hB hS => ?_)
  exact W.vret hx hb F.1.r (fun t ht hW => ⟨⟨_, rfl, hw, x_B (Bw := tB D A ad) ht hB⟩, hS.F ht⟩) hS.2.2 dX6_step_46 (hlocks := F.1.k)
set_option maxHeartbeats 4000000 in
theorem mX6_step {l : Launch} {D : DD} {A : Nat → Prop} {s0 : State} {ad : AD} {T : TS} {a1 : Int32} {a2 : Int32} {Q : TS → Prop} (hw : wX6_step a1 a2 T Q) : Met l yX6_step (ws_ yX6_step cX6_step 3 (none)) rX6_step (va_Pc [.ref (ad 0 0 0), .int a1, .int a2] (fun U => tB D A ad T U.heap ∧ CX l D A s0 U)) (va_Qv Q (fun u t => tB D A ad u t.heap) A) 0 0 A := by
  refine Met.ofW (cc := cX6_step) (maxL := 3) (ret := none) (by decide) rfl ?_
  intro p e s m args below meth c s₁ B hml hv
  obtain ⟨rfl, hB, hC⟩ := hv
  have F : FX p l c cX6_step s _ m RX6 D A s0 3 meth (none) := ⟨mk_FP B hml rfl, hC⟩
  have hS : va_S A s.heap s.heap [] := va_S.rf
  have hl := lv_entry ([.ref (ad 0 0 0), .int a1, .int a2]) (n := 3) (Nat.le_of_ble_eq_true rfl)
  rw [lg_entry_eq]
  generalize (lg_sl ([.ref (ad 0 0 0), .int a1, .int a2]) ++ List.replicate (3 - (lg_sl ([.ref (ad 0 0 0), .int a1, .int a2])).length) Slot.unset).toArray = ls at hl ⊢
  exact bX6_step_0 F hB hS hw hl
theorem kX6_X6_step {p : Program} {l : Launch} {e : Env} {R : Room} {s : State} {m : MethodId} {args : Array Value} {below : List Frame} {meth : Method} {c : Code} {H : Heap} {locs : List Loc} {cells slots : Nat} {Q0 : State → Prop} {cc : ByteArray} {pc nL : Nat} {ls : Array Slot} {rest : List Value} {ret : Option FieldType} {D : DD} {A : Nat → Prop} {s0 : State} {ad : AD} {T : TS} {a1 : Int32} {a2 : Int32} {Q : TS → Prop} (F : FX p l c cc s args m RX6 D A s0 nL meth ret) (hB : tB D A ad T H) (hS : va_S A s.heap H locs) (hw : wX6_step a1 a2 T Q) (hR : rX6_step.frames + 1 ≤ R.frames ∧ 8 + (3 + 11) + rX6_step.locals ≤ R.locals) (hc : cells + 0 ≤ R.cells ∧ slots + 0 ≤ R.slots) (hsz : ls.size = nL) (hW : (rest.map fun v => v.category).sum ≤ 8) (hdg : decode cc pc = .ok (.invokevirtual 242, 3)) (kk : ∀ (u : TS) (H1 : Heap) (locs1 : List Loc), Q u → tB D A ad u H1 → va_S A s.heap H1 locs1 → W p l e R s m args below meth c H1 locs1 cells slots Q0 (F0 m (pc + 3) ls (rest))) : W p l e R s m args below meth c H locs cells slots Q0 (F0 m pc ls (.int a2 :: .int a1 :: .ref (ad 0 0 0) :: rest)) :=
  k_v (Bw := tB D A ad) (k_runV (Bw := tB D A ad) (n := 2) (As := [.int a1, .int a2]) F hB hS (t_recv F hB) (mX6_step hw) q1611 q1613 qs77 q92 q1614 (by decide +kernel) hR ⟨rfl, rfl⟩ hc rfl hsz rfl hW hdg) hS kk
def rX6_isLetter : Room := { frames := 1, cells := 0, slots := 0, locals := 25 }
set_option maxHeartbeats 4000000 in
theorem bX6_isLetter_0 {p : Program} {l : Launch} {e : Env} {s : State} {m : MethodId} {args : Array Value} {below : List Frame} {meth : Method} {c : Code} {D : DD} {A : Nat → Prop} {s0 : State} {ad : AD} {Q : Int32 → TS → Prop} {a1 : Int32} {T : TS} {H : Heap} {locs : List Loc} {ls : Array Slot} (F : FX p l c cX6_isLetter s args m RX6 D A s0 2 meth (some .boolean)) (hB : tB D A ad T H) (hS : va_S A s.heap H locs) (hw : wX6_isLetter a1 T Q) (hl : lv_has ls 2 [(0, .ref (ad 0 0 0)), (1, .int a1)]) : W p l e rX6_isLetter s m args below meth c H locs 0 0 (MQ below (va_Qi Q (fun u t => tB D A ad u t.heap) A) args s 0 0 A) (F0 m 0 ls []) := by
  have hx := F.1.x
  have hb := F.1.b
  unfold wX6_isLetter at hw
  refine lv_iload_n hx hb dX6_isLetter_0 rfl (lv_at hl 1 rfl) ?_
  refine lv_aload_n hx hb dX6_isLetter_1 rfl (lv_at hl 0 rfl) ?_
  refine tg_14 F hB dX6_isLetter_2 ?_
  refine lv_icmp_ge (tgt := 31) hx hb dX6_isLetter_5 (by decide) (fun q => ?_) (fun q => ?_)
  · replace hw := hw.1 q
    refine lv_iconst (v := 0) hx hb dX6_isLetter_31 (by decide) ?_
    exact W.zret hx hb F.1.r rfl (fun t ht hW => ⟨⟨_, _, rfl, hw, x_B (Bw := tB D A ad) ht hB⟩, hS.F ht⟩) hS.2.2 dX6_isLetter_32 (hlocks := F.1.k)
  · replace hw := hw.2 q
    refine lv_aload_n hx hb dX6_isLetter_8 rfl (lv_at hl 0 rfl) ?_
    refine tg_13 F hB dX6_isLetter_9 ?_
    refine lv_iload_n hx hb dX6_isLetter_12 rfl (lv_at hl 1 rfl) ?_
    obtain ⟨hin, hw⟩ := hw
    refine t_ald F hB (k := 13) rfl hin dX6_isLetter_13 ?_
    refine lv_i2l hx hb dX6_isLetter_14 rfl ?_
    refine lv_ldc2 hx hb F.1.o (F.1.t _ q1571) dX6_isLetter_15 ?_
    refine lv_ldc2 hx hb F.1.o (F.1.t _ q1572) dX6_isLetter_18 ?_
    refine kX6_X6_isIn F.1 hw ⟨Nat.le_of_ble_eq_true rfl, Nat.le_of_ble_eq_true rfl⟩ ⟨Nat.zero_le _, Nat.zero_le _⟩ hl.1 (Nat.le_of_ble_eq_true rfl) dX6_isLetter_21 (fun r1 hw => ?_)
    refine lv_if_eq (tgt := 31) hx hb dX6_isLetter_24 (by decide) (fun q => ?_) (fun q => ?_)
    · replace hw := hw.1 q
      refine lv_iconst (v := 0) hx hb dX6_isLetter_31 (by decide) ?_
      exact W.zret hx hb F.1.r rfl (fun t ht hW => ⟨⟨_, _, rfl, hw, x_B (Bw := tB D A ad) ht hB⟩, hS.F ht⟩) hS.2.2 dX6_isLetter_32 (hlocks := F.1.k)
    · replace hw := hw.2 q
      refine lv_iconst (v := 1) hx hb dX6_isLetter_27 (by decide) ?_
      refine lv_goto (tgt := 32) hx hb dX6_isLetter_28 (by decide) ?_
      exact W.zret hx hb F.1.r rfl (fun t ht hW => ⟨⟨_, _, rfl, hw, x_B (Bw := tB D A ad) ht hB⟩, hS.F ht⟩) hS.2.2 dX6_isLetter_32 (hlocks := F.1.k)
set_option maxHeartbeats 4000000 in
theorem mX6_isLetter {l : Launch} {D : DD} {A : Nat → Prop} {s0 : State} {ad : AD} {T : TS} {a1 : Int32} {Q : Int32 → TS → Prop} (hw : wX6_isLetter a1 T Q) : Met l yX6_isLetter (ws_ yX6_isLetter cX6_isLetter 2 (some .boolean)) rX6_isLetter (va_Pc [.ref (ad 0 0 0), .int a1] (fun U => tB D A ad T U.heap ∧ CX l D A s0 U)) (va_Qi Q (fun u t => tB D A ad u t.heap) A) 0 0 A := by
  refine Met.ofW (cc := cX6_isLetter) (maxL := 2) (ret := some .boolean) (by decide) rfl ?_
  intro p e s m args below meth c s₁ B hml hv
  obtain ⟨rfl, hB, hC⟩ := hv
  have F : FX p l c cX6_isLetter s _ m RX6 D A s0 2 meth (some .boolean) := ⟨mk_FP B hml rfl, hC⟩
  have hS : va_S A s.heap s.heap [] := va_S.rf
  have hl := lv_entry ([.ref (ad 0 0 0), .int a1]) (n := 2) (Nat.le_of_ble_eq_true rfl)
  rw [lg_entry_eq]
  generalize (lg_sl ([.ref (ad 0 0 0), .int a1]) ++ List.replicate (2 - (lg_sl ([.ref (ad 0 0 0), .int a1])).length) Slot.unset).toArray = ls at hl ⊢
  exact bX6_isLetter_0 F hB hS hw hl
theorem kX6_X6_isLetter {p : Program} {l : Launch} {e : Env} {R : Room} {s : State} {m : MethodId} {args : Array Value} {below : List Frame} {meth : Method} {c : Code} {H : Heap} {locs : List Loc} {cells slots : Nat} {Q0 : State → Prop} {cc : ByteArray} {pc nL : Nat} {ls : Array Slot} {rest : List Value} {ret : Option FieldType} {D : DD} {A : Nat → Prop} {s0 : State} {ad : AD} {T : TS} {a1 : Int32} {Q : Int32 → TS → Prop} (F : FX p l c cc s args m RX6 D A s0 nL meth ret) (hB : tB D A ad T H) (hS : va_S A s.heap H locs) (hw : wX6_isLetter a1 T Q) (hR : rX6_isLetter.frames + 1 ≤ R.frames ∧ 8 + (2 + 11) + rX6_isLetter.locals ≤ R.locals) (hc : cells + 0 ≤ R.cells ∧ slots + 0 ≤ R.slots) (hsz : ls.size = nL) (hW : (rest.map fun v => v.category).sum ≤ 8) (hdg : decode cc pc = .ok (.invokevirtual 211, 3)) (kk : ∀ (r : Int32) (u : TS) (H1 : Heap) (locs1 : List Loc), Q r u → tB D A ad u H1 → va_S A s.heap H1 locs1 → W p l e R s m args below meth c H1 locs1 cells slots Q0 (F0 m (pc + 3) ls (.int r :: rest))) : W p l e R s m args below meth c H locs cells slots Q0 (F0 m pc ls (.int a1 :: .ref (ad 0 0 0) :: rest)) :=
  k_i (Bw := tB D A ad) (k_runV (Bw := tB D A ad) (n := 1) (As := [.int a1]) F hB hS (t_recv F hB) (mX6_isLetter hw) q1567 q1569 qs67 q92 q1570 (by decide +kernel) hR ⟨rfl, rfl⟩ hc rfl hsz rfl hW hdg) hS kk
def rX6_isDigit : Room := { frames := 1, cells := 0, slots := 0, locals := 25 }
set_option maxHeartbeats 4000000 in
theorem bX6_isDigit_0 {p : Program} {l : Launch} {e : Env} {s : State} {m : MethodId} {args : Array Value} {below : List Frame} {meth : Method} {c : Code} {D : DD} {A : Nat → Prop} {s0 : State} {ad : AD} {Q : Int32 → TS → Prop} {a1 : Int32} {T : TS} {H : Heap} {locs : List Loc} {ls : Array Slot} (F : FX p l c cX6_isDigit s args m RX6 D A s0 2 meth (some .boolean)) (hB : tB D A ad T H) (hS : va_S A s.heap H locs) (hw : wX6_isDigit a1 T Q) (hl : lv_has ls 2 [(0, .ref (ad 0 0 0)), (1, .int a1)]) : W p l e rX6_isDigit s m args below meth c H locs 0 0 (MQ below (va_Qi Q (fun u t => tB D A ad u t.heap) A) args s 0 0 A) (F0 m 0 ls []) := by
  have hx := F.1.x
  have hb := F.1.b
  unfold wX6_isDigit at hw
  refine lv_iload_n hx hb dX6_isDigit_0 rfl (lv_at hl 1 rfl) ?_
  refine lv_aload_n hx hb dX6_isDigit_1 rfl (lv_at hl 0 rfl) ?_
  refine tg_14 F hB dX6_isDigit_2 ?_
  refine lv_icmp_ge (tgt := 31) hx hb dX6_isDigit_5 (by decide) (fun q => ?_) (fun q => ?_)
  · replace hw := hw.1 q
    refine lv_iconst (v := 0) hx hb dX6_isDigit_31 (by decide) ?_
    exact W.zret hx hb F.1.r rfl (fun t ht hW => ⟨⟨_, _, rfl, hw, x_B (Bw := tB D A ad) ht hB⟩, hS.F ht⟩) hS.2.2 dX6_isDigit_32 (hlocks := F.1.k)
  · replace hw := hw.2 q
    refine lv_aload_n hx hb dX6_isDigit_8 rfl (lv_at hl 0 rfl) ?_
    refine tg_13 F hB dX6_isDigit_9 ?_
    refine lv_iload_n hx hb dX6_isDigit_12 rfl (lv_at hl 1 rfl) ?_
    obtain ⟨hin, hw⟩ := hw
    refine t_ald F hB (k := 13) rfl hin dX6_isDigit_13 ?_
    refine lv_i2l hx hb dX6_isDigit_14 rfl ?_
    refine lv_ldc2 hx hb F.1.o (F.1.t _ q1577) dX6_isDigit_15 ?_
    refine lv_ldc2 hx hb F.1.o (F.1.t _ q1578) dX6_isDigit_18 ?_
    refine kX6_X6_isIn F.1 hw ⟨Nat.le_of_ble_eq_true rfl, Nat.le_of_ble_eq_true rfl⟩ ⟨Nat.zero_le _, Nat.zero_le _⟩ hl.1 (Nat.le_of_ble_eq_true rfl) dX6_isDigit_21 (fun r1 hw => ?_)
    refine lv_if_eq (tgt := 31) hx hb dX6_isDigit_24 (by decide) (fun q => ?_) (fun q => ?_)
    · replace hw := hw.1 q
      refine lv_iconst (v := 0) hx hb dX6_isDigit_31 (by decide) ?_
      exact W.zret hx hb F.1.r rfl (fun t ht hW => ⟨⟨_, _, rfl, hw, x_B (Bw := tB D A ad) ht hB⟩, hS.F ht⟩) hS.2.2 dX6_isDigit_32 (hlocks := F.1.k)
    · replace hw := hw.2 q
      refine lv_iconst (v := 1) hx hb dX6_isDigit_27 (by decide) ?_
      refine lv_goto (tgt := 32) hx hb dX6_isDigit_28 (by decide) ?_
      exact W.zret hx hb F.1.r rfl (fun t ht hW => ⟨⟨_, _, rfl, hw, x_B (Bw := tB D A ad) ht hB⟩, hS.F ht⟩) hS.2.2 dX6_isDigit_32 (hlocks := F.1.k)
set_option maxHeartbeats 4000000 in
theorem mX6_isDigit {l : Launch} {D : DD} {A : Nat → Prop} {s0 : State} {ad : AD} {T : TS} {a1 : Int32} {Q : Int32 → TS → Prop} (hw : wX6_isDigit a1 T Q) : Met l yX6_isDigit (ws_ yX6_isDigit cX6_isDigit 2 (some .boolean)) rX6_isDigit (va_Pc [.ref (ad 0 0 0), .int a1] (fun U => tB D A ad T U.heap ∧ CX l D A s0 U)) (va_Qi Q (fun u t => tB D A ad u t.heap) A) 0 0 A := by
  refine Met.ofW (cc := cX6_isDigit) (maxL := 2) (ret := some .boolean) (by decide) rfl ?_
  intro p e s m args below meth c s₁ B hml hv
  obtain ⟨rfl, hB, hC⟩ := hv
  have F : FX p l c cX6_isDigit s _ m RX6 D A s0 2 meth (some .boolean) := ⟨mk_FP B hml rfl, hC⟩
  have hS : va_S A s.heap s.heap [] := va_S.rf
  have hl := lv_entry ([.ref (ad 0 0 0), .int a1]) (n := 2) (Nat.le_of_ble_eq_true rfl)
  rw [lg_entry_eq]
  generalize (lg_sl ([.ref (ad 0 0 0), .int a1]) ++ List.replicate (2 - (lg_sl ([.ref (ad 0 0 0), .int a1])).length) Slot.unset).toArray = ls at hl ⊢
  exact bX6_isDigit_0 F hB hS hw hl
theorem kX6_X6_isDigit {p : Program} {l : Launch} {e : Env} {R : Room} {s : State} {m : MethodId} {args : Array Value} {below : List Frame} {meth : Method} {c : Code} {H : Heap} {locs : List Loc} {cells slots : Nat} {Q0 : State → Prop} {cc : ByteArray} {pc nL : Nat} {ls : Array Slot} {rest : List Value} {ret : Option FieldType} {D : DD} {A : Nat → Prop} {s0 : State} {ad : AD} {T : TS} {a1 : Int32} {Q : Int32 → TS → Prop} (F : FX p l c cc s args m RX6 D A s0 nL meth ret) (hB : tB D A ad T H) (hS : va_S A s.heap H locs) (hw : wX6_isDigit a1 T Q) (hR : rX6_isDigit.frames + 1 ≤ R.frames ∧ 8 + (2 + 11) + rX6_isDigit.locals ≤ R.locals) (hc : cells + 0 ≤ R.cells ∧ slots + 0 ≤ R.slots) (hsz : ls.size = nL) (hW : (rest.map fun v => v.category).sum ≤ 8) (hdg : decode cc pc = .ok (.invokevirtual 217, 3)) (kk : ∀ (r : Int32) (u : TS) (H1 : Heap) (locs1 : List Loc), Q r u → tB D A ad u H1 → va_S A s.heap H1 locs1 → W p l e R s m args below meth c H1 locs1 cells slots Q0 (F0 m (pc + 3) ls (.int r :: rest))) : W p l e R s m args below meth c H locs cells slots Q0 (F0 m pc ls (.int a1 :: .ref (ad 0 0 0) :: rest)) :=
  k_i (Bw := tB D A ad) (k_runV (Bw := tB D A ad) (n := 1) (As := [.int a1]) F hB hS (t_recv F hB) (mX6_isDigit hw) q1573 q1575 qs68 q92 q1576 (by decide +kernel) hR ⟨rfl, rfl⟩ hc rfl hsz rfl hW hdg) hS kk
def rX6_nextToken : Room := { frames := 2, cells := 0, slots := 0, locals := 46 }
set_option maxHeartbeats 4000000 in
theorem bX6_nextToken_305 {p : Program} {l : Launch} {e : Env} {s : State} {m : MethodId} {args : Array Value} {below : List Frame} {meth : Method} {c : Code} {D : DD} {A : Nat → Prop} {s0 : State} {ad : AD} {Q : TS → Prop} {k0 : Int32} {T : TS} {H : Heap} {locs : List Loc} {ls : Array Slot} (F : FX p l c cX6_nextToken s args m RX6 D A s0 3 meth (none)) (hB : tB D A ad T H) (hS : va_S A s.heap H locs) (hw : wX6_nextToken_305 k0 T Q) (hl : lv_has ls 3 []) : W p l e rX6_nextToken s m args below meth c H locs 0 0 (MQ below (va_Qv Q (fun u t => tB D A ad u t.heap) A) args s 0 0 A) (F0 m 305 ls [.int k0, .ref (ad 0 0 0)]) := by
  have hx := F.1.x
  have hb := F.1.b
  unfold wX6_nextToken_305 at hw
  refine tp_17 F hB hS dX6_nextToken_305 (fun H locs hB hS => ?_)
  refine lv_goto (tgt := 339) hx hb dX6_nextToken_308 (by decide) ?_
  exact W.vret hx hb F.1.r (fun t ht hW => ⟨⟨_, rfl, hw, x_B (Bw := tB D A ad) ht hB⟩, hS.F ht⟩) hS.2.2 dX6_nextToken_339 (hlocks := F.1.k)
set_option maxHeartbeats 4000000 in
theorem bX6_nextToken_300 {p : Program} {l : Launch} {e : Env} {s : State} {m : MethodId} {args : Array Value} {below : List Frame} {meth : Method} {c : Code} {D : DD} {A : Nat → Prop} {s0 : State} {ad : AD} {Q : TS → Prop} {T : TS} {H : Heap} {locs : List Loc} {ls : Array Slot} (F : FX p l c cX6_nextToken s args m RX6 D A s0 3 meth (none)) (hB : tB D A ad T H) (hS : va_S A s.heap H locs) (hw : wX6_nextToken_300 T Q) (hl : lv_has ls 3 []) : W p l e rX6_nextToken s m args below meth c H locs 0 0 (MQ below (va_Qv Q (fun u t => tB D A ad u t.heap) A) args s 0 0 A) (F0 m 300 ls [.ref (ad 0 0 0)]) := by
  have hx := F.1.x
  have hb := F.1.b
  unfold wX6_nextToken_300 at hw
  refine lv_iconst (v := 4) hx hb dX6_nextToken_300 (by decide) ?_
  refine lv_goto (tgt := 305) hx hb dX6_nextToken_301 (by decide) ?_
  exact bX6_nextToken_305 F hB hS hw hl
set_option maxHeartbeats 4000000 in
theorem bX6_nextToken_266 {p : Program} {l : Launch} {e : Env} {s : State} {m : MethodId} {args : Array Value} {below : List Frame} {meth : Method} {c : Code} {D : DD} {A : Nat → Prop} {s0 : State} {ad : AD} {Q : TS → Prop} {k_214 : Int32 → TS → Prop} {l1 : Int32} {k0 : Int32} {T : TS} {H : Heap} {locs : List Loc} {ls : Array Slot} (F : FX p l c cX6_nextToken s args m RX6 D A s0 3 meth (none)) (h_214 : ∀ (l1 : Int32) (T : TS), k_214 l1 T → ∀ (H : Heap) (locs : List Loc) (ls : Array Slot), tB D A ad T H → va_S A s.heap H locs → lv_has ls 3 [(0, .ref (ad 0 0 0)), (1, .int l1)] → W p l e rX6_nextToken s m args below meth c H locs 0 0 (MQ below (va_Qv Q (fun u t => tB D A ad u t.heap) A) args s 0 0 A) (F0 m 214 ls [])) (hB : tB D A ad T H) (hS : va_S A s.heap H locs) (hw : wX6_nextToken_266 k_214 l1 k0 T Q) (hl : lv_has ls 3 [(0, .ref (ad 0 0 0)), (1, .int l1)]) : W p l e rX6_nextToken s m args below meth c H locs 0 0 (MQ below (va_Qv Q (fun u t => tB D A ad u t.heap) A) args s 0 0 A) (F0 m 266 ls [.int k0, .ref (ad 0 0 0)]) := by
  have hx := F.1.x
  have hb := F.1.b
  unfold wX6_nextToken_266 at hw
  refine tp_18 F hB hS dX6_nextToken_266 (fun H locs hB hS => ?_)
  refine lv_aload_n hx hb dX6_nextToken_269 rfl (lv_at hl 0 rfl) ?_
  refine lv_dup hx hb dX6_nextToken_270 rfl ?_
  refine tg_16 F hB dX6_nextToken_271 ?_
  refine lv_iconst (v := 1) hx hb dX6_nextToken_274 (by decide) ?_
  refine lv_iadd hx hb dX6_nextToken_275 ?_
  refine tp_16 F hB hS dX6_nextToken_276 (fun H locs hB hS => ?_)
  refine lv_goto (tgt := 214) hx hb dX6_nextToken_279 (by decide) ?_
  exact h_214 _ _ hw _ _ _ hB hS hl
set_option maxHeartbeats 4000000 in
theorem bX6_nextToken_214 {p : Program} {l : Launch} {e : Env} {s : State} {m : MethodId} {args : Array Value} {below : List Frame} {meth : Method} {c : Code} {D : DD} {A : Nat → Prop} {s0 : State} {ad : AD} {Q : TS → Prop} (F : FX p l c cX6_nextToken s args m RX6 D A s0 3 meth (none)) : ∀ (n : Nat) (l1 : Int32) (T : TS), wX6_nextToken_214 Q n l1 T → ∀ (H : Heap) (locs : List Loc) (ls : Array Slot), tB D A ad T H → va_S A s.heap H locs → lv_has ls 3 [(0, .ref (ad 0 0 0)), (1, .int l1)] → W p l e rX6_nextToken s m args below meth c H locs 0 0 (MQ below (va_Qv Q (fun u t => tB D A ad u t.heap) A) args s 0 0 A) (F0 m 214 ls []) := by
  have hx := F.1.x
  have hb := F.1.b
  intro n
  induction n with
  | zero => intro l1 T hw; exact hw.elim
  | succ n ih =>
    intro l1 T hw H locs ls hB hS hl
    unfold wX6_nextToken_214 at hw
    refine lv_aload_n hx hb dX6_nextToken_214 rfl (lv_at hl 0 rfl) ?_
    refine lv_aload_n hx hb dX6_nextToken_215 rfl (lv_at hl 0 rfl) ?_
    refine tg_16 F hB dX6_nextToken_216 ?_
    refine kX6_X6_isDigit F hB hS hw ⟨Nat.le_of_ble_eq_true rfl, Nat.le_of_ble_eq_true rfl⟩ ⟨Nat.zero_le _, Nat.zero_le _⟩ hl.1 (Nat.le_of_ble_eq_true rfl) dX6_nextToken_219 (fun r1 T2 H locs hw hB hS => ?_)
    refine lv_if_eq (tgt := 282) hx hb dX6_nextToken_222 (by decide) (fun q => ?_) (fun q => ?_)
    · replace hw := hw.1 q
      refine lv_aload_n hx hb dX6_nextToken_282 rfl (lv_at hl 0 rfl) ?_
      refine lv_iload_n hx hb dX6_nextToken_283 rfl (lv_at hl 1 rfl) ?_
      refine lv_if_ne (tgt := 300) hx hb dX6_nextToken_284 (by decide) (fun q => ?_) (fun q => ?_)
      · replace hw := hw.2 q
        exact bX6_nextToken_300 F hB hS hw (lv_sub hl [] rfl)
      · replace hw := hw.1 q
        refine lv_aload_n hx hb dX6_nextToken_287 rfl (lv_at hl 0 rfl) ?_
        refine tg_16 F hB dX6_nextToken_288 ?_
        refine lv_aload_n hx hb dX6_nextToken_291 rfl (lv_at hl 0 rfl) ?_
        refine tg_15 F hB dX6_nextToken_292 ?_
        refine lv_isub hx hb dX6_nextToken_295 ?_
        refine lv_iconst (v := 4) hx hb dX6_nextToken_296 (by decide) ?_
        refine lv_icmp_le (tgt := 304) hx hb dX6_nextToken_297 (by decide) (fun q => ?_) (fun q => ?_)
        · replace hw := hw.1 q
          refine lv_iconst (v := 2) hx hb dX6_nextToken_304 (by decide) ?_
          exact bX6_nextToken_305 F hB hS hw (lv_sub hl [] rfl)
        · replace hw := hw.2 q
          exact bX6_nextToken_300 F hB hS hw (lv_sub hl [] rfl)
    · replace hw := hw.2 q
      refine lv_aload_n hx hb dX6_nextToken_225 rfl (lv_at hl 0 rfl) ?_
      refine lv_aload_n hx hb dX6_nextToken_226 rfl (lv_at hl 0 rfl) ?_
      refine tg_16 F hB dX6_nextToken_227 ?_
      refine lv_aload_n hx hb dX6_nextToken_230 rfl (lv_at hl 0 rfl) ?_
      refine tg_15 F hB dX6_nextToken_231 ?_
      refine lv_isub hx hb dX6_nextToken_234 ?_
      refine lv_iconst (v := 4) hx hb dX6_nextToken_235 (by decide) ?_
      refine lv_icmp_ge (tgt := 262) hx hb dX6_nextToken_236 (by decide) (fun q => ?_) (fun q => ?_)
      · replace hw := hw.1 q
        refine lv_aload_n hx hb dX6_nextToken_262 rfl (lv_at hl 0 rfl) ?_
        refine tg_18 F hB dX6_nextToken_263 ?_
        exact bX6_nextToken_266 F ih hB hS hw hl
      · replace hw := hw.2 q
        refine lv_bipush (v := 10) hx hb dX6_nextToken_239 (by decide) ?_
        refine lv_aload_n hx hb dX6_nextToken_241 rfl (lv_at hl 0 rfl) ?_
        refine tg_18 F hB dX6_nextToken_242 ?_
        refine lv_imul hx hb dX6_nextToken_245 ?_
        refine lv_aload_n hx hb dX6_nextToken_246 rfl (lv_at hl 0 rfl) ?_
        refine tg_13 F hB dX6_nextToken_247 ?_
        refine lv_aload_n hx hb dX6_nextToken_250 rfl (lv_at hl 0 rfl) ?_
        refine tg_16 F hB dX6_nextToken_251 ?_
        obtain ⟨hin, hw⟩ := hw
        refine t_ald F hB (k := 13) rfl hin dX6_nextToken_254 ?_
        refine lv_iadd hx hb dX6_nextToken_255 ?_
        refine lv_bipush (v := 48) hx hb dX6_nextToken_256 (by decide) ?_
        refine lv_isub hx hb dX6_nextToken_258 ?_
        refine lv_goto (tgt := 266) hx hb dX6_nextToken_259 (by decide) ?_
        exact bX6_nextToken_266 F ih hB hS hw hl
set_option maxHeartbeats 4000000 in
theorem bX6_nextToken_192 {p : Program} {l : Launch} {e : Env} {s : State} {m : MethodId} {args : Array Value} {below : List Frame} {meth : Method} {c : Code} {D : DD} {A : Nat → Prop} {s0 : State} {ad : AD} {Q : TS → Prop} {k0 : Int32} {T : TS} {H : Heap} {locs : List Loc} {ls : Array Slot} (F : FX p l c cX6_nextToken s args m RX6 D A s0 3 meth (none)) (hB : tB D A ad T H) (hS : va_S A s.heap H locs) (hw : wX6_nextToken_192 k0 T Q) (hl : lv_has ls 3 []) : W p l e rX6_nextToken s m args below meth c H locs 0 0 (MQ below (va_Qv Q (fun u t => tB D A ad u t.heap) A) args s 0 0 A) (F0 m 192 ls [.int k0, .ref (ad 0 0 0)]) := by
  have hx := F.1.x
  have hb := F.1.b
  unfold wX6_nextToken_192 at hw
  refine tp_19 F hB hS dX6_nextToken_192 (fun H locs hB hS => ?_)
  refine lv_goto (tgt := 339) hx hb dX6_nextToken_195 (by decide) ?_
  exact W.vret hx hb F.1.r (fun t ht hW => ⟨⟨_, rfl, hw, x_B (Bw := tB D A ad) ht hB⟩, hS.F ht⟩) hS.2.2 dX6_nextToken_339 (hlocks := F.1.k)
set_option maxHeartbeats 4000000 in
theorem bX6_nextToken_162 {p : Program} {l : Launch} {e : Env} {s : State} {m : MethodId} {args : Array Value} {below : List Frame} {meth : Method} {c : Code} {D : DD} {A : Nat → Prop} {s0 : State} {ad : AD} {Q : TS → Prop} {k0 : Int32} {T : TS} {H : Heap} {locs : List Loc} {ls : Array Slot} (F : FX p l c cX6_nextToken s args m RX6 D A s0 3 meth (none)) (hB : tB D A ad T H) (hS : va_S A s.heap H locs) (hw : wX6_nextToken_162 k0 T Q) (hl : lv_has ls 3 [(0, .ref (ad 0 0 0))]) : W p l e rX6_nextToken s m args below meth c H locs 0 0 (MQ below (va_Qv Q (fun u t => tB D A ad u t.heap) A) args s 0 0 A) (F0 m 162 ls [.int k0, .ref (ad 0 0 0)]) := by
  have hx := F.1.x
  have hb := F.1.b
  unfold wX6_nextToken_162 at hw
  refine tp_17 F hB hS dX6_nextToken_162 (fun H locs hB hS => ?_)
  refine lv_aload_n hx hb dX6_nextToken_165 rfl (lv_at hl 0 rfl) ?_
  refine lv_aload_n hx hb dX6_nextToken_166 rfl (lv_at hl 0 rfl) ?_
  refine tg_16 F hB dX6_nextToken_167 ?_
  refine lv_aload_n hx hb dX6_nextToken_170 rfl (lv_at hl 0 rfl) ?_
  refine tg_15 F hB dX6_nextToken_171 ?_
  refine lv_isub hx hb dX6_nextToken_174 ?_
  refine lv_iconst (v := 1) hx hb dX6_nextToken_175 (by decide) ?_
  refine lv_icmp_ne (tgt := 191) hx hb dX6_nextToken_176 (by decide) (fun q => ?_) (fun q => ?_)
  · replace hw := hw.2 q
    refine lv_iconst (v := 0) hx hb dX6_nextToken_191 (by decide) ?_
    exact bX6_nextToken_192 F hB hS hw (lv_sub hl [] rfl)
  · replace hw := hw.1 q
    refine lv_aload_n hx hb dX6_nextToken_179 rfl (lv_at hl 0 rfl) ?_
    refine tg_13 F hB dX6_nextToken_180 ?_
    refine lv_aload_n hx hb dX6_nextToken_183 rfl (lv_at hl 0 rfl) ?_
    refine tg_15 F hB dX6_nextToken_184 ?_
    obtain ⟨hin, hw⟩ := hw
    refine t_ald F hB (k := 13) rfl hin dX6_nextToken_187 ?_
    refine lv_goto (tgt := 192) hx hb dX6_nextToken_188 (by decide) ?_
    exact bX6_nextToken_192 F hB hS hw (lv_sub hl [] rfl)
set_option maxHeartbeats 4000000 in
theorem bX6_nextToken_128 {p : Program} {l : Launch} {e : Env} {s : State} {m : MethodId} {args : Array Value} {below : List Frame} {meth : Method} {c : Code} {D : DD} {A : Nat → Prop} {s0 : State} {ad : AD} {Q : TS → Prop} (F : FX p l c cX6_nextToken s args m RX6 D A s0 3 meth (none)) : ∀ (n : Nat) (l1 : Int32) (T : TS), wX6_nextToken_128 Q n l1 T → ∀ (H : Heap) (locs : List Loc) (ls : Array Slot), tB D A ad T H → va_S A s.heap H locs → lv_has ls 3 [(0, .ref (ad 0 0 0)), (1, .int l1)] → W p l e rX6_nextToken s m args below meth c H locs 0 0 (MQ below (va_Qv Q (fun u t => tB D A ad u t.heap) A) args s 0 0 A) (F0 m 128 ls []) := by
  have hx := F.1.x
  have hb := F.1.b
  intro n
  induction n with
  | zero => intro l1 T hw; exact hw.elim
  | succ n ih =>
    intro l1 T hw H locs ls hB hS hl
    unfold wX6_nextToken_128 at hw
    refine lv_aload_n hx hb dX6_nextToken_128 rfl (lv_at hl 0 rfl) ?_
    refine lv_aload_n hx hb dX6_nextToken_129 rfl (lv_at hl 0 rfl) ?_
    refine tg_16 F hB dX6_nextToken_130 ?_
    refine kX6_X6_isLetter F hB hS hw ⟨Nat.le_of_ble_eq_true rfl, Nat.le_of_ble_eq_true rfl⟩ ⟨Nat.zero_le _, Nat.zero_le _⟩ hl.1 (Nat.le_of_ble_eq_true rfl) dX6_nextToken_133 (fun r1 T2 H locs hw hB hS => ?_)
    refine lv_if_eq (tgt := 152) hx hb dX6_nextToken_136 (by decide) (fun q => ?_) (fun q => ?_)
    · replace hw := hw.1 q
      refine lv_aload_n hx hb dX6_nextToken_152 rfl (lv_at hl 0 rfl) ?_
      refine lv_iload_n hx hb dX6_nextToken_153 rfl (lv_at hl 1 rfl) ?_
      refine lv_if_eq (tgt := 161) hx hb dX6_nextToken_154 (by decide) (fun q => ?_) (fun q => ?_)
      · replace hw := hw.1 q
        refine lv_iconst (v := 1) hx hb dX6_nextToken_161 (by decide) ?_
        exact bX6_nextToken_162 F hB hS hw (lv_sub hl [0] rfl)
      · replace hw := hw.2 q
        refine lv_iconst (v := 4) hx hb dX6_nextToken_157 (by decide) ?_
        refine lv_goto (tgt := 162) hx hb dX6_nextToken_158 (by decide) ?_
        exact bX6_nextToken_162 F hB hS hw (lv_sub hl [0] rfl)
    · replace hw := hw.2 q
      refine lv_aload_n hx hb dX6_nextToken_139 rfl (lv_at hl 0 rfl) ?_
      refine lv_dup hx hb dX6_nextToken_140 rfl ?_
      refine tg_16 F hB dX6_nextToken_141 ?_
      refine lv_iconst (v := 1) hx hb dX6_nextToken_144 (by decide) ?_
      refine lv_iadd hx hb dX6_nextToken_145 ?_
      refine tp_16 F hB hS dX6_nextToken_146 (fun H locs hB hS => ?_)
      refine lv_goto (tgt := 128) hx hb dX6_nextToken_149 (by decide) ?_
      exact ih _ _ hw _ _ _ hB hS hl
set_option maxHeartbeats 4000000 in
theorem bX6_nextToken_89 {p : Program} {l : Launch} {e : Env} {s : State} {m : MethodId} {args : Array Value} {below : List Frame} {meth : Method} {c : Code} {D : DD} {A : Nat → Prop} {s0 : State} {ad : AD} {Q : TS → Prop} {k0 : Int32} {T : TS} {H : Heap} {locs : List Loc} {ls : Array Slot} (F : FX p l c cX6_nextToken s args m RX6 D A s0 3 meth (none)) (hB : tB D A ad T H) (hS : va_S A s.heap H locs) (hw : wX6_nextToken_89 k0 T Q) (hl : lv_has ls 3 [(0, .ref (ad 0 0 0))]) : W p l e rX6_nextToken s m args below meth c H locs 0 0 (MQ below (va_Qv Q (fun u t => tB D A ad u t.heap) A) args s 0 0 A) (F0 m 89 ls [.int k0]) := by
  have hx := F.1.x
  have hb := F.1.b
  unfold wX6_nextToken_89 at hw
  refine lv_istore_n (lv' := [(1, .int k0), (0, .ref (ad 0 0 0))]) hx hb dX6_nextToken_89 rfl hl (by decide) rfl (fun ls hl => ?_)
  refine lv_aload_n hx hb dX6_nextToken_90 rfl (lv_at hl 1 rfl) ?_
  refine lv_aload_n hx hb dX6_nextToken_91 rfl (lv_at hl 1 rfl) ?_
  refine tg_16 F hB dX6_nextToken_92 ?_
  refine tp_15 F hB hS dX6_nextToken_95 (fun H locs hB hS => ?_)
  refine lv_aload_n hx hb dX6_nextToken_98 rfl (lv_at hl 1 rfl) ?_
  refine tg_15 F hB dX6_nextToken_99 ?_
  refine lv_aload_n hx hb dX6_nextToken_102 rfl (lv_at hl 1 rfl) ?_
  refine tg_14 F hB dX6_nextToken_103 ?_
  refine lv_icmp_ne (tgt := 117) hx hb dX6_nextToken_106 (by decide) (fun q => ?_) (fun q => ?_)
  · replace hw := hw.2 q
    refine lv_aload_n hx hb dX6_nextToken_117 rfl (lv_at hl 1 rfl) ?_
    refine lv_aload_n hx hb dX6_nextToken_118 rfl (lv_at hl 1 rfl) ?_
    refine tg_15 F hB dX6_nextToken_119 ?_
    refine kX6_X6_isLetter F hB hS hw ⟨Nat.le_of_ble_eq_true rfl, Nat.le_of_ble_eq_true rfl⟩ ⟨Nat.zero_le _, Nat.zero_le _⟩ hl.1 (Nat.le_of_ble_eq_true rfl) dX6_nextToken_122 (fun r1 T2 H locs hw hB hS => ?_)
    refine lv_if_eq (tgt := 198) hx hb dX6_nextToken_125 (by decide) (fun q => ?_) (fun q => ?_)
    · replace hw := hw.1 q
      refine lv_aload_n hx hb dX6_nextToken_198 rfl (lv_at hl 1 rfl) ?_
      refine lv_aload_n hx hb dX6_nextToken_199 rfl (lv_at hl 1 rfl) ?_
      refine tg_15 F hB dX6_nextToken_200 ?_
      refine kX6_X6_isDigit F hB hS hw ⟨Nat.le_of_ble_eq_true rfl, Nat.le_of_ble_eq_true rfl⟩ ⟨Nat.zero_le _, Nat.zero_le _⟩ hl.1 (Nat.le_of_ble_eq_true rfl) dX6_nextToken_203 (fun r3 T4 H locs hw hB hS => ?_)
      refine lv_if_eq (tgt := 311) hx hb dX6_nextToken_206 (by decide) (fun q => ?_) (fun q => ?_)
      · replace hw := hw.1 q
        refine lv_aload_n hx hb dX6_nextToken_311 rfl (lv_at hl 1 rfl) ?_
        refine lv_iconst (v := 3) hx hb dX6_nextToken_312 (by decide) ?_
        refine tp_17 F hB hS dX6_nextToken_313 (fun H locs hB hS => ?_)
        refine lv_aload_n hx hb dX6_nextToken_316 rfl (lv_at hl 1 rfl) ?_
        refine lv_aload_n hx hb dX6_nextToken_317 rfl (lv_at hl 1 rfl) ?_
        refine tg_13 F hB dX6_nextToken_318 ?_
        refine lv_aload_n hx hb dX6_nextToken_321 rfl (lv_at hl 1 rfl) ?_
        refine tg_15 F hB dX6_nextToken_322 ?_
        obtain ⟨hin, hw⟩ := hw
        refine t_ald F hB (k := 13) rfl hin dX6_nextToken_325 ?_
        refine tp_19 F hB hS dX6_nextToken_326 (fun H locs hB hS => ?_)
        refine lv_aload_n hx hb dX6_nextToken_329 rfl (lv_at hl 1 rfl) ?_
        refine lv_dup hx hb dX6_nextToken_330 rfl ?_
        refine tg_16 F hB dX6_nextToken_331 ?_
        refine lv_iconst (v := 1) hx hb dX6_nextToken_334 (by decide) ?_
        refine lv_iadd hx hb dX6_nextToken_335 ?_
        refine tp_16 F hB hS dX6_nextToken_336 (fun H locs hB hS => ?_)
        exact W.vret hx hb F.1.r (fun t ht hW => ⟨⟨_, rfl, hw, x_B (Bw := tB D A ad) ht hB⟩, hS.F ht⟩) hS.2.2 dX6_nextToken_339 (hlocks := F.1.k)
      · replace hw := hw.2 q
        refine lv_aload_n hx hb dX6_nextToken_209 rfl (lv_at hl 1 rfl) ?_
        refine lv_iconst (v := 0) hx hb dX6_nextToken_210 (by decide) ?_
        refine tp_18 F hB hS dX6_nextToken_211 (fun H locs hB hS => ?_)
        obtain ⟨f_214, hw⟩ := hw
        exact bX6_nextToken_214 F f_214 _ _ hw _ _ _ hB hS (lv_sub hl [1, 0] rfl)
    · replace hw := hw.2 q
      obtain ⟨f_128, hw⟩ := hw
      exact bX6_nextToken_128 F f_128 _ _ hw _ _ _ hB hS (lv_sub hl [1, 0] rfl)
  · replace hw := hw.1 q
    refine lv_aload_n hx hb dX6_nextToken_109 rfl (lv_at hl 1 rfl) ?_
    refine lv_iconst (v := 0) hx hb dX6_nextToken_110 (by decide) ?_
    refine tp_17 F hB hS dX6_nextToken_111 (fun H locs hB hS => ?_)
    refine lv_goto (tgt := 339) hx hb dX6_nextToken_114 (by decide) ?_
    exact W.vret hx hb F.1.r (fun t ht hW => ⟨⟨_, rfl, hw, x_B (Bw := tB D A ad) ht hB⟩, hS.F ht⟩) hS.2.2 dX6_nextToken_339 (hlocks := F.1.k)
set_option maxHeartbeats 4000000 in
theorem bX6_nextToken_88 {p : Program} {l : Launch} {e : Env} {s : State} {m : MethodId} {args : Array Value} {below : List Frame} {meth : Method} {c : Code} {D : DD} {A : Nat → Prop} {s0 : State} {ad : AD} {Q : TS → Prop} {T : TS} {H : Heap} {locs : List Loc} {ls : Array Slot} (F : FX p l c cX6_nextToken s args m RX6 D A s0 3 meth (none)) (hB : tB D A ad T H) (hS : va_S A s.heap H locs) (hw : wX6_nextToken_88 T Q) (hl : lv_has ls 3 [(0, .ref (ad 0 0 0))]) : W p l e rX6_nextToken s m args below meth c H locs 0 0 (MQ below (va_Qv Q (fun u t => tB D A ad u t.heap) A) args s 0 0 A) (F0 m 88 ls []) := by
  have hx := F.1.x
  have hb := F.1.b
  unfold wX6_nextToken_88 at hw
  refine lv_iconst (v := 0) hx hb dX6_nextToken_88 (by decide) ?_
  exact bX6_nextToken_89 F hB hS hw hl
set_option maxHeartbeats 4000000 in
theorem bX6_nextToken_72 {p : Program} {l : Launch} {e : Env} {s : State} {m : MethodId} {args : Array Value} {below : List Frame} {meth : Method} {c : Code} {D : DD} {A : Nat → Prop} {s0 : State} {ad : AD} {Q : TS → Prop} {l1 : Int32} {l2 : Int32} {T : TS} {H : Heap} {locs : List Loc} {ls : Array Slot} (F : FX p l c cX6_nextToken s args m RX6 D A s0 3 meth (none)) (hB : tB D A ad T H) (hS : va_S A s.heap H locs) (hw : wX6_nextToken_72 l1 l2 T Q) (hl : lv_has ls 3 [(0, .ref (ad 0 0 0)), (1, .int l1), (2, .int l2)]) : W p l e rX6_nextToken s m args below meth c H locs 0 0 (MQ below (va_Qv Q (fun u t => tB D A ad u t.heap) A) args s 0 0 A) (F0 m 72 ls []) := by
  have hx := F.1.x
  have hb := F.1.b
  unfold wX6_nextToken_72 at hw
  refine lv_iload_n hx hb dX6_nextToken_72 rfl (lv_at hl 1 rfl) ?_
  refine lv_if_eq (tgt := 88) hx hb dX6_nextToken_73 (by decide) (fun q => ?_) (fun q => ?_)
  · replace hw := hw.1 q
    exact bX6_nextToken_88 F hB hS hw (lv_sub hl [0] rfl)
  · replace hw := hw.2 q
    refine lv_iload_n hx hb dX6_nextToken_76 rfl (lv_at hl 2 rfl) ?_
    refine lv_aload_n hx hb dX6_nextToken_77 rfl (lv_at hl 0 rfl) ?_
    refine tg_16 F hB dX6_nextToken_78 ?_
    refine lv_icmp_ne (tgt := 88) hx hb dX6_nextToken_81 (by decide) (fun q => ?_) (fun q => ?_)
    · replace hw := hw.2 q
      exact bX6_nextToken_88 F hB hS hw (lv_sub hl [0] rfl)
    · replace hw := hw.1 q
      refine lv_iconst (v := 1) hx hb dX6_nextToken_84 (by decide) ?_
      refine lv_goto (tgt := 89) hx hb dX6_nextToken_85 (by decide) ?_
      exact bX6_nextToken_89 F hB hS hw (lv_sub hl [0] rfl)
set_option maxHeartbeats 4000000 in
theorem bX6_nextToken_34 {p : Program} {l : Launch} {e : Env} {s : State} {m : MethodId} {args : Array Value} {below : List Frame} {meth : Method} {c : Code} {D : DD} {A : Nat → Prop} {s0 : State} {ad : AD} {Q : TS → Prop} (F : FX p l c cX6_nextToken s args m RX6 D A s0 3 meth (none)) : ∀ (n : Nat) (l1 : Int32) (l2 : Int32) (T : TS), wX6_nextToken_34 Q n l1 l2 T → ∀ (H : Heap) (locs : List Loc) (ls : Array Slot), tB D A ad T H → va_S A s.heap H locs → lv_has ls 3 [(0, .ref (ad 0 0 0)), (1, .int l1), (2, .int l2)] → W p l e rX6_nextToken s m args below meth c H locs 0 0 (MQ below (va_Qv Q (fun u t => tB D A ad u t.heap) A) args s 0 0 A) (F0 m 34 ls []) := by
  have hx := F.1.x
  have hb := F.1.b
  intro n
  induction n with
  | zero => intro l1 l2 T hw; exact hw.elim
  | succ n ih =>
    intro l1 l2 T hw H locs ls hB hS hl
    unfold wX6_nextToken_34 at hw
    refine lv_aload_n hx hb dX6_nextToken_34 rfl (lv_at hl 0 rfl) ?_
    refine tg_16 F hB dX6_nextToken_35 ?_
    refine lv_aload_n hx hb dX6_nextToken_38 rfl (lv_at hl 0 rfl) ?_
    refine tg_14 F hB dX6_nextToken_39 ?_
    refine lv_icmp_ge (tgt := 72) hx hb dX6_nextToken_42 (by decide) (fun q => ?_) (fun q => ?_)
    · replace hw := hw.1 q
      exact bX6_nextToken_72 F hB hS hw hl
    · replace hw := hw.2 q
      refine lv_aload_n hx hb dX6_nextToken_45 rfl (lv_at hl 0 rfl) ?_
      refine tg_13 F hB dX6_nextToken_46 ?_
      refine lv_aload_n hx hb dX6_nextToken_49 rfl (lv_at hl 0 rfl) ?_
      refine tg_16 F hB dX6_nextToken_50 ?_
      obtain ⟨hin, hw⟩ := hw
      refine t_ald F hB (k := 13) rfl hin dX6_nextToken_53 ?_
      refine lv_bipush (v := 32) hx hb dX6_nextToken_54 (by decide) ?_
      refine lv_icmp_ne (tgt := 72) hx hb dX6_nextToken_56 (by decide) (fun q => ?_) (fun q => ?_)
      · replace hw := hw.2 q
        exact bX6_nextToken_72 F hB hS hw hl
      · replace hw := hw.1 q
        refine lv_aload_n hx hb dX6_nextToken_59 rfl (lv_at hl 0 rfl) ?_
        refine lv_dup hx hb dX6_nextToken_60 rfl ?_
        refine tg_16 F hB dX6_nextToken_61 ?_
        refine lv_iconst (v := 1) hx hb dX6_nextToken_64 (by decide) ?_
        refine lv_iadd hx hb dX6_nextToken_65 ?_
        refine tp_16 F hB hS dX6_nextToken_66 (fun H locs hB hS => ?_)
        refine lv_goto (tgt := 34) hx hb dX6_nextToken_69 (by decide) ?_
        exact ih _ _ _ hw _ _ _ hB hS hl
set_option maxHeartbeats 4000000 in
theorem bX6_nextToken_28 {p : Program} {l : Launch} {e : Env} {s : State} {m : MethodId} {args : Array Value} {below : List Frame} {meth : Method} {c : Code} {D : DD} {A : Nat → Prop} {s0 : State} {ad : AD} {Q : TS → Prop} {k0 : Int32} {T : TS} {H : Heap} {locs : List Loc} {ls : Array Slot} (F : FX p l c cX6_nextToken s args m RX6 D A s0 3 meth (none)) (hB : tB D A ad T H) (hS : va_S A s.heap H locs) (hw : wX6_nextToken_28 k0 T Q) (hl : lv_has ls 3 [(0, .ref (ad 0 0 0))]) : W p l e rX6_nextToken s m args below meth c H locs 0 0 (MQ below (va_Qv Q (fun u t => tB D A ad u t.heap) A) args s 0 0 A) (F0 m 28 ls [.int k0]) := by
  have hx := F.1.x
  have hb := F.1.b
  unfold wX6_nextToken_28 at hw
  refine lv_istore_n (lv' := [(1, .int k0), (0, .ref (ad 0 0 0))]) hx hb dX6_nextToken_28 rfl hl (by decide) rfl (fun ls hl => ?_)
  refine lv_aload_n hx hb dX6_nextToken_29 rfl (lv_at hl 1 rfl) ?_
  refine tg_16 F hB dX6_nextToken_30 ?_
  refine lv_istore_n (lv' := [(2, .int (T.1 16)), (1, .int k0), (0, .ref (ad 0 0 0))]) hx hb dX6_nextToken_33 rfl hl (by decide) rfl (fun ls hl => ?_)
  obtain ⟨f_34, hw⟩ := hw
  exact bX6_nextToken_34 F f_34 _ _ _ hw _ _ _ hB hS (lv_sub hl [2, 1, 0] rfl)
set_option maxHeartbeats 4000000 in
theorem bX6_nextToken_27 {p : Program} {l : Launch} {e : Env} {s : State} {m : MethodId} {args : Array Value} {below : List Frame} {meth : Method} {c : Code} {D : DD} {A : Nat → Prop} {s0 : State} {ad : AD} {Q : TS → Prop} {T : TS} {H : Heap} {locs : List Loc} {ls : Array Slot} (F : FX p l c cX6_nextToken s args m RX6 D A s0 3 meth (none)) (hB : tB D A ad T H) (hS : va_S A s.heap H locs) (hw : wX6_nextToken_27 T Q) (hl : lv_has ls 3 [(0, .ref (ad 0 0 0))]) : W p l e rX6_nextToken s m args below meth c H locs 0 0 (MQ below (va_Qv Q (fun u t => tB D A ad u t.heap) A) args s 0 0 A) (F0 m 27 ls []) := by
  have hx := F.1.x
  have hb := F.1.b
  unfold wX6_nextToken_27 at hw
  refine lv_iconst (v := 0) hx hb dX6_nextToken_27 (by decide) ?_
  exact bX6_nextToken_28 F hB hS hw hl
set_option maxHeartbeats 4000000 in
theorem bX6_nextToken_23 {p : Program} {l : Launch} {e : Env} {s : State} {m : MethodId} {args : Array Value} {below : List Frame} {meth : Method} {c : Code} {D : DD} {A : Nat → Prop} {s0 : State} {ad : AD} {Q : TS → Prop} {T : TS} {H : Heap} {locs : List Loc} {ls : Array Slot} (F : FX p l c cX6_nextToken s args m RX6 D A s0 3 meth (none)) (hB : tB D A ad T H) (hS : va_S A s.heap H locs) (hw : wX6_nextToken_23 T Q) (hl : lv_has ls 3 [(0, .ref (ad 0 0 0))]) : W p l e rX6_nextToken s m args below meth c H locs 0 0 (MQ below (va_Qv Q (fun u t => tB D A ad u t.heap) A) args s 0 0 A) (F0 m 23 ls []) := by
  have hx := F.1.x
  have hb := F.1.b
  unfold wX6_nextToken_23 at hw
  refine lv_iconst (v := 1) hx hb dX6_nextToken_23 (by decide) ?_
  refine lv_goto (tgt := 28) hx hb dX6_nextToken_24 (by decide) ?_
  exact bX6_nextToken_28 F hB hS hw hl
set_option maxHeartbeats 4000000 in
theorem bX6_nextToken_0 {p : Program} {l : Launch} {e : Env} {s : State} {m : MethodId} {args : Array Value} {below : List Frame} {meth : Method} {c : Code} {D : DD} {A : Nat → Prop} {s0 : State} {ad : AD} {Q : TS → Prop} {T : TS} {H : Heap} {locs : List Loc} {ls : Array Slot} (F : FX p l c cX6_nextToken s args m RX6 D A s0 3 meth (none)) (hB : tB D A ad T H) (hS : va_S A s.heap H locs) (hw : wX6_nextToken T Q) (hl : lv_has ls 3 [(0, .ref (ad 0 0 0))]) : W p l e rX6_nextToken s m args below meth c H locs 0 0 (MQ below (va_Qv Q (fun u t => tB D A ad u t.heap) A) args s 0 0 A) (F0 m 0 ls []) := by
  have hx := F.1.x
  have hb := F.1.b
  unfold wX6_nextToken at hw
  refine lv_aload_n hx hb dX6_nextToken_0 rfl (lv_at hl 0 rfl) ?_
  refine tg_16 F hB dX6_nextToken_1 ?_
  refine lv_if_le (tgt := 27) hx hb dX6_nextToken_4 (by decide) (fun q => ?_) (fun q => ?_)
  · replace hw := hw.1 q
    exact bX6_nextToken_27 F hB hS hw hl
  · replace hw := hw.2 q
    refine lv_aload_n hx hb dX6_nextToken_7 rfl (lv_at hl 0 rfl) ?_
    refine tg_17 F hB dX6_nextToken_8 ?_
    refine lv_iconst (v := 1) hx hb dX6_nextToken_11 (by decide) ?_
    refine lv_icmp_eq (tgt := 23) hx hb dX6_nextToken_12 (by decide) (fun q => ?_) (fun q => ?_)
    · replace hw := hw.1 q
      exact bX6_nextToken_23 F hB hS hw hl
    · replace hw := hw.2 q
      refine lv_aload_n hx hb dX6_nextToken_15 rfl (lv_at hl 0 rfl) ?_
      refine tg_17 F hB dX6_nextToken_16 ?_
      refine lv_iconst (v := 2) hx hb dX6_nextToken_19 (by decide) ?_
      refine lv_icmp_ne (tgt := 27) hx hb dX6_nextToken_20 (by decide) (fun q => ?_) (fun q => ?_)
      · replace hw := hw.2 q
        exact bX6_nextToken_27 F hB hS hw hl
      · replace hw := hw.1 q
        exact bX6_nextToken_23 F hB hS hw hl
set_option maxHeartbeats 4000000 in
theorem mX6_nextToken {l : Launch} {D : DD} {A : Nat → Prop} {s0 : State} {ad : AD} {T : TS}  {Q : TS → Prop} (hw : wX6_nextToken T Q) : Met l yX6_nextToken (ws_ yX6_nextToken cX6_nextToken 3 (none)) rX6_nextToken (va_Pc [.ref (ad 0 0 0)] (fun U => tB D A ad T U.heap ∧ CX l D A s0 U)) (va_Qv Q (fun u t => tB D A ad u t.heap) A) 0 0 A := by
  refine Met.ofW (cc := cX6_nextToken) (maxL := 3) (ret := none) (by decide) rfl ?_
  intro p e s m args below meth c s₁ B hml hv
  obtain ⟨rfl, hB, hC⟩ := hv
  have F : FX p l c cX6_nextToken s _ m RX6 D A s0 3 meth (none) := ⟨mk_FP B hml rfl, hC⟩
  have hS : va_S A s.heap s.heap [] := va_S.rf
  have hl := lv_entry ([.ref (ad 0 0 0)]) (n := 3) (Nat.le_of_ble_eq_true rfl)
  rw [lg_entry_eq]
  generalize (lg_sl ([.ref (ad 0 0 0)]) ++ List.replicate (3 - (lg_sl ([.ref (ad 0 0 0)])).length) Slot.unset).toArray = ls at hl ⊢
  exact bX6_nextToken_0 F hB hS hw hl
theorem kX6_X6_nextToken {p : Program} {l : Launch} {e : Env} {R : Room} {s : State} {m : MethodId} {args : Array Value} {below : List Frame} {meth : Method} {c : Code} {H : Heap} {locs : List Loc} {cells slots : Nat} {Q0 : State → Prop} {cc : ByteArray} {pc nL : Nat} {ls : Array Slot} {rest : List Value} {ret : Option FieldType} {D : DD} {A : Nat → Prop} {s0 : State} {ad : AD} {T : TS} {Q : TS → Prop} (F : FX p l c cc s args m RX6 D A s0 nL meth ret) (hB : tB D A ad T H) (hS : va_S A s.heap H locs) (hw : wX6_nextToken T Q) (hR : rX6_nextToken.frames + 1 ≤ R.frames ∧ 8 + (3 + 11) + rX6_nextToken.locals ≤ R.locals) (hc : cells + 0 ≤ R.cells ∧ slots + 0 ≤ R.slots) (hsz : ls.size = nL) (hW : (rest.map fun v => v.category).sum ≤ 8) (hdg : decode cc pc = .ok (.invokevirtual 239, 3)) (kk : ∀ (u : TS) (H1 : Heap) (locs1 : List Loc), Q u → tB D A ad u H1 → va_S A s.heap H1 locs1 → W p l e R s m args below meth c H1 locs1 cells slots Q0 (F0 m (pc + 3) ls (rest))) : W p l e R s m args below meth c H locs cells slots Q0 (F0 m pc ls (.ref (ad 0 0 0) :: rest)) :=
  k_v (Bw := tB D A ad) (k_runV (Bw := tB D A ad) (n := 0) (As := []) F hB hS (t_recv F hB) (mX6_nextToken hw) q1563 q1565 qs66 q92 q1566 (by decide +kernel) hR ⟨rfl, rfl⟩ hc rfl hsz rfl hW hdg) hS kk
def rX6_isName : Room := { frames := 0, cells := 0, slots := 0, locals := 0 }
set_option maxHeartbeats 4000000 in
theorem bX6_isName_0 {p : Program} {l : Launch} {e : Env} {s : State} {m : MethodId} {args : Array Value} {below : List Frame} {meth : Method} {c : Code} {Q : Int32 → Prop} {a0 : Int32} {a1 : Int32} {ls : Array Slot} (F : FP p c cX6_isName s args m RX6 2 meth (some .boolean)) (hw : wX6_isName a0 a1 Q) (hl : lv_has ls 2 [(0, .int a0), (1, .int a1)]) : W p l e rX6_isName s m args below meth c s.heap [] 0 0 (MQ below (vp_Si Q) args s 0 0 (fun _ => False)) (F0 m 0 ls []) := by
  have hx := F.x
  have hb := F.b
  unfold wX6_isName at hw
  refine lv_iload_n hx hb dX6_isName_0 rfl (lv_at hl 0 rfl) ?_
  by_cases q0 : a0 = 0
  · replace hw := hw.1 q0
    refine lv_lookup (off := 27) (tgt := 28) hx hb dX6_isName_1 (by decide) (by rw [q0]; rfl) (by decide) ?_
    refine lv_iload_n hx hb dX6_isName_28 rfl (lv_at hl 1 rfl) ?_
    refine lv_bipush (v := 115) hx hb dX6_isName_29 (by decide) ?_
    refine lv_icmp_eq (tgt := 46) hx hb dX6_isName_31 (by decide) (fun q => ?_) (fun q => ?_)
    · replace hw := hw.1 q
      refine lv_iconst (v := 1) hx hb dX6_isName_46 (by decide) ?_
      refine lv_goto (tgt := 51) hx hb dX6_isName_47 (by decide) ?_
      exact W.zret hx hb F.r rfl (fun t ht hW => ⟨_, rfl, hw, ht⟩) (fun _ h => absurd h List.not_mem_nil) dX6_isName_51 (hlocks := F.k)
    · replace hw := hw.2 q
      refine lv_iload_n hx hb dX6_isName_34 rfl (lv_at hl 1 rfl) ?_
      refine lv_bipush (v := 112) hx hb dX6_isName_35 (by decide) ?_
      refine lv_icmp_eq (tgt := 46) hx hb dX6_isName_37 (by decide) (fun q => ?_) (fun q => ?_)
      · replace hw := hw.1 q
        refine lv_iconst (v := 1) hx hb dX6_isName_46 (by decide) ?_
        refine lv_goto (tgt := 51) hx hb dX6_isName_47 (by decide) ?_
        exact W.zret hx hb F.r rfl (fun t ht hW => ⟨_, rfl, hw, ht⟩) (fun _ h => absurd h List.not_mem_nil) dX6_isName_51 (hlocks := F.k)
      · replace hw := hw.2 q
        refine lv_iload_n hx hb dX6_isName_40 rfl (lv_at hl 1 rfl) ?_
        refine lv_bipush (v := 119) hx hb dX6_isName_41 (by decide) ?_
        refine lv_icmp_ne (tgt := 50) hx hb dX6_isName_43 (by decide) (fun q => ?_) (fun q => ?_)
        · replace hw := hw.2 q
          refine lv_iconst (v := 0) hx hb dX6_isName_50 (by decide) ?_
          exact W.zret hx hb F.r rfl (fun t ht hW => ⟨_, rfl, hw, ht⟩) (fun _ h => absurd h List.not_mem_nil) dX6_isName_51 (hlocks := F.k)
        · replace hw := hw.1 q
          refine lv_iconst (v := 1) hx hb dX6_isName_46 (by decide) ?_
          refine lv_goto (tgt := 51) hx hb dX6_isName_47 (by decide) ?_
          exact W.zret hx hb F.r rfl (fun t ht hW => ⟨_, rfl, hw, ht⟩) (fun _ h => absurd h List.not_mem_nil) dX6_isName_51 (hlocks := F.k)
  replace hw := hw.2 q0
  by_cases q1 : a0 = 1
  · replace hw := hw.1 q1
    refine lv_lookup (off := 51) (tgt := 52) hx hb dX6_isName_1 (by decide) (by rw [q1]; rfl) (by decide) ?_
    refine lv_iload_n hx hb dX6_isName_52 rfl (lv_at hl 1 rfl) ?_
    refine lv_bipush (v := 108) hx hb dX6_isName_53 (by decide) ?_
    refine lv_icmp_eq (tgt := 70) hx hb dX6_isName_55 (by decide) (fun q => ?_) (fun q => ?_)
    · replace hw := hw.1 q
      refine lv_iconst (v := 1) hx hb dX6_isName_70 (by decide) ?_
      refine lv_goto (tgt := 75) hx hb dX6_isName_71 (by decide) ?_
      exact W.zret hx hb F.r rfl (fun t ht hW => ⟨_, rfl, hw, ht⟩) (fun _ h => absurd h List.not_mem_nil) dX6_isName_75 (hlocks := F.k)
    · replace hw := hw.2 q
      refine lv_iload_n hx hb dX6_isName_58 rfl (lv_at hl 1 rfl) ?_
      refine lv_bipush (v := 119) hx hb dX6_isName_59 (by decide) ?_
      refine lv_icmp_eq (tgt := 70) hx hb dX6_isName_61 (by decide) (fun q => ?_) (fun q => ?_)
      · replace hw := hw.1 q
        refine lv_iconst (v := 1) hx hb dX6_isName_70 (by decide) ?_
        refine lv_goto (tgt := 75) hx hb dX6_isName_71 (by decide) ?_
        exact W.zret hx hb F.r rfl (fun t ht hW => ⟨_, rfl, hw, ht⟩) (fun _ h => absurd h List.not_mem_nil) dX6_isName_75 (hlocks := F.k)
      · replace hw := hw.2 q
        refine lv_iload_n hx hb dX6_isName_64 rfl (lv_at hl 1 rfl) ?_
        refine lv_bipush (v := 110) hx hb dX6_isName_65 (by decide) ?_
        refine lv_icmp_ne (tgt := 74) hx hb dX6_isName_67 (by decide) (fun q => ?_) (fun q => ?_)
        · replace hw := hw.2 q
          refine lv_iconst (v := 0) hx hb dX6_isName_74 (by decide) ?_
          exact W.zret hx hb F.r rfl (fun t ht hW => ⟨_, rfl, hw, ht⟩) (fun _ h => absurd h List.not_mem_nil) dX6_isName_75 (hlocks := F.k)
        · replace hw := hw.1 q
          refine lv_iconst (v := 1) hx hb dX6_isName_70 (by decide) ?_
          refine lv_goto (tgt := 75) hx hb dX6_isName_71 (by decide) ?_
          exact W.zret hx hb F.r rfl (fun t ht hW => ⟨_, rfl, hw, ht⟩) (fun _ h => absurd h List.not_mem_nil) dX6_isName_75 (hlocks := F.k)
  replace hw := hw.2 q1
  refine lv_lookup (off := 75) (tgt := 76) hx hb dX6_isName_1 (by decide) ((lv_osw q0 rfl).trans ((lv_osw q1 rfl).trans (rfl))) (by decide) ?_
  refine lv_iload_n hx hb dX6_isName_76 rfl (lv_at hl 1 rfl) ?_
  refine lv_bipush (v := 98) hx hb dX6_isName_77 (by decide) ?_
  refine lv_icmp_eq (tgt := 94) hx hb dX6_isName_79 (by decide) (fun q => ?_) (fun q => ?_)
  · replace hw := hw.1 q
    refine lv_iconst (v := 1) hx hb dX6_isName_94 (by decide) ?_
    refine lv_goto (tgt := 99) hx hb dX6_isName_95 (by decide) ?_
    exact W.zret hx hb F.r rfl (fun t ht hW => ⟨_, rfl, hw, ht⟩) (fun _ h => absurd h List.not_mem_nil) dX6_isName_99 (hlocks := F.k)
  · replace hw := hw.2 q
    refine lv_iload_n hx hb dX6_isName_82 rfl (lv_at hl 1 rfl) ?_
    refine lv_bipush (v := 115) hx hb dX6_isName_83 (by decide) ?_
    refine lv_icmp_eq (tgt := 94) hx hb dX6_isName_85 (by decide) (fun q => ?_) (fun q => ?_)
    · replace hw := hw.1 q
      refine lv_iconst (v := 1) hx hb dX6_isName_94 (by decide) ?_
      refine lv_goto (tgt := 99) hx hb dX6_isName_95 (by decide) ?_
      exact W.zret hx hb F.r rfl (fun t ht hW => ⟨_, rfl, hw, ht⟩) (fun _ h => absurd h List.not_mem_nil) dX6_isName_99 (hlocks := F.k)
    · replace hw := hw.2 q
      refine lv_iload_n hx hb dX6_isName_88 rfl (lv_at hl 1 rfl) ?_
      refine lv_bipush (v := 110) hx hb dX6_isName_89 (by decide) ?_
      refine lv_icmp_ne (tgt := 98) hx hb dX6_isName_91 (by decide) (fun q => ?_) (fun q => ?_)
      · replace hw := hw.2 q
        refine lv_iconst (v := 0) hx hb dX6_isName_98 (by decide) ?_
        exact W.zret hx hb F.r rfl (fun t ht hW => ⟨_, rfl, hw, ht⟩) (fun _ h => absurd h List.not_mem_nil) dX6_isName_99 (hlocks := F.k)
      · replace hw := hw.1 q
        refine lv_iconst (v := 1) hx hb dX6_isName_94 (by decide) ?_
        refine lv_goto (tgt := 99) hx hb dX6_isName_95 (by decide) ?_
        exact W.zret hx hb F.r rfl (fun t ht hW => ⟨_, rfl, hw, ht⟩) (fun _ h => absurd h List.not_mem_nil) dX6_isName_99 (hlocks := F.k)
set_option maxHeartbeats 4000000 in
theorem mX6_isName {l : Launch}  {a0 : Int32} {a1 : Int32} {Q : Int32 → Prop} (hw : wX6_isName a0 a1 Q) : Met l yX6_isName (ws_ yX6_isName cX6_isName 2 (some .boolean)) rX6_isName (va_Pc [.int a0, .int a1] (fun _ => True)) (vp_Si Q) 0 0 (fun _ => False) := by
  refine Met.ofW (cc := cX6_isName) (maxL := 2) (ret := some .boolean) (by decide) rfl ?_
  intro p e s m args below meth c s₁ B hml hv
  obtain ⟨rfl, -⟩ := hv
  have F : FP p c cX6_isName s _ m RX6 2 meth (some .boolean) := mk_FP B hml rfl
  have hl := lv_entry ([.int a0, .int a1]) (n := 2) (Nat.le_of_ble_eq_true rfl)
  rw [lg_entry_eq]
  generalize (lg_sl ([.int a0, .int a1]) ++ List.replicate (2 - (lg_sl ([.int a0, .int a1])).length) Slot.unset).toArray = ls at hl ⊢
  exact bX6_isName_0 F hw hl
theorem kX6_X6_isName {p : Program} {l : Launch} {e : Env} {R : Room} {s : State} {m : MethodId} {args : Array Value} {below : List Frame} {meth : Method} {c : Code} {H : Heap} {locs : List Loc} {cells slots : Nat} {Q0 : State → Prop} {cc : ByteArray} {pc nL : Nat} {ls : Array Slot} {rest : List Value} {ret : Option FieldType} {a0 : Int32} {a1 : Int32} {Q : Int32 → Prop} (F : FP p c cc s args m RX6 nL meth ret) (hw : wX6_isName a0 a1 Q) (hR : rX6_isName.frames + 1 ≤ R.frames ∧ 8 + (2 + 11) + rX6_isName.locals ≤ R.locals) (hc : cells ≤ R.cells ∧ slots ≤ R.slots) (hsz : ls.size = nL) (hW : (rest.map fun v => v.category).sum ≤ 8) (hdg : decode cc pc = .ok (.invokestatic 260, 3)) (kk : ∀ r : Int32, Q r → W p l e R s m args below meth c H locs cells slots Q0 (F0 m (pc + 3) ls (.int r :: rest))) : W p l e R s m args below meth c H locs cells slots Q0 (F0 m pc ls (.int a1 :: .int a0 :: rest)) :=
  k_csi (k_runP (n := 2) (As := [.int a0, .int a1]) F (mX6_isName hw) q1615 q1616 q92 q1617 (by decide +kernel) hR ⟨rfl, rfl⟩ hc rfl hsz rfl hW hdg) kk
def rX6_isSign : Room := { frames := 0, cells := 0, slots := 0, locals := 0 }
set_option maxHeartbeats 4000000 in
theorem bX6_isSign_0 {p : Program} {l : Launch} {e : Env} {s : State} {m : MethodId} {args : Array Value} {below : List Frame} {meth : Method} {c : Code} {D : DD} {A : Nat → Prop} {s0 : State} {ad : AD} {Q : Int32 → TS → Prop} {a1 : Int32} {T : TS} {H : Heap} {locs : List Loc} {ls : Array Slot} (F : FX p l c cX6_isSign s args m RX6 D A s0 2 meth (some .boolean)) (hB : tB D A ad T H) (hS : va_S A s.heap H locs) (hw : wX6_isSign a1 T Q) (hl : lv_has ls 2 [(0, .ref (ad 0 0 0)), (1, .int a1)]) : W p l e rX6_isSign s m args below meth c H locs 0 0 (MQ below (va_Qi Q (fun u t => tB D A ad u t.heap) A) args s 0 0 A) (F0 m 0 ls []) := by
  have hx := F.1.x
  have hb := F.1.b
  unfold wX6_isSign at hw
  refine lv_aload_n hx hb dX6_isSign_0 rfl (lv_at hl 0 rfl) ?_
  refine tg_17 F hB dX6_isSign_1 ?_
  refine lv_iconst (v := 3) hx hb dX6_isSign_4 (by decide) ?_
  refine lv_icmp_ne (tgt := 20) hx hb dX6_isSign_5 (by decide) (fun q => ?_) (fun q => ?_)
  · replace hw := hw.2 q
    refine lv_iconst (v := 0) hx hb dX6_isSign_20 (by decide) ?_
    exact W.zret hx hb F.1.r rfl (fun t ht hW => ⟨⟨_, _, rfl, hw, x_B (Bw := tB D A ad) ht hB⟩, hS.F ht⟩) hS.2.2 dX6_isSign_21 (hlocks := F.1.k)
  · replace hw := hw.1 q
    refine lv_aload_n hx hb dX6_isSign_8 rfl (lv_at hl 0 rfl) ?_
    refine tg_19 F hB dX6_isSign_9 ?_
    refine lv_iload_n hx hb dX6_isSign_12 rfl (lv_at hl 1 rfl) ?_
    refine lv_icmp_ne (tgt := 20) hx hb dX6_isSign_13 (by decide) (fun q => ?_) (fun q => ?_)
    · replace hw := hw.2 q
      refine lv_iconst (v := 0) hx hb dX6_isSign_20 (by decide) ?_
      exact W.zret hx hb F.1.r rfl (fun t ht hW => ⟨⟨_, _, rfl, hw, x_B (Bw := tB D A ad) ht hB⟩, hS.F ht⟩) hS.2.2 dX6_isSign_21 (hlocks := F.1.k)
    · replace hw := hw.1 q
      refine lv_iconst (v := 1) hx hb dX6_isSign_16 (by decide) ?_
      refine lv_goto (tgt := 21) hx hb dX6_isSign_17 (by decide) ?_
      exact W.zret hx hb F.1.r rfl (fun t ht hW => ⟨⟨_, _, rfl, hw, x_B (Bw := tB D A ad) ht hB⟩, hS.F ht⟩) hS.2.2 dX6_isSign_21 (hlocks := F.1.k)
set_option maxHeartbeats 4000000 in
theorem mX6_isSign {l : Launch} {D : DD} {A : Nat → Prop} {s0 : State} {ad : AD} {T : TS} {a1 : Int32} {Q : Int32 → TS → Prop} (hw : wX6_isSign a1 T Q) : Met l yX6_isSign (ws_ yX6_isSign cX6_isSign 2 (some .boolean)) rX6_isSign (va_Pc [.ref (ad 0 0 0), .int a1] (fun U => tB D A ad T U.heap ∧ CX l D A s0 U)) (va_Qi Q (fun u t => tB D A ad u t.heap) A) 0 0 A := by
  refine Met.ofW (cc := cX6_isSign) (maxL := 2) (ret := some .boolean) (by decide) rfl ?_
  intro p e s m args below meth c s₁ B hml hv
  obtain ⟨rfl, hB, hC⟩ := hv
  have F : FX p l c cX6_isSign s _ m RX6 D A s0 2 meth (some .boolean) := ⟨mk_FP B hml rfl, hC⟩
  have hS : va_S A s.heap s.heap [] := va_S.rf
  have hl := lv_entry ([.ref (ad 0 0 0), .int a1]) (n := 2) (Nat.le_of_ble_eq_true rfl)
  rw [lg_entry_eq]
  generalize (lg_sl ([.ref (ad 0 0 0), .int a1]) ++ List.replicate (2 - (lg_sl ([.ref (ad 0 0 0), .int a1])).length) Slot.unset).toArray = ls at hl ⊢
  exact bX6_isSign_0 F hB hS hw hl
theorem kX6_X6_isSign {p : Program} {l : Launch} {e : Env} {R : Room} {s : State} {m : MethodId} {args : Array Value} {below : List Frame} {meth : Method} {c : Code} {H : Heap} {locs : List Loc} {cells slots : Nat} {Q0 : State → Prop} {cc : ByteArray} {pc nL : Nat} {ls : Array Slot} {rest : List Value} {ret : Option FieldType} {D : DD} {A : Nat → Prop} {s0 : State} {ad : AD} {T : TS} {a1 : Int32} {Q : Int32 → TS → Prop} (F : FX p l c cc s args m RX6 D A s0 nL meth ret) (hB : tB D A ad T H) (hS : va_S A s.heap H locs) (hw : wX6_isSign a1 T Q) (hR : rX6_isSign.frames + 1 ≤ R.frames ∧ 8 + (2 + 11) + rX6_isSign.locals ≤ R.locals) (hc : cells + 0 ≤ R.cells ∧ slots + 0 ≤ R.slots) (hsz : ls.size = nL) (hW : (rest.map fun v => v.category).sum ≤ 8) (hdg : decode cc pc = .ok (.invokevirtual 236, 3)) (kk : ∀ (r : Int32) (u : TS) (H1 : Heap) (locs1 : List Loc), Q r u → tB D A ad u H1 → va_S A s.heap H1 locs1 → W p l e R s m args below meth c H1 locs1 cells slots Q0 (F0 m (pc + 3) ls (.int r :: rest))) : W p l e R s m args below meth c H locs cells slots Q0 (F0 m pc ls (.int a1 :: .ref (ad 0 0 0) :: rest)) :=
  k_i (Bw := tB D A ad) (k_runV (Bw := tB D A ad) (n := 1) (As := [.int a1]) F hB hS (t_recv F hB) (mX6_isSign hw) q1618 q1620 qs78 q92 q1621 (by decide +kernel) hR ⟨rfl, rfl⟩ hc rfl hsz rfl hW hdg) hS kk
def rX6_drawn : Room := { frames := 0, cells := 0, slots := 0, locals := 0 }
set_option maxHeartbeats 4000000 in
theorem bX6_drawn_0 {p : Program} {l : Launch} {e : Env} {s : State} {m : MethodId} {args : Array Value} {below : List Frame} {meth : Method} {c : Code} {D : DD} {A : Nat → Prop} {s0 : State} {ad : AD} {Q : Int32 → TS → Prop} {T : TS} {H : Heap} {locs : List Loc} {ls : Array Slot} (F : FX p l c cX6_drawn s args m RX6 D A s0 1 meth (some .int)) (hB : tB D A ad T H) (hS : va_S A s.heap H locs) (hw : wX6_drawn T Q) (hl : lv_has ls 1 [(0, .ref (ad 0 0 0))]) : W p l e rX6_drawn s m args below meth c H locs 0 0 (MQ below (va_Qi Q (fun u t => tB D A ad u t.heap) A) args s 0 0 A) (F0 m 0 ls []) := by
  have hx := F.1.x
  have hb := F.1.b
  unfold wX6_drawn at hw
  refine lv_aload_n hx hb dX6_drawn_0 rfl (lv_at hl 0 rfl) ?_
  refine tg_0 F hB dX6_drawn_1 ?_
  refine lv_iconst (v := 4) hx hb dX6_drawn_4 (by decide) ?_
  refine lv_aload_n hx hb dX6_drawn_5 rfl (lv_at hl 0 rfl) ?_
  refine tg_0 F hB dX6_drawn_6 ?_
  refine lv_iconst (v := 4) hx hb dX6_drawn_9 (by decide) ?_
  obtain ⟨hin, hw⟩ := hw
  refine t_ald F hB (k := 0) rfl hin dX6_drawn_10 ?_
  refine lv_ldc hx hb F.1.o (F.1.t _ q1409) dX6_drawn_11 ?_
  refine lv_imul hx hb dX6_drawn_13 ?_
  refine lv_sipush (v := 12345) hx hb dX6_drawn_14 (by decide) ?_
  refine lv_iadd hx hb dX6_drawn_17 ?_
  obtain ⟨hin, hw⟩ := hw
  refine t_ast F hB hS (k := 0) rfl hin dX6_drawn_18 (fun H locs hB hS => ?_)
  refine lv_aload_n hx hb dX6_drawn_19 rfl (lv_at hl 0 rfl) ?_
  refine tg_0 F hB dX6_drawn_20 ?_
  refine lv_iconst (v := 4) hx hb dX6_drawn_23 (by decide) ?_
  obtain ⟨hin, hw⟩ := hw
  refine t_ald F hB (k := 0) rfl hin dX6_drawn_24 ?_
  refine lv_bipush (v := 8) hx hb dX6_drawn_25 (by decide) ?_
  refine lv_iushr hx hb dX6_drawn_27 rfl ?_
  exact W.iret hx hb F.1.r (fun t ht hW => ⟨⟨_, _, rfl, hw, x_B (Bw := tB D A ad) ht hB⟩, hS.F ht⟩) hS.2.2 dX6_drawn_28 (hlocks := F.1.k)
set_option maxHeartbeats 4000000 in
theorem mX6_drawn {l : Launch} {D : DD} {A : Nat → Prop} {s0 : State} {ad : AD} {T : TS}  {Q : Int32 → TS → Prop} (hw : wX6_drawn T Q) : Met l yX6_drawn (ws_ yX6_drawn cX6_drawn 1 (some .int)) rX6_drawn (va_Pc [.ref (ad 0 0 0)] (fun U => tB D A ad T U.heap ∧ CX l D A s0 U)) (va_Qi Q (fun u t => tB D A ad u t.heap) A) 0 0 A := by
  refine Met.ofW (cc := cX6_drawn) (maxL := 1) (ret := some .int) (by decide) rfl ?_
  intro p e s m args below meth c s₁ B hml hv
  obtain ⟨rfl, hB, hC⟩ := hv
  have F : FX p l c cX6_drawn s _ m RX6 D A s0 1 meth (some .int) := ⟨mk_FP B hml rfl, hC⟩
  have hS : va_S A s.heap s.heap [] := va_S.rf
  have hl := lv_entry ([.ref (ad 0 0 0)]) (n := 1) (Nat.le_of_ble_eq_true rfl)
  rw [lg_entry_eq]
  generalize (lg_sl ([.ref (ad 0 0 0)]) ++ List.replicate (1 - (lg_sl ([.ref (ad 0 0 0)])).length) Slot.unset).toArray = ls at hl ⊢
  exact bX6_drawn_0 F hB hS hw hl
theorem kX6_X6_drawn {p : Program} {l : Launch} {e : Env} {R : Room} {s : State} {m : MethodId} {args : Array Value} {below : List Frame} {meth : Method} {c : Code} {H : Heap} {locs : List Loc} {cells slots : Nat} {Q0 : State → Prop} {cc : ByteArray} {pc nL : Nat} {ls : Array Slot} {rest : List Value} {ret : Option FieldType} {D : DD} {A : Nat → Prop} {s0 : State} {ad : AD} {T : TS} {Q : Int32 → TS → Prop} (F : FX p l c cc s args m RX6 D A s0 nL meth ret) (hB : tB D A ad T H) (hS : va_S A s.heap H locs) (hw : wX6_drawn T Q) (hR : rX6_drawn.frames + 1 ≤ R.frames ∧ 8 + (1 + 11) + rX6_drawn.locals ≤ R.locals) (hc : cells + 0 ≤ R.cells ∧ slots + 0 ≤ R.slots) (hsz : ls.size = nL) (hW : (rest.map fun v => v.category).sum ≤ 8) (hdg : decode cc pc = .ok (.invokevirtual 125, 3)) (kk : ∀ (r : Int32) (u : TS) (H1 : Heap) (locs1 : List Loc), Q r u → tB D A ad u H1 → va_S A s.heap H1 locs1 → W p l e R s m args below meth c H1 locs1 cells slots Q0 (F0 m (pc + 3) ls (.int r :: rest))) : W p l e R s m args below meth c H locs cells slots Q0 (F0 m pc ls (.ref (ad 0 0 0) :: rest)) :=
  k_i (Bw := tB D A ad) (k_runV (Bw := tB D A ad) (n := 0) (As := []) F hB hS (t_recv F hB) (mX6_drawn hw) q1405 q1407 qs50 q92 q1408 (by decide +kernel) hR ⟨rfl, rfl⟩ hc rfl hsz rfl hW hdg) hS kk
def rX6_followers : Room := { frames := 1, cells := 0, slots := 0, locals := 22 }
set_option maxHeartbeats 4000000 in
theorem bX6_followers_52 {p : Program} {l : Launch} {e : Env} {s : State} {m : MethodId} {args : Array Value} {below : List Frame} {meth : Method} {c : Code} {D : DD} {A : Nat → Prop} {s0 : State} {ad : AD} {Q : Int32 → TS → Prop} {k_9 : Int32 → Int32 → TS → Prop} {k_19 : Int32 → Int32 → Int32 → TS → Prop} {l3 : Int32} {l4 : Int32} {k0 : Int32} {k1 : Int32} {T : TS} {H : Heap} {locs : List Loc} {ls : Array Slot} (F : FX p l c cX6_followers s args m RX6 D A s0 5 meth (some .int)) (h_9 : ∀ (l2 : Int32) (l3 : Int32) (T : TS), k_9 l2 l3 T → ∀ (H : Heap) (locs : List Loc) (ls : Array Slot), tB D A ad T H → va_S A s.heap H locs → lv_has ls 5 [(0, .ref (ad 0 0 0)), (2, .int l2), (3, .int l3)] → W p l e rX6_followers s m args below meth c H locs 0 0 (MQ below (va_Qi Q (fun u t => tB D A ad u t.heap) A) args s 0 0 A) (F0 m 9 ls [])) (h_19 : ∀ (l2 : Int32) (l3 : Int32) (l4 : Int32) (T : TS), k_19 l2 l3 l4 T → ∀ (H : Heap) (locs : List Loc) (ls : Array Slot), tB D A ad T H → va_S A s.heap H locs → lv_has ls 5 [(0, .ref (ad 0 0 0)), (2, .int l2), (3, .int l3), (4, .int l4)] → W p l e rX6_followers s m args below meth c H locs 0 0 (MQ below (va_Qi Q (fun u t => tB D A ad u t.heap) A) args s 0 0 A) (F0 m 19 ls [])) (hB : tB D A ad T H) (hS : va_S A s.heap H locs) (hw : wX6_followers_52 k_9 k_19 l3 l4 k0 k1 T Q) (hl : lv_has ls 5 [(0, .ref (ad 0 0 0)), (3, .int l3), (4, .int l4)]) : W p l e rX6_followers s m args below meth c H locs 0 0 (MQ below (va_Qi Q (fun u t => tB D A ad u t.heap) A) args s 0 0 A) (F0 m 52 ls [.int k0, .int k1]) := by
  have hx := F.1.x
  have hb := F.1.b
  unfold wX6_followers_52 at hw
  refine lv_ior hx hb dX6_followers_52 ?_
  refine lv_istore_n (lv' := [(2, .int (k1 ||| k0)), (0, .ref (ad 0 0 0)), (3, .int l3), (4, .int l4)]) hx hb dX6_followers_53 rfl hl (by decide) rfl (fun ls hl => ?_)
  refine lv_iinc (v := l4 + (1 : Int32)) (lv' := [(4, .int (l4 + (1 : Int32))), (2, .int (k1 ||| k0)), (0, .ref (ad 0 0 0)), (3, .int l3)]) hx hb dX6_followers_54 hl (k := 3) rfl (x_inc (by decide)) (by decide) rfl (fun ls hl => ?_)
  refine lv_goto (tgt := 19) hx hb dX6_followers_57 (by decide) ?_
  exact h_19 _ _ _ _ hw _ _ _ hB hS (lv_sub hl [2, 1, 3, 0] rfl)
set_option maxHeartbeats 4000000 in
theorem bX6_followers_19 {p : Program} {l : Launch} {e : Env} {s : State} {m : MethodId} {args : Array Value} {below : List Frame} {meth : Method} {c : Code} {D : DD} {A : Nat → Prop} {s0 : State} {ad : AD} {Q : Int32 → TS → Prop} {k_9 : Int32 → Int32 → TS → Prop} (F : FX p l c cX6_followers s args m RX6 D A s0 5 meth (some .int)) (h_9 : ∀ (l2 : Int32) (l3 : Int32) (T : TS), k_9 l2 l3 T → ∀ (H : Heap) (locs : List Loc) (ls : Array Slot), tB D A ad T H → va_S A s.heap H locs → lv_has ls 5 [(0, .ref (ad 0 0 0)), (2, .int l2), (3, .int l3)] → W p l e rX6_followers s m args below meth c H locs 0 0 (MQ below (va_Qi Q (fun u t => tB D A ad u t.heap) A) args s 0 0 A) (F0 m 9 ls [])) : ∀ (n : Nat) (l2 : Int32) (l3 : Int32) (l4 : Int32) (T : TS), wX6_followers_19 k_9 Q n l2 l3 l4 T → ∀ (H : Heap) (locs : List Loc) (ls : Array Slot), tB D A ad T H → va_S A s.heap H locs → lv_has ls 5 [(0, .ref (ad 0 0 0)), (2, .int l2), (3, .int l3), (4, .int l4)] → W p l e rX6_followers s m args below meth c H locs 0 0 (MQ below (va_Qi Q (fun u t => tB D A ad u t.heap) A) args s 0 0 A) (F0 m 19 ls []) := by
  have hx := F.1.x
  have hb := F.1.b
  intro n
  induction n with
  | zero => intro l2 l3 l4 T hw; exact hw.elim
  | succ n ih =>
    intro l2 l3 l4 T hw H locs ls hB hS hl
    unfold wX6_followers_19 at hw
    refine lv_iload hx hb dX6_followers_19 (lv_at hl 3 rfl) ?_
    refine lv_aload_n hx hb dX6_followers_21 rfl (lv_at hl 0 rfl) ?_
    refine tg_0 F hB dX6_followers_22 ?_
    refine lv_iconst (v := 0) hx hb dX6_followers_25 (by decide) ?_
    obtain ⟨hin, hw⟩ := hw
    refine t_ald F hB (k := 0) rfl hin dX6_followers_26 ?_
    refine lv_icmp_ge (tgt := 60) hx hb dX6_followers_27 (by decide) (fun q => ?_) (fun q => ?_)
    · replace hw := hw.1 q
      refine lv_goto (tgt := 9) hx hb dX6_followers_60 (by decide) ?_
      exact h_9 _ _ _ hw _ _ _ hB hS (lv_sub hl [0, 1, 2] rfl)
    · replace hw := hw.2 q
      refine lv_iload_n hx hb dX6_followers_30 rfl (lv_at hl 1 rfl) ?_
      refine lv_iload_n hx hb dX6_followers_31 rfl (lv_at hl 2 rfl) ?_
      refine lv_iload hx hb dX6_followers_32 (lv_at hl 3 rfl) ?_
      refine lv_ishr hx hb dX6_followers_34 ?_
      refine lv_iconst (v := 1) hx hb dX6_followers_35 (by decide) ?_
      refine lv_iand hx hb dX6_followers_36 ?_
      refine lv_iconst (v := 1) hx hb dX6_followers_37 (by decide) ?_
      refine lv_icmp_ne (tgt := 51) hx hb dX6_followers_38 (by decide) (fun q => ?_) (fun q => ?_)
      · replace hw := hw.2 q
        refine lv_iconst (v := 0) hx hb dX6_followers_51 (by decide) ?_
        exact bX6_followers_52 F h_9 ih hB hS hw (lv_sub hl [0, 2, 3] rfl)
      · replace hw := hw.1 q
        refine lv_aload_n hx hb dX6_followers_41 rfl (lv_at hl 0 rfl) ?_
        refine lv_iload hx hb dX6_followers_42 (lv_at hl 3 rfl) ?_
        refine lv_iconst (v := 4) hx hb dX6_followers_44 (by decide) ?_
        refine kX6_X6_of F hB hS hw ⟨Nat.le_of_ble_eq_true rfl, Nat.le_of_ble_eq_true rfl⟩ ⟨Nat.zero_le _, Nat.zero_le _⟩ hl.1 (Nat.le_of_ble_eq_true rfl) dX6_followers_45 (fun r1 T2 H locs hw hB hS => ?_)
        refine lv_goto (tgt := 52) hx hb dX6_followers_48 (by decide) ?_
        exact bX6_followers_52 F h_9 ih hB hS hw (lv_sub hl [0, 2, 3] rfl)
set_option maxHeartbeats 4000000 in
theorem bX6_followers_9 {p : Program} {l : Launch} {e : Env} {s : State} {m : MethodId} {args : Array Value} {below : List Frame} {meth : Method} {c : Code} {D : DD} {A : Nat → Prop} {s0 : State} {ad : AD} {Q : Int32 → TS → Prop} (F : FX p l c cX6_followers s args m RX6 D A s0 5 meth (some .int)) : ∀ (n : Nat) (l2 : Int32) (l3 : Int32) (T : TS), wX6_followers_9 Q n l2 l3 T → ∀ (H : Heap) (locs : List Loc) (ls : Array Slot), tB D A ad T H → va_S A s.heap H locs → lv_has ls 5 [(0, .ref (ad 0 0 0)), (2, .int l2), (3, .int l3)] → W p l e rX6_followers s m args below meth c H locs 0 0 (MQ below (va_Qi Q (fun u t => tB D A ad u t.heap) A) args s 0 0 A) (F0 m 9 ls []) := by
  have hx := F.1.x
  have hb := F.1.b
  intro n
  induction n with
  | zero => intro l2 l3 T hw; exact hw.elim
  | succ n ih =>
    intro l2 l3 T hw H locs ls hB hS hl
    unfold wX6_followers_9 at hw
    refine lv_iload_n hx hb dX6_followers_9 rfl (lv_at hl 1 rfl) ?_
    refine lv_iload_n hx hb dX6_followers_10 rfl (lv_at hl 2 rfl) ?_
    refine lv_icmp_eq (tgt := 63) hx hb dX6_followers_11 (by decide) (fun q => ?_) (fun q => ?_)
    · replace hw := hw.1 q
      refine lv_iload_n hx hb dX6_followers_63 rfl (lv_at hl 1 rfl) ?_
      exact W.iret hx hb F.1.r (fun t ht hW => ⟨⟨_, _, rfl, hw, x_B (Bw := tB D A ad) ht hB⟩, hS.F ht⟩) hS.2.2 dX6_followers_64 (hlocks := F.1.k)
    · replace hw := hw.2 q
      refine lv_iload_n hx hb dX6_followers_14 rfl (lv_at hl 1 rfl) ?_
      refine lv_istore_n (lv' := [(3, .int l2), (0, .ref (ad 0 0 0)), (2, .int l2)]) hx hb dX6_followers_15 rfl hl (by decide) rfl (fun ls hl => ?_)
      refine lv_iconst (v := 0) hx hb dX6_followers_16 (by decide) ?_
      refine lv_istore (lv' := [(4, .int (0 : Int32)), (3, .int l2), (0, .ref (ad 0 0 0)), (2, .int l2)]) hx hb dX6_followers_17 hl (by decide) rfl (fun ls hl => ?_)
      obtain ⟨f_19, hw⟩ := hw
      exact bX6_followers_19 F ih f_19 _ _ _ _ hw _ _ _ hB hS (lv_sub hl [2, 3, 1, 0] rfl)
set_option maxHeartbeats 4000000 in
theorem bX6_followers_0 {p : Program} {l : Launch} {e : Env} {s : State} {m : MethodId} {args : Array Value} {below : List Frame} {meth : Method} {c : Code} {D : DD} {A : Nat → Prop} {s0 : State} {ad : AD} {Q : Int32 → TS → Prop} {a1 : Int32} {T : TS} {H : Heap} {locs : List Loc} {ls : Array Slot} (F : FX p l c cX6_followers s args m RX6 D A s0 5 meth (some .int)) (hB : tB D A ad T H) (hS : va_S A s.heap H locs) (hw : wX6_followers a1 T Q) (hl : lv_has ls 5 [(0, .ref (ad 0 0 0)), (1, .int a1)]) : W p l e rX6_followers s m args below meth c H locs 0 0 (MQ below (va_Qi Q (fun u t => tB D A ad u t.heap) A) args s 0 0 A) (F0 m 0 ls []) := by
  have hx := F.1.x
  have hb := F.1.b
  unfold wX6_followers at hw
  refine lv_aload_n hx hb dX6_followers_0 rfl (lv_at hl 0 rfl) ?_
  refine lv_iload_n hx hb dX6_followers_1 rfl (lv_at hl 1 rfl) ?_
  refine lv_iconst (v := 4) hx hb dX6_followers_2 (by decide) ?_
  refine kX6_X6_of F hB hS hw ⟨Nat.le_of_ble_eq_true rfl, Nat.le_of_ble_eq_true rfl⟩ ⟨Nat.zero_le _, Nat.zero_le _⟩ hl.1 (Nat.le_of_ble_eq_true rfl) dX6_followers_3 (fun r1 T2 H locs hw hB hS => ?_)
  refine lv_istore_n (lv' := [(2, .int r1), (0, .ref (ad 0 0 0)), (1, .int a1)]) hx hb dX6_followers_6 rfl hl (by decide) rfl (fun ls hl => ?_)
  refine lv_iconst (v := -1) hx hb dX6_followers_7 (by decide) ?_
  refine lv_istore_n (lv' := [(3, .int (-1 : Int32)), (2, .int r1), (0, .ref (ad 0 0 0)), (1, .int a1)]) hx hb dX6_followers_8 rfl hl (by decide) rfl (fun ls hl => ?_)
  obtain ⟨f_9, hw⟩ := hw
  exact bX6_followers_9 F f_9 _ _ _ hw _ _ _ hB hS (lv_sub hl [2, 1, 0] rfl)
set_option maxHeartbeats 4000000 in
theorem mX6_followers {l : Launch} {D : DD} {A : Nat → Prop} {s0 : State} {ad : AD} {T : TS} {a1 : Int32} {Q : Int32 → TS → Prop} (hw : wX6_followers a1 T Q) : Met l yX6_followers (ws_ yX6_followers cX6_followers 5 (some .int)) rX6_followers (va_Pc [.ref (ad 0 0 0), .int a1] (fun U => tB D A ad T U.heap ∧ CX l D A s0 U)) (va_Qi Q (fun u t => tB D A ad u t.heap) A) 0 0 A := by
  refine Met.ofW (cc := cX6_followers) (maxL := 5) (ret := some .int) (by decide) rfl ?_
  intro p e s m args below meth c s₁ B hml hv
  obtain ⟨rfl, hB, hC⟩ := hv
  have F : FX p l c cX6_followers s _ m RX6 D A s0 5 meth (some .int) := ⟨mk_FP B hml rfl, hC⟩
  have hS : va_S A s.heap s.heap [] := va_S.rf
  have hl := lv_entry ([.ref (ad 0 0 0), .int a1]) (n := 5) (Nat.le_of_ble_eq_true rfl)
  rw [lg_entry_eq]
  generalize (lg_sl ([.ref (ad 0 0 0), .int a1]) ++ List.replicate (5 - (lg_sl ([.ref (ad 0 0 0), .int a1])).length) Slot.unset).toArray = ls at hl ⊢
  exact bX6_followers_0 F hB hS hw hl
theorem kX6_X6_followers {p : Program} {l : Launch} {e : Env} {R : Room} {s : State} {m : MethodId} {args : Array Value} {below : List Frame} {meth : Method} {c : Code} {H : Heap} {locs : List Loc} {cells slots : Nat} {Q0 : State → Prop} {cc : ByteArray} {pc nL : Nat} {ls : Array Slot} {rest : List Value} {ret : Option FieldType} {D : DD} {A : Nat → Prop} {s0 : State} {ad : AD} {T : TS} {a1 : Int32} {Q : Int32 → TS → Prop} (F : FX p l c cc s args m RX6 D A s0 nL meth ret) (hB : tB D A ad T H) (hS : va_S A s.heap H locs) (hw : wX6_followers a1 T Q) (hR : rX6_followers.frames + 1 ≤ R.frames ∧ 8 + (5 + 11) + rX6_followers.locals ≤ R.locals) (hc : cells + 0 ≤ R.cells ∧ slots + 0 ≤ R.slots) (hsz : ls.size = nL) (hW : (rest.map fun v => v.category).sum ≤ 8) (hdg : decode cc pc = .ok (.invokevirtual 91, 3)) (kk : ∀ (r : Int32) (u : TS) (H1 : Heap) (locs1 : List Loc), Q r u → tB D A ad u H1 → va_S A s.heap H1 locs1 → W p l e R s m args below meth c H1 locs1 cells slots Q0 (F0 m (pc + 3) ls (.int r :: rest))) : W p l e R s m args below meth c H locs cells slots Q0 (F0 m pc ls (.int a1 :: .ref (ad 0 0 0) :: rest)) :=
  k_i (Bw := tB D A ad) (k_runV (Bw := tB D A ad) (n := 1) (As := [.int a1]) F hB hS (t_recv F hB) (mX6_followers hw) q1344 q1346 qs44 q92 q1347 (by decide +kernel) hR ⟨rfl, rfl⟩ hc rfl hsz rfl hW hdg) hS kk
def rX6_goBy : Room := { frames := 2, cells := 0, slots := 0, locals := 46 }
set_option maxHeartbeats 4000000 in
theorem bX6_goBy_0 {p : Program} {l : Launch} {e : Env} {s : State} {m : MethodId} {args : Array Value} {below : List Frame} {meth : Method} {c : Code} {D : DD} {A : Nat → Prop} {s0 : State} {ad : AD} {Q : Int32 → TS → Prop} {a1 : Int32} {T : TS} {H : Heap} {locs : List Loc} {ls : Array Slot} (F : FX p l c cX6_goBy s args m RX6 D A s0 2 meth (some .int)) (hB : tB D A ad T H) (hS : va_S A s.heap H locs) (hw : wX6_goBy a1 T Q) (hl : lv_has ls 2 [(0, .ref (ad 0 0 0)), (1, .int a1)]) : W p l e rX6_goBy s m args below meth c H locs 0 0 (MQ below (va_Qi Q (fun u t => tB D A ad u t.heap) A) args s 0 0 A) (F0 m 0 ls []) := by
  have hx := F.1.x
  have hb := F.1.b
  unfold wX6_goBy at hw
  refine lv_aload_n hx hb dX6_goBy_0 rfl (lv_at hl 0 rfl) ?_
  refine lv_iload_n hx hb dX6_goBy_1 rfl (lv_at hl 1 rfl) ?_
  refine kX6_X6_followers F hB hS hw ⟨Nat.le_of_ble_eq_true rfl, Nat.le_of_ble_eq_true rfl⟩ ⟨Nat.zero_le _, Nat.zero_le _⟩ hl.1 (Nat.le_of_ble_eq_true rfl) dX6_goBy_2 (fun r1 T2 H locs hw hB hS => ?_)
  refine lv_iconst (v := 1) hx hb dX6_goBy_5 (by decide) ?_
  refine lv_iload_n hx hb dX6_goBy_6 rfl (lv_at hl 1 rfl) ?_
  refine lv_ishl hx hb dX6_goBy_7 ?_
  refine lv_ior hx hb dX6_goBy_8 ?_
  exact W.iret hx hb F.1.r (fun t ht hW => ⟨⟨_, _, rfl, hw, x_B (Bw := tB D A ad) ht hB⟩, hS.F ht⟩) hS.2.2 dX6_goBy_9 (hlocks := F.1.k)
set_option maxHeartbeats 4000000 in
theorem mX6_goBy {l : Launch} {D : DD} {A : Nat → Prop} {s0 : State} {ad : AD} {T : TS} {a1 : Int32} {Q : Int32 → TS → Prop} (hw : wX6_goBy a1 T Q) : Met l yX6_goBy (ws_ yX6_goBy cX6_goBy 2 (some .int)) rX6_goBy (va_Pc [.ref (ad 0 0 0), .int a1] (fun U => tB D A ad T U.heap ∧ CX l D A s0 U)) (va_Qi Q (fun u t => tB D A ad u t.heap) A) 0 0 A := by
  refine Met.ofW (cc := cX6_goBy) (maxL := 2) (ret := some .int) (by decide) rfl ?_
  intro p e s m args below meth c s₁ B hml hv
  obtain ⟨rfl, hB, hC⟩ := hv
  have F : FX p l c cX6_goBy s _ m RX6 D A s0 2 meth (some .int) := ⟨mk_FP B hml rfl, hC⟩
  have hS : va_S A s.heap s.heap [] := va_S.rf
  have hl := lv_entry ([.ref (ad 0 0 0), .int a1]) (n := 2) (Nat.le_of_ble_eq_true rfl)
  rw [lg_entry_eq]
  generalize (lg_sl ([.ref (ad 0 0 0), .int a1]) ++ List.replicate (2 - (lg_sl ([.ref (ad 0 0 0), .int a1])).length) Slot.unset).toArray = ls at hl ⊢
  exact bX6_goBy_0 F hB hS hw hl
theorem kX6_X6_goBy {p : Program} {l : Launch} {e : Env} {R : Room} {s : State} {m : MethodId} {args : Array Value} {below : List Frame} {meth : Method} {c : Code} {H : Heap} {locs : List Loc} {cells slots : Nat} {Q0 : State → Prop} {cc : ByteArray} {pc nL : Nat} {ls : Array Slot} {rest : List Value} {ret : Option FieldType} {D : DD} {A : Nat → Prop} {s0 : State} {ad : AD} {T : TS} {a1 : Int32} {Q : Int32 → TS → Prop} (F : FX p l c cc s args m RX6 D A s0 nL meth ret) (hB : tB D A ad T H) (hS : va_S A s.heap H locs) (hw : wX6_goBy a1 T Q) (hR : rX6_goBy.frames + 1 ≤ R.frames ∧ 8 + (2 + 11) + rX6_goBy.locals ≤ R.locals) (hc : cells + 0 ≤ R.cells ∧ slots + 0 ≤ R.slots) (hsz : ls.size = nL) (hW : (rest.map fun v => v.category).sum ≤ 8) (hdg : decode cc pc = .ok (.invokevirtual 154, 3)) (kk : ∀ (r : Int32) (u : TS) (H1 : Heap) (locs1 : List Loc), Q r u → tB D A ad u H1 → va_S A s.heap H1 locs1 → W p l e R s m args below meth c H1 locs1 cells slots Q0 (F0 m (pc + 3) ls (.int r :: rest))) : W p l e R s m args below meth c H locs cells slots Q0 (F0 m pc ls (.int a1 :: .ref (ad 0 0 0) :: rest)) :=
  k_i (Bw := tB D A ad) (k_runV (Bw := tB D A ad) (n := 1) (As := [.int a1]) F hB hS (t_recv F hB) (mX6_goBy hw) q1478 q1480 qs59 q92 q1481 (by decide +kernel) hR ⟨rfl, rfl⟩ hc rfl hsz rfl hW hdg) hS kk
def rX6_mayBe : Room := { frames := 3, cells := 0, slots := 0, locals := 67 }
set_option maxHeartbeats 4000000 in
theorem bX6_mayBe_0 {p : Program} {l : Launch} {e : Env} {s : State} {m : MethodId} {args : Array Value} {below : List Frame} {meth : Method} {c : Code} {D : DD} {A : Nat → Prop} {s0 : State} {ad : AD} {Q : Int32 → TS → Prop} {a1 : Int32} {a2 : Int32} {a3 : Int32} {T : TS} {H : Heap} {locs : List Loc} {ls : Array Slot} (F : FX p l c cX6_mayBe s args m RX6 D A s0 5 meth (some .boolean)) (hB : tB D A ad T H) (hS : va_S A s.heap H locs) (hw : wX6_mayBe a1 a2 a3 T Q) (hl : lv_has ls 5 [(0, .ref (ad 0 0 0)), (1, .int a1), (2, .int a2), (3, .int a3)]) : W p l e rX6_mayBe s m args below meth c H locs 0 0 (MQ below (va_Qi Q (fun u t => tB D A ad u t.heap) A) args s 0 0 A) (F0 m 0 ls []) := by
  have hx := F.1.x
  have hb := F.1.b
  unfold wX6_mayBe at hw
  refine lv_aload_n hx hb dX6_mayBe_0 rfl (lv_at hl 0 rfl) ?_
  refine lv_iload_n hx hb dX6_mayBe_1 rfl (lv_at hl 2 rfl) ?_
  refine kX6_X6_left F hB hS hw ⟨Nat.le_of_ble_eq_true rfl, Nat.le_of_ble_eq_true rfl⟩ ⟨Nat.zero_le _, Nat.zero_le _⟩ hl.1 (Nat.le_of_ble_eq_true rfl) dX6_mayBe_2 (fun r1 T2 H locs hw hB hS => ?_)
  refine lv_iload_n hx hb dX6_mayBe_5 rfl (lv_at hl 3 rfl) ?_
  refine lv_ishr hx hb dX6_mayBe_6 ?_
  refine lv_iconst (v := 1) hx hb dX6_mayBe_7 (by decide) ?_
  refine lv_iand hx hb dX6_mayBe_8 ?_
  refine lv_if_eq (tgt := 37) hx hb dX6_mayBe_9 (by decide) (fun q => ?_) (fun q => ?_)
  · replace hw := hw.1 q
    refine lv_iconst (v := 0) hx hb dX6_mayBe_37 (by decide) ?_
    exact W.zret hx hb F.1.r rfl (fun t ht hW => ⟨⟨_, _, rfl, hw, x_B (Bw := tB D A ad) ht hB⟩, hS.F ht⟩) hS.2.2 dX6_mayBe_38 (hlocks := F.1.k)
  · replace hw := hw.2 q
    refine lv_aload_n hx hb dX6_mayBe_12 rfl (lv_at hl 0 rfl) ?_
    refine lv_iload_n hx hb dX6_mayBe_13 rfl (lv_at hl 2 rfl) ?_
    refine kX6_X6_left F hB hS hw ⟨Nat.le_of_ble_eq_true rfl, Nat.le_of_ble_eq_true rfl⟩ ⟨Nat.zero_le _, Nat.zero_le _⟩ hl.1 (Nat.le_of_ble_eq_true rfl) dX6_mayBe_14 (fun r3 T4 H locs hw hB hS => ?_)
    refine lv_aload_n hx hb dX6_mayBe_17 rfl (lv_at hl 0 rfl) ?_
    refine lv_iload_n hx hb dX6_mayBe_18 rfl (lv_at hl 3 rfl) ?_
    refine kX6_X6_goBy F hB hS hw ⟨Nat.le_of_ble_eq_true rfl, Nat.le_of_ble_eq_true rfl⟩ ⟨Nat.zero_le _, Nat.zero_le _⟩ hl.1 (Nat.le_of_ble_eq_true rfl) dX6_mayBe_19 (fun r5 T6 H locs hw hB hS => ?_)
    refine lv_iconst (v := -1) hx hb dX6_mayBe_22 (by decide) ?_
    refine lv_ixor hx hb dX6_mayBe_23 ?_
    refine lv_iand hx hb dX6_mayBe_24 ?_
    refine kX6_X6_ones F.1 hw ⟨Nat.le_of_ble_eq_true rfl, Nat.le_of_ble_eq_true rfl⟩ ⟨Nat.zero_le _, Nat.zero_le _⟩ hl.1 (Nat.le_of_ble_eq_true rfl) dX6_mayBe_25 (fun r7 hw => ?_)
    refine lv_aload_n hx hb dX6_mayBe_28 rfl (lv_at hl 0 rfl) ?_
    refine tg_0 F hB dX6_mayBe_29 ?_
    refine lv_iconst (v := 3) hx hb dX6_mayBe_32 (by decide) ?_
    obtain ⟨hin, hw⟩ := hw
    refine t_ald F hB (k := 0) rfl hin dX6_mayBe_33 ?_
    refine lv_icmp_ge (tgt := 39) hx hb dX6_mayBe_34 (by decide) (fun q => ?_) (fun q => ?_)
    · replace hw := hw.1 q
      refine lv_aload_n hx hb dX6_mayBe_39 rfl (lv_at hl 0 rfl) ?_
      refine lv_iconst (v := 0) hx hb dX6_mayBe_40 (by decide) ?_
      refine kX6_X6_counts F hB hS hw ⟨Nat.le_of_ble_eq_true rfl, Nat.le_of_ble_eq_true rfl⟩ ⟨Nat.zero_le _, Nat.zero_le _⟩ hl.1 (Nat.le_of_ble_eq_true rfl) dX6_mayBe_41 (fun r8 T9 H locs hw hB hS => ?_)
      refine lv_istore (lv' := [(4, .int r8), (0, .ref (ad 0 0 0)), (1, .int a1), (2, .int a2), (3, .int a3)]) hx hb dX6_mayBe_44 hl (by decide) rfl (fun ls hl => ?_)
      refine lv_iload hx hb dX6_mayBe_46 (lv_at hl 0 rfl) ?_
      refine lv_if_ge (tgt := 53) hx hb dX6_mayBe_48 (by decide) (fun q => ?_) (fun q => ?_)
      · replace hw := hw.1 q
        refine lv_aload_n hx hb dX6_mayBe_53 rfl (lv_at hl 1 rfl) ?_
        refine tg_25 F hB dX6_mayBe_54 ?_
        refine lv_bipush (v := 115) hx hb dX6_mayBe_57 (by decide) ?_
        refine lv_iload_n hx hb dX6_mayBe_59 rfl (lv_at hl 2 rfl) ?_
        obtain ⟨hin, hw⟩ := hw
        refine t_ast F hB hS (k := 25) rfl hin dX6_mayBe_60 (fun H locs hB hS => ?_)
        refine lv_aload_n hx hb dX6_mayBe_61 rfl (lv_at hl 1 rfl) ?_
        refine tg_25 F hB dX6_mayBe_62 ?_
        refine lv_bipush (v := 112) hx hb dX6_mayBe_65 (by decide) ?_
        refine lv_iload_n hx hb dX6_mayBe_67 rfl (lv_at hl 4 rfl) ?_
        obtain ⟨hin, hw⟩ := hw
        refine t_ast F hB hS (k := 25) rfl hin dX6_mayBe_68 (fun H locs hB hS => ?_)
        refine lv_aload_n hx hb dX6_mayBe_69 rfl (lv_at hl 1 rfl) ?_
        refine tg_25 F hB dX6_mayBe_70 ?_
        refine lv_bipush (v := 119) hx hb dX6_mayBe_73 (by decide) ?_
        refine lv_aload_n hx hb dX6_mayBe_75 rfl (lv_at hl 1 rfl) ?_
        refine lv_iload_n hx hb dX6_mayBe_76 rfl (lv_at hl 3 rfl) ?_
        refine lv_iconst (v := 2) hx hb dX6_mayBe_77 (by decide) ?_
        refine kX6_X6_dee F hB hS hw ⟨Nat.le_of_ble_eq_true rfl, Nat.le_of_ble_eq_true rfl⟩ ⟨Nat.zero_le _, Nat.zero_le _⟩ hl.1 (Nat.le_of_ble_eq_true rfl) dX6_mayBe_78 (fun r10 T11 H locs hw hB hS => ?_)
        obtain ⟨hin, hw⟩ := hw
        refine t_ast F hB hS (k := 25) rfl hin dX6_mayBe_81 (fun H locs hB hS => ?_)
        refine lv_aload_n hx hb dX6_mayBe_82 rfl (lv_at hl 1 rfl) ?_
        refine lv_iload hx hb dX6_mayBe_83 (lv_at hl 0 rfl) ?_
        refine kX6_X6_worked F hB hS hw ⟨Nat.le_of_ble_eq_true rfl, Nat.le_of_ble_eq_true rfl⟩ ⟨Nat.zero_le _, Nat.zero_le _⟩ hl.1 (Nat.le_of_ble_eq_true rfl) dX6_mayBe_85 (fun r12 T13 H locs hw hB hS => ?_)
        refine lv_if_eq (tgt := 95) hx hb dX6_mayBe_88 (by decide) (fun q => ?_) (fun q => ?_)
        · replace hw := hw.1 q
          refine lv_iconst (v := 0) hx hb dX6_mayBe_95 (by decide) ?_
          exact W.zret hx hb F.1.r rfl (fun t ht hW => ⟨⟨_, _, rfl, hw, x_B (Bw := tB D A ad) ht hB⟩, hS.F ht⟩) hS.2.2 dX6_mayBe_96 (hlocks := F.1.k)
        · replace hw := hw.2 q
          refine lv_iconst (v := 1) hx hb dX6_mayBe_91 (by decide) ?_
          refine lv_goto (tgt := 96) hx hb dX6_mayBe_92 (by decide) ?_
          exact W.zret hx hb F.1.r rfl (fun t ht hW => ⟨⟨_, _, rfl, hw, x_B (Bw := tB D A ad) ht hB⟩, hS.F ht⟩) hS.2.2 dX6_mayBe_96 (hlocks := F.1.k)
      · replace hw := hw.2 q
        refine lv_iconst (v := 1) hx hb dX6_mayBe_51 (by decide) ?_
        exact W.zret hx hb F.1.r rfl (fun t ht hW => ⟨⟨_, _, rfl, hw, x_B (Bw := tB D A ad) ht hB⟩, hS.F ht⟩) hS.2.2 dX6_mayBe_52 (hlocks := F.1.k)
    · replace hw := hw.2 q
      refine lv_iconst (v := 0) hx hb dX6_mayBe_37 (by decide) ?_
      exact W.zret hx hb F.1.r rfl (fun t ht hW => ⟨⟨_, _, rfl, hw, x_B (Bw := tB D A ad) ht hB⟩, hS.F ht⟩) hS.2.2 dX6_mayBe_38 (hlocks := F.1.k)
set_option maxHeartbeats 4000000 in
theorem mX6_mayBe {l : Launch} {D : DD} {A : Nat → Prop} {s0 : State} {ad : AD} {T : TS} {a1 : Int32} {a2 : Int32} {a3 : Int32} {Q : Int32 → TS → Prop} (hw : wX6_mayBe a1 a2 a3 T Q) : Met l yX6_mayBe (ws_ yX6_mayBe cX6_mayBe 5 (some .boolean)) rX6_mayBe (va_Pc [.ref (ad 0 0 0), .int a1, .int a2, .int a3] (fun U => tB D A ad T U.heap ∧ CX l D A s0 U)) (va_Qi Q (fun u t => tB D A ad u t.heap) A) 0 0 A := by
  refine Met.ofW (cc := cX6_mayBe) (maxL := 5) (ret := some .boolean) (by decide) rfl ?_
  intro p e s m args below meth c s₁ B hml hv
  obtain ⟨rfl, hB, hC⟩ := hv
  have F : FX p l c cX6_mayBe s _ m RX6 D A s0 5 meth (some .boolean) := ⟨mk_FP B hml rfl, hC⟩
  have hS : va_S A s.heap s.heap [] := va_S.rf
  have hl := lv_entry ([.ref (ad 0 0 0), .int a1, .int a2, .int a3]) (n := 5) (Nat.le_of_ble_eq_true rfl)
  rw [lg_entry_eq]
  generalize (lg_sl ([.ref (ad 0 0 0), .int a1, .int a2, .int a3]) ++ List.replicate (5 - (lg_sl ([.ref (ad 0 0 0), .int a1, .int a2, .int a3])).length) Slot.unset).toArray = ls at hl ⊢
  exact bX6_mayBe_0 F hB hS hw hl
theorem kX6_X6_mayBe {p : Program} {l : Launch} {e : Env} {R : Room} {s : State} {m : MethodId} {args : Array Value} {below : List Frame} {meth : Method} {c : Code} {H : Heap} {locs : List Loc} {cells slots : Nat} {Q0 : State → Prop} {cc : ByteArray} {pc nL : Nat} {ls : Array Slot} {rest : List Value} {ret : Option FieldType} {D : DD} {A : Nat → Prop} {s0 : State} {ad : AD} {T : TS} {a1 : Int32} {a2 : Int32} {a3 : Int32} {Q : Int32 → TS → Prop} (F : FX p l c cc s args m RX6 D A s0 nL meth ret) (hB : tB D A ad T H) (hS : va_S A s.heap H locs) (hw : wX6_mayBe a1 a2 a3 T Q) (hR : rX6_mayBe.frames + 1 ≤ R.frames ∧ 8 + (5 + 11) + rX6_mayBe.locals ≤ R.locals) (hc : cells + 0 ≤ R.cells ∧ slots + 0 ≤ R.slots) (hsz : ls.size = nL) (hW : (rest.map fun v => v.category).sum ≤ 8) (hdg : decode cc pc = .ok (.invokevirtual 157, 3)) (kk : ∀ (r : Int32) (u : TS) (H1 : Heap) (locs1 : List Loc), Q r u → tB D A ad u H1 → va_S A s.heap H1 locs1 → W p l e R s m args below meth c H1 locs1 cells slots Q0 (F0 m (pc + 3) ls (.int r :: rest))) : W p l e R s m args below meth c H locs cells slots Q0 (F0 m pc ls (.int a3 :: .int a2 :: .int a1 :: .ref (ad 0 0 0) :: rest)) :=
  k_i (Bw := tB D A ad) (k_runV (Bw := tB D A ad) (n := 3) (As := [.int a1, .int a2, .int a3]) F hB hS (t_recv F hB) (mX6_mayBe hw) q1474 q1476 qs58 q92 q1477 (by decide +kernel) hR ⟨rfl, rfl⟩ hc rfl hsz rfl hW hdg) hS kk
def rX6_least : Room := { frames := 0, cells := 0, slots := 0, locals := 0 }
set_option maxHeartbeats 4000000 in
theorem bX6_least_22 {p : Program} {l : Launch} {e : Env} {s : State} {m : MethodId} {args : Array Value} {below : List Frame} {meth : Method} {c : Code} {Q : Int32 → Prop} {l1 : Int32} {ls : Array Slot} (F : FP p c cX6_least s args m RX6 2 meth (some .int)) (hw : wX6_least_22 l1 Q) (hl : lv_has ls 2 [(1, .int l1)]) : W p l e rX6_least s m args below meth c s.heap [] 0 0 (MQ below (vp_Si Q) args s 0 0 (fun _ => False)) (F0 m 22 ls []) := by
  have hx := F.x
  have hb := F.b
  unfold wX6_least_22 at hw
  refine lv_iload_n hx hb dX6_least_22 rfl (lv_at hl 0 rfl) ?_
  refine lv_bipush (v := 12) hx hb dX6_least_23 (by decide) ?_
  refine lv_icmp_ge (tgt := 32) hx hb dX6_least_25 (by decide) (fun q => ?_) (fun q => ?_)
  · replace hw := hw.1 q
    refine lv_iconst (v := -1) hx hb dX6_least_32 (by decide) ?_
    exact W.iret hx hb F.r (fun t ht hW => ⟨_, rfl, hw, ht⟩) (fun _ h => absurd h List.not_mem_nil) dX6_least_33 (hlocks := F.k)
  · replace hw := hw.2 q
    refine lv_iload_n hx hb dX6_least_28 rfl (lv_at hl 0 rfl) ?_
    refine lv_goto (tgt := 33) hx hb dX6_least_29 (by decide) ?_
    exact W.iret hx hb F.r (fun t ht hW => ⟨_, rfl, hw, ht⟩) (fun _ h => absurd h List.not_mem_nil) dX6_least_33 (hlocks := F.k)
set_option maxHeartbeats 4000000 in
theorem bX6_least_2 {p : Program} {l : Launch} {e : Env} {s : State} {m : MethodId} {args : Array Value} {below : List Frame} {meth : Method} {c : Code} {Q : Int32 → Prop} (F : FP p c cX6_least s args m RX6 2 meth (some .int)) : ∀ (n : Nat) (l0 : Int32) (l1 : Int32), wX6_least_2 Q n l0 l1 → ∀ (ls : Array Slot), lv_has ls 2 [(0, .int l0), (1, .int l1)] → W p l e rX6_least s m args below meth c s.heap [] 0 0 (MQ below (vp_Si Q) args s 0 0 (fun _ => False)) (F0 m 2 ls []) := by
  have hx := F.x
  have hb := F.b
  intro n
  induction n with
  | zero => intro l0 l1 hw; exact hw.elim
  | succ n ih =>
    intro l0 l1 hw ls hl
    unfold wX6_least_2 at hw
    refine lv_iload_n hx hb dX6_least_2 rfl (lv_at hl 1 rfl) ?_
    refine lv_bipush (v := 12) hx hb dX6_least_3 (by decide) ?_
    refine lv_icmp_ge (tgt := 22) hx hb dX6_least_5 (by decide) (fun q => ?_) (fun q => ?_)
    · replace hw := hw.1 q
      exact bX6_least_22 F hw (lv_sub hl [1] rfl)
    · replace hw := hw.2 q
      refine lv_iload_n hx hb dX6_least_8 rfl (lv_at hl 0 rfl) ?_
      refine lv_iload_n hx hb dX6_least_9 rfl (lv_at hl 1 rfl) ?_
      refine lv_ishr hx hb dX6_least_10 ?_
      refine lv_iconst (v := 1) hx hb dX6_least_11 (by decide) ?_
      refine lv_iand hx hb dX6_least_12 ?_
      refine lv_if_ne (tgt := 22) hx hb dX6_least_13 (by decide) (fun q => ?_) (fun q => ?_)
      · replace hw := hw.2 q
        exact bX6_least_22 F hw (lv_sub hl [1] rfl)
      · replace hw := hw.1 q
        refine lv_iinc (v := l1 + (1 : Int32)) (lv' := [(1, .int (l1 + (1 : Int32))), (0, .int l0)]) hx hb dX6_least_16 hl (k := 1) rfl (x_inc (by decide)) (by decide) rfl (fun ls hl => ?_)
        refine lv_goto (tgt := 2) hx hb dX6_least_19 (by decide) ?_
        exact ih _ _ hw _ (lv_sub hl [1, 0] rfl)
set_option maxHeartbeats 4000000 in
theorem bX6_least_0 {p : Program} {l : Launch} {e : Env} {s : State} {m : MethodId} {args : Array Value} {below : List Frame} {meth : Method} {c : Code} {Q : Int32 → Prop} {a0 : Int32} {ls : Array Slot} (F : FP p c cX6_least s args m RX6 2 meth (some .int)) (hw : wX6_least a0 Q) (hl : lv_has ls 2 [(0, .int a0)]) : W p l e rX6_least s m args below meth c s.heap [] 0 0 (MQ below (vp_Si Q) args s 0 0 (fun _ => False)) (F0 m 0 ls []) := by
  have hx := F.x
  have hb := F.b
  unfold wX6_least at hw
  refine lv_iconst (v := 0) hx hb dX6_least_0 (by decide) ?_
  refine lv_istore_n (lv' := [(1, .int (0 : Int32)), (0, .int a0)]) hx hb dX6_least_1 rfl hl (by decide) rfl (fun ls hl => ?_)
  obtain ⟨f_2, hw⟩ := hw
  exact bX6_least_2 F f_2 _ _ hw _ (lv_sub hl [1, 0] rfl)
set_option maxHeartbeats 4000000 in
theorem mX6_least {l : Launch}  {a0 : Int32} {Q : Int32 → Prop} (hw : wX6_least a0 Q) : Met l yX6_least (ws_ yX6_least cX6_least 2 (some .int)) rX6_least (va_Pc [.int a0] (fun _ => True)) (vp_Si Q) 0 0 (fun _ => False) := by
  refine Met.ofW (cc := cX6_least) (maxL := 2) (ret := some .int) (by decide) rfl ?_
  intro p e s m args below meth c s₁ B hml hv
  obtain ⟨rfl, -⟩ := hv
  have F : FP p c cX6_least s _ m RX6 2 meth (some .int) := mk_FP B hml rfl
  have hl := lv_entry ([.int a0]) (n := 2) (Nat.le_of_ble_eq_true rfl)
  rw [lg_entry_eq]
  generalize (lg_sl ([.int a0]) ++ List.replicate (2 - (lg_sl ([.int a0])).length) Slot.unset).toArray = ls at hl ⊢
  exact bX6_least_0 F hw hl
theorem kX6_X6_least {p : Program} {l : Launch} {e : Env} {R : Room} {s : State} {m : MethodId} {args : Array Value} {below : List Frame} {meth : Method} {c : Code} {H : Heap} {locs : List Loc} {cells slots : Nat} {Q0 : State → Prop} {cc : ByteArray} {pc nL : Nat} {ls : Array Slot} {rest : List Value} {ret : Option FieldType} {a0 : Int32} {Q : Int32 → Prop} (F : FP p c cc s args m RX6 nL meth ret) (hw : wX6_least a0 Q) (hR : rX6_least.frames + 1 ≤ R.frames ∧ 8 + (2 + 11) + rX6_least.locals ≤ R.locals) (hc : cells ≤ R.cells ∧ slots ≤ R.slots) (hsz : ls.size = nL) (hW : (rest.map fun v => v.category).sum ≤ 8) (hdg : decode cc pc = .ok (.invokestatic 165, 3)) (kk : ∀ r : Int32, Q r → W p l e R s m args below meth c H locs cells slots Q0 (F0 m (pc + 3) ls (.int r :: rest))) : W p l e R s m args below meth c H locs cells slots Q0 (F0 m pc ls (.int a0 :: rest)) :=
  k_csi (k_runP (n := 1) (As := [.int a0]) F (mX6_least hw) q1495 q1496 q92 q1497 (by decide +kernel) hR ⟨rfl, rfl⟩ hc rfl hsz rfl hW hdg) kk
def rX6_greatest : Room := { frames := 0, cells := 0, slots := 0, locals := 0 }
set_option maxHeartbeats 4000000 in
theorem bX6_greatest_3 {p : Program} {l : Launch} {e : Env} {s : State} {m : MethodId} {args : Array Value} {below : List Frame} {meth : Method} {c : Code} {Q : Int32 → Prop} (F : FP p c cX6_greatest s args m RX6 2 meth (some .int)) : ∀ (n : Nat) (l0 : Int32) (l1 : Int32), wX6_greatest_3 Q n l0 l1 → ∀ (ls : Array Slot), lv_has ls 2 [(0, .int l0), (1, .int l1)] → W p l e rX6_greatest s m args below meth c s.heap [] 0 0 (MQ below (vp_Si Q) args s 0 0 (fun _ => False)) (F0 m 3 ls []) := by
  have hx := F.x
  have hb := F.b
  intro n
  induction n with
  | zero => intro l0 l1 hw; exact hw.elim
  | succ n ih =>
    intro l0 l1 hw ls hl
    unfold wX6_greatest_3 at hw
    refine lv_iload_n hx hb dX6_greatest_3 rfl (lv_at hl 1 rfl) ?_
    refine lv_if_lt (tgt := 21) hx hb dX6_greatest_4 (by decide) (fun q => ?_) (fun q => ?_)
    · replace hw := hw.1 q
      refine lv_iload_n hx hb dX6_greatest_21 rfl (lv_at hl 1 rfl) ?_
      exact W.iret hx hb F.r (fun t ht hW => ⟨_, rfl, hw, ht⟩) (fun _ h => absurd h List.not_mem_nil) dX6_greatest_22 (hlocks := F.k)
    · replace hw := hw.2 q
      refine lv_iload_n hx hb dX6_greatest_7 rfl (lv_at hl 0 rfl) ?_
      refine lv_iload_n hx hb dX6_greatest_8 rfl (lv_at hl 1 rfl) ?_
      refine lv_ishr hx hb dX6_greatest_9 ?_
      refine lv_iconst (v := 1) hx hb dX6_greatest_10 (by decide) ?_
      refine lv_iand hx hb dX6_greatest_11 ?_
      refine lv_if_ne (tgt := 21) hx hb dX6_greatest_12 (by decide) (fun q => ?_) (fun q => ?_)
      · replace hw := hw.2 q
        refine lv_iload_n hx hb dX6_greatest_21 rfl (lv_at hl 1 rfl) ?_
        exact W.iret hx hb F.r (fun t ht hW => ⟨_, rfl, hw, ht⟩) (fun _ h => absurd h List.not_mem_nil) dX6_greatest_22 (hlocks := F.k)
      · replace hw := hw.1 q
        refine lv_iinc (v := l1 + (-1 : Int32)) (lv' := [(1, .int (l1 + (-1 : Int32))), (0, .int l0)]) hx hb dX6_greatest_15 hl (k := 1) rfl (x_inc (by decide)) (by decide) rfl (fun ls hl => ?_)
        refine lv_goto (tgt := 3) hx hb dX6_greatest_18 (by decide) ?_
        exact ih _ _ hw _ (lv_sub hl [1, 0] rfl)
set_option maxHeartbeats 4000000 in
theorem bX6_greatest_0 {p : Program} {l : Launch} {e : Env} {s : State} {m : MethodId} {args : Array Value} {below : List Frame} {meth : Method} {c : Code} {Q : Int32 → Prop} {a0 : Int32} {ls : Array Slot} (F : FP p c cX6_greatest s args m RX6 2 meth (some .int)) (hw : wX6_greatest a0 Q) (hl : lv_has ls 2 [(0, .int a0)]) : W p l e rX6_greatest s m args below meth c s.heap [] 0 0 (MQ below (vp_Si Q) args s 0 0 (fun _ => False)) (F0 m 0 ls []) := by
  have hx := F.x
  have hb := F.b
  unfold wX6_greatest at hw
  refine lv_bipush (v := 11) hx hb dX6_greatest_0 (by decide) ?_
  refine lv_istore_n (lv' := [(1, .int (11 : Int32)), (0, .int a0)]) hx hb dX6_greatest_2 rfl hl (by decide) rfl (fun ls hl => ?_)
  obtain ⟨f_3, hw⟩ := hw
  exact bX6_greatest_3 F f_3 _ _ hw _ (lv_sub hl [1, 0] rfl)
set_option maxHeartbeats 4000000 in
theorem mX6_greatest {l : Launch}  {a0 : Int32} {Q : Int32 → Prop} (hw : wX6_greatest a0 Q) : Met l yX6_greatest (ws_ yX6_greatest cX6_greatest 2 (some .int)) rX6_greatest (va_Pc [.int a0] (fun _ => True)) (vp_Si Q) 0 0 (fun _ => False) := by
  refine Met.ofW (cc := cX6_greatest) (maxL := 2) (ret := some .int) (by decide) rfl ?_
  intro p e s m args below meth c s₁ B hml hv
  obtain ⟨rfl, -⟩ := hv
  have F : FP p c cX6_greatest s _ m RX6 2 meth (some .int) := mk_FP B hml rfl
  have hl := lv_entry ([.int a0]) (n := 2) (Nat.le_of_ble_eq_true rfl)
  rw [lg_entry_eq]
  generalize (lg_sl ([.int a0]) ++ List.replicate (2 - (lg_sl ([.int a0])).length) Slot.unset).toArray = ls at hl ⊢
  exact bX6_greatest_0 F hw hl
theorem kX6_X6_greatest {p : Program} {l : Launch} {e : Env} {R : Room} {s : State} {m : MethodId} {args : Array Value} {below : List Frame} {meth : Method} {c : Code} {H : Heap} {locs : List Loc} {cells slots : Nat} {Q0 : State → Prop} {cc : ByteArray} {pc nL : Nat} {ls : Array Slot} {rest : List Value} {ret : Option FieldType} {a0 : Int32} {Q : Int32 → Prop} (F : FP p c cc s args m RX6 nL meth ret) (hw : wX6_greatest a0 Q) (hR : rX6_greatest.frames + 1 ≤ R.frames ∧ 8 + (2 + 11) + rX6_greatest.locals ≤ R.locals) (hc : cells ≤ R.cells ∧ slots ≤ R.slots) (hsz : ls.size = nL) (hW : (rest.map fun v => v.category).sum ≤ 8) (hdg : decode cc pc = .ok (.invokestatic 168, 3)) (kk : ∀ r : Int32, Q r → W p l e R s m args below meth c H locs cells slots Q0 (F0 m (pc + 3) ls (.int r :: rest))) : W p l e R s m args below meth c H locs cells slots Q0 (F0 m pc ls (.int a0 :: rest)) :=
  k_csi (k_runP (n := 1) (As := [.int a0]) F (mX6_greatest hw) q1498 q1499 q92 q1500 (by decide +kernel) hR ⟨rfl, rfl⟩ hc rfl hsz rfl hW hdg) kk
def rX6_choiceOf : Room := { frames := 4, cells := 0, slots := 0, locals := 91 }
set_option maxHeartbeats 4000000 in
theorem bX6_choiceOf_196 {p : Program} {l : Launch} {e : Env} {s : State} {m : MethodId} {args : Array Value} {below : List Frame} {meth : Method} {c : Code} {D : DD} {A : Nat → Prop} {s0 : State} {ad : AD} {Q : Int32 → TS → Prop} {k0 : Int32} {T : TS} {H : Heap} {locs : List Loc} {ls : Array Slot} (F : FX p l c cX6_choiceOf s args m RX6 D A s0 7 meth (some .int)) (hB : tB D A ad T H) (hS : va_S A s.heap H locs) (hw : wX6_choiceOf_196 k0 T Q) (hl : lv_has ls 7 []) : W p l e rX6_choiceOf s m args below meth c H locs 0 0 (MQ below (va_Qi Q (fun u t => tB D A ad u t.heap) A) args s 0 0 A) (F0 m 196 ls [.int k0]) := by
  have hx := F.1.x
  have hb := F.1.b
  unfold wX6_choiceOf_196 at hw
  refine kX6_X6_least F.1 hw ⟨Nat.le_of_ble_eq_true rfl, Nat.le_of_ble_eq_true rfl⟩ ⟨Nat.zero_le _, Nat.zero_le _⟩ hl.1 (Nat.le_of_ble_eq_true rfl) dX6_choiceOf_196 (fun r1 hw => ?_)
  exact W.iret hx hb F.1.r (fun t ht hW => ⟨⟨_, _, rfl, hw, x_B (Bw := tB D A ad) ht hB⟩, hS.F ht⟩) hS.2.2 dX6_choiceOf_199 (hlocks := F.1.k)
set_option maxHeartbeats 4000000 in
theorem bX6_choiceOf_93 {p : Program} {l : Launch} {e : Env} {s : State} {m : MethodId} {args : Array Value} {below : List Frame} {meth : Method} {c : Code} {D : DD} {A : Nat → Prop} {s0 : State} {ad : AD} {Q : Int32 → TS → Prop} {l1 : Int32} {l2 : Int32} {l3 : Int32} {l4 : Int32} {k0 : Int32} {T : TS} {H : Heap} {locs : List Loc} {ls : Array Slot} (F : FX p l c cX6_choiceOf s args m RX6 D A s0 7 meth (some .int)) (hB : tB D A ad T H) (hS : va_S A s.heap H locs) (hw : wX6_choiceOf_93 l1 l2 l3 l4 k0 T Q) (hl : lv_has ls 7 [(0, .ref (ad 0 0 0)), (1, .int l1), (2, .int l2), (3, .int l3), (4, .int l4)]) : W p l e rX6_choiceOf s m args below meth c H locs 0 0 (MQ below (va_Qi Q (fun u t => tB D A ad u t.heap) A) args s 0 0 A) (F0 m 93 ls [.int k0]) := by
  have hx := F.1.x
  have hb := F.1.b
  unfold wX6_choiceOf_93 at hw
  refine kX6_X6_least F.1 hw ⟨Nat.le_of_ble_eq_true rfl, Nat.le_of_ble_eq_true rfl⟩ ⟨Nat.zero_le _, Nat.zero_le _⟩ hl.1 (Nat.le_of_ble_eq_true rfl) dX6_choiceOf_93 (fun r1 hw => ?_)
  refine lv_istore (lv' := [(6, .int r1), (0, .ref (ad 0 0 0)), (1, .int l1), (2, .int l2), (3, .int l3), (4, .int l4)]) hx hb dX6_choiceOf_96 hl (by decide) rfl (fun ls hl => ?_)
  refine lv_aload_n hx hb dX6_choiceOf_98 rfl (lv_at hl 1 rfl) ?_
  refine lv_iload_n hx hb dX6_choiceOf_99 rfl (lv_at hl 2 rfl) ?_
  refine lv_iconst (v := 0) hx hb dX6_choiceOf_100 (by decide) ?_
  refine kX6_X6_of F hB hS hw ⟨Nat.le_of_ble_eq_true rfl, Nat.le_of_ble_eq_true rfl⟩ ⟨Nat.zero_le _, Nat.zero_le _⟩ hl.1 (Nat.le_of_ble_eq_true rfl) dX6_choiceOf_101 (fun r2 T3 H locs hw hB hS => ?_)
  by_cases q1 : r2 = 1
  · replace hw := hw.1 q1
    refine lv_tableIn (off := 36) (tgt := 140) hx hb dX6_choiceOf_104 (by rw [q1]; decide) (by rw [q1]; decide) (by rw [q1]; rfl) (by decide) ?_
    refine lv_iload_n hx hb dX6_choiceOf_140 rfl (lv_at hl 4 rfl) ?_
    refine lv_iload hx hb dX6_choiceOf_141 (lv_at hl 5 rfl) ?_
    refine lv_iconst (v := -1) hx hb dX6_choiceOf_143 (by decide) ?_
    refine lv_ixor hx hb dX6_choiceOf_144 ?_
    refine lv_iand hx hb dX6_choiceOf_145 ?_
    refine kX6_X6_least F.1 hw ⟨Nat.le_of_ble_eq_true rfl, Nat.le_of_ble_eq_true rfl⟩ ⟨Nat.zero_le _, Nat.zero_le _⟩ hl.1 (Nat.le_of_ble_eq_true rfl) dX6_choiceOf_146 (fun r4 hw => ?_)
    exact W.iret hx hb F.1.r (fun t ht hW => ⟨⟨_, _, rfl, hw, x_B (Bw := tB D A ad) ht hB⟩, hS.F ht⟩) hS.2.2 dX6_choiceOf_149 (hlocks := F.1.k)
  replace hw := hw.2 q1
  by_cases q2 : r2 = 2
  · replace hw := hw.1 q2
    refine lv_tableIn (off := 46) (tgt := 150) hx hb dX6_choiceOf_104 (by rw [q2]; decide) (by rw [q2]; decide) (by rw [q2]; rfl) (by decide) ?_
    refine lv_iload hx hb dX6_choiceOf_150 (lv_at hl 0 rfl) ?_
    exact W.iret hx hb F.1.r (fun t ht hW => ⟨⟨_, _, rfl, hw, x_B (Bw := tB D A ad) ht hB⟩, hS.F ht⟩) hS.2.2 dX6_choiceOf_152 (hlocks := F.1.k)
  replace hw := hw.2 q2
  by_cases q3 : r2 = 3
  · replace hw := hw.1 q3
    refine lv_tableIn (off := 49) (tgt := 153) hx hb dX6_choiceOf_104 (by rw [q3]; decide) (by rw [q3]; decide) (by rw [q3]; rfl) (by decide) ?_
    refine lv_iload_n hx hb dX6_choiceOf_153 rfl (lv_at hl 4 rfl) ?_
    refine lv_iload hx hb dX6_choiceOf_154 (lv_at hl 5 rfl) ?_
    refine lv_iconst (v := -1) hx hb dX6_choiceOf_156 (by decide) ?_
    refine lv_ixor hx hb dX6_choiceOf_157 ?_
    refine lv_iand hx hb dX6_choiceOf_158 ?_
    refine kX6_X6_greatest F.1 hw ⟨Nat.le_of_ble_eq_true rfl, Nat.le_of_ble_eq_true rfl⟩ ⟨Nat.zero_le _, Nat.zero_le _⟩ hl.1 (Nat.le_of_ble_eq_true rfl) dX6_choiceOf_159 (fun r5 hw => ?_)
    exact W.iret hx hb F.1.r (fun t ht hW => ⟨⟨_, _, rfl, hw, x_B (Bw := tB D A ad) ht hB⟩, hS.F ht⟩) hS.2.2 dX6_choiceOf_162 (hlocks := F.1.k)
  replace hw := hw.2 q3
  by_cases q4 : r2 = 4
  · replace hw := hw.1 q4
    refine lv_tableIn (off := 59) (tgt := 163) hx hb dX6_choiceOf_104 (by rw [q4]; decide) (by rw [q4]; decide) (by rw [q4]; rfl) (by decide) ?_
    refine lv_aload_n hx hb dX6_choiceOf_163 rfl (lv_at hl 1 rfl) ?_
    refine lv_iload_n hx hb dX6_choiceOf_164 rfl (lv_at hl 3 rfl) ?_
    refine lv_iconst (v := 2) hx hb dX6_choiceOf_165 (by decide) ?_
    refine kX6_X6_dee F hB hS hw ⟨Nat.le_of_ble_eq_true rfl, Nat.le_of_ble_eq_true rfl⟩ ⟨Nat.zero_le _, Nat.zero_le _⟩ hl.1 (Nat.le_of_ble_eq_true rfl) dX6_choiceOf_166 (fun r6 T7 H locs hw hB hS => ?_)
    refine lv_aload_n hx hb dX6_choiceOf_169 rfl (lv_at hl 1 rfl) ?_
    refine lv_iload_n hx hb dX6_choiceOf_170 rfl (lv_at hl 2 rfl) ?_
    refine lv_iconst (v := 1) hx hb dX6_choiceOf_171 (by decide) ?_
    refine kX6_X6_of F hB hS hw ⟨Nat.le_of_ble_eq_true rfl, Nat.le_of_ble_eq_true rfl⟩ ⟨Nat.zero_le _, Nat.zero_le _⟩ hl.1 (Nat.le_of_ble_eq_true rfl) dX6_choiceOf_172 (fun r8 T9 H locs hw hB hS => ?_)
    refine lv_icmp_le (tgt := 182) hx hb dX6_choiceOf_175 (by decide) (fun q => ?_) (fun q => ?_)
    · replace hw := hw.1 q
      refine lv_iload hx hb dX6_choiceOf_182 (lv_at hl 0 rfl) ?_
      exact W.iret hx hb F.1.r (fun t ht hW => ⟨⟨_, _, rfl, hw, x_B (Bw := tB D A ad) ht hB⟩, hS.F ht⟩) hS.2.2 dX6_choiceOf_184 (hlocks := F.1.k)
    · replace hw := hw.2 q
      refine lv_iconst (v := -1) hx hb dX6_choiceOf_178 (by decide) ?_
      refine lv_goto (tgt := 184) hx hb dX6_choiceOf_179 (by decide) ?_
      exact W.iret hx hb F.1.r (fun t ht hW => ⟨⟨_, _, rfl, hw, x_B (Bw := tB D A ad) ht hB⟩, hS.F ht⟩) hS.2.2 dX6_choiceOf_184 (hlocks := F.1.k)
  replace hw := hw.2 q4
  by_cases q5 : r2 = 5
  · replace hw := hw.1 q5
    refine lv_tableIn (off := 81) (tgt := 185) hx hb dX6_choiceOf_104 (by rw [q5]; decide) (by rw [q5]; decide) (by rw [q5]; rfl) (by decide) ?_
    refine lv_iload hx hb dX6_choiceOf_185 (lv_at hl 5 rfl) ?_
    refine lv_if_eq (tgt := 195) hx hb dX6_choiceOf_187 (by decide) (fun q => ?_) (fun q => ?_)
    · replace hw := hw.1 q
      refine lv_iload_n hx hb dX6_choiceOf_195 rfl (lv_at hl 4 rfl) ?_
      exact bX6_choiceOf_196 F hB hS hw (lv_sub hl [] rfl)
    · replace hw := hw.2 q
      refine lv_iload hx hb dX6_choiceOf_190 (lv_at hl 5 rfl) ?_
      refine lv_goto (tgt := 196) hx hb dX6_choiceOf_192 (by decide) ?_
      exact bX6_choiceOf_196 F hB hS hw (lv_sub hl [] rfl)
  replace hw := hw.2 q5
  refine lv_tableOut (tgt := 200) hx hb dX6_choiceOf_104 (by have n1 := x_ne q1 (a := 1) (by decide); have n2 := x_ne q2 (a := 2) (by decide); have n3 := x_ne q3 (a := 3) (by decide); have n4 := x_ne q4 (a := 4) (by decide); have n5 := x_ne q5 (a := 5) (by decide); omega) (by decide) ?_
  refine lv_iload_n hx hb dX6_choiceOf_200 rfl (lv_at hl 4 rfl) ?_
  refine kX6_X6_least F.1 hw ⟨Nat.le_of_ble_eq_true rfl, Nat.le_of_ble_eq_true rfl⟩ ⟨Nat.zero_le _, Nat.zero_le _⟩ hl.1 (Nat.le_of_ble_eq_true rfl) dX6_choiceOf_201 (fun r10 hw => ?_)
  exact W.iret hx hb F.1.r (fun t ht hW => ⟨⟨_, _, rfl, hw, x_B (Bw := tB D A ad) ht hB⟩, hS.F ht⟩) hS.2.2 dX6_choiceOf_204 (hlocks := F.1.k)
set_option maxHeartbeats 4000000 in
theorem bX6_choiceOf_66 {p : Program} {l : Launch} {e : Env} {s : State} {m : MethodId} {args : Array Value} {below : List Frame} {meth : Method} {c : Code} {D : DD} {A : Nat → Prop} {s0 : State} {ad : AD} {Q : Int32 → TS → Prop} {k_8 : Int32 → Int32 → Int32 → Int32 → Int32 → TS → Prop} {l1 : Int32} {l2 : Int32} {l3 : Int32} {l4 : Int32} {l5 : Int32} {T : TS} {H : Heap} {locs : List Loc} {ls : Array Slot} (F : FX p l c cX6_choiceOf s args m RX6 D A s0 7 meth (some .int)) (h_8 : ∀ (l1 : Int32) (l2 : Int32) (l3 : Int32) (l4 : Int32) (l5 : Int32) (T : TS), k_8 l1 l2 l3 l4 l5 T → ∀ (H : Heap) (locs : List Loc) (ls : Array Slot), tB D A ad T H → va_S A s.heap H locs → lv_has ls 7 [(0, .ref (ad 0 0 0)), (1, .int l1), (2, .int l2), (3, .int l3), (4, .int l4), (5, .int l5)] → W p l e rX6_choiceOf s m args below meth c H locs 0 0 (MQ below (va_Qi Q (fun u t => tB D A ad u t.heap) A) args s 0 0 A) (F0 m 8 ls [])) (hB : tB D A ad T H) (hS : va_S A s.heap H locs) (hw : wX6_choiceOf_66 k_8 l1 l2 l3 l4 l5 T Q) (hl : lv_has ls 7 [(0, .ref (ad 0 0 0)), (1, .int l1), (2, .int l2), (3, .int l3), (4, .int l4), (5, .int l5)]) : W p l e rX6_choiceOf s m args below meth c H locs 0 0 (MQ below (va_Qi Q (fun u t => tB D A ad u t.heap) A) args s 0 0 A) (F0 m 66 ls []) := by
  have hx := F.1.x
  have hb := F.1.b
  unfold wX6_choiceOf_66 at hw
  refine lv_iinc (v := l5 + (1 : Int32)) (lv' := [(5, .int (l5 + (1 : Int32))), (0, .ref (ad 0 0 0)), (1, .int l1), (2, .int l2), (3, .int l3), (4, .int l4)]) hx hb dX6_choiceOf_66 hl (k := 5) rfl (x_inc (by decide)) (by decide) rfl (fun ls hl => ?_)
  refine lv_goto (tgt := 8) hx hb dX6_choiceOf_69 (by decide) ?_
  exact h_8 _ _ _ _ _ _ hw _ _ _ hB hS (lv_sub hl [1, 2, 3, 4, 5, 0] rfl)
set_option maxHeartbeats 4000000 in
theorem bX6_choiceOf_63 {p : Program} {l : Launch} {e : Env} {s : State} {m : MethodId} {args : Array Value} {below : List Frame} {meth : Method} {c : Code} {D : DD} {A : Nat → Prop} {s0 : State} {ad : AD} {Q : Int32 → TS → Prop} {k_8 : Int32 → Int32 → Int32 → Int32 → Int32 → TS → Prop} {l1 : Int32} {l2 : Int32} {l3 : Int32} {l5 : Int32} {k0 : Int32} {k1 : Int32} {T : TS} {H : Heap} {locs : List Loc} {ls : Array Slot} (F : FX p l c cX6_choiceOf s args m RX6 D A s0 7 meth (some .int)) (h_8 : ∀ (l1 : Int32) (l2 : Int32) (l3 : Int32) (l4 : Int32) (l5 : Int32) (T : TS), k_8 l1 l2 l3 l4 l5 T → ∀ (H : Heap) (locs : List Loc) (ls : Array Slot), tB D A ad T H → va_S A s.heap H locs → lv_has ls 7 [(0, .ref (ad 0 0 0)), (1, .int l1), (2, .int l2), (3, .int l3), (4, .int l4), (5, .int l5)] → W p l e rX6_choiceOf s m args below meth c H locs 0 0 (MQ below (va_Qi Q (fun u t => tB D A ad u t.heap) A) args s 0 0 A) (F0 m 8 ls [])) (hB : tB D A ad T H) (hS : va_S A s.heap H locs) (hw : wX6_choiceOf_63 k_8 l1 l2 l3 l5 k0 k1 T Q) (hl : lv_has ls 7 [(0, .ref (ad 0 0 0)), (1, .int l1), (2, .int l2), (3, .int l3), (5, .int l5)]) : W p l e rX6_choiceOf s m args below meth c H locs 0 0 (MQ below (va_Qi Q (fun u t => tB D A ad u t.heap) A) args s 0 0 A) (F0 m 63 ls [.int k0, .int k1]) := by
  have hx := F.1.x
  have hb := F.1.b
  unfold wX6_choiceOf_63 at hw
  refine lv_ior hx hb dX6_choiceOf_63 ?_
  refine lv_istore (lv' := [(4, .int (k1 ||| k0)), (0, .ref (ad 0 0 0)), (1, .int l1), (2, .int l2), (3, .int l3), (5, .int l5)]) hx hb dX6_choiceOf_64 hl (by decide) rfl (fun ls hl => ?_)
  exact bX6_choiceOf_66 F h_8 hB hS hw (lv_sub hl [1, 2, 3, 4, 0, 5] rfl)
set_option maxHeartbeats 4000000 in
theorem bX6_choiceOf_8 {p : Program} {l : Launch} {e : Env} {s : State} {m : MethodId} {args : Array Value} {below : List Frame} {meth : Method} {c : Code} {D : DD} {A : Nat → Prop} {s0 : State} {ad : AD} {Q : Int32 → TS → Prop} (F : FX p l c cX6_choiceOf s args m RX6 D A s0 7 meth (some .int)) : ∀ (n : Nat) (l1 : Int32) (l2 : Int32) (l3 : Int32) (l4 : Int32) (l5 : Int32) (T : TS), wX6_choiceOf_8 Q n l1 l2 l3 l4 l5 T → ∀ (H : Heap) (locs : List Loc) (ls : Array Slot), tB D A ad T H → va_S A s.heap H locs → lv_has ls 7 [(0, .ref (ad 0 0 0)), (1, .int l1), (2, .int l2), (3, .int l3), (4, .int l4), (5, .int l5)] → W p l e rX6_choiceOf s m args below meth c H locs 0 0 (MQ below (va_Qi Q (fun u t => tB D A ad u t.heap) A) args s 0 0 A) (F0 m 8 ls []) := by
  have hx := F.1.x
  have hb := F.1.b
  intro n
  induction n with
  | zero => intro l1 l2 l3 l4 l5 T hw; exact hw.elim
  | succ n ih =>
    intro l1 l2 l3 l4 l5 T hw H locs ls hB hS hl
    unfold wX6_choiceOf_8 at hw
    refine lv_iload hx hb dX6_choiceOf_8 (lv_at hl 5 rfl) ?_
    refine lv_aload_n hx hb dX6_choiceOf_10 rfl (lv_at hl 0 rfl) ?_
    refine tg_0 F hB dX6_choiceOf_11 ?_
    refine lv_iconst (v := 0) hx hb dX6_choiceOf_14 (by decide) ?_
    obtain ⟨hin, hw⟩ := hw
    refine t_ald F hB (k := 0) rfl hin dX6_choiceOf_15 ?_
    refine lv_icmp_ge (tgt := 72) hx hb dX6_choiceOf_16 (by decide) (fun q => ?_) (fun q => ?_)
    · replace hw := hw.1 q
      refine lv_iload_n hx hb dX6_choiceOf_72 rfl (lv_at hl 3 rfl) ?_
      refine lv_aload_n hx hb dX6_choiceOf_73 rfl (lv_at hl 0 rfl) ?_
      refine lv_iload_n hx hb dX6_choiceOf_74 rfl (lv_at hl 1 rfl) ?_
      refine lv_iconst (v := 3) hx hb dX6_choiceOf_75 (by decide) ?_
      refine kX6_X6_of F hB hS hw ⟨Nat.le_of_ble_eq_true rfl, Nat.le_of_ble_eq_true rfl⟩ ⟨Nat.zero_le _, Nat.zero_le _⟩ hl.1 (Nat.le_of_ble_eq_true rfl) dX6_choiceOf_76 (fun r1 T2 H locs hw hB hS => ?_)
      refine lv_iand hx hb dX6_choiceOf_79 ?_
      refine lv_istore (lv' := [(5, .int (l3 &&& r1)), (0, .ref (ad 0 0 0)), (1, .int l1), (2, .int l2), (3, .int l3), (4, .int l4)]) hx hb dX6_choiceOf_80 hl (by decide) rfl (fun ls hl => ?_)
      refine lv_iload hx hb dX6_choiceOf_82 (lv_at hl 0 rfl) ?_
      refine lv_if_eq (tgt := 92) hx hb dX6_choiceOf_84 (by decide) (fun q => ?_) (fun q => ?_)
      · replace hw := hw.1 q
        refine lv_iload_n hx hb dX6_choiceOf_92 rfl (lv_at hl 4 rfl) ?_
        exact bX6_choiceOf_93 F hB hS hw (lv_sub hl [1, 2, 3, 4, 5] rfl)
      · replace hw := hw.2 q
        refine lv_iload hx hb dX6_choiceOf_87 (lv_at hl 0 rfl) ?_
        refine lv_goto (tgt := 93) hx hb dX6_choiceOf_89 (by decide) ?_
        exact bX6_choiceOf_93 F hB hS hw (lv_sub hl [1, 2, 3, 4, 5] rfl)
    · replace hw := hw.2 q
      refine lv_aload_n hx hb dX6_choiceOf_19 rfl (lv_at hl 0 rfl) ?_
      refine lv_iload_n hx hb dX6_choiceOf_20 rfl (lv_at hl 1 rfl) ?_
      refine lv_iload_n hx hb dX6_choiceOf_21 rfl (lv_at hl 2 rfl) ?_
      refine lv_iload hx hb dX6_choiceOf_22 (lv_at hl 5 rfl) ?_
      refine kX6_X6_mayBe F hB hS hw ⟨Nat.le_of_ble_eq_true rfl, Nat.le_of_ble_eq_true rfl⟩ ⟨Nat.zero_le _, Nat.zero_le _⟩ hl.1 (Nat.le_of_ble_eq_true rfl) dX6_choiceOf_24 (fun r3 T4 H locs hw hB hS => ?_)
      refine lv_if_eq (tgt := 66) hx hb dX6_choiceOf_27 (by decide) (fun q => ?_) (fun q => ?_)
      · replace hw := hw.1 q
        exact bX6_choiceOf_66 F ih hB hS hw hl
      · replace hw := hw.2 q
        refine lv_iload_n hx hb dX6_choiceOf_30 rfl (lv_at hl 3 rfl) ?_
        refine lv_iconst (v := 1) hx hb dX6_choiceOf_31 (by decide) ?_
        refine lv_iload hx hb dX6_choiceOf_32 (lv_at hl 5 rfl) ?_
        refine lv_ishl hx hb dX6_choiceOf_34 ?_
        refine lv_ior hx hb dX6_choiceOf_35 ?_
        refine lv_istore_n (lv' := [(3, .int (l3 ||| ((1 : Int32) <<< (l5 &&& 31)))), (0, .ref (ad 0 0 0)), (1, .int l1), (2, .int l2), (4, .int l4), (5, .int l5)]) hx hb dX6_choiceOf_36 rfl hl (by decide) rfl (fun ls hl => ?_)
        refine lv_iload hx hb dX6_choiceOf_37 (lv_at hl 4 rfl) ?_
        refine lv_aload_n hx hb dX6_choiceOf_39 rfl (lv_at hl 1 rfl) ?_
        refine lv_iload hx hb dX6_choiceOf_40 (lv_at hl 5 rfl) ?_
        refine kX6_X6_goBy F hB hS hw ⟨Nat.le_of_ble_eq_true rfl, Nat.le_of_ble_eq_true rfl⟩ ⟨Nat.zero_le _, Nat.zero_le _⟩ hl.1 (Nat.le_of_ble_eq_true rfl) dX6_choiceOf_42 (fun r5 T6 H locs hw hB hS => ?_)
        refine lv_aload_n hx hb dX6_choiceOf_45 rfl (lv_at hl 1 rfl) ?_
        refine lv_iload_n hx hb dX6_choiceOf_46 rfl (lv_at hl 3 rfl) ?_
        refine lv_iconst (v := 0) hx hb dX6_choiceOf_47 (by decide) ?_
        refine kX6_X6_dee F hB hS hw ⟨Nat.le_of_ble_eq_true rfl, Nat.le_of_ble_eq_true rfl⟩ ⟨Nat.zero_le _, Nat.zero_le _⟩ hl.1 (Nat.le_of_ble_eq_true rfl) dX6_choiceOf_48 (fun r7 T8 H locs hw hB hS => ?_)
        refine lv_iand hx hb dX6_choiceOf_51 ?_
        refine lv_if_eq (tgt := 62) hx hb dX6_choiceOf_52 (by decide) (fun q => ?_) (fun q => ?_)
        · replace hw := hw.1 q
          refine lv_iconst (v := 0) hx hb dX6_choiceOf_62 (by decide) ?_
          exact bX6_choiceOf_63 F ih hB hS hw (lv_sub hl [1, 2, 3, 0, 5] rfl)
        · replace hw := hw.2 q
          refine lv_iconst (v := 1) hx hb dX6_choiceOf_55 (by decide) ?_
          refine lv_iload hx hb dX6_choiceOf_56 (lv_at hl 5 rfl) ?_
          refine lv_ishl hx hb dX6_choiceOf_58 ?_
          refine lv_goto (tgt := 63) hx hb dX6_choiceOf_59 (by decide) ?_
          exact bX6_choiceOf_63 F ih hB hS hw (lv_sub hl [1, 2, 3, 0, 5] rfl)
set_option maxHeartbeats 4000000 in
theorem bX6_choiceOf_0 {p : Program} {l : Launch} {e : Env} {s : State} {m : MethodId} {args : Array Value} {below : List Frame} {meth : Method} {c : Code} {D : DD} {A : Nat → Prop} {s0 : State} {ad : AD} {Q : Int32 → TS → Prop} {a1 : Int32} {a2 : Int32} {T : TS} {H : Heap} {locs : List Loc} {ls : Array Slot} (F : FX p l c cX6_choiceOf s args m RX6 D A s0 7 meth (some .int)) (hB : tB D A ad T H) (hS : va_S A s.heap H locs) (hw : wX6_choiceOf a1 a2 T Q) (hl : lv_has ls 7 [(0, .ref (ad 0 0 0)), (1, .int a1), (2, .int a2)]) : W p l e rX6_choiceOf s m args below meth c H locs 0 0 (MQ below (va_Qi Q (fun u t => tB D A ad u t.heap) A) args s 0 0 A) (F0 m 0 ls []) := by
  have hx := F.1.x
  have hb := F.1.b
  unfold wX6_choiceOf at hw
  refine lv_iconst (v := 0) hx hb dX6_choiceOf_0 (by decide) ?_
  refine lv_istore_n (lv' := [(3, .int (0 : Int32)), (0, .ref (ad 0 0 0)), (1, .int a1), (2, .int a2)]) hx hb dX6_choiceOf_1 rfl hl (by decide) rfl (fun ls hl => ?_)
  refine lv_iconst (v := 0) hx hb dX6_choiceOf_2 (by decide) ?_
  refine lv_istore (lv' := [(4, .int (0 : Int32)), (3, .int (0 : Int32)), (0, .ref (ad 0 0 0)), (1, .int a1), (2, .int a2)]) hx hb dX6_choiceOf_3 hl (by decide) rfl (fun ls hl => ?_)
  refine lv_iconst (v := 0) hx hb dX6_choiceOf_5 (by decide) ?_
  refine lv_istore (lv' := [(5, .int (0 : Int32)), (4, .int (0 : Int32)), (3, .int (0 : Int32)), (0, .ref (ad 0 0 0)), (1, .int a1), (2, .int a2)]) hx hb dX6_choiceOf_6 hl (by decide) rfl (fun ls hl => ?_)
  obtain ⟨f_8, hw⟩ := hw
  exact bX6_choiceOf_8 F f_8 _ _ _ _ _ _ hw _ _ _ hB hS (lv_sub hl [3, 4, 5, 2, 1, 0] rfl)
set_option maxHeartbeats 4000000 in
theorem mX6_choiceOf {l : Launch} {D : DD} {A : Nat → Prop} {s0 : State} {ad : AD} {T : TS} {a1 : Int32} {a2 : Int32} {Q : Int32 → TS → Prop} (hw : wX6_choiceOf a1 a2 T Q) : Met l yX6_choiceOf (ws_ yX6_choiceOf cX6_choiceOf 7 (some .int)) rX6_choiceOf (va_Pc [.ref (ad 0 0 0), .int a1, .int a2] (fun U => tB D A ad T U.heap ∧ CX l D A s0 U)) (va_Qi Q (fun u t => tB D A ad u t.heap) A) 0 0 A := by
  refine Met.ofW (cc := cX6_choiceOf) (maxL := 7) (ret := some .int) (by decide) rfl ?_
  intro p e s m args below meth c s₁ B hml hv
  obtain ⟨rfl, hB, hC⟩ := hv
  have F : FX p l c cX6_choiceOf s _ m RX6 D A s0 7 meth (some .int) := ⟨mk_FP B hml rfl, hC⟩
  have hS : va_S A s.heap s.heap [] := va_S.rf
  have hl := lv_entry ([.ref (ad 0 0 0), .int a1, .int a2]) (n := 7) (Nat.le_of_ble_eq_true rfl)
  rw [lg_entry_eq]
  generalize (lg_sl ([.ref (ad 0 0 0), .int a1, .int a2]) ++ List.replicate (7 - (lg_sl ([.ref (ad 0 0 0), .int a1, .int a2])).length) Slot.unset).toArray = ls at hl ⊢
  exact bX6_choiceOf_0 F hB hS hw hl
theorem kX6_X6_choiceOf {p : Program} {l : Launch} {e : Env} {R : Room} {s : State} {m : MethodId} {args : Array Value} {below : List Frame} {meth : Method} {c : Code} {H : Heap} {locs : List Loc} {cells slots : Nat} {Q0 : State → Prop} {cc : ByteArray} {pc nL : Nat} {ls : Array Slot} {rest : List Value} {ret : Option FieldType} {D : DD} {A : Nat → Prop} {s0 : State} {ad : AD} {T : TS} {a1 : Int32} {a2 : Int32} {Q : Int32 → TS → Prop} (F : FX p l c cc s args m RX6 D A s0 nL meth ret) (hB : tB D A ad T H) (hS : va_S A s.heap H locs) (hw : wX6_choiceOf a1 a2 T Q) (hR : rX6_choiceOf.frames + 1 ≤ R.frames ∧ 8 + (7 + 11) + rX6_choiceOf.locals ≤ R.locals) (hc : cells + 0 ≤ R.cells ∧ slots + 0 ≤ R.slots) (hsz : ls.size = nL) (hW : (rest.map fun v => v.category).sum ≤ 8) (hdg : decode cc pc = .ok (.invokevirtual 171, 3)) (kk : ∀ (r : Int32) (u : TS) (H1 : Heap) (locs1 : List Loc), Q r u → tB D A ad u H1 → va_S A s.heap H1 locs1 → W p l e R s m args below meth c H1 locs1 cells slots Q0 (F0 m (pc + 3) ls (.int r :: rest))) : W p l e R s m args below meth c H locs cells slots Q0 (F0 m pc ls (.int a2 :: .int a1 :: .ref (ad 0 0 0) :: rest)) :=
  k_i (Bw := tB D A ad) (k_runV (Bw := tB D A ad) (n := 2) (As := [.int a1, .int a2]) F hB hS (t_recv F hB) (mX6_choiceOf hw) q1491 q1493 qs61 q92 q1494 (by decide +kernel) hR ⟨rfl, rfl⟩ hc rfl hsz rfl hW hdg) hS kk
def rX6_says : Room := { frames := 3, cells := 0, slots := 0, locals := 67 }
set_option maxHeartbeats 4000000 in
theorem bX6_says_68 {p : Program} {l : Launch} {e : Env} {s : State} {m : MethodId} {args : Array Value} {below : List Frame} {meth : Method} {c : Code} {D : DD} {A : Nat → Prop} {s0 : State} {ad : AD} {Q : TS → Prop} {k0 : Int32} {k1 : Int32} {k2 : Int32} {T : TS} {H : Heap} {locs : List Loc} {ls : Array Slot} (F : FX p l c cX6_says s args m RX6 D A s0 5 meth (none)) (hB : tB D A ad T H) (hS : va_S A s.heap H locs) (hw : wX6_says_68 k0 k1 k2 T Q) (hl : lv_has ls 5 []) : W p l e rX6_says s m args below meth c H locs 0 0 (MQ below (va_Qv Q (fun u t => tB D A ad u t.heap) A) args s 0 0 A) (F0 m 68 ls [.int k0, .int k1, .int k2, .ref (ad 1 0 0)]) := by
  have hx := F.1.x
  have hb := F.1.b
  unfold wX6_says_68 at hw
  refine lv_iadd hx hb dX6_says_68 ?_
  obtain ⟨hin, hw⟩ := hw
  refine t_ast F hB hS (k := 0) rfl hin dX6_says_69 (fun H locs hB hS => ?_)
  exact W.vret hx hb F.1.r (fun t ht hW => ⟨⟨_, rfl, hw, x_B (Bw := tB D A ad) ht hB⟩, hS.F ht⟩) hS.2.2 dX6_says_70 (hlocks := F.1.k)
set_option maxHeartbeats 4000000 in
theorem bX6_says_0 {p : Program} {l : Launch} {e : Env} {s : State} {m : MethodId} {args : Array Value} {below : List Frame} {meth : Method} {c : Code} {D : DD} {A : Nat → Prop} {s0 : State} {ad : AD} {Q : TS → Prop} {a1 : Int32} {a2 : Int32} {T : TS} {H : Heap} {locs : List Loc} {ls : Array Slot} (F : FX p l c cX6_says s args m RX6 D A s0 5 meth (none)) (hB : tB D A ad T H) (hS : va_S A s.heap H locs) (hw : wX6_says a1 a2 T Q) (hl : lv_has ls 5 [(0, .ref (ad 0 0 0)), (1, .int a1), (2, .int a2)]) : W p l e rX6_says s m args below meth c H locs 0 0 (MQ below (va_Qv Q (fun u t => tB D A ad u t.heap) A) args s 0 0 A) (F0 m 0 ls []) := by
  have hx := F.1.x
  have hb := F.1.b
  unfold wX6_says at hw
  refine lv_bipush (v := 66) hx hb dX6_says_0 (by decide) ?_
  refine lv_bipush (v := 6) hx hb dX6_says_2 (by decide) ?_
  refine lv_iload_n hx hb dX6_says_4 rfl (lv_at hl 1 rfl) ?_
  refine lv_imul hx hb dX6_says_5 ?_
  refine lv_iadd hx hb dX6_says_6 ?_
  refine lv_istore_n (lv' := [(3, .int ((66 : Int32) + ((6 : Int32) * a1))), (0, .ref (ad 0 0 0)), (1, .int a1), (2, .int a2)]) hx hb dX6_says_7 rfl hl (by decide) rfl (fun ls hl => ?_)
  refine lv_aload_n hx hb dX6_says_8 rfl (lv_at hl 1 rfl) ?_
  refine lv_iload_n hx hb dX6_says_9 rfl (lv_at hl 3 rfl) ?_
  refine kX6_X6_goBy F hB hS hw ⟨Nat.le_of_ble_eq_true rfl, Nat.le_of_ble_eq_true rfl⟩ ⟨Nat.zero_le _, Nat.zero_le _⟩ hl.1 (Nat.le_of_ble_eq_true rfl) dX6_says_10 (fun r1 T2 H locs hw hB hS => ?_)
  refine lv_istore (lv' := [(4, .int r1), (3, .int ((66 : Int32) + ((6 : Int32) * a1))), (0, .ref (ad 0 0 0)), (1, .int a1), (2, .int a2)]) hx hb dX6_says_13 hl (by decide) rfl (fun ls hl => ?_)
  refine lv_aload_n hx hb dX6_says_15 rfl (lv_at hl 2 rfl) ?_
  refine tg_0 F hB dX6_says_16 ?_
  refine lv_iload_n hx hb dX6_says_19 rfl (lv_at hl 1 rfl) ?_
  refine lv_iconst (v := 3) hx hb dX6_says_20 (by decide) ?_
  refine lv_iadd hx hb dX6_says_21 ?_
  refine lv_dup2_11 hx hb dX6_says_22 rfl rfl ?_
  obtain ⟨hin, hw⟩ := hw
  refine t_ald F hB (k := 0) rfl hin dX6_says_23 ?_
  refine lv_iload hx hb dX6_says_24 (lv_at hl 0 rfl) ?_
  refine lv_ior hx hb dX6_says_26 ?_
  obtain ⟨hin, hw⟩ := hw
  refine t_ast F hB hS (k := 0) rfl hin dX6_says_27 (fun H locs hB hS => ?_)
  refine lv_aload_n hx hb dX6_says_28 rfl (lv_at hl 2 rfl) ?_
  refine tg_0 F hB dX6_says_29 ?_
  refine lv_iload_n hx hb dX6_says_32 rfl (lv_at hl 1 rfl) ?_
  refine lv_iconst (v := 4) hx hb dX6_says_33 (by decide) ?_
  refine lv_iadd hx hb dX6_says_34 ?_
  refine lv_dup2_11 hx hb dX6_says_35 rfl rfl ?_
  obtain ⟨hin, hw⟩ := hw
  refine t_ald F hB (k := 0) rfl hin dX6_says_36 ?_
  refine lv_iconst (v := 1) hx hb dX6_says_37 (by decide) ?_
  refine lv_iadd hx hb dX6_says_38 ?_
  obtain ⟨hin, hw⟩ := hw
  refine t_ast F hB hS (k := 0) rfl hin dX6_says_39 (fun H locs hB hS => ?_)
  refine lv_aload_n hx hb dX6_says_40 rfl (lv_at hl 2 rfl) ?_
  refine tg_0 F hB dX6_says_41 ?_
  refine lv_iload_n hx hb dX6_says_44 rfl (lv_at hl 1 rfl) ?_
  refine lv_iconst (v := 5) hx hb dX6_says_45 (by decide) ?_
  refine lv_iadd hx hb dX6_says_46 ?_
  refine lv_dup2_11 hx hb dX6_says_47 rfl rfl ?_
  obtain ⟨hin, hw⟩ := hw
  refine t_ald F hB (k := 0) rfl hin dX6_says_48 ?_
  refine lv_iload hx hb dX6_says_49 (lv_at hl 0 rfl) ?_
  refine lv_aload_n hx hb dX6_says_51 rfl (lv_at hl 2 rfl) ?_
  refine tg_0 F hB dX6_says_52 ?_
  refine lv_iload_n hx hb dX6_says_55 rfl (lv_at hl 1 rfl) ?_
  refine lv_iconst (v := 0) hx hb dX6_says_56 (by decide) ?_
  refine lv_iadd hx hb dX6_says_57 ?_
  obtain ⟨hin, hw⟩ := hw
  refine t_ald F hB (k := 0) rfl hin dX6_says_58 ?_
  refine lv_iand hx hb dX6_says_59 ?_
  refine lv_if_eq (tgt := 67) hx hb dX6_says_60 (by decide) (fun q => ?_) (fun q => ?_)
  · replace hw := hw.1 q
    refine lv_iconst (v := 0) hx hb dX6_says_67 (by decide) ?_
    exact bX6_says_68 F hB hS hw (lv_sub hl [] rfl)
  · replace hw := hw.2 q
    refine lv_iconst (v := 1) hx hb dX6_says_63 (by decide) ?_
    refine lv_goto (tgt := 68) hx hb dX6_says_64 (by decide) ?_
    exact bX6_says_68 F hB hS hw (lv_sub hl [] rfl)
set_option maxHeartbeats 4000000 in
theorem mX6_says {l : Launch} {D : DD} {A : Nat → Prop} {s0 : State} {ad : AD} {T : TS} {a1 : Int32} {a2 : Int32} {Q : TS → Prop} (hw : wX6_says a1 a2 T Q) : Met l yX6_says (ws_ yX6_says cX6_says 5 (none)) rX6_says (va_Pc [.ref (ad 0 0 0), .int a1, .int a2] (fun U => tB D A ad T U.heap ∧ CX l D A s0 U)) (va_Qv Q (fun u t => tB D A ad u t.heap) A) 0 0 A := by
  refine Met.ofW (cc := cX6_says) (maxL := 5) (ret := none) (by decide) rfl ?_
  intro p e s m args below meth c s₁ B hml hv
  obtain ⟨rfl, hB, hC⟩ := hv
  have F : FX p l c cX6_says s _ m RX6 D A s0 5 meth (none) := ⟨mk_FP B hml rfl, hC⟩
  have hS : va_S A s.heap s.heap [] := va_S.rf
  have hl := lv_entry ([.ref (ad 0 0 0), .int a1, .int a2]) (n := 5) (Nat.le_of_ble_eq_true rfl)
  rw [lg_entry_eq]
  generalize (lg_sl ([.ref (ad 0 0 0), .int a1, .int a2]) ++ List.replicate (5 - (lg_sl ([.ref (ad 0 0 0), .int a1, .int a2])).length) Slot.unset).toArray = ls at hl ⊢
  exact bX6_says_0 F hB hS hw hl
theorem kX6_X6_says {p : Program} {l : Launch} {e : Env} {R : Room} {s : State} {m : MethodId} {args : Array Value} {below : List Frame} {meth : Method} {c : Code} {H : Heap} {locs : List Loc} {cells slots : Nat} {Q0 : State → Prop} {cc : ByteArray} {pc nL : Nat} {ls : Array Slot} {rest : List Value} {ret : Option FieldType} {D : DD} {A : Nat → Prop} {s0 : State} {ad : AD} {T : TS} {a1 : Int32} {a2 : Int32} {Q : TS → Prop} (F : FX p l c cc s args m RX6 D A s0 nL meth ret) (hB : tB D A ad T H) (hS : va_S A s.heap H locs) (hw : wX6_says a1 a2 T Q) (hR : rX6_says.frames + 1 ≤ R.frames ∧ 8 + (5 + 11) + rX6_says.locals ≤ R.locals) (hc : cells + 0 ≤ R.cells ∧ slots + 0 ≤ R.slots) (hsz : ls.size = nL) (hW : (rest.map fun v => v.category).sum ≤ 8) (hdg : decode cc pc = .ok (.invokevirtual 161, 3)) (kk : ∀ (u : TS) (H1 : Heap) (locs1 : List Loc), Q u → tB D A ad u H1 → va_S A s.heap H1 locs1 → W p l e R s m args below meth c H1 locs1 cells slots Q0 (F0 m (pc + 3) ls (rest))) : W p l e R s m args below meth c H locs cells slots Q0 (F0 m pc ls (.int a2 :: .int a1 :: .ref (ad 0 0 0) :: rest)) :=
  k_v (Bw := tB D A ad) (k_runV (Bw := tB D A ad) (n := 2) (As := [.int a1, .int a2]) F hB hS (t_recv F hB) (mX6_says hw) q1483 q1485 qs60 q92 q1486 (by decide +kernel) hR ⟨rfl, rfl⟩ hc rfl hsz rfl hW hdg) hS kk
def rX6_rounded : Room := { frames := 5, cells := 0, slots := 0, locals := 117 }
set_option maxHeartbeats 4000000 in
theorem bX6_rounded_61 {p : Program} {l : Launch} {e : Env} {s : State} {m : MethodId} {args : Array Value} {below : List Frame} {meth : Method} {c : Code} {D : DD} {A : Nat → Prop} {s0 : State} {ad : AD} {Q : Int32 → TS → Prop} {k_4 : Int32 → Int32 → Int32 → TS → Prop} {l1 : Int32} {l2 : Int32} {l3 : Int32} {T : TS} {H : Heap} {locs : List Loc} {ls : Array Slot} (F : FX p l c cX6_rounded s args m RX6 D A s0 6 meth (some .int)) (h_4 : ∀ (l1 : Int32) (l2 : Int32) (l3 : Int32) (T : TS), k_4 l1 l2 l3 T → ∀ (H : Heap) (locs : List Loc) (ls : Array Slot), tB D A ad T H → va_S A s.heap H locs → lv_has ls 6 [(0, .ref (ad 0 0 0)), (1, .int l1), (2, .int l2), (3, .int l3)] → W p l e rX6_rounded s m args below meth c H locs 0 0 (MQ below (va_Qi Q (fun u t => tB D A ad u t.heap) A) args s 0 0 A) (F0 m 4 ls [])) (hB : tB D A ad T H) (hS : va_S A s.heap H locs) (hw : wX6_rounded_61 k_4 l1 l2 l3 T Q) (hl : lv_has ls 6 [(0, .ref (ad 0 0 0)), (1, .int l1), (2, .int l2), (3, .int l3)]) : W p l e rX6_rounded s m args below meth c H locs 0 0 (MQ below (va_Qi Q (fun u t => tB D A ad u t.heap) A) args s 0 0 A) (F0 m 61 ls []) := by
  have hx := F.1.x
  have hb := F.1.b
  unfold wX6_rounded_61 at hw
  refine lv_iinc (v := l3 + (1 : Int32)) (lv' := [(3, .int (l3 + (1 : Int32))), (0, .ref (ad 0 0 0)), (1, .int l1), (2, .int l2)]) hx hb dX6_rounded_61 hl (k := 3) rfl (x_inc (by decide)) (by decide) rfl (fun ls hl => ?_)
  refine lv_goto (tgt := 4) hx hb dX6_rounded_64 (by decide) ?_
  exact h_4 _ _ _ _ hw _ _ _ hB hS (lv_sub hl [1, 2, 3, 0] rfl)
set_option maxHeartbeats 4000000 in
theorem bX6_rounded_44 {p : Program} {l : Launch} {e : Env} {s : State} {m : MethodId} {args : Array Value} {below : List Frame} {meth : Method} {c : Code} {D : DD} {A : Nat → Prop} {s0 : State} {ad : AD} {Q : Int32 → TS → Prop} {k_4 : Int32 → Int32 → Int32 → TS → Prop} {l1 : Int32} {l2 : Int32} {l3 : Int32} {k0 : Int32} {T : TS} {H : Heap} {locs : List Loc} {ls : Array Slot} (F : FX p l c cX6_rounded s args m RX6 D A s0 6 meth (some .int)) (h_4 : ∀ (l1 : Int32) (l2 : Int32) (l3 : Int32) (T : TS), k_4 l1 l2 l3 T → ∀ (H : Heap) (locs : List Loc) (ls : Array Slot), tB D A ad T H → va_S A s.heap H locs → lv_has ls 6 [(0, .ref (ad 0 0 0)), (1, .int l1), (2, .int l2), (3, .int l3)] → W p l e rX6_rounded s m args below meth c H locs 0 0 (MQ below (va_Qi Q (fun u t => tB D A ad u t.heap) A) args s 0 0 A) (F0 m 4 ls [])) (hB : tB D A ad T H) (hS : va_S A s.heap H locs) (hw : wX6_rounded_44 k_4 l1 l2 l3 k0 T Q) (hl : lv_has ls 6 [(0, .ref (ad 0 0 0)), (1, .int l1), (2, .int l2), (3, .int l3)]) : W p l e rX6_rounded s m args below meth c H locs 0 0 (MQ below (va_Qi Q (fun u t => tB D A ad u t.heap) A) args s 0 0 A) (F0 m 44 ls [.int k0]) := by
  have hx := F.1.x
  have hb := F.1.b
  unfold wX6_rounded_44 at hw
  refine lv_istore (lv' := [(5, .int k0), (0, .ref (ad 0 0 0)), (1, .int l1), (2, .int l2), (3, .int l3)]) hx hb dX6_rounded_44 hl (by decide) rfl (fun ls hl => ?_)
  refine lv_iload hx hb dX6_rounded_46 (lv_at hl 0 rfl) ?_
  refine lv_if_lt (tgt := 61) hx hb dX6_rounded_48 (by decide) (fun q => ?_) (fun q => ?_)
  · replace hw := hw.1 q
    exact bX6_rounded_61 F h_4 hB hS hw (lv_sub hl [1, 2, 3, 4] rfl)
  · replace hw := hw.2 q
    refine lv_aload_n hx hb dX6_rounded_51 rfl (lv_at hl 1 rfl) ?_
    refine lv_iload_n hx hb dX6_rounded_52 rfl (lv_at hl 2 rfl) ?_
    refine lv_iload hx hb dX6_rounded_53 (lv_at hl 0 rfl) ?_
    refine kX6_X6_says F hB hS hw ⟨Nat.le_of_ble_eq_true rfl, Nat.le_of_ble_eq_true rfl⟩ ⟨Nat.zero_le _, Nat.zero_le _⟩ hl.1 (Nat.le_of_ble_eq_true rfl) dX6_rounded_55 (fun T2 H locs hw hB hS => ?_)
    refine lv_iinc (v := l2 + (1 : Int32)) (lv' := [(2, .int (l2 + (1 : Int32))), (5, .int k0), (0, .ref (ad 0 0 0)), (1, .int l1), (3, .int l3)]) hx hb dX6_rounded_58 hl (k := 3) rfl (x_inc (by decide)) (by decide) rfl (fun ls hl => ?_)
    exact bX6_rounded_61 F h_4 hB hS hw (lv_sub hl [2, 3, 0, 4] rfl)
set_option maxHeartbeats 4000000 in
theorem bX6_rounded_4 {p : Program} {l : Launch} {e : Env} {s : State} {m : MethodId} {args : Array Value} {below : List Frame} {meth : Method} {c : Code} {D : DD} {A : Nat → Prop} {s0 : State} {ad : AD} {Q : Int32 → TS → Prop} (F : FX p l c cX6_rounded s args m RX6 D A s0 6 meth (some .int)) : ∀ (n : Nat) (l1 : Int32) (l2 : Int32) (l3 : Int32) (T : TS), wX6_rounded_4 Q n l1 l2 l3 T → ∀ (H : Heap) (locs : List Loc) (ls : Array Slot), tB D A ad T H → va_S A s.heap H locs → lv_has ls 6 [(0, .ref (ad 0 0 0)), (1, .int l1), (2, .int l2), (3, .int l3)] → W p l e rX6_rounded s m args below meth c H locs 0 0 (MQ below (va_Qi Q (fun u t => tB D A ad u t.heap) A) args s 0 0 A) (F0 m 4 ls []) := by
  have hx := F.1.x
  have hb := F.1.b
  intro n
  induction n with
  | zero => intro l1 l2 l3 T hw; exact hw.elim
  | succ n ih =>
    intro l1 l2 l3 T hw H locs ls hB hS hl
    unfold wX6_rounded_4 at hw
    refine lv_iload_n hx hb dX6_rounded_4 rfl (lv_at hl 3 rfl) ?_
    refine lv_aload_n hx hb dX6_rounded_5 rfl (lv_at hl 0 rfl) ?_
    refine tg_0 F hB dX6_rounded_6 ?_
    refine lv_iconst (v := 0) hx hb dX6_rounded_9 (by decide) ?_
    obtain ⟨hin, hw⟩ := hw
    refine t_ald F hB (k := 0) rfl hin dX6_rounded_10 ?_
    refine lv_icmp_ge (tgt := 67) hx hb dX6_rounded_11 (by decide) (fun q => ?_) (fun q => ?_)
    · replace hw := hw.1 q
      refine lv_iload_n hx hb dX6_rounded_67 rfl (lv_at hl 2 rfl) ?_
      exact W.iret hx hb F.1.r (fun t ht hW => ⟨⟨_, _, rfl, hw, x_B (Bw := tB D A ad) ht hB⟩, hS.F ht⟩) hS.2.2 dX6_rounded_68 (hlocks := F.1.k)
    · replace hw := hw.2 q
      refine lv_aload_n hx hb dX6_rounded_14 rfl (lv_at hl 0 rfl) ?_
      refine kX6_X6_drawn F hB hS hw ⟨Nat.le_of_ble_eq_true rfl, Nat.le_of_ble_eq_true rfl⟩ ⟨Nat.zero_le _, Nat.zero_le _⟩ hl.1 (Nat.le_of_ble_eq_true rfl) dX6_rounded_15 (fun r1 T2 H locs hw hB hS => ?_)
      refine lv_bipush (v := 100) hx hb dX6_rounded_18 (by decide) ?_
      refine lv_irem hx hb dX6_rounded_20 (by decide) ?_
      refine lv_istore (lv' := [(4, .int (r1 - r1 / (100 : Int32) * (100 : Int32))), (0, .ref (ad 0 0 0)), (1, .int l1), (2, .int l2), (3, .int l3)]) hx hb dX6_rounded_21 hl (by decide) rfl (fun ls hl => ?_)
      refine lv_iload hx hb dX6_rounded_23 (lv_at hl 0 rfl) ?_
      refine lv_aload_n hx hb dX6_rounded_25 rfl (lv_at hl 1 rfl) ?_
      refine lv_iload_n hx hb dX6_rounded_26 rfl (lv_at hl 4 rfl) ?_
      refine lv_iload_n hx hb dX6_rounded_27 rfl (lv_at hl 2 rfl) ?_
      refine kX6_X6_boldness F hB hS hw ⟨Nat.le_of_ble_eq_true rfl, Nat.le_of_ble_eq_true rfl⟩ ⟨Nat.zero_le _, Nat.zero_le _⟩ hl.1 (Nat.le_of_ble_eq_true rfl) dX6_rounded_28 (fun r3 T4 H locs hw hB hS => ?_)
      refine lv_icmp_ge (tgt := 43) hx hb dX6_rounded_31 (by decide) (fun q => ?_) (fun q => ?_)
      · replace hw := hw.1 q
        refine lv_iconst (v := -1) hx hb dX6_rounded_43 (by decide) ?_
        exact bX6_rounded_44 F ih hB hS hw (lv_sub hl [1, 2, 3, 4] rfl)
      · replace hw := hw.2 q
        refine lv_aload_n hx hb dX6_rounded_34 rfl (lv_at hl 1 rfl) ?_
        refine lv_iload_n hx hb dX6_rounded_35 rfl (lv_at hl 4 rfl) ?_
        refine lv_iload_n hx hb dX6_rounded_36 rfl (lv_at hl 2 rfl) ?_
        refine kX6_X6_choiceOf F hB hS hw ⟨Nat.le_of_ble_eq_true rfl, Nat.le_of_ble_eq_true rfl⟩ ⟨Nat.zero_le _, Nat.zero_le _⟩ hl.1 (Nat.le_of_ble_eq_true rfl) dX6_rounded_37 (fun r5 T6 H locs hw hB hS => ?_)
        refine lv_goto (tgt := 44) hx hb dX6_rounded_40 (by decide) ?_
        exact bX6_rounded_44 F ih hB hS hw (lv_sub hl [1, 2, 3, 4] rfl)
set_option maxHeartbeats 4000000 in
theorem bX6_rounded_0 {p : Program} {l : Launch} {e : Env} {s : State} {m : MethodId} {args : Array Value} {below : List Frame} {meth : Method} {c : Code} {D : DD} {A : Nat → Prop} {s0 : State} {ad : AD} {Q : Int32 → TS → Prop} {a1 : Int32} {T : TS} {H : Heap} {locs : List Loc} {ls : Array Slot} (F : FX p l c cX6_rounded s args m RX6 D A s0 6 meth (some .int)) (hB : tB D A ad T H) (hS : va_S A s.heap H locs) (hw : wX6_rounded a1 T Q) (hl : lv_has ls 6 [(0, .ref (ad 0 0 0)), (1, .int a1)]) : W p l e rX6_rounded s m args below meth c H locs 0 0 (MQ below (va_Qi Q (fun u t => tB D A ad u t.heap) A) args s 0 0 A) (F0 m 0 ls []) := by
  have hx := F.1.x
  have hb := F.1.b
  unfold wX6_rounded at hw
  refine lv_iconst (v := 0) hx hb dX6_rounded_0 (by decide) ?_
  refine lv_istore_n (lv' := [(2, .int (0 : Int32)), (0, .ref (ad 0 0 0)), (1, .int a1)]) hx hb dX6_rounded_1 rfl hl (by decide) rfl (fun ls hl => ?_)
  refine lv_iconst (v := 0) hx hb dX6_rounded_2 (by decide) ?_
  refine lv_istore_n (lv' := [(3, .int (0 : Int32)), (2, .int (0 : Int32)), (0, .ref (ad 0 0 0)), (1, .int a1)]) hx hb dX6_rounded_3 rfl hl (by decide) rfl (fun ls hl => ?_)
  obtain ⟨f_4, hw⟩ := hw
  exact bX6_rounded_4 F f_4 _ _ _ _ hw _ _ _ hB hS (lv_sub hl [2, 3, 1, 0] rfl)
set_option maxHeartbeats 4000000 in
theorem mX6_rounded {l : Launch} {D : DD} {A : Nat → Prop} {s0 : State} {ad : AD} {T : TS} {a1 : Int32} {Q : Int32 → TS → Prop} (hw : wX6_rounded a1 T Q) : Met l yX6_rounded (ws_ yX6_rounded cX6_rounded 6 (some .int)) rX6_rounded (va_Pc [.ref (ad 0 0 0), .int a1] (fun U => tB D A ad T U.heap ∧ CX l D A s0 U)) (va_Qi Q (fun u t => tB D A ad u t.heap) A) 0 0 A := by
  refine Met.ofW (cc := cX6_rounded) (maxL := 6) (ret := some .int) (by decide) rfl ?_
  intro p e s m args below meth c s₁ B hml hv
  obtain ⟨rfl, hB, hC⟩ := hv
  have F : FX p l c cX6_rounded s _ m RX6 D A s0 6 meth (some .int) := ⟨mk_FP B hml rfl, hC⟩
  have hS : va_S A s.heap s.heap [] := va_S.rf
  have hl := lv_entry ([.ref (ad 0 0 0), .int a1]) (n := 6) (Nat.le_of_ble_eq_true rfl)
  rw [lg_entry_eq]
  generalize (lg_sl ([.ref (ad 0 0 0), .int a1]) ++ List.replicate (6 - (lg_sl ([.ref (ad 0 0 0), .int a1])).length) Slot.unset).toArray = ls at hl ⊢
  exact bX6_rounded_0 F hB hS hw hl
theorem kX6_X6_rounded {p : Program} {l : Launch} {e : Env} {R : Room} {s : State} {m : MethodId} {args : Array Value} {below : List Frame} {meth : Method} {c : Code} {H : Heap} {locs : List Loc} {cells slots : Nat} {Q0 : State → Prop} {cc : ByteArray} {pc nL : Nat} {ls : Array Slot} {rest : List Value} {ret : Option FieldType} {D : DD} {A : Nat → Prop} {s0 : State} {ad : AD} {T : TS} {a1 : Int32} {Q : Int32 → TS → Prop} (F : FX p l c cc s args m RX6 D A s0 nL meth ret) (hB : tB D A ad T H) (hS : va_S A s.heap H locs) (hw : wX6_rounded a1 T Q) (hR : rX6_rounded.frames + 1 ≤ R.frames ∧ 8 + (6 + 11) + rX6_rounded.locals ≤ R.locals) (hc : cells + 0 ≤ R.cells ∧ slots + 0 ≤ R.slots) (hsz : ls.size = nL) (hW : (rest.map fun v => v.category).sum ≤ 8) (hdg : decode cc pc = .ok (.invokevirtual 182, 3)) (kk : ∀ (r : Int32) (u : TS) (H1 : Heap) (locs1 : List Loc), Q r u → tB D A ad u H1 → va_S A s.heap H1 locs1 → W p l e R s m args below meth c H1 locs1 cells slots Q0 (F0 m (pc + 3) ls (.int r :: rest))) : W p l e R s m args below meth c H locs cells slots Q0 (F0 m pc ls (.int a1 :: .ref (ad 0 0 0) :: rest)) :=
  k_i (Bw := tB D A ad) (k_runV (Bw := tB D A ad) (n := 1) (As := [.int a1]) F hB hS (t_recv F hB) (mX6_rounded hw) q1510 q1512 qs62 q92 q1513 (by decide +kernel) hR ⟨rfl, rfl⟩ hc rfl hsz rfl hW hdg) hS kk
def rX6_check : Room := { frames := 6, cells := 0, slots := 0, locals := 142 }
set_option maxHeartbeats 4000000 in
theorem bX6_check_188 {p : Program} {l : Launch} {e : Env} {s : State} {m : MethodId} {args : Array Value} {below : List Frame} {meth : Method} {c : Code} {D : DD} {A : Nat → Prop} {s0 : State} {ad : AD} {Q : Int32 → TS → Prop} {l2 : Int32} {l3 : Int32} {l4 : Int32} {T : TS} {H : Heap} {locs : List Loc} {ls : Array Slot} (F : FX p l c cX6_check s args m RX6 D A s0 6 meth (some .int)) (hB : tB D A ad T H) (hS : va_S A s.heap H locs) (hw : wX6_check_188 l2 l3 l4 T Q) (hl : lv_has ls 6 [(2, .int l2), (3, .int l3), (4, .int l4)]) : W p l e rX6_check s m args below meth c H locs 0 0 (MQ below (va_Qi Q (fun u t => tB D A ad u t.heap) A) args s 0 0 A) (F0 m 188 ls []) := by
  have hx := F.1.x
  have hb := F.1.b
  unfold wX6_check_188 at hw
  refine lv_iload hx hb dX6_check_188 (lv_at hl 2 rfl) ?_
  refine lv_iload_n hx hb dX6_check_190 rfl (lv_at hl 1 rfl) ?_
  refine lv_icmp_ne (tgt := 206) hx hb dX6_check_191 (by decide) (fun q => ?_) (fun q => ?_)
  · replace hw := hw.2 q
    refine lv_iconst (v := 1) hx hb dX6_check_206 (by decide) ?_
    refine lv_iload hx hb dX6_check_207 (lv_at hl 2 rfl) ?_
    refine lv_iadd hx hb dX6_check_209 ?_
    exact W.iret hx hb F.1.r (fun t ht hW => ⟨⟨_, _, rfl, hw, x_B (Bw := tB D A ad) ht hB⟩, hS.F ht⟩) hS.2.2 dX6_check_210 (hlocks := F.1.k)
  · replace hw := hw.1 q
    refine lv_iload hx hb dX6_check_194 (lv_at hl 2 rfl) ?_
    refine lv_iconst (v := 2) hx hb dX6_check_196 (by decide) ?_
    refine lv_iload_n hx hb dX6_check_197 rfl (lv_at hl 0 rfl) ?_
    refine lv_imul hx hb dX6_check_198 ?_
    refine lv_icmp_ne (tgt := 206) hx hb dX6_check_199 (by decide) (fun q => ?_) (fun q => ?_)
    · replace hw := hw.2 q
      refine lv_iconst (v := 1) hx hb dX6_check_206 (by decide) ?_
      refine lv_iload hx hb dX6_check_207 (lv_at hl 2 rfl) ?_
      refine lv_iadd hx hb dX6_check_209 ?_
      exact W.iret hx hb F.1.r (fun t ht hW => ⟨⟨_, _, rfl, hw, x_B (Bw := tB D A ad) ht hB⟩, hS.F ht⟩) hS.2.2 dX6_check_210 (hlocks := F.1.k)
    · replace hw := hw.1 q
      refine lv_iconst (v := 0) hx hb dX6_check_202 (by decide) ?_
      refine lv_goto (tgt := 210) hx hb dX6_check_203 (by decide) ?_
      exact W.iret hx hb F.1.r (fun t ht hW => ⟨⟨_, _, rfl, hw, x_B (Bw := tB D A ad) ht hB⟩, hS.F ht⟩) hS.2.2 dX6_check_210 (hlocks := F.1.k)
set_option maxHeartbeats 4000000 in
theorem bX6_check_151 {p : Program} {l : Launch} {e : Env} {s : State} {m : MethodId} {args : Array Value} {below : List Frame} {meth : Method} {c : Code} {D : DD} {A : Nat → Prop} {s0 : State} {ad : AD} {Q : Int32 → TS → Prop} (F : FX p l c cX6_check s args m RX6 D A s0 6 meth (some .int)) : ∀ (n : Nat) (l2 : Int32) (l3 : Int32) (l4 : Int32) (T : TS), wX6_check_151 Q n l2 l3 l4 T → ∀ (H : Heap) (locs : List Loc) (ls : Array Slot), tB D A ad T H → va_S A s.heap H locs → lv_has ls 6 [(0, .ref (ad 0 0 0)), (2, .int l2), (3, .int l3), (4, .int l4)] → W p l e rX6_check s m args below meth c H locs 0 0 (MQ below (va_Qi Q (fun u t => tB D A ad u t.heap) A) args s 0 0 A) (F0 m 151 ls []) := by
  have hx := F.1.x
  have hb := F.1.b
  intro n
  induction n with
  | zero => intro l2 l3 l4 T hw; exact hw.elim
  | succ n ih =>
    intro l2 l3 l4 T hw H locs ls hB hS hl
    unfold wX6_check_151 at hw
    refine lv_iload hx hb dX6_check_151 (lv_at hl 3 rfl) ?_
    refine lv_iload_n hx hb dX6_check_153 rfl (lv_at hl 2 rfl) ?_
    refine lv_icmp_ge (tgt := 188) hx hb dX6_check_154 (by decide) (fun q => ?_) (fun q => ?_)
    · replace hw := hw.1 q
      exact bX6_check_188 F hB hS hw (lv_sub hl [1, 2, 3] rfl)
    · replace hw := hw.2 q
      refine lv_iload hx hb dX6_check_157 (lv_at hl 3 rfl) ?_
      refine lv_iconst (v := 2) hx hb dX6_check_159 (by decide) ?_
      refine lv_iload_n hx hb dX6_check_160 rfl (lv_at hl 1 rfl) ?_
      refine lv_imul hx hb dX6_check_161 ?_
      refine lv_icmp_ge (tgt := 188) hx hb dX6_check_162 (by decide) (fun q => ?_) (fun q => ?_)
      · replace hw := hw.1 q
        exact bX6_check_188 F hB hS hw (lv_sub hl [1, 2, 3] rfl)
      · replace hw := hw.2 q
        refine lv_aload_n hx hb dX6_check_165 rfl (lv_at hl 0 rfl) ?_
        refine tg_28 F hB dX6_check_166 ?_
        refine lv_iload hx hb dX6_check_169 (lv_at hl 3 rfl) ?_
        obtain ⟨hin, hw⟩ := hw
        refine t_ald F hB (k := 28) rfl hin dX6_check_171 ?_
        refine lv_aload_n hx hb dX6_check_172 rfl (lv_at hl 0 rfl) ?_
        refine tg_30 F hB dX6_check_173 ?_
        refine lv_iload hx hb dX6_check_176 (lv_at hl 3 rfl) ?_
        obtain ⟨hin, hw⟩ := hw
        refine t_ald F hB (k := 30) rfl hin dX6_check_178 ?_
        refine lv_icmp_ne (tgt := 188) hx hb dX6_check_179 (by decide) (fun q => ?_) (fun q => ?_)
        · replace hw := hw.2 q
          exact bX6_check_188 F hB hS hw (lv_sub hl [1, 2, 3] rfl)
        · replace hw := hw.1 q
          refine lv_iinc (v := l4 + (1 : Int32)) (lv' := [(4, .int (l4 + (1 : Int32))), (0, .ref (ad 0 0 0)), (2, .int l2), (3, .int l3)]) hx hb dX6_check_182 hl (k := 3) rfl (x_inc (by decide)) (by decide) rfl (fun ls hl => ?_)
          refine lv_goto (tgt := 151) hx hb dX6_check_185 (by decide) ?_
          exact ih _ _ _ _ hw _ _ _ hB hS (lv_sub hl [1, 2, 3, 0] rfl)
set_option maxHeartbeats 4000000 in
theorem bX6_check_83 {p : Program} {l : Launch} {e : Env} {s : State} {m : MethodId} {args : Array Value} {below : List Frame} {meth : Method} {c : Code} {D : DD} {A : Nat → Prop} {s0 : State} {ad : AD} {Q : Int32 → TS → Prop} (F : FX p l c cX6_check s args m RX6 D A s0 6 meth (some .int)) : ∀ (n : Nat) (l1 : Int32) (l2 : Int32) (l3 : Int32) (l4 : Int32) (T : TS), wX6_check_83 Q n l1 l2 l3 l4 T → ∀ (H : Heap) (locs : List Loc) (ls : Array Slot), tB D A ad T H → va_S A s.heap H locs → lv_has ls 6 [(0, .ref (ad 0 0 0)), (1, .int l1), (2, .int l2), (3, .int l3), (4, .int l4)] → W p l e rX6_check s m args below meth c H locs 0 0 (MQ below (va_Qi Q (fun u t => tB D A ad u t.heap) A) args s 0 0 A) (F0 m 83 ls []) := by
  have hx := F.1.x
  have hb := F.1.b
  intro n
  induction n with
  | zero => intro l1 l2 l3 l4 T hw; exact hw.elim
  | succ n ih =>
    intro l1 l2 l3 l4 T hw H locs ls hB hS hl
    unfold wX6_check_83 at hw
    refine lv_iload hx hb dX6_check_83 (lv_at hl 4 rfl) ?_
    refine lv_iload_n hx hb dX6_check_85 rfl (lv_at hl 2 rfl) ?_
    refine lv_icmp_ge (tgt := 136) hx hb dX6_check_86 (by decide) (fun q => ?_) (fun q => ?_)
    · replace hw := hw.1 q
      refine lv_aload_n hx hb dX6_check_136 rfl (lv_at hl 0 rfl) ?_
      refine lv_aload_n hx hb dX6_check_137 rfl (lv_at hl 0 rfl) ?_
      refine tg_2 F hB dX6_check_138 ?_
      refine lv_aload_n hx hb dX6_check_141 rfl (lv_at hl 0 rfl) ?_
      refine tg_0 F hB dX6_check_142 ?_
      refine kX6_X6_setAside F hB hS hw ⟨Nat.le_of_ble_eq_true rfl, Nat.le_of_ble_eq_true rfl⟩ ⟨Nat.zero_le _, Nat.zero_le _⟩ hl.1 (Nat.le_of_ble_eq_true rfl) dX6_check_145 (fun T2 H locs hw hB hS => ?_)
      refine lv_iconst (v := 0) hx hb dX6_check_148 (by decide) ?_
      refine lv_istore (lv' := [(4, .int (0 : Int32)), (0, .ref (ad 0 0 0)), (1, .int l1), (2, .int l2), (3, .int l3)]) hx hb dX6_check_149 hl (by decide) rfl (fun ls hl => ?_)
      obtain ⟨f_151, hw⟩ := hw
      exact bX6_check_151 F f_151 _ _ _ _ hw _ _ _ hB hS (lv_sub hl [1, 3, 4, 0] rfl)
    · replace hw := hw.2 q
      refine lv_aload_n hx hb dX6_check_89 rfl (lv_at hl 0 rfl) ?_
      refine lv_iload_n hx hb dX6_check_90 rfl (lv_at hl 1 rfl) ?_
      refine kX6_X6_rounded F hB hS hw ⟨Nat.le_of_ble_eq_true rfl, Nat.le_of_ble_eq_true rfl⟩ ⟨Nat.zero_le _, Nat.zero_le _⟩ hl.1 (Nat.le_of_ble_eq_true rfl) dX6_check_91 (fun r3 T4 H locs hw hB hS => ?_)
      refine lv_istore (lv' := [(5, .int r3), (0, .ref (ad 0 0 0)), (1, .int l1), (2, .int l2), (3, .int l3), (4, .int l4)]) hx hb dX6_check_94 hl (by decide) rfl (fun ls hl => ?_)
      refine lv_aload_n hx hb dX6_check_96 rfl (lv_at hl 1 rfl) ?_
      refine tg_30 F hB dX6_check_97 ?_
      refine lv_iconst (v := 2) hx hb dX6_check_100 (by decide) ?_
      refine lv_iload hx hb dX6_check_101 (lv_at hl 5 rfl) ?_
      refine lv_imul hx hb dX6_check_103 ?_
      refine lv_aload_n hx hb dX6_check_104 rfl (lv_at hl 1 rfl) ?_
      refine lv_iload_n hx hb dX6_check_105 rfl (lv_at hl 2 rfl) ?_
      refine kX6_X6_left F hB hS hw ⟨Nat.le_of_ble_eq_true rfl, Nat.le_of_ble_eq_true rfl⟩ ⟨Nat.zero_le _, Nat.zero_le _⟩ hl.1 (Nat.le_of_ble_eq_true rfl) dX6_check_106 (fun r5 T6 H locs hw hB hS => ?_)
      refine kX6_X6_ones F.1 hw ⟨Nat.le_of_ble_eq_true rfl, Nat.le_of_ble_eq_true rfl⟩ ⟨Nat.zero_le _, Nat.zero_le _⟩ hl.1 (Nat.le_of_ble_eq_true rfl) dX6_check_109 (fun r7 hw => ?_)
      obtain ⟨hin, hw⟩ := hw
      refine t_ast F hB hS (k := 30) rfl hin dX6_check_112 (fun H locs hB hS => ?_)
      refine lv_aload_n hx hb dX6_check_113 rfl (lv_at hl 1 rfl) ?_
      refine tg_30 F hB dX6_check_114 ?_
      refine lv_iconst (v := 2) hx hb dX6_check_117 (by decide) ?_
      refine lv_iload hx hb dX6_check_118 (lv_at hl 5 rfl) ?_
      refine lv_imul hx hb dX6_check_120 ?_
      refine lv_iconst (v := 1) hx hb dX6_check_121 (by decide) ?_
      refine lv_iadd hx hb dX6_check_122 ?_
      refine lv_aload_n hx hb dX6_check_123 rfl (lv_at hl 1 rfl) ?_
      refine lv_iload_n hx hb dX6_check_124 rfl (lv_at hl 2 rfl) ?_
      refine lv_iconst (v := 5) hx hb dX6_check_125 (by decide) ?_
      refine kX6_X6_dee F hB hS hw ⟨Nat.le_of_ble_eq_true rfl, Nat.le_of_ble_eq_true rfl⟩ ⟨Nat.zero_le _, Nat.zero_le _⟩ hl.1 (Nat.le_of_ble_eq_true rfl) dX6_check_126 (fun r8 T9 H locs hw hB hS => ?_)
      obtain ⟨hin, hw⟩ := hw
      refine t_ast F hB hS (k := 30) rfl hin dX6_check_129 (fun H locs hB hS => ?_)
      refine lv_iinc (v := l4 + (1 : Int32)) (lv' := [(4, .int (l4 + (1 : Int32))), (5, .int r3), (0, .ref (ad 0 0 0)), (1, .int l1), (2, .int l2), (3, .int l3)]) hx hb dX6_check_130 hl (k := 5) rfl (x_inc (by decide)) (by decide) rfl (fun ls hl => ?_)
      refine lv_goto (tgt := 83) hx hb dX6_check_133 (by decide) ?_
      exact ih _ _ _ _ _ hw _ _ _ hB hS (lv_sub hl [2, 3, 4, 5, 0] rfl)
set_option maxHeartbeats 4000000 in
theorem bX6_check_0 {p : Program} {l : Launch} {e : Env} {s : State} {m : MethodId} {args : Array Value} {below : List Frame} {meth : Method} {c : Code} {D : DD} {A : Nat → Prop} {s0 : State} {ad : AD} {Q : Int32 → TS → Prop} {a1 : Int32} {a2 : Int32} {T : TS} {H : Heap} {locs : List Loc} {ls : Array Slot} (F : FX p l c cX6_check s args m RX6 D A s0 6 meth (some .int)) (hB : tB D A ad T H) (hS : va_S A s.heap H locs) (hw : wX6_check a1 a2 T Q) (hl : lv_has ls 6 [(0, .ref (ad 0 0 0)), (1, .int a1), (2, .int a2)]) : W p l e rX6_check s m args below meth c H locs 0 0 (MQ below (va_Qi Q (fun u t => tB D A ad u t.heap) A) args s 0 0 A) (F0 m 0 ls []) := by
  have hx := F.1.x
  have hb := F.1.b
  unfold wX6_check at hw
  refine lv_aload_n hx hb dX6_check_0 rfl (lv_at hl 0 rfl) ?_
  refine tg_29 F hB dX6_check_1 ?_
  refine lv_istore_n (lv' := [(3, .int (T.1 29)), (0, .ref (ad 0 0 0)), (1, .int a1), (2, .int a2)]) hx hb dX6_check_4 rfl hl (by decide) rfl (fun ls hl => ?_)
  refine lv_aload_n hx hb dX6_check_5 rfl (lv_at hl 1 rfl) ?_
  refine lv_iconst (v := 0) hx hb dX6_check_6 (by decide) ?_
  refine tp_29 F hB hS dX6_check_7 (fun H locs hB hS => ?_)
  refine lv_iload_n hx hb dX6_check_10 rfl (lv_at hl 3 rfl) ?_
  refine lv_i2l hx hb dX6_check_11 rfl ?_
  refine lv_lconst (v := 1) hx hb dX6_check_12 (by decide) ?_
  refine lv_ldc2 hx hb F.1.o (F.1.t _ q1692) dX6_check_13 ?_
  refine kX6_X6_isIn F.1 hw ⟨Nat.le_of_ble_eq_true rfl, Nat.le_of_ble_eq_true rfl⟩ ⟨Nat.zero_le _, Nat.zero_le _⟩ hl.1 (Nat.le_of_ble_eq_true rfl) dX6_check_16 (fun r1 hw => ?_)
  refine lv_if_ne (tgt := 25) hx hb dX6_check_19 (by decide) (fun q => ?_) (fun q => ?_)
  · replace hw := hw.2 q
    refine lv_aload_n hx hb dX6_check_25 rfl (lv_at hl 1 rfl) ?_
    refine tg_3 F hB dX6_check_26 ?_
    refine lv_if_ne (tgt := 35) hx hb dX6_check_29 (by decide) (fun q => ?_) (fun q => ?_)
    · replace hw := hw.2 q
      refine lv_iload_n hx hb dX6_check_35 rfl (lv_at hl 2 rfl) ?_
      refine lv_i2l hx hb dX6_check_36 rfl ?_
      refine lv_lconst (v := 0) hx hb dX6_check_37 (by decide) ?_
      refine lv_aload_n hx hb dX6_check_38 rfl (lv_at hl 1 rfl) ?_
      refine tg_1 F hB dX6_check_39 ?_
      refine lv_iconst (v := 1) hx hb dX6_check_42 (by decide) ?_
      obtain ⟨hin, hw⟩ := hw
      refine t_ald F hB (k := 1) rfl hin dX6_check_43 ?_
      refine lv_iconst (v := 1) hx hb dX6_check_44 (by decide) ?_
      refine lv_isub hx hb dX6_check_45 ?_
      refine lv_i2l hx hb dX6_check_46 rfl ?_
      refine kX6_X6_isIn F.1 hw ⟨Nat.le_of_ble_eq_true rfl, Nat.le_of_ble_eq_true rfl⟩ ⟨Nat.zero_le _, Nat.zero_le _⟩ hl.1 (Nat.le_of_ble_eq_true rfl) dX6_check_47 (fun r2 hw => ?_)
      refine lv_if_ne (tgt := 56) hx hb dX6_check_50 (by decide) (fun q => ?_) (fun q => ?_)
      · replace hw := hw.2 q
        refine lv_aload_n hx hb dX6_check_56 rfl (lv_at hl 1 rfl) ?_
        refine lv_aload_n hx hb dX6_check_57 rfl (lv_at hl 1 rfl) ?_
        refine tg_0 F hB dX6_check_58 ?_
        refine lv_aload_n hx hb dX6_check_61 rfl (lv_at hl 1 rfl) ?_
        refine tg_2 F hB dX6_check_62 ?_
        refine kX6_X6_setAside F hB hS hw ⟨Nat.le_of_ble_eq_true rfl, Nat.le_of_ble_eq_true rfl⟩ ⟨Nat.zero_le _, Nat.zero_le _⟩ hl.1 (Nat.le_of_ble_eq_true rfl) dX6_check_65 (fun T4 H locs hw hB hS => ?_)
        refine lv_aload_n hx hb dX6_check_68 rfl (lv_at hl 1 rfl) ?_
        refine lv_aload_n hx hb dX6_check_69 rfl (lv_at hl 1 rfl) ?_
        refine tg_1 F hB dX6_check_70 ?_
        refine lv_aload_n hx hb dX6_check_73 rfl (lv_at hl 1 rfl) ?_
        refine tg_0 F hB dX6_check_74 ?_
        refine kX6_X6_setAside F hB hS hw ⟨Nat.le_of_ble_eq_true rfl, Nat.le_of_ble_eq_true rfl⟩ ⟨Nat.zero_le _, Nat.zero_le _⟩ hl.1 (Nat.le_of_ble_eq_true rfl) dX6_check_77 (fun T6 H locs hw hB hS => ?_)
        refine lv_iconst (v := 0) hx hb dX6_check_80 (by decide) ?_
        refine lv_istore (lv' := [(4, .int (0 : Int32)), (3, .int (T.1 29)), (0, .ref (ad 0 0 0)), (1, .int a1), (2, .int a2)]) hx hb dX6_check_81 hl (by decide) rfl (fun ls hl => ?_)
        obtain ⟨f_83, hw⟩ := hw
        exact bX6_check_83 F f_83 _ _ _ _ _ hw _ _ _ hB hS (lv_sub hl [2, 3, 4, 1, 0] rfl)
      · replace hw := hw.1 q
        refine lv_ldc hx hb F.1.o (F.1.t _ q1326) dX6_check_53 ?_
        exact W.iret hx hb F.1.r (fun t ht hW => ⟨⟨_, _, rfl, hw, x_B (Bw := tB D A ad) ht hB⟩, hS.F ht⟩) hS.2.2 dX6_check_55 (hlocks := F.1.k)
    · replace hw := hw.1 q
      refine lv_ldc hx hb F.1.o (F.1.t _ q1482) dX6_check_32 ?_
      exact W.iret hx hb F.1.r (fun t ht hW => ⟨⟨_, _, rfl, hw, x_B (Bw := tB D A ad) ht hB⟩, hS.F ht⟩) hS.2.2 dX6_check_34 (hlocks := F.1.k)
  · replace hw := hw.1 q
    refine lv_ldc hx hb F.1.o (F.1.t _ q1326) dX6_check_22 ?_
    exact W.iret hx hb F.1.r (fun t ht hW => ⟨⟨_, _, rfl, hw, x_B (Bw := tB D A ad) ht hB⟩, hS.F ht⟩) hS.2.2 dX6_check_24 (hlocks := F.1.k)
set_option maxHeartbeats 4000000 in
theorem mX6_check {l : Launch} {D : DD} {A : Nat → Prop} {s0 : State} {ad : AD} {T : TS} {a1 : Int32} {a2 : Int32} {Q : Int32 → TS → Prop} (hw : wX6_check a1 a2 T Q) : Met l yX6_check (ws_ yX6_check cX6_check 6 (some .int)) rX6_check (va_Pc [.ref (ad 0 0 0), .int a1, .int a2] (fun U => tB D A ad T U.heap ∧ CX l D A s0 U)) (va_Qi Q (fun u t => tB D A ad u t.heap) A) 0 0 A := by
  refine Met.ofW (cc := cX6_check) (maxL := 6) (ret := some .int) (by decide) rfl ?_
  intro p e s m args below meth c s₁ B hml hv
  obtain ⟨rfl, hB, hC⟩ := hv
  have F : FX p l c cX6_check s _ m RX6 D A s0 6 meth (some .int) := ⟨mk_FP B hml rfl, hC⟩
  have hS : va_S A s.heap s.heap [] := va_S.rf
  have hl := lv_entry ([.ref (ad 0 0 0), .int a1, .int a2]) (n := 6) (Nat.le_of_ble_eq_true rfl)
  rw [lg_entry_eq]
  generalize (lg_sl ([.ref (ad 0 0 0), .int a1, .int a2]) ++ List.replicate (6 - (lg_sl ([.ref (ad 0 0 0), .int a1, .int a2])).length) Slot.unset).toArray = ls at hl ⊢
  exact bX6_check_0 F hB hS hw hl
def rX6_orNone : Room := { frames := 0, cells := 0, slots := 0, locals := 0 }
set_option maxHeartbeats 4000000 in
theorem bX6_orNone_0 {p : Program} {l : Launch} {e : Env} {s : State} {m : MethodId} {args : Array Value} {below : List Frame} {meth : Method} {c : Code} {Q : Int32 → Prop} {a0 : Int32} {ls : Array Slot} (F : FP p c cX6_orNone s args m RX6 1 meth (some .int)) (hw : wX6_orNone a0 Q) (hl : lv_has ls 1 [(0, .int a0)]) : W p l e rX6_orNone s m args below meth c s.heap [] 0 0 (MQ below (vp_Si Q) args s 0 0 (fun _ => False)) (F0 m 0 ls []) := by
  have hx := F.x
  have hb := F.b
  unfold wX6_orNone at hw
  refine lv_iload_n hx hb dX6_orNone_0 rfl (lv_at hl 0 rfl) ?_
  refine lv_if_ge (tgt := 9) hx hb dX6_orNone_1 (by decide) (fun q => ?_) (fun q => ?_)
  · replace hw := hw.1 q
    refine lv_iload_n hx hb dX6_orNone_9 rfl (lv_at hl 0 rfl) ?_
    exact W.iret hx hb F.r (fun t ht hW => ⟨_, rfl, hw, ht⟩) (fun _ h => absurd h List.not_mem_nil) dX6_orNone_10 (hlocks := F.k)
  · replace hw := hw.2 q
    refine lv_ldc hx hb F.o (F.t _ q1504) dX6_orNone_4 ?_
    refine lv_goto (tgt := 10) hx hb dX6_orNone_6 (by decide) ?_
    exact W.iret hx hb F.r (fun t ht hW => ⟨_, rfl, hw, ht⟩) (fun _ h => absurd h List.not_mem_nil) dX6_orNone_10 (hlocks := F.k)
set_option maxHeartbeats 4000000 in
theorem mX6_orNone {l : Launch}  {a0 : Int32} {Q : Int32 → Prop} (hw : wX6_orNone a0 Q) : Met l yX6_orNone (ws_ yX6_orNone cX6_orNone 1 (some .int)) rX6_orNone (va_Pc [.int a0] (fun _ => True)) (vp_Si Q) 0 0 (fun _ => False) := by
  refine Met.ofW (cc := cX6_orNone) (maxL := 1) (ret := some .int) (by decide) rfl ?_
  intro p e s m args below meth c s₁ B hml hv
  obtain ⟨rfl, -⟩ := hv
  have F : FP p c cX6_orNone s _ m RX6 1 meth (some .int) := mk_FP B hml rfl
  have hl := lv_entry ([.int a0]) (n := 1) (Nat.le_of_ble_eq_true rfl)
  rw [lg_entry_eq]
  generalize (lg_sl ([.int a0]) ++ List.replicate (1 - (lg_sl ([.int a0])).length) Slot.unset).toArray = ls at hl ⊢
  exact bX6_orNone_0 F hw hl
theorem kX6_X6_orNone {p : Program} {l : Launch} {e : Env} {R : Room} {s : State} {m : MethodId} {args : Array Value} {below : List Frame} {meth : Method} {c : Code} {H : Heap} {locs : List Loc} {cells slots : Nat} {Q0 : State → Prop} {cc : ByteArray} {pc nL : Nat} {ls : Array Slot} {rest : List Value} {ret : Option FieldType} {a0 : Int32} {Q : Int32 → Prop} (F : FP p c cc s args m RX6 nL meth ret) (hw : wX6_orNone a0 Q) (hR : rX6_orNone.frames + 1 ≤ R.frames ∧ 8 + (1 + 11) + rX6_orNone.locals ≤ R.locals) (hc : cells ≤ R.cells ∧ slots ≤ R.slots) (hsz : ls.size = nL) (hW : (rest.map fun v => v.category).sum ≤ 8) (hdg : decode cc pc = .ok (.invokestatic 174, 3)) (kk : ∀ r : Int32, Q r → W p l e R s m args below meth c H locs cells slots Q0 (F0 m (pc + 3) ls (.int r :: rest))) : W p l e R s m args below meth c H locs cells slots Q0 (F0 m pc ls (.int a0 :: rest)) :=
  k_csi (k_runP (n := 1) (As := [.int a0]) F (mX6_orNone hw) q1501 q1502 q92 q1503 (by decide +kernel) hR ⟨rfl, rfl⟩ hc rfl hsz rfl hW hdg) kk
def rX6_choice : Room := { frames := 5, cells := 0, slots := 0, locals := 117 }
set_option maxHeartbeats 4000000 in
theorem bX6_choice_0 {p : Program} {l : Launch} {e : Env} {s : State} {m : MethodId} {args : Array Value} {below : List Frame} {meth : Method} {c : Code} {D : DD} {A : Nat → Prop} {s0 : State} {ad : AD} {Q : Int32 → TS → Prop} {a1 : Int32} {a2 : Int32} {T : TS} {H : Heap} {locs : List Loc} {ls : Array Slot} (F : FX p l c cX6_choice s args m RX6 D A s0 3 meth (some .int)) (hB : tB D A ad T H) (hS : va_S A s.heap H locs) (hw : wX6_choice a1 a2 T Q) (hl : lv_has ls 3 [(0, .ref (ad 0 0 0)), (1, .int a1), (2, .int a2)]) : W p l e rX6_choice s m args below meth c H locs 0 0 (MQ below (va_Qi Q (fun u t => tB D A ad u t.heap) A) args s 0 0 A) (F0 m 0 ls []) := by
  have hx := F.1.x
  have hb := F.1.b
  unfold wX6_choice at hw
  refine lv_aload_n hx hb dX6_choice_0 rfl (lv_at hl 0 rfl) ?_
  refine lv_iload_n hx hb dX6_choice_1 rfl (lv_at hl 1 rfl) ?_
  refine kX6_X6_isPerson F hB hS hw ⟨Nat.le_of_ble_eq_true rfl, Nat.le_of_ble_eq_true rfl⟩ ⟨Nat.zero_le _, Nat.zero_le _⟩ hl.1 (Nat.le_of_ble_eq_true rfl) dX6_choice_2 (fun r1 T2 H locs hw hB hS => ?_)
  refine lv_if_eq (tgt := 28) hx hb dX6_choice_5 (by decide) (fun q => ?_) (fun q => ?_)
  · replace hw := hw.1 q
    refine lv_ldc hx hb F.1.o (F.1.t _ q1326) dX6_choice_28 ?_
    exact W.iret hx hb F.1.r (fun t ht hW => ⟨⟨_, _, rfl, hw, x_B (Bw := tB D A ad) ht hB⟩, hS.F ht⟩) hS.2.2 dX6_choice_30 (hlocks := F.1.k)
  · replace hw := hw.2 q
    refine lv_aload_n hx hb dX6_choice_8 rfl (lv_at hl 0 rfl) ?_
    refine lv_iload_n hx hb dX6_choice_9 rfl (lv_at hl 2 rfl) ?_
    refine kX6_X6_isDeed F hB hS hw ⟨Nat.le_of_ble_eq_true rfl, Nat.le_of_ble_eq_true rfl⟩ ⟨Nat.zero_le _, Nat.zero_le _⟩ hl.1 (Nat.le_of_ble_eq_true rfl) dX6_choice_10 (fun r3 T4 H locs hw hB hS => ?_)
    refine lv_if_eq (tgt := 28) hx hb dX6_choice_13 (by decide) (fun q => ?_) (fun q => ?_)
    · replace hw := hw.1 q
      refine lv_ldc hx hb F.1.o (F.1.t _ q1326) dX6_choice_28 ?_
      exact W.iret hx hb F.1.r (fun t ht hW => ⟨⟨_, _, rfl, hw, x_B (Bw := tB D A ad) ht hB⟩, hS.F ht⟩) hS.2.2 dX6_choice_30 (hlocks := F.1.k)
    · replace hw := hw.2 q
      refine lv_aload_n hx hb dX6_choice_16 rfl (lv_at hl 0 rfl) ?_
      refine lv_iload_n hx hb dX6_choice_17 rfl (lv_at hl 1 rfl) ?_
      refine lv_iload_n hx hb dX6_choice_18 rfl (lv_at hl 2 rfl) ?_
      refine kX6_X6_choiceOf F hB hS hw ⟨Nat.le_of_ble_eq_true rfl, Nat.le_of_ble_eq_true rfl⟩ ⟨Nat.zero_le _, Nat.zero_le _⟩ hl.1 (Nat.le_of_ble_eq_true rfl) dX6_choice_19 (fun r5 T6 H locs hw hB hS => ?_)
      refine kX6_X6_orNone F.1 hw ⟨Nat.le_of_ble_eq_true rfl, Nat.le_of_ble_eq_true rfl⟩ ⟨Nat.zero_le _, Nat.zero_le _⟩ hl.1 (Nat.le_of_ble_eq_true rfl) dX6_choice_22 (fun r7 hw => ?_)
      refine lv_goto (tgt := 30) hx hb dX6_choice_25 (by decide) ?_
      exact W.iret hx hb F.1.r (fun t ht hW => ⟨⟨_, _, rfl, hw, x_B (Bw := tB D A ad) ht hB⟩, hS.F ht⟩) hS.2.2 dX6_choice_30 (hlocks := F.1.k)
set_option maxHeartbeats 4000000 in
theorem mX6_choice {l : Launch} {D : DD} {A : Nat → Prop} {s0 : State} {ad : AD} {T : TS} {a1 : Int32} {a2 : Int32} {Q : Int32 → TS → Prop} (hw : wX6_choice a1 a2 T Q) : Met l yX6_choice (ws_ yX6_choice cX6_choice 3 (some .int)) rX6_choice (va_Pc [.ref (ad 0 0 0), .int a1, .int a2] (fun U => tB D A ad T U.heap ∧ CX l D A s0 U)) (va_Qi Q (fun u t => tB D A ad u t.heap) A) 0 0 A := by
  refine Met.ofW (cc := cX6_choice) (maxL := 3) (ret := some .int) (by decide) rfl ?_
  intro p e s m args below meth c s₁ B hml hv
  obtain ⟨rfl, hB, hC⟩ := hv
  have F : FX p l c cX6_choice s _ m RX6 D A s0 3 meth (some .int) := ⟨mk_FP B hml rfl, hC⟩
  have hS : va_S A s.heap s.heap [] := va_S.rf
  have hl := lv_entry ([.ref (ad 0 0 0), .int a1, .int a2]) (n := 3) (Nat.le_of_ble_eq_true rfl)
  rw [lg_entry_eq]
  generalize (lg_sl ([.ref (ad 0 0 0), .int a1, .int a2]) ++ List.replicate (3 - (lg_sl ([.ref (ad 0 0 0), .int a1, .int a2])).length) Slot.unset).toArray = ls at hl ⊢
  exact bX6_choice_0 F hB hS hw hl
def rX6_comes : Room := { frames := 0, cells := 0, slots := 0, locals := 0 }
set_option maxHeartbeats 4000000 in
theorem bX6_comes_0 {p : Program} {l : Launch} {e : Env} {s : State} {m : MethodId} {args : Array Value} {below : List Frame} {meth : Method} {c : Code} {D : DD} {A : Nat → Prop} {s0 : State} {ad : AD} {Q : TS → Prop} {a1 : Int32} {a2 : Int32} {a3 : Int32} {T : TS} {H : Heap} {locs : List Loc} {ls : Array Slot} (F : FX p l c cX6_comes s args m RX6 D A s0 5 meth (none)) (hB : tB D A ad T H) (hS : va_S A s.heap H locs) (hw : wX6_comes a1 a2 a3 T Q) (hl : lv_has ls 5 [(0, .ref (ad 0 0 0)), (1, .int a1), (2, .int a2), (3, .int a3)]) : W p l e rX6_comes s m args below meth c H locs 0 0 (MQ below (va_Qv Q (fun u t => tB D A ad u t.heap) A) args s 0 0 A) (F0 m 0 ls []) := by
  have hx := F.1.x
  have hb := F.1.b
  unfold wX6_comes at hw
  refine lv_bipush (v := 6) hx hb dX6_comes_0 (by decide) ?_
  refine lv_iconst (v := 5) hx hb dX6_comes_2 (by decide) ?_
  refine lv_aload_n hx hb dX6_comes_3 rfl (lv_at hl 0 rfl) ?_
  refine tg_0 F hB dX6_comes_4 ?_
  refine lv_iconst (v := 0) hx hb dX6_comes_7 (by decide) ?_
  obtain ⟨hin, hw⟩ := hw
  refine t_ald F hB (k := 0) rfl hin dX6_comes_8 ?_
  refine lv_imul hx hb dX6_comes_9 ?_
  refine lv_iadd hx hb dX6_comes_10 ?_
  refine lv_istore (lv' := [(4, .int ((6 : Int32) + ((5 : Int32) * (T.2 0 (0 : Int32).toNatClampNeg)))), (0, .ref (ad 0 0 0)), (1, .int a1), (2, .int a2), (3, .int a3)]) hx hb dX6_comes_11 hl (by decide) rfl (fun ls hl => ?_)
  refine lv_aload_n hx hb dX6_comes_13 rfl (lv_at hl 1 rfl) ?_
  refine tg_0 F hB dX6_comes_14 ?_
  refine lv_iload hx hb dX6_comes_17 (lv_at hl 0 rfl) ?_
  refine lv_iload_n hx hb dX6_comes_19 rfl (lv_at hl 2 rfl) ?_
  obtain ⟨hin, hw⟩ := hw
  refine t_ast F hB hS (k := 0) rfl hin dX6_comes_20 (fun H locs hB hS => ?_)
  refine lv_aload_n hx hb dX6_comes_21 rfl (lv_at hl 1 rfl) ?_
  refine tg_0 F hB dX6_comes_22 ?_
  refine lv_iload hx hb dX6_comes_25 (lv_at hl 0 rfl) ?_
  refine lv_iconst (v := 1) hx hb dX6_comes_27 (by decide) ?_
  refine lv_iadd hx hb dX6_comes_28 ?_
  refine lv_iload_n hx hb dX6_comes_29 rfl (lv_at hl 3 rfl) ?_
  obtain ⟨hin, hw⟩ := hw
  refine t_ast F hB hS (k := 0) rfl hin dX6_comes_30 (fun H locs hB hS => ?_)
  refine lv_aload_n hx hb dX6_comes_31 rfl (lv_at hl 1 rfl) ?_
  refine tg_0 F hB dX6_comes_32 ?_
  refine lv_iload hx hb dX6_comes_35 (lv_at hl 0 rfl) ?_
  refine lv_iconst (v := 2) hx hb dX6_comes_37 (by decide) ?_
  refine lv_iadd hx hb dX6_comes_38 ?_
  refine lv_iload_n hx hb dX6_comes_39 rfl (lv_at hl 4 rfl) ?_
  obtain ⟨hin, hw⟩ := hw
  refine t_ast F hB hS (k := 0) rfl hin dX6_comes_40 (fun H locs hB hS => ?_)
  refine lv_aload_n hx hb dX6_comes_41 rfl (lv_at hl 1 rfl) ?_
  refine tg_0 F hB dX6_comes_42 ?_
  refine lv_iload hx hb dX6_comes_45 (lv_at hl 0 rfl) ?_
  refine lv_iconst (v := 3) hx hb dX6_comes_47 (by decide) ?_
  refine lv_iadd hx hb dX6_comes_48 ?_
  refine lv_iconst (v := 0) hx hb dX6_comes_49 (by decide) ?_
  obtain ⟨hin, hw⟩ := hw
  refine t_ast F hB hS (k := 0) rfl hin dX6_comes_50 (fun H locs hB hS => ?_)
  refine lv_aload_n hx hb dX6_comes_51 rfl (lv_at hl 1 rfl) ?_
  refine tg_0 F hB dX6_comes_52 ?_
  refine lv_iload hx hb dX6_comes_55 (lv_at hl 0 rfl) ?_
  refine lv_iconst (v := 4) hx hb dX6_comes_57 (by decide) ?_
  refine lv_iadd hx hb dX6_comes_58 ?_
  refine lv_iconst (v := 0) hx hb dX6_comes_59 (by decide) ?_
  obtain ⟨hin, hw⟩ := hw
  refine t_ast F hB hS (k := 0) rfl hin dX6_comes_60 (fun H locs hB hS => ?_)
  refine lv_aload_n hx hb dX6_comes_61 rfl (lv_at hl 1 rfl) ?_
  refine tg_0 F hB dX6_comes_62 ?_
  refine lv_iconst (v := 0) hx hb dX6_comes_65 (by decide) ?_
  refine lv_dup2_11 hx hb dX6_comes_66 rfl rfl ?_
  obtain ⟨hin, hw⟩ := hw
  refine t_ald F hB (k := 0) rfl hin dX6_comes_67 ?_
  refine lv_iconst (v := 1) hx hb dX6_comes_68 (by decide) ?_
  refine lv_iadd hx hb dX6_comes_69 ?_
  obtain ⟨hin, hw⟩ := hw
  refine t_ast F hB hS (k := 0) rfl hin dX6_comes_70 (fun H locs hB hS => ?_)
  exact W.vret hx hb F.1.r (fun t ht hW => ⟨⟨_, rfl, hw, x_B (Bw := tB D A ad) ht hB⟩, hS.F ht⟩) hS.2.2 dX6_comes_71 (hlocks := F.1.k)
set_option maxHeartbeats 4000000 in
theorem mX6_comes {l : Launch} {D : DD} {A : Nat → Prop} {s0 : State} {ad : AD} {T : TS} {a1 : Int32} {a2 : Int32} {a3 : Int32} {Q : TS → Prop} (hw : wX6_comes a1 a2 a3 T Q) : Met l yX6_comes (ws_ yX6_comes cX6_comes 5 (none)) rX6_comes (va_Pc [.ref (ad 0 0 0), .int a1, .int a2, .int a3] (fun U => tB D A ad T U.heap ∧ CX l D A s0 U)) (va_Qv Q (fun u t => tB D A ad u t.heap) A) 0 0 A := by
  refine Met.ofW (cc := cX6_comes) (maxL := 5) (ret := none) (by decide) rfl ?_
  intro p e s m args below meth c s₁ B hml hv
  obtain ⟨rfl, hB, hC⟩ := hv
  have F : FX p l c cX6_comes s _ m RX6 D A s0 5 meth (none) := ⟨mk_FP B hml rfl, hC⟩
  have hS : va_S A s.heap s.heap [] := va_S.rf
  have hl := lv_entry ([.ref (ad 0 0 0), .int a1, .int a2, .int a3]) (n := 5) (Nat.le_of_ble_eq_true rfl)
  rw [lg_entry_eq]
  generalize (lg_sl ([.ref (ad 0 0 0), .int a1, .int a2, .int a3]) ++ List.replicate (5 - (lg_sl ([.ref (ad 0 0 0), .int a1, .int a2, .int a3])).length) Slot.unset).toArray = ls at hl ⊢
  exact bX6_comes_0 F hB hS hw hl
theorem kX6_X6_comes {p : Program} {l : Launch} {e : Env} {R : Room} {s : State} {m : MethodId} {args : Array Value} {below : List Frame} {meth : Method} {c : Code} {H : Heap} {locs : List Loc} {cells slots : Nat} {Q0 : State → Prop} {cc : ByteArray} {pc nL : Nat} {ls : Array Slot} {rest : List Value} {ret : Option FieldType} {D : DD} {A : Nat → Prop} {s0 : State} {ad : AD} {T : TS} {a1 : Int32} {a2 : Int32} {a3 : Int32} {Q : TS → Prop} (F : FX p l c cc s args m RX6 D A s0 nL meth ret) (hB : tB D A ad T H) (hS : va_S A s.heap H locs) (hw : wX6_comes a1 a2 a3 T Q) (hR : rX6_comes.frames + 1 ≤ R.frames ∧ 8 + (5 + 11) + rX6_comes.locals ≤ R.locals) (hc : cells + 0 ≤ R.cells ∧ slots + 0 ≤ R.slots) (hsz : ls.size = nL) (hW : (rest.map fun v => v.category).sum ≤ 8) (hdg : decode cc pc = .ok (.invokevirtual 84, 3)) (kk : ∀ (u : TS) (H1 : Heap) (locs1 : List Loc), Q u → tB D A ad u H1 → va_S A s.heap H1 locs1 → W p l e R s m args below meth c H1 locs1 cells slots Q0 (F0 m (pc + 3) ls (rest))) : W p l e R s m args below meth c H locs cells slots Q0 (F0 m pc ls (.int a3 :: .int a2 :: .int a1 :: .ref (ad 0 0 0) :: rest)) :=
  k_v (Bw := tB D A ad) (k_runV (Bw := tB D A ad) (n := 3) (As := [.int a1, .int a2, .int a3]) F hB hS (t_recv F hB) (mX6_comes hw) q1328 q1330 qs41 q92 q1331 (by decide +kernel) hR ⟨rfl, rfl⟩ hc rfl hsz rfl hW hdg) hS kk
def rX6_isSheet : Room := { frames := 1, cells := 0, slots := 0, locals := 25 }
set_option maxHeartbeats 4000000 in
theorem bX6_isSheet_0 {p : Program} {l : Launch} {e : Env} {s : State} {m : MethodId} {args : Array Value} {below : List Frame} {meth : Method} {c : Code} {Q : Int32 → Prop} {a0 : Int32} {ls : Array Slot} (F : FP p c cX6_isSheet s args m RX6 1 meth (some .boolean)) (hw : wX6_isSheet a0 Q) (hl : lv_has ls 1 [(0, .int a0)]) : W p l e rX6_isSheet s m args below meth c s.heap [] 0 0 (MQ below (vp_Si Q) args s 0 0 (fun _ => False)) (F0 m 0 ls []) := by
  have hx := F.x
  have hb := F.b
  unfold wX6_isSheet at hw
  refine lv_iload_n hx hb dX6_isSheet_0 rfl (lv_at hl 0 rfl) ?_
  refine lv_i2l hx hb dX6_isSheet_1 rfl ?_
  refine lv_lconst (v := 0) hx hb dX6_isSheet_2 (by decide) ?_
  refine lv_ldc2 hx hb F.o (F.t _ q1642) dX6_isSheet_3 ?_
  refine kX6_X6_isIn F hw ⟨Nat.le_of_ble_eq_true rfl, Nat.le_of_ble_eq_true rfl⟩ ⟨Nat.zero_le _, Nat.zero_le _⟩ hl.1 (Nat.le_of_ble_eq_true rfl) dX6_isSheet_6 (fun r1 hw => ?_)
  obtain ⟨hn, hw⟩ := hw
  exact W.zret hx hb F.r hn (fun t ht hW => ⟨_, rfl, hw, ht⟩) (fun _ h => absurd h List.not_mem_nil) dX6_isSheet_9 (hlocks := F.k)
set_option maxHeartbeats 4000000 in
theorem mX6_isSheet {l : Launch}  {a0 : Int32} {Q : Int32 → Prop} (hw : wX6_isSheet a0 Q) : Met l yX6_isSheet (ws_ yX6_isSheet cX6_isSheet 1 (some .boolean)) rX6_isSheet (va_Pc [.int a0] (fun _ => True)) (vp_Si Q) 0 0 (fun _ => False) := by
  refine Met.ofW (cc := cX6_isSheet) (maxL := 1) (ret := some .boolean) (by decide) rfl ?_
  intro p e s m args below meth c s₁ B hml hv
  obtain ⟨rfl, -⟩ := hv
  have F : FP p c cX6_isSheet s _ m RX6 1 meth (some .boolean) := mk_FP B hml rfl
  have hl := lv_entry ([.int a0]) (n := 1) (Nat.le_of_ble_eq_true rfl)
  rw [lg_entry_eq]
  generalize (lg_sl ([.int a0]) ++ List.replicate (1 - (lg_sl ([.int a0])).length) Slot.unset).toArray = ls at hl ⊢
  exact bX6_isSheet_0 F hw hl
theorem kX6_X6_isSheet {p : Program} {l : Launch} {e : Env} {R : Room} {s : State} {m : MethodId} {args : Array Value} {below : List Frame} {meth : Method} {c : Code} {H : Heap} {locs : List Loc} {cells slots : Nat} {Q0 : State → Prop} {cc : ByteArray} {pc nL : Nat} {ls : Array Slot} {rest : List Value} {ret : Option FieldType} {a0 : Int32} {Q : Int32 → Prop} (F : FP p c cc s args m RX6 nL meth ret) (hw : wX6_isSheet a0 Q) (hR : rX6_isSheet.frames + 1 ≤ R.frames ∧ 8 + (1 + 11) + rX6_isSheet.locals ≤ R.locals) (hc : cells ≤ R.cells ∧ slots ≤ R.slots) (hsz : ls.size = nL) (hW : (rest.map fun v => v.category).sum ≤ 8) (hdg : decode cc pc = .ok (.invokestatic 291, 3)) (kk : ∀ r : Int32, Q r → W p l e R s m args below meth c H locs cells slots Q0 (F0 m (pc + 3) ls (.int r :: rest))) : W p l e R s m args below meth c H locs cells slots Q0 (F0 m pc ls (.int a0 :: rest)) :=
  k_csi (k_runP (n := 1) (As := [.int a0]) F (mX6_isSheet hw) q1639 q1640 q92 q1641 (by decide +kernel) hR ⟨rfl, rfl⟩ hc rfl hsz rfl hW hdg) kk
def rX6_copy : Room := { frames := 2, cells := 0, slots := 0, locals := 45 }
set_option maxHeartbeats 4000000 in
theorem bX6_copy_150 {p : Program} {l : Launch} {e : Env} {s : State} {m : MethodId} {args : Array Value} {below : List Frame} {meth : Method} {c : Code} {D : DD} {A : Nat → Prop} {s0 : State} {ad : AD} {Q : Int32 → TS → Prop} (F : FX p l c cX6_copy s args m RX6 D A s0 7 meth (some .int)) : ∀ (n : Nat) (l3 : Int32) (l4 : Int32) (l5 : Int32) (l6 : Int32) (T : TS), wX6_copy_150 Q n l3 l4 l5 l6 T → ∀ (H : Heap) (locs : List Loc) (ls : Array Slot), tB D A ad T H → va_S A s.heap H locs → lv_has ls 7 [(0, .ref (ad 0 0 0)), (3, .int l3), (4, .int l4), (5, .int l5), (6, .int l6)] → W p l e rX6_copy s m args below meth c H locs 0 0 (MQ below (va_Qi Q (fun u t => tB D A ad u t.heap) A) args s 0 0 A) (F0 m 150 ls []) := by
  have hx := F.1.x
  have hb := F.1.b
  intro n
  induction n with
  | zero => intro l3 l4 l5 l6 T hw; exact hw.elim
  | succ n ih =>
    intro l3 l4 l5 l6 T hw H locs ls hB hS hl
    unfold wX6_copy_150 at hw
    refine lv_iload hx hb dX6_copy_150 (lv_at hl 4 rfl) ?_
    refine lv_iload hx hb dX6_copy_152 (lv_at hl 3 rfl) ?_
    refine lv_icmp_ge (tgt := 185) hx hb dX6_copy_154 (by decide) (fun q => ?_) (fun q => ?_)
    · replace hw := hw.1 q
      refine lv_iload hx hb dX6_copy_185 (lv_at hl 3 rfl) ?_
      exact W.iret hx hb F.1.r (fun t ht hW => ⟨⟨_, _, rfl, hw, x_B (Bw := tB D A ad) ht hB⟩, hS.F ht⟩) hS.2.2 dX6_copy_187 (hlocks := F.1.k)
    · replace hw := hw.2 q
      refine lv_aload_n hx hb dX6_copy_157 rfl (lv_at hl 0 rfl) ?_
      refine tg_6 F hB dX6_copy_158 ?_
      refine lv_bipush (v := 24) hx hb dX6_copy_161 (by decide) ?_
      refine lv_iload_n hx hb dX6_copy_163 rfl (lv_at hl 1 rfl) ?_
      refine lv_imul hx hb dX6_copy_164 ?_
      refine lv_iload hx hb dX6_copy_165 (lv_at hl 2 rfl) ?_
      refine lv_iadd hx hb dX6_copy_167 ?_
      refine lv_iload hx hb dX6_copy_168 (lv_at hl 4 rfl) ?_
      refine lv_iadd hx hb dX6_copy_170 ?_
      refine lv_aload_n hx hb dX6_copy_171 rfl (lv_at hl 0 rfl) ?_
      refine tg_27 F hB dX6_copy_172 ?_
      refine lv_iload hx hb dX6_copy_175 (lv_at hl 4 rfl) ?_
      obtain ⟨hin, hw⟩ := hw
      refine t_ald F hB (k := 27) rfl hin dX6_copy_177 ?_
      obtain ⟨hin, hw⟩ := hw
      refine t_ast F hB hS (k := 6) rfl hin dX6_copy_178 (fun H locs hB hS => ?_)
      refine lv_iinc (v := l6 + (1 : Int32)) (lv' := [(6, .int (l6 + (1 : Int32))), (0, .ref (ad 0 0 0)), (3, .int l3), (4, .int l4), (5, .int l5)]) hx hb dX6_copy_179 hl (k := 4) rfl (x_inc (by decide)) (by decide) rfl (fun ls hl => ?_)
      refine lv_goto (tgt := 150) hx hb dX6_copy_182 (by decide) ?_
      exact ih _ _ _ _ _ hw _ _ _ hB hS (lv_sub hl [1, 2, 3, 4, 0] rfl)
set_option maxHeartbeats 4000000 in
theorem bX6_copy_113 {p : Program} {l : Launch} {e : Env} {s : State} {m : MethodId} {args : Array Value} {below : List Frame} {meth : Method} {c : Code} {D : DD} {A : Nat → Prop} {s0 : State} {ad : AD} {Q : Int32 → TS → Prop} (F : FX p l c cX6_copy s args m RX6 D A s0 7 meth (some .int)) : ∀ (n : Nat) (l1 : Int32) (l2 : Int32) (l3 : Int32) (l4 : Int32) (l5 : Int32) (l6 : Int32) (T : TS), wX6_copy_113 Q n l1 l2 l3 l4 l5 l6 T → ∀ (H : Heap) (locs : List Loc) (ls : Array Slot), tB D A ad T H → va_S A s.heap H locs → lv_has ls 7 [(0, .ref (ad 0 0 0)), (1, .int l1), (2, .int l2), (3, .int l3), (4, .int l4), (5, .int l5), (6, .int l6)] → W p l e rX6_copy s m args below meth c H locs 0 0 (MQ below (va_Qi Q (fun u t => tB D A ad u t.heap) A) args s 0 0 A) (F0 m 113 ls []) := by
  have hx := F.1.x
  have hb := F.1.b
  intro n
  induction n with
  | zero => intro l1 l2 l3 l4 l5 l6 T hw; exact hw.elim
  | succ n ih =>
    intro l1 l2 l3 l4 l5 l6 T hw H locs ls hB hS hl
    unfold wX6_copy_113 at hw
    refine lv_iload hx hb dX6_copy_113 (lv_at hl 6 rfl) ?_
    refine lv_iload hx hb dX6_copy_115 (lv_at hl 5 rfl) ?_
    refine lv_icmp_ge (tgt := 147) hx hb dX6_copy_117 (by decide) (fun q => ?_) (fun q => ?_)
    · replace hw := hw.1 q
      refine lv_iconst (v := 0) hx hb dX6_copy_147 (by decide) ?_
      refine lv_istore (lv' := [(6, .int (0 : Int32)), (0, .ref (ad 0 0 0)), (1, .int l1), (2, .int l2), (3, .int l3), (4, .int l4), (5, .int l5)]) hx hb dX6_copy_148 hl (by decide) rfl (fun ls hl => ?_)
      obtain ⟨f_150, hw⟩ := hw
      exact bX6_copy_150 F f_150 _ _ _ _ _ hw _ _ _ hB hS (lv_sub hl [1, 4, 5, 6, 0] rfl)
    · replace hw := hw.2 q
      refine lv_aload_n hx hb dX6_copy_120 rfl (lv_at hl 0 rfl) ?_
      refine tg_27 F hB dX6_copy_121 ?_
      refine lv_iload hx hb dX6_copy_124 (lv_at hl 6 rfl) ?_
      refine lv_aload_n hx hb dX6_copy_126 rfl (lv_at hl 0 rfl) ?_
      refine tg_6 F hB dX6_copy_127 ?_
      refine lv_bipush (v := 24) hx hb dX6_copy_130 (by decide) ?_
      refine lv_iload_n hx hb dX6_copy_132 rfl (lv_at hl 1 rfl) ?_
      refine lv_imul hx hb dX6_copy_133 ?_
      refine lv_iload_n hx hb dX6_copy_134 rfl (lv_at hl 2 rfl) ?_
      refine lv_iadd hx hb dX6_copy_135 ?_
      refine lv_iload hx hb dX6_copy_136 (lv_at hl 6 rfl) ?_
      refine lv_iadd hx hb dX6_copy_138 ?_
      obtain ⟨hin, hw⟩ := hw
      refine t_ald F hB (k := 6) rfl hin dX6_copy_139 ?_
      obtain ⟨hin, hw⟩ := hw
      refine t_ast F hB hS (k := 27) rfl hin dX6_copy_140 (fun H locs hB hS => ?_)
      refine lv_iinc (v := l6 + (1 : Int32)) (lv' := [(6, .int (l6 + (1 : Int32))), (0, .ref (ad 0 0 0)), (1, .int l1), (2, .int l2), (3, .int l3), (4, .int l4), (5, .int l5)]) hx hb dX6_copy_141 hl (k := 6) rfl (x_inc (by decide)) (by decide) rfl (fun ls hl => ?_)
      refine lv_goto (tgt := 113) hx hb dX6_copy_144 (by decide) ?_
      exact ih _ _ _ _ _ _ _ hw _ _ _ hB hS (lv_sub hl [1, 2, 3, 4, 5, 6, 0] rfl)
set_option maxHeartbeats 4000000 in
theorem bX6_copy_0 {p : Program} {l : Launch} {e : Env} {s : State} {m : MethodId} {args : Array Value} {below : List Frame} {meth : Method} {c : Code} {D : DD} {A : Nat → Prop} {s0 : State} {ad : AD} {Q : Int32 → TS → Prop} {a1 : Int32} {a2 : Int32} {a3 : Int32} {a4 : Int32} {a5 : Int32} {T : TS} {H : Heap} {locs : List Loc} {ls : Array Slot} (F : FX p l c cX6_copy s args m RX6 D A s0 7 meth (some .int)) (hB : tB D A ad T H) (hS : va_S A s.heap H locs) (hw : wX6_copy a1 a2 a3 a4 a5 T Q) (hl : lv_has ls 7 [(0, .ref (ad 0 0 0)), (1, .int a1), (2, .int a2), (3, .int a3), (4, .int a4), (5, .int a5)]) : W p l e rX6_copy s m args below meth c H locs 0 0 (MQ below (va_Qi Q (fun u t => tB D A ad u t.heap) A) args s 0 0 A) (F0 m 0 ls []) := by
  have hx := F.1.x
  have hb := F.1.b
  unfold wX6_copy at hw
  refine lv_iload_n hx hb dX6_copy_0 rfl (lv_at hl 1 rfl) ?_
  refine kX6_X6_isSheet F.1 hw ⟨Nat.le_of_ble_eq_true rfl, Nat.le_of_ble_eq_true rfl⟩ ⟨Nat.zero_le _, Nat.zero_le _⟩ hl.1 (Nat.le_of_ble_eq_true rfl) dX6_copy_1 (fun r1 hw => ?_)
  refine lv_if_eq (tgt := 14) hx hb dX6_copy_4 (by decide) (fun q => ?_) (fun q => ?_)
  · replace hw := hw.1 q
    refine lv_ldc hx hb F.1.o (F.1.t _ q1326) dX6_copy_14 ?_
    exact W.iret hx hb F.1.r (fun t ht hW => ⟨⟨_, _, rfl, hw, x_B (Bw := tB D A ad) ht hB⟩, hS.F ht⟩) hS.2.2 dX6_copy_16 (hlocks := F.1.k)
  · replace hw := hw.2 q
    refine lv_iload_n hx hb dX6_copy_7 rfl (lv_at hl 3 rfl) ?_
    refine kX6_X6_isSheet F.1 hw ⟨Nat.le_of_ble_eq_true rfl, Nat.le_of_ble_eq_true rfl⟩ ⟨Nat.zero_le _, Nat.zero_le _⟩ hl.1 (Nat.le_of_ble_eq_true rfl) dX6_copy_8 (fun r2 hw => ?_)
    refine lv_if_ne (tgt := 17) hx hb dX6_copy_11 (by decide) (fun q => ?_) (fun q => ?_)
    · replace hw := hw.2 q
      refine lv_aload_n hx hb dX6_copy_17 rfl (lv_at hl 0 rfl) ?_
      refine tg_4 F hB dX6_copy_18 ?_
      refine lv_iload_n hx hb dX6_copy_21 rfl (lv_at hl 1 rfl) ?_
      obtain ⟨hin, hw⟩ := hw
      refine t_ald F hB (k := 4) rfl hin dX6_copy_22 ?_
      refine lv_if_lt (tgt := 35) hx hb dX6_copy_23 (by decide) (fun q => ?_) (fun q => ?_)
      · replace hw := hw.1 q
        refine lv_ldcw hx hb F.1.o (F.1.t _ q1649) dX6_copy_35 ?_
        exact W.iret hx hb F.1.r (fun t ht hW => ⟨⟨_, _, rfl, hw, x_B (Bw := tB D A ad) ht hB⟩, hS.F ht⟩) hS.2.2 dX6_copy_38 (hlocks := F.1.k)
      · replace hw := hw.2 q
        refine lv_aload_n hx hb dX6_copy_26 rfl (lv_at hl 0 rfl) ?_
        refine tg_4 F hB dX6_copy_27 ?_
        refine lv_iload_n hx hb dX6_copy_30 rfl (lv_at hl 3 rfl) ?_
        obtain ⟨hin, hw⟩ := hw
        refine t_ald F hB (k := 4) rfl hin dX6_copy_31 ?_
        refine lv_if_ge (tgt := 39) hx hb dX6_copy_32 (by decide) (fun q => ?_) (fun q => ?_)
        · replace hw := hw.1 q
          refine lv_aload_n hx hb dX6_copy_39 rfl (lv_at hl 0 rfl) ?_
          refine tg_4 F hB dX6_copy_40 ?_
          refine lv_iload_n hx hb dX6_copy_43 rfl (lv_at hl 1 rfl) ?_
          obtain ⟨hin, hw⟩ := hw
          refine t_ald F hB (k := 4) rfl hin dX6_copy_44 ?_
          refine lv_aload_n hx hb dX6_copy_45 rfl (lv_at hl 0 rfl) ?_
          refine tg_4 F hB dX6_copy_46 ?_
          refine lv_iload_n hx hb dX6_copy_49 rfl (lv_at hl 3 rfl) ?_
          obtain ⟨hin, hw⟩ := hw
          refine t_ald F hB (k := 4) rfl hin dX6_copy_50 ?_
          refine lv_icmp_eq (tgt := 57) hx hb dX6_copy_51 (by decide) (fun q => ?_) (fun q => ?_)
          · replace hw := hw.1 q
            refine lv_iload_n hx hb dX6_copy_57 rfl (lv_at hl 2 rfl) ?_
            refine lv_if_lt (tgt := 106) hx hb dX6_copy_58 (by decide) (fun q => ?_) (fun q => ?_)
            · replace hw := hw.1 q
              refine lv_ldcw hx hb F.1.o (F.1.t _ q1650) dX6_copy_106 ?_
              exact W.iret hx hb F.1.r (fun t ht hW => ⟨⟨_, _, rfl, hw, x_B (Bw := tB D A ad) ht hB⟩, hS.F ht⟩) hS.2.2 dX6_copy_109 (hlocks := F.1.k)
            · replace hw := hw.2 q
              refine lv_iload hx hb dX6_copy_61 (lv_at hl 4 rfl) ?_
              refine lv_if_lt (tgt := 106) hx hb dX6_copy_63 (by decide) (fun q => ?_) (fun q => ?_)
              · replace hw := hw.1 q
                refine lv_ldcw hx hb F.1.o (F.1.t _ q1650) dX6_copy_106 ?_
                exact W.iret hx hb F.1.r (fun t ht hW => ⟨⟨_, _, rfl, hw, x_B (Bw := tB D A ad) ht hB⟩, hS.F ht⟩) hS.2.2 dX6_copy_109 (hlocks := F.1.k)
              · replace hw := hw.2 q
                refine lv_iload hx hb dX6_copy_66 (lv_at hl 5 rfl) ?_
                refine lv_if_lt (tgt := 106) hx hb dX6_copy_68 (by decide) (fun q => ?_) (fun q => ?_)
                · replace hw := hw.1 q
                  refine lv_ldcw hx hb F.1.o (F.1.t _ q1650) dX6_copy_106 ?_
                  exact W.iret hx hb F.1.r (fun t ht hW => ⟨⟨_, _, rfl, hw, x_B (Bw := tB D A ad) ht hB⟩, hS.F ht⟩) hS.2.2 dX6_copy_109 (hlocks := F.1.k)
                · replace hw := hw.2 q
                  refine lv_iload_n hx hb dX6_copy_71 rfl (lv_at hl 2 rfl) ?_
                  refine lv_i2l hx hb dX6_copy_72 rfl ?_
                  refine lv_iload hx hb dX6_copy_73 (lv_at hl 5 rfl) ?_
                  refine lv_i2l hx hb dX6_copy_75 rfl ?_
                  refine lv_ladd hx hb dX6_copy_76 ?_
                  refine lv_aload_n hx hb dX6_copy_77 rfl (lv_at hl 0 rfl) ?_
                  refine tg_5 F hB dX6_copy_78 ?_
                  refine lv_iload_n hx hb dX6_copy_81 rfl (lv_at hl 1 rfl) ?_
                  obtain ⟨hin, hw⟩ := hw
                  refine t_ald F hB (k := 5) rfl hin dX6_copy_82 ?_
                  refine lv_i2l hx hb dX6_copy_83 rfl ?_
                  refine W.lcmp hx hb dX6_copy_84 ?_
                  refine lv_if_gt (tgt := 106) hx hb dX6_copy_85 (by decide) (fun q => ?_) (fun q => ?_)
                  · replace hw := hw.1 q
                    refine lv_ldcw hx hb F.1.o (F.1.t _ q1650) dX6_copy_106 ?_
                    exact W.iret hx hb F.1.r (fun t ht hW => ⟨⟨_, _, rfl, hw, x_B (Bw := tB D A ad) ht hB⟩, hS.F ht⟩) hS.2.2 dX6_copy_109 (hlocks := F.1.k)
                  · replace hw := hw.2 q
                    refine lv_iload hx hb dX6_copy_88 (lv_at hl 4 rfl) ?_
                    refine lv_i2l hx hb dX6_copy_90 rfl ?_
                    refine lv_iload hx hb dX6_copy_91 (lv_at hl 5 rfl) ?_
                    refine lv_i2l hx hb dX6_copy_93 rfl ?_
                    refine lv_ladd hx hb dX6_copy_94 ?_
                    refine lv_aload_n hx hb dX6_copy_95 rfl (lv_at hl 0 rfl) ?_
                    refine tg_5 F hB dX6_copy_96 ?_
                    refine lv_iload_n hx hb dX6_copy_99 rfl (lv_at hl 3 rfl) ?_
                    obtain ⟨hin, hw⟩ := hw
                    refine t_ald F hB (k := 5) rfl hin dX6_copy_100 ?_
                    refine lv_i2l hx hb dX6_copy_101 rfl ?_
                    refine W.lcmp hx hb dX6_copy_102 ?_
                    refine lv_if_le (tgt := 110) hx hb dX6_copy_103 (by decide) (fun q => ?_) (fun q => ?_)
                    · replace hw := hw.1 q
                      refine lv_iconst (v := 0) hx hb dX6_copy_110 (by decide) ?_
                      refine lv_istore (lv' := [(6, .int (0 : Int32)), (0, .ref (ad 0 0 0)), (1, .int a1), (2, .int a2), (3, .int a3), (4, .int a4), (5, .int a5)]) hx hb dX6_copy_111 hl (by decide) rfl (fun ls hl => ?_)
                      obtain ⟨f_113, hw⟩ := hw
                      exact bX6_copy_113 F f_113 _ _ _ _ _ _ _ hw _ _ _ hB hS (lv_sub hl [1, 2, 3, 4, 5, 6, 0] rfl)
                    · replace hw := hw.2 q
                      refine lv_ldcw hx hb F.1.o (F.1.t _ q1650) dX6_copy_106 ?_
                      exact W.iret hx hb F.1.r (fun t ht hW => ⟨⟨_, _, rfl, hw, x_B (Bw := tB D A ad) ht hB⟩, hS.F ht⟩) hS.2.2 dX6_copy_109 (hlocks := F.1.k)
          · replace hw := hw.2 q
            refine lv_ldc hx hb F.1.o (F.1.t _ q1366) dX6_copy_54 ?_
            exact W.iret hx hb F.1.r (fun t ht hW => ⟨⟨_, _, rfl, hw, x_B (Bw := tB D A ad) ht hB⟩, hS.F ht⟩) hS.2.2 dX6_copy_56 (hlocks := F.1.k)
        · replace hw := hw.2 q
          refine lv_ldcw hx hb F.1.o (F.1.t _ q1649) dX6_copy_35 ?_
          exact W.iret hx hb F.1.r (fun t ht hW => ⟨⟨_, _, rfl, hw, x_B (Bw := tB D A ad) ht hB⟩, hS.F ht⟩) hS.2.2 dX6_copy_38 (hlocks := F.1.k)
    · replace hw := hw.1 q
      refine lv_ldc hx hb F.1.o (F.1.t _ q1326) dX6_copy_14 ?_
      exact W.iret hx hb F.1.r (fun t ht hW => ⟨⟨_, _, rfl, hw, x_B (Bw := tB D A ad) ht hB⟩, hS.F ht⟩) hS.2.2 dX6_copy_16 (hlocks := F.1.k)
set_option maxHeartbeats 4000000 in
theorem mX6_copy {l : Launch} {D : DD} {A : Nat → Prop} {s0 : State} {ad : AD} {T : TS} {a1 : Int32} {a2 : Int32} {a3 : Int32} {a4 : Int32} {a5 : Int32} {Q : Int32 → TS → Prop} (hw : wX6_copy a1 a2 a3 a4 a5 T Q) : Met l yX6_copy (ws_ yX6_copy cX6_copy 7 (some .int)) rX6_copy (va_Pc [.ref (ad 0 0 0), .int a1, .int a2, .int a3, .int a4, .int a5] (fun U => tB D A ad T U.heap ∧ CX l D A s0 U)) (va_Qi Q (fun u t => tB D A ad u t.heap) A) 0 0 A := by
  refine Met.ofW (cc := cX6_copy) (maxL := 7) (ret := some .int) (by decide) rfl ?_
  intro p e s m args below meth c s₁ B hml hv
  obtain ⟨rfl, hB, hC⟩ := hv
  have F : FX p l c cX6_copy s _ m RX6 D A s0 7 meth (some .int) := ⟨mk_FP B hml rfl, hC⟩
  have hS : va_S A s.heap s.heap [] := va_S.rf
  have hl := lv_entry ([.ref (ad 0 0 0), .int a1, .int a2, .int a3, .int a4, .int a5]) (n := 7) (Nat.le_of_ble_eq_true rfl)
  rw [lg_entry_eq]
  generalize (lg_sl ([.ref (ad 0 0 0), .int a1, .int a2, .int a3, .int a4, .int a5]) ++ List.replicate (7 - (lg_sl ([.ref (ad 0 0 0), .int a1, .int a2, .int a3, .int a4, .int a5])).length) Slot.unset).toArray = ls at hl ⊢
  exact bX6_copy_0 F hB hS hw hl
def rX6_cost : Room := { frames := 2, cells := 0, slots := 0, locals := 47 }
set_option maxHeartbeats 4000000 in
theorem bX6_cost_0 {p : Program} {l : Launch} {e : Env} {s : State} {m : MethodId} {args : Array Value} {below : List Frame} {meth : Method} {c : Code} {D : DD} {A : Nat → Prop} {s0 : State} {ad : AD} {Q : Int32 → TS → Prop} {a1 : Int32} {T : TS} {H : Heap} {locs : List Loc} {ls : Array Slot} (F : FX p l c cX6_cost s args m RX6 D A s0 3 meth (some .int)) (hB : tB D A ad T H) (hS : va_S A s.heap H locs) (hw : wX6_cost a1 T Q) (hl : lv_has ls 3 [(0, .ref (ad 0 0 0)), (1, .int a1)]) : W p l e rX6_cost s m args below meth c H locs 0 0 (MQ below (va_Qi Q (fun u t => tB D A ad u t.heap) A) args s 0 0 A) (F0 m 0 ls []) := by
  have hx := F.1.x
  have hb := F.1.b
  unfold wX6_cost at hw
  refine lv_aload_n hx hb dX6_cost_0 rfl (lv_at hl 0 rfl) ?_
  refine lv_iconst (v := 1) hx hb dX6_cost_1 (by decide) ?_
  refine kX6_X6_counts F hB hS hw ⟨Nat.le_of_ble_eq_true rfl, Nat.le_of_ble_eq_true rfl⟩ ⟨Nat.zero_le _, Nat.zero_le _⟩ hl.1 (Nat.le_of_ble_eq_true rfl) dX6_cost_2 (fun r1 T2 H locs hw hB hS => ?_)
  refine lv_istore_n (lv' := [(2, .int r1), (0, .ref (ad 0 0 0)), (1, .int a1)]) hx hb dX6_cost_5 rfl hl (by decide) rfl (fun ls hl => ?_)
  refine lv_iload_n hx hb dX6_cost_6 rfl (lv_at hl 0 rfl) ?_
  refine lv_if_ge (tgt := 24) hx hb dX6_cost_7 (by decide) (fun q => ?_) (fun q => ?_)
  · replace hw := hw.1 q
    refine lv_aload_n hx hb dX6_cost_24 rfl (lv_at hl 1 rfl) ?_
    refine tg_25 F hB dX6_cost_25 ?_
    refine lv_bipush (v := 108) hx hb dX6_cost_28 (by decide) ?_
    refine lv_aload_n hx hb dX6_cost_30 rfl (lv_at hl 1 rfl) ?_
    refine lv_iload_n hx hb dX6_cost_31 rfl (lv_at hl 2 rfl) ?_
    refine lv_iconst (v := 5) hx hb dX6_cost_32 (by decide) ?_
    refine kX6_X6_dee F hB hS hw ⟨Nat.le_of_ble_eq_true rfl, Nat.le_of_ble_eq_true rfl⟩ ⟨Nat.zero_le _, Nat.zero_le _⟩ hl.1 (Nat.le_of_ble_eq_true rfl) dX6_cost_33 (fun r3 T4 H locs hw hB hS => ?_)
    obtain ⟨hin, hw⟩ := hw
    refine t_ast F hB hS (k := 25) rfl hin dX6_cost_36 (fun H locs hB hS => ?_)
    refine lv_aload_n hx hb dX6_cost_37 rfl (lv_at hl 1 rfl) ?_
    refine tg_25 F hB dX6_cost_38 ?_
    refine lv_bipush (v := 119) hx hb dX6_cost_41 (by decide) ?_
    refine lv_aload_n hx hb dX6_cost_43 rfl (lv_at hl 1 rfl) ?_
    refine lv_iload_n hx hb dX6_cost_44 rfl (lv_at hl 2 rfl) ?_
    refine lv_iconst (v := 2) hx hb dX6_cost_45 (by decide) ?_
    refine kX6_X6_dee F hB hS hw ⟨Nat.le_of_ble_eq_true rfl, Nat.le_of_ble_eq_true rfl⟩ ⟨Nat.zero_le _, Nat.zero_le _⟩ hl.1 (Nat.le_of_ble_eq_true rfl) dX6_cost_46 (fun r5 T6 H locs hw hB hS => ?_)
    obtain ⟨hin, hw⟩ := hw
    refine t_ast F hB hS (k := 25) rfl hin dX6_cost_49 (fun H locs hB hS => ?_)
    refine lv_aload_n hx hb dX6_cost_50 rfl (lv_at hl 1 rfl) ?_
    refine tg_25 F hB dX6_cost_51 ?_
    refine lv_bipush (v := 110) hx hb dX6_cost_54 (by decide) ?_
    refine lv_aload_n hx hb dX6_cost_56 rfl (lv_at hl 1 rfl) ?_
    refine lv_iload_n hx hb dX6_cost_57 rfl (lv_at hl 2 rfl) ?_
    refine kX6_X6_left F hB hS hw ⟨Nat.le_of_ble_eq_true rfl, Nat.le_of_ble_eq_true rfl⟩ ⟨Nat.zero_le _, Nat.zero_le _⟩ hl.1 (Nat.le_of_ble_eq_true rfl) dX6_cost_58 (fun r7 T8 H locs hw hB hS => ?_)
    refine kX6_X6_ones F.1 hw ⟨Nat.le_of_ble_eq_true rfl, Nat.le_of_ble_eq_true rfl⟩ ⟨Nat.zero_le _, Nat.zero_le _⟩ hl.1 (Nat.le_of_ble_eq_true rfl) dX6_cost_61 (fun r9 hw => ?_)
    obtain ⟨hin, hw⟩ := hw
    refine t_ast F hB hS (k := 25) rfl hin dX6_cost_64 (fun H locs hB hS => ?_)
    refine lv_aload_n hx hb dX6_cost_65 rfl (lv_at hl 1 rfl) ?_
    refine lv_iload_n hx hb dX6_cost_66 rfl (lv_at hl 0 rfl) ?_
    refine kX6_X6_worked F hB hS hw ⟨Nat.le_of_ble_eq_true rfl, Nat.le_of_ble_eq_true rfl⟩ ⟨Nat.zero_le _, Nat.zero_le _⟩ hl.1 (Nat.le_of_ble_eq_true rfl) dX6_cost_67 (fun r10 T11 H locs hw hB hS => ?_)
    refine lv_ldc hx hb F.1.o (F.1.t _ q1457) dX6_cost_70 ?_
    refine kX6_X6_within F.1 hw ⟨Nat.le_of_ble_eq_true rfl, Nat.le_of_ble_eq_true rfl⟩ ⟨Nat.zero_le _, Nat.zero_le _⟩ hl.1 (Nat.le_of_ble_eq_true rfl) dX6_cost_72 (fun r12 hw => ?_)
    exact W.iret hx hb F.1.r (fun t ht hW => ⟨⟨_, _, rfl, hw, x_B (Bw := tB D A ad) ht hB⟩, hS.F ht⟩) hS.2.2 dX6_cost_75 (hlocks := F.1.k)
  · replace hw := hw.2 q
    refine lv_aload_n hx hb dX6_cost_10 rfl (lv_at hl 1 rfl) ?_
    refine lv_iload_n hx hb dX6_cost_11 rfl (lv_at hl 2 rfl) ?_
    refine lv_iconst (v := 5) hx hb dX6_cost_12 (by decide) ?_
    refine kX6_X6_dee F hB hS hw ⟨Nat.le_of_ble_eq_true rfl, Nat.le_of_ble_eq_true rfl⟩ ⟨Nat.zero_le _, Nat.zero_le _⟩ hl.1 (Nat.le_of_ble_eq_true rfl) dX6_cost_13 (fun r13 T14 H locs hw hB hS => ?_)
    refine lv_aload_n hx hb dX6_cost_16 rfl (lv_at hl 1 rfl) ?_
    refine lv_iload_n hx hb dX6_cost_17 rfl (lv_at hl 2 rfl) ?_
    refine lv_iconst (v := 2) hx hb dX6_cost_18 (by decide) ?_
    refine kX6_X6_dee F hB hS hw ⟨Nat.le_of_ble_eq_true rfl, Nat.le_of_ble_eq_true rfl⟩ ⟨Nat.zero_le _, Nat.zero_le _⟩ hl.1 (Nat.le_of_ble_eq_true rfl) dX6_cost_19 (fun r15 T16 H locs hw hB hS => ?_)
    refine lv_imul hx hb dX6_cost_22 ?_
    exact W.iret hx hb F.1.r (fun t ht hW => ⟨⟨_, _, rfl, hw, x_B (Bw := tB D A ad) ht hB⟩, hS.F ht⟩) hS.2.2 dX6_cost_23 (hlocks := F.1.k)
set_option maxHeartbeats 4000000 in
theorem mX6_cost {l : Launch} {D : DD} {A : Nat → Prop} {s0 : State} {ad : AD} {T : TS} {a1 : Int32} {Q : Int32 → TS → Prop} (hw : wX6_cost a1 T Q) : Met l yX6_cost (ws_ yX6_cost cX6_cost 3 (some .int)) rX6_cost (va_Pc [.ref (ad 0 0 0), .int a1] (fun U => tB D A ad T U.heap ∧ CX l D A s0 U)) (va_Qi Q (fun u t => tB D A ad u t.heap) A) 0 0 A := by
  refine Met.ofW (cc := cX6_cost) (maxL := 3) (ret := some .int) (by decide) rfl ?_
  intro p e s m args below meth c s₁ B hml hv
  obtain ⟨rfl, hB, hC⟩ := hv
  have F : FX p l c cX6_cost s _ m RX6 D A s0 3 meth (some .int) := ⟨mk_FP B hml rfl, hC⟩
  have hS : va_S A s.heap s.heap [] := va_S.rf
  have hl := lv_entry ([.ref (ad 0 0 0), .int a1]) (n := 3) (Nat.le_of_ble_eq_true rfl)
  rw [lg_entry_eq]
  generalize (lg_sl ([.ref (ad 0 0 0), .int a1]) ++ List.replicate (3 - (lg_sl ([.ref (ad 0 0 0), .int a1])).length) Slot.unset).toArray = ls at hl ⊢
  exact bX6_cost_0 F hB hS hw hl
theorem kX6_X6_cost {p : Program} {l : Launch} {e : Env} {R : Room} {s : State} {m : MethodId} {args : Array Value} {below : List Frame} {meth : Method} {c : Code} {H : Heap} {locs : List Loc} {cells slots : Nat} {Q0 : State → Prop} {cc : ByteArray} {pc nL : Nat} {ls : Array Slot} {rest : List Value} {ret : Option FieldType} {D : DD} {A : Nat → Prop} {s0 : State} {ad : AD} {T : TS} {a1 : Int32} {Q : Int32 → TS → Prop} (F : FX p l c cc s args m RX6 D A s0 nL meth ret) (hB : tB D A ad T H) (hS : va_S A s.heap H locs) (hw : wX6_cost a1 T Q) (hR : rX6_cost.frames + 1 ≤ R.frames ∧ 8 + (3 + 11) + rX6_cost.locals ≤ R.locals) (hc : cells + 0 ≤ R.cells ∧ slots + 0 ≤ R.slots) (hsz : ls.size = nL) (hW : (rest.map fun v => v.category).sum ≤ 8) (hdg : decode cc pc = .ok (.invokevirtual 149, 3)) (kk : ∀ (r : Int32) (u : TS) (H1 : Heap) (locs1 : List Loc), Q r u → tB D A ad u H1 → va_S A s.heap H1 locs1 → W p l e R s m args below meth c H1 locs1 cells slots Q0 (F0 m (pc + 3) ls (.int r :: rest))) : W p l e R s m args below meth c H locs cells slots Q0 (F0 m pc ls (.int a1 :: .ref (ad 0 0 0) :: rest)) :=
  k_i (Bw := tB D A ad) (k_runV (Bw := tB D A ad) (n := 1) (As := [.int a1]) F hB hS (t_recv F hB) (mX6_cost hw) q1438 q1440 qs54 q92 q1441 (by decide +kernel) hR ⟨rfl, rfl⟩ hc rfl hsz rfl hW hdg) hS kk
def rX6_ofAll : Room := { frames := 1, cells := 0, slots := 0, locals := 22 }
set_option maxHeartbeats 4000000 in
theorem bX6_ofAll_4 {p : Program} {l : Launch} {e : Env} {s : State} {m : MethodId} {args : Array Value} {below : List Frame} {meth : Method} {c : Code} {D : DD} {A : Nat → Prop} {s0 : State} {ad : AD} {Q : Int32 → TS → Prop} (F : FX p l c cX6_ofAll s args m RX6 D A s0 4 meth (some .int)) : ∀ (n : Nat) (l1 : Int32) (l2 : Int32) (l3 : Int32) (T : TS), wX6_ofAll_4 Q n l1 l2 l3 T → ∀ (H : Heap) (locs : List Loc) (ls : Array Slot), tB D A ad T H → va_S A s.heap H locs → lv_has ls 4 [(0, .ref (ad 0 0 0)), (1, .int l1), (2, .int l2), (3, .int l3)] → W p l e rX6_ofAll s m args below meth c H locs 0 0 (MQ below (va_Qi Q (fun u t => tB D A ad u t.heap) A) args s 0 0 A) (F0 m 4 ls []) := by
  have hx := F.1.x
  have hb := F.1.b
  intro n
  induction n with
  | zero => intro l1 l2 l3 T hw; exact hw.elim
  | succ n ih =>
    intro l1 l2 l3 T hw H locs ls hB hS hl
    unfold wX6_ofAll_4 at hw
    refine lv_iload_n hx hb dX6_ofAll_4 rfl (lv_at hl 3 rfl) ?_
    refine lv_aload_n hx hb dX6_ofAll_5 rfl (lv_at hl 0 rfl) ?_
    refine tg_0 F hB dX6_ofAll_6 ?_
    refine lv_iconst (v := 1) hx hb dX6_ofAll_9 (by decide) ?_
    obtain ⟨hin, hw⟩ := hw
    refine t_ald F hB (k := 0) rfl hin dX6_ofAll_10 ?_
    refine lv_icmp_ge (tgt := 29) hx hb dX6_ofAll_11 (by decide) (fun q => ?_) (fun q => ?_)
    · replace hw := hw.1 q
      refine lv_iload_n hx hb dX6_ofAll_29 rfl (lv_at hl 2 rfl) ?_
      exact W.iret hx hb F.1.r (fun t ht hW => ⟨⟨_, _, rfl, hw, x_B (Bw := tB D A ad) ht hB⟩, hS.F ht⟩) hS.2.2 dX6_ofAll_30 (hlocks := F.1.k)
    · replace hw := hw.2 q
      refine lv_iload_n hx hb dX6_ofAll_14 rfl (lv_at hl 2 rfl) ?_
      refine lv_aload_n hx hb dX6_ofAll_15 rfl (lv_at hl 0 rfl) ?_
      refine lv_iload_n hx hb dX6_ofAll_16 rfl (lv_at hl 3 rfl) ?_
      refine lv_iload_n hx hb dX6_ofAll_17 rfl (lv_at hl 1 rfl) ?_
      refine kX6_X6_dee F hB hS hw ⟨Nat.le_of_ble_eq_true rfl, Nat.le_of_ble_eq_true rfl⟩ ⟨Nat.zero_le _, Nat.zero_le _⟩ hl.1 (Nat.le_of_ble_eq_true rfl) dX6_ofAll_18 (fun r1 T2 H locs hw hB hS => ?_)
      refine lv_iadd hx hb dX6_ofAll_21 ?_
      refine lv_istore_n (lv' := [(2, .int (l2 + r1)), (0, .ref (ad 0 0 0)), (1, .int l1), (3, .int l3)]) hx hb dX6_ofAll_22 rfl hl (by decide) rfl (fun ls hl => ?_)
      refine lv_iinc (v := l3 + (1 : Int32)) (lv' := [(3, .int (l3 + (1 : Int32))), (2, .int (l2 + r1)), (0, .ref (ad 0 0 0)), (1, .int l1)]) hx hb dX6_ofAll_23 hl (k := 3) rfl (x_inc (by decide)) (by decide) rfl (fun ls hl => ?_)
      refine lv_goto (tgt := 4) hx hb dX6_ofAll_26 (by decide) ?_
      exact ih _ _ _ _ hw _ _ _ hB hS (lv_sub hl [2, 3, 1, 0] rfl)
set_option maxHeartbeats 4000000 in
theorem bX6_ofAll_0 {p : Program} {l : Launch} {e : Env} {s : State} {m : MethodId} {args : Array Value} {below : List Frame} {meth : Method} {c : Code} {D : DD} {A : Nat → Prop} {s0 : State} {ad : AD} {Q : Int32 → TS → Prop} {a1 : Int32} {T : TS} {H : Heap} {locs : List Loc} {ls : Array Slot} (F : FX p l c cX6_ofAll s args m RX6 D A s0 4 meth (some .int)) (hB : tB D A ad T H) (hS : va_S A s.heap H locs) (hw : wX6_ofAll a1 T Q) (hl : lv_has ls 4 [(0, .ref (ad 0 0 0)), (1, .int a1)]) : W p l e rX6_ofAll s m args below meth c H locs 0 0 (MQ below (va_Qi Q (fun u t => tB D A ad u t.heap) A) args s 0 0 A) (F0 m 0 ls []) := by
  have hx := F.1.x
  have hb := F.1.b
  unfold wX6_ofAll at hw
  refine lv_iconst (v := 0) hx hb dX6_ofAll_0 (by decide) ?_
  refine lv_istore_n (lv' := [(2, .int (0 : Int32)), (0, .ref (ad 0 0 0)), (1, .int a1)]) hx hb dX6_ofAll_1 rfl hl (by decide) rfl (fun ls hl => ?_)
  refine lv_iconst (v := 0) hx hb dX6_ofAll_2 (by decide) ?_
  refine lv_istore_n (lv' := [(3, .int (0 : Int32)), (2, .int (0 : Int32)), (0, .ref (ad 0 0 0)), (1, .int a1)]) hx hb dX6_ofAll_3 rfl hl (by decide) rfl (fun ls hl => ?_)
  obtain ⟨f_4, hw⟩ := hw
  exact bX6_ofAll_4 F f_4 _ _ _ _ hw _ _ _ hB hS (lv_sub hl [2, 3, 1, 0] rfl)
set_option maxHeartbeats 4000000 in
theorem mX6_ofAll {l : Launch} {D : DD} {A : Nat → Prop} {s0 : State} {ad : AD} {T : TS} {a1 : Int32} {Q : Int32 → TS → Prop} (hw : wX6_ofAll a1 T Q) : Met l yX6_ofAll (ws_ yX6_ofAll cX6_ofAll 4 (some .int)) rX6_ofAll (va_Pc [.ref (ad 0 0 0), .int a1] (fun U => tB D A ad T U.heap ∧ CX l D A s0 U)) (va_Qi Q (fun u t => tB D A ad u t.heap) A) 0 0 A := by
  refine Met.ofW (cc := cX6_ofAll) (maxL := 4) (ret := some .int) (by decide) rfl ?_
  intro p e s m args below meth c s₁ B hml hv
  obtain ⟨rfl, hB, hC⟩ := hv
  have F : FX p l c cX6_ofAll s _ m RX6 D A s0 4 meth (some .int) := ⟨mk_FP B hml rfl, hC⟩
  have hS : va_S A s.heap s.heap [] := va_S.rf
  have hl := lv_entry ([.ref (ad 0 0 0), .int a1]) (n := 4) (Nat.le_of_ble_eq_true rfl)
  rw [lg_entry_eq]
  generalize (lg_sl ([.ref (ad 0 0 0), .int a1]) ++ List.replicate (4 - (lg_sl ([.ref (ad 0 0 0), .int a1])).length) Slot.unset).toArray = ls at hl ⊢
  exact bX6_ofAll_0 F hB hS hw hl
theorem kX6_X6_ofAll {p : Program} {l : Launch} {e : Env} {R : Room} {s : State} {m : MethodId} {args : Array Value} {below : List Frame} {meth : Method} {c : Code} {H : Heap} {locs : List Loc} {cells slots : Nat} {Q0 : State → Prop} {cc : ByteArray} {pc nL : Nat} {ls : Array Slot} {rest : List Value} {ret : Option FieldType} {D : DD} {A : Nat → Prop} {s0 : State} {ad : AD} {T : TS} {a1 : Int32} {Q : Int32 → TS → Prop} (F : FX p l c cc s args m RX6 D A s0 nL meth ret) (hB : tB D A ad T H) (hS : va_S A s.heap H locs) (hw : wX6_ofAll a1 T Q) (hR : rX6_ofAll.frames + 1 ≤ R.frames ∧ 8 + (4 + 11) + rX6_ofAll.locals ≤ R.locals) (hc : cells + 0 ≤ R.cells ∧ slots + 0 ≤ R.slots) (hsz : ls.size = nL) (hW : (rest.map fun v => v.category).sum ≤ 8) (hdg : decode cc pc = .ok (.invokevirtual 319, 3)) (kk : ∀ (r : Int32) (u : TS) (H1 : Heap) (locs1 : List Loc), Q r u → tB D A ad u H1 → va_S A s.heap H1 locs1 → W p l e R s m args below meth c H1 locs1 cells slots Q0 (F0 m (pc + 3) ls (.int r :: rest))) : W p l e R s m args below meth c H locs cells slots Q0 (F0 m pc ls (.int a1 :: .ref (ad 0 0 0) :: rest)) :=
  k_i (Bw := tB D A ad) (k_runV (Bw := tB D A ad) (n := 1) (As := [.int a1]) F hB hS (t_recv F hB) (mX6_ofAll hw) q1709 q1711 qs81 q92 q1712 (by decide +kernel) hR ⟨rfl, rfl⟩ hc rfl hsz rfl hW hdg) hS kk
def rX6_count : Room := { frames := 2, cells := 0, slots := 0, locals := 45 }
set_option maxHeartbeats 4000000 in
theorem bX6_count_0 {p : Program} {l : Launch} {e : Env} {s : State} {m : MethodId} {args : Array Value} {below : List Frame} {meth : Method} {c : Code} {D : DD} {A : Nat → Prop} {s0 : State} {ad : AD} {Q : Int32 → TS → Prop} {a1 : Int32} {T : TS} {H : Heap} {locs : List Loc} {ls : Array Slot} (F : FX p l c cX6_count s args m RX6 D A s0 2 meth (some .int)) (hB : tB D A ad T H) (hS : va_S A s.heap H locs) (hw : wX6_count a1 T Q) (hl : lv_has ls 2 [(0, .ref (ad 0 0 0)), (1, .int a1)]) : W p l e rX6_count s m args below meth c H locs 0 0 (MQ below (va_Qi Q (fun u t => tB D A ad u t.heap) A) args s 0 0 A) (F0 m 0 ls []) := by
  have hx := F.1.x
  have hb := F.1.b
  unfold wX6_count at hw
  refine lv_iload_n hx hb dX6_count_0 rfl (lv_at hl 1 rfl) ?_
  by_cases q0 : a1 = 0
  · replace hw := hw.1 q0
    refine lv_tableIn (off := 51) (tgt := 52) hx hb dX6_count_1 (by rw [q0]; decide) (by rw [q0]; decide) (by rw [q0]; rfl) (by decide) ?_
    refine lv_aload_n hx hb dX6_count_52 rfl (lv_at hl 0 rfl) ?_
    refine tg_0 F hB dX6_count_53 ?_
    refine lv_iconst (v := 0) hx hb dX6_count_56 (by decide) ?_
    obtain ⟨hin, hw⟩ := hw
    refine t_ald F hB (k := 0) rfl hin dX6_count_57 ?_
    exact W.iret hx hb F.1.r (fun t ht hW => ⟨⟨_, _, rfl, hw, x_B (Bw := tB D A ad) ht hB⟩, hS.F ht⟩) hS.2.2 dX6_count_58 (hlocks := F.1.k)
  replace hw := hw.2 q0
  by_cases q1 : a1 = 1
  · replace hw := hw.1 q1
    refine lv_tableIn (off := 58) (tgt := 59) hx hb dX6_count_1 (by rw [q1]; decide) (by rw [q1]; decide) (by rw [q1]; rfl) (by decide) ?_
    refine lv_aload_n hx hb dX6_count_59 rfl (lv_at hl 0 rfl) ?_
    refine tg_0 F hB dX6_count_60 ?_
    refine lv_iconst (v := 1) hx hb dX6_count_63 (by decide) ?_
    obtain ⟨hin, hw⟩ := hw
    refine t_ald F hB (k := 0) rfl hin dX6_count_64 ?_
    exact W.iret hx hb F.1.r (fun t ht hW => ⟨⟨_, _, rfl, hw, x_B (Bw := tB D A ad) ht hB⟩, hS.F ht⟩) hS.2.2 dX6_count_65 (hlocks := F.1.k)
  replace hw := hw.2 q1
  by_cases q2 : a1 = 2
  · replace hw := hw.1 q2
    refine lv_tableIn (off := 65) (tgt := 66) hx hb dX6_count_1 (by rw [q2]; decide) (by rw [q2]; decide) (by rw [q2]; rfl) (by decide) ?_
    refine lv_aload_n hx hb dX6_count_66 rfl (lv_at hl 0 rfl) ?_
    refine tg_0 F hB dX6_count_67 ?_
    refine lv_iconst (v := 3) hx hb dX6_count_70 (by decide) ?_
    obtain ⟨hin, hw⟩ := hw
    refine t_ald F hB (k := 0) rfl hin dX6_count_71 ?_
    exact W.iret hx hb F.1.r (fun t ht hW => ⟨⟨_, _, rfl, hw, x_B (Bw := tB D A ad) ht hB⟩, hS.F ht⟩) hS.2.2 dX6_count_72 (hlocks := F.1.k)
  replace hw := hw.2 q2
  by_cases q3 : a1 = 3
  · replace hw := hw.1 q3
    refine lv_tableIn (off := 72) (tgt := 73) hx hb dX6_count_1 (by rw [q3]; decide) (by rw [q3]; decide) (by rw [q3]; rfl) (by decide) ?_
    refine lv_aload_n hx hb dX6_count_73 rfl (lv_at hl 0 rfl) ?_
    refine lv_iconst (v := 4) hx hb dX6_count_74 (by decide) ?_
    refine kX6_X6_ofAll F hB hS hw ⟨Nat.le_of_ble_eq_true rfl, Nat.le_of_ble_eq_true rfl⟩ ⟨Nat.zero_le _, Nat.zero_le _⟩ hl.1 (Nat.le_of_ble_eq_true rfl) dX6_count_75 (fun r1 T2 H locs hw hB hS => ?_)
    exact W.iret hx hb F.1.r (fun t ht hW => ⟨⟨_, _, rfl, hw, x_B (Bw := tB D A ad) ht hB⟩, hS.F ht⟩) hS.2.2 dX6_count_78 (hlocks := F.1.k)
  replace hw := hw.2 q3
  by_cases q4 : a1 = 4
  · replace hw := hw.1 q4
    refine lv_tableIn (off := 78) (tgt := 79) hx hb dX6_count_1 (by rw [q4]; decide) (by rw [q4]; decide) (by rw [q4]; rfl) (by decide) ?_
    refine lv_aload_n hx hb dX6_count_79 rfl (lv_at hl 0 rfl) ?_
    refine lv_iconst (v := 5) hx hb dX6_count_80 (by decide) ?_
    refine kX6_X6_ofAll F hB hS hw ⟨Nat.le_of_ble_eq_true rfl, Nat.le_of_ble_eq_true rfl⟩ ⟨Nat.zero_le _, Nat.zero_le _⟩ hl.1 (Nat.le_of_ble_eq_true rfl) dX6_count_81 (fun r3 T4 H locs hw hB hS => ?_)
    exact W.iret hx hb F.1.r (fun t ht hW => ⟨⟨_, _, rfl, hw, x_B (Bw := tB D A ad) ht hB⟩, hS.F ht⟩) hS.2.2 dX6_count_84 (hlocks := F.1.k)
  replace hw := hw.2 q4
  by_cases q5 : a1 = 5
  · replace hw := hw.1 q5
    refine lv_tableIn (off := 84) (tgt := 85) hx hb dX6_count_1 (by rw [q5]; decide) (by rw [q5]; decide) (by rw [q5]; rfl) (by decide) ?_
    refine lv_aload_n hx hb dX6_count_85 rfl (lv_at hl 0 rfl) ?_
    refine tg_0 F hB dX6_count_86 ?_
    refine lv_iconst (v := 2) hx hb dX6_count_89 (by decide) ?_
    obtain ⟨hin, hw⟩ := hw
    refine t_ald F hB (k := 0) rfl hin dX6_count_90 ?_
    exact W.iret hx hb F.1.r (fun t ht hW => ⟨⟨_, _, rfl, hw, x_B (Bw := tB D A ad) ht hB⟩, hS.F ht⟩) hS.2.2 dX6_count_91 (hlocks := F.1.k)
  replace hw := hw.2 q5
  by_cases q6 : a1 = 6
  · replace hw := hw.1 q6
    refine lv_tableIn (off := 91) (tgt := 92) hx hb dX6_count_1 (by rw [q6]; decide) (by rw [q6]; decide) (by rw [q6]; rfl) (by decide) ?_
    refine lv_aload_n hx hb dX6_count_92 rfl (lv_at hl 0 rfl) ?_
    refine tg_29 F hB dX6_count_93 ?_
    exact W.iret hx hb F.1.r (fun t ht hW => ⟨⟨_, _, rfl, hw, x_B (Bw := tB D A ad) ht hB⟩, hS.F ht⟩) hS.2.2 dX6_count_96 (hlocks := F.1.k)
  replace hw := hw.2 q6
  by_cases q7 : a1 = 7
  · replace hw := hw.1 q7
    refine lv_tableIn (off := 96) (tgt := 97) hx hb dX6_count_1 (by rw [q7]; decide) (by rw [q7]; decide) (by rw [q7]; rfl) (by decide) ?_
    refine lv_aload_n hx hb dX6_count_97 rfl (lv_at hl 0 rfl) ?_
    refine tg_14 F hB dX6_count_98 ?_
    exact W.iret hx hb F.1.r (fun t ht hW => ⟨⟨_, _, rfl, hw, x_B (Bw := tB D A ad) ht hB⟩, hS.F ht⟩) hS.2.2 dX6_count_101 (hlocks := F.1.k)
  replace hw := hw.2 q7
  by_cases q8 : a1 = 8
  · replace hw := hw.1 q8
    refine lv_tableIn (off := 101) (tgt := 102) hx hb dX6_count_1 (by rw [q8]; decide) (by rw [q8]; decide) (by rw [q8]; rfl) (by decide) ?_
    refine lv_aload_n hx hb dX6_count_102 rfl (lv_at hl 0 rfl) ?_
    refine tg_0 F hB dX6_count_103 ?_
    refine lv_iconst (v := 4) hx hb dX6_count_106 (by decide) ?_
    obtain ⟨hin, hw⟩ := hw
    refine t_ald F hB (k := 0) rfl hin dX6_count_107 ?_
    exact W.iret hx hb F.1.r (fun t ht hW => ⟨⟨_, _, rfl, hw, x_B (Bw := tB D A ad) ht hB⟩, hS.F ht⟩) hS.2.2 dX6_count_108 (hlocks := F.1.k)
  replace hw := hw.2 q8
  refine lv_tableOut (tgt := 109) hx hb dX6_count_1 (by have n0 := x_ne q0 (a := 0) (by decide); have n1 := x_ne q1 (a := 1) (by decide); have n2 := x_ne q2 (a := 2) (by decide); have n3 := x_ne q3 (a := 3) (by decide); have n4 := x_ne q4 (a := 4) (by decide); have n5 := x_ne q5 (a := 5) (by decide); have n6 := x_ne q6 (a := 6) (by decide); have n7 := x_ne q7 (a := 7) (by decide); have n8 := x_ne q8 (a := 8) (by decide); omega) (by decide) ?_
  refine lv_ldc hx hb F.1.o (F.1.t _ q1326) dX6_count_109 ?_
  exact W.iret hx hb F.1.r (fun t ht hW => ⟨⟨_, _, rfl, hw, x_B (Bw := tB D A ad) ht hB⟩, hS.F ht⟩) hS.2.2 dX6_count_111 (hlocks := F.1.k)
set_option maxHeartbeats 4000000 in
theorem mX6_count {l : Launch} {D : DD} {A : Nat → Prop} {s0 : State} {ad : AD} {T : TS} {a1 : Int32} {Q : Int32 → TS → Prop} (hw : wX6_count a1 T Q) : Met l yX6_count (ws_ yX6_count cX6_count 2 (some .int)) rX6_count (va_Pc [.ref (ad 0 0 0), .int a1] (fun U => tB D A ad T U.heap ∧ CX l D A s0 U)) (va_Qi Q (fun u t => tB D A ad u t.heap) A) 0 0 A := by
  refine Met.ofW (cc := cX6_count) (maxL := 2) (ret := some .int) (by decide) rfl ?_
  intro p e s m args below meth c s₁ B hml hv
  obtain ⟨rfl, hB, hC⟩ := hv
  have F : FX p l c cX6_count s _ m RX6 D A s0 2 meth (some .int) := ⟨mk_FP B hml rfl, hC⟩
  have hS : va_S A s.heap s.heap [] := va_S.rf
  have hl := lv_entry ([.ref (ad 0 0 0), .int a1]) (n := 2) (Nat.le_of_ble_eq_true rfl)
  rw [lg_entry_eq]
  generalize (lg_sl ([.ref (ad 0 0 0), .int a1]) ++ List.replicate (2 - (lg_sl ([.ref (ad 0 0 0), .int a1])).length) Slot.unset).toArray = ls at hl ⊢
  exact bX6_count_0 F hB hS hw hl
def rX6_deal : Room := { frames := 1, cells := 0, slots := 0, locals := 25 }
set_option maxHeartbeats 4000000 in
theorem bX6_deal_17 {p : Program} {l : Launch} {e : Env} {s : State} {m : MethodId} {args : Array Value} {below : List Frame} {meth : Method} {c : Code} {D : DD} {A : Nat → Prop} {s0 : State} {ad : AD} {Q : Int32 → TS → Prop} (F : FX p l c cX6_deal s args m RX6 D A s0 6 meth (some .int)) : ∀ (n : Nat) (l1 : Int32) (l2 : Int32) (T : TS), wX6_deal_17 Q n l1 l2 T → ∀ (H : Heap) (locs : List Loc) (ls : Array Slot), tB D A ad T H → va_S A s.heap H locs → lv_has ls 6 [(0, .ref (ad 0 0 0)), (1, .int l1), (2, .int l2)] → W p l e rX6_deal s m args below meth c H locs 0 0 (MQ below (va_Qi Q (fun u t => tB D A ad u t.heap) A) args s 0 0 A) (F0 m 17 ls []) := by
  have hx := F.1.x
  have hb := F.1.b
  intro n
  induction n with
  | zero => intro l1 l2 T hw; exact hw.elim
  | succ n ih =>
    intro l1 l2 T hw H locs ls hB hS hl
    unfold wX6_deal_17 at hw
    refine lv_iload_n hx hb dX6_deal_17 rfl (lv_at hl 2 rfl) ?_
    refine lv_iload_n hx hb dX6_deal_18 rfl (lv_at hl 1 rfl) ?_
    refine lv_icmp_ge (tgt := 76) hx hb dX6_deal_19 (by decide) (fun q => ?_) (fun q => ?_)
    · replace hw := hw.1 q
      refine lv_iload_n hx hb dX6_deal_76 rfl (lv_at hl 2 rfl) ?_
      exact W.iret hx hb F.1.r (fun t ht hW => ⟨⟨_, _, rfl, hw, x_B (Bw := tB D A ad) ht hB⟩, hS.F ht⟩) hS.2.2 dX6_deal_77 (hlocks := F.1.k)
    · replace hw := hw.2 q
      refine lv_aload_n hx hb dX6_deal_22 rfl (lv_at hl 0 rfl) ?_
      refine tg_0 F hB dX6_deal_23 ?_
      refine lv_iconst (v := 0) hx hb dX6_deal_26 (by decide) ?_
      obtain ⟨hin, hw⟩ := hw
      refine t_ald F hB (k := 0) rfl hin dX6_deal_27 ?_
      refine lv_bipush (v := 12) hx hb dX6_deal_28 (by decide) ?_
      refine lv_icmp_ge (tgt := 76) hx hb dX6_deal_30 (by decide) (fun q => ?_) (fun q => ?_)
      · replace hw := hw.1 q
        refine lv_iload_n hx hb dX6_deal_76 rfl (lv_at hl 2 rfl) ?_
        exact W.iret hx hb F.1.r (fun t ht hW => ⟨⟨_, _, rfl, hw, x_B (Bw := tB D A ad) ht hB⟩, hS.F ht⟩) hS.2.2 dX6_deal_77 (hlocks := F.1.k)
      · replace hw := hw.2 q
        refine lv_aload_n hx hb dX6_deal_33 rfl (lv_at hl 0 rfl) ?_
        refine kX6_X6_drawn F hB hS hw ⟨Nat.le_of_ble_eq_true rfl, Nat.le_of_ble_eq_true rfl⟩ ⟨Nat.zero_le _, Nat.zero_le _⟩ hl.1 (Nat.le_of_ble_eq_true rfl) dX6_deal_34 (fun r1 T2 H locs hw hB hS => ?_)
        refine lv_bipush (v := 6) hx hb dX6_deal_37 (by decide) ?_
        refine lv_irem hx hb dX6_deal_39 (by decide) ?_
        refine lv_istore_n (lv' := [(3, .int (r1 - r1 / (6 : Int32) * (6 : Int32))), (0, .ref (ad 0 0 0)), (1, .int l1), (2, .int l2)]) hx hb dX6_deal_40 rfl hl (by decide) rfl (fun ls hl => ?_)
        refine lv_aload_n hx hb dX6_deal_41 rfl (lv_at hl 1 rfl) ?_
        refine kX6_X6_drawn F hB hS hw ⟨Nat.le_of_ble_eq_true rfl, Nat.le_of_ble_eq_true rfl⟩ ⟨Nat.zero_le _, Nat.zero_le _⟩ hl.1 (Nat.le_of_ble_eq_true rfl) dX6_deal_42 (fun r3 T4 H locs hw hB hS => ?_)
        refine lv_bipush (v := 101) hx hb dX6_deal_45 (by decide) ?_
        refine lv_irem hx hb dX6_deal_47 (by decide) ?_
        refine lv_istore (lv' := [(4, .int (r3 - r3 / (101 : Int32) * (101 : Int32))), (3, .int (r1 - r1 / (6 : Int32) * (6 : Int32))), (0, .ref (ad 0 0 0)), (1, .int l1), (2, .int l2)]) hx hb dX6_deal_48 hl (by decide) rfl (fun ls hl => ?_)
        refine lv_aload_n hx hb dX6_deal_50 rfl (lv_at hl 2 rfl) ?_
        refine kX6_X6_drawn F hB hS hw ⟨Nat.le_of_ble_eq_true rfl, Nat.le_of_ble_eq_true rfl⟩ ⟨Nat.zero_le _, Nat.zero_le _⟩ hl.1 (Nat.le_of_ble_eq_true rfl) dX6_deal_51 (fun r5 T6 H locs hw hB hS => ?_)
        refine lv_istore (lv' := [(5, .int r5), (4, .int (r3 - r3 / (101 : Int32) * (101 : Int32))), (3, .int (r1 - r1 / (6 : Int32) * (6 : Int32))), (0, .ref (ad 0 0 0)), (1, .int l1), (2, .int l2)]) hx hb dX6_deal_54 hl (by decide) rfl (fun ls hl => ?_)
        refine lv_aload_n hx hb dX6_deal_56 rfl (lv_at hl 3 rfl) ?_
        refine lv_iload_n hx hb dX6_deal_57 rfl (lv_at hl 2 rfl) ?_
        refine lv_iload hx hb dX6_deal_58 (lv_at hl 1 rfl) ?_
        refine lv_iload hx hb dX6_deal_60 (lv_at hl 0 rfl) ?_
        refine lv_aload_n hx hb dX6_deal_62 rfl (lv_at hl 3 rfl) ?_
        refine kX6_X6_drawn F hB hS hw ⟨Nat.le_of_ble_eq_true rfl, Nat.le_of_ble_eq_true rfl⟩ ⟨Nat.zero_le _, Nat.zero_le _⟩ hl.1 (Nat.le_of_ble_eq_true rfl) dX6_deal_63 (fun r7 T8 H locs hw hB hS => ?_)
        refine lv_iand hx hb dX6_deal_66 ?_
        refine kX6_X6_comes F hB hS hw ⟨Nat.le_of_ble_eq_true rfl, Nat.le_of_ble_eq_true rfl⟩ ⟨Nat.zero_le _, Nat.zero_le _⟩ hl.1 (Nat.le_of_ble_eq_true rfl) dX6_deal_67 (fun T10 H locs hw hB hS => ?_)
        refine lv_iinc (v := l2 + (1 : Int32)) (lv' := [(2, .int (l2 + (1 : Int32))), (5, .int r5), (4, .int (r3 - r3 / (101 : Int32) * (101 : Int32))), (3, .int (r1 - r1 / (6 : Int32) * (6 : Int32))), (0, .ref (ad 0 0 0)), (1, .int l1)]) hx hb dX6_deal_70 hl (k := 5) rfl (x_inc (by decide)) (by decide) rfl (fun ls hl => ?_)
        refine lv_goto (tgt := 17) hx hb dX6_deal_73 (by decide) ?_
        exact ih _ _ _ hw _ _ _ hB hS (lv_sub hl [4, 5, 0] rfl)
set_option maxHeartbeats 4000000 in
theorem bX6_deal_0 {p : Program} {l : Launch} {e : Env} {s : State} {m : MethodId} {args : Array Value} {below : List Frame} {meth : Method} {c : Code} {D : DD} {A : Nat → Prop} {s0 : State} {ad : AD} {Q : Int32 → TS → Prop} {a1 : Int32} {T : TS} {H : Heap} {locs : List Loc} {ls : Array Slot} (F : FX p l c cX6_deal s args m RX6 D A s0 6 meth (some .int)) (hB : tB D A ad T H) (hS : va_S A s.heap H locs) (hw : wX6_deal a1 T Q) (hl : lv_has ls 6 [(0, .ref (ad 0 0 0)), (1, .int a1)]) : W p l e rX6_deal s m args below meth c H locs 0 0 (MQ below (va_Qi Q (fun u t => tB D A ad u t.heap) A) args s 0 0 A) (F0 m 0 ls []) := by
  have hx := F.1.x
  have hb := F.1.b
  unfold wX6_deal at hw
  refine lv_iload_n hx hb dX6_deal_0 rfl (lv_at hl 1 rfl) ?_
  refine lv_i2l hx hb dX6_deal_1 rfl ?_
  refine lv_lconst (v := 1) hx hb dX6_deal_2 (by decide) ?_
  refine lv_ldc2 hx hb F.1.o (F.1.t _ q1404) dX6_deal_3 ?_
  refine kX6_X6_isIn F.1 hw ⟨Nat.le_of_ble_eq_true rfl, Nat.le_of_ble_eq_true rfl⟩ ⟨Nat.zero_le _, Nat.zero_le _⟩ hl.1 (Nat.le_of_ble_eq_true rfl) dX6_deal_6 (fun r1 hw => ?_)
  refine lv_if_ne (tgt := 15) hx hb dX6_deal_9 (by decide) (fun q => ?_) (fun q => ?_)
  · replace hw := hw.2 q
    refine lv_iconst (v := 0) hx hb dX6_deal_15 (by decide) ?_
    refine lv_istore_n (lv' := [(2, .int (0 : Int32)), (0, .ref (ad 0 0 0)), (1, .int a1)]) hx hb dX6_deal_16 rfl hl (by decide) rfl (fun ls hl => ?_)
    obtain ⟨f_17, hw⟩ := hw
    exact bX6_deal_17 F f_17 _ _ _ hw _ _ _ hB hS (lv_sub hl [1, 2, 0] rfl)
  · replace hw := hw.1 q
    refine lv_ldc hx hb F.1.o (F.1.t _ q1326) dX6_deal_12 ?_
    exact W.iret hx hb F.1.r (fun t ht hW => ⟨⟨_, _, rfl, hw, x_B (Bw := tB D A ad) ht hB⟩, hS.F ht⟩) hS.2.2 dX6_deal_14 (hlocks := F.1.k)
set_option maxHeartbeats 4000000 in
theorem mX6_deal {l : Launch} {D : DD} {A : Nat → Prop} {s0 : State} {ad : AD} {T : TS} {a1 : Int32} {Q : Int32 → TS → Prop} (hw : wX6_deal a1 T Q) : Met l yX6_deal (ws_ yX6_deal cX6_deal 6 (some .int)) rX6_deal (va_Pc [.ref (ad 0 0 0), .int a1] (fun U => tB D A ad T U.heap ∧ CX l D A s0 U)) (va_Qi Q (fun u t => tB D A ad u t.heap) A) 0 0 A := by
  refine Met.ofW (cc := cX6_deal) (maxL := 6) (ret := some .int) (by decide) rfl ?_
  intro p e s m args below meth c s₁ B hml hv
  obtain ⟨rfl, hB, hC⟩ := hv
  have F : FX p l c cX6_deal s _ m RX6 D A s0 6 meth (some .int) := ⟨mk_FP B hml rfl, hC⟩
  have hS : va_S A s.heap s.heap [] := va_S.rf
  have hl := lv_entry ([.ref (ad 0 0 0), .int a1]) (n := 6) (Nat.le_of_ble_eq_true rfl)
  rw [lg_entry_eq]
  generalize (lg_sl ([.ref (ad 0 0 0), .int a1]) ++ List.replicate (6 - (lg_sl ([.ref (ad 0 0 0), .int a1])).length) Slot.unset).toArray = ls at hl ⊢
  exact bX6_deal_0 F hB hS hw hl
def rX6_deed : Room := { frames := 1, cells := 0, slots := 0, locals := 25 }
set_option maxHeartbeats 4000000 in
theorem bX6_deed_28 {p : Program} {l : Launch} {e : Env} {s : State} {m : MethodId} {args : Array Value} {below : List Frame} {meth : Method} {c : Code} {D : DD} {A : Nat → Prop} {s0 : State} {ad : AD} {Q : Int32 → TS → Prop} {l1 : Int32} {l2 : Int32} {l3 : Int32} {k0 : Int32} {T : TS} {H : Heap} {locs : List Loc} {ls : Array Slot} (F : FX p l c cX6_deed s args m RX6 D A s0 6 meth (some .int)) (hB : tB D A ad T H) (hS : va_S A s.heap H locs) (hw : wX6_deed_28 l1 l2 l3 k0 T Q) (hl : lv_has ls 6 [(0, .ref (ad 0 0 0)), (1, .int l1), (2, .int l2), (3, .int l3)]) : W p l e rX6_deed s m args below meth c H locs 0 0 (MQ below (va_Qi Q (fun u t => tB D A ad u t.heap) A) args s 0 0 A) (F0 m 28 ls [.int k0]) := by
  have hx := F.1.x
  have hb := F.1.b
  unfold wX6_deed_28 at hw
  refine lv_istore (lv' := [(4, .int k0), (0, .ref (ad 0 0 0)), (1, .int l1), (2, .int l2), (3, .int l3)]) hx hb dX6_deed_28 hl (by decide) rfl (fun ls hl => ?_)
  refine lv_iload hx hb dX6_deed_30 (lv_at hl 0 rfl) ?_
  refine lv_if_eq (tgt := 59) hx hb dX6_deed_32 (by decide) (fun q => ?_) (fun q => ?_)
  · replace hw := hw.1 q
    refine lv_ldc hx hb F.1.o (F.1.t _ q1326) dX6_deed_59 ?_
    exact W.iret hx hb F.1.r (fun t ht hW => ⟨⟨_, _, rfl, hw, x_B (Bw := tB D A ad) ht hB⟩, hS.F ht⟩) hS.2.2 dX6_deed_61 (hlocks := F.1.k)
  · replace hw := hw.2 q
    refine lv_iload_n hx hb dX6_deed_35 rfl (lv_at hl 3 rfl) ?_
    refine lv_i2l hx hb dX6_deed_36 rfl ?_
    refine lv_lconst (v := 0) hx hb dX6_deed_37 (by decide) ?_
    refine lv_ldc2 hx hb F.1.o (F.1.t _ q1383) dX6_deed_38 ?_
    refine kX6_X6_isIn F.1 hw ⟨Nat.le_of_ble_eq_true rfl, Nat.le_of_ble_eq_true rfl⟩ ⟨Nat.zero_le _, Nat.zero_le _⟩ hl.1 (Nat.le_of_ble_eq_true rfl) dX6_deed_41 (fun r1 hw => ?_)
    refine lv_if_eq (tgt := 59) hx hb dX6_deed_44 (by decide) (fun q => ?_) (fun q => ?_)
    · replace hw := hw.1 q
      refine lv_ldc hx hb F.1.o (F.1.t _ q1326) dX6_deed_59 ?_
      exact W.iret hx hb F.1.r (fun t ht hW => ⟨⟨_, _, rfl, hw, x_B (Bw := tB D A ad) ht hB⟩, hS.F ht⟩) hS.2.2 dX6_deed_61 (hlocks := F.1.k)
    · replace hw := hw.2 q
      refine lv_iload_n hx hb dX6_deed_47 rfl (lv_at hl 4 rfl) ?_
      refine lv_i2l hx hb dX6_deed_48 rfl ?_
      refine lv_lconst (v := 0) hx hb dX6_deed_49 (by decide) ?_
      refine lv_ldc2 hx hb F.1.o (F.1.t _ q1425) dX6_deed_50 ?_
      refine kX6_X6_isIn F.1 hw ⟨Nat.le_of_ble_eq_true rfl, Nat.le_of_ble_eq_true rfl⟩ ⟨Nat.zero_le _, Nat.zero_le _⟩ hl.1 (Nat.le_of_ble_eq_true rfl) dX6_deed_53 (fun r2 hw => ?_)
      refine lv_if_ne (tgt := 62) hx hb dX6_deed_56 (by decide) (fun q => ?_) (fun q => ?_)
      · replace hw := hw.2 q
        refine lv_aload_n hx hb dX6_deed_62 rfl (lv_at hl 1 rfl) ?_
        refine tg_0 F hB dX6_deed_63 ?_
        refine lv_iconst (v := 1) hx hb dX6_deed_66 (by decide) ?_
        obtain ⟨hin, hw⟩ := hw
        refine t_ald F hB (k := 0) rfl hin dX6_deed_67 ?_
        refine lv_bipush (v := 8) hx hb dX6_deed_68 (by decide) ?_
        refine lv_icmp_ne (tgt := 76) hx hb dX6_deed_70 (by decide) (fun q => ?_) (fun q => ?_)
        · replace hw := hw.2 q
          refine lv_bipush (v := 66) hx hb dX6_deed_76 (by decide) ?_
          refine lv_bipush (v := 6) hx hb dX6_deed_78 (by decide) ?_
          refine lv_aload_n hx hb dX6_deed_80 rfl (lv_at hl 1 rfl) ?_
          refine tg_0 F hB dX6_deed_81 ?_
          refine lv_iconst (v := 1) hx hb dX6_deed_84 (by decide) ?_
          obtain ⟨hin, hw⟩ := hw
          refine t_ald F hB (k := 0) rfl hin dX6_deed_85 ?_
          refine lv_imul hx hb dX6_deed_86 ?_
          refine lv_iadd hx hb dX6_deed_87 ?_
          refine lv_istore (lv' := [(5, .int ((66 : Int32) + ((6 : Int32) * (T.2 0 (1 : Int32).toNatClampNeg)))), (4, .int k0), (0, .ref (ad 0 0 0)), (1, .int l1), (2, .int l2), (3, .int l3)]) hx hb dX6_deed_88 hl (by decide) rfl (fun ls hl => ?_)
          refine lv_aload_n hx hb dX6_deed_90 rfl (lv_at hl 2 rfl) ?_
          refine tg_0 F hB dX6_deed_91 ?_
          refine lv_iload hx hb dX6_deed_94 (lv_at hl 0 rfl) ?_
          refine lv_iconst (v := 0) hx hb dX6_deed_96 (by decide) ?_
          refine lv_iadd hx hb dX6_deed_97 ?_
          refine lv_iload_n hx hb dX6_deed_98 rfl (lv_at hl 3 rfl) ?_
          obtain ⟨hin, hw⟩ := hw
          refine t_ast F hB hS (k := 0) rfl hin dX6_deed_99 (fun H locs hB hS => ?_)
          refine lv_aload_n hx hb dX6_deed_100 rfl (lv_at hl 2 rfl) ?_
          refine tg_0 F hB dX6_deed_101 ?_
          refine lv_iload hx hb dX6_deed_104 (lv_at hl 0 rfl) ?_
          refine lv_iconst (v := 1) hx hb dX6_deed_106 (by decide) ?_
          refine lv_iadd hx hb dX6_deed_107 ?_
          refine lv_iload_n hx hb dX6_deed_108 rfl (lv_at hl 4 rfl) ?_
          obtain ⟨hin, hw⟩ := hw
          refine t_ast F hB hS (k := 0) rfl hin dX6_deed_109 (fun H locs hB hS => ?_)
          refine lv_aload_n hx hb dX6_deed_110 rfl (lv_at hl 2 rfl) ?_
          refine tg_0 F hB dX6_deed_111 ?_
          refine lv_iload hx hb dX6_deed_114 (lv_at hl 0 rfl) ?_
          refine lv_iconst (v := 2) hx hb dX6_deed_116 (by decide) ?_
          refine lv_iadd hx hb dX6_deed_117 ?_
          refine lv_iload_n hx hb dX6_deed_118 rfl (lv_at hl 5 rfl) ?_
          obtain ⟨hin, hw⟩ := hw
          refine t_ast F hB hS (k := 0) rfl hin dX6_deed_119 (fun H locs hB hS => ?_)
          refine lv_aload_n hx hb dX6_deed_120 rfl (lv_at hl 2 rfl) ?_
          refine tg_0 F hB dX6_deed_121 ?_
          refine lv_iload hx hb dX6_deed_124 (lv_at hl 0 rfl) ?_
          refine lv_iconst (v := 3) hx hb dX6_deed_126 (by decide) ?_
          refine lv_iadd hx hb dX6_deed_127 ?_
          refine lv_iconst (v := 0) hx hb dX6_deed_128 (by decide) ?_
          obtain ⟨hin, hw⟩ := hw
          refine t_ast F hB hS (k := 0) rfl hin dX6_deed_129 (fun H locs hB hS => ?_)
          refine lv_aload_n hx hb dX6_deed_130 rfl (lv_at hl 2 rfl) ?_
          refine tg_0 F hB dX6_deed_131 ?_
          refine lv_iload hx hb dX6_deed_134 (lv_at hl 0 rfl) ?_
          refine lv_iconst (v := 4) hx hb dX6_deed_136 (by decide) ?_
          refine lv_iadd hx hb dX6_deed_137 ?_
          refine lv_iconst (v := 0) hx hb dX6_deed_138 (by decide) ?_
          obtain ⟨hin, hw⟩ := hw
          refine t_ast F hB hS (k := 0) rfl hin dX6_deed_139 (fun H locs hB hS => ?_)
          refine lv_aload_n hx hb dX6_deed_140 rfl (lv_at hl 2 rfl) ?_
          refine tg_0 F hB dX6_deed_141 ?_
          refine lv_iload hx hb dX6_deed_144 (lv_at hl 0 rfl) ?_
          refine lv_iconst (v := 5) hx hb dX6_deed_146 (by decide) ?_
          refine lv_iadd hx hb dX6_deed_147 ?_
          refine lv_iconst (v := 0) hx hb dX6_deed_148 (by decide) ?_
          obtain ⟨hin, hw⟩ := hw
          refine t_ast F hB hS (k := 0) rfl hin dX6_deed_149 (fun H locs hB hS => ?_)
          refine lv_aload_n hx hb dX6_deed_150 rfl (lv_at hl 2 rfl) ?_
          refine tg_0 F hB dX6_deed_151 ?_
          refine lv_iconst (v := 1) hx hb dX6_deed_154 (by decide) ?_
          refine lv_dup2_11 hx hb dX6_deed_155 rfl rfl ?_
          obtain ⟨hin, hw⟩ := hw
          refine t_ald F hB (k := 0) rfl hin dX6_deed_156 ?_
          refine lv_iconst (v := 1) hx hb dX6_deed_157 (by decide) ?_
          refine lv_iadd hx hb dX6_deed_158 ?_
          obtain ⟨hin, hw⟩ := hw
          refine t_ast F hB hS (k := 0) rfl hin dX6_deed_159 (fun H locs hB hS => ?_)
          refine lv_aload_n hx hb dX6_deed_160 rfl (lv_at hl 2 rfl) ?_
          refine tg_0 F hB dX6_deed_161 ?_
          refine lv_iconst (v := 1) hx hb dX6_deed_164 (by decide) ?_
          obtain ⟨hin, hw⟩ := hw
          refine t_ald F hB (k := 0) rfl hin dX6_deed_165 ?_
          refine lv_iconst (v := 1) hx hb dX6_deed_166 (by decide) ?_
          refine lv_isub hx hb dX6_deed_167 ?_
          exact W.iret hx hb F.1.r (fun t ht hW => ⟨⟨_, _, rfl, hw, x_B (Bw := tB D A ad) ht hB⟩, hS.F ht⟩) hS.2.2 dX6_deed_168 (hlocks := F.1.k)
        · replace hw := hw.1 q
          refine lv_ldc hx hb F.1.o (F.1.t _ q1327) dX6_deed_73 ?_
          exact W.iret hx hb F.1.r (fun t ht hW => ⟨⟨_, _, rfl, hw, x_B (Bw := tB D A ad) ht hB⟩, hS.F ht⟩) hS.2.2 dX6_deed_75 (hlocks := F.1.k)
      · replace hw := hw.1 q
        refine lv_ldc hx hb F.1.o (F.1.t _ q1326) dX6_deed_59 ?_
        exact W.iret hx hb F.1.r (fun t ht hW => ⟨⟨_, _, rfl, hw, x_B (Bw := tB D A ad) ht hB⟩, hS.F ht⟩) hS.2.2 dX6_deed_61 (hlocks := F.1.k)
set_option maxHeartbeats 4000000 in
theorem bX6_deed_27 {p : Program} {l : Launch} {e : Env} {s : State} {m : MethodId} {args : Array Value} {below : List Frame} {meth : Method} {c : Code} {D : DD} {A : Nat → Prop} {s0 : State} {ad : AD} {Q : Int32 → TS → Prop} {l1 : Int32} {l2 : Int32} {l3 : Int32} {T : TS} {H : Heap} {locs : List Loc} {ls : Array Slot} (F : FX p l c cX6_deed s args m RX6 D A s0 6 meth (some .int)) (hB : tB D A ad T H) (hS : va_S A s.heap H locs) (hw : wX6_deed_27 l1 l2 l3 T Q) (hl : lv_has ls 6 [(0, .ref (ad 0 0 0)), (1, .int l1), (2, .int l2), (3, .int l3)]) : W p l e rX6_deed s m args below meth c H locs 0 0 (MQ below (va_Qi Q (fun u t => tB D A ad u t.heap) A) args s 0 0 A) (F0 m 27 ls []) := by
  have hx := F.1.x
  have hb := F.1.b
  unfold wX6_deed_27 at hw
  refine lv_iconst (v := 0) hx hb dX6_deed_27 (by decide) ?_
  exact bX6_deed_28 F hB hS hw hl
set_option maxHeartbeats 4000000 in
theorem bX6_deed_0 {p : Program} {l : Launch} {e : Env} {s : State} {m : MethodId} {args : Array Value} {below : List Frame} {meth : Method} {c : Code} {D : DD} {A : Nat → Prop} {s0 : State} {ad : AD} {Q : Int32 → TS → Prop} {a1 : Int32} {a2 : Int32} {a3 : Int32} {T : TS} {H : Heap} {locs : List Loc} {ls : Array Slot} (F : FX p l c cX6_deed s args m RX6 D A s0 6 meth (some .int)) (hB : tB D A ad T H) (hS : va_S A s.heap H locs) (hw : wX6_deed a1 a2 a3 T Q) (hl : lv_has ls 6 [(0, .ref (ad 0 0 0)), (1, .int a1), (2, .int a2), (3, .int a3)]) : W p l e rX6_deed s m args below meth c H locs 0 0 (MQ below (va_Qi Q (fun u t => tB D A ad u t.heap) A) args s 0 0 A) (F0 m 0 ls []) := by
  have hx := F.1.x
  have hb := F.1.b
  unfold wX6_deed at hw
  refine lv_iload_n hx hb dX6_deed_0 rfl (lv_at hl 1 rfl) ?_
  refine lv_if_le (tgt := 27) hx hb dX6_deed_1 (by decide) (fun q => ?_) (fun q => ?_)
  · replace hw := hw.1 q
    exact bX6_deed_27 F hB hS hw hl
  · replace hw := hw.2 q
    refine lv_iload_n hx hb dX6_deed_4 rfl (lv_at hl 1 rfl) ?_
    refine lv_aload_n hx hb dX6_deed_5 rfl (lv_at hl 0 rfl) ?_
    refine kX6_X6_everybody F hB hS hw ⟨Nat.le_of_ble_eq_true rfl, Nat.le_of_ble_eq_true rfl⟩ ⟨Nat.zero_le _, Nat.zero_le _⟩ hl.1 (Nat.le_of_ble_eq_true rfl) dX6_deed_6 (fun r1 T2 H locs hw hB hS => ?_)
    refine lv_iconst (v := -1) hx hb dX6_deed_9 (by decide) ?_
    refine lv_ixor hx hb dX6_deed_10 ?_
    refine lv_iand hx hb dX6_deed_11 ?_
    refine lv_if_ne (tgt := 27) hx hb dX6_deed_12 (by decide) (fun q => ?_) (fun q => ?_)
    · replace hw := hw.2 q
      exact bX6_deed_27 F hB hS hw hl
    · replace hw := hw.1 q
      refine lv_iload_n hx hb dX6_deed_15 rfl (lv_at hl 1 rfl) ?_
      refine kX6_X6_ones F.1 hw ⟨Nat.le_of_ble_eq_true rfl, Nat.le_of_ble_eq_true rfl⟩ ⟨Nat.zero_le _, Nat.zero_le _⟩ hl.1 (Nat.le_of_ble_eq_true rfl) dX6_deed_16 (fun r3 hw => ?_)
      refine lv_iconst (v := 2) hx hb dX6_deed_19 (by decide) ?_
      refine lv_icmp_gt (tgt := 27) hx hb dX6_deed_20 (by decide) (fun q => ?_) (fun q => ?_)
      · replace hw := hw.1 q
        exact bX6_deed_27 F hB hS hw hl
      · replace hw := hw.2 q
        refine lv_iconst (v := 1) hx hb dX6_deed_23 (by decide) ?_
        refine lv_goto (tgt := 28) hx hb dX6_deed_24 (by decide) ?_
        exact bX6_deed_28 F hB hS hw hl
set_option maxHeartbeats 4000000 in
theorem mX6_deed {l : Launch} {D : DD} {A : Nat → Prop} {s0 : State} {ad : AD} {T : TS} {a1 : Int32} {a2 : Int32} {a3 : Int32} {Q : Int32 → TS → Prop} (hw : wX6_deed a1 a2 a3 T Q) : Met l yX6_deed (ws_ yX6_deed cX6_deed 6 (some .int)) rX6_deed (va_Pc [.ref (ad 0 0 0), .int a1, .int a2, .int a3] (fun U => tB D A ad T U.heap ∧ CX l D A s0 U)) (va_Qi Q (fun u t => tB D A ad u t.heap) A) 0 0 A := by
  refine Met.ofW (cc := cX6_deed) (maxL := 6) (ret := some .int) (by decide) rfl ?_
  intro p e s m args below meth c s₁ B hml hv
  obtain ⟨rfl, hB, hC⟩ := hv
  have F : FX p l c cX6_deed s _ m RX6 D A s0 6 meth (some .int) := ⟨mk_FP B hml rfl, hC⟩
  have hS : va_S A s.heap s.heap [] := va_S.rf
  have hl := lv_entry ([.ref (ad 0 0 0), .int a1, .int a2, .int a3]) (n := 6) (Nat.le_of_ble_eq_true rfl)
  rw [lg_entry_eq]
  generalize (lg_sl ([.ref (ad 0 0 0), .int a1, .int a2, .int a3]) ++ List.replicate (6 - (lg_sl ([.ref (ad 0 0 0), .int a1, .int a2, .int a3])).length) Slot.unset).toArray = ls at hl ⊢
  exact bX6_deed_0 F hB hS hw hl
def rX6_deedTold : Room := { frames := 3, cells := 0, slots := 0, locals := 69 }
set_option maxHeartbeats 4000000 in
theorem bX6_deedTold_0 {p : Program} {l : Launch} {e : Env} {s : State} {m : MethodId} {args : Array Value} {below : List Frame} {meth : Method} {c : Code} {D : DD} {A : Nat → Prop} {s0 : State} {ad : AD} {Q : Int32 → TS → Prop} {a1 : Int32} {a2 : Int32} {T : TS} {H : Heap} {locs : List Loc} {ls : Array Slot} (F : FX p l c cX6_deedTold s args m RX6 D A s0 3 meth (some .int)) (hB : tB D A ad T H) (hS : va_S A s.heap H locs) (hw : wX6_deedTold a1 a2 T Q) (hl : lv_has ls 3 [(0, .ref (ad 0 0 0)), (1, .int a1), (2, .int a2)]) : W p l e rX6_deedTold s m args below meth c H locs 0 0 (MQ below (va_Qi Q (fun u t => tB D A ad u t.heap) A) args s 0 0 A) (F0 m 0 ls []) := by
  have hx := F.1.x
  have hb := F.1.b
  unfold wX6_deedTold at hw
  refine lv_aload_n hx hb dX6_deedTold_0 rfl (lv_at hl 0 rfl) ?_
  refine lv_iload_n hx hb dX6_deedTold_1 rfl (lv_at hl 1 rfl) ?_
  refine kX6_X6_isDeed F hB hS hw ⟨Nat.le_of_ble_eq_true rfl, Nat.le_of_ble_eq_true rfl⟩ ⟨Nat.zero_le _, Nat.zero_le _⟩ hl.1 (Nat.le_of_ble_eq_true rfl) dX6_deedTold_2 (fun r1 T2 H locs hw hB hS => ?_)
  refine lv_if_ne (tgt := 11) hx hb dX6_deedTold_5 (by decide) (fun q => ?_) (fun q => ?_)
  · replace hw := hw.2 q
    refine lv_iload_n hx hb dX6_deedTold_11 rfl (lv_at hl 2 rfl) ?_
    by_cases q0 : a2 = 0
    · replace hw := hw.1 q0
      refine lv_tableIn (off := 54) (tgt := 66) hx hb dX6_deedTold_12 (by rw [q0]; decide) (by rw [q0]; decide) (by rw [q0]; rfl) (by decide) ?_
      refine lv_aload_n hx hb dX6_deedTold_66 rfl (lv_at hl 0 rfl) ?_
      refine lv_iload_n hx hb dX6_deedTold_67 rfl (lv_at hl 1 rfl) ?_
      refine lv_iload_n hx hb dX6_deedTold_68 rfl (lv_at hl 2 rfl) ?_
      refine kX6_X6_dee F hB hS hw ⟨Nat.le_of_ble_eq_true rfl, Nat.le_of_ble_eq_true rfl⟩ ⟨Nat.zero_le _, Nat.zero_le _⟩ hl.1 (Nat.le_of_ble_eq_true rfl) dX6_deedTold_69 (fun r3 T4 H locs hw hB hS => ?_)
      exact W.iret hx hb F.1.r (fun t ht hW => ⟨⟨_, _, rfl, hw, x_B (Bw := tB D A ad) ht hB⟩, hS.F ht⟩) hS.2.2 dX6_deedTold_72 (hlocks := F.1.k)
    replace hw := hw.2 q0
    by_cases q1 : a2 = 1
    · replace hw := hw.1 q1
      refine lv_tableIn (off := 54) (tgt := 66) hx hb dX6_deedTold_12 (by rw [q1]; decide) (by rw [q1]; decide) (by rw [q1]; rfl) (by decide) ?_
      refine lv_aload_n hx hb dX6_deedTold_66 rfl (lv_at hl 0 rfl) ?_
      refine lv_iload_n hx hb dX6_deedTold_67 rfl (lv_at hl 1 rfl) ?_
      refine lv_iload_n hx hb dX6_deedTold_68 rfl (lv_at hl 2 rfl) ?_
      refine kX6_X6_dee F hB hS hw ⟨Nat.le_of_ble_eq_true rfl, Nat.le_of_ble_eq_true rfl⟩ ⟨Nat.zero_le _, Nat.zero_le _⟩ hl.1 (Nat.le_of_ble_eq_true rfl) dX6_deedTold_69 (fun r5 T6 H locs hw hB hS => ?_)
      exact W.iret hx hb F.1.r (fun t ht hW => ⟨⟨_, _, rfl, hw, x_B (Bw := tB D A ad) ht hB⟩, hS.F ht⟩) hS.2.2 dX6_deedTold_72 (hlocks := F.1.k)
    replace hw := hw.2 q1
    by_cases q2 : a2 = 2
    · replace hw := hw.1 q2
      refine lv_tableIn (off := 54) (tgt := 66) hx hb dX6_deedTold_12 (by rw [q2]; decide) (by rw [q2]; decide) (by rw [q2]; rfl) (by decide) ?_
      refine lv_aload_n hx hb dX6_deedTold_66 rfl (lv_at hl 0 rfl) ?_
      refine lv_iload_n hx hb dX6_deedTold_67 rfl (lv_at hl 1 rfl) ?_
      refine lv_iload_n hx hb dX6_deedTold_68 rfl (lv_at hl 2 rfl) ?_
      refine kX6_X6_dee F hB hS hw ⟨Nat.le_of_ble_eq_true rfl, Nat.le_of_ble_eq_true rfl⟩ ⟨Nat.zero_le _, Nat.zero_le _⟩ hl.1 (Nat.le_of_ble_eq_true rfl) dX6_deedTold_69 (fun r7 T8 H locs hw hB hS => ?_)
      exact W.iret hx hb F.1.r (fun t ht hW => ⟨⟨_, _, rfl, hw, x_B (Bw := tB D A ad) ht hB⟩, hS.F ht⟩) hS.2.2 dX6_deedTold_72 (hlocks := F.1.k)
    replace hw := hw.2 q2
    by_cases q3 : a2 = 3
    · replace hw := hw.1 q3
      refine lv_tableIn (off := 48) (tgt := 60) hx hb dX6_deedTold_12 (by rw [q3]; decide) (by rw [q3]; decide) (by rw [q3]; rfl) (by decide) ?_
      refine lv_aload_n hx hb dX6_deedTold_60 rfl (lv_at hl 0 rfl) ?_
      refine lv_iload_n hx hb dX6_deedTold_61 rfl (lv_at hl 1 rfl) ?_
      refine kX6_X6_left F hB hS hw ⟨Nat.le_of_ble_eq_true rfl, Nat.le_of_ble_eq_true rfl⟩ ⟨Nat.zero_le _, Nat.zero_le _⟩ hl.1 (Nat.le_of_ble_eq_true rfl) dX6_deedTold_62 (fun r9 T10 H locs hw hB hS => ?_)
      exact W.iret hx hb F.1.r (fun t ht hW => ⟨⟨_, _, rfl, hw, x_B (Bw := tB D A ad) ht hB⟩, hS.F ht⟩) hS.2.2 dX6_deedTold_65 (hlocks := F.1.k)
    replace hw := hw.2 q3
    by_cases q4 : a2 = 4
    · replace hw := hw.1 q4
      refine lv_tableIn (off := 54) (tgt := 66) hx hb dX6_deedTold_12 (by rw [q4]; decide) (by rw [q4]; decide) (by rw [q4]; rfl) (by decide) ?_
      refine lv_aload_n hx hb dX6_deedTold_66 rfl (lv_at hl 0 rfl) ?_
      refine lv_iload_n hx hb dX6_deedTold_67 rfl (lv_at hl 1 rfl) ?_
      refine lv_iload_n hx hb dX6_deedTold_68 rfl (lv_at hl 2 rfl) ?_
      refine kX6_X6_dee F hB hS hw ⟨Nat.le_of_ble_eq_true rfl, Nat.le_of_ble_eq_true rfl⟩ ⟨Nat.zero_le _, Nat.zero_le _⟩ hl.1 (Nat.le_of_ble_eq_true rfl) dX6_deedTold_69 (fun r11 T12 H locs hw hB hS => ?_)
      exact W.iret hx hb F.1.r (fun t ht hW => ⟨⟨_, _, rfl, hw, x_B (Bw := tB D A ad) ht hB⟩, hS.F ht⟩) hS.2.2 dX6_deedTold_72 (hlocks := F.1.k)
    replace hw := hw.2 q4
    by_cases q5 : a2 = 5
    · replace hw := hw.1 q5
      refine lv_tableIn (off := 54) (tgt := 66) hx hb dX6_deedTold_12 (by rw [q5]; decide) (by rw [q5]; decide) (by rw [q5]; rfl) (by decide) ?_
      refine lv_aload_n hx hb dX6_deedTold_66 rfl (lv_at hl 0 rfl) ?_
      refine lv_iload_n hx hb dX6_deedTold_67 rfl (lv_at hl 1 rfl) ?_
      refine lv_iload_n hx hb dX6_deedTold_68 rfl (lv_at hl 2 rfl) ?_
      refine kX6_X6_dee F hB hS hw ⟨Nat.le_of_ble_eq_true rfl, Nat.le_of_ble_eq_true rfl⟩ ⟨Nat.zero_le _, Nat.zero_le _⟩ hl.1 (Nat.le_of_ble_eq_true rfl) dX6_deedTold_69 (fun r13 T14 H locs hw hB hS => ?_)
      exact W.iret hx hb F.1.r (fun t ht hW => ⟨⟨_, _, rfl, hw, x_B (Bw := tB D A ad) ht hB⟩, hS.F ht⟩) hS.2.2 dX6_deedTold_72 (hlocks := F.1.k)
    replace hw := hw.2 q5
    by_cases q6 : a2 = 6
    · replace hw := hw.1 q6
      refine lv_tableIn (off := 61) (tgt := 73) hx hb dX6_deedTold_12 (by rw [q6]; decide) (by rw [q6]; decide) (by rw [q6]; rfl) (by decide) ?_
      refine lv_aload_n hx hb dX6_deedTold_73 rfl (lv_at hl 0 rfl) ?_
      refine lv_iload_n hx hb dX6_deedTold_74 rfl (lv_at hl 1 rfl) ?_
      refine kX6_X6_cost F hB hS hw ⟨Nat.le_of_ble_eq_true rfl, Nat.le_of_ble_eq_true rfl⟩ ⟨Nat.zero_le _, Nat.zero_le _⟩ hl.1 (Nat.le_of_ble_eq_true rfl) dX6_deedTold_75 (fun r15 T16 H locs hw hB hS => ?_)
      exact W.iret hx hb F.1.r (fun t ht hW => ⟨⟨_, _, rfl, hw, x_B (Bw := tB D A ad) ht hB⟩, hS.F ht⟩) hS.2.2 dX6_deedTold_78 (hlocks := F.1.k)
    replace hw := hw.2 q6
    by_cases q7 : a2 = 7
    · replace hw := hw.1 q7
      refine lv_tableIn (off := 67) (tgt := 79) hx hb dX6_deedTold_12 (by rw [q7]; decide) (by rw [q7]; decide) (by rw [q7]; rfl) (by decide) ?_
      refine lv_aload_n hx hb dX6_deedTold_79 rfl (lv_at hl 0 rfl) ?_
      refine lv_iload_n hx hb dX6_deedTold_80 rfl (lv_at hl 1 rfl) ?_
      refine kX6_X6_left F hB hS hw ⟨Nat.le_of_ble_eq_true rfl, Nat.le_of_ble_eq_true rfl⟩ ⟨Nat.zero_le _, Nat.zero_le _⟩ hl.1 (Nat.le_of_ble_eq_true rfl) dX6_deedTold_81 (fun r17 T18 H locs hw hB hS => ?_)
      refine lv_aload_n hx hb dX6_deedTold_84 rfl (lv_at hl 0 rfl) ?_
      refine lv_iload_n hx hb dX6_deedTold_85 rfl (lv_at hl 1 rfl) ?_
      refine lv_iconst (v := 0) hx hb dX6_deedTold_86 (by decide) ?_
      refine kX6_X6_dee F hB hS hw ⟨Nat.le_of_ble_eq_true rfl, Nat.le_of_ble_eq_true rfl⟩ ⟨Nat.zero_le _, Nat.zero_le _⟩ hl.1 (Nat.le_of_ble_eq_true rfl) dX6_deedTold_87 (fun r19 T20 H locs hw hB hS => ?_)
      refine lv_icmp_ne (tgt := 97) hx hb dX6_deedTold_90 (by decide) (fun q => ?_) (fun q => ?_)
      · replace hw := hw.2 q
        refine lv_iconst (v := 0) hx hb dX6_deedTold_97 (by decide) ?_
        exact W.iret hx hb F.1.r (fun t ht hW => ⟨⟨_, _, rfl, hw, x_B (Bw := tB D A ad) ht hB⟩, hS.F ht⟩) hS.2.2 dX6_deedTold_98 (hlocks := F.1.k)
      · replace hw := hw.1 q
        refine lv_iconst (v := 1) hx hb dX6_deedTold_93 (by decide) ?_
        refine lv_goto (tgt := 98) hx hb dX6_deedTold_94 (by decide) ?_
        exact W.iret hx hb F.1.r (fun t ht hW => ⟨⟨_, _, rfl, hw, x_B (Bw := tB D A ad) ht hB⟩, hS.F ht⟩) hS.2.2 dX6_deedTold_98 (hlocks := F.1.k)
    replace hw := hw.2 q7
    refine lv_tableOut (tgt := 99) hx hb dX6_deedTold_12 (by have n0 := x_ne q0 (a := 0) (by decide); have n1 := x_ne q1 (a := 1) (by decide); have n2 := x_ne q2 (a := 2) (by decide); have n3 := x_ne q3 (a := 3) (by decide); have n4 := x_ne q4 (a := 4) (by decide); have n5 := x_ne q5 (a := 5) (by decide); have n6 := x_ne q6 (a := 6) (by decide); have n7 := x_ne q7 (a := 7) (by decide); omega) (by decide) ?_
    refine lv_ldc hx hb F.1.o (F.1.t _ q1326) dX6_deedTold_99 ?_
    exact W.iret hx hb F.1.r (fun t ht hW => ⟨⟨_, _, rfl, hw, x_B (Bw := tB D A ad) ht hB⟩, hS.F ht⟩) hS.2.2 dX6_deedTold_101 (hlocks := F.1.k)
  · replace hw := hw.1 q
    refine lv_ldc hx hb F.1.o (F.1.t _ q1326) dX6_deedTold_8 ?_
    exact W.iret hx hb F.1.r (fun t ht hW => ⟨⟨_, _, rfl, hw, x_B (Bw := tB D A ad) ht hB⟩, hS.F ht⟩) hS.2.2 dX6_deedTold_10 (hlocks := F.1.k)
set_option maxHeartbeats 4000000 in
theorem mX6_deedTold {l : Launch} {D : DD} {A : Nat → Prop} {s0 : State} {ad : AD} {T : TS} {a1 : Int32} {a2 : Int32} {Q : Int32 → TS → Prop} (hw : wX6_deedTold a1 a2 T Q) : Met l yX6_deedTold (ws_ yX6_deedTold cX6_deedTold 3 (some .int)) rX6_deedTold (va_Pc [.ref (ad 0 0 0), .int a1, .int a2] (fun U => tB D A ad T U.heap ∧ CX l D A s0 U)) (va_Qi Q (fun u t => tB D A ad u t.heap) A) 0 0 A := by
  refine Met.ofW (cc := cX6_deedTold) (maxL := 3) (ret := some .int) (by decide) rfl ?_
  intro p e s m args below meth c s₁ B hml hv
  obtain ⟨rfl, hB, hC⟩ := hv
  have F : FX p l c cX6_deedTold s _ m RX6 D A s0 3 meth (some .int) := ⟨mk_FP B hml rfl, hC⟩
  have hS : va_S A s.heap s.heap [] := va_S.rf
  have hl := lv_entry ([.ref (ad 0 0 0), .int a1, .int a2]) (n := 3) (Nat.le_of_ble_eq_true rfl)
  rw [lg_entry_eq]
  generalize (lg_sl ([.ref (ad 0 0 0), .int a1, .int a2]) ++ List.replicate (3 - (lg_sl ([.ref (ad 0 0 0), .int a1, .int a2])).length) Slot.unset).toArray = ls at hl ⊢
  exact bX6_deedTold_0 F hB hS hw hl
def rX6_fallsOn : Room := { frames := 2, cells := 0, slots := 0, locals := 43 }
set_option maxHeartbeats 4000000 in
theorem bX6_fallsOn_44 {p : Program} {l : Launch} {e : Env} {s : State} {m : MethodId} {args : Array Value} {below : List Frame} {meth : Method} {c : Code} {D : DD} {A : Nat → Prop} {s0 : State} {ad : AD} {Q : Int32 → TS → Prop} {k_4 : Int32 → Int32 → Int32 → TS → Prop} {l1 : Int32} {l3 : Int32} {k0 : Int32} {k1 : Int32} {T : TS} {H : Heap} {locs : List Loc} {ls : Array Slot} (F : FX p l c cX6_fallsOn s args m RX6 D A s0 4 meth (some .int)) (h_4 : ∀ (l1 : Int32) (l2 : Int32) (l3 : Int32) (T : TS), k_4 l1 l2 l3 T → ∀ (H : Heap) (locs : List Loc) (ls : Array Slot), tB D A ad T H → va_S A s.heap H locs → lv_has ls 4 [(0, .ref (ad 0 0 0)), (1, .int l1), (2, .int l2), (3, .int l3)] → W p l e rX6_fallsOn s m args below meth c H locs 0 0 (MQ below (va_Qi Q (fun u t => tB D A ad u t.heap) A) args s 0 0 A) (F0 m 4 ls [])) (hB : tB D A ad T H) (hS : va_S A s.heap H locs) (hw : wX6_fallsOn_44 k_4 l1 l3 k0 k1 T Q) (hl : lv_has ls 4 [(0, .ref (ad 0 0 0)), (1, .int l1), (3, .int l3)]) : W p l e rX6_fallsOn s m args below meth c H locs 0 0 (MQ below (va_Qi Q (fun u t => tB D A ad u t.heap) A) args s 0 0 A) (F0 m 44 ls [.int k0, .int k1]) := by
  have hx := F.1.x
  have hb := F.1.b
  unfold wX6_fallsOn_44 at hw
  refine lv_iadd hx hb dX6_fallsOn_44 ?_
  refine lv_istore_n (lv' := [(2, .int (k1 + k0)), (0, .ref (ad 0 0 0)), (1, .int l1), (3, .int l3)]) hx hb dX6_fallsOn_45 rfl hl (by decide) rfl (fun ls hl => ?_)
  refine lv_iinc (v := l3 + (1 : Int32)) (lv' := [(3, .int (l3 + (1 : Int32))), (2, .int (k1 + k0)), (0, .ref (ad 0 0 0)), (1, .int l1)]) hx hb dX6_fallsOn_46 hl (k := 3) rfl (x_inc (by decide)) (by decide) rfl (fun ls hl => ?_)
  refine lv_goto (tgt := 4) hx hb dX6_fallsOn_49 (by decide) ?_
  exact h_4 _ _ _ _ hw _ _ _ hB hS (lv_sub hl [2, 3, 1, 0] rfl)
set_option maxHeartbeats 4000000 in
theorem bX6_fallsOn_4 {p : Program} {l : Launch} {e : Env} {s : State} {m : MethodId} {args : Array Value} {below : List Frame} {meth : Method} {c : Code} {D : DD} {A : Nat → Prop} {s0 : State} {ad : AD} {Q : Int32 → TS → Prop} (F : FX p l c cX6_fallsOn s args m RX6 D A s0 4 meth (some .int)) : ∀ (n : Nat) (l1 : Int32) (l2 : Int32) (l3 : Int32) (T : TS), wX6_fallsOn_4 Q n l1 l2 l3 T → ∀ (H : Heap) (locs : List Loc) (ls : Array Slot), tB D A ad T H → va_S A s.heap H locs → lv_has ls 4 [(0, .ref (ad 0 0 0)), (1, .int l1), (2, .int l2), (3, .int l3)] → W p l e rX6_fallsOn s m args below meth c H locs 0 0 (MQ below (va_Qi Q (fun u t => tB D A ad u t.heap) A) args s 0 0 A) (F0 m 4 ls []) := by
  have hx := F.1.x
  have hb := F.1.b
  intro n
  induction n with
  | zero => intro l1 l2 l3 T hw; exact hw.elim
  | succ n ih =>
    intro l1 l2 l3 T hw H locs ls hB hS hl
    unfold wX6_fallsOn_4 at hw
    refine lv_iload_n hx hb dX6_fallsOn_4 rfl (lv_at hl 3 rfl) ?_
    refine lv_aload_n hx hb dX6_fallsOn_5 rfl (lv_at hl 0 rfl) ?_
    refine tg_0 F hB dX6_fallsOn_6 ?_
    refine lv_iconst (v := 1) hx hb dX6_fallsOn_9 (by decide) ?_
    obtain ⟨hin, hw⟩ := hw
    refine t_ald F hB (k := 0) rfl hin dX6_fallsOn_10 ?_
    refine lv_icmp_ge (tgt := 52) hx hb dX6_fallsOn_11 (by decide) (fun q => ?_) (fun q => ?_)
    · replace hw := hw.1 q
      refine lv_iload_n hx hb dX6_fallsOn_52 rfl (lv_at hl 2 rfl) ?_
      exact W.iret hx hb F.1.r (fun t ht hW => ⟨⟨_, _, rfl, hw, x_B (Bw := tB D A ad) ht hB⟩, hS.F ht⟩) hS.2.2 dX6_fallsOn_53 (hlocks := F.1.k)
    · replace hw := hw.2 q
      refine lv_iload_n hx hb dX6_fallsOn_14 rfl (lv_at hl 2 rfl) ?_
      refine lv_aload_n hx hb dX6_fallsOn_15 rfl (lv_at hl 0 rfl) ?_
      refine lv_iload_n hx hb dX6_fallsOn_16 rfl (lv_at hl 3 rfl) ?_
      refine kX6_X6_left F hB hS hw ⟨Nat.le_of_ble_eq_true rfl, Nat.le_of_ble_eq_true rfl⟩ ⟨Nat.zero_le _, Nat.zero_le _⟩ hl.1 (Nat.le_of_ble_eq_true rfl) dX6_fallsOn_17 (fun r1 T2 H locs hw hB hS => ?_)
      refine lv_iload_n hx hb dX6_fallsOn_20 rfl (lv_at hl 1 rfl) ?_
      refine lv_ishr hx hb dX6_fallsOn_21 ?_
      refine lv_iconst (v := 1) hx hb dX6_fallsOn_22 (by decide) ?_
      refine lv_iand hx hb dX6_fallsOn_23 ?_
      refine lv_iconst (v := 1) hx hb dX6_fallsOn_24 (by decide) ?_
      refine lv_icmp_ne (tgt := 43) hx hb dX6_fallsOn_25 (by decide) (fun q => ?_) (fun q => ?_)
      · replace hw := hw.2 q
        refine lv_iconst (v := 0) hx hb dX6_fallsOn_43 (by decide) ?_
        exact bX6_fallsOn_44 F ih hB hS hw (lv_sub hl [0, 1, 3] rfl)
      · replace hw := hw.1 q
        refine lv_sipush (v := 27720) hx hb dX6_fallsOn_28 (by decide) ?_
        refine lv_aload_n hx hb dX6_fallsOn_31 rfl (lv_at hl 0 rfl) ?_
        refine lv_iload_n hx hb dX6_fallsOn_32 rfl (lv_at hl 3 rfl) ?_
        refine kX6_X6_left F hB hS hw ⟨Nat.le_of_ble_eq_true rfl, Nat.le_of_ble_eq_true rfl⟩ ⟨Nat.zero_le _, Nat.zero_le _⟩ hl.1 (Nat.le_of_ble_eq_true rfl) dX6_fallsOn_33 (fun r3 T4 H locs hw hB hS => ?_)
        refine kX6_X6_ones F.1 hw ⟨Nat.le_of_ble_eq_true rfl, Nat.le_of_ble_eq_true rfl⟩ ⟨Nat.zero_le _, Nat.zero_le _⟩ hl.1 (Nat.le_of_ble_eq_true rfl) dX6_fallsOn_36 (fun r5 hw => ?_)
        obtain ⟨hne, hw⟩ := hw
        refine lv_idiv hx hb dX6_fallsOn_39 hne ?_
        refine lv_goto (tgt := 44) hx hb dX6_fallsOn_40 (by decide) ?_
        exact bX6_fallsOn_44 F ih hB hS hw (lv_sub hl [0, 1, 3] rfl)
set_option maxHeartbeats 4000000 in
theorem bX6_fallsOn_0 {p : Program} {l : Launch} {e : Env} {s : State} {m : MethodId} {args : Array Value} {below : List Frame} {meth : Method} {c : Code} {D : DD} {A : Nat → Prop} {s0 : State} {ad : AD} {Q : Int32 → TS → Prop} {a1 : Int32} {T : TS} {H : Heap} {locs : List Loc} {ls : Array Slot} (F : FX p l c cX6_fallsOn s args m RX6 D A s0 4 meth (some .int)) (hB : tB D A ad T H) (hS : va_S A s.heap H locs) (hw : wX6_fallsOn a1 T Q) (hl : lv_has ls 4 [(0, .ref (ad 0 0 0)), (1, .int a1)]) : W p l e rX6_fallsOn s m args below meth c H locs 0 0 (MQ below (va_Qi Q (fun u t => tB D A ad u t.heap) A) args s 0 0 A) (F0 m 0 ls []) := by
  have hx := F.1.x
  have hb := F.1.b
  unfold wX6_fallsOn at hw
  refine lv_iconst (v := 0) hx hb dX6_fallsOn_0 (by decide) ?_
  refine lv_istore_n (lv' := [(2, .int (0 : Int32)), (0, .ref (ad 0 0 0)), (1, .int a1)]) hx hb dX6_fallsOn_1 rfl hl (by decide) rfl (fun ls hl => ?_)
  refine lv_iconst (v := 0) hx hb dX6_fallsOn_2 (by decide) ?_
  refine lv_istore_n (lv' := [(3, .int (0 : Int32)), (2, .int (0 : Int32)), (0, .ref (ad 0 0 0)), (1, .int a1)]) hx hb dX6_fallsOn_3 rfl hl (by decide) rfl (fun ls hl => ?_)
  obtain ⟨f_4, hw⟩ := hw
  exact bX6_fallsOn_4 F f_4 _ _ _ _ hw _ _ _ hB hS (lv_sub hl [2, 3, 1, 0] rfl)
set_option maxHeartbeats 4000000 in
theorem mX6_fallsOn {l : Launch} {D : DD} {A : Nat → Prop} {s0 : State} {ad : AD} {T : TS} {a1 : Int32} {Q : Int32 → TS → Prop} (hw : wX6_fallsOn a1 T Q) : Met l yX6_fallsOn (ws_ yX6_fallsOn cX6_fallsOn 4 (some .int)) rX6_fallsOn (va_Pc [.ref (ad 0 0 0), .int a1] (fun U => tB D A ad T U.heap ∧ CX l D A s0 U)) (va_Qi Q (fun u t => tB D A ad u t.heap) A) 0 0 A := by
  refine Met.ofW (cc := cX6_fallsOn) (maxL := 4) (ret := some .int) (by decide) rfl ?_
  intro p e s m args below meth c s₁ B hml hv
  obtain ⟨rfl, hB, hC⟩ := hv
  have F : FX p l c cX6_fallsOn s _ m RX6 D A s0 4 meth (some .int) := ⟨mk_FP B hml rfl, hC⟩
  have hS : va_S A s.heap s.heap [] := va_S.rf
  have hl := lv_entry ([.ref (ad 0 0 0), .int a1]) (n := 4) (Nat.le_of_ble_eq_true rfl)
  rw [lg_entry_eq]
  generalize (lg_sl ([.ref (ad 0 0 0), .int a1]) ++ List.replicate (4 - (lg_sl ([.ref (ad 0 0 0), .int a1])).length) Slot.unset).toArray = ls at hl ⊢
  exact bX6_fallsOn_0 F hB hS hw hl
theorem kX6_X6_fallsOn {p : Program} {l : Launch} {e : Env} {R : Room} {s : State} {m : MethodId} {args : Array Value} {below : List Frame} {meth : Method} {c : Code} {H : Heap} {locs : List Loc} {cells slots : Nat} {Q0 : State → Prop} {cc : ByteArray} {pc nL : Nat} {ls : Array Slot} {rest : List Value} {ret : Option FieldType} {D : DD} {A : Nat → Prop} {s0 : State} {ad : AD} {T : TS} {a1 : Int32} {Q : Int32 → TS → Prop} (F : FX p l c cc s args m RX6 D A s0 nL meth ret) (hB : tB D A ad T H) (hS : va_S A s.heap H locs) (hw : wX6_fallsOn a1 T Q) (hR : rX6_fallsOn.frames + 1 ≤ R.frames ∧ 8 + (4 + 11) + rX6_fallsOn.locals ≤ R.locals) (hc : cells + 0 ≤ R.cells ∧ slots + 0 ≤ R.slots) (hsz : ls.size = nL) (hW : (rest.map fun v => v.category).sum ≤ 8) (hdg : decode cc pc = .ok (.invokevirtual 187, 3)) (kk : ∀ (r : Int32) (u : TS) (H1 : Heap) (locs1 : List Loc), Q r u → tB D A ad u H1 → va_S A s.heap H1 locs1 → W p l e R s m args below meth c H1 locs1 cells slots Q0 (F0 m (pc + 3) ls (.int r :: rest))) : W p l e R s m args below meth c H locs cells slots Q0 (F0 m pc ls (.int a1 :: .ref (ad 0 0 0) :: rest)) :=
  k_i (Bw := tB D A ad) (k_runV (Bw := tB D A ad) (n := 1) (As := [.int a1]) F hB hS (t_recv F hB) (mX6_fallsOn hw) q1539 q1541 qs64 q92 q1542 (by decide +kernel) hR ⟨rfl, rfl⟩ hc rfl hsz rfl hW hdg) hS kk
def rX6_falls : Room := { frames := 3, cells := 0, slots := 0, locals := 66 }
set_option maxHeartbeats 4000000 in
theorem bX6_falls_36 {p : Program} {l : Launch} {e : Env} {s : State} {m : MethodId} {args : Array Value} {below : List Frame} {meth : Method} {c : Code} {D : DD} {A : Nat → Prop} {s0 : State} {ad : AD} {Q : Int64 → TS → Prop} (F : FX p l c cX6_falls s args m RX6 D A s0 7 meth (some .long)) : ∀ (n : Nat) (l2 : Int32) (l3 : Int32) (l4 : Int32) (l5 : Int32) (T : TS), wX6_falls_36 Q n l2 l3 l4 l5 T → ∀ (H : Heap) (locs : List Loc) (ls : Array Slot), tB D A ad T H → va_S A s.heap H locs → lv_has ls 7 [(2, .int l2), (3, .int l3), (4, .int l4), (5, .int l5)] → W p l e rX6_falls s m args below meth c H locs 0 0 (MQ below (va_Ql Q (fun u t => tB D A ad u t.heap) A) args s 0 0 A) (F0 m 36 ls []) := by
  have hx := F.1.x
  have hb := F.1.b
  intro n
  induction n with
  | zero => intro l2 l3 l4 l5 T hw; exact hw.elim
  | succ n ih =>
    intro l2 l3 l4 l5 T hw H locs ls hB hS hl
    unfold wX6_falls_36 at hw
    refine lv_iload hx hb dX6_falls_36 (lv_at hl 3 rfl) ?_
    refine lv_if_le (tgt := 59) hx hb dX6_falls_38 (by decide) (fun q => ?_) (fun q => ?_)
    · replace hw := hw.1 q
      refine lv_iload_n hx hb dX6_falls_59 rfl (lv_at hl 0 rfl) ?_
      refine lv_if_ne (tgt := 67) hx hb dX6_falls_60 (by decide) (fun q => ?_) (fun q => ?_)
      · replace hw := hw.2 q
        refine lv_sipush (v := 27720) hx hb dX6_falls_67 (by decide) ?_
        refine lv_iload hx hb dX6_falls_70 (lv_at hl 2 rfl) ?_
        obtain ⟨hne, hw⟩ := hw
        refine lv_idiv hx hb dX6_falls_72 hne ?_
        refine lv_i2l hx hb dX6_falls_73 rfl ?_
        exact W.lret hx hb F.1.r (fun t ht hW => ⟨⟨_, _, rfl, hw, x_B (Bw := tB D A ad) ht hB⟩, hS.F ht⟩) hS.2.2 dX6_falls_74 (hlocks := F.1.k)
      · replace hw := hw.1 q
        refine lv_iload_n hx hb dX6_falls_63 rfl (lv_at hl 1 rfl) ?_
        refine lv_goto (tgt := 70) hx hb dX6_falls_64 (by decide) ?_
        refine lv_iload hx hb dX6_falls_70 (lv_at hl 2 rfl) ?_
        obtain ⟨hne, hw⟩ := hw
        refine lv_idiv hx hb dX6_falls_72 hne ?_
        refine lv_i2l hx hb dX6_falls_73 rfl ?_
        exact W.lret hx hb F.1.r (fun t ht hW => ⟨⟨_, _, rfl, hw, x_B (Bw := tB D A ad) ht hB⟩, hS.F ht⟩) hS.2.2 dX6_falls_74 (hlocks := F.1.k)
    · replace hw := hw.2 q
      refine lv_iload hx hb dX6_falls_41 (lv_at hl 2 rfl) ?_
      refine lv_iload hx hb dX6_falls_43 (lv_at hl 3 rfl) ?_
      obtain ⟨hne, hw⟩ := hw
      refine lv_irem hx hb dX6_falls_45 hne ?_
      refine lv_istore (lv' := [(6, .int (l4 - l4 / l5 * l5)), (2, .int l2), (3, .int l3), (4, .int l4), (5, .int l5)]) hx hb dX6_falls_46 hl (by decide) rfl (fun ls hl => ?_)
      refine lv_iload hx hb dX6_falls_48 (lv_at hl 4 rfl) ?_
      refine lv_istore (lv' := [(4, .int l5), (6, .int (l4 - l4 / l5 * l5)), (2, .int l2), (3, .int l3), (5, .int l5)]) hx hb dX6_falls_50 hl (by decide) rfl (fun ls hl => ?_)
      refine lv_iload hx hb dX6_falls_52 (lv_at hl 1 rfl) ?_
      refine lv_istore (lv' := [(5, .int (l4 - l4 / l5 * l5)), (4, .int l5), (6, .int (l4 - l4 / l5 * l5)), (2, .int l2), (3, .int l3)]) hx hb dX6_falls_54 hl (by decide) rfl (fun ls hl => ?_)
      refine lv_goto (tgt := 36) hx hb dX6_falls_56 (by decide) ?_
      exact ih _ _ _ _ _ hw _ _ _ hB hS (lv_sub hl [3, 4, 1, 0] rfl)
set_option maxHeartbeats 4000000 in
theorem bX6_falls_0 {p : Program} {l : Launch} {e : Env} {s : State} {m : MethodId} {args : Array Value} {below : List Frame} {meth : Method} {c : Code} {D : DD} {A : Nat → Prop} {s0 : State} {ad : AD} {Q : Int64 → TS → Prop} {a1 : Int32} {a2 : Int32} {T : TS} {H : Heap} {locs : List Loc} {ls : Array Slot} (F : FX p l c cX6_falls s args m RX6 D A s0 7 meth (some .long)) (hB : tB D A ad T H) (hS : va_S A s.heap H locs) (hw : wX6_falls a1 a2 T Q) (hl : lv_has ls 7 [(0, .ref (ad 0 0 0)), (1, .int a1), (2, .int a2)]) : W p l e rX6_falls s m args below meth c H locs 0 0 (MQ below (va_Ql Q (fun u t => tB D A ad u t.heap) A) args s 0 0 A) (F0 m 0 ls []) := by
  have hx := F.1.x
  have hb := F.1.b
  unfold wX6_falls at hw
  refine lv_aload_n hx hb dX6_falls_0 rfl (lv_at hl 0 rfl) ?_
  refine lv_iload_n hx hb dX6_falls_1 rfl (lv_at hl 1 rfl) ?_
  refine kX6_X6_isPerson F hB hS hw ⟨Nat.le_of_ble_eq_true rfl, Nat.le_of_ble_eq_true rfl⟩ ⟨Nat.zero_le _, Nat.zero_le _⟩ hl.1 (Nat.le_of_ble_eq_true rfl) dX6_falls_2 (fun r1 T2 H locs hw hB hS => ?_)
  refine lv_if_eq (tgt := 18) hx hb dX6_falls_5 (by decide) (fun q => ?_) (fun q => ?_)
  · replace hw := hw.1 q
    refine lv_ldc2 hx hb F.1.o (F.1.t _ q1538) dX6_falls_18 ?_
    exact W.lret hx hb F.1.r (fun t ht hW => ⟨⟨_, _, rfl, hw, x_B (Bw := tB D A ad) ht hB⟩, hS.F ht⟩) hS.2.2 dX6_falls_21 (hlocks := F.1.k)
  · replace hw := hw.2 q
    refine lv_iload_n hx hb dX6_falls_8 rfl (lv_at hl 2 rfl) ?_
    refine lv_i2l hx hb dX6_falls_9 rfl ?_
    refine lv_lconst (v := 0) hx hb dX6_falls_10 (by decide) ?_
    refine lv_lconst (v := 1) hx hb dX6_falls_11 (by decide) ?_
    refine kX6_X6_isIn F.1 hw ⟨Nat.le_of_ble_eq_true rfl, Nat.le_of_ble_eq_true rfl⟩ ⟨Nat.zero_le _, Nat.zero_le _⟩ hl.1 (Nat.le_of_ble_eq_true rfl) dX6_falls_12 (fun r3 hw => ?_)
    refine lv_if_ne (tgt := 22) hx hb dX6_falls_15 (by decide) (fun q => ?_) (fun q => ?_)
    · replace hw := hw.2 q
      refine lv_aload_n hx hb dX6_falls_22 rfl (lv_at hl 0 rfl) ?_
      refine lv_iload_n hx hb dX6_falls_23 rfl (lv_at hl 1 rfl) ?_
      refine kX6_X6_fallsOn F hB hS hw ⟨Nat.le_of_ble_eq_true rfl, Nat.le_of_ble_eq_true rfl⟩ ⟨Nat.zero_le _, Nat.zero_le _⟩ hl.1 (Nat.le_of_ble_eq_true rfl) dX6_falls_24 (fun r4 T5 H locs hw hB hS => ?_)
      refine lv_istore_n (lv' := [(3, .int r4), (0, .ref (ad 0 0 0)), (1, .int a1), (2, .int a2)]) hx hb dX6_falls_27 rfl hl (by decide) rfl (fun ls hl => ?_)
      refine lv_iload_n hx hb dX6_falls_28 rfl (lv_at hl 0 rfl) ?_
      refine lv_istore (lv' := [(4, .int r4), (3, .int r4), (0, .ref (ad 0 0 0)), (1, .int a1), (2, .int a2)]) hx hb dX6_falls_29 hl (by decide) rfl (fun ls hl => ?_)
      refine lv_sipush (v := 27720) hx hb dX6_falls_31 (by decide) ?_
      refine lv_istore (lv' := [(5, .int (27720 : Int32)), (4, .int r4), (3, .int r4), (0, .ref (ad 0 0 0)), (1, .int a1), (2, .int a2)]) hx hb dX6_falls_34 hl (by decide) rfl (fun ls hl => ?_)
      obtain ⟨f_36, hw⟩ := hw
      exact bX6_falls_36 F f_36 _ _ _ _ _ hw _ _ _ hB hS (lv_sub hl [5, 2, 1, 0] rfl)
    · replace hw := hw.1 q
      refine lv_ldc2 hx hb F.1.o (F.1.t _ q1538) dX6_falls_18 ?_
      exact W.lret hx hb F.1.r (fun t ht hW => ⟨⟨_, _, rfl, hw, x_B (Bw := tB D A ad) ht hB⟩, hS.F ht⟩) hS.2.2 dX6_falls_21 (hlocks := F.1.k)
set_option maxHeartbeats 4000000 in
theorem mX6_falls {l : Launch} {D : DD} {A : Nat → Prop} {s0 : State} {ad : AD} {T : TS} {a1 : Int32} {a2 : Int32} {Q : Int64 → TS → Prop} (hw : wX6_falls a1 a2 T Q) : Met l yX6_falls (ws_ yX6_falls cX6_falls 7 (some .long)) rX6_falls (va_Pc [.ref (ad 0 0 0), .int a1, .int a2] (fun U => tB D A ad T U.heap ∧ CX l D A s0 U)) (va_Ql Q (fun u t => tB D A ad u t.heap) A) 0 0 A := by
  refine Met.ofW (cc := cX6_falls) (maxL := 7) (ret := some .long) (by decide) rfl ?_
  intro p e s m args below meth c s₁ B hml hv
  obtain ⟨rfl, hB, hC⟩ := hv
  have F : FX p l c cX6_falls s _ m RX6 D A s0 7 meth (some .long) := ⟨mk_FP B hml rfl, hC⟩
  have hS : va_S A s.heap s.heap [] := va_S.rf
  have hl := lv_entry ([.ref (ad 0 0 0), .int a1, .int a2]) (n := 7) (Nat.le_of_ble_eq_true rfl)
  rw [lg_entry_eq]
  generalize (lg_sl ([.ref (ad 0 0 0), .int a1, .int a2]) ++ List.replicate (7 - (lg_sl ([.ref (ad 0 0 0), .int a1, .int a2])).length) Slot.unset).toArray = ls at hl ⊢
  exact bX6_falls_0 F hB hS hw hl
def rX6_feed : Room := { frames := 0, cells := 0, slots := 0, locals := 0 }
set_option maxHeartbeats 4000000 in
theorem bX6_feed_47 {p : Program} {l : Launch} {e : Env} {s : State} {m : MethodId} {args : Array Value} {below : List Frame} {meth : Method} {c : Code} {D : DD} {A : Nat → Prop} {s0 : State} {ad : AD} {Q : Int32 → TS → Prop} {k_18 : Int32 → Int32 → Int32 → Int32 → TS → Prop} {l1 : Int32} {l2 : Int32} {l3 : Int32} {l4 : Int32} {k0 : Int32} {T : TS} {H : Heap} {locs : List Loc} {ls : Array Slot} (F : FX p l c cX6_feed s args m RX6 D A s0 6 meth (some .int)) (h_18 : ∀ (l1 : Int32) (l2 : Int32) (l3 : Int32) (l4 : Int32) (T : TS), k_18 l1 l2 l3 l4 T → ∀ (H : Heap) (locs : List Loc) (ls : Array Slot), tB D A ad T H → va_S A s.heap H locs → lv_has ls 6 [(0, .ref (ad 0 0 0)), (1, .int l1), (2, .int l2), (3, .int l3), (4, .int l4)] → W p l e rX6_feed s m args below meth c H locs 0 0 (MQ below (va_Qi Q (fun u t => tB D A ad u t.heap) A) args s 0 0 A) (F0 m 18 ls [])) (hB : tB D A ad T H) (hS : va_S A s.heap H locs) (hw : wX6_feed_47 k_18 l1 l2 l3 l4 k0 T Q) (hl : lv_has ls 6 [(0, .ref (ad 0 0 0)), (1, .int l1), (2, .int l2), (3, .int l3), (4, .int l4)]) : W p l e rX6_feed s m args below meth c H locs 0 0 (MQ below (va_Qi Q (fun u t => tB D A ad u t.heap) A) args s 0 0 A) (F0 m 47 ls [.int k0]) := by
  have hx := F.1.x
  have hb := F.1.b
  unfold wX6_feed_47 at hw
  refine lv_istore (lv' := [(5, .int k0), (0, .ref (ad 0 0 0)), (1, .int l1), (2, .int l2), (3, .int l3), (4, .int l4)]) hx hb dX6_feed_47 hl (by decide) rfl (fun ls hl => ?_)
  refine lv_aload_n hx hb dX6_feed_49 rfl (lv_at hl 1 rfl) ?_
  refine tg_13 F hB dX6_feed_50 ?_
  refine lv_aload_n hx hb dX6_feed_53 rfl (lv_at hl 1 rfl) ?_
  refine tg_14 F hB dX6_feed_54 ?_
  refine lv_iload hx hb dX6_feed_57 (lv_at hl 0 rfl) ?_
  refine lv_bipush (v := 24) hx hb dX6_feed_59 (by decide) ?_
  refine lv_bipush (v := 8) hx hb dX6_feed_61 (by decide) ?_
  refine lv_iload hx hb dX6_feed_63 (lv_at hl 5 rfl) ?_
  refine lv_iconst (v := 4) hx hb dX6_feed_65 (by decide) ?_
  refine lv_irem hx hb dX6_feed_66 (by decide) ?_
  refine lv_imul hx hb dX6_feed_67 ?_
  refine lv_isub hx hb dX6_feed_68 ?_
  refine lv_ishr hx hb dX6_feed_69 ?_
  refine lv_sipush (v := 255) hx hb dX6_feed_70 (by decide) ?_
  refine lv_iand hx hb dX6_feed_73 ?_
  obtain ⟨hin, hw⟩ := hw
  refine t_ast F hB hS (k := 13) rfl hin dX6_feed_74 (fun H locs hB hS => ?_)
  refine lv_aload_n hx hb dX6_feed_75 rfl (lv_at hl 1 rfl) ?_
  refine lv_dup hx hb dX6_feed_76 rfl ?_
  refine tg_14 F hB dX6_feed_77 ?_
  refine lv_iconst (v := 1) hx hb dX6_feed_80 (by decide) ?_
  refine lv_iadd hx hb dX6_feed_81 ?_
  refine tp_14 F hB hS dX6_feed_82 (fun H locs hB hS => ?_)
  refine lv_iinc (v := l4 + (1 : Int32)) (lv' := [(4, .int (l4 + (1 : Int32))), (5, .int k0), (0, .ref (ad 0 0 0)), (1, .int l1), (2, .int l2), (3, .int l3)]) hx hb dX6_feed_85 hl (k := 5) rfl (x_inc (by decide)) (by decide) rfl (fun ls hl => ?_)
  refine lv_goto (tgt := 18) hx hb dX6_feed_88 (by decide) ?_
  exact h_18 _ _ _ _ _ hw _ _ _ hB hS (lv_sub hl [2, 3, 4, 5, 0] rfl)
set_option maxHeartbeats 4000000 in
theorem bX6_feed_18 {p : Program} {l : Launch} {e : Env} {s : State} {m : MethodId} {args : Array Value} {below : List Frame} {meth : Method} {c : Code} {D : DD} {A : Nat → Prop} {s0 : State} {ad : AD} {Q : Int32 → TS → Prop} (F : FX p l c cX6_feed s args m RX6 D A s0 6 meth (some .int)) : ∀ (n : Nat) (l1 : Int32) (l2 : Int32) (l3 : Int32) (l4 : Int32) (T : TS), wX6_feed_18 Q n l1 l2 l3 l4 T → ∀ (H : Heap) (locs : List Loc) (ls : Array Slot), tB D A ad T H → va_S A s.heap H locs → lv_has ls 6 [(0, .ref (ad 0 0 0)), (1, .int l1), (2, .int l2), (3, .int l3), (4, .int l4)] → W p l e rX6_feed s m args below meth c H locs 0 0 (MQ below (va_Qi Q (fun u t => tB D A ad u t.heap) A) args s 0 0 A) (F0 m 18 ls []) := by
  have hx := F.1.x
  have hb := F.1.b
  intro n
  induction n with
  | zero => intro l1 l2 l3 l4 T hw; exact hw.elim
  | succ n ih =>
    intro l1 l2 l3 l4 T hw H locs ls hB hS hl
    unfold wX6_feed_18 at hw
    refine lv_iload hx hb dX6_feed_18 (lv_at hl 4 rfl) ?_
    refine lv_bipush (v := 12) hx hb dX6_feed_20 (by decide) ?_
    refine lv_icmp_ge (tgt := 91) hx hb dX6_feed_22 (by decide) (fun q => ?_) (fun q => ?_)
    · replace hw := hw.1 q
      refine lv_aload_n hx hb dX6_feed_91 rfl (lv_at hl 0 rfl) ?_
      refine tg_14 F hB dX6_feed_92 ?_
      exact W.iret hx hb F.1.r (fun t ht hW => ⟨⟨_, _, rfl, hw, x_B (Bw := tB D A ad) ht hB⟩, hS.F ht⟩) hS.2.2 dX6_feed_95 (hlocks := F.1.k)
    · replace hw := hw.2 q
      refine lv_iload hx hb dX6_feed_25 (lv_at hl 4 rfl) ?_
      refine lv_iconst (v := 4) hx hb dX6_feed_27 (by decide) ?_
      refine lv_icmp_ge (tgt := 35) hx hb dX6_feed_28 (by decide) (fun q => ?_) (fun q => ?_)
      · replace hw := hw.1 q
        refine lv_iload hx hb dX6_feed_35 (lv_at hl 4 rfl) ?_
        refine lv_bipush (v := 8) hx hb dX6_feed_37 (by decide) ?_
        refine lv_icmp_ge (tgt := 46) hx hb dX6_feed_39 (by decide) (fun q => ?_) (fun q => ?_)
        · replace hw := hw.1 q
          refine lv_iload_n hx hb dX6_feed_46 rfl (lv_at hl 3 rfl) ?_
          exact bX6_feed_47 F ih hB hS hw hl
        · replace hw := hw.2 q
          refine lv_iload_n hx hb dX6_feed_42 rfl (lv_at hl 2 rfl) ?_
          refine lv_goto (tgt := 47) hx hb dX6_feed_43 (by decide) ?_
          exact bX6_feed_47 F ih hB hS hw hl
      · replace hw := hw.2 q
        refine lv_iload_n hx hb dX6_feed_31 rfl (lv_at hl 1 rfl) ?_
        refine lv_goto (tgt := 47) hx hb dX6_feed_32 (by decide) ?_
        exact bX6_feed_47 F ih hB hS hw hl
set_option maxHeartbeats 4000000 in
theorem bX6_feed_0 {p : Program} {l : Launch} {e : Env} {s : State} {m : MethodId} {args : Array Value} {below : List Frame} {meth : Method} {c : Code} {D : DD} {A : Nat → Prop} {s0 : State} {ad : AD} {Q : Int32 → TS → Prop} {a1 : Int32} {a2 : Int32} {a3 : Int32} {T : TS} {H : Heap} {locs : List Loc} {ls : Array Slot} (F : FX p l c cX6_feed s args m RX6 D A s0 6 meth (some .int)) (hB : tB D A ad T H) (hS : va_S A s.heap H locs) (hw : wX6_feed a1 a2 a3 T Q) (hl : lv_has ls 6 [(0, .ref (ad 0 0 0)), (1, .int a1), (2, .int a2), (3, .int a3)]) : W p l e rX6_feed s m args below meth c H locs 0 0 (MQ below (va_Qi Q (fun u t => tB D A ad u t.heap) A) args s 0 0 A) (F0 m 0 ls []) := by
  have hx := F.1.x
  have hb := F.1.b
  unfold wX6_feed at hw
  refine lv_aload_n hx hb dX6_feed_0 rfl (lv_at hl 0 rfl) ?_
  refine tg_14 F hB dX6_feed_1 ?_
  refine lv_bipush (v := 12) hx hb dX6_feed_4 (by decide) ?_
  refine lv_iadd hx hb dX6_feed_6 ?_
  refine lv_bipush (v := 96) hx hb dX6_feed_7 (by decide) ?_
  refine lv_icmp_le (tgt := 15) hx hb dX6_feed_9 (by decide) (fun q => ?_) (fun q => ?_)
  · replace hw := hw.1 q
    refine lv_iconst (v := 0) hx hb dX6_feed_15 (by decide) ?_
    refine lv_istore (lv' := [(4, .int (0 : Int32)), (0, .ref (ad 0 0 0)), (1, .int a1), (2, .int a2), (3, .int a3)]) hx hb dX6_feed_16 hl (by decide) rfl (fun ls hl => ?_)
    obtain ⟨f_18, hw⟩ := hw
    exact bX6_feed_18 F f_18 _ _ _ _ _ hw _ _ _ hB hS (lv_sub hl [1, 2, 3, 4, 0] rfl)
  · replace hw := hw.2 q
    refine lv_ldc hx hb F.1.o (F.1.t _ q1327) dX6_feed_12 ?_
    exact W.iret hx hb F.1.r (fun t ht hW => ⟨⟨_, _, rfl, hw, x_B (Bw := tB D A ad) ht hB⟩, hS.F ht⟩) hS.2.2 dX6_feed_14 (hlocks := F.1.k)
set_option maxHeartbeats 4000000 in
theorem mX6_feed {l : Launch} {D : DD} {A : Nat → Prop} {s0 : State} {ad : AD} {T : TS} {a1 : Int32} {a2 : Int32} {a3 : Int32} {Q : Int32 → TS → Prop} (hw : wX6_feed a1 a2 a3 T Q) : Met l yX6_feed (ws_ yX6_feed cX6_feed 6 (some .int)) rX6_feed (va_Pc [.ref (ad 0 0 0), .int a1, .int a2, .int a3] (fun U => tB D A ad T U.heap ∧ CX l D A s0 U)) (va_Qi Q (fun u t => tB D A ad u t.heap) A) 0 0 A := by
  refine Met.ofW (cc := cX6_feed) (maxL := 6) (ret := some .int) (by decide) rfl ?_
  intro p e s m args below meth c s₁ B hml hv
  obtain ⟨rfl, hB, hC⟩ := hv
  have F : FX p l c cX6_feed s _ m RX6 D A s0 6 meth (some .int) := ⟨mk_FP B hml rfl, hC⟩
  have hS : va_S A s.heap s.heap [] := va_S.rf
  have hl := lv_entry ([.ref (ad 0 0 0), .int a1, .int a2, .int a3]) (n := 6) (Nat.le_of_ble_eq_true rfl)
  rw [lg_entry_eq]
  generalize (lg_sl ([.ref (ad 0 0 0), .int a1, .int a2, .int a3]) ++ List.replicate (6 - (lg_sl ([.ref (ad 0 0 0), .int a1, .int a2, .int a3])).length) Slot.unset).toArray = ls at hl ⊢
  exact bX6_feed_0 F hB hS hw hl
def rX6_fewest : Room := { frames := 3, cells := 0, slots := 0, locals := 67 }
set_option maxHeartbeats 4000000 in
theorem bX6_fewest_181 {p : Program} {l : Launch} {e : Env} {s : State} {m : MethodId} {args : Array Value} {below : List Frame} {meth : Method} {c : Code} {D : DD} {A : Nat → Prop} {s0 : State} {ad : AD} {Q : Int32 → TS → Prop} {k_78 : Int32 → Int32 → Int32 → Int32 → Int32 → TS → Prop} {l2 : Int32} {l3 : Int32} {l4 : Int32} {l5 : Int32} {l6 : Int32} {T : TS} {H : Heap} {locs : List Loc} {ls : Array Slot} (F : FX p l c cX6_fewest s args m RX6 D A s0 10 meth (some .int)) (h_78 : ∀ (l2 : Int32) (l3 : Int32) (l4 : Int32) (l5 : Int32) (l6 : Int32) (T : TS), k_78 l2 l3 l4 l5 l6 T → ∀ (H : Heap) (locs : List Loc) (ls : Array Slot), tB D A ad T H → va_S A s.heap H locs → lv_has ls 10 [(0, .ref (ad 0 0 0)), (2, .int l2), (3, .int l3), (4, .int l4), (5, .int l5), (6, .int l6)] → W p l e rX6_fewest s m args below meth c H locs 0 0 (MQ below (va_Qi Q (fun u t => tB D A ad u t.heap) A) args s 0 0 A) (F0 m 78 ls [])) (hB : tB D A ad T H) (hS : va_S A s.heap H locs) (hw : wX6_fewest_181 k_78 l2 l3 l4 l5 l6 T Q) (hl : lv_has ls 10 [(0, .ref (ad 0 0 0)), (2, .int l2), (3, .int l3), (4, .int l4), (5, .int l5), (6, .int l6)]) : W p l e rX6_fewest s m args below meth c H locs 0 0 (MQ below (va_Qi Q (fun u t => tB D A ad u t.heap) A) args s 0 0 A) (F0 m 181 ls []) := by
  have hx := F.1.x
  have hb := F.1.b
  unfold wX6_fewest_181 at hw
  refine lv_iinc (v := l6 + (1 : Int32)) (lv' := [(6, .int (l6 + (1 : Int32))), (0, .ref (ad 0 0 0)), (2, .int l2), (3, .int l3), (4, .int l4), (5, .int l5)]) hx hb dX6_fewest_181 hl (k := 5) rfl (x_inc (by decide)) (by decide) rfl (fun ls hl => ?_)
  refine lv_goto (tgt := 78) hx hb dX6_fewest_184 (by decide) ?_
  exact h_78 _ _ _ _ _ _ hw _ _ _ hB hS (lv_sub hl [1, 2, 3, 4, 5, 0] rfl)
set_option maxHeartbeats 4000000 in
theorem bX6_fewest_179 {p : Program} {l : Launch} {e : Env} {s : State} {m : MethodId} {args : Array Value} {below : List Frame} {meth : Method} {c : Code} {D : DD} {A : Nat → Prop} {s0 : State} {ad : AD} {Q : Int32 → TS → Prop} {k_78 : Int32 → Int32 → Int32 → Int32 → Int32 → TS → Prop} {l2 : Int32} {l3 : Int32} {l4 : Int32} {l6 : Int32} {k0 : Int32} {T : TS} {H : Heap} {locs : List Loc} {ls : Array Slot} (F : FX p l c cX6_fewest s args m RX6 D A s0 10 meth (some .int)) (h_78 : ∀ (l2 : Int32) (l3 : Int32) (l4 : Int32) (l5 : Int32) (l6 : Int32) (T : TS), k_78 l2 l3 l4 l5 l6 T → ∀ (H : Heap) (locs : List Loc) (ls : Array Slot), tB D A ad T H → va_S A s.heap H locs → lv_has ls 10 [(0, .ref (ad 0 0 0)), (2, .int l2), (3, .int l3), (4, .int l4), (5, .int l5), (6, .int l6)] → W p l e rX6_fewest s m args below meth c H locs 0 0 (MQ below (va_Qi Q (fun u t => tB D A ad u t.heap) A) args s 0 0 A) (F0 m 78 ls [])) (hB : tB D A ad T H) (hS : va_S A s.heap H locs) (hw : wX6_fewest_179 k_78 l2 l3 l4 l6 k0 T Q) (hl : lv_has ls 10 [(0, .ref (ad 0 0 0)), (2, .int l2), (3, .int l3), (4, .int l4), (6, .int l6)]) : W p l e rX6_fewest s m args below meth c H locs 0 0 (MQ below (va_Qi Q (fun u t => tB D A ad u t.heap) A) args s 0 0 A) (F0 m 179 ls [.int k0]) := by
  have hx := F.1.x
  have hb := F.1.b
  unfold wX6_fewest_179 at hw
  refine lv_istore (lv' := [(5, .int k0), (0, .ref (ad 0 0 0)), (2, .int l2), (3, .int l3), (4, .int l4), (6, .int l6)]) hx hb dX6_fewest_179 hl (by decide) rfl (fun ls hl => ?_)
  exact bX6_fewest_181 F h_78 hB hS hw (lv_sub hl [1, 2, 3, 4, 0, 5] rfl)
set_option maxHeartbeats 4000000 in
theorem bX6_fewest_164 {p : Program} {l : Launch} {e : Env} {s : State} {m : MethodId} {args : Array Value} {below : List Frame} {meth : Method} {c : Code} {D : DD} {A : Nat → Prop} {s0 : State} {ad : AD} {Q : Int32 → TS → Prop} {k_78 : Int32 → Int32 → Int32 → Int32 → Int32 → TS → Prop} {l2 : Int32} {l3 : Int32} {l5 : Int32} {l6 : Int32} {l7 : Int32} {l8 : Int32} {k0 : Int32} {T : TS} {H : Heap} {locs : List Loc} {ls : Array Slot} (F : FX p l c cX6_fewest s args m RX6 D A s0 10 meth (some .int)) (h_78 : ∀ (l2 : Int32) (l3 : Int32) (l4 : Int32) (l5 : Int32) (l6 : Int32) (T : TS), k_78 l2 l3 l4 l5 l6 T → ∀ (H : Heap) (locs : List Loc) (ls : Array Slot), tB D A ad T H → va_S A s.heap H locs → lv_has ls 10 [(0, .ref (ad 0 0 0)), (2, .int l2), (3, .int l3), (4, .int l4), (5, .int l5), (6, .int l6)] → W p l e rX6_fewest s m args below meth c H locs 0 0 (MQ below (va_Qi Q (fun u t => tB D A ad u t.heap) A) args s 0 0 A) (F0 m 78 ls [])) (hB : tB D A ad T H) (hS : va_S A s.heap H locs) (hw : wX6_fewest_164 k_78 l2 l3 l5 l6 l7 l8 k0 T Q) (hl : lv_has ls 10 [(0, .ref (ad 0 0 0)), (2, .int l2), (3, .int l3), (5, .int l5), (6, .int l6), (7, .int l7), (8, .int l8)]) : W p l e rX6_fewest s m args below meth c H locs 0 0 (MQ below (va_Qi Q (fun u t => tB D A ad u t.heap) A) args s 0 0 A) (F0 m 164 ls [.int k0]) := by
  have hx := F.1.x
  have hb := F.1.b
  unfold wX6_fewest_164 at hw
  refine lv_istore (lv' := [(4, .int k0), (0, .ref (ad 0 0 0)), (2, .int l2), (3, .int l3), (5, .int l5), (6, .int l6), (7, .int l7), (8, .int l8)]) hx hb dX6_fewest_164 hl (by decide) rfl (fun ls hl => ?_)
  refine lv_iload hx hb dX6_fewest_166 (lv_at hl 7 rfl) ?_
  refine lv_iload_n hx hb dX6_fewest_168 rfl (lv_at hl 3 rfl) ?_
  refine lv_icmp_ne (tgt := 177) hx hb dX6_fewest_169 (by decide) (fun q => ?_) (fun q => ?_)
  · replace hw := hw.2 q
    refine lv_iload hx hb dX6_fewest_177 (lv_at hl 4 rfl) ?_
    exact bX6_fewest_179 F h_78 hB hS hw (lv_sub hl [1, 2, 3, 0, 5] rfl)
  · replace hw := hw.1 q
    refine lv_iload hx hb dX6_fewest_172 (lv_at hl 6 rfl) ?_
    refine lv_goto (tgt := 179) hx hb dX6_fewest_174 (by decide) ?_
    exact bX6_fewest_179 F h_78 hB hS hw (lv_sub hl [1, 2, 3, 0, 5] rfl)
set_option maxHeartbeats 4000000 in
theorem bX6_fewest_142 {p : Program} {l : Launch} {e : Env} {s : State} {m : MethodId} {args : Array Value} {below : List Frame} {meth : Method} {c : Code} {D : DD} {A : Nat → Prop} {s0 : State} {ad : AD} {Q : Int32 → TS → Prop} {k_78 : Int32 → Int32 → Int32 → Int32 → Int32 → TS → Prop} {k_107 : Int32 → Int32 → Int32 → Int32 → Int32 → Int32 → Int32 → Int32 → TS → Prop} {l2 : Int32} {l3 : Int32} {l4 : Int32} {l5 : Int32} {l6 : Int32} {l7 : Int32} {l9 : Int32} {k0 : Int32} {k1 : Int32} {T : TS} {H : Heap} {locs : List Loc} {ls : Array Slot} (F : FX p l c cX6_fewest s args m RX6 D A s0 10 meth (some .int)) (h_78 : ∀ (l2 : Int32) (l3 : Int32) (l4 : Int32) (l5 : Int32) (l6 : Int32) (T : TS), k_78 l2 l3 l4 l5 l6 T → ∀ (H : Heap) (locs : List Loc) (ls : Array Slot), tB D A ad T H → va_S A s.heap H locs → lv_has ls 10 [(0, .ref (ad 0 0 0)), (2, .int l2), (3, .int l3), (4, .int l4), (5, .int l5), (6, .int l6)] → W p l e rX6_fewest s m args below meth c H locs 0 0 (MQ below (va_Qi Q (fun u t => tB D A ad u t.heap) A) args s 0 0 A) (F0 m 78 ls [])) (h_107 : ∀ (l2 : Int32) (l3 : Int32) (l4 : Int32) (l5 : Int32) (l6 : Int32) (l7 : Int32) (l8 : Int32) (l9 : Int32) (T : TS), k_107 l2 l3 l4 l5 l6 l7 l8 l9 T → ∀ (H : Heap) (locs : List Loc) (ls : Array Slot), tB D A ad T H → va_S A s.heap H locs → lv_has ls 10 [(0, .ref (ad 0 0 0)), (2, .int l2), (3, .int l3), (4, .int l4), (5, .int l5), (6, .int l6), (7, .int l7), (8, .int l8), (9, .int l9)] → W p l e rX6_fewest s m args below meth c H locs 0 0 (MQ below (va_Qi Q (fun u t => tB D A ad u t.heap) A) args s 0 0 A) (F0 m 107 ls [])) (hB : tB D A ad T H) (hS : va_S A s.heap H locs) (hw : wX6_fewest_142 k_78 k_107 l2 l3 l4 l5 l6 l7 l9 k0 k1 T Q) (hl : lv_has ls 10 [(0, .ref (ad 0 0 0)), (2, .int l2), (3, .int l3), (4, .int l4), (5, .int l5), (6, .int l6), (7, .int l7), (9, .int l9)]) : W p l e rX6_fewest s m args below meth c H locs 0 0 (MQ below (va_Qi Q (fun u t => tB D A ad u t.heap) A) args s 0 0 A) (F0 m 142 ls [.int k0, .int k1]) := by
  have hx := F.1.x
  have hb := F.1.b
  unfold wX6_fewest_142 at hw
  refine lv_ior hx hb dX6_fewest_142 ?_
  refine lv_istore (lv' := [(8, .int (k1 ||| k0)), (0, .ref (ad 0 0 0)), (2, .int l2), (3, .int l3), (4, .int l4), (5, .int l5), (6, .int l6), (7, .int l7), (9, .int l9)]) hx hb dX6_fewest_143 hl (by decide) rfl (fun ls hl => ?_)
  refine lv_iinc (v := l9 + (1 : Int32)) (lv' := [(9, .int (l9 + (1 : Int32))), (8, .int (k1 ||| k0)), (0, .ref (ad 0 0 0)), (2, .int l2), (3, .int l3), (4, .int l4), (5, .int l5), (6, .int l6), (7, .int l7)]) hx hb dX6_fewest_145 hl (k := 8) rfl (x_inc (by decide)) (by decide) rfl (fun ls hl => ?_)
  refine lv_goto (tgt := 107) hx hb dX6_fewest_148 (by decide) ?_
  exact h_107 _ _ _ _ _ _ _ _ _ hw _ _ _ hB hS (lv_sub hl [2, 3, 4, 5, 6, 7, 8, 1, 0] rfl)
set_option maxHeartbeats 4000000 in
theorem bX6_fewest_107 {p : Program} {l : Launch} {e : Env} {s : State} {m : MethodId} {args : Array Value} {below : List Frame} {meth : Method} {c : Code} {D : DD} {A : Nat → Prop} {s0 : State} {ad : AD} {Q : Int32 → TS → Prop} {k_78 : Int32 → Int32 → Int32 → Int32 → Int32 → TS → Prop} (F : FX p l c cX6_fewest s args m RX6 D A s0 10 meth (some .int)) (h_78 : ∀ (l2 : Int32) (l3 : Int32) (l4 : Int32) (l5 : Int32) (l6 : Int32) (T : TS), k_78 l2 l3 l4 l5 l6 T → ∀ (H : Heap) (locs : List Loc) (ls : Array Slot), tB D A ad T H → va_S A s.heap H locs → lv_has ls 10 [(0, .ref (ad 0 0 0)), (2, .int l2), (3, .int l3), (4, .int l4), (5, .int l5), (6, .int l6)] → W p l e rX6_fewest s m args below meth c H locs 0 0 (MQ below (va_Qi Q (fun u t => tB D A ad u t.heap) A) args s 0 0 A) (F0 m 78 ls [])) : ∀ (n : Nat) (l2 : Int32) (l3 : Int32) (l4 : Int32) (l5 : Int32) (l6 : Int32) (l7 : Int32) (l8 : Int32) (l9 : Int32) (T : TS), wX6_fewest_107 k_78 Q n l2 l3 l4 l5 l6 l7 l8 l9 T → ∀ (H : Heap) (locs : List Loc) (ls : Array Slot), tB D A ad T H → va_S A s.heap H locs → lv_has ls 10 [(0, .ref (ad 0 0 0)), (2, .int l2), (3, .int l3), (4, .int l4), (5, .int l5), (6, .int l6), (7, .int l7), (8, .int l8), (9, .int l9)] → W p l e rX6_fewest s m args below meth c H locs 0 0 (MQ below (va_Qi Q (fun u t => tB D A ad u t.heap) A) args s 0 0 A) (F0 m 107 ls []) := by
  have hx := F.1.x
  have hb := F.1.b
  intro n
  induction n with
  | zero => intro l2 l3 l4 l5 l6 l7 l8 l9 T hw; exact hw.elim
  | succ n ih =>
    intro l2 l3 l4 l5 l6 l7 l8 l9 T hw H locs ls hB hS hl
    unfold wX6_fewest_107 at hw
    refine lv_iload hx hb dX6_fewest_107 (lv_at hl 8 rfl) ?_
    refine lv_aload_n hx hb dX6_fewest_109 rfl (lv_at hl 0 rfl) ?_
    refine tg_0 F hB dX6_fewest_110 ?_
    refine lv_iconst (v := 0) hx hb dX6_fewest_113 (by decide) ?_
    obtain ⟨hin, hw⟩ := hw
    refine t_ald F hB (k := 0) rfl hin dX6_fewest_114 ?_
    refine lv_icmp_ge (tgt := 151) hx hb dX6_fewest_115 (by decide) (fun q => ?_) (fun q => ?_)
    · replace hw := hw.1 q
      refine lv_iload hx hb dX6_fewest_151 (lv_at hl 7 rfl) ?_
      refine lv_iload_n hx hb dX6_fewest_153 rfl (lv_at hl 2 rfl) ?_
      refine lv_icmp_ne (tgt := 162) hx hb dX6_fewest_154 (by decide) (fun q => ?_) (fun q => ?_)
      · replace hw := hw.2 q
        refine lv_iload hx hb dX6_fewest_162 (lv_at hl 3 rfl) ?_
        exact bX6_fewest_164 F h_78 hB hS hw (lv_sub hl [0, 1, 2, 4, 5, 6, 7] rfl)
      · replace hw := hw.1 q
        refine lv_iload hx hb dX6_fewest_157 (lv_at hl 5 rfl) ?_
        refine lv_goto (tgt := 164) hx hb dX6_fewest_159 (by decide) ?_
        exact bX6_fewest_164 F h_78 hB hS hw (lv_sub hl [0, 1, 2, 4, 5, 6, 7] rfl)
    · replace hw := hw.2 q
      refine lv_iload hx hb dX6_fewest_118 (lv_at hl 7 rfl) ?_
      refine lv_iload hx hb dX6_fewest_120 (lv_at hl 5 rfl) ?_
      refine lv_iload hx hb dX6_fewest_122 (lv_at hl 8 rfl) ?_
      refine lv_ishr hx hb dX6_fewest_124 ?_
      refine lv_iconst (v := 1) hx hb dX6_fewest_125 (by decide) ?_
      refine lv_iand hx hb dX6_fewest_126 ?_
      refine lv_iconst (v := 1) hx hb dX6_fewest_127 (by decide) ?_
      refine lv_icmp_ne (tgt := 141) hx hb dX6_fewest_128 (by decide) (fun q => ?_) (fun q => ?_)
      · replace hw := hw.2 q
        refine lv_iconst (v := 0) hx hb dX6_fewest_141 (by decide) ?_
        exact bX6_fewest_142 F h_78 ih hB hS hw (lv_sub hl [0, 1, 2, 3, 4, 5, 6, 8] rfl)
      · replace hw := hw.1 q
        refine lv_aload_n hx hb dX6_fewest_131 rfl (lv_at hl 0 rfl) ?_
        refine tg_12 F hB dX6_fewest_132 ?_
        refine lv_iload hx hb dX6_fewest_135 (lv_at hl 8 rfl) ?_
        obtain ⟨hin, hw⟩ := hw
        refine t_ald F hB (k := 12) rfl hin dX6_fewest_137 ?_
        refine lv_goto (tgt := 142) hx hb dX6_fewest_138 (by decide) ?_
        exact bX6_fewest_142 F h_78 ih hB hS hw (lv_sub hl [0, 1, 2, 3, 4, 5, 6, 8] rfl)
set_option maxHeartbeats 4000000 in
theorem bX6_fewest_78 {p : Program} {l : Launch} {e : Env} {s : State} {m : MethodId} {args : Array Value} {below : List Frame} {meth : Method} {c : Code} {D : DD} {A : Nat → Prop} {s0 : State} {ad : AD} {Q : Int32 → TS → Prop} (F : FX p l c cX6_fewest s args m RX6 D A s0 10 meth (some .int)) : ∀ (n : Nat) (l2 : Int32) (l3 : Int32) (l4 : Int32) (l5 : Int32) (l6 : Int32) (T : TS), wX6_fewest_78 Q n l2 l3 l4 l5 l6 T → ∀ (H : Heap) (locs : List Loc) (ls : Array Slot), tB D A ad T H → va_S A s.heap H locs → lv_has ls 10 [(0, .ref (ad 0 0 0)), (2, .int l2), (3, .int l3), (4, .int l4), (5, .int l5), (6, .int l6)] → W p l e rX6_fewest s m args below meth c H locs 0 0 (MQ below (va_Qi Q (fun u t => tB D A ad u t.heap) A) args s 0 0 A) (F0 m 78 ls []) := by
  have hx := F.1.x
  have hb := F.1.b
  intro n
  induction n with
  | zero => intro l2 l3 l4 l5 l6 T hw; exact hw.elim
  | succ n ih =>
    intro l2 l3 l4 l5 l6 T hw H locs ls hB hS hl
    unfold wX6_fewest_78 at hw
    refine lv_iload hx hb dX6_fewest_78 (lv_at hl 5 rfl) ?_
    refine lv_aload_n hx hb dX6_fewest_80 rfl (lv_at hl 0 rfl) ?_
    refine kX6_X6_everybody F hB hS hw ⟨Nat.le_of_ble_eq_true rfl, Nat.le_of_ble_eq_true rfl⟩ ⟨Nat.zero_le _, Nat.zero_le _⟩ hl.1 (Nat.le_of_ble_eq_true rfl) dX6_fewest_81 (fun r1 T2 H locs hw hB hS => ?_)
    refine lv_icmp_gt (tgt := 187) hx hb dX6_fewest_84 (by decide) (fun q => ?_) (fun q => ?_)
    · replace hw := hw.1 q
      refine lv_iload hx hb dX6_fewest_187 (lv_at hl 3 rfl) ?_
      refine lv_if_ge (tgt := 197) hx hb dX6_fewest_189 (by decide) (fun q => ?_) (fun q => ?_)
      · replace hw := hw.1 q
        refine lv_iload_n hx hb dX6_fewest_197 rfl (lv_at hl 1 rfl) ?_
        refine lv_if_ne (tgt := 206) hx hb dX6_fewest_198 (by decide) (fun q => ?_) (fun q => ?_)
        · replace hw := hw.2 q
          refine lv_iload hx hb dX6_fewest_206 (lv_at hl 3 rfl) ?_
          exact W.iret hx hb F.1.r (fun t ht hW => ⟨⟨_, _, rfl, hw, x_B (Bw := tB D A ad) ht hB⟩, hS.F ht⟩) hS.2.2 dX6_fewest_208 (hlocks := F.1.k)
        · replace hw := hw.1 q
          refine lv_iload hx hb dX6_fewest_201 (lv_at hl 4 rfl) ?_
          refine lv_goto (tgt := 208) hx hb dX6_fewest_203 (by decide) ?_
          exact W.iret hx hb F.1.r (fun t ht hW => ⟨⟨_, _, rfl, hw, x_B (Bw := tB D A ad) ht hB⟩, hS.F ht⟩) hS.2.2 dX6_fewest_208 (hlocks := F.1.k)
      · replace hw := hw.2 q
        refine lv_ldc hx hb F.1.o (F.1.t _ q1504) dX6_fewest_192 ?_
        refine lv_goto (tgt := 208) hx hb dX6_fewest_194 (by decide) ?_
        exact W.iret hx hb F.1.r (fun t ht hW => ⟨⟨_, _, rfl, hw, x_B (Bw := tB D A ad) ht hB⟩, hS.F ht⟩) hS.2.2 dX6_fewest_208 (hlocks := F.1.k)
    · replace hw := hw.2 q
      refine lv_iload hx hb dX6_fewest_87 (lv_at hl 5 rfl) ?_
      refine kX6_X6_ones F.1 hw ⟨Nat.le_of_ble_eq_true rfl, Nat.le_of_ble_eq_true rfl⟩ ⟨Nat.zero_le _, Nat.zero_le _⟩ hl.1 (Nat.le_of_ble_eq_true rfl) dX6_fewest_89 (fun r3 hw => ?_)
      refine lv_istore (lv' := [(7, .int r3), (0, .ref (ad 0 0 0)), (2, .int l2), (3, .int l3), (4, .int l4), (5, .int l5), (6, .int l6)]) hx hb dX6_fewest_92 hl (by decide) rfl (fun ls hl => ?_)
      refine lv_iload hx hb dX6_fewest_94 (lv_at hl 0 rfl) ?_
      refine lv_iload hx hb dX6_fewest_96 (lv_at hl 5 rfl) ?_
      refine lv_icmp_ge (tgt := 181) hx hb dX6_fewest_98 (by decide) (fun q => ?_) (fun q => ?_)
      · replace hw := hw.1 q
        exact bX6_fewest_181 F ih hB hS hw (lv_sub hl [1, 2, 3, 4, 5, 6] rfl)
      · replace hw := hw.2 q
        refine lv_iconst (v := 0) hx hb dX6_fewest_101 (by decide) ?_
        refine lv_istore (lv' := [(8, .int (0 : Int32)), (7, .int r3), (0, .ref (ad 0 0 0)), (2, .int l2), (3, .int l3), (4, .int l4), (5, .int l5), (6, .int l6)]) hx hb dX6_fewest_102 hl (by decide) rfl (fun ls hl => ?_)
        refine lv_iconst (v := 0) hx hb dX6_fewest_104 (by decide) ?_
        refine lv_istore (lv' := [(9, .int (0 : Int32)), (8, .int (0 : Int32)), (7, .int r3), (0, .ref (ad 0 0 0)), (2, .int l2), (3, .int l3), (4, .int l4), (5, .int l5), (6, .int l6)]) hx hb dX6_fewest_105 hl (by decide) rfl (fun ls hl => ?_)
        obtain ⟨f_107, hw⟩ := hw
        exact bX6_fewest_107 F ih f_107 _ _ _ _ _ _ _ _ _ hw _ _ _ hB hS (lv_sub hl [3, 4, 5, 6, 7, 8, 2, 1, 0] rfl)
set_option maxHeartbeats 4000000 in
theorem bX6_fewest_38 {p : Program} {l : Launch} {e : Env} {s : State} {m : MethodId} {args : Array Value} {below : List Frame} {meth : Method} {c : Code} {D : DD} {A : Nat → Prop} {s0 : State} {ad : AD} {Q : Int32 → TS → Prop} (F : FX p l c cX6_fewest s args m RX6 D A s0 10 meth (some .int)) : ∀ (n : Nat) (l2 : Int32) (l3 : Int32) (l4 : Int32) (T : TS), wX6_fewest_38 Q n l2 l3 l4 T → ∀ (H : Heap) (locs : List Loc) (ls : Array Slot), tB D A ad T H → va_S A s.heap H locs → lv_has ls 10 [(0, .ref (ad 0 0 0)), (2, .int l2), (3, .int l3), (4, .int l4)] → W p l e rX6_fewest s m args below meth c H locs 0 0 (MQ below (va_Qi Q (fun u t => tB D A ad u t.heap) A) args s 0 0 A) (F0 m 38 ls []) := by
  have hx := F.1.x
  have hb := F.1.b
  intro n
  induction n with
  | zero => intro l2 l3 l4 T hw; exact hw.elim
  | succ n ih =>
    intro l2 l3 l4 T hw H locs ls hB hS hl
    unfold wX6_fewest_38 at hw
    refine lv_iload hx hb dX6_fewest_38 (lv_at hl 3 rfl) ?_
    refine lv_aload_n hx hb dX6_fewest_40 rfl (lv_at hl 0 rfl) ?_
    refine tg_0 F hB dX6_fewest_41 ?_
    refine lv_iconst (v := 0) hx hb dX6_fewest_44 (by decide) ?_
    obtain ⟨hin, hw⟩ := hw
    refine t_ald F hB (k := 0) rfl hin dX6_fewest_45 ?_
    refine lv_icmp_ge (tgt := 68) hx hb dX6_fewest_46 (by decide) (fun q => ?_) (fun q => ?_)
    · replace hw := hw.1 q
      refine lv_iconst (v := -1) hx hb dX6_fewest_68 (by decide) ?_
      refine lv_istore (lv' := [(4, .int (-1 : Int32)), (0, .ref (ad 0 0 0)), (2, .int l2), (3, .int l3)]) hx hb dX6_fewest_69 hl (by decide) rfl (fun ls hl => ?_)
      refine lv_bipush (v := 13) hx hb dX6_fewest_71 (by decide) ?_
      refine lv_istore (lv' := [(5, .int (13 : Int32)), (4, .int (-1 : Int32)), (0, .ref (ad 0 0 0)), (2, .int l2), (3, .int l3)]) hx hb dX6_fewest_73 hl (by decide) rfl (fun ls hl => ?_)
      refine lv_iconst (v := 0) hx hb dX6_fewest_75 (by decide) ?_
      refine lv_istore (lv' := [(6, .int (0 : Int32)), (5, .int (13 : Int32)), (4, .int (-1 : Int32)), (0, .ref (ad 0 0 0)), (2, .int l2), (3, .int l3)]) hx hb dX6_fewest_76 hl (by decide) rfl (fun ls hl => ?_)
      obtain ⟨f_78, hw⟩ := hw
      exact bX6_fewest_78 F f_78 _ _ _ _ _ _ hw _ _ _ hB hS (lv_sub hl [3, 4, 5, 2, 1, 0] rfl)
    · replace hw := hw.2 q
      refine lv_aload_n hx hb dX6_fewest_49 rfl (lv_at hl 0 rfl) ?_
      refine tg_12 F hB dX6_fewest_50 ?_
      refine lv_iload hx hb dX6_fewest_53 (lv_at hl 3 rfl) ?_
      refine lv_aload_n hx hb dX6_fewest_55 rfl (lv_at hl 0 rfl) ?_
      refine lv_iload hx hb dX6_fewest_56 (lv_at hl 3 rfl) ?_
      refine kX6_X6_goBy F hB hS hw ⟨Nat.le_of_ble_eq_true rfl, Nat.le_of_ble_eq_true rfl⟩ ⟨Nat.zero_le _, Nat.zero_le _⟩ hl.1 (Nat.le_of_ble_eq_true rfl) dX6_fewest_58 (fun r1 T2 H locs hw hB hS => ?_)
      obtain ⟨hin, hw⟩ := hw
      refine t_ast F hB hS (k := 12) rfl hin dX6_fewest_61 (fun H locs hB hS => ?_)
      refine lv_iinc (v := l4 + (1 : Int32)) (lv' := [(4, .int (l4 + (1 : Int32))), (0, .ref (ad 0 0 0)), (2, .int l2), (3, .int l3)]) hx hb dX6_fewest_62 hl (k := 3) rfl (x_inc (by decide)) (by decide) rfl (fun ls hl => ?_)
      refine lv_goto (tgt := 38) hx hb dX6_fewest_65 (by decide) ?_
      exact ih _ _ _ _ hw _ _ _ hB hS (lv_sub hl [1, 2, 3, 0] rfl)
set_option maxHeartbeats 4000000 in
theorem bX6_fewest_0 {p : Program} {l : Launch} {e : Env} {s : State} {m : MethodId} {args : Array Value} {below : List Frame} {meth : Method} {c : Code} {D : DD} {A : Nat → Prop} {s0 : State} {ad : AD} {Q : Int32 → TS → Prop} {a1 : Int32} {a2 : Int32} {T : TS} {H : Heap} {locs : List Loc} {ls : Array Slot} (F : FX p l c cX6_fewest s args m RX6 D A s0 10 meth (some .int)) (hB : tB D A ad T H) (hS : va_S A s.heap H locs) (hw : wX6_fewest a1 a2 T Q) (hl : lv_has ls 10 [(0, .ref (ad 0 0 0)), (1, .int a1), (2, .int a2)]) : W p l e rX6_fewest s m args below meth c H locs 0 0 (MQ below (va_Qi Q (fun u t => tB D A ad u t.heap) A) args s 0 0 A) (F0 m 0 ls []) := by
  have hx := F.1.x
  have hb := F.1.b
  unfold wX6_fewest at hw
  refine lv_aload_n hx hb dX6_fewest_0 rfl (lv_at hl 0 rfl) ?_
  refine lv_iload_n hx hb dX6_fewest_1 rfl (lv_at hl 1 rfl) ?_
  refine kX6_X6_isDeed F hB hS hw ⟨Nat.le_of_ble_eq_true rfl, Nat.le_of_ble_eq_true rfl⟩ ⟨Nat.zero_le _, Nat.zero_le _⟩ hl.1 (Nat.le_of_ble_eq_true rfl) dX6_fewest_2 (fun r1 T2 H locs hw hB hS => ?_)
  refine lv_if_eq (tgt := 18) hx hb dX6_fewest_5 (by decide) (fun q => ?_) (fun q => ?_)
  · replace hw := hw.1 q
    refine lv_ldc hx hb F.1.o (F.1.t _ q1326) dX6_fewest_18 ?_
    exact W.iret hx hb F.1.r (fun t ht hW => ⟨⟨_, _, rfl, hw, x_B (Bw := tB D A ad) ht hB⟩, hS.F ht⟩) hS.2.2 dX6_fewest_20 (hlocks := F.1.k)
  · replace hw := hw.2 q
    refine lv_iload_n hx hb dX6_fewest_8 rfl (lv_at hl 2 rfl) ?_
    refine lv_i2l hx hb dX6_fewest_9 rfl ?_
    refine lv_lconst (v := 0) hx hb dX6_fewest_10 (by decide) ?_
    refine lv_lconst (v := 1) hx hb dX6_fewest_11 (by decide) ?_
    refine kX6_X6_isIn F.1 hw ⟨Nat.le_of_ble_eq_true rfl, Nat.le_of_ble_eq_true rfl⟩ ⟨Nat.zero_le _, Nat.zero_le _⟩ hl.1 (Nat.le_of_ble_eq_true rfl) dX6_fewest_12 (fun r3 hw => ?_)
    refine lv_if_ne (tgt := 21) hx hb dX6_fewest_15 (by decide) (fun q => ?_) (fun q => ?_)
    · replace hw := hw.2 q
      refine lv_aload_n hx hb dX6_fewest_21 rfl (lv_at hl 0 rfl) ?_
      refine kX6_X6_everybody F hB hS hw ⟨Nat.le_of_ble_eq_true rfl, Nat.le_of_ble_eq_true rfl⟩ ⟨Nat.zero_le _, Nat.zero_le _⟩ hl.1 (Nat.le_of_ble_eq_true rfl) dX6_fewest_22 (fun r4 T5 H locs hw hB hS => ?_)
      refine lv_aload_n hx hb dX6_fewest_25 rfl (lv_at hl 0 rfl) ?_
      refine lv_iload_n hx hb dX6_fewest_26 rfl (lv_at hl 1 rfl) ?_
      refine lv_iconst (v := 0) hx hb dX6_fewest_27 (by decide) ?_
      refine kX6_X6_dee F hB hS hw ⟨Nat.le_of_ble_eq_true rfl, Nat.le_of_ble_eq_true rfl⟩ ⟨Nat.zero_le _, Nat.zero_le _⟩ hl.1 (Nat.le_of_ble_eq_true rfl) dX6_fewest_28 (fun r6 T7 H locs hw hB hS => ?_)
      refine lv_iconst (v := -1) hx hb dX6_fewest_31 (by decide) ?_
      refine lv_ixor hx hb dX6_fewest_32 ?_
      refine lv_iand hx hb dX6_fewest_33 ?_
      refine lv_istore_n (lv' := [(3, .int (r4 &&& (r6 ^^^ (-1 : Int32)))), (0, .ref (ad 0 0 0)), (1, .int a1), (2, .int a2)]) hx hb dX6_fewest_34 rfl hl (by decide) rfl (fun ls hl => ?_)
      refine lv_iconst (v := 0) hx hb dX6_fewest_35 (by decide) ?_
      refine lv_istore (lv' := [(4, .int (0 : Int32)), (3, .int (r4 &&& (r6 ^^^ (-1 : Int32)))), (0, .ref (ad 0 0 0)), (1, .int a1), (2, .int a2)]) hx hb dX6_fewest_36 hl (by decide) rfl (fun ls hl => ?_)
      obtain ⟨f_38, hw⟩ := hw
      exact bX6_fewest_38 F f_38 _ _ _ _ hw _ _ _ hB hS (lv_sub hl [2, 4, 1, 0] rfl)
    · replace hw := hw.1 q
      refine lv_ldc hx hb F.1.o (F.1.t _ q1326) dX6_fewest_18 ?_
      exact W.iret hx hb F.1.r (fun t ht hW => ⟨⟨_, _, rfl, hw, x_B (Bw := tB D A ad) ht hB⟩, hS.F ht⟩) hS.2.2 dX6_fewest_20 (hlocks := F.1.k)
set_option maxHeartbeats 4000000 in
theorem mX6_fewest {l : Launch} {D : DD} {A : Nat → Prop} {s0 : State} {ad : AD} {T : TS} {a1 : Int32} {a2 : Int32} {Q : Int32 → TS → Prop} (hw : wX6_fewest a1 a2 T Q) : Met l yX6_fewest (ws_ yX6_fewest cX6_fewest 10 (some .int)) rX6_fewest (va_Pc [.ref (ad 0 0 0), .int a1, .int a2] (fun U => tB D A ad T U.heap ∧ CX l D A s0 U)) (va_Qi Q (fun u t => tB D A ad u t.heap) A) 0 0 A := by
  refine Met.ofW (cc := cX6_fewest) (maxL := 10) (ret := some .int) (by decide) rfl ?_
  intro p e s m args below meth c s₁ B hml hv
  obtain ⟨rfl, hB, hC⟩ := hv
  have F : FX p l c cX6_fewest s _ m RX6 D A s0 10 meth (some .int) := ⟨mk_FP B hml rfl, hC⟩
  have hS : va_S A s.heap s.heap [] := va_S.rf
  have hl := lv_entry ([.ref (ad 0 0 0), .int a1, .int a2]) (n := 10) (Nat.le_of_ble_eq_true rfl)
  rw [lg_entry_eq]
  generalize (lg_sl ([.ref (ad 0 0 0), .int a1, .int a2]) ++ List.replicate (10 - (lg_sl ([.ref (ad 0 0 0), .int a1, .int a2])).length) Slot.unset).toArray = ls at hl ⊢
  exact bX6_fewest_0 F hB hS hw hl
def rX6_follow : Room := { frames := 3, cells := 0, slots := 0, locals := 69 }
set_option maxHeartbeats 4000000 in
theorem bX6_follow_0 {p : Program} {l : Launch} {e : Env} {s : State} {m : MethodId} {args : Array Value} {below : List Frame} {meth : Method} {c : Code} {D : DD} {A : Nat → Prop} {s0 : State} {ad : AD} {Q : Int32 → TS → Prop} {a1 : Int32} {a2 : Int32} {a3 : Int32} {T : TS} {H : Heap} {locs : List Loc} {ls : Array Slot} (F : FX p l c cX6_follow s args m RX6 D A s0 4 meth (some .int)) (hB : tB D A ad T H) (hS : va_S A s.heap H locs) (hw : wX6_follow a1 a2 a3 T Q) (hl : lv_has ls 4 [(0, .ref (ad 0 0 0)), (1, .int a1), (2, .int a2), (3, .int a3)]) : W p l e rX6_follow s m args below meth c H locs 0 0 (MQ below (va_Qi Q (fun u t => tB D A ad u t.heap) A) args s 0 0 A) (F0 m 0 ls []) := by
  have hx := F.1.x
  have hb := F.1.b
  unfold wX6_follow at hw
  refine lv_aload_n hx hb dX6_follow_0 rfl (lv_at hl 0 rfl) ?_
  refine lv_iload_n hx hb dX6_follow_1 rfl (lv_at hl 1 rfl) ?_
  refine lv_iload_n hx hb dX6_follow_2 rfl (lv_at hl 2 rfl) ?_
  refine lv_iload_n hx hb dX6_follow_3 rfl (lv_at hl 3 rfl) ?_
  refine kX6_X6_areTwo F hB hS hw ⟨Nat.le_of_ble_eq_true rfl, Nat.le_of_ble_eq_true rfl⟩ ⟨Nat.zero_le _, Nat.zero_le _⟩ hl.1 (Nat.le_of_ble_eq_true rfl) dX6_follow_4 (fun r1 T2 H locs hw hB hS => ?_)
  refine lv_if_eq (tgt := 27) hx hb dX6_follow_7 (by decide) (fun q => ?_) (fun q => ?_)
  · replace hw := hw.1 q
    refine lv_ldc hx hb F.1.o (F.1.t _ q1326) dX6_follow_27 ?_
    exact W.iret hx hb F.1.r (fun t ht hW => ⟨⟨_, _, rfl, hw, x_B (Bw := tB D A ad) ht hB⟩, hS.F ht⟩) hS.2.2 dX6_follow_29 (hlocks := F.1.k)
  · replace hw := hw.2 q
    refine lv_aload_n hx hb dX6_follow_10 rfl (lv_at hl 0 rfl) ?_
    refine lv_bipush (v := 6) hx hb dX6_follow_11 (by decide) ?_
    refine lv_iconst (v := 5) hx hb dX6_follow_13 (by decide) ?_
    refine lv_iload_n hx hb dX6_follow_14 rfl (lv_at hl 1 rfl) ?_
    refine lv_imul hx hb dX6_follow_15 ?_
    refine lv_iadd hx hb dX6_follow_16 ?_
    refine lv_iconst (v := 4) hx hb dX6_follow_17 (by decide) ?_
    refine lv_iadd hx hb dX6_follow_18 ?_
    refine lv_iload_n hx hb dX6_follow_19 rfl (lv_at hl 2 rfl) ?_
    refine lv_iload_n hx hb dX6_follow_20 rfl (lv_at hl 3 rfl) ?_
    refine kX6_X6_bitBecomes F hB hS hw ⟨Nat.le_of_ble_eq_true rfl, Nat.le_of_ble_eq_true rfl⟩ ⟨Nat.zero_le _, Nat.zero_le _⟩ hl.1 (Nat.le_of_ble_eq_true rfl) dX6_follow_21 (fun r3 T4 H locs hw hB hS => ?_)
    refine lv_goto (tgt := 29) hx hb dX6_follow_24 (by decide) ?_
    exact W.iret hx hb F.1.r (fun t ht hW => ⟨⟨_, _, rfl, hw, x_B (Bw := tB D A ad) ht hB⟩, hS.F ht⟩) hS.2.2 dX6_follow_29 (hlocks := F.1.k)
set_option maxHeartbeats 4000000 in
theorem mX6_follow {l : Launch} {D : DD} {A : Nat → Prop} {s0 : State} {ad : AD} {T : TS} {a1 : Int32} {a2 : Int32} {a3 : Int32} {Q : Int32 → TS → Prop} (hw : wX6_follow a1 a2 a3 T Q) : Met l yX6_follow (ws_ yX6_follow cX6_follow 4 (some .int)) rX6_follow (va_Pc [.ref (ad 0 0 0), .int a1, .int a2, .int a3] (fun U => tB D A ad T U.heap ∧ CX l D A s0 U)) (va_Qi Q (fun u t => tB D A ad u t.heap) A) 0 0 A := by
  refine Met.ofW (cc := cX6_follow) (maxL := 4) (ret := some .int) (by decide) rfl ?_
  intro p e s m args below meth c s₁ B hml hv
  obtain ⟨rfl, hB, hC⟩ := hv
  have F : FX p l c cX6_follow s _ m RX6 D A s0 4 meth (some .int) := ⟨mk_FP B hml rfl, hC⟩
  have hS : va_S A s.heap s.heap [] := va_S.rf
  have hl := lv_entry ([.ref (ad 0 0 0), .int a1, .int a2, .int a3]) (n := 4) (Nat.le_of_ble_eq_true rfl)
  rw [lg_entry_eq]
  generalize (lg_sl ([.ref (ad 0 0 0), .int a1, .int a2, .int a3]) ++ List.replicate (4 - (lg_sl ([.ref (ad 0 0 0), .int a1, .int a2, .int a3])).length) Slot.unset).toArray = ls at hl ⊢
  exact bX6_follow_0 F hB hS hw hl
def rX6_friend : Room := { frames := 3, cells := 0, slots := 0, locals := 69 }
set_option maxHeartbeats 4000000 in
theorem bX6_friend_0 {p : Program} {l : Launch} {e : Env} {s : State} {m : MethodId} {args : Array Value} {below : List Frame} {meth : Method} {c : Code} {D : DD} {A : Nat → Prop} {s0 : State} {ad : AD} {Q : Int32 → TS → Prop} {a1 : Int32} {a2 : Int32} {a3 : Int32} {T : TS} {H : Heap} {locs : List Loc} {ls : Array Slot} (F : FX p l c cX6_friend s args m RX6 D A s0 5 meth (some .int)) (hB : tB D A ad T H) (hS : va_S A s.heap H locs) (hw : wX6_friend a1 a2 a3 T Q) (hl : lv_has ls 5 [(0, .ref (ad 0 0 0)), (1, .int a1), (2, .int a2), (3, .int a3)]) : W p l e rX6_friend s m args below meth c H locs 0 0 (MQ below (va_Qi Q (fun u t => tB D A ad u t.heap) A) args s 0 0 A) (F0 m 0 ls []) := by
  have hx := F.1.x
  have hb := F.1.b
  unfold wX6_friend at hw
  refine lv_aload_n hx hb dX6_friend_0 rfl (lv_at hl 0 rfl) ?_
  refine lv_iload_n hx hb dX6_friend_1 rfl (lv_at hl 1 rfl) ?_
  refine lv_iload_n hx hb dX6_friend_2 rfl (lv_at hl 2 rfl) ?_
  refine lv_iload_n hx hb dX6_friend_3 rfl (lv_at hl 3 rfl) ?_
  refine kX6_X6_areTwo F hB hS hw ⟨Nat.le_of_ble_eq_true rfl, Nat.le_of_ble_eq_true rfl⟩ ⟨Nat.zero_le _, Nat.zero_le _⟩ hl.1 (Nat.le_of_ble_eq_true rfl) dX6_friend_4 (fun r1 T2 H locs hw hB hS => ?_)
  refine lv_if_ne (tgt := 13) hx hb dX6_friend_7 (by decide) (fun q => ?_) (fun q => ?_)
  · replace hw := hw.2 q
    refine lv_aload_n hx hb dX6_friend_13 rfl (lv_at hl 0 rfl) ?_
    refine lv_bipush (v := 6) hx hb dX6_friend_14 (by decide) ?_
    refine lv_iconst (v := 5) hx hb dX6_friend_16 (by decide) ?_
    refine lv_iload_n hx hb dX6_friend_17 rfl (lv_at hl 1 rfl) ?_
    refine lv_imul hx hb dX6_friend_18 ?_
    refine lv_iadd hx hb dX6_friend_19 ?_
    refine lv_iconst (v := 3) hx hb dX6_friend_20 (by decide) ?_
    refine lv_iadd hx hb dX6_friend_21 ?_
    refine lv_iload_n hx hb dX6_friend_22 rfl (lv_at hl 2 rfl) ?_
    refine lv_iload_n hx hb dX6_friend_23 rfl (lv_at hl 3 rfl) ?_
    refine kX6_X6_bitBecomes F hB hS hw ⟨Nat.le_of_ble_eq_true rfl, Nat.le_of_ble_eq_true rfl⟩ ⟨Nat.zero_le _, Nat.zero_le _⟩ hl.1 (Nat.le_of_ble_eq_true rfl) dX6_friend_24 (fun r3 T4 H locs hw hB hS => ?_)
    refine lv_istore (lv' := [(4, .int r3), (0, .ref (ad 0 0 0)), (1, .int a1), (2, .int a2), (3, .int a3)]) hx hb dX6_friend_27 hl (by decide) rfl (fun ls hl => ?_)
    refine lv_aload_n hx hb dX6_friend_29 rfl (lv_at hl 1 rfl) ?_
    refine lv_bipush (v := 6) hx hb dX6_friend_30 (by decide) ?_
    refine lv_iconst (v := 5) hx hb dX6_friend_32 (by decide) ?_
    refine lv_iload_n hx hb dX6_friend_33 rfl (lv_at hl 3 rfl) ?_
    refine lv_imul hx hb dX6_friend_34 ?_
    refine lv_iadd hx hb dX6_friend_35 ?_
    refine lv_iconst (v := 3) hx hb dX6_friend_36 (by decide) ?_
    refine lv_iadd hx hb dX6_friend_37 ?_
    refine lv_iload_n hx hb dX6_friend_38 rfl (lv_at hl 2 rfl) ?_
    refine lv_iload_n hx hb dX6_friend_39 rfl (lv_at hl 4 rfl) ?_
    refine kX6_X6_bitBecomes F hB hS hw ⟨Nat.le_of_ble_eq_true rfl, Nat.le_of_ble_eq_true rfl⟩ ⟨Nat.zero_le _, Nat.zero_le _⟩ hl.1 (Nat.le_of_ble_eq_true rfl) dX6_friend_40 (fun r5 T6 H locs hw hB hS => ?_)
    exact W.iret hx hb F.1.r (fun t ht hW => ⟨⟨_, _, rfl, hw, x_B (Bw := tB D A ad) ht hB⟩, hS.F ht⟩) hS.2.2 dX6_friend_43 (hlocks := F.1.k)
  · replace hw := hw.1 q
    refine lv_ldc hx hb F.1.o (F.1.t _ q1326) dX6_friend_10 ?_
    exact W.iret hx hb F.1.r (fun t ht hW => ⟨⟨_, _, rfl, hw, x_B (Bw := tB D A ad) ht hB⟩, hS.F ht⟩) hS.2.2 dX6_friend_12 (hlocks := F.1.k)
set_option maxHeartbeats 4000000 in
theorem mX6_friend {l : Launch} {D : DD} {A : Nat → Prop} {s0 : State} {ad : AD} {T : TS} {a1 : Int32} {a2 : Int32} {a3 : Int32} {Q : Int32 → TS → Prop} (hw : wX6_friend a1 a2 a3 T Q) : Met l yX6_friend (ws_ yX6_friend cX6_friend 5 (some .int)) rX6_friend (va_Pc [.ref (ad 0 0 0), .int a1, .int a2, .int a3] (fun U => tB D A ad T U.heap ∧ CX l D A s0 U)) (va_Qi Q (fun u t => tB D A ad u t.heap) A) 0 0 A := by
  refine Met.ofW (cc := cX6_friend) (maxL := 5) (ret := some .int) (by decide) rfl ?_
  intro p e s m args below meth c s₁ B hml hv
  obtain ⟨rfl, hB, hC⟩ := hv
  have F : FX p l c cX6_friend s _ m RX6 D A s0 5 meth (some .int) := ⟨mk_FP B hml rfl, hC⟩
  have hS : va_S A s.heap s.heap [] := va_S.rf
  have hl := lv_entry ([.ref (ad 0 0 0), .int a1, .int a2, .int a3]) (n := 5) (Nat.le_of_ble_eq_true rfl)
  rw [lg_entry_eq]
  generalize (lg_sl ([.ref (ad 0 0 0), .int a1, .int a2, .int a3]) ++ List.replicate (5 - (lg_sl ([.ref (ad 0 0 0), .int a1, .int a2, .int a3])).length) Slot.unset).toArray = ls at hl ⊢
  exact bX6_friend_0 F hB hS hw hl
def rX6_goneOn : Room := { frames := 1, cells := 0, slots := 0, locals := 22 }
set_option maxHeartbeats 4000000 in
theorem bX6_goneOn_4 {p : Program} {l : Launch} {e : Env} {s : State} {m : MethodId} {args : Array Value} {below : List Frame} {meth : Method} {c : Code} {D : DD} {A : Nat → Prop} {s0 : State} {ad : AD} {Q : Int32 → TS → Prop} (F : FX p l c cX6_goneOn s args m RX6 D A s0 4 meth (some .int)) : ∀ (n : Nat) (l1 : Int32) (l2 : Int32) (l3 : Int32) (T : TS), wX6_goneOn_4 Q n l1 l2 l3 T → ∀ (H : Heap) (locs : List Loc) (ls : Array Slot), tB D A ad T H → va_S A s.heap H locs → lv_has ls 4 [(0, .ref (ad 0 0 0)), (1, .int l1), (2, .int l2), (3, .int l3)] → W p l e rX6_goneOn s m args below meth c H locs 0 0 (MQ below (va_Qi Q (fun u t => tB D A ad u t.heap) A) args s 0 0 A) (F0 m 4 ls []) := by
  have hx := F.1.x
  have hb := F.1.b
  intro n
  induction n with
  | zero => intro l1 l2 l3 T hw; exact hw.elim
  | succ n ih =>
    intro l1 l2 l3 T hw H locs ls hB hS hl
    unfold wX6_goneOn_4 at hw
    refine lv_iload_n hx hb dX6_goneOn_4 rfl (lv_at hl 3 rfl) ?_
    refine lv_aload_n hx hb dX6_goneOn_5 rfl (lv_at hl 0 rfl) ?_
    refine tg_0 F hB dX6_goneOn_6 ?_
    refine lv_iconst (v := 1) hx hb dX6_goneOn_9 (by decide) ?_
    obtain ⟨hin, hw⟩ := hw
    refine t_ald F hB (k := 0) rfl hin dX6_goneOn_10 ?_
    refine lv_icmp_ge (tgt := 33) hx hb dX6_goneOn_11 (by decide) (fun q => ?_) (fun q => ?_)
    · replace hw := hw.1 q
      refine lv_iload_n hx hb dX6_goneOn_33 rfl (lv_at hl 2 rfl) ?_
      exact W.iret hx hb F.1.r (fun t ht hW => ⟨⟨_, _, rfl, hw, x_B (Bw := tB D A ad) ht hB⟩, hS.F ht⟩) hS.2.2 dX6_goneOn_34 (hlocks := F.1.k)
    · replace hw := hw.2 q
      refine lv_iload_n hx hb dX6_goneOn_14 rfl (lv_at hl 2 rfl) ?_
      refine lv_aload_n hx hb dX6_goneOn_15 rfl (lv_at hl 0 rfl) ?_
      refine lv_iload_n hx hb dX6_goneOn_16 rfl (lv_at hl 3 rfl) ?_
      refine lv_iconst (v := 3) hx hb dX6_goneOn_17 (by decide) ?_
      refine kX6_X6_dee F hB hS hw ⟨Nat.le_of_ble_eq_true rfl, Nat.le_of_ble_eq_true rfl⟩ ⟨Nat.zero_le _, Nat.zero_le _⟩ hl.1 (Nat.le_of_ble_eq_true rfl) dX6_goneOn_18 (fun r1 T2 H locs hw hB hS => ?_)
      refine lv_iload_n hx hb dX6_goneOn_21 rfl (lv_at hl 1 rfl) ?_
      refine lv_ishr hx hb dX6_goneOn_22 ?_
      refine lv_iconst (v := 1) hx hb dX6_goneOn_23 (by decide) ?_
      refine lv_iand hx hb dX6_goneOn_24 ?_
      refine lv_iadd hx hb dX6_goneOn_25 ?_
      refine lv_istore_n (lv' := [(2, .int (l2 + ((r1 >>> (l1 &&& 31)) &&& (1 : Int32)))), (0, .ref (ad 0 0 0)), (1, .int l1), (3, .int l3)]) hx hb dX6_goneOn_26 rfl hl (by decide) rfl (fun ls hl => ?_)
      refine lv_iinc (v := l3 + (1 : Int32)) (lv' := [(3, .int (l3 + (1 : Int32))), (2, .int (l2 + ((r1 >>> (l1 &&& 31)) &&& (1 : Int32)))), (0, .ref (ad 0 0 0)), (1, .int l1)]) hx hb dX6_goneOn_27 hl (k := 3) rfl (x_inc (by decide)) (by decide) rfl (fun ls hl => ?_)
      refine lv_goto (tgt := 4) hx hb dX6_goneOn_30 (by decide) ?_
      exact ih _ _ _ _ hw _ _ _ hB hS (lv_sub hl [2, 3, 1, 0] rfl)
set_option maxHeartbeats 4000000 in
theorem bX6_goneOn_0 {p : Program} {l : Launch} {e : Env} {s : State} {m : MethodId} {args : Array Value} {below : List Frame} {meth : Method} {c : Code} {D : DD} {A : Nat → Prop} {s0 : State} {ad : AD} {Q : Int32 → TS → Prop} {a1 : Int32} {T : TS} {H : Heap} {locs : List Loc} {ls : Array Slot} (F : FX p l c cX6_goneOn s args m RX6 D A s0 4 meth (some .int)) (hB : tB D A ad T H) (hS : va_S A s.heap H locs) (hw : wX6_goneOn a1 T Q) (hl : lv_has ls 4 [(0, .ref (ad 0 0 0)), (1, .int a1)]) : W p l e rX6_goneOn s m args below meth c H locs 0 0 (MQ below (va_Qi Q (fun u t => tB D A ad u t.heap) A) args s 0 0 A) (F0 m 0 ls []) := by
  have hx := F.1.x
  have hb := F.1.b
  unfold wX6_goneOn at hw
  refine lv_iconst (v := 0) hx hb dX6_goneOn_0 (by decide) ?_
  refine lv_istore_n (lv' := [(2, .int (0 : Int32)), (0, .ref (ad 0 0 0)), (1, .int a1)]) hx hb dX6_goneOn_1 rfl hl (by decide) rfl (fun ls hl => ?_)
  refine lv_iconst (v := 0) hx hb dX6_goneOn_2 (by decide) ?_
  refine lv_istore_n (lv' := [(3, .int (0 : Int32)), (2, .int (0 : Int32)), (0, .ref (ad 0 0 0)), (1, .int a1)]) hx hb dX6_goneOn_3 rfl hl (by decide) rfl (fun ls hl => ?_)
  obtain ⟨f_4, hw⟩ := hw
  exact bX6_goneOn_4 F f_4 _ _ _ _ hw _ _ _ hB hS (lv_sub hl [2, 3, 1, 0] rfl)
set_option maxHeartbeats 4000000 in
theorem mX6_goneOn {l : Launch} {D : DD} {A : Nat → Prop} {s0 : State} {ad : AD} {T : TS} {a1 : Int32} {Q : Int32 → TS → Prop} (hw : wX6_goneOn a1 T Q) : Met l yX6_goneOn (ws_ yX6_goneOn cX6_goneOn 4 (some .int)) rX6_goneOn (va_Pc [.ref (ad 0 0 0), .int a1] (fun U => tB D A ad T U.heap ∧ CX l D A s0 U)) (va_Qi Q (fun u t => tB D A ad u t.heap) A) 0 0 A := by
  refine Met.ofW (cc := cX6_goneOn) (maxL := 4) (ret := some .int) (by decide) rfl ?_
  intro p e s m args below meth c s₁ B hml hv
  obtain ⟨rfl, hB, hC⟩ := hv
  have F : FX p l c cX6_goneOn s _ m RX6 D A s0 4 meth (some .int) := ⟨mk_FP B hml rfl, hC⟩
  have hS : va_S A s.heap s.heap [] := va_S.rf
  have hl := lv_entry ([.ref (ad 0 0 0), .int a1]) (n := 4) (Nat.le_of_ble_eq_true rfl)
  rw [lg_entry_eq]
  generalize (lg_sl ([.ref (ad 0 0 0), .int a1]) ++ List.replicate (4 - (lg_sl ([.ref (ad 0 0 0), .int a1])).length) Slot.unset).toArray = ls at hl ⊢
  exact bX6_goneOn_0 F hB hS hw hl
theorem kX6_X6_goneOn {p : Program} {l : Launch} {e : Env} {R : Room} {s : State} {m : MethodId} {args : Array Value} {below : List Frame} {meth : Method} {c : Code} {H : Heap} {locs : List Loc} {cells slots : Nat} {Q0 : State → Prop} {cc : ByteArray} {pc nL : Nat} {ls : Array Slot} {rest : List Value} {ret : Option FieldType} {D : DD} {A : Nat → Prop} {s0 : State} {ad : AD} {T : TS} {a1 : Int32} {Q : Int32 → TS → Prop} (F : FX p l c cc s args m RX6 D A s0 nL meth ret) (hB : tB D A ad T H) (hS : va_S A s.heap H locs) (hw : wX6_goneOn a1 T Q) (hR : rX6_goneOn.frames + 1 ≤ R.frames ∧ 8 + (4 + 11) + rX6_goneOn.locals ≤ R.locals) (hc : cells + 0 ≤ R.cells ∧ slots + 0 ≤ R.slots) (hsz : ls.size = nL) (hW : (rest.map fun v => v.category).sum ≤ 8) (hdg : decode cc pc = .ok (.invokevirtual 102, 3)) (kk : ∀ (r : Int32) (u : TS) (H1 : Heap) (locs1 : List Loc), Q r u → tB D A ad u H1 → va_S A s.heap H1 locs1 → W p l e R s m args below meth c H1 locs1 cells slots Q0 (F0 m (pc + 3) ls (.int r :: rest))) : W p l e R s m args below meth c H locs cells slots Q0 (F0 m pc ls (.int a1 :: .ref (ad 0 0 0) :: rest)) :=
  k_i (Bw := tB D A ad) (k_runV (Bw := tB D A ad) (n := 1) (As := [.int a1]) F hB hS (t_recv F hB) (mX6_goneOn hw) q1351 q1353 qs45 q92 q1354 (by decide +kernel) hR ⟨rfl, rfl⟩ hc rfl hsz rfl hW hdg) hS kk
def rX6_isText : Room := { frames := 1, cells := 0, slots := 0, locals := 25 }
set_option maxHeartbeats 4000000 in
theorem bX6_isText_0 {p : Program} {l : Launch} {e : Env} {s : State} {m : MethodId} {args : Array Value} {below : List Frame} {meth : Method} {c : Code} {D : DD} {A : Nat → Prop} {s0 : State} {ad : AD} {Q : Int32 → TS → Prop} {a1 : Int32} {T : TS} {H : Heap} {locs : List Loc} {ls : Array Slot} (F : FX p l c cX6_isText s args m RX6 D A s0 2 meth (some .boolean)) (hB : tB D A ad T H) (hS : va_S A s.heap H locs) (hw : wX6_isText a1 T Q) (hl : lv_has ls 2 [(0, .ref (ad 0 0 0)), (1, .int a1)]) : W p l e rX6_isText s m args below meth c H locs 0 0 (MQ below (va_Qi Q (fun u t => tB D A ad u t.heap) A) args s 0 0 A) (F0 m 0 ls []) := by
  have hx := F.1.x
  have hb := F.1.b
  unfold wX6_isText at hw
  refine lv_iload_n hx hb dX6_isText_0 rfl (lv_at hl 1 rfl) ?_
  refine lv_i2l hx hb dX6_isText_1 rfl ?_
  refine lv_lconst (v := 0) hx hb dX6_isText_2 (by decide) ?_
  refine lv_aload_n hx hb dX6_isText_3 rfl (lv_at hl 0 rfl) ?_
  refine tg_0 F hB dX6_isText_4 ?_
  refine lv_iconst (v := 2) hx hb dX6_isText_7 (by decide) ?_
  obtain ⟨hin, hw⟩ := hw
  refine t_ald F hB (k := 0) rfl hin dX6_isText_8 ?_
  refine lv_iconst (v := 1) hx hb dX6_isText_9 (by decide) ?_
  refine lv_isub hx hb dX6_isText_10 ?_
  refine lv_i2l hx hb dX6_isText_11 rfl ?_
  refine kX6_X6_isIn F.1 hw ⟨Nat.le_of_ble_eq_true rfl, Nat.le_of_ble_eq_true rfl⟩ ⟨Nat.zero_le _, Nat.zero_le _⟩ hl.1 (Nat.le_of_ble_eq_true rfl) dX6_isText_12 (fun r1 hw => ?_)
  obtain ⟨hn, hw⟩ := hw
  exact W.zret hx hb F.1.r hn (fun t ht hW => ⟨⟨_, _, rfl, hw, x_B (Bw := tB D A ad) ht hB⟩, hS.F ht⟩) hS.2.2 dX6_isText_15 (hlocks := F.1.k)
set_option maxHeartbeats 4000000 in
theorem mX6_isText {l : Launch} {D : DD} {A : Nat → Prop} {s0 : State} {ad : AD} {T : TS} {a1 : Int32} {Q : Int32 → TS → Prop} (hw : wX6_isText a1 T Q) : Met l yX6_isText (ws_ yX6_isText cX6_isText 2 (some .boolean)) rX6_isText (va_Pc [.ref (ad 0 0 0), .int a1] (fun U => tB D A ad T U.heap ∧ CX l D A s0 U)) (va_Qi Q (fun u t => tB D A ad u t.heap) A) 0 0 A := by
  refine Met.ofW (cc := cX6_isText) (maxL := 2) (ret := some .boolean) (by decide) rfl ?_
  intro p e s m args below meth c s₁ B hml hv
  obtain ⟨rfl, hB, hC⟩ := hv
  have F : FX p l c cX6_isText s _ m RX6 D A s0 2 meth (some .boolean) := ⟨mk_FP B hml rfl, hC⟩
  have hS : va_S A s.heap s.heap [] := va_S.rf
  have hl := lv_entry ([.ref (ad 0 0 0), .int a1]) (n := 2) (Nat.le_of_ble_eq_true rfl)
  rw [lg_entry_eq]
  generalize (lg_sl ([.ref (ad 0 0 0), .int a1]) ++ List.replicate (2 - (lg_sl ([.ref (ad 0 0 0), .int a1])).length) Slot.unset).toArray = ls at hl ⊢
  exact bX6_isText_0 F hB hS hw hl
theorem kX6_X6_isText {p : Program} {l : Launch} {e : Env} {R : Room} {s : State} {m : MethodId} {args : Array Value} {below : List Frame} {meth : Method} {c : Code} {H : Heap} {locs : List Loc} {cells slots : Nat} {Q0 : State → Prop} {cc : ByteArray} {pc nL : Nat} {ls : Array Slot} {rest : List Value} {ret : Option FieldType} {D : DD} {A : Nat → Prop} {s0 : State} {ad : AD} {T : TS} {a1 : Int32} {Q : Int32 → TS → Prop} (F : FX p l c cc s args m RX6 D A s0 nL meth ret) (hB : tB D A ad T H) (hS : va_S A s.heap H locs) (hw : wX6_isText a1 T Q) (hR : rX6_isText.frames + 1 ≤ R.frames ∧ 8 + (2 + 11) + rX6_isText.locals ≤ R.locals) (hc : cells + 0 ≤ R.cells ∧ slots + 0 ≤ R.slots) (hsz : ls.size = nL) (hW : (rest.map fun v => v.category).sum ≤ 8) (hdg : decode cc pc = .ok (.invokevirtual 281, 3)) (kk : ∀ (r : Int32) (u : TS) (H1 : Heap) (locs1 : List Loc), Q r u → tB D A ad u H1 → va_S A s.heap H1 locs1 → W p l e R s m args below meth c H1 locs1 cells slots Q0 (F0 m (pc + 3) ls (.int r :: rest))) : W p l e R s m args below meth c H locs cells slots Q0 (F0 m pc ls (.int a1 :: .ref (ad 0 0 0) :: rest)) :=
  k_i (Bw := tB D A ad) (k_runV (Bw := tB D A ad) (n := 1) (As := [.int a1]) F hB hS (t_recv F hB) (mX6_isText hw) q1626 q1628 qs79 q92 q1629 (by decide +kernel) hR ⟨rfl, rfl⟩ hc rfl hsz rfl hW hdg) hS kk
def rX6_isWordAt : Room := { frames := 0, cells := 0, slots := 0, locals := 0 }
set_option maxHeartbeats 4000000 in
theorem bX6_isWordAt_10 {p : Program} {l : Launch} {e : Env} {s : State} {m : MethodId} {args : Array Value} {below : List Frame} {meth : Method} {c : Code} {D : DD} {A : Nat → Prop} {s0 : State} {ad : AD} {Q : Int32 → TS → Prop} {l1 : Int32} {l2 : Int32} {l3 : Int32} {l4 : Int32} {k0 : Int32} {T : TS} {H : Heap} {locs : List Loc} {ls : Array Slot} (F : FX p l c cX6_isWordAt s args m RX6 D A s0 6 meth (some .boolean)) (hB : tB D A ad T H) (hS : va_S A s.heap H locs) (hw : wX6_isWordAt_10 l1 l2 l3 l4 k0 T Q) (hl : lv_has ls 6 [(0, .ref (ad 0 0 0)), (1, .int l1), (2, .int l2), (3, .int l3), (4, .int l4)]) : W p l e rX6_isWordAt s m args below meth c H locs 0 0 (MQ below (va_Qi Q (fun u t => tB D A ad u t.heap) A) args s 0 0 A) (F0 m 10 ls [.int k0]) := by
  have hx := F.1.x
  have hb := F.1.b
  unfold wX6_isWordAt_10 at hw
  refine lv_istore (lv' := [(5, .int k0), (0, .ref (ad 0 0 0)), (1, .int l1), (2, .int l2), (3, .int l3), (4, .int l4)]) hx hb dX6_isWordAt_10 hl (by decide) rfl (fun ls hl => ?_)
  refine lv_aload_n hx hb dX6_isWordAt_12 rfl (lv_at hl 1 rfl) ?_
  refine tg_17 F hB dX6_isWordAt_13 ?_
  refine lv_iconst (v := 1) hx hb dX6_isWordAt_16 (by decide) ?_
  refine lv_icmp_ne (tgt := 102) hx hb dX6_isWordAt_17 (by decide) (fun q => ?_) (fun q => ?_)
  · replace hw := hw.2 q
    refine lv_iconst (v := 0) hx hb dX6_isWordAt_102 (by decide) ?_
    exact W.zret hx hb F.1.r rfl (fun t ht hW => ⟨⟨_, _, rfl, hw, x_B (Bw := tB D A ad) ht hB⟩, hS.F ht⟩) hS.2.2 dX6_isWordAt_103 (hlocks := F.1.k)
  · replace hw := hw.1 q
    refine lv_aload_n hx hb dX6_isWordAt_20 rfl (lv_at hl 1 rfl) ?_
    refine tg_16 F hB dX6_isWordAt_21 ?_
    refine lv_aload_n hx hb dX6_isWordAt_24 rfl (lv_at hl 1 rfl) ?_
    refine tg_15 F hB dX6_isWordAt_25 ?_
    refine lv_isub hx hb dX6_isWordAt_28 ?_
    refine lv_iload hx hb dX6_isWordAt_29 (lv_at hl 0 rfl) ?_
    refine lv_icmp_ne (tgt := 102) hx hb dX6_isWordAt_31 (by decide) (fun q => ?_) (fun q => ?_)
    · replace hw := hw.2 q
      refine lv_iconst (v := 0) hx hb dX6_isWordAt_102 (by decide) ?_
      exact W.zret hx hb F.1.r rfl (fun t ht hW => ⟨⟨_, _, rfl, hw, x_B (Bw := tB D A ad) ht hB⟩, hS.F ht⟩) hS.2.2 dX6_isWordAt_103 (hlocks := F.1.k)
    · replace hw := hw.1 q
      refine lv_aload_n hx hb dX6_isWordAt_34 rfl (lv_at hl 1 rfl) ?_
      refine tg_13 F hB dX6_isWordAt_35 ?_
      refine lv_aload_n hx hb dX6_isWordAt_38 rfl (lv_at hl 1 rfl) ?_
      refine tg_15 F hB dX6_isWordAt_39 ?_
      obtain ⟨hin, hw⟩ := hw
      refine t_ald F hB (k := 13) rfl hin dX6_isWordAt_42 ?_
      refine lv_iload_n hx hb dX6_isWordAt_43 rfl (lv_at hl 2 rfl) ?_
      refine lv_icmp_ne (tgt := 102) hx hb dX6_isWordAt_44 (by decide) (fun q => ?_) (fun q => ?_)
      · replace hw := hw.2 q
        refine lv_iconst (v := 0) hx hb dX6_isWordAt_102 (by decide) ?_
        exact W.zret hx hb F.1.r rfl (fun t ht hW => ⟨⟨_, _, rfl, hw, x_B (Bw := tB D A ad) ht hB⟩, hS.F ht⟩) hS.2.2 dX6_isWordAt_103 (hlocks := F.1.k)
      · replace hw := hw.1 q
        refine lv_aload_n hx hb dX6_isWordAt_47 rfl (lv_at hl 1 rfl) ?_
        refine tg_13 F hB dX6_isWordAt_48 ?_
        refine lv_aload_n hx hb dX6_isWordAt_51 rfl (lv_at hl 1 rfl) ?_
        refine tg_15 F hB dX6_isWordAt_52 ?_
        refine lv_iconst (v := 1) hx hb dX6_isWordAt_55 (by decide) ?_
        refine lv_iadd hx hb dX6_isWordAt_56 ?_
        obtain ⟨hin, hw⟩ := hw
        refine t_ald F hB (k := 13) rfl hin dX6_isWordAt_57 ?_
        refine lv_iload_n hx hb dX6_isWordAt_58 rfl (lv_at hl 3 rfl) ?_
        refine lv_icmp_ne (tgt := 102) hx hb dX6_isWordAt_59 (by decide) (fun q => ?_) (fun q => ?_)
        · replace hw := hw.2 q
          refine lv_iconst (v := 0) hx hb dX6_isWordAt_102 (by decide) ?_
          exact W.zret hx hb F.1.r rfl (fun t ht hW => ⟨⟨_, _, rfl, hw, x_B (Bw := tB D A ad) ht hB⟩, hS.F ht⟩) hS.2.2 dX6_isWordAt_103 (hlocks := F.1.k)
        · replace hw := hw.1 q
          refine lv_aload_n hx hb dX6_isWordAt_62 rfl (lv_at hl 1 rfl) ?_
          refine tg_13 F hB dX6_isWordAt_63 ?_
          refine lv_aload_n hx hb dX6_isWordAt_66 rfl (lv_at hl 1 rfl) ?_
          refine tg_15 F hB dX6_isWordAt_67 ?_
          refine lv_iconst (v := 2) hx hb dX6_isWordAt_70 (by decide) ?_
          refine lv_iadd hx hb dX6_isWordAt_71 ?_
          obtain ⟨hin, hw⟩ := hw
          refine t_ald F hB (k := 13) rfl hin dX6_isWordAt_72 ?_
          refine lv_iload_n hx hb dX6_isWordAt_73 rfl (lv_at hl 4 rfl) ?_
          refine lv_icmp_ne (tgt := 102) hx hb dX6_isWordAt_74 (by decide) (fun q => ?_) (fun q => ?_)
          · replace hw := hw.2 q
            refine lv_iconst (v := 0) hx hb dX6_isWordAt_102 (by decide) ?_
            exact W.zret hx hb F.1.r rfl (fun t ht hW => ⟨⟨_, _, rfl, hw, x_B (Bw := tB D A ad) ht hB⟩, hS.F ht⟩) hS.2.2 dX6_isWordAt_103 (hlocks := F.1.k)
          · replace hw := hw.1 q
            refine lv_iload hx hb dX6_isWordAt_77 (lv_at hl 5 rfl) ?_
            refine lv_if_eq (tgt := 98) hx hb dX6_isWordAt_79 (by decide) (fun q => ?_) (fun q => ?_)
            · replace hw := hw.1 q
              refine lv_iconst (v := 1) hx hb dX6_isWordAt_98 (by decide) ?_
              refine lv_goto (tgt := 103) hx hb dX6_isWordAt_99 (by decide) ?_
              exact W.zret hx hb F.1.r rfl (fun t ht hW => ⟨⟨_, _, rfl, hw, x_B (Bw := tB D A ad) ht hB⟩, hS.F ht⟩) hS.2.2 dX6_isWordAt_103 (hlocks := F.1.k)
            · replace hw := hw.2 q
              refine lv_aload_n hx hb dX6_isWordAt_82 rfl (lv_at hl 1 rfl) ?_
              refine tg_13 F hB dX6_isWordAt_83 ?_
              refine lv_aload_n hx hb dX6_isWordAt_86 rfl (lv_at hl 1 rfl) ?_
              refine tg_15 F hB dX6_isWordAt_87 ?_
              refine lv_iconst (v := 3) hx hb dX6_isWordAt_90 (by decide) ?_
              refine lv_iadd hx hb dX6_isWordAt_91 ?_
              obtain ⟨hin, hw⟩ := hw
              refine t_ald F hB (k := 13) rfl hin dX6_isWordAt_92 ?_
              refine lv_iload hx hb dX6_isWordAt_93 (lv_at hl 5 rfl) ?_
              refine lv_icmp_ne (tgt := 102) hx hb dX6_isWordAt_95 (by decide) (fun q => ?_) (fun q => ?_)
              · replace hw := hw.2 q
                refine lv_iconst (v := 0) hx hb dX6_isWordAt_102 (by decide) ?_
                exact W.zret hx hb F.1.r rfl (fun t ht hW => ⟨⟨_, _, rfl, hw, x_B (Bw := tB D A ad) ht hB⟩, hS.F ht⟩) hS.2.2 dX6_isWordAt_103 (hlocks := F.1.k)
              · replace hw := hw.1 q
                refine lv_iconst (v := 1) hx hb dX6_isWordAt_98 (by decide) ?_
                refine lv_goto (tgt := 103) hx hb dX6_isWordAt_99 (by decide) ?_
                exact W.zret hx hb F.1.r rfl (fun t ht hW => ⟨⟨_, _, rfl, hw, x_B (Bw := tB D A ad) ht hB⟩, hS.F ht⟩) hS.2.2 dX6_isWordAt_103 (hlocks := F.1.k)
set_option maxHeartbeats 4000000 in
theorem bX6_isWordAt_0 {p : Program} {l : Launch} {e : Env} {s : State} {m : MethodId} {args : Array Value} {below : List Frame} {meth : Method} {c : Code} {D : DD} {A : Nat → Prop} {s0 : State} {ad : AD} {Q : Int32 → TS → Prop} {a1 : Int32} {a2 : Int32} {a3 : Int32} {a4 : Int32} {T : TS} {H : Heap} {locs : List Loc} {ls : Array Slot} (F : FX p l c cX6_isWordAt s args m RX6 D A s0 6 meth (some .boolean)) (hB : tB D A ad T H) (hS : va_S A s.heap H locs) (hw : wX6_isWordAt a1 a2 a3 a4 T Q) (hl : lv_has ls 6 [(0, .ref (ad 0 0 0)), (1, .int a1), (2, .int a2), (3, .int a3), (4, .int a4)]) : W p l e rX6_isWordAt s m args below meth c H locs 0 0 (MQ below (va_Qi Q (fun u t => tB D A ad u t.heap) A) args s 0 0 A) (F0 m 0 ls []) := by
  have hx := F.1.x
  have hb := F.1.b
  unfold wX6_isWordAt at hw
  refine lv_iload hx hb dX6_isWordAt_0 (lv_at hl 4 rfl) ?_
  refine lv_if_ne (tgt := 9) hx hb dX6_isWordAt_2 (by decide) (fun q => ?_) (fun q => ?_)
  · replace hw := hw.2 q
    refine lv_iconst (v := 4) hx hb dX6_isWordAt_9 (by decide) ?_
    exact bX6_isWordAt_10 F hB hS hw hl
  · replace hw := hw.1 q
    refine lv_iconst (v := 3) hx hb dX6_isWordAt_5 (by decide) ?_
    refine lv_goto (tgt := 10) hx hb dX6_isWordAt_6 (by decide) ?_
    exact bX6_isWordAt_10 F hB hS hw hl
set_option maxHeartbeats 4000000 in
theorem mX6_isWordAt {l : Launch} {D : DD} {A : Nat → Prop} {s0 : State} {ad : AD} {T : TS} {a1 : Int32} {a2 : Int32} {a3 : Int32} {a4 : Int32} {Q : Int32 → TS → Prop} (hw : wX6_isWordAt a1 a2 a3 a4 T Q) : Met l yX6_isWordAt (ws_ yX6_isWordAt cX6_isWordAt 6 (some .boolean)) rX6_isWordAt (va_Pc [.ref (ad 0 0 0), .int a1, .int a2, .int a3, .int a4] (fun U => tB D A ad T U.heap ∧ CX l D A s0 U)) (va_Qi Q (fun u t => tB D A ad u t.heap) A) 0 0 A := by
  refine Met.ofW (cc := cX6_isWordAt) (maxL := 6) (ret := some .boolean) (by decide) rfl ?_
  intro p e s m args below meth c s₁ B hml hv
  obtain ⟨rfl, hB, hC⟩ := hv
  have F : FX p l c cX6_isWordAt s _ m RX6 D A s0 6 meth (some .boolean) := ⟨mk_FP B hml rfl, hC⟩
  have hS : va_S A s.heap s.heap [] := va_S.rf
  have hl := lv_entry ([.ref (ad 0 0 0), .int a1, .int a2, .int a3, .int a4]) (n := 6) (Nat.le_of_ble_eq_true rfl)
  rw [lg_entry_eq]
  generalize (lg_sl ([.ref (ad 0 0 0), .int a1, .int a2, .int a3, .int a4]) ++ List.replicate (6 - (lg_sl ([.ref (ad 0 0 0), .int a1, .int a2, .int a3, .int a4])).length) Slot.unset).toArray = ls at hl ⊢
  exact bX6_isWordAt_0 F hB hS hw hl
theorem kX6_X6_isWordAt {p : Program} {l : Launch} {e : Env} {R : Room} {s : State} {m : MethodId} {args : Array Value} {below : List Frame} {meth : Method} {c : Code} {H : Heap} {locs : List Loc} {cells slots : Nat} {Q0 : State → Prop} {cc : ByteArray} {pc nL : Nat} {ls : Array Slot} {rest : List Value} {ret : Option FieldType} {D : DD} {A : Nat → Prop} {s0 : State} {ad : AD} {T : TS} {a1 : Int32} {a2 : Int32} {a3 : Int32} {a4 : Int32} {Q : Int32 → TS → Prop} (F : FX p l c cc s args m RX6 D A s0 nL meth ret) (hB : tB D A ad T H) (hS : va_S A s.heap H locs) (hw : wX6_isWordAt a1 a2 a3 a4 T Q) (hR : rX6_isWordAt.frames + 1 ≤ R.frames ∧ 8 + (6 + 11) + rX6_isWordAt.locals ≤ R.locals) (hc : cells + 0 ≤ R.cells ∧ slots + 0 ≤ R.slots) (hsz : ls.size = nL) (hW : (rest.map fun v => v.category).sum ≤ 8) (hdg : decode cc pc = .ok (.invokevirtual 223, 3)) (kk : ∀ (r : Int32) (u : TS) (H1 : Heap) (locs1 : List Loc), Q r u → tB D A ad u H1 → va_S A s.heap H1 locs1 → W p l e R s m args below meth c H1 locs1 cells slots Q0 (F0 m (pc + 3) ls (.int r :: rest))) : W p l e R s m args below meth c H locs cells slots Q0 (F0 m pc ls (.int a4 :: .int a3 :: .int a2 :: .int a1 :: .ref (ad 0 0 0) :: rest)) :=
  k_i (Bw := tB D A ad) (k_runV (Bw := tB D A ad) (n := 4) (As := [.int a1, .int a2, .int a3, .int a4]) F hB hS (t_recv F hB) (mX6_isWordAt hw) q1583 q1585 qs70 q92 q1586 (by decide +kernel) hR ⟨rfl, rfl⟩ hc rfl hsz rfl hW hdg) hS kk
def rX6_item : Room := { frames := 2, cells := 0, slots := 0, locals := 45 }
set_option maxHeartbeats 4000000 in
theorem bX6_item_0 {p : Program} {l : Launch} {e : Env} {s : State} {m : MethodId} {args : Array Value} {below : List Frame} {meth : Method} {c : Code} {D : DD} {A : Nat → Prop} {s0 : State} {ad : AD} {Q : Int32 → TS → Prop} {a1 : Int32} {a2 : Int32} {T : TS} {H : Heap} {locs : List Loc} {ls : Array Slot} (F : FX p l c cX6_item s args m RX6 D A s0 4 meth (some .int)) (hB : tB D A ad T H) (hS : va_S A s.heap H locs) (hw : wX6_item a1 a2 T Q) (hl : lv_has ls 4 [(0, .ref (ad 0 0 0)), (1, .int a1), (2, .int a2)]) : W p l e rX6_item s m args below meth c H locs 0 0 (MQ below (va_Qi Q (fun u t => tB D A ad u t.heap) A) args s 0 0 A) (F0 m 0 ls []) := by
  have hx := F.1.x
  have hb := F.1.b
  unfold wX6_item at hw
  refine lv_iload_n hx hb dX6_item_0 rfl (lv_at hl 1 rfl) ?_
  refine kX6_X6_isSlot F.1 hw ⟨Nat.le_of_ble_eq_true rfl, Nat.le_of_ble_eq_true rfl⟩ ⟨Nat.zero_le _, Nat.zero_le _⟩ hl.1 (Nat.le_of_ble_eq_true rfl) dX6_item_1 (fun r1 hw => ?_)
  refine lv_if_ne (tgt := 10) hx hb dX6_item_4 (by decide) (fun q => ?_) (fun q => ?_)
  · replace hw := hw.2 q
    refine lv_aload_n hx hb dX6_item_10 rfl (lv_at hl 0 rfl) ?_
    refine tg_7 F hB dX6_item_11 ?_
    refine lv_iload_n hx hb dX6_item_14 rfl (lv_at hl 1 rfl) ?_
    obtain ⟨hin, hw⟩ := hw
    refine t_ald F hB (k := 7) rfl hin dX6_item_15 ?_
    refine lv_iconst (v := 2) hx hb dX6_item_16 (by decide) ?_
    refine lv_icmp_eq (tgt := 38) hx hb dX6_item_17 (by decide) (fun q => ?_) (fun q => ?_)
    · replace hw := hw.1 q
      refine lv_iload_n hx hb dX6_item_38 rfl (lv_at hl 2 rfl) ?_
      refine lv_i2l hx hb dX6_item_39 rfl ?_
      refine lv_lconst (v := 0) hx hb dX6_item_40 (by decide) ?_
      refine lv_aload_n hx hb dX6_item_41 rfl (lv_at hl 0 rfl) ?_
      refine tg_10 F hB dX6_item_42 ?_
      refine lv_iload_n hx hb dX6_item_45 rfl (lv_at hl 1 rfl) ?_
      obtain ⟨hin, hw⟩ := hw
      refine t_ald F hB (k := 10) rfl hin dX6_item_46 ?_
      refine lv_iconst (v := 1) hx hb dX6_item_47 (by decide) ?_
      refine lv_isub hx hb dX6_item_48 ?_
      refine lv_i2l hx hb dX6_item_49 rfl ?_
      refine kX6_X6_isIn F.1 hw ⟨Nat.le_of_ble_eq_true rfl, Nat.le_of_ble_eq_true rfl⟩ ⟨Nat.zero_le _, Nat.zero_le _⟩ hl.1 (Nat.le_of_ble_eq_true rfl) dX6_item_50 (fun r2 hw => ?_)
      refine lv_if_ne (tgt := 60) hx hb dX6_item_53 (by decide) (fun q => ?_) (fun q => ?_)
      · replace hw := hw.2 q
        refine lv_aload_n hx hb dX6_item_60 rfl (lv_at hl 0 rfl) ?_
        refine tg_11 F hB dX6_item_61 ?_
        refine lv_bipush (v := 24) hx hb dX6_item_64 (by decide) ?_
        refine lv_iload_n hx hb dX6_item_66 rfl (lv_at hl 1 rfl) ?_
        refine lv_imul hx hb dX6_item_67 ?_
        refine lv_iload_n hx hb dX6_item_68 rfl (lv_at hl 2 rfl) ?_
        refine lv_iadd hx hb dX6_item_69 ?_
        obtain ⟨hin, hw⟩ := hw
        refine t_ald F hB (k := 11) rfl hin dX6_item_70 ?_
        refine lv_istore_n (lv' := [(3, .int (T.2 11 (((24 : Int32) * a1) + a2).toNatClampNeg)), (0, .ref (ad 0 0 0)), (1, .int a1), (2, .int a2)]) hx hb dX6_item_71 rfl hl (by decide) rfl (fun ls hl => ?_)
        refine lv_iload_n hx hb dX6_item_72 rfl (lv_at hl 0 rfl) ?_
        refine lv_ldc hx hb F.1.o (F.1.t _ q1504) dX6_item_73 ?_
        refine lv_icmp_ne (tgt := 83) hx hb dX6_item_75 (by decide) (fun q => ?_) (fun q => ?_)
        · replace hw := hw.2 q
          refine lv_iload_n hx hb dX6_item_83 rfl (lv_at hl 0 rfl) ?_
          exact W.iret hx hb F.1.r (fun t ht hW => ⟨⟨_, _, rfl, hw, x_B (Bw := tB D A ad) ht hB⟩, hS.F ht⟩) hS.2.2 dX6_item_84 (hlocks := F.1.k)
        · replace hw := hw.1 q
          refine lv_ldc hx hb F.1.o (F.1.t _ q1366) dX6_item_78 ?_
          refine lv_goto (tgt := 84) hx hb dX6_item_80 (by decide) ?_
          exact W.iret hx hb F.1.r (fun t ht hW => ⟨⟨_, _, rfl, hw, x_B (Bw := tB D A ad) ht hB⟩, hS.F ht⟩) hS.2.2 dX6_item_84 (hlocks := F.1.k)
      · replace hw := hw.1 q
        refine lv_ldcw hx hb F.1.o (F.1.t _ q1650) dX6_item_56 ?_
        exact W.iret hx hb F.1.r (fun t ht hW => ⟨⟨_, _, rfl, hw, x_B (Bw := tB D A ad) ht hB⟩, hS.F ht⟩) hS.2.2 dX6_item_59 (hlocks := F.1.k)
    · replace hw := hw.2 q
      refine lv_aload_n hx hb dX6_item_20 rfl (lv_at hl 0 rfl) ?_
      refine tg_7 F hB dX6_item_21 ?_
      refine lv_iload_n hx hb dX6_item_24 rfl (lv_at hl 1 rfl) ?_
      obtain ⟨hin, hw⟩ := hw
      refine t_ald F hB (k := 7) rfl hin dX6_item_25 ?_
      refine lv_if_ne (tgt := 35) hx hb dX6_item_26 (by decide) (fun q => ?_) (fun q => ?_)
      · replace hw := hw.2 q
        refine lv_ldc hx hb F.1.o (F.1.t _ q1366) dX6_item_35 ?_
        exact W.iret hx hb F.1.r (fun t ht hW => ⟨⟨_, _, rfl, hw, x_B (Bw := tB D A ad) ht hB⟩, hS.F ht⟩) hS.2.2 dX6_item_37 (hlocks := F.1.k)
      · replace hw := hw.1 q
        refine lv_ldcw hx hb F.1.o (F.1.t _ q1649) dX6_item_29 ?_
        refine lv_goto (tgt := 37) hx hb dX6_item_32 (by decide) ?_
        exact W.iret hx hb F.1.r (fun t ht hW => ⟨⟨_, _, rfl, hw, x_B (Bw := tB D A ad) ht hB⟩, hS.F ht⟩) hS.2.2 dX6_item_37 (hlocks := F.1.k)
  · replace hw := hw.1 q
    refine lv_ldc hx hb F.1.o (F.1.t _ q1326) dX6_item_7 ?_
    exact W.iret hx hb F.1.r (fun t ht hW => ⟨⟨_, _, rfl, hw, x_B (Bw := tB D A ad) ht hB⟩, hS.F ht⟩) hS.2.2 dX6_item_9 (hlocks := F.1.k)
set_option maxHeartbeats 4000000 in
theorem mX6_item {l : Launch} {D : DD} {A : Nat → Prop} {s0 : State} {ad : AD} {T : TS} {a1 : Int32} {a2 : Int32} {Q : Int32 → TS → Prop} (hw : wX6_item a1 a2 T Q) : Met l yX6_item (ws_ yX6_item cX6_item 4 (some .int)) rX6_item (va_Pc [.ref (ad 0 0 0), .int a1, .int a2] (fun U => tB D A ad T U.heap ∧ CX l D A s0 U)) (va_Qi Q (fun u t => tB D A ad u t.heap) A) 0 0 A := by
  refine Met.ofW (cc := cX6_item) (maxL := 4) (ret := some .int) (by decide) rfl ?_
  intro p e s m args below meth c s₁ B hml hv
  obtain ⟨rfl, hB, hC⟩ := hv
  have F : FX p l c cX6_item s _ m RX6 D A s0 4 meth (some .int) := ⟨mk_FP B hml rfl, hC⟩
  have hS : va_S A s.heap s.heap [] := va_S.rf
  have hl := lv_entry ([.ref (ad 0 0 0), .int a1, .int a2]) (n := 4) (Nat.le_of_ble_eq_true rfl)
  rw [lg_entry_eq]
  generalize (lg_sl ([.ref (ad 0 0 0), .int a1, .int a2]) ++ List.replicate (4 - (lg_sl ([.ref (ad 0 0 0), .int a1, .int a2])).length) Slot.unset).toArray = ls at hl ⊢
  exact bX6_item_0 F hB hS hw hl
def rX6_keep : Room := { frames := 1, cells := 0, slots := 0, locals := 23 }
set_option maxHeartbeats 4000000 in
theorem bX6_keep_0 {p : Program} {l : Launch} {e : Env} {s : State} {m : MethodId} {args : Array Value} {below : List Frame} {meth : Method} {c : Code} {D : DD} {A : Nat → Prop} {s0 : State} {ad : AD} {Q : Int32 → TS → Prop} {T : TS} {H : Heap} {locs : List Loc} {ls : Array Slot} (F : FX p l c cX6_keep s args m RX6 D A s0 1 meth (some .int)) (hB : tB D A ad T H) (hS : va_S A s.heap H locs) (hw : wX6_keep T Q) (hl : lv_has ls 1 [(0, .ref (ad 0 0 0))]) : W p l e rX6_keep s m args below meth c H locs 0 0 (MQ below (va_Qi Q (fun u t => tB D A ad u t.heap) A) args s 0 0 A) (F0 m 0 ls []) := by
  have hx := F.1.x
  have hb := F.1.b
  unfold wX6_keep at hw
  refine lv_aload_n hx hb dX6_keep_0 rfl (lv_at hl 0 rfl) ?_
  refine lv_iconst (v := 1) hx hb dX6_keep_1 (by decide) ?_
  refine tp_3 F hB hS rfl rfl dX6_keep_2 (fun H locs hB hS => ?_)
  refine lv_aload_n hx hb dX6_keep_5 rfl (lv_at hl 0 rfl) ?_
  refine lv_aload_n hx hb dX6_keep_6 rfl (lv_at hl 0 rfl) ?_
  refine tg_0 F hB dX6_keep_7 ?_
  refine lv_aload_n hx hb dX6_keep_10 rfl (lv_at hl 0 rfl) ?_
  refine tg_1 F hB dX6_keep_11 ?_
  refine kX6_X6_setAside F hB hS hw ⟨Nat.le_of_ble_eq_true rfl, Nat.le_of_ble_eq_true rfl⟩ ⟨Nat.zero_le _, Nat.zero_le _⟩ hl.1 (Nat.le_of_ble_eq_true rfl) dX6_keep_14 (fun T2 H locs hw hB hS => ?_)
  refine lv_aload_n hx hb dX6_keep_17 rfl (lv_at hl 0 rfl) ?_
  refine tg_0 F hB dX6_keep_18 ?_
  refine lv_iconst (v := 0) hx hb dX6_keep_21 (by decide) ?_
  obtain ⟨hin, hw⟩ := hw
  refine t_ald F hB (k := 0) rfl hin dX6_keep_22 ?_
  exact W.iret hx hb F.1.r (fun t ht hW => ⟨⟨_, _, rfl, hw, x_B (Bw := tB D A ad) ht hB⟩, hS.F ht⟩) hS.2.2 dX6_keep_23 (hlocks := F.1.k)
set_option maxHeartbeats 4000000 in
theorem mX6_keep {l : Launch} {D : DD} {A : Nat → Prop} {s0 : State} {ad : AD} {T : TS}  {Q : Int32 → TS → Prop} (hw : wX6_keep T Q) : Met l yX6_keep (ws_ yX6_keep cX6_keep 1 (some .int)) rX6_keep (va_Pc [.ref (ad 0 0 0)] (fun U => tB D A ad T U.heap ∧ CX l D A s0 U)) (va_Qi Q (fun u t => tB D A ad u t.heap) A) 0 0 A := by
  refine Met.ofW (cc := cX6_keep) (maxL := 1) (ret := some .int) (by decide) rfl ?_
  intro p e s m args below meth c s₁ B hml hv
  obtain ⟨rfl, hB, hC⟩ := hv
  have F : FX p l c cX6_keep s _ m RX6 D A s0 1 meth (some .int) := ⟨mk_FP B hml rfl, hC⟩
  have hS : va_S A s.heap s.heap [] := va_S.rf
  have hl := lv_entry ([.ref (ad 0 0 0)]) (n := 1) (Nat.le_of_ble_eq_true rfl)
  rw [lg_entry_eq]
  generalize (lg_sl ([.ref (ad 0 0 0)]) ++ List.replicate (1 - (lg_sl ([.ref (ad 0 0 0)])).length) Slot.unset).toArray = ls at hl ⊢
  exact bX6_keep_0 F hB hS hw hl
def rX6_key : Room := { frames := 1, cells := 0, slots := 0, locals := 25 }
set_option maxHeartbeats 4000000 in
theorem bX6_key_0 {p : Program} {l : Launch} {e : Env} {s : State} {m : MethodId} {args : Array Value} {below : List Frame} {meth : Method} {c : Code} {D : DD} {A : Nat → Prop} {s0 : State} {ad : AD} {Q : Int32 → TS → Prop} {T : TS} {H : Heap} {locs : List Loc} {ls : Array Slot} (F : FX p l c cX6_key s args m RX6 D A s0 1 meth (some .int)) (hB : tB D A ad T H) (hS : va_S A s.heap H locs) (hw : wX6_key T Q) (hl : lv_has ls 1 [(0, .ref (ad 0 0 0))]) : W p l e rX6_key s m args below meth c H locs 0 0 (MQ below (va_Qi Q (fun u t => tB D A ad u t.heap) A) args s 0 0 A) (F0 m 0 ls []) := by
  have hx := F.1.x
  have hb := F.1.b
  unfold wX6_key at hw
  refine lv_aload_n hx hb dX6_key_0 rfl (lv_at hl 0 rfl) ?_
  refine lv_bipush (v := 109) hx hb dX6_key_1 (by decide) ?_
  refine lv_bipush (v := 97) hx hb dX6_key_3 (by decide) ?_
  refine lv_bipush (v := 121) hx hb dX6_key_5 (by decide) ?_
  refine lv_iconst (v := 0) hx hb dX6_key_7 (by decide) ?_
  refine kX6_X6_isWordAt F hB hS hw ⟨Nat.le_of_ble_eq_true rfl, Nat.le_of_ble_eq_true rfl⟩ ⟨Nat.zero_le _, Nat.zero_le _⟩ hl.1 (Nat.le_of_ble_eq_true rfl) dX6_key_8 (fun r1 T2 H locs hw hB hS => ?_)
  refine lv_if_eq (tgt := 16) hx hb dX6_key_11 (by decide) (fun q => ?_) (fun q => ?_)
  · replace hw := hw.1 q
    refine lv_aload_n hx hb dX6_key_16 rfl (lv_at hl 0 rfl) ?_
    refine lv_bipush (v := 99) hx hb dX6_key_17 (by decide) ?_
    refine lv_bipush (v := 111) hx hb dX6_key_19 (by decide) ?_
    refine lv_bipush (v := 115) hx hb dX6_key_21 (by decide) ?_
    refine lv_bipush (v := 116) hx hb dX6_key_23 (by decide) ?_
    refine kX6_X6_isWordAt F hB hS hw ⟨Nat.le_of_ble_eq_true rfl, Nat.le_of_ble_eq_true rfl⟩ ⟨Nat.zero_le _, Nat.zero_le _⟩ hl.1 (Nat.le_of_ble_eq_true rfl) dX6_key_25 (fun r3 T4 H locs hw hB hS => ?_)
    refine lv_if_eq (tgt := 33) hx hb dX6_key_28 (by decide) (fun q => ?_) (fun q => ?_)
    · replace hw := hw.1 q
      refine lv_aload_n hx hb dX6_key_33 rfl (lv_at hl 0 rfl) ?_
      refine lv_bipush (v := 98) hx hb dX6_key_34 (by decide) ?_
      refine lv_bipush (v := 111) hx hb dX6_key_36 (by decide) ?_
      refine lv_bipush (v := 108) hx hb dX6_key_38 (by decide) ?_
      refine lv_bipush (v := 100) hx hb dX6_key_40 (by decide) ?_
      refine kX6_X6_isWordAt F hB hS hw ⟨Nat.le_of_ble_eq_true rfl, Nat.le_of_ble_eq_true rfl⟩ ⟨Nat.zero_le _, Nat.zero_le _⟩ hl.1 (Nat.le_of_ble_eq_true rfl) dX6_key_42 (fun r5 T6 H locs hw hB hS => ?_)
      refine lv_if_eq (tgt := 52) hx hb dX6_key_45 (by decide) (fun q => ?_) (fun q => ?_)
      · replace hw := hw.1 q
        refine lv_iconst (v := -1) hx hb dX6_key_52 (by decide) ?_
        exact W.iret hx hb F.1.r (fun t ht hW => ⟨⟨_, _, rfl, hw, x_B (Bw := tB D A ad) ht hB⟩, hS.F ht⟩) hS.2.2 dX6_key_53 (hlocks := F.1.k)
      · replace hw := hw.2 q
        refine lv_iconst (v := 2) hx hb dX6_key_48 (by decide) ?_
        refine lv_goto (tgt := 53) hx hb dX6_key_49 (by decide) ?_
        exact W.iret hx hb F.1.r (fun t ht hW => ⟨⟨_, _, rfl, hw, x_B (Bw := tB D A ad) ht hB⟩, hS.F ht⟩) hS.2.2 dX6_key_53 (hlocks := F.1.k)
    · replace hw := hw.2 q
      refine lv_iconst (v := 1) hx hb dX6_key_31 (by decide) ?_
      exact W.iret hx hb F.1.r (fun t ht hW => ⟨⟨_, _, rfl, hw, x_B (Bw := tB D A ad) ht hB⟩, hS.F ht⟩) hS.2.2 dX6_key_32 (hlocks := F.1.k)
  · replace hw := hw.2 q
    refine lv_iconst (v := 0) hx hb dX6_key_14 (by decide) ?_
    exact W.iret hx hb F.1.r (fun t ht hW => ⟨⟨_, _, rfl, hw, x_B (Bw := tB D A ad) ht hB⟩, hS.F ht⟩) hS.2.2 dX6_key_15 (hlocks := F.1.k)
set_option maxHeartbeats 4000000 in
theorem mX6_key {l : Launch} {D : DD} {A : Nat → Prop} {s0 : State} {ad : AD} {T : TS}  {Q : Int32 → TS → Prop} (hw : wX6_key T Q) : Met l yX6_key (ws_ yX6_key cX6_key 1 (some .int)) rX6_key (va_Pc [.ref (ad 0 0 0)] (fun U => tB D A ad T U.heap ∧ CX l D A s0 U)) (va_Qi Q (fun u t => tB D A ad u t.heap) A) 0 0 A := by
  refine Met.ofW (cc := cX6_key) (maxL := 1) (ret := some .int) (by decide) rfl ?_
  intro p e s m args below meth c s₁ B hml hv
  obtain ⟨rfl, hB, hC⟩ := hv
  have F : FX p l c cX6_key s _ m RX6 D A s0 1 meth (some .int) := ⟨mk_FP B hml rfl, hC⟩
  have hS : va_S A s.heap s.heap [] := va_S.rf
  have hl := lv_entry ([.ref (ad 0 0 0)]) (n := 1) (Nat.le_of_ble_eq_true rfl)
  rw [lg_entry_eq]
  generalize (lg_sl ([.ref (ad 0 0 0)]) ++ List.replicate (1 - (lg_sl ([.ref (ad 0 0 0)])).length) Slot.unset).toArray = ls at hl ⊢
  exact bX6_key_0 F hB hS hw hl
theorem kX6_X6_key {p : Program} {l : Launch} {e : Env} {R : Room} {s : State} {m : MethodId} {args : Array Value} {below : List Frame} {meth : Method} {c : Code} {H : Heap} {locs : List Loc} {cells slots : Nat} {Q0 : State → Prop} {cc : ByteArray} {pc nL : Nat} {ls : Array Slot} {rest : List Value} {ret : Option FieldType} {D : DD} {A : Nat → Prop} {s0 : State} {ad : AD} {T : TS} {Q : Int32 → TS → Prop} (F : FX p l c cc s args m RX6 D A s0 nL meth ret) (hB : tB D A ad T H) (hS : va_S A s.heap H locs) (hw : wX6_key T Q) (hR : rX6_key.frames + 1 ≤ R.frames ∧ 8 + (1 + 11) + rX6_key.locals ≤ R.locals) (hc : cells + 0 ≤ R.cells ∧ slots + 0 ≤ R.slots) (hsz : ls.size = nL) (hW : (rest.map fun v => v.category).sum ≤ 8) (hdg : decode cc pc = .ok (.invokevirtual 275, 3)) (kk : ∀ (r : Int32) (u : TS) (H1 : Heap) (locs1 : List Loc), Q r u → tB D A ad u H1 → va_S A s.heap H1 locs1 → W p l e R s m args below meth c H1 locs1 cells slots Q0 (F0 m (pc + 3) ls (.int r :: rest))) : W p l e R s m args below meth c H locs cells slots Q0 (F0 m pc ls (.ref (ad 0 0 0) :: rest)) :=
  k_i (Bw := tB D A ad) (k_runV (Bw := tB D A ad) (n := 0) (As := []) F hB hS (t_recv F hB) (mX6_key hw) q1579 q1581 qs69 q92 q1582 (by decide +kernel) hR ⟨rfl, rfl⟩ hc rfl hsz rfl hW hdg) hS kk
def rX6_worthOf : Room := { frames := 0, cells := 0, slots := 0, locals := 0 }
set_option maxHeartbeats 4000000 in
theorem bX6_worthOf_0 {p : Program} {l : Launch} {e : Env} {s : State} {m : MethodId} {args : Array Value} {below : List Frame} {meth : Method} {c : Code} {Q : Int32 → Prop} {a0 : Int32} {a1 : Int32} {ls : Array Slot} (F : FP p c cX6_worthOf s args m RX6 2 meth (some .int)) (hw : wX6_worthOf a0 a1 Q) (hl : lv_has ls 2 [(0, .int a0), (1, .int a1)]) : W p l e rX6_worthOf s m args below meth c s.heap [] 0 0 (MQ below (vp_Si Q) args s 0 0 (fun _ => False)) (F0 m 0 ls []) := by
  have hx := F.x
  have hb := F.b
  unfold wX6_worthOf at hw
  refine lv_iload_n hx hb dX6_worthOf_0 rfl (lv_at hl 0 rfl) ?_
  by_cases q1 : a0 = 1
  · replace hw := hw.1 q1
    refine lv_tableIn (off := 35) (tgt := 36) hx hb dX6_worthOf_1 (by rw [q1]; decide) (by rw [q1]; decide) (by rw [q1]; rfl) (by decide) ?_
    refine lv_iload_n hx hb dX6_worthOf_36 rfl (lv_at hl 1 rfl) ?_
    refine lv_iconst (v := 5) hx hb dX6_worthOf_37 (by decide) ?_
    refine lv_iadd hx hb dX6_worthOf_38 ?_
    exact W.iret hx hb F.r (fun t ht hW => ⟨_, rfl, hw, ht⟩) (fun _ h => absurd h List.not_mem_nil) dX6_worthOf_39 (hlocks := F.k)
  replace hw := hw.2 q1
  by_cases q2 : a0 = 2
  · replace hw := hw.1 q2
    refine lv_tableIn (off := 39) (tgt := 40) hx hb dX6_worthOf_1 (by rw [q2]; decide) (by rw [q2]; decide) (by rw [q2]; rfl) (by decide) ?_
    refine lv_bipush (v := 100) hx hb dX6_worthOf_40 (by decide) ?_
    refine lv_iload_n hx hb dX6_worthOf_42 rfl (lv_at hl 1 rfl) ?_
    refine lv_isub hx hb dX6_worthOf_43 ?_
    exact W.iret hx hb F.r (fun t ht hW => ⟨_, rfl, hw, ht⟩) (fun _ h => absurd h List.not_mem_nil) dX6_worthOf_44 (hlocks := F.k)
  replace hw := hw.2 q2
  by_cases q3 : a0 = 3
  · replace hw := hw.1 q3
    refine lv_tableIn (off := 44) (tgt := 45) hx hb dX6_worthOf_1 (by rw [q3]; decide) (by rw [q3]; decide) (by rw [q3]; rfl) (by decide) ?_
    refine lv_iconst (v := 2) hx hb dX6_worthOf_45 (by decide) ?_
    refine lv_iload_n hx hb dX6_worthOf_46 rfl (lv_at hl 1 rfl) ?_
    refine lv_iconst (v := 5) hx hb dX6_worthOf_47 (by decide) ?_
    refine lv_iadd hx hb dX6_worthOf_48 ?_
    refine lv_imul hx hb dX6_worthOf_49 ?_
    exact W.iret hx hb F.r (fun t ht hW => ⟨_, rfl, hw, ht⟩) (fun _ h => absurd h List.not_mem_nil) dX6_worthOf_50 (hlocks := F.k)
  replace hw := hw.2 q3
  by_cases q4 : a0 = 4
  · replace hw := hw.1 q4
    refine lv_tableIn (off := 50) (tgt := 51) hx hb dX6_worthOf_1 (by rw [q4]; decide) (by rw [q4]; decide) (by rw [q4]; rfl) (by decide) ?_
    refine lv_bipush (v := 93) hx hb dX6_worthOf_51 (by decide) ?_
    refine lv_iload_n hx hb dX6_worthOf_53 rfl (lv_at hl 1 rfl) ?_
    refine lv_isub hx hb dX6_worthOf_54 ?_
    exact W.iret hx hb F.r (fun t ht hW => ⟨_, rfl, hw, ht⟩) (fun _ h => absurd h List.not_mem_nil) dX6_worthOf_55 (hlocks := F.k)
  replace hw := hw.2 q4
  by_cases q5 : a0 = 5
  · replace hw := hw.1 q5
    refine lv_tableIn (off := 55) (tgt := 56) hx hb dX6_worthOf_1 (by rw [q5]; decide) (by rw [q5]; decide) (by rw [q5]; rfl) (by decide) ?_
    refine lv_bipush (v := 10) hx hb dX6_worthOf_56 (by decide) ?_
    refine lv_iload_n hx hb dX6_worthOf_58 rfl (lv_at hl 1 rfl) ?_
    refine lv_imul hx hb dX6_worthOf_59 ?_
    exact W.iret hx hb F.r (fun t ht hW => ⟨_, rfl, hw, ht⟩) (fun _ h => absurd h List.not_mem_nil) dX6_worthOf_60 (hlocks := F.k)
  replace hw := hw.2 q5
  refine lv_tableOut (tgt := 61) hx hb dX6_worthOf_1 (by have n1 := x_ne q1 (a := 1) (by decide); have n2 := x_ne q2 (a := 2) (by decide); have n3 := x_ne q3 (a := 3) (by decide); have n4 := x_ne q4 (a := 4) (by decide); have n5 := x_ne q5 (a := 5) (by decide); omega) (by decide) ?_
  refine lv_iload_n hx hb dX6_worthOf_61 rfl (lv_at hl 1 rfl) ?_
  exact W.iret hx hb F.r (fun t ht hW => ⟨_, rfl, hw, ht⟩) (fun _ h => absurd h List.not_mem_nil) dX6_worthOf_62 (hlocks := F.k)
set_option maxHeartbeats 4000000 in
theorem mX6_worthOf {l : Launch}  {a0 : Int32} {a1 : Int32} {Q : Int32 → Prop} (hw : wX6_worthOf a0 a1 Q) : Met l yX6_worthOf (ws_ yX6_worthOf cX6_worthOf 2 (some .int)) rX6_worthOf (va_Pc [.int a0, .int a1] (fun _ => True)) (vp_Si Q) 0 0 (fun _ => False) := by
  refine Met.ofW (cc := cX6_worthOf) (maxL := 2) (ret := some .int) (by decide) rfl ?_
  intro p e s m args below meth c s₁ B hml hv
  obtain ⟨rfl, -⟩ := hv
  have F : FP p c cX6_worthOf s _ m RX6 2 meth (some .int) := mk_FP B hml rfl
  have hl := lv_entry ([.int a0, .int a1]) (n := 2) (Nat.le_of_ble_eq_true rfl)
  rw [lg_entry_eq]
  generalize (lg_sl ([.int a0, .int a1]) ++ List.replicate (2 - (lg_sl ([.int a0, .int a1])).length) Slot.unset).toArray = ls at hl ⊢
  exact bX6_worthOf_0 F hw hl
theorem kX6_X6_worthOf {p : Program} {l : Launch} {e : Env} {R : Room} {s : State} {m : MethodId} {args : Array Value} {below : List Frame} {meth : Method} {c : Code} {H : Heap} {locs : List Loc} {cells slots : Nat} {Q0 : State → Prop} {cc : ByteArray} {pc nL : Nat} {ls : Array Slot} {rest : List Value} {ret : Option FieldType} {a0 : Int32} {a1 : Int32} {Q : Int32 → Prop} (F : FP p c cc s args m RX6 nL meth ret) (hw : wX6_worthOf a0 a1 Q) (hR : rX6_worthOf.frames + 1 ≤ R.frames ∧ 8 + (2 + 11) + rX6_worthOf.locals ≤ R.locals) (hc : cells ≤ R.cells ∧ slots ≤ R.slots) (hsz : ls.size = nL) (hW : (rest.map fun v => v.category).sum ≤ 8) (hdg : decode cc pc = .ok (.invokestatic 99, 3)) (kk : ∀ r : Int32, Q r → W p l e R s m args below meth c H locs cells slots Q0 (F0 m (pc + 3) ls (.int r :: rest))) : W p l e R s m args below meth c H locs cells slots Q0 (F0 m pc ls (.int a1 :: .int a0 :: rest)) :=
  k_csi (k_runP (n := 2) (As := [.int a0, .int a1]) F (mX6_worthOf hw) q1348 q1349 q92 q1350 (by decide +kernel) hR ⟨rfl, rfl⟩ hc rfl hsz rfl hW hdg) kk
def rX6_lay : Room := { frames := 2, cells := 0, slots := 0, locals := 46 }
set_option maxHeartbeats 4000000 in
theorem bX6_lay_160 {p : Program} {l : Launch} {e : Env} {s : State} {m : MethodId} {args : Array Value} {below : List Frame} {meth : Method} {c : Code} {D : DD} {A : Nat → Prop} {s0 : State} {ad : AD} {Q : Int32 → TS → Prop} (F : FX p l c cX6_lay s args m RX6 D A s0 7 meth (some .int)) : ∀ (n : Nat) (l1 : Int32) (l3 : Int32) (l5 : Int32) (l6 : Int32) (T : TS), wX6_lay_160 Q n l1 l3 l5 l6 T → ∀ (H : Heap) (locs : List Loc) (ls : Array Slot), tB D A ad T H → va_S A s.heap H locs → lv_has ls 7 [(0, .ref (ad 0 0 0)), (1, .int l1), (3, .int l3), (5, .int l5), (6, .int l6)] → W p l e rX6_lay s m args below meth c H locs 0 0 (MQ below (va_Qi Q (fun u t => tB D A ad u t.heap) A) args s 0 0 A) (F0 m 160 ls []) := by
  have hx := F.1.x
  have hb := F.1.b
  intro n
  induction n with
  | zero => intro l1 l3 l5 l6 T hw; exact hw.elim
  | succ n ih =>
    intro l1 l3 l5 l6 T hw H locs ls hB hS hl
    unfold wX6_lay_160 at hw
    refine lv_iload hx hb dX6_lay_160 (lv_at hl 4 rfl) ?_
    refine lv_bipush (v := 24) hx hb dX6_lay_162 (by decide) ?_
    refine lv_icmp_ge (tgt := 197) hx hb dX6_lay_164 (by decide) (fun q => ?_) (fun q => ?_)
    · replace hw := hw.1 q
      refine lv_iload hx hb dX6_lay_197 (lv_at hl 3 rfl) ?_
      exact W.iret hx hb F.1.r (fun t ht hW => ⟨⟨_, _, rfl, hw, x_B (Bw := tB D A ad) ht hB⟩, hS.F ht⟩) hS.2.2 dX6_lay_199 (hlocks := F.1.k)
    · replace hw := hw.2 q
      refine lv_aload_n hx hb dX6_lay_167 rfl (lv_at hl 0 rfl) ?_
      refine tg_11 F hB dX6_lay_168 ?_
      refine lv_bipush (v := 24) hx hb dX6_lay_171 (by decide) ?_
      refine lv_iload_n hx hb dX6_lay_173 rfl (lv_at hl 1 rfl) ?_
      refine lv_imul hx hb dX6_lay_174 ?_
      refine lv_iload hx hb dX6_lay_175 (lv_at hl 4 rfl) ?_
      refine lv_iadd hx hb dX6_lay_177 ?_
      refine lv_aload_n hx hb dX6_lay_178 rfl (lv_at hl 0 rfl) ?_
      refine tg_6 F hB dX6_lay_179 ?_
      refine lv_bipush (v := 24) hx hb dX6_lay_182 (by decide) ?_
      refine lv_iload_n hx hb dX6_lay_184 rfl (lv_at hl 2 rfl) ?_
      refine lv_imul hx hb dX6_lay_185 ?_
      refine lv_iload hx hb dX6_lay_186 (lv_at hl 4 rfl) ?_
      refine lv_iadd hx hb dX6_lay_188 ?_
      obtain ⟨hin, hw⟩ := hw
      refine t_ald F hB (k := 6) rfl hin dX6_lay_189 ?_
      obtain ⟨hin, hw⟩ := hw
      refine t_ast F hB hS (k := 11) rfl hin dX6_lay_190 (fun H locs hB hS => ?_)
      refine lv_iinc (v := l6 + (1 : Int32)) (lv' := [(6, .int (l6 + (1 : Int32))), (0, .ref (ad 0 0 0)), (1, .int l1), (3, .int l3), (5, .int l5)]) hx hb dX6_lay_191 hl (k := 4) rfl (x_inc (by decide)) (by decide) rfl (fun ls hl => ?_)
      refine lv_goto (tgt := 160) hx hb dX6_lay_194 (by decide) ?_
      exact ih _ _ _ _ _ hw _ _ _ hB hS (lv_sub hl [1, 2, 3, 4, 0] rfl)
set_option maxHeartbeats 4000000 in
theorem bX6_lay_139 {p : Program} {l : Launch} {e : Env} {s : State} {m : MethodId} {args : Array Value} {below : List Frame} {meth : Method} {c : Code} {D : DD} {A : Nat → Prop} {s0 : State} {ad : AD} {Q : Int32 → TS → Prop} {l1 : Int32} {l2 : Int32} {l3 : Int32} {l5 : Int32} {k0 : Int32} {k1 : Int32} {T : TS} {H : Heap} {locs : List Loc} {ls : Array Slot} (F : FX p l c cX6_lay s args m RX6 D A s0 7 meth (some .int)) (hB : tB D A ad T H) (hS : va_S A s.heap H locs) (hw : wX6_lay_139 l1 l2 l3 l5 k0 k1 T Q) (hl : lv_has ls 7 [(0, .ref (ad 0 0 0)), (1, .int l1), (2, .int l2), (3, .int l3), (5, .int l5)]) : W p l e rX6_lay s m args below meth c H locs 0 0 (MQ below (va_Qi Q (fun u t => tB D A ad u t.heap) A) args s 0 0 A) (F0 m 139 ls [.int k0, .int k1, .ref (ad 1 9 0)]) := by
  have hx := F.1.x
  have hb := F.1.b
  unfold wX6_lay_139 at hw
  obtain ⟨hin, hw⟩ := hw
  refine t_ast F hB hS (k := 9) rfl hin dX6_lay_139 (fun H locs hB hS => ?_)
  refine lv_iload_n hx hb dX6_lay_140 rfl (lv_at hl 2 rfl) ?_
  refine lv_iconst (v := 2) hx hb dX6_lay_141 (by decide) ?_
  refine lv_icmp_ne (tgt := 197) hx hb dX6_lay_142 (by decide) (fun q => ?_) (fun q => ?_)
  · replace hw := hw.2 q
    refine lv_iload hx hb dX6_lay_197 (lv_at hl 4 rfl) ?_
    exact W.iret hx hb F.1.r (fun t ht hW => ⟨⟨_, _, rfl, hw, x_B (Bw := tB D A ad) ht hB⟩, hS.F ht⟩) hS.2.2 dX6_lay_199 (hlocks := F.1.k)
  · replace hw := hw.1 q
    refine lv_aload_n hx hb dX6_lay_145 rfl (lv_at hl 0 rfl) ?_
    refine tg_10 F hB dX6_lay_146 ?_
    refine lv_iload_n hx hb dX6_lay_149 rfl (lv_at hl 1 rfl) ?_
    refine lv_aload_n hx hb dX6_lay_150 rfl (lv_at hl 0 rfl) ?_
    refine tg_5 F hB dX6_lay_151 ?_
    refine lv_iload_n hx hb dX6_lay_154 rfl (lv_at hl 3 rfl) ?_
    obtain ⟨hin, hw⟩ := hw
    refine t_ald F hB (k := 5) rfl hin dX6_lay_155 ?_
    obtain ⟨hin, hw⟩ := hw
    refine t_ast F hB hS (k := 10) rfl hin dX6_lay_156 (fun H locs hB hS => ?_)
    refine lv_iconst (v := 0) hx hb dX6_lay_157 (by decide) ?_
    refine lv_istore (lv' := [(6, .int (0 : Int32)), (0, .ref (ad 0 0 0)), (1, .int l1), (2, .int l2), (3, .int l3), (5, .int l5)]) hx hb dX6_lay_158 hl (by decide) rfl (fun ls hl => ?_)
    obtain ⟨f_160, hw⟩ := hw
    exact bX6_lay_160 F f_160 _ _ _ _ _ hw _ _ _ hB hS (lv_sub hl [1, 2, 4, 5, 0] rfl)
set_option maxHeartbeats 4000000 in
theorem bX6_lay_109 {p : Program} {l : Launch} {e : Env} {s : State} {m : MethodId} {args : Array Value} {below : List Frame} {meth : Method} {c : Code} {D : DD} {A : Nat → Prop} {s0 : State} {ad : AD} {Q : Int32 → TS → Prop} {l1 : Int32} {l2 : Int32} {l3 : Int32} {l5 : Int32} {k0 : Int32} {k1 : Int32} {T : TS} {H : Heap} {locs : List Loc} {ls : Array Slot} (F : FX p l c cX6_lay s args m RX6 D A s0 7 meth (some .int)) (hB : tB D A ad T H) (hS : va_S A s.heap H locs) (hw : wX6_lay_109 l1 l2 l3 l5 k0 k1 T Q) (hl : lv_has ls 7 [(0, .ref (ad 0 0 0)), (1, .int l1), (2, .int l2), (3, .int l3), (5, .int l5)]) : W p l e rX6_lay s m args below meth c H locs 0 0 (MQ below (va_Qi Q (fun u t => tB D A ad u t.heap) A) args s 0 0 A) (F0 m 109 ls [.int k0, .int k1, .ref (ad 1 8 0)]) := by
  have hx := F.1.x
  have hb := F.1.b
  unfold wX6_lay_109 at hw
  obtain ⟨hin, hw⟩ := hw
  refine t_ast F hB hS (k := 8) rfl hin dX6_lay_109 (fun H locs hB hS => ?_)
  refine lv_aload_n hx hb dX6_lay_110 rfl (lv_at hl 0 rfl) ?_
  refine tg_9 F hB dX6_lay_111 ?_
  refine lv_iload_n hx hb dX6_lay_114 rfl (lv_at hl 1 rfl) ?_
  refine lv_iload_n hx hb dX6_lay_115 rfl (lv_at hl 2 rfl) ?_
  refine lv_iconst (v := 1) hx hb dX6_lay_116 (by decide) ?_
  refine lv_icmp_ne (tgt := 138) hx hb dX6_lay_117 (by decide) (fun q => ?_) (fun q => ?_)
  · replace hw := hw.2 q
    refine lv_iconst (v := 0) hx hb dX6_lay_138 (by decide) ?_
    exact bX6_lay_139 F hB hS hw hl
  · replace hw := hw.1 q
    refine lv_aload_n hx hb dX6_lay_120 rfl (lv_at hl 0 rfl) ?_
    refine lv_iload_n hx hb dX6_lay_121 rfl (lv_at hl 3 rfl) ?_
    refine lv_iconst (v := 0) hx hb dX6_lay_122 (by decide) ?_
    refine kX6_X6_of F hB hS hw ⟨Nat.le_of_ble_eq_true rfl, Nat.le_of_ble_eq_true rfl⟩ ⟨Nat.zero_le _, Nat.zero_le _⟩ hl.1 (Nat.le_of_ble_eq_true rfl) dX6_lay_123 (fun r1 T2 H locs hw hB hS => ?_)
    refine lv_aload_n hx hb dX6_lay_126 rfl (lv_at hl 0 rfl) ?_
    refine lv_iload_n hx hb dX6_lay_127 rfl (lv_at hl 3 rfl) ?_
    refine lv_iconst (v := 1) hx hb dX6_lay_128 (by decide) ?_
    refine kX6_X6_of F hB hS hw ⟨Nat.le_of_ble_eq_true rfl, Nat.le_of_ble_eq_true rfl⟩ ⟨Nat.zero_le _, Nat.zero_le _⟩ hl.1 (Nat.le_of_ble_eq_true rfl) dX6_lay_129 (fun r3 T4 H locs hw hB hS => ?_)
    refine kX6_X6_worthOf F.1 hw ⟨Nat.le_of_ble_eq_true rfl, Nat.le_of_ble_eq_true rfl⟩ ⟨Nat.zero_le _, Nat.zero_le _⟩ hl.1 (Nat.le_of_ble_eq_true rfl) dX6_lay_132 (fun r5 hw => ?_)
    refine lv_goto (tgt := 139) hx hb dX6_lay_135 (by decide) ?_
    exact bX6_lay_139 F hB hS hw hl
set_option maxHeartbeats 4000000 in
theorem bX6_lay_74 {p : Program} {l : Launch} {e : Env} {s : State} {m : MethodId} {args : Array Value} {below : List Frame} {meth : Method} {c : Code} {D : DD} {A : Nat → Prop} {s0 : State} {ad : AD} {Q : Int32 → TS → Prop} {l1 : Int32} {l2 : Int32} {l3 : Int32} {T : TS} {H : Heap} {locs : List Loc} {ls : Array Slot} (F : FX p l c cX6_lay s args m RX6 D A s0 7 meth (some .int)) (hB : tB D A ad T H) (hS : va_S A s.heap H locs) (hw : wX6_lay_74 l1 l2 l3 T Q) (hl : lv_has ls 7 [(0, .ref (ad 0 0 0)), (1, .int l1), (2, .int l2), (3, .int l3)]) : W p l e rX6_lay s m args below meth c H locs 0 0 (MQ below (va_Qi Q (fun u t => tB D A ad u t.heap) A) args s 0 0 A) (F0 m 74 ls []) := by
  have hx := F.1.x
  have hb := F.1.b
  unfold wX6_lay_74 at hw
  refine lv_aload_n hx hb dX6_lay_74 rfl (lv_at hl 0 rfl) ?_
  refine tg_7 F hB dX6_lay_75 ?_
  refine lv_iload_n hx hb dX6_lay_78 rfl (lv_at hl 1 rfl) ?_
  obtain ⟨hin, hw⟩ := hw
  refine t_ald F hB (k := 7) rfl hin dX6_lay_79 ?_
  refine lv_istore (lv' := [(5, .int (T.2 7 l1.toNatClampNeg)), (0, .ref (ad 0 0 0)), (1, .int l1), (2, .int l2), (3, .int l3)]) hx hb dX6_lay_80 hl (by decide) rfl (fun ls hl => ?_)
  refine lv_aload_n hx hb dX6_lay_82 rfl (lv_at hl 1 rfl) ?_
  refine tg_7 F hB dX6_lay_83 ?_
  refine lv_iload_n hx hb dX6_lay_86 rfl (lv_at hl 2 rfl) ?_
  refine lv_iload_n hx hb dX6_lay_87 rfl (lv_at hl 3 rfl) ?_
  obtain ⟨hin, hw⟩ := hw
  refine t_ast F hB hS (k := 7) rfl hin dX6_lay_88 (fun H locs hB hS => ?_)
  refine lv_aload_n hx hb dX6_lay_89 rfl (lv_at hl 1 rfl) ?_
  refine tg_8 F hB dX6_lay_90 ?_
  refine lv_iload_n hx hb dX6_lay_93 rfl (lv_at hl 2 rfl) ?_
  refine lv_iload_n hx hb dX6_lay_94 rfl (lv_at hl 3 rfl) ?_
  refine lv_iconst (v := 1) hx hb dX6_lay_95 (by decide) ?_
  refine lv_icmp_ne (tgt := 108) hx hb dX6_lay_96 (by decide) (fun q => ?_) (fun q => ?_)
  · replace hw := hw.2 q
    refine lv_iload_n hx hb dX6_lay_108 rfl (lv_at hl 4 rfl) ?_
    exact bX6_lay_109 F hB hS hw (lv_sub hl [1, 2, 3, 4, 0] rfl)
  · replace hw := hw.1 q
    refine lv_aload_n hx hb dX6_lay_99 rfl (lv_at hl 1 rfl) ?_
    refine lv_iload_n hx hb dX6_lay_100 rfl (lv_at hl 4 rfl) ?_
    refine lv_iconst (v := 0) hx hb dX6_lay_101 (by decide) ?_
    refine kX6_X6_of F hB hS hw ⟨Nat.le_of_ble_eq_true rfl, Nat.le_of_ble_eq_true rfl⟩ ⟨Nat.zero_le _, Nat.zero_le _⟩ hl.1 (Nat.le_of_ble_eq_true rfl) dX6_lay_102 (fun r1 T2 H locs hw hB hS => ?_)
    refine lv_goto (tgt := 109) hx hb dX6_lay_105 (by decide) ?_
    exact bX6_lay_109 F hB hS hw (lv_sub hl [1, 2, 3, 4, 0] rfl)
set_option maxHeartbeats 4000000 in
theorem bX6_lay_39 {p : Program} {l : Launch} {e : Env} {s : State} {m : MethodId} {args : Array Value} {below : List Frame} {meth : Method} {c : Code} {D : DD} {A : Nat → Prop} {s0 : State} {ad : AD} {Q : Int32 → TS → Prop} {l1 : Int32} {l2 : Int32} {l3 : Int32} {k0 : Int32} {T : TS} {H : Heap} {locs : List Loc} {ls : Array Slot} (F : FX p l c cX6_lay s args m RX6 D A s0 7 meth (some .int)) (hB : tB D A ad T H) (hS : va_S A s.heap H locs) (hw : wX6_lay_39 l1 l2 l3 k0 T Q) (hl : lv_has ls 7 [(0, .ref (ad 0 0 0)), (1, .int l1), (2, .int l2), (3, .int l3)]) : W p l e rX6_lay s m args below meth c H locs 0 0 (MQ below (va_Qi Q (fun u t => tB D A ad u t.heap) A) args s 0 0 A) (F0 m 39 ls [.int k0]) := by
  have hx := F.1.x
  have hb := F.1.b
  unfold wX6_lay_39 at hw
  refine lv_istore (lv' := [(4, .int k0), (0, .ref (ad 0 0 0)), (1, .int l1), (2, .int l2), (3, .int l3)]) hx hb dX6_lay_39 hl (by decide) rfl (fun ls hl => ?_)
  refine lv_iload_n hx hb dX6_lay_41 rfl (lv_at hl 2 rfl) ?_
  refine kX6_X6_isSlot F.1 hw ⟨Nat.le_of_ble_eq_true rfl, Nat.le_of_ble_eq_true rfl⟩ ⟨Nat.zero_le _, Nat.zero_le _⟩ hl.1 (Nat.le_of_ble_eq_true rfl) dX6_lay_42 (fun r1 hw => ?_)
  refine lv_if_eq (tgt := 53) hx hb dX6_lay_45 (by decide) (fun q => ?_) (fun q => ?_)
  · replace hw := hw.1 q
    refine lv_ldc hx hb F.1.o (F.1.t _ q1326) dX6_lay_53 ?_
    exact W.iret hx hb F.1.r (fun t ht hW => ⟨⟨_, _, rfl, hw, x_B (Bw := tB D A ad) ht hB⟩, hS.F ht⟩) hS.2.2 dX6_lay_55 (hlocks := F.1.k)
  · replace hw := hw.2 q
    refine lv_iload hx hb dX6_lay_48 (lv_at hl 0 rfl) ?_
    refine lv_if_ne (tgt := 56) hx hb dX6_lay_50 (by decide) (fun q => ?_) (fun q => ?_)
    · replace hw := hw.2 q
      refine lv_iload_n hx hb dX6_lay_56 rfl (lv_at hl 3 rfl) ?_
      refine lv_iconst (v := 2) hx hb dX6_lay_57 (by decide) ?_
      refine lv_icmp_ne (tgt := 74) hx hb dX6_lay_58 (by decide) (fun q => ?_) (fun q => ?_)
      · replace hw := hw.2 q
        exact bX6_lay_74 F hB hS hw (lv_sub hl [1, 2, 3, 4] rfl)
      · replace hw := hw.1 q
        refine lv_aload_n hx hb dX6_lay_61 rfl (lv_at hl 1 rfl) ?_
        refine tg_4 F hB dX6_lay_62 ?_
        refine lv_iload_n hx hb dX6_lay_65 rfl (lv_at hl 4 rfl) ?_
        obtain ⟨hin, hw⟩ := hw
        refine t_ald F hB (k := 4) rfl hin dX6_lay_66 ?_
        refine lv_if_ge (tgt := 74) hx hb dX6_lay_67 (by decide) (fun q => ?_) (fun q => ?_)
        · replace hw := hw.1 q
          exact bX6_lay_74 F hB hS hw (lv_sub hl [1, 2, 3, 4] rfl)
        · replace hw := hw.2 q
          refine lv_ldcw hx hb F.1.o (F.1.t _ q1649) dX6_lay_70 ?_
          exact W.iret hx hb F.1.r (fun t ht hW => ⟨⟨_, _, rfl, hw, x_B (Bw := tB D A ad) ht hB⟩, hS.F ht⟩) hS.2.2 dX6_lay_73 (hlocks := F.1.k)
    · replace hw := hw.1 q
      refine lv_ldc hx hb F.1.o (F.1.t _ q1326) dX6_lay_53 ?_
      exact W.iret hx hb F.1.r (fun t ht hW => ⟨⟨_, _, rfl, hw, x_B (Bw := tB D A ad) ht hB⟩, hS.F ht⟩) hS.2.2 dX6_lay_55 (hlocks := F.1.k)
set_option maxHeartbeats 4000000 in
theorem bX6_lay_34 {p : Program} {l : Launch} {e : Env} {s : State} {m : MethodId} {args : Array Value} {below : List Frame} {meth : Method} {c : Code} {D : DD} {A : Nat → Prop} {s0 : State} {ad : AD} {Q : Int32 → TS → Prop} {l1 : Int32} {l2 : Int32} {l3 : Int32} {T : TS} {H : Heap} {locs : List Loc} {ls : Array Slot} (F : FX p l c cX6_lay s args m RX6 D A s0 7 meth (some .int)) (hB : tB D A ad T H) (hS : va_S A s.heap H locs) (hw : wX6_lay_34 l1 l2 l3 T Q) (hl : lv_has ls 7 [(0, .ref (ad 0 0 0)), (1, .int l1), (2, .int l2), (3, .int l3)]) : W p l e rX6_lay s m args below meth c H locs 0 0 (MQ below (va_Qi Q (fun u t => tB D A ad u t.heap) A) args s 0 0 A) (F0 m 34 ls []) := by
  have hx := F.1.x
  have hb := F.1.b
  unfold wX6_lay_34 at hw
  refine lv_iconst (v := 1) hx hb dX6_lay_34 (by decide) ?_
  refine lv_goto (tgt := 39) hx hb dX6_lay_35 (by decide) ?_
  exact bX6_lay_39 F hB hS hw hl
set_option maxHeartbeats 4000000 in
theorem bX6_lay_38 {p : Program} {l : Launch} {e : Env} {s : State} {m : MethodId} {args : Array Value} {below : List Frame} {meth : Method} {c : Code} {D : DD} {A : Nat → Prop} {s0 : State} {ad : AD} {Q : Int32 → TS → Prop} {l1 : Int32} {l2 : Int32} {l3 : Int32} {T : TS} {H : Heap} {locs : List Loc} {ls : Array Slot} (F : FX p l c cX6_lay s args m RX6 D A s0 7 meth (some .int)) (hB : tB D A ad T H) (hS : va_S A s.heap H locs) (hw : wX6_lay_38 l1 l2 l3 T Q) (hl : lv_has ls 7 [(0, .ref (ad 0 0 0)), (1, .int l1), (2, .int l2), (3, .int l3)]) : W p l e rX6_lay s m args below meth c H locs 0 0 (MQ below (va_Qi Q (fun u t => tB D A ad u t.heap) A) args s 0 0 A) (F0 m 38 ls []) := by
  have hx := F.1.x
  have hb := F.1.b
  unfold wX6_lay_38 at hw
  refine lv_iconst (v := 0) hx hb dX6_lay_38 (by decide) ?_
  exact bX6_lay_39 F hB hS hw hl
set_option maxHeartbeats 4000000 in
theorem bX6_lay_22 {p : Program} {l : Launch} {e : Env} {s : State} {m : MethodId} {args : Array Value} {below : List Frame} {meth : Method} {c : Code} {D : DD} {A : Nat → Prop} {s0 : State} {ad : AD} {Q : Int32 → TS → Prop} {l1 : Int32} {l2 : Int32} {l3 : Int32} {T : TS} {H : Heap} {locs : List Loc} {ls : Array Slot} (F : FX p l c cX6_lay s args m RX6 D A s0 7 meth (some .int)) (hB : tB D A ad T H) (hS : va_S A s.heap H locs) (hw : wX6_lay_22 l1 l2 l3 T Q) (hl : lv_has ls 7 [(0, .ref (ad 0 0 0)), (1, .int l1), (2, .int l2), (3, .int l3)]) : W p l e rX6_lay s m args below meth c H locs 0 0 (MQ below (va_Qi Q (fun u t => tB D A ad u t.heap) A) args s 0 0 A) (F0 m 22 ls []) := by
  have hx := F.1.x
  have hb := F.1.b
  unfold wX6_lay_22 at hw
  refine lv_iload_n hx hb dX6_lay_22 rfl (lv_at hl 2 rfl) ?_
  refine lv_iconst (v := 2) hx hb dX6_lay_23 (by decide) ?_
  refine lv_icmp_ne (tgt := 38) hx hb dX6_lay_24 (by decide) (fun q => ?_) (fun q => ?_)
  · replace hw := hw.2 q
    exact bX6_lay_38 F hB hS hw hl
  · replace hw := hw.1 q
    refine lv_iload_n hx hb dX6_lay_27 rfl (lv_at hl 3 rfl) ?_
    refine kX6_X6_isSheet F.1 hw ⟨Nat.le_of_ble_eq_true rfl, Nat.le_of_ble_eq_true rfl⟩ ⟨Nat.zero_le _, Nat.zero_le _⟩ hl.1 (Nat.le_of_ble_eq_true rfl) dX6_lay_28 (fun r1 hw => ?_)
    refine lv_if_eq (tgt := 38) hx hb dX6_lay_31 (by decide) (fun q => ?_) (fun q => ?_)
    · replace hw := hw.1 q
      exact bX6_lay_38 F hB hS hw hl
    · replace hw := hw.2 q
      exact bX6_lay_34 F hB hS hw hl
set_option maxHeartbeats 4000000 in
theorem bX6_lay_0 {p : Program} {l : Launch} {e : Env} {s : State} {m : MethodId} {args : Array Value} {below : List Frame} {meth : Method} {c : Code} {D : DD} {A : Nat → Prop} {s0 : State} {ad : AD} {Q : Int32 → TS → Prop} {a1 : Int32} {a2 : Int32} {a3 : Int32} {T : TS} {H : Heap} {locs : List Loc} {ls : Array Slot} (F : FX p l c cX6_lay s args m RX6 D A s0 7 meth (some .int)) (hB : tB D A ad T H) (hS : va_S A s.heap H locs) (hw : wX6_lay a1 a2 a3 T Q) (hl : lv_has ls 7 [(0, .ref (ad 0 0 0)), (1, .int a1), (2, .int a2), (3, .int a3)]) : W p l e rX6_lay s m args below meth c H locs 0 0 (MQ below (va_Qi Q (fun u t => tB D A ad u t.heap) A) args s 0 0 A) (F0 m 0 ls []) := by
  have hx := F.1.x
  have hb := F.1.b
  unfold wX6_lay at hw
  refine lv_iload_n hx hb dX6_lay_0 rfl (lv_at hl 2 rfl) ?_
  refine lv_if_eq (tgt := 34) hx hb dX6_lay_1 (by decide) (fun q => ?_) (fun q => ?_)
  · replace hw := hw.1 q
    exact bX6_lay_34 F hB hS hw hl
  · replace hw := hw.2 q
    refine lv_iload_n hx hb dX6_lay_4 rfl (lv_at hl 2 rfl) ?_
    refine lv_iconst (v := 3) hx hb dX6_lay_5 (by decide) ?_
    refine lv_icmp_eq (tgt := 34) hx hb dX6_lay_6 (by decide) (fun q => ?_) (fun q => ?_)
    · replace hw := hw.1 q
      exact bX6_lay_34 F hB hS hw hl
    · replace hw := hw.2 q
      refine lv_iload_n hx hb dX6_lay_9 rfl (lv_at hl 2 rfl) ?_
      refine lv_iconst (v := 1) hx hb dX6_lay_10 (by decide) ?_
      refine lv_icmp_ne (tgt := 22) hx hb dX6_lay_11 (by decide) (fun q => ?_) (fun q => ?_)
      · replace hw := hw.2 q
        exact bX6_lay_22 F hB hS hw hl
      · replace hw := hw.1 q
        refine lv_aload_n hx hb dX6_lay_14 rfl (lv_at hl 0 rfl) ?_
        refine lv_iload_n hx hb dX6_lay_15 rfl (lv_at hl 3 rfl) ?_
        refine kX6_X6_isPerson F hB hS hw ⟨Nat.le_of_ble_eq_true rfl, Nat.le_of_ble_eq_true rfl⟩ ⟨Nat.zero_le _, Nat.zero_le _⟩ hl.1 (Nat.le_of_ble_eq_true rfl) dX6_lay_16 (fun r1 T2 H locs hw hB hS => ?_)
        refine lv_if_ne (tgt := 34) hx hb dX6_lay_19 (by decide) (fun q => ?_) (fun q => ?_)
        · replace hw := hw.2 q
          exact bX6_lay_34 F hB hS hw hl
        · replace hw := hw.1 q
          exact bX6_lay_22 F hB hS hw hl
set_option maxHeartbeats 4000000 in
theorem mX6_lay {l : Launch} {D : DD} {A : Nat → Prop} {s0 : State} {ad : AD} {T : TS} {a1 : Int32} {a2 : Int32} {a3 : Int32} {Q : Int32 → TS → Prop} (hw : wX6_lay a1 a2 a3 T Q) : Met l yX6_lay (ws_ yX6_lay cX6_lay 7 (some .int)) rX6_lay (va_Pc [.ref (ad 0 0 0), .int a1, .int a2, .int a3] (fun U => tB D A ad T U.heap ∧ CX l D A s0 U)) (va_Qi Q (fun u t => tB D A ad u t.heap) A) 0 0 A := by
  refine Met.ofW (cc := cX6_lay) (maxL := 7) (ret := some .int) (by decide) rfl ?_
  intro p e s m args below meth c s₁ B hml hv
  obtain ⟨rfl, hB, hC⟩ := hv
  have F : FX p l c cX6_lay s _ m RX6 D A s0 7 meth (some .int) := ⟨mk_FP B hml rfl, hC⟩
  have hS : va_S A s.heap s.heap [] := va_S.rf
  have hl := lv_entry ([.ref (ad 0 0 0), .int a1, .int a2, .int a3]) (n := 7) (Nat.le_of_ble_eq_true rfl)
  rw [lg_entry_eq]
  generalize (lg_sl ([.ref (ad 0 0 0), .int a1, .int a2, .int a3]) ++ List.replicate (7 - (lg_sl ([.ref (ad 0 0 0), .int a1, .int a2, .int a3])).length) Slot.unset).toArray = ls at hl ⊢
  exact bX6_lay_0 F hB hS hw hl
def rX6_mark : Room := { frames := 2, cells := 0, slots := 0, locals := 45 }
set_option maxHeartbeats 4000000 in
theorem bX6_mark_126 {p : Program} {l : Launch} {e : Env} {s : State} {m : MethodId} {args : Array Value} {below : List Frame} {meth : Method} {c : Code} {D : DD} {A : Nat → Prop} {s0 : State} {ad : AD} {Q : Int32 → TS → Prop} {k0 : Int32} {k1 : Int32} {T : TS} {H : Heap} {locs : List Loc} {ls : Array Slot} (F : FX p l c cX6_mark s args m RX6 D A s0 4 meth (some .int)) (hB : tB D A ad T H) (hS : va_S A s.heap H locs) (hw : wX6_mark_126 k0 k1 T Q) (hl : lv_has ls 4 []) : W p l e rX6_mark s m args below meth c H locs 0 0 (MQ below (va_Qi Q (fun u t => tB D A ad u t.heap) A) args s 0 0 A) (F0 m 126 ls [.int k0, .int k1, .ref (ad 1 6 0)]) := by
  have hx := F.1.x
  have hb := F.1.b
  unfold wX6_mark_126 at hw
  obtain ⟨hin, hw⟩ := hw
  refine t_ast F hB hS (k := 6) rfl hin dX6_mark_126 (fun H locs hB hS => ?_)
  refine lv_iconst (v := 1) hx hb dX6_mark_127 (by decide) ?_
  exact W.iret hx hb F.1.r (fun t ht hW => ⟨⟨_, _, rfl, hw, x_B (Bw := tB D A ad) ht hB⟩, hS.F ht⟩) hS.2.2 dX6_mark_128 (hlocks := F.1.k)
set_option maxHeartbeats 4000000 in
theorem bX6_mark_96 {p : Program} {l : Launch} {e : Env} {s : State} {m : MethodId} {args : Array Value} {below : List Frame} {meth : Method} {c : Code} {D : DD} {A : Nat → Prop} {s0 : State} {ad : AD} {Q : Int32 → TS → Prop} {l1 : Int32} {l2 : Int32} {l3 : Int32} {T : TS} {H : Heap} {locs : List Loc} {ls : Array Slot} (F : FX p l c cX6_mark s args m RX6 D A s0 4 meth (some .int)) (hB : tB D A ad T H) (hS : va_S A s.heap H locs) (hw : wX6_mark_96 l1 l2 l3 T Q) (hl : lv_has ls 4 [(0, .ref (ad 0 0 0)), (1, .int l1), (2, .int l2), (3, .int l3)]) : W p l e rX6_mark s m args below meth c H locs 0 0 (MQ below (va_Qi Q (fun u t => tB D A ad u t.heap) A) args s 0 0 A) (F0 m 96 ls []) := by
  have hx := F.1.x
  have hb := F.1.b
  unfold wX6_mark_96 at hw
  refine lv_aload_n hx hb dX6_mark_96 rfl (lv_at hl 0 rfl) ?_
  refine tg_6 F hB dX6_mark_97 ?_
  refine lv_bipush (v := 24) hx hb dX6_mark_100 (by decide) ?_
  refine lv_iload_n hx hb dX6_mark_102 rfl (lv_at hl 1 rfl) ?_
  refine lv_imul hx hb dX6_mark_103 ?_
  refine lv_iload_n hx hb dX6_mark_104 rfl (lv_at hl 2 rfl) ?_
  refine lv_iadd hx hb dX6_mark_105 ?_
  refine lv_aload_n hx hb dX6_mark_106 rfl (lv_at hl 0 rfl) ?_
  refine tg_4 F hB dX6_mark_107 ?_
  refine lv_iload_n hx hb dX6_mark_110 rfl (lv_at hl 1 rfl) ?_
  obtain ⟨hin, hw⟩ := hw
  refine t_ald F hB (k := 4) rfl hin dX6_mark_111 ?_
  refine lv_if_ne (tgt := 125) hx hb dX6_mark_112 (by decide) (fun q => ?_) (fun q => ?_)
  · replace hw := hw.2 q
    refine lv_iload_n hx hb dX6_mark_125 rfl (lv_at hl 3 rfl) ?_
    exact bX6_mark_126 F hB hS hw (lv_sub hl [] rfl)
  · replace hw := hw.1 q
    refine lv_iload_n hx hb dX6_mark_115 rfl (lv_at hl 3 rfl) ?_
    refine lv_bipush (v := 16) hx hb dX6_mark_116 (by decide) ?_
    refine lv_ishl hx hb dX6_mark_118 ?_
    refine lv_bipush (v := 16) hx hb dX6_mark_119 (by decide) ?_
    refine lv_ishr hx hb dX6_mark_121 ?_
    refine lv_goto (tgt := 126) hx hb dX6_mark_122 (by decide) ?_
    exact bX6_mark_126 F hB hS hw (lv_sub hl [] rfl)
set_option maxHeartbeats 4000000 in
theorem bX6_mark_63 {p : Program} {l : Launch} {e : Env} {s : State} {m : MethodId} {args : Array Value} {below : List Frame} {meth : Method} {c : Code} {D : DD} {A : Nat → Prop} {s0 : State} {ad : AD} {Q : Int32 → TS → Prop} {l1 : Int32} {l2 : Int32} {l3 : Int32} {T : TS} {H : Heap} {locs : List Loc} {ls : Array Slot} (F : FX p l c cX6_mark s args m RX6 D A s0 4 meth (some .int)) (hB : tB D A ad T H) (hS : va_S A s.heap H locs) (hw : wX6_mark_63 l1 l2 l3 T Q) (hl : lv_has ls 4 [(0, .ref (ad 0 0 0)), (1, .int l1), (2, .int l2), (3, .int l3)]) : W p l e rX6_mark s m args below meth c H locs 0 0 (MQ below (va_Qi Q (fun u t => tB D A ad u t.heap) A) args s 0 0 A) (F0 m 63 ls []) := by
  have hx := F.1.x
  have hb := F.1.b
  unfold wX6_mark_63 at hw
  refine lv_aload_n hx hb dX6_mark_63 rfl (lv_at hl 0 rfl) ?_
  refine tg_4 F hB dX6_mark_64 ?_
  refine lv_iload_n hx hb dX6_mark_67 rfl (lv_at hl 1 rfl) ?_
  obtain ⟨hin, hw⟩ := hw
  refine t_ald F hB (k := 4) rfl hin dX6_mark_68 ?_
  refine lv_iconst (v := 1) hx hb dX6_mark_69 (by decide) ?_
  refine lv_icmp_ne (tgt := 96) hx hb dX6_mark_70 (by decide) (fun q => ?_) (fun q => ?_)
  · replace hw := hw.2 q
    exact bX6_mark_96 F hB hS hw hl
  · replace hw := hw.1 q
    refine lv_iload_n hx hb dX6_mark_73 rfl (lv_at hl 3 rfl) ?_
    refine lv_ldc hx hb F.1.o (F.1.t _ q1504) dX6_mark_74 ?_
    refine lv_icmp_eq (tgt := 96) hx hb dX6_mark_76 (by decide) (fun q => ?_) (fun q => ?_)
    · replace hw := hw.1 q
      exact bX6_mark_96 F hB hS hw hl
    · replace hw := hw.2 q
      refine lv_iload_n hx hb dX6_mark_79 rfl (lv_at hl 3 rfl) ?_
      refine lv_i2l hx hb dX6_mark_80 rfl ?_
      refine lv_ldc2 hx hb F.1.o (F.1.t _ q1651) dX6_mark_81 ?_
      refine lv_ldc2 hx hb F.1.o (F.1.t _ q1652) dX6_mark_84 ?_
      refine kX6_X6_isIn F.1 hw ⟨Nat.le_of_ble_eq_true rfl, Nat.le_of_ble_eq_true rfl⟩ ⟨Nat.zero_le _, Nat.zero_le _⟩ hl.1 (Nat.le_of_ble_eq_true rfl) dX6_mark_87 (fun r1 hw => ?_)
      refine lv_if_ne (tgt := 96) hx hb dX6_mark_90 (by decide) (fun q => ?_) (fun q => ?_)
      · replace hw := hw.2 q
        exact bX6_mark_96 F hB hS hw hl
      · replace hw := hw.1 q
        refine lv_ldc hx hb F.1.o (F.1.t _ q1326) dX6_mark_93 ?_
        exact W.iret hx hb F.1.r (fun t ht hW => ⟨⟨_, _, rfl, hw, x_B (Bw := tB D A ad) ht hB⟩, hS.F ht⟩) hS.2.2 dX6_mark_95 (hlocks := F.1.k)
set_option maxHeartbeats 4000000 in
theorem bX6_mark_0 {p : Program} {l : Launch} {e : Env} {s : State} {m : MethodId} {args : Array Value} {below : List Frame} {meth : Method} {c : Code} {D : DD} {A : Nat → Prop} {s0 : State} {ad : AD} {Q : Int32 → TS → Prop} {a1 : Int32} {a2 : Int32} {a3 : Int32} {T : TS} {H : Heap} {locs : List Loc} {ls : Array Slot} (F : FX p l c cX6_mark s args m RX6 D A s0 4 meth (some .int)) (hB : tB D A ad T H) (hS : va_S A s.heap H locs) (hw : wX6_mark a1 a2 a3 T Q) (hl : lv_has ls 4 [(0, .ref (ad 0 0 0)), (1, .int a1), (2, .int a2), (3, .int a3)]) : W p l e rX6_mark s m args below meth c H locs 0 0 (MQ below (va_Qi Q (fun u t => tB D A ad u t.heap) A) args s 0 0 A) (F0 m 0 ls []) := by
  have hx := F.1.x
  have hb := F.1.b
  unfold wX6_mark at hw
  refine lv_iload_n hx hb dX6_mark_0 rfl (lv_at hl 1 rfl) ?_
  refine kX6_X6_isSheet F.1 hw ⟨Nat.le_of_ble_eq_true rfl, Nat.le_of_ble_eq_true rfl⟩ ⟨Nat.zero_le _, Nat.zero_le _⟩ hl.1 (Nat.le_of_ble_eq_true rfl) dX6_mark_1 (fun r1 hw => ?_)
  refine lv_if_ne (tgt := 10) hx hb dX6_mark_4 (by decide) (fun q => ?_) (fun q => ?_)
  · replace hw := hw.2 q
    refine lv_aload_n hx hb dX6_mark_10 rfl (lv_at hl 0 rfl) ?_
    refine tg_4 F hB dX6_mark_11 ?_
    refine lv_iload_n hx hb dX6_mark_14 rfl (lv_at hl 1 rfl) ?_
    obtain ⟨hin, hw⟩ := hw
    refine t_ald F hB (k := 4) rfl hin dX6_mark_15 ?_
    refine lv_if_ge (tgt := 23) hx hb dX6_mark_16 (by decide) (fun q => ?_) (fun q => ?_)
    · replace hw := hw.1 q
      refine lv_iload_n hx hb dX6_mark_23 rfl (lv_at hl 2 rfl) ?_
      refine lv_i2l hx hb dX6_mark_24 rfl ?_
      refine lv_lconst (v := 0) hx hb dX6_mark_25 (by decide) ?_
      refine lv_aload_n hx hb dX6_mark_26 rfl (lv_at hl 0 rfl) ?_
      refine tg_5 F hB dX6_mark_27 ?_
      refine lv_iload_n hx hb dX6_mark_30 rfl (lv_at hl 1 rfl) ?_
      obtain ⟨hin, hw⟩ := hw
      refine t_ald F hB (k := 5) rfl hin dX6_mark_31 ?_
      refine lv_iconst (v := 1) hx hb dX6_mark_32 (by decide) ?_
      refine lv_isub hx hb dX6_mark_33 ?_
      refine lv_i2l hx hb dX6_mark_34 rfl ?_
      refine kX6_X6_isIn F.1 hw ⟨Nat.le_of_ble_eq_true rfl, Nat.le_of_ble_eq_true rfl⟩ ⟨Nat.zero_le _, Nat.zero_le _⟩ hl.1 (Nat.le_of_ble_eq_true rfl) dX6_mark_35 (fun r2 hw => ?_)
      refine lv_if_ne (tgt := 45) hx hb dX6_mark_38 (by decide) (fun q => ?_) (fun q => ?_)
      · replace hw := hw.2 q
        refine lv_aload_n hx hb dX6_mark_45 rfl (lv_at hl 0 rfl) ?_
        refine tg_4 F hB dX6_mark_46 ?_
        refine lv_iload_n hx hb dX6_mark_49 rfl (lv_at hl 1 rfl) ?_
        obtain ⟨hin, hw⟩ := hw
        refine t_ald F hB (k := 4) rfl hin dX6_mark_50 ?_
        refine lv_if_ne (tgt := 63) hx hb dX6_mark_51 (by decide) (fun q => ?_) (fun q => ?_)
        · replace hw := hw.2 q
          exact bX6_mark_63 F hB hS hw hl
        · replace hw := hw.1 q
          refine lv_iload_n hx hb dX6_mark_54 rfl (lv_at hl 3 rfl) ?_
          refine lv_ldc hx hb F.1.o (F.1.t _ q1504) dX6_mark_55 ?_
          refine lv_icmp_ne (tgt := 63) hx hb dX6_mark_57 (by decide) (fun q => ?_) (fun q => ?_)
          · replace hw := hw.2 q
            exact bX6_mark_63 F hB hS hw hl
          · replace hw := hw.1 q
            refine lv_ldc hx hb F.1.o (F.1.t _ q1366) dX6_mark_60 ?_
            exact W.iret hx hb F.1.r (fun t ht hW => ⟨⟨_, _, rfl, hw, x_B (Bw := tB D A ad) ht hB⟩, hS.F ht⟩) hS.2.2 dX6_mark_62 (hlocks := F.1.k)
      · replace hw := hw.1 q
        refine lv_ldcw hx hb F.1.o (F.1.t _ q1650) dX6_mark_41 ?_
        exact W.iret hx hb F.1.r (fun t ht hW => ⟨⟨_, _, rfl, hw, x_B (Bw := tB D A ad) ht hB⟩, hS.F ht⟩) hS.2.2 dX6_mark_44 (hlocks := F.1.k)
    · replace hw := hw.2 q
      refine lv_ldcw hx hb F.1.o (F.1.t _ q1649) dX6_mark_19 ?_
      exact W.iret hx hb F.1.r (fun t ht hW => ⟨⟨_, _, rfl, hw, x_B (Bw := tB D A ad) ht hB⟩, hS.F ht⟩) hS.2.2 dX6_mark_22 (hlocks := F.1.k)
  · replace hw := hw.1 q
    refine lv_ldc hx hb F.1.o (F.1.t _ q1326) dX6_mark_7 ?_
    exact W.iret hx hb F.1.r (fun t ht hW => ⟨⟨_, _, rfl, hw, x_B (Bw := tB D A ad) ht hB⟩, hS.F ht⟩) hS.2.2 dX6_mark_9 (hlocks := F.1.k)
set_option maxHeartbeats 4000000 in
theorem mX6_mark {l : Launch} {D : DD} {A : Nat → Prop} {s0 : State} {ad : AD} {T : TS} {a1 : Int32} {a2 : Int32} {a3 : Int32} {Q : Int32 → TS → Prop} (hw : wX6_mark a1 a2 a3 T Q) : Met l yX6_mark (ws_ yX6_mark cX6_mark 4 (some .int)) rX6_mark (va_Pc [.ref (ad 0 0 0), .int a1, .int a2, .int a3] (fun U => tB D A ad T U.heap ∧ CX l D A s0 U)) (va_Qi Q (fun u t => tB D A ad u t.heap) A) 0 0 A := by
  refine Met.ofW (cc := cX6_mark) (maxL := 4) (ret := some .int) (by decide) rfl ?_
  intro p e s m args below meth c s₁ B hml hv
  obtain ⟨rfl, hB, hC⟩ := hv
  have F : FX p l c cX6_mark s _ m RX6 D A s0 4 meth (some .int) := ⟨mk_FP B hml rfl, hC⟩
  have hS : va_S A s.heap s.heap [] := va_S.rf
  have hl := lv_entry ([.ref (ad 0 0 0), .int a1, .int a2, .int a3]) (n := 4) (Nat.le_of_ble_eq_true rfl)
  rw [lg_entry_eq]
  generalize (lg_sl ([.ref (ad 0 0 0), .int a1, .int a2, .int a3]) ++ List.replicate (4 - (lg_sl ([.ref (ad 0 0 0), .int a1, .int a2, .int a3])).length) Slot.unset).toArray = ls at hl ⊢
  exact bX6_mark_0 F hB hS hw hl
def rX6_meant : Room := { frames := 2, cells := 0, slots := 0, locals := 46 }
set_option maxHeartbeats 4000000 in
theorem bX6_meant_0 {p : Program} {l : Launch} {e : Env} {s : State} {m : MethodId} {args : Array Value} {below : List Frame} {meth : Method} {c : Code} {D : DD} {A : Nat → Prop} {s0 : State} {ad : AD} {Q : Int32 → TS → Prop} {a1 : Int32} {T : TS} {H : Heap} {locs : List Loc} {ls : Array Slot} (F : FX p l c cX6_meant s args m RX6 D A s0 3 meth (some .int)) (hB : tB D A ad T H) (hS : va_S A s.heap H locs) (hw : wX6_meant a1 T Q) (hl : lv_has ls 3 [(0, .ref (ad 0 0 0)), (1, .int a1)]) : W p l e rX6_meant s m args below meth c H locs 0 0 (MQ below (va_Qi Q (fun u t => tB D A ad u t.heap) A) args s 0 0 A) (F0 m 0 ls []) := by
  have hx := F.1.x
  have hb := F.1.b
  unfold wX6_meant at hw
  refine lv_aload_n hx hb dX6_meant_0 rfl (lv_at hl 0 rfl) ?_
  refine lv_iload_n hx hb dX6_meant_1 rfl (lv_at hl 1 rfl) ?_
  refine kX6_X6_isDeed F hB hS hw ⟨Nat.le_of_ble_eq_true rfl, Nat.le_of_ble_eq_true rfl⟩ ⟨Nat.zero_le _, Nat.zero_le _⟩ hl.1 (Nat.le_of_ble_eq_true rfl) dX6_meant_2 (fun r1 T2 H locs hw hB hS => ?_)
  refine lv_if_ne (tgt := 11) hx hb dX6_meant_5 (by decide) (fun q => ?_) (fun q => ?_)
  · replace hw := hw.2 q
    refine lv_aload_n hx hb dX6_meant_11 rfl (lv_at hl 0 rfl) ?_
    refine lv_iload_n hx hb dX6_meant_12 rfl (lv_at hl 1 rfl) ?_
    refine lv_iconst (v := 3) hx hb dX6_meant_13 (by decide) ?_
    refine kX6_X6_dee F hB hS hw ⟨Nat.le_of_ble_eq_true rfl, Nat.le_of_ble_eq_true rfl⟩ ⟨Nat.zero_le _, Nat.zero_le _⟩ hl.1 (Nat.le_of_ble_eq_true rfl) dX6_meant_14 (fun r3 T4 H locs hw hB hS => ?_)
    refine kX6_X6_greatest F.1 hw ⟨Nat.le_of_ble_eq_true rfl, Nat.le_of_ble_eq_true rfl⟩ ⟨Nat.zero_le _, Nat.zero_le _⟩ hl.1 (Nat.le_of_ble_eq_true rfl) dX6_meant_17 (fun r5 hw => ?_)
    refine lv_istore_n (lv' := [(2, .int r5), (0, .ref (ad 0 0 0)), (1, .int a1)]) hx hb dX6_meant_20 rfl hl (by decide) rfl (fun ls hl => ?_)
    refine lv_iload_n hx hb dX6_meant_21 rfl (lv_at hl 0 rfl) ?_
    refine lv_if_ge (tgt := 29) hx hb dX6_meant_22 (by decide) (fun q => ?_) (fun q => ?_)
    · replace hw := hw.1 q
      refine lv_aload_n hx hb dX6_meant_29 rfl (lv_at hl 1 rfl) ?_
      refine lv_iload_n hx hb dX6_meant_30 rfl (lv_at hl 2 rfl) ?_
      refine kX6_X6_left F hB hS hw ⟨Nat.le_of_ble_eq_true rfl, Nat.le_of_ble_eq_true rfl⟩ ⟨Nat.zero_le _, Nat.zero_le _⟩ hl.1 (Nat.le_of_ble_eq_true rfl) dX6_meant_31 (fun r6 T7 H locs hw hB hS => ?_)
      refine lv_iconst (v := 1) hx hb dX6_meant_34 (by decide) ?_
      refine lv_iload_n hx hb dX6_meant_35 rfl (lv_at hl 0 rfl) ?_
      refine lv_ishl hx hb dX6_meant_36 ?_
      refine lv_iconst (v := 1) hx hb dX6_meant_37 (by decide) ?_
      refine lv_isub hx hb dX6_meant_38 ?_
      refine lv_iand hx hb dX6_meant_39 ?_
      exact W.iret hx hb F.1.r (fun t ht hW => ⟨⟨_, _, rfl, hw, x_B (Bw := tB D A ad) ht hB⟩, hS.F ht⟩) hS.2.2 dX6_meant_40 (hlocks := F.1.k)
    · replace hw := hw.2 q
      refine lv_iconst (v := 0) hx hb dX6_meant_25 (by decide) ?_
      refine lv_goto (tgt := 40) hx hb dX6_meant_26 (by decide) ?_
      exact W.iret hx hb F.1.r (fun t ht hW => ⟨⟨_, _, rfl, hw, x_B (Bw := tB D A ad) ht hB⟩, hS.F ht⟩) hS.2.2 dX6_meant_40 (hlocks := F.1.k)
  · replace hw := hw.1 q
    refine lv_ldc hx hb F.1.o (F.1.t _ q1326) dX6_meant_8 ?_
    exact W.iret hx hb F.1.r (fun t ht hW => ⟨⟨_, _, rfl, hw, x_B (Bw := tB D A ad) ht hB⟩, hS.F ht⟩) hS.2.2 dX6_meant_10 (hlocks := F.1.k)
set_option maxHeartbeats 4000000 in
theorem mX6_meant {l : Launch} {D : DD} {A : Nat → Prop} {s0 : State} {ad : AD} {T : TS} {a1 : Int32} {Q : Int32 → TS → Prop} (hw : wX6_meant a1 T Q) : Met l yX6_meant (ws_ yX6_meant cX6_meant 3 (some .int)) rX6_meant (va_Pc [.ref (ad 0 0 0), .int a1] (fun U => tB D A ad T U.heap ∧ CX l D A s0 U)) (va_Qi Q (fun u t => tB D A ad u t.heap) A) 0 0 A := by
  refine Met.ofW (cc := cX6_meant) (maxL := 3) (ret := some .int) (by decide) rfl ?_
  intro p e s m args below meth c s₁ B hml hv
  obtain ⟨rfl, hB, hC⟩ := hv
  have F : FX p l c cX6_meant s _ m RX6 D A s0 3 meth (some .int) := ⟨mk_FP B hml rfl, hC⟩
  have hS : va_S A s.heap s.heap [] := va_S.rf
  have hl := lv_entry ([.ref (ad 0 0 0), .int a1]) (n := 3) (Nat.le_of_ble_eq_true rfl)
  rw [lg_entry_eq]
  generalize (lg_sl ([.ref (ad 0 0 0), .int a1]) ++ List.replicate (3 - (lg_sl ([.ref (ad 0 0 0), .int a1])).length) Slot.unset).toArray = ls at hl ⊢
  exact bX6_meant_0 F hB hS hw hl
def rX6_most : Room := { frames := 3, cells := 0, slots := 0, locals := 66 }
set_option maxHeartbeats 4000000 in
theorem bX6_most_36 {p : Program} {l : Launch} {e : Env} {s : State} {m : MethodId} {args : Array Value} {below : List Frame} {meth : Method} {c : Code} {D : DD} {A : Nat → Prop} {s0 : State} {ad : AD} {Q : Int32 → TS → Prop} {k_4 : Int32 → Int32 → TS → Prop} {l2 : Int32} {k0 : Int32} {T : TS} {H : Heap} {locs : List Loc} {ls : Array Slot} (F : FX p l c cX6_most s args m RX6 D A s0 3 meth (some .int)) (h_4 : ∀ (l1 : Int32) (l2 : Int32) (T : TS), k_4 l1 l2 T → ∀ (H : Heap) (locs : List Loc) (ls : Array Slot), tB D A ad T H → va_S A s.heap H locs → lv_has ls 3 [(0, .ref (ad 0 0 0)), (1, .int l1), (2, .int l2)] → W p l e rX6_most s m args below meth c H locs 0 0 (MQ below (va_Qi Q (fun u t => tB D A ad u t.heap) A) args s 0 0 A) (F0 m 4 ls [])) (hB : tB D A ad T H) (hS : va_S A s.heap H locs) (hw : wX6_most_36 k_4 l2 k0 T Q) (hl : lv_has ls 3 [(0, .ref (ad 0 0 0)), (2, .int l2)]) : W p l e rX6_most s m args below meth c H locs 0 0 (MQ below (va_Qi Q (fun u t => tB D A ad u t.heap) A) args s 0 0 A) (F0 m 36 ls [.int k0]) := by
  have hx := F.1.x
  have hb := F.1.b
  unfold wX6_most_36 at hw
  refine lv_istore_n (lv' := [(1, .int k0), (0, .ref (ad 0 0 0)), (2, .int l2)]) hx hb dX6_most_36 rfl hl (by decide) rfl (fun ls hl => ?_)
  refine lv_iinc (v := l2 + (1 : Int32)) (lv' := [(2, .int (l2 + (1 : Int32))), (1, .int k0), (0, .ref (ad 0 0 0))]) hx hb dX6_most_37 hl (k := 2) rfl (x_inc (by decide)) (by decide) rfl (fun ls hl => ?_)
  refine lv_goto (tgt := 4) hx hb dX6_most_40 (by decide) ?_
  exact h_4 _ _ _ hw _ _ _ hB hS (lv_sub hl [2, 1, 0] rfl)
set_option maxHeartbeats 4000000 in
theorem bX6_most_31 {p : Program} {l : Launch} {e : Env} {s : State} {m : MethodId} {args : Array Value} {below : List Frame} {meth : Method} {c : Code} {D : DD} {A : Nat → Prop} {s0 : State} {ad : AD} {Q : Int32 → TS → Prop} {k_4 : Int32 → Int32 → TS → Prop} {l2 : Int32} {T : TS} {H : Heap} {locs : List Loc} {ls : Array Slot} (F : FX p l c cX6_most s args m RX6 D A s0 3 meth (some .int)) (h_4 : ∀ (l1 : Int32) (l2 : Int32) (T : TS), k_4 l1 l2 T → ∀ (H : Heap) (locs : List Loc) (ls : Array Slot), tB D A ad T H → va_S A s.heap H locs → lv_has ls 3 [(0, .ref (ad 0 0 0)), (1, .int l1), (2, .int l2)] → W p l e rX6_most s m args below meth c H locs 0 0 (MQ below (va_Qi Q (fun u t => tB D A ad u t.heap) A) args s 0 0 A) (F0 m 4 ls [])) (hB : tB D A ad T H) (hS : va_S A s.heap H locs) (hw : wX6_most_31 k_4 l2 T Q) (hl : lv_has ls 3 [(0, .ref (ad 0 0 0)), (2, .int l2)]) : W p l e rX6_most s m args below meth c H locs 0 0 (MQ below (va_Qi Q (fun u t => tB D A ad u t.heap) A) args s 0 0 A) (F0 m 31 ls []) := by
  have hx := F.1.x
  have hb := F.1.b
  unfold wX6_most_31 at hw
  refine lv_iload_n hx hb dX6_most_31 rfl (lv_at hl 1 rfl) ?_
  refine lv_goto (tgt := 36) hx hb dX6_most_32 (by decide) ?_
  exact bX6_most_36 F h_4 hB hS hw hl
set_option maxHeartbeats 4000000 in
theorem bX6_most_4 {p : Program} {l : Launch} {e : Env} {s : State} {m : MethodId} {args : Array Value} {below : List Frame} {meth : Method} {c : Code} {D : DD} {A : Nat → Prop} {s0 : State} {ad : AD} {Q : Int32 → TS → Prop} (F : FX p l c cX6_most s args m RX6 D A s0 3 meth (some .int)) : ∀ (n : Nat) (l1 : Int32) (l2 : Int32) (T : TS), wX6_most_4 Q n l1 l2 T → ∀ (H : Heap) (locs : List Loc) (ls : Array Slot), tB D A ad T H → va_S A s.heap H locs → lv_has ls 3 [(0, .ref (ad 0 0 0)), (1, .int l1), (2, .int l2)] → W p l e rX6_most s m args below meth c H locs 0 0 (MQ below (va_Qi Q (fun u t => tB D A ad u t.heap) A) args s 0 0 A) (F0 m 4 ls []) := by
  have hx := F.1.x
  have hb := F.1.b
  intro n
  induction n with
  | zero => intro l1 l2 T hw; exact hw.elim
  | succ n ih =>
    intro l1 l2 T hw H locs ls hB hS hl
    unfold wX6_most_4 at hw
    refine lv_iload_n hx hb dX6_most_4 rfl (lv_at hl 2 rfl) ?_
    refine lv_aload_n hx hb dX6_most_5 rfl (lv_at hl 0 rfl) ?_
    refine tg_0 F hB dX6_most_6 ?_
    refine lv_iconst (v := 0) hx hb dX6_most_9 (by decide) ?_
    obtain ⟨hin, hw⟩ := hw
    refine t_ald F hB (k := 0) rfl hin dX6_most_10 ?_
    refine lv_icmp_ge (tgt := 43) hx hb dX6_most_11 (by decide) (fun q => ?_) (fun q => ?_)
    · replace hw := hw.1 q
      refine lv_iload_n hx hb dX6_most_43 rfl (lv_at hl 1 rfl) ?_
      refine kX6_X6_orNone F.1 hw ⟨Nat.le_of_ble_eq_true rfl, Nat.le_of_ble_eq_true rfl⟩ ⟨Nat.zero_le _, Nat.zero_le _⟩ hl.1 (Nat.le_of_ble_eq_true rfl) dX6_most_44 (fun r1 hw => ?_)
      exact W.iret hx hb F.1.r (fun t ht hW => ⟨⟨_, _, rfl, hw, x_B (Bw := tB D A ad) ht hB⟩, hS.F ht⟩) hS.2.2 dX6_most_47 (hlocks := F.1.k)
    · replace hw := hw.2 q
      refine lv_iload_n hx hb dX6_most_14 rfl (lv_at hl 1 rfl) ?_
      refine lv_if_lt (tgt := 31) hx hb dX6_most_15 (by decide) (fun q => ?_) (fun q => ?_)
      · replace hw := hw.1 q
        exact bX6_most_31 F ih hB hS hw (lv_sub hl [0, 2] rfl)
      · replace hw := hw.2 q
        refine lv_aload_n hx hb dX6_most_18 rfl (lv_at hl 0 rfl) ?_
        refine lv_iload_n hx hb dX6_most_19 rfl (lv_at hl 2 rfl) ?_
        refine kX6_X6_fallsOn F hB hS hw ⟨Nat.le_of_ble_eq_true rfl, Nat.le_of_ble_eq_true rfl⟩ ⟨Nat.zero_le _, Nat.zero_le _⟩ hl.1 (Nat.le_of_ble_eq_true rfl) dX6_most_20 (fun r2 T3 H locs hw hB hS => ?_)
        refine lv_aload_n hx hb dX6_most_23 rfl (lv_at hl 0 rfl) ?_
        refine lv_iload_n hx hb dX6_most_24 rfl (lv_at hl 1 rfl) ?_
        refine kX6_X6_fallsOn F hB hS hw ⟨Nat.le_of_ble_eq_true rfl, Nat.le_of_ble_eq_true rfl⟩ ⟨Nat.zero_le _, Nat.zero_le _⟩ hl.1 (Nat.le_of_ble_eq_true rfl) dX6_most_25 (fun r4 T5 H locs hw hB hS => ?_)
        refine lv_icmp_le (tgt := 35) hx hb dX6_most_28 (by decide) (fun q => ?_) (fun q => ?_)
        · replace hw := hw.1 q
          refine lv_iload_n hx hb dX6_most_35 rfl (lv_at hl 1 rfl) ?_
          exact bX6_most_36 F ih hB hS hw (lv_sub hl [0, 2] rfl)
        · replace hw := hw.2 q
          exact bX6_most_31 F ih hB hS hw (lv_sub hl [0, 2] rfl)
set_option maxHeartbeats 4000000 in
theorem bX6_most_0 {p : Program} {l : Launch} {e : Env} {s : State} {m : MethodId} {args : Array Value} {below : List Frame} {meth : Method} {c : Code} {D : DD} {A : Nat → Prop} {s0 : State} {ad : AD} {Q : Int32 → TS → Prop} {T : TS} {H : Heap} {locs : List Loc} {ls : Array Slot} (F : FX p l c cX6_most s args m RX6 D A s0 3 meth (some .int)) (hB : tB D A ad T H) (hS : va_S A s.heap H locs) (hw : wX6_most T Q) (hl : lv_has ls 3 [(0, .ref (ad 0 0 0))]) : W p l e rX6_most s m args below meth c H locs 0 0 (MQ below (va_Qi Q (fun u t => tB D A ad u t.heap) A) args s 0 0 A) (F0 m 0 ls []) := by
  have hx := F.1.x
  have hb := F.1.b
  unfold wX6_most at hw
  refine lv_iconst (v := -1) hx hb dX6_most_0 (by decide) ?_
  refine lv_istore_n (lv' := [(1, .int (-1 : Int32)), (0, .ref (ad 0 0 0))]) hx hb dX6_most_1 rfl hl (by decide) rfl (fun ls hl => ?_)
  refine lv_iconst (v := 0) hx hb dX6_most_2 (by decide) ?_
  refine lv_istore_n (lv' := [(2, .int (0 : Int32)), (1, .int (-1 : Int32)), (0, .ref (ad 0 0 0))]) hx hb dX6_most_3 rfl hl (by decide) rfl (fun ls hl => ?_)
  obtain ⟨f_4, hw⟩ := hw
  exact bX6_most_4 F f_4 _ _ _ hw _ _ _ hB hS (lv_sub hl [2, 1, 0] rfl)
set_option maxHeartbeats 4000000 in
theorem mX6_most {l : Launch} {D : DD} {A : Nat → Prop} {s0 : State} {ad : AD} {T : TS}  {Q : Int32 → TS → Prop} (hw : wX6_most T Q) : Met l yX6_most (ws_ yX6_most cX6_most 3 (some .int)) rX6_most (va_Pc [.ref (ad 0 0 0)] (fun U => tB D A ad T U.heap ∧ CX l D A s0 U)) (va_Qi Q (fun u t => tB D A ad u t.heap) A) 0 0 A := by
  refine Met.ofW (cc := cX6_most) (maxL := 3) (ret := some .int) (by decide) rfl ?_
  intro p e s m args below meth c s₁ B hml hv
  obtain ⟨rfl, hB, hC⟩ := hv
  have F : FX p l c cX6_most s _ m RX6 D A s0 3 meth (some .int) := ⟨mk_FP B hml rfl, hC⟩
  have hS : va_S A s.heap s.heap [] := va_S.rf
  have hl := lv_entry ([.ref (ad 0 0 0)]) (n := 3) (Nat.le_of_ble_eq_true rfl)
  rw [lg_entry_eq]
  generalize (lg_sl ([.ref (ad 0 0 0)]) ++ List.replicate (3 - (lg_sl ([.ref (ad 0 0 0)])).length) Slot.unset).toArray = ls at hl ⊢
  exact bX6_most_0 F hB hS hw hl
def rX6_person : Room := { frames := 1, cells := 0, slots := 0, locals := 25 }
set_option maxHeartbeats 4000000 in
theorem bX6_person_0 {p : Program} {l : Launch} {e : Env} {s : State} {m : MethodId} {args : Array Value} {below : List Frame} {meth : Method} {c : Code} {D : DD} {A : Nat → Prop} {s0 : State} {ad : AD} {Q : Int32 → TS → Prop} {a1 : Int32} {a2 : Int32} {T : TS} {H : Heap} {locs : List Loc} {ls : Array Slot} (F : FX p l c cX6_person s args m RX6 D A s0 3 meth (some .int)) (hB : tB D A ad T H) (hS : va_S A s.heap H locs) (hw : wX6_person a1 a2 T Q) (hl : lv_has ls 3 [(0, .ref (ad 0 0 0)), (1, .int a1), (2, .int a2)]) : W p l e rX6_person s m args below meth c H locs 0 0 (MQ below (va_Qi Q (fun u t => tB D A ad u t.heap) A) args s 0 0 A) (F0 m 0 ls []) := by
  have hx := F.1.x
  have hb := F.1.b
  unfold wX6_person at hw
  refine lv_iload_n hx hb dX6_person_0 rfl (lv_at hl 1 rfl) ?_
  refine lv_i2l hx hb dX6_person_1 rfl ?_
  refine lv_lconst (v := 0) hx hb dX6_person_2 (by decide) ?_
  refine lv_ldc2 hx hb F.1.o (F.1.t _ q1321) dX6_person_3 ?_
  refine kX6_X6_isIn F.1 hw ⟨Nat.le_of_ble_eq_true rfl, Nat.le_of_ble_eq_true rfl⟩ ⟨Nat.zero_le _, Nat.zero_le _⟩ hl.1 (Nat.le_of_ble_eq_true rfl) dX6_person_6 (fun r1 hw => ?_)
  refine lv_if_eq (tgt := 24) hx hb dX6_person_9 (by decide) (fun q => ?_) (fun q => ?_)
  · replace hw := hw.1 q
    refine lv_ldc hx hb F.1.o (F.1.t _ q1326) dX6_person_24 ?_
    exact W.iret hx hb F.1.r (fun t ht hW => ⟨⟨_, _, rfl, hw, x_B (Bw := tB D A ad) ht hB⟩, hS.F ht⟩) hS.2.2 dX6_person_26 (hlocks := F.1.k)
  · replace hw := hw.2 q
    refine lv_iload_n hx hb dX6_person_12 rfl (lv_at hl 2 rfl) ?_
    refine lv_i2l hx hb dX6_person_13 rfl ?_
    refine lv_lconst (v := 0) hx hb dX6_person_14 (by decide) ?_
    refine lv_ldc2 hx hb F.1.o (F.1.t _ q1325) dX6_person_15 ?_
    refine kX6_X6_isIn F.1 hw ⟨Nat.le_of_ble_eq_true rfl, Nat.le_of_ble_eq_true rfl⟩ ⟨Nat.zero_le _, Nat.zero_le _⟩ hl.1 (Nat.le_of_ble_eq_true rfl) dX6_person_18 (fun r2 hw => ?_)
    refine lv_if_ne (tgt := 27) hx hb dX6_person_21 (by decide) (fun q => ?_) (fun q => ?_)
    · replace hw := hw.2 q
      refine lv_aload_n hx hb dX6_person_27 rfl (lv_at hl 0 rfl) ?_
      refine tg_0 F hB dX6_person_28 ?_
      refine lv_iconst (v := 0) hx hb dX6_person_31 (by decide) ?_
      obtain ⟨hin, hw⟩ := hw
      refine t_ald F hB (k := 0) rfl hin dX6_person_32 ?_
      refine lv_bipush (v := 12) hx hb dX6_person_33 (by decide) ?_
      refine lv_icmp_ne (tgt := 41) hx hb dX6_person_35 (by decide) (fun q => ?_) (fun q => ?_)
      · replace hw := hw.2 q
        refine lv_aload_n hx hb dX6_person_41 rfl (lv_at hl 0 rfl) ?_
        refine lv_iload_n hx hb dX6_person_42 rfl (lv_at hl 1 rfl) ?_
        refine lv_iload_n hx hb dX6_person_43 rfl (lv_at hl 2 rfl) ?_
        refine lv_iconst (v := 0) hx hb dX6_person_44 (by decide) ?_
        refine kX6_X6_comes F hB hS hw ⟨Nat.le_of_ble_eq_true rfl, Nat.le_of_ble_eq_true rfl⟩ ⟨Nat.zero_le _, Nat.zero_le _⟩ hl.1 (Nat.le_of_ble_eq_true rfl) dX6_person_45 (fun T4 H locs hw hB hS => ?_)
        refine lv_aload_n hx hb dX6_person_48 rfl (lv_at hl 0 rfl) ?_
        refine tg_0 F hB dX6_person_49 ?_
        refine lv_iconst (v := 0) hx hb dX6_person_52 (by decide) ?_
        obtain ⟨hin, hw⟩ := hw
        refine t_ald F hB (k := 0) rfl hin dX6_person_53 ?_
        refine lv_iconst (v := 1) hx hb dX6_person_54 (by decide) ?_
        refine lv_isub hx hb dX6_person_55 ?_
        exact W.iret hx hb F.1.r (fun t ht hW => ⟨⟨_, _, rfl, hw, x_B (Bw := tB D A ad) ht hB⟩, hS.F ht⟩) hS.2.2 dX6_person_56 (hlocks := F.1.k)
      · replace hw := hw.1 q
        refine lv_ldc hx hb F.1.o (F.1.t _ q1327) dX6_person_38 ?_
        exact W.iret hx hb F.1.r (fun t ht hW => ⟨⟨_, _, rfl, hw, x_B (Bw := tB D A ad) ht hB⟩, hS.F ht⟩) hS.2.2 dX6_person_40 (hlocks := F.1.k)
    · replace hw := hw.1 q
      refine lv_ldc hx hb F.1.o (F.1.t _ q1326) dX6_person_24 ?_
      exact W.iret hx hb F.1.r (fun t ht hW => ⟨⟨_, _, rfl, hw, x_B (Bw := tB D A ad) ht hB⟩, hS.F ht⟩) hS.2.2 dX6_person_26 (hlocks := F.1.k)
set_option maxHeartbeats 4000000 in
theorem mX6_person {l : Launch} {D : DD} {A : Nat → Prop} {s0 : State} {ad : AD} {T : TS} {a1 : Int32} {a2 : Int32} {Q : Int32 → TS → Prop} (hw : wX6_person a1 a2 T Q) : Met l yX6_person (ws_ yX6_person cX6_person 3 (some .int)) rX6_person (va_Pc [.ref (ad 0 0 0), .int a1, .int a2] (fun U => tB D A ad T U.heap ∧ CX l D A s0 U)) (va_Qi Q (fun u t => tB D A ad u t.heap) A) 0 0 A := by
  refine Met.ofW (cc := cX6_person) (maxL := 3) (ret := some .int) (by decide) rfl ?_
  intro p e s m args below meth c s₁ B hml hv
  obtain ⟨rfl, hB, hC⟩ := hv
  have F : FX p l c cX6_person s _ m RX6 D A s0 3 meth (some .int) := ⟨mk_FP B hml rfl, hC⟩
  have hS : va_S A s.heap s.heap [] := va_S.rf
  have hl := lv_entry ([.ref (ad 0 0 0), .int a1, .int a2]) (n := 3) (Nat.le_of_ble_eq_true rfl)
  rw [lg_entry_eq]
  generalize (lg_sl ([.ref (ad 0 0 0), .int a1, .int a2]) ++ List.replicate (3 - (lg_sl ([.ref (ad 0 0 0), .int a1, .int a2])).length) Slot.unset).toArray = ls at hl ⊢
  exact bX6_person_0 F hB hS hw hl
def rX6_pour : Room := { frames := 2, cells := 0, slots := 0, locals := 45 }
set_option maxHeartbeats 4000000 in
theorem bX6_pour_114 {p : Program} {l : Launch} {e : Env} {s : State} {m : MethodId} {args : Array Value} {below : List Frame} {meth : Method} {c : Code} {D : DD} {A : Nat → Prop} {s0 : State} {ad : AD} {Q : Int32 → TS → Prop} {k_27 : Int32 → Int32 → Int32 → TS → Prop} {l1 : Int32} {l3 : Int32} {k0 : Int32} {k1 : Int32} {T : TS} {H : Heap} {locs : List Loc} {ls : Array Slot} (F : FX p l c cX6_pour s args m RX6 D A s0 7 meth (some .int)) (h_27 : ∀ (l1 : Int32) (l2 : Int32) (l3 : Int32) (T : TS), k_27 l1 l2 l3 T → ∀ (H : Heap) (locs : List Loc) (ls : Array Slot), tB D A ad T H → va_S A s.heap H locs → lv_has ls 7 [(0, .ref (ad 0 0 0)), (1, .int l1), (2, .int l2), (3, .int l3)] → W p l e rX6_pour s m args below meth c H locs 0 0 (MQ below (va_Qi Q (fun u t => tB D A ad u t.heap) A) args s 0 0 A) (F0 m 27 ls [])) (hB : tB D A ad T H) (hS : va_S A s.heap H locs) (hw : wX6_pour_114 k_27 l1 l3 k0 k1 T Q) (hl : lv_has ls 7 [(0, .ref (ad 0 0 0)), (1, .int l1), (3, .int l3)]) : W p l e rX6_pour s m args below meth c H locs 0 0 (MQ below (va_Qi Q (fun u t => tB D A ad u t.heap) A) args s 0 0 A) (F0 m 114 ls [.int k0, .int k1]) := by
  have hx := F.1.x
  have hb := F.1.b
  unfold wX6_pour_114 at hw
  refine lv_iadd hx hb dX6_pour_114 ?_
  refine lv_istore_n (lv' := [(2, .int (k1 + k0)), (0, .ref (ad 0 0 0)), (1, .int l1), (3, .int l3)]) hx hb dX6_pour_115 rfl hl (by decide) rfl (fun ls hl => ?_)
  refine lv_iinc (v := l3 + (1 : Int32)) (lv' := [(3, .int (l3 + (1 : Int32))), (2, .int (k1 + k0)), (0, .ref (ad 0 0 0)), (1, .int l1)]) hx hb dX6_pour_116 hl (k := 3) rfl (x_inc (by decide)) (by decide) rfl (fun ls hl => ?_)
  refine lv_goto (tgt := 27) hx hb dX6_pour_119 (by decide) ?_
  exact h_27 _ _ _ _ hw _ _ _ hB hS (lv_sub hl [2, 3, 1, 0] rfl)
set_option maxHeartbeats 4000000 in
theorem bX6_pour_87 {p : Program} {l : Launch} {e : Env} {s : State} {m : MethodId} {args : Array Value} {below : List Frame} {meth : Method} {c : Code} {D : DD} {A : Nat → Prop} {s0 : State} {ad : AD} {Q : Int32 → TS → Prop} {k_27 : Int32 → Int32 → Int32 → TS → Prop} {l1 : Int32} {l2 : Int32} {l3 : Int32} {k0 : Int32} {T : TS} {H : Heap} {locs : List Loc} {ls : Array Slot} (F : FX p l c cX6_pour s args m RX6 D A s0 7 meth (some .int)) (h_27 : ∀ (l1 : Int32) (l2 : Int32) (l3 : Int32) (T : TS), k_27 l1 l2 l3 T → ∀ (H : Heap) (locs : List Loc) (ls : Array Slot), tB D A ad T H → va_S A s.heap H locs → lv_has ls 7 [(0, .ref (ad 0 0 0)), (1, .int l1), (2, .int l2), (3, .int l3)] → W p l e rX6_pour s m args below meth c H locs 0 0 (MQ below (va_Qi Q (fun u t => tB D A ad u t.heap) A) args s 0 0 A) (F0 m 27 ls [])) (hB : tB D A ad T H) (hS : va_S A s.heap H locs) (hw : wX6_pour_87 k_27 l1 l2 l3 k0 T Q) (hl : lv_has ls 7 [(0, .ref (ad 0 0 0)), (1, .int l1), (2, .int l2), (3, .int l3)]) : W p l e rX6_pour s m args below meth c H locs 0 0 (MQ below (va_Qi Q (fun u t => tB D A ad u t.heap) A) args s 0 0 A) (F0 m 87 ls [.int k0]) := by
  have hx := F.1.x
  have hb := F.1.b
  unfold wX6_pour_87 at hw
  refine lv_istore (lv' := [(6, .int k0), (0, .ref (ad 0 0 0)), (1, .int l1), (2, .int l2), (3, .int l3)]) hx hb dX6_pour_87 hl (by decide) rfl (fun ls hl => ?_)
  refine lv_iload_n hx hb dX6_pour_89 rfl (lv_at hl 3 rfl) ?_
  refine lv_aload_n hx hb dX6_pour_90 rfl (lv_at hl 1 rfl) ?_
  refine lv_bipush (v := 6) hx hb dX6_pour_91 (by decide) ?_
  refine lv_iconst (v := 5) hx hb dX6_pour_93 (by decide) ?_
  refine lv_iload_n hx hb dX6_pour_94 rfl (lv_at hl 4 rfl) ?_
  refine lv_imul hx hb dX6_pour_95 ?_
  refine lv_iadd hx hb dX6_pour_96 ?_
  refine lv_iconst (v := 1) hx hb dX6_pour_97 (by decide) ?_
  refine lv_iadd hx hb dX6_pour_98 ?_
  refine lv_iload hx hb dX6_pour_99 (lv_at hl 0 rfl) ?_
  refine kX6_X6_becomes F hB hS hw ⟨Nat.le_of_ble_eq_true rfl, Nat.le_of_ble_eq_true rfl⟩ ⟨Nat.zero_le _, Nat.zero_le _⟩ hl.1 (Nat.le_of_ble_eq_true rfl) dX6_pour_101 (fun r1 T2 H locs hw hB hS => ?_)
  refine lv_iload hx hb dX6_pour_104 (lv_at hl 0 rfl) ?_
  refine lv_icmp_ne (tgt := 113) hx hb dX6_pour_106 (by decide) (fun q => ?_) (fun q => ?_)
  · replace hw := hw.2 q
    refine lv_iconst (v := 1) hx hb dX6_pour_113 (by decide) ?_
    exact bX6_pour_114 F h_27 hB hS hw (lv_sub hl [1, 2, 4] rfl)
  · replace hw := hw.1 q
    refine lv_iconst (v := 0) hx hb dX6_pour_109 (by decide) ?_
    refine lv_goto (tgt := 114) hx hb dX6_pour_110 (by decide) ?_
    exact bX6_pour_114 F h_27 hB hS hw (lv_sub hl [1, 2, 4] rfl)
set_option maxHeartbeats 4000000 in
theorem bX6_pour_27 {p : Program} {l : Launch} {e : Env} {s : State} {m : MethodId} {args : Array Value} {below : List Frame} {meth : Method} {c : Code} {D : DD} {A : Nat → Prop} {s0 : State} {ad : AD} {Q : Int32 → TS → Prop} (F : FX p l c cX6_pour s args m RX6 D A s0 7 meth (some .int)) : ∀ (n : Nat) (l1 : Int32) (l2 : Int32) (l3 : Int32) (T : TS), wX6_pour_27 Q n l1 l2 l3 T → ∀ (H : Heap) (locs : List Loc) (ls : Array Slot), tB D A ad T H → va_S A s.heap H locs → lv_has ls 7 [(0, .ref (ad 0 0 0)), (1, .int l1), (2, .int l2), (3, .int l3)] → W p l e rX6_pour s m args below meth c H locs 0 0 (MQ below (va_Qi Q (fun u t => tB D A ad u t.heap) A) args s 0 0 A) (F0 m 27 ls []) := by
  have hx := F.1.x
  have hb := F.1.b
  intro n
  induction n with
  | zero => intro l1 l2 l3 T hw; exact hw.elim
  | succ n ih =>
    intro l1 l2 l3 T hw H locs ls hB hS hl
    unfold wX6_pour_27 at hw
    refine lv_iload_n hx hb dX6_pour_27 rfl (lv_at hl 3 rfl) ?_
    refine lv_aload_n hx hb dX6_pour_28 rfl (lv_at hl 0 rfl) ?_
    refine tg_5 F hB dX6_pour_29 ?_
    refine lv_iload_n hx hb dX6_pour_32 rfl (lv_at hl 1 rfl) ?_
    obtain ⟨hin, hw⟩ := hw
    refine t_ald F hB (k := 5) rfl hin dX6_pour_33 ?_
    refine lv_icmp_ge (tgt := 122) hx hb dX6_pour_34 (by decide) (fun q => ?_) (fun q => ?_)
    · replace hw := hw.1 q
      refine lv_iload_n hx hb dX6_pour_122 rfl (lv_at hl 2 rfl) ?_
      exact W.iret hx hb F.1.r (fun t ht hW => ⟨⟨_, _, rfl, hw, x_B (Bw := tB D A ad) ht hB⟩, hS.F ht⟩) hS.2.2 dX6_pour_123 (hlocks := F.1.k)
    · replace hw := hw.2 q
      refine lv_iload_n hx hb dX6_pour_37 rfl (lv_at hl 3 rfl) ?_
      refine lv_aload_n hx hb dX6_pour_38 rfl (lv_at hl 0 rfl) ?_
      refine tg_0 F hB dX6_pour_39 ?_
      refine lv_iconst (v := 0) hx hb dX6_pour_42 (by decide) ?_
      obtain ⟨hin, hw⟩ := hw
      refine t_ald F hB (k := 0) rfl hin dX6_pour_43 ?_
      refine lv_icmp_ge (tgt := 122) hx hb dX6_pour_44 (by decide) (fun q => ?_) (fun q => ?_)
      · replace hw := hw.1 q
        refine lv_iload_n hx hb dX6_pour_122 rfl (lv_at hl 2 rfl) ?_
        exact W.iret hx hb F.1.r (fun t ht hW => ⟨⟨_, _, rfl, hw, x_B (Bw := tB D A ad) ht hB⟩, hS.F ht⟩) hS.2.2 dX6_pour_123 (hlocks := F.1.k)
      · replace hw := hw.2 q
        refine lv_aload_n hx hb dX6_pour_47 rfl (lv_at hl 0 rfl) ?_
        refine tg_6 F hB dX6_pour_48 ?_
        refine lv_bipush (v := 24) hx hb dX6_pour_51 (by decide) ?_
        refine lv_iload_n hx hb dX6_pour_53 rfl (lv_at hl 1 rfl) ?_
        refine lv_imul hx hb dX6_pour_54 ?_
        refine lv_iload_n hx hb dX6_pour_55 rfl (lv_at hl 3 rfl) ?_
        refine lv_iadd hx hb dX6_pour_56 ?_
        obtain ⟨hin, hw⟩ := hw
        refine t_ald F hB (k := 6) rfl hin dX6_pour_57 ?_
        refine lv_istore (lv' := [(4, .int (T.2 6 (((24 : Int32) * l1) + l3).toNatClampNeg)), (0, .ref (ad 0 0 0)), (1, .int l1), (2, .int l2), (3, .int l3)]) hx hb dX6_pour_58 hl (by decide) rfl (fun ls hl => ?_)
        refine lv_aload_n hx hb dX6_pour_60 rfl (lv_at hl 1 rfl) ?_
        refine lv_iload_n hx hb dX6_pour_61 rfl (lv_at hl 4 rfl) ?_
        refine lv_iconst (v := 1) hx hb dX6_pour_62 (by decide) ?_
        refine kX6_X6_of F hB hS hw ⟨Nat.le_of_ble_eq_true rfl, Nat.le_of_ble_eq_true rfl⟩ ⟨Nat.zero_le _, Nat.zero_le _⟩ hl.1 (Nat.le_of_ble_eq_true rfl) dX6_pour_63 (fun r1 T2 H locs hw hB hS => ?_)
        refine lv_istore (lv' := [(5, .int r1), (4, .int (T.2 6 (((24 : Int32) * l1) + l3).toNatClampNeg)), (0, .ref (ad 0 0 0)), (1, .int l1), (2, .int l2), (3, .int l3)]) hx hb dX6_pour_66 hl (by decide) rfl (fun ls hl => ?_)
        refine lv_iload hx hb dX6_pour_68 (lv_at hl 1 rfl) ?_
        refine lv_ldc hx hb F.1.o (F.1.t _ q1504) dX6_pour_70 ?_
        refine lv_icmp_ne (tgt := 80) hx hb dX6_pour_72 (by decide) (fun q => ?_) (fun q => ?_)
        · replace hw := hw.2 q
          refine lv_iload hx hb dX6_pour_80 (lv_at hl 1 rfl) ?_
          refine lv_bipush (v := 100) hx hb dX6_pour_82 (by decide) ?_
          refine kX6_X6_within F.1 hw ⟨Nat.le_of_ble_eq_true rfl, Nat.le_of_ble_eq_true rfl⟩ ⟨Nat.zero_le _, Nat.zero_le _⟩ hl.1 (Nat.le_of_ble_eq_true rfl) dX6_pour_84 (fun r3 hw => ?_)
          exact bX6_pour_87 F ih hB hS hw (lv_sub hl [2, 3, 4, 5] rfl)
        · replace hw := hw.1 q
          refine lv_iload hx hb dX6_pour_75 (lv_at hl 0 rfl) ?_
          refine lv_goto (tgt := 87) hx hb dX6_pour_77 (by decide) ?_
          exact bX6_pour_87 F ih hB hS hw (lv_sub hl [2, 3, 4, 5] rfl)
set_option maxHeartbeats 4000000 in
theorem bX6_pour_0 {p : Program} {l : Launch} {e : Env} {s : State} {m : MethodId} {args : Array Value} {below : List Frame} {meth : Method} {c : Code} {D : DD} {A : Nat → Prop} {s0 : State} {ad : AD} {Q : Int32 → TS → Prop} {a1 : Int32} {T : TS} {H : Heap} {locs : List Loc} {ls : Array Slot} (F : FX p l c cX6_pour s args m RX6 D A s0 7 meth (some .int)) (hB : tB D A ad T H) (hS : va_S A s.heap H locs) (hw : wX6_pour a1 T Q) (hl : lv_has ls 7 [(0, .ref (ad 0 0 0)), (1, .int a1)]) : W p l e rX6_pour s m args below meth c H locs 0 0 (MQ below (va_Qi Q (fun u t => tB D A ad u t.heap) A) args s 0 0 A) (F0 m 0 ls []) := by
  have hx := F.1.x
  have hb := F.1.b
  unfold wX6_pour at hw
  refine lv_iload_n hx hb dX6_pour_0 rfl (lv_at hl 1 rfl) ?_
  refine kX6_X6_isSheet F.1 hw ⟨Nat.le_of_ble_eq_true rfl, Nat.le_of_ble_eq_true rfl⟩ ⟨Nat.zero_le _, Nat.zero_le _⟩ hl.1 (Nat.le_of_ble_eq_true rfl) dX6_pour_1 (fun r1 hw => ?_)
  refine lv_if_ne (tgt := 10) hx hb dX6_pour_4 (by decide) (fun q => ?_) (fun q => ?_)
  · replace hw := hw.2 q
    refine lv_aload_n hx hb dX6_pour_10 rfl (lv_at hl 0 rfl) ?_
    refine tg_4 F hB dX6_pour_11 ?_
    refine lv_iload_n hx hb dX6_pour_14 rfl (lv_at hl 1 rfl) ?_
    obtain ⟨hin, hw⟩ := hw
    refine t_ald F hB (k := 4) rfl hin dX6_pour_15 ?_
    refine lv_if_ge (tgt := 23) hx hb dX6_pour_16 (by decide) (fun q => ?_) (fun q => ?_)
    · replace hw := hw.1 q
      refine lv_iconst (v := 0) hx hb dX6_pour_23 (by decide) ?_
      refine lv_istore_n (lv' := [(2, .int (0 : Int32)), (0, .ref (ad 0 0 0)), (1, .int a1)]) hx hb dX6_pour_24 rfl hl (by decide) rfl (fun ls hl => ?_)
      refine lv_iconst (v := 0) hx hb dX6_pour_25 (by decide) ?_
      refine lv_istore_n (lv' := [(3, .int (0 : Int32)), (2, .int (0 : Int32)), (0, .ref (ad 0 0 0)), (1, .int a1)]) hx hb dX6_pour_26 rfl hl (by decide) rfl (fun ls hl => ?_)
      obtain ⟨f_27, hw⟩ := hw
      exact bX6_pour_27 F f_27 _ _ _ _ hw _ _ _ hB hS (lv_sub hl [2, 3, 1, 0] rfl)
    · replace hw := hw.2 q
      refine lv_ldcw hx hb F.1.o (F.1.t _ q1649) dX6_pour_19 ?_
      exact W.iret hx hb F.1.r (fun t ht hW => ⟨⟨_, _, rfl, hw, x_B (Bw := tB D A ad) ht hB⟩, hS.F ht⟩) hS.2.2 dX6_pour_22 (hlocks := F.1.k)
  · replace hw := hw.1 q
    refine lv_ldc hx hb F.1.o (F.1.t _ q1326) dX6_pour_7 ?_
    exact W.iret hx hb F.1.r (fun t ht hW => ⟨⟨_, _, rfl, hw, x_B (Bw := tB D A ad) ht hB⟩, hS.F ht⟩) hS.2.2 dX6_pour_9 (hlocks := F.1.k)
set_option maxHeartbeats 4000000 in
theorem mX6_pour {l : Launch} {D : DD} {A : Nat → Prop} {s0 : State} {ad : AD} {T : TS} {a1 : Int32} {Q : Int32 → TS → Prop} (hw : wX6_pour a1 T Q) : Met l yX6_pour (ws_ yX6_pour cX6_pour 7 (some .int)) rX6_pour (va_Pc [.ref (ad 0 0 0), .int a1] (fun U => tB D A ad T U.heap ∧ CX l D A s0 U)) (va_Qi Q (fun u t => tB D A ad u t.heap) A) 0 0 A := by
  refine Met.ofW (cc := cX6_pour) (maxL := 7) (ret := some .int) (by decide) rfl ?_
  intro p e s m args below meth c s₁ B hml hv
  obtain ⟨rfl, hB, hC⟩ := hv
  have F : FX p l c cX6_pour s _ m RX6 D A s0 7 meth (some .int) := ⟨mk_FP B hml rfl, hC⟩
  have hS : va_S A s.heap s.heap [] := va_S.rf
  have hl := lv_entry ([.ref (ad 0 0 0), .int a1]) (n := 7) (Nat.le_of_ble_eq_true rfl)
  rw [lg_entry_eq]
  generalize (lg_sl ([.ref (ad 0 0 0), .int a1]) ++ List.replicate (7 - (lg_sl ([.ref (ad 0 0 0), .int a1])).length) Slot.unset).toArray = ls at hl ⊢
  exact bX6_pour_0 F hB hS hw hl
def rX6_proved : Room := { frames := 3, cells := 0, slots := 0, locals := 67 }
set_option maxHeartbeats 4000000 in
theorem bX6_proved_60 {p : Program} {l : Launch} {e : Env} {s : State} {m : MethodId} {args : Array Value} {below : List Frame} {meth : Method} {c : Code} {D : DD} {A : Nat → Prop} {s0 : State} {ad : AD} {Q : Int32 → TS → Prop} {k_19 : Int32 → Int32 → Int32 → TS → Prop} {l1 : Int32} {l3 : Int32} {k0 : Int32} {k1 : Int32} {T : TS} {H : Heap} {locs : List Loc} {ls : Array Slot} (F : FX p l c cX6_proved s args m RX6 D A s0 4 meth (some .int)) (h_19 : ∀ (l1 : Int32) (l2 : Int32) (l3 : Int32) (T : TS), k_19 l1 l2 l3 T → ∀ (H : Heap) (locs : List Loc) (ls : Array Slot), tB D A ad T H → va_S A s.heap H locs → lv_has ls 4 [(0, .ref (ad 0 0 0)), (1, .int l1), (2, .int l2), (3, .int l3)] → W p l e rX6_proved s m args below meth c H locs 0 0 (MQ below (va_Qi Q (fun u t => tB D A ad u t.heap) A) args s 0 0 A) (F0 m 19 ls [])) (hB : tB D A ad T H) (hS : va_S A s.heap H locs) (hw : wX6_proved_60 k_19 l1 l3 k0 k1 T Q) (hl : lv_has ls 4 [(0, .ref (ad 0 0 0)), (1, .int l1), (3, .int l3)]) : W p l e rX6_proved s m args below meth c H locs 0 0 (MQ below (va_Qi Q (fun u t => tB D A ad u t.heap) A) args s 0 0 A) (F0 m 60 ls [.int k0, .int k1]) := by
  have hx := F.1.x
  have hb := F.1.b
  unfold wX6_proved_60 at hw
  refine lv_iand hx hb dX6_proved_60 ?_
  refine lv_istore_n (lv' := [(2, .int (k1 &&& k0)), (0, .ref (ad 0 0 0)), (1, .int l1), (3, .int l3)]) hx hb dX6_proved_61 rfl hl (by decide) rfl (fun ls hl => ?_)
  refine lv_iinc (v := l3 + (1 : Int32)) (lv' := [(3, .int (l3 + (1 : Int32))), (2, .int (k1 &&& k0)), (0, .ref (ad 0 0 0)), (1, .int l1)]) hx hb dX6_proved_62 hl (k := 3) rfl (x_inc (by decide)) (by decide) rfl (fun ls hl => ?_)
  refine lv_goto (tgt := 19) hx hb dX6_proved_65 (by decide) ?_
  exact h_19 _ _ _ _ hw _ _ _ hB hS (lv_sub hl [2, 3, 1, 0] rfl)
set_option maxHeartbeats 4000000 in
theorem bX6_proved_19 {p : Program} {l : Launch} {e : Env} {s : State} {m : MethodId} {args : Array Value} {below : List Frame} {meth : Method} {c : Code} {D : DD} {A : Nat → Prop} {s0 : State} {ad : AD} {Q : Int32 → TS → Prop} (F : FX p l c cX6_proved s args m RX6 D A s0 4 meth (some .int)) : ∀ (n : Nat) (l1 : Int32) (l2 : Int32) (l3 : Int32) (T : TS), wX6_proved_19 Q n l1 l2 l3 T → ∀ (H : Heap) (locs : List Loc) (ls : Array Slot), tB D A ad T H → va_S A s.heap H locs → lv_has ls 4 [(0, .ref (ad 0 0 0)), (1, .int l1), (2, .int l2), (3, .int l3)] → W p l e rX6_proved s m args below meth c H locs 0 0 (MQ below (va_Qi Q (fun u t => tB D A ad u t.heap) A) args s 0 0 A) (F0 m 19 ls []) := by
  have hx := F.1.x
  have hb := F.1.b
  intro n
  induction n with
  | zero => intro l1 l2 l3 T hw; exact hw.elim
  | succ n ih =>
    intro l1 l2 l3 T hw H locs ls hB hS hl
    unfold wX6_proved_19 at hw
    refine lv_iload_n hx hb dX6_proved_19 rfl (lv_at hl 3 rfl) ?_
    refine lv_aload_n hx hb dX6_proved_20 rfl (lv_at hl 0 rfl) ?_
    refine tg_0 F hB dX6_proved_21 ?_
    refine lv_iconst (v := 0) hx hb dX6_proved_24 (by decide) ?_
    obtain ⟨hin, hw⟩ := hw
    refine t_ald F hB (k := 0) rfl hin dX6_proved_25 ?_
    refine lv_icmp_ge (tgt := 68) hx hb dX6_proved_26 (by decide) (fun q => ?_) (fun q => ?_)
    · replace hw := hw.1 q
      refine lv_iload_n hx hb dX6_proved_68 rfl (lv_at hl 2 rfl) ?_
      exact W.iret hx hb F.1.r (fun t ht hW => ⟨⟨_, _, rfl, hw, x_B (Bw := tB D A ad) ht hB⟩, hS.F ht⟩) hS.2.2 dX6_proved_69 (hlocks := F.1.k)
    · replace hw := hw.2 q
      refine lv_iload_n hx hb dX6_proved_29 rfl (lv_at hl 2 rfl) ?_
      refine lv_aload_n hx hb dX6_proved_30 rfl (lv_at hl 0 rfl) ?_
      refine lv_iload_n hx hb dX6_proved_31 rfl (lv_at hl 3 rfl) ?_
      refine lv_iconst (v := 2) hx hb dX6_proved_32 (by decide) ?_
      refine kX6_X6_of F hB hS hw ⟨Nat.le_of_ble_eq_true rfl, Nat.le_of_ble_eq_true rfl⟩ ⟨Nat.zero_le _, Nat.zero_le _⟩ hl.1 (Nat.le_of_ble_eq_true rfl) dX6_proved_33 (fun r1 T2 H locs hw hB hS => ?_)
      refine lv_aload_n hx hb dX6_proved_36 rfl (lv_at hl 0 rfl) ?_
      refine lv_iload_n hx hb dX6_proved_37 rfl (lv_at hl 1 rfl) ?_
      refine lv_iconst (v := 1) hx hb dX6_proved_38 (by decide) ?_
      refine kX6_X6_dee F hB hS hw ⟨Nat.le_of_ble_eq_true rfl, Nat.le_of_ble_eq_true rfl⟩ ⟨Nat.zero_le _, Nat.zero_le _⟩ hl.1 (Nat.le_of_ble_eq_true rfl) dX6_proved_39 (fun r3 T4 H locs hw hB hS => ?_)
      refine lv_ishr hx hb dX6_proved_42 ?_
      refine lv_iconst (v := 1) hx hb dX6_proved_43 (by decide) ?_
      refine lv_iand hx hb dX6_proved_44 ?_
      refine lv_iconst (v := 1) hx hb dX6_proved_45 (by decide) ?_
      refine lv_icmp_ne (tgt := 59) hx hb dX6_proved_46 (by decide) (fun q => ?_) (fun q => ?_)
      · replace hw := hw.2 q
        refine lv_iconst (v := -1) hx hb dX6_proved_59 (by decide) ?_
        exact bX6_proved_60 F ih hB hS hw (lv_sub hl [0, 1, 3] rfl)
      · replace hw := hw.1 q
        refine lv_aload_n hx hb dX6_proved_49 rfl (lv_at hl 0 rfl) ?_
        refine lv_iload_n hx hb dX6_proved_50 rfl (lv_at hl 3 rfl) ?_
        refine kX6_X6_goBy F hB hS hw ⟨Nat.le_of_ble_eq_true rfl, Nat.le_of_ble_eq_true rfl⟩ ⟨Nat.zero_le _, Nat.zero_le _⟩ hl.1 (Nat.le_of_ble_eq_true rfl) dX6_proved_51 (fun r5 T6 H locs hw hB hS => ?_)
        refine lv_iconst (v := -1) hx hb dX6_proved_54 (by decide) ?_
        refine lv_ixor hx hb dX6_proved_55 ?_
        refine lv_goto (tgt := 60) hx hb dX6_proved_56 (by decide) ?_
        exact bX6_proved_60 F ih hB hS hw (lv_sub hl [0, 1, 3] rfl)
set_option maxHeartbeats 4000000 in
theorem bX6_proved_0 {p : Program} {l : Launch} {e : Env} {s : State} {m : MethodId} {args : Array Value} {below : List Frame} {meth : Method} {c : Code} {D : DD} {A : Nat → Prop} {s0 : State} {ad : AD} {Q : Int32 → TS → Prop} {a1 : Int32} {T : TS} {H : Heap} {locs : List Loc} {ls : Array Slot} (F : FX p l c cX6_proved s args m RX6 D A s0 4 meth (some .int)) (hB : tB D A ad T H) (hS : va_S A s.heap H locs) (hw : wX6_proved a1 T Q) (hl : lv_has ls 4 [(0, .ref (ad 0 0 0)), (1, .int a1)]) : W p l e rX6_proved s m args below meth c H locs 0 0 (MQ below (va_Qi Q (fun u t => tB D A ad u t.heap) A) args s 0 0 A) (F0 m 0 ls []) := by
  have hx := F.1.x
  have hb := F.1.b
  unfold wX6_proved at hw
  refine lv_aload_n hx hb dX6_proved_0 rfl (lv_at hl 0 rfl) ?_
  refine lv_iload_n hx hb dX6_proved_1 rfl (lv_at hl 1 rfl) ?_
  refine kX6_X6_isDeed F hB hS hw ⟨Nat.le_of_ble_eq_true rfl, Nat.le_of_ble_eq_true rfl⟩ ⟨Nat.zero_le _, Nat.zero_le _⟩ hl.1 (Nat.le_of_ble_eq_true rfl) dX6_proved_2 (fun r1 T2 H locs hw hB hS => ?_)
  refine lv_if_ne (tgt := 11) hx hb dX6_proved_5 (by decide) (fun q => ?_) (fun q => ?_)
  · replace hw := hw.2 q
    refine lv_aload_n hx hb dX6_proved_11 rfl (lv_at hl 0 rfl) ?_
    refine lv_iload_n hx hb dX6_proved_12 rfl (lv_at hl 1 rfl) ?_
    refine kX6_X6_left F hB hS hw ⟨Nat.le_of_ble_eq_true rfl, Nat.le_of_ble_eq_true rfl⟩ ⟨Nat.zero_le _, Nat.zero_le _⟩ hl.1 (Nat.le_of_ble_eq_true rfl) dX6_proved_13 (fun r3 T4 H locs hw hB hS => ?_)
    refine lv_istore_n (lv' := [(2, .int r3), (0, .ref (ad 0 0 0)), (1, .int a1)]) hx hb dX6_proved_16 rfl hl (by decide) rfl (fun ls hl => ?_)
    refine lv_iconst (v := 0) hx hb dX6_proved_17 (by decide) ?_
    refine lv_istore_n (lv' := [(3, .int (0 : Int32)), (2, .int r3), (0, .ref (ad 0 0 0)), (1, .int a1)]) hx hb dX6_proved_18 rfl hl (by decide) rfl (fun ls hl => ?_)
    obtain ⟨f_19, hw⟩ := hw
    exact bX6_proved_19 F f_19 _ _ _ _ hw _ _ _ hB hS (lv_sub hl [2, 3, 1, 0] rfl)
  · replace hw := hw.1 q
    refine lv_ldc hx hb F.1.o (F.1.t _ q1326) dX6_proved_8 ?_
    exact W.iret hx hb F.1.r (fun t ht hW => ⟨⟨_, _, rfl, hw, x_B (Bw := tB D A ad) ht hB⟩, hS.F ht⟩) hS.2.2 dX6_proved_10 (hlocks := F.1.k)
set_option maxHeartbeats 4000000 in
theorem mX6_proved {l : Launch} {D : DD} {A : Nat → Prop} {s0 : State} {ad : AD} {T : TS} {a1 : Int32} {Q : Int32 → TS → Prop} (hw : wX6_proved a1 T Q) : Met l yX6_proved (ws_ yX6_proved cX6_proved 4 (some .int)) rX6_proved (va_Pc [.ref (ad 0 0 0), .int a1] (fun U => tB D A ad T U.heap ∧ CX l D A s0 U)) (va_Qi Q (fun u t => tB D A ad u t.heap) A) 0 0 A := by
  refine Met.ofW (cc := cX6_proved) (maxL := 4) (ret := some .int) (by decide) rfl ?_
  intro p e s m args below meth c s₁ B hml hv
  obtain ⟨rfl, hB, hC⟩ := hv
  have F : FX p l c cX6_proved s _ m RX6 D A s0 4 meth (some .int) := ⟨mk_FP B hml rfl, hC⟩
  have hS : va_S A s.heap s.heap [] := va_S.rf
  have hl := lv_entry ([.ref (ad 0 0 0), .int a1]) (n := 4) (Nat.le_of_ble_eq_true rfl)
  rw [lg_entry_eq]
  generalize (lg_sl ([.ref (ad 0 0 0), .int a1]) ++ List.replicate (4 - (lg_sl ([.ref (ad 0 0 0), .int a1])).length) Slot.unset).toArray = ls at hl ⊢
  exact bX6_proved_0 F hB hS hw hl
def rX6_reads : Room := { frames := 2, cells := 0, slots := 0, locals := 46 }
set_option maxHeartbeats 4000000 in
theorem bX6_reads_75 {p : Program} {l : Launch} {e : Env} {s : State} {m : MethodId} {args : Array Value} {below : List Frame} {meth : Method} {c : Code} {D : DD} {A : Nat → Prop} {s0 : State} {ad : AD} {Q : Int32 → TS → Prop} {k_25 : Int32 → Int32 → TS → Prop} {l1 : Int32} {l2 : Int32} {T : TS} {H : Heap} {locs : List Loc} {ls : Array Slot} (F : FX p l c cX6_reads s args m RX6 D A s0 4 meth (some .int)) (h_25 : ∀ (l1 : Int32) (l2 : Int32) (T : TS), k_25 l1 l2 T → ∀ (H : Heap) (locs : List Loc) (ls : Array Slot), tB D A ad T H → va_S A s.heap H locs → lv_has ls 4 [(0, .ref (ad 0 0 0)), (1, .int l1), (2, .int l2)] → W p l e rX6_reads s m args below meth c H locs 0 0 (MQ below (va_Qi Q (fun u t => tB D A ad u t.heap) A) args s 0 0 A) (F0 m 25 ls [])) (hB : tB D A ad T H) (hS : va_S A s.heap H locs) (hw : wX6_reads_75 k_25 l1 l2 T Q) (hl : lv_has ls 4 [(0, .ref (ad 0 0 0)), (1, .int l1), (2, .int l2)]) : W p l e rX6_reads s m args below meth c H locs 0 0 (MQ below (va_Qi Q (fun u t => tB D A ad u t.heap) A) args s 0 0 A) (F0 m 75 ls []) := by
  have hx := F.1.x
  have hb := F.1.b
  unfold wX6_reads_75 at hw
  refine lv_iinc (v := l2 + (1 : Int32)) (lv' := [(2, .int (l2 + (1 : Int32))), (0, .ref (ad 0 0 0)), (1, .int l1)]) hx hb dX6_reads_75 hl (k := 2) rfl (x_inc (by decide)) (by decide) rfl (fun ls hl => ?_)
  refine lv_goto (tgt := 25) hx hb dX6_reads_78 (by decide) ?_
  exact h_25 _ _ _ hw _ _ _ hB hS (lv_sub hl [1, 2, 0] rfl)
set_option maxHeartbeats 4000000 in
theorem bX6_reads_25 {p : Program} {l : Launch} {e : Env} {s : State} {m : MethodId} {args : Array Value} {below : List Frame} {meth : Method} {c : Code} {D : DD} {A : Nat → Prop} {s0 : State} {ad : AD} {Q : Int32 → TS → Prop} (F : FX p l c cX6_reads s args m RX6 D A s0 4 meth (some .int)) : ∀ (n : Nat) (l1 : Int32) (l2 : Int32) (T : TS), wX6_reads_25 Q n l1 l2 T → ∀ (H : Heap) (locs : List Loc) (ls : Array Slot), tB D A ad T H → va_S A s.heap H locs → lv_has ls 4 [(0, .ref (ad 0 0 0)), (1, .int l1), (2, .int l2)] → W p l e rX6_reads s m args below meth c H locs 0 0 (MQ below (va_Qi Q (fun u t => tB D A ad u t.heap) A) args s 0 0 A) (F0 m 25 ls []) := by
  have hx := F.1.x
  have hb := F.1.b
  intro n
  induction n with
  | zero => intro l1 l2 T hw; exact hw.elim
  | succ n ih =>
    intro l1 l2 T hw H locs ls hB hS hl
    unfold wX6_reads_25 at hw
    refine lv_iload_n hx hb dX6_reads_25 rfl (lv_at hl 2 rfl) ?_
    refine lv_aload_n hx hb dX6_reads_26 rfl (lv_at hl 0 rfl) ?_
    refine tg_5 F hB dX6_reads_27 ?_
    refine lv_iload_n hx hb dX6_reads_30 rfl (lv_at hl 1 rfl) ?_
    obtain ⟨hin, hw⟩ := hw
    refine t_ald F hB (k := 5) rfl hin dX6_reads_31 ?_
    refine lv_icmp_ge (tgt := 81) hx hb dX6_reads_32 (by decide) (fun q => ?_) (fun q => ?_)
    · replace hw := hw.1 q
      refine lv_ldc hx hb F.1.o (F.1.t _ q1504) dX6_reads_81 ?_
      exact W.iret hx hb F.1.r (fun t ht hW => ⟨⟨_, _, rfl, hw, x_B (Bw := tB D A ad) ht hB⟩, hS.F ht⟩) hS.2.2 dX6_reads_83 (hlocks := F.1.k)
    · replace hw := hw.2 q
      refine lv_aload_n hx hb dX6_reads_35 rfl (lv_at hl 0 rfl) ?_
      refine tg_6 F hB dX6_reads_36 ?_
      refine lv_bipush (v := 24) hx hb dX6_reads_39 (by decide) ?_
      refine lv_iload_n hx hb dX6_reads_41 rfl (lv_at hl 1 rfl) ?_
      refine lv_imul hx hb dX6_reads_42 ?_
      refine lv_iload_n hx hb dX6_reads_43 rfl (lv_at hl 2 rfl) ?_
      refine lv_iadd hx hb dX6_reads_44 ?_
      obtain ⟨hin, hw⟩ := hw
      refine t_ald F hB (k := 6) rfl hin dX6_reads_45 ?_
      refine lv_istore_n (lv' := [(3, .int (T.2 6 (((24 : Int32) * l1) + l2).toNatClampNeg)), (0, .ref (ad 0 0 0)), (1, .int l1), (2, .int l2)]) hx hb dX6_reads_46 rfl hl (by decide) rfl (fun ls hl => ?_)
      refine lv_iload_n hx hb dX6_reads_47 rfl (lv_at hl 0 rfl) ?_
      refine lv_ldc hx hb F.1.o (F.1.t _ q1504) dX6_reads_48 ?_
      refine lv_icmp_eq (tgt := 75) hx hb dX6_reads_50 (by decide) (fun q => ?_) (fun q => ?_)
      · replace hw := hw.1 q
        exact bX6_reads_75 F ih hB hS hw (lv_sub hl [1, 2, 3] rfl)
      · replace hw := hw.2 q
        refine lv_aload_n hx hb dX6_reads_53 rfl (lv_at hl 1 rfl) ?_
        refine lv_iload_n hx hb dX6_reads_54 rfl (lv_at hl 3 rfl) ?_
        refine kX6_X6_isDeed F hB hS hw ⟨Nat.le_of_ble_eq_true rfl, Nat.le_of_ble_eq_true rfl⟩ ⟨Nat.zero_le _, Nat.zero_le _⟩ hl.1 (Nat.le_of_ble_eq_true rfl) dX6_reads_55 (fun r1 T2 H locs hw hB hS => ?_)
        refine lv_if_eq (tgt := 73) hx hb dX6_reads_58 (by decide) (fun q => ?_) (fun q => ?_)
        · replace hw := hw.1 q
          refine lv_iload_n hx hb dX6_reads_73 rfl (lv_at hl 3 rfl) ?_
          exact W.iret hx hb F.1.r (fun t ht hW => ⟨⟨_, _, rfl, hw, x_B (Bw := tB D A ad) ht hB⟩, hS.F ht⟩) hS.2.2 dX6_reads_74 (hlocks := F.1.k)
        · replace hw := hw.2 q
          refine lv_iload_n hx hb dX6_reads_61 rfl (lv_at hl 0 rfl) ?_
          refine lv_aload_n hx hb dX6_reads_62 rfl (lv_at hl 1 rfl) ?_
          refine lv_iload_n hx hb dX6_reads_63 rfl (lv_at hl 3 rfl) ?_
          refine kX6_X6_left F hB hS hw ⟨Nat.le_of_ble_eq_true rfl, Nat.le_of_ble_eq_true rfl⟩ ⟨Nat.zero_le _, Nat.zero_le _⟩ hl.1 (Nat.le_of_ble_eq_true rfl) dX6_reads_64 (fun r3 T4 H locs hw hB hS => ?_)
          refine kX6_X6_ones F.1 hw ⟨Nat.le_of_ble_eq_true rfl, Nat.le_of_ble_eq_true rfl⟩ ⟨Nat.zero_le _, Nat.zero_le _⟩ hl.1 (Nat.le_of_ble_eq_true rfl) dX6_reads_67 (fun r5 hw => ?_)
          refine lv_icmp_eq (tgt := 75) hx hb dX6_reads_70 (by decide) (fun q => ?_) (fun q => ?_)
          · replace hw := hw.1 q
            exact bX6_reads_75 F ih hB hS hw (lv_sub hl [1, 2, 3] rfl)
          · replace hw := hw.2 q
            refine lv_iload_n hx hb dX6_reads_73 rfl (lv_at hl 3 rfl) ?_
            exact W.iret hx hb F.1.r (fun t ht hW => ⟨⟨_, _, rfl, hw, x_B (Bw := tB D A ad) ht hB⟩, hS.F ht⟩) hS.2.2 dX6_reads_74 (hlocks := F.1.k)
set_option maxHeartbeats 4000000 in
theorem bX6_reads_0 {p : Program} {l : Launch} {e : Env} {s : State} {m : MethodId} {args : Array Value} {below : List Frame} {meth : Method} {c : Code} {D : DD} {A : Nat → Prop} {s0 : State} {ad : AD} {Q : Int32 → TS → Prop} {a1 : Int32} {T : TS} {H : Heap} {locs : List Loc} {ls : Array Slot} (F : FX p l c cX6_reads s args m RX6 D A s0 4 meth (some .int)) (hB : tB D A ad T H) (hS : va_S A s.heap H locs) (hw : wX6_reads a1 T Q) (hl : lv_has ls 4 [(0, .ref (ad 0 0 0)), (1, .int a1)]) : W p l e rX6_reads s m args below meth c H locs 0 0 (MQ below (va_Qi Q (fun u t => tB D A ad u t.heap) A) args s 0 0 A) (F0 m 0 ls []) := by
  have hx := F.1.x
  have hb := F.1.b
  unfold wX6_reads at hw
  refine lv_iload_n hx hb dX6_reads_0 rfl (lv_at hl 1 rfl) ?_
  refine kX6_X6_isSheet F.1 hw ⟨Nat.le_of_ble_eq_true rfl, Nat.le_of_ble_eq_true rfl⟩ ⟨Nat.zero_le _, Nat.zero_le _⟩ hl.1 (Nat.le_of_ble_eq_true rfl) dX6_reads_1 (fun r1 hw => ?_)
  refine lv_if_ne (tgt := 10) hx hb dX6_reads_4 (by decide) (fun q => ?_) (fun q => ?_)
  · replace hw := hw.2 q
    refine lv_aload_n hx hb dX6_reads_10 rfl (lv_at hl 0 rfl) ?_
    refine tg_4 F hB dX6_reads_11 ?_
    refine lv_iload_n hx hb dX6_reads_14 rfl (lv_at hl 1 rfl) ?_
    obtain ⟨hin, hw⟩ := hw
    refine t_ald F hB (k := 4) rfl hin dX6_reads_15 ?_
    refine lv_if_ge (tgt := 23) hx hb dX6_reads_16 (by decide) (fun q => ?_) (fun q => ?_)
    · replace hw := hw.1 q
      refine lv_iconst (v := 0) hx hb dX6_reads_23 (by decide) ?_
      refine lv_istore_n (lv' := [(2, .int (0 : Int32)), (0, .ref (ad 0 0 0)), (1, .int a1)]) hx hb dX6_reads_24 rfl hl (by decide) rfl (fun ls hl => ?_)
      obtain ⟨f_25, hw⟩ := hw
      exact bX6_reads_25 F f_25 _ _ _ hw _ _ _ hB hS (lv_sub hl [1, 2, 0] rfl)
    · replace hw := hw.2 q
      refine lv_ldcw hx hb F.1.o (F.1.t _ q1649) dX6_reads_19 ?_
      exact W.iret hx hb F.1.r (fun t ht hW => ⟨⟨_, _, rfl, hw, x_B (Bw := tB D A ad) ht hB⟩, hS.F ht⟩) hS.2.2 dX6_reads_22 (hlocks := F.1.k)
  · replace hw := hw.1 q
    refine lv_ldc hx hb F.1.o (F.1.t _ q1326) dX6_reads_7 ?_
    exact W.iret hx hb F.1.r (fun t ht hW => ⟨⟨_, _, rfl, hw, x_B (Bw := tB D A ad) ht hB⟩, hS.F ht⟩) hS.2.2 dX6_reads_9 (hlocks := F.1.k)
set_option maxHeartbeats 4000000 in
theorem mX6_reads {l : Launch} {D : DD} {A : Nat → Prop} {s0 : State} {ad : AD} {T : TS} {a1 : Int32} {Q : Int32 → TS → Prop} (hw : wX6_reads a1 T Q) : Met l yX6_reads (ws_ yX6_reads cX6_reads 4 (some .int)) rX6_reads (va_Pc [.ref (ad 0 0 0), .int a1] (fun U => tB D A ad T U.heap ∧ CX l D A s0 U)) (va_Qi Q (fun u t => tB D A ad u t.heap) A) 0 0 A := by
  refine Met.ofW (cc := cX6_reads) (maxL := 4) (ret := some .int) (by decide) rfl ?_
  intro p e s m args below meth c s₁ B hml hv
  obtain ⟨rfl, hB, hC⟩ := hv
  have F : FX p l c cX6_reads s _ m RX6 D A s0 4 meth (some .int) := ⟨mk_FP B hml rfl, hC⟩
  have hS : va_S A s.heap s.heap [] := va_S.rf
  have hl := lv_entry ([.ref (ad 0 0 0), .int a1]) (n := 4) (Nat.le_of_ble_eq_true rfl)
  rw [lg_entry_eq]
  generalize (lg_sl ([.ref (ad 0 0 0), .int a1]) ++ List.replicate (4 - (lg_sl ([.ref (ad 0 0 0), .int a1])).length) Slot.unset).toArray = ls at hl ⊢
  exact bX6_reads_0 F hB hS hw hl
def rX6_rest : Room := { frames := 2, cells := 0, slots := 0, locals := 45 }
set_option maxHeartbeats 4000000 in
theorem bX6_rest_0 {p : Program} {l : Launch} {e : Env} {s : State} {m : MethodId} {args : Array Value} {below : List Frame} {meth : Method} {c : Code} {D : DD} {A : Nat → Prop} {s0 : State} {ad : AD} {Q : Int32 → TS → Prop} {a1 : Int32} {a2 : Int32} {T : TS} {H : Heap} {locs : List Loc} {ls : Array Slot} (F : FX p l c cX6_rest s args m RX6 D A s0 3 meth (some .int)) (hB : tB D A ad T H) (hS : va_S A s.heap H locs) (hw : wX6_rest a1 a2 T Q) (hl : lv_has ls 3 [(0, .ref (ad 0 0 0)), (1, .int a1), (2, .int a2)]) : W p l e rX6_rest s m args below meth c H locs 0 0 (MQ below (va_Qi Q (fun u t => tB D A ad u t.heap) A) args s 0 0 A) (F0 m 0 ls []) := by
  have hx := F.1.x
  have hb := F.1.b
  unfold wX6_rest at hw
  refine lv_iload_n hx hb dX6_rest_0 rfl (lv_at hl 1 rfl) ?_
  refine kX6_X6_isSlot F.1 hw ⟨Nat.le_of_ble_eq_true rfl, Nat.le_of_ble_eq_true rfl⟩ ⟨Nat.zero_le _, Nat.zero_le _⟩ hl.1 (Nat.le_of_ble_eq_true rfl) dX6_rest_1 (fun r1 hw => ?_)
  refine lv_if_ne (tgt := 10) hx hb dX6_rest_4 (by decide) (fun q => ?_) (fun q => ?_)
  · replace hw := hw.2 q
    refine lv_aload_n hx hb dX6_rest_10 rfl (lv_at hl 0 rfl) ?_
    refine tg_7 F hB dX6_rest_11 ?_
    refine lv_iload_n hx hb dX6_rest_14 rfl (lv_at hl 1 rfl) ?_
    obtain ⟨hin, hw⟩ := hw
    refine t_ald F hB (k := 7) rfl hin dX6_rest_15 ?_
    refine lv_iconst (v := 3) hx hb dX6_rest_16 (by decide) ?_
    refine lv_icmp_eq (tgt := 38) hx hb dX6_rest_17 (by decide) (fun q => ?_) (fun q => ?_)
    · replace hw := hw.1 q
      refine lv_iload_n hx hb dX6_rest_38 rfl (lv_at hl 2 rfl) ?_
      refine lv_if_ne (tgt := 47) hx hb dX6_rest_39 (by decide) (fun q => ?_) (fun q => ?_)
      · replace hw := hw.2 q
        refine lv_aload_n hx hb dX6_rest_47 rfl (lv_at hl 0 rfl) ?_
        refine tg_8 F hB dX6_rest_48 ?_
        refine lv_iload_n hx hb dX6_rest_51 rfl (lv_at hl 1 rfl) ?_
        obtain ⟨hin, hw⟩ := hw
        refine t_ald F hB (k := 8) rfl hin dX6_rest_52 ?_
        refine lv_iload_n hx hb dX6_rest_53 rfl (lv_at hl 2 rfl) ?_
        obtain ⟨hne, hw⟩ := hw
        refine lv_irem hx hb dX6_rest_54 hne ?_
        exact W.iret hx hb F.1.r (fun t ht hW => ⟨⟨_, _, rfl, hw, x_B (Bw := tB D A ad) ht hB⟩, hS.F ht⟩) hS.2.2 dX6_rest_55 (hlocks := F.1.k)
      · replace hw := hw.1 q
        refine lv_ldc hx hb F.1.o (F.1.t _ q1482) dX6_rest_42 ?_
        refine lv_goto (tgt := 55) hx hb dX6_rest_44 (by decide) ?_
        exact W.iret hx hb F.1.r (fun t ht hW => ⟨⟨_, _, rfl, hw, x_B (Bw := tB D A ad) ht hB⟩, hS.F ht⟩) hS.2.2 dX6_rest_55 (hlocks := F.1.k)
    · replace hw := hw.2 q
      refine lv_aload_n hx hb dX6_rest_20 rfl (lv_at hl 0 rfl) ?_
      refine tg_7 F hB dX6_rest_21 ?_
      refine lv_iload_n hx hb dX6_rest_24 rfl (lv_at hl 1 rfl) ?_
      obtain ⟨hin, hw⟩ := hw
      refine t_ald F hB (k := 7) rfl hin dX6_rest_25 ?_
      refine lv_if_ne (tgt := 35) hx hb dX6_rest_26 (by decide) (fun q => ?_) (fun q => ?_)
      · replace hw := hw.2 q
        refine lv_ldc hx hb F.1.o (F.1.t _ q1366) dX6_rest_35 ?_
        exact W.iret hx hb F.1.r (fun t ht hW => ⟨⟨_, _, rfl, hw, x_B (Bw := tB D A ad) ht hB⟩, hS.F ht⟩) hS.2.2 dX6_rest_37 (hlocks := F.1.k)
      · replace hw := hw.1 q
        refine lv_ldcw hx hb F.1.o (F.1.t _ q1649) dX6_rest_29 ?_
        refine lv_goto (tgt := 37) hx hb dX6_rest_32 (by decide) ?_
        exact W.iret hx hb F.1.r (fun t ht hW => ⟨⟨_, _, rfl, hw, x_B (Bw := tB D A ad) ht hB⟩, hS.F ht⟩) hS.2.2 dX6_rest_37 (hlocks := F.1.k)
  · replace hw := hw.1 q
    refine lv_ldc hx hb F.1.o (F.1.t _ q1326) dX6_rest_7 ?_
    exact W.iret hx hb F.1.r (fun t ht hW => ⟨⟨_, _, rfl, hw, x_B (Bw := tB D A ad) ht hB⟩, hS.F ht⟩) hS.2.2 dX6_rest_9 (hlocks := F.1.k)
set_option maxHeartbeats 4000000 in
theorem mX6_rest {l : Launch} {D : DD} {A : Nat → Prop} {s0 : State} {ad : AD} {T : TS} {a1 : Int32} {a2 : Int32} {Q : Int32 → TS → Prop} (hw : wX6_rest a1 a2 T Q) : Met l yX6_rest (ws_ yX6_rest cX6_rest 3 (some .int)) rX6_rest (va_Pc [.ref (ad 0 0 0), .int a1, .int a2] (fun U => tB D A ad T U.heap ∧ CX l D A s0 U)) (va_Qi Q (fun u t => tB D A ad u t.heap) A) 0 0 A := by
  refine Met.ofW (cc := cX6_rest) (maxL := 3) (ret := some .int) (by decide) rfl ?_
  intro p e s m args below meth c s₁ B hml hv
  obtain ⟨rfl, hB, hC⟩ := hv
  have F : FX p l c cX6_rest s _ m RX6 D A s0 3 meth (some .int) := ⟨mk_FP B hml rfl, hC⟩
  have hS : va_S A s.heap s.heap [] := va_S.rf
  have hl := lv_entry ([.ref (ad 0 0 0), .int a1, .int a2]) (n := 3) (Nat.le_of_ble_eq_true rfl)
  rw [lg_entry_eq]
  generalize (lg_sl ([.ref (ad 0 0 0), .int a1, .int a2]) ++ List.replicate (3 - (lg_sl ([.ref (ad 0 0 0), .int a1, .int a2])).length) Slot.unset).toArray = ls at hl ⊢
  exact bX6_rest_0 F hB hS hw hl
def rX6_rounds : Room := { frames := 6, cells := 0, slots := 0, locals := 142 }
set_option maxHeartbeats 4000000 in
theorem bX6_rounds_28 {p : Program} {l : Launch} {e : Env} {s : State} {m : MethodId} {args : Array Value} {below : List Frame} {meth : Method} {c : Code} {D : DD} {A : Nat → Prop} {s0 : State} {ad : AD} {Q : Int32 → TS → Prop} (F : FX p l c cX6_rounds s args m RX6 D A s0 5 meth (some .int)) : ∀ (n : Nat) (l1 : Int32) (l2 : Int32) (l3 : Int32) (l4 : Int32) (T : TS), wX6_rounds_28 Q n l1 l2 l3 l4 T → ∀ (H : Heap) (locs : List Loc) (ls : Array Slot), tB D A ad T H → va_S A s.heap H locs → lv_has ls 5 [(0, .ref (ad 0 0 0)), (1, .int l1), (2, .int l2), (3, .int l3), (4, .int l4)] → W p l e rX6_rounds s m args below meth c H locs 0 0 (MQ below (va_Qi Q (fun u t => tB D A ad u t.heap) A) args s 0 0 A) (F0 m 28 ls []) := by
  have hx := F.1.x
  have hb := F.1.b
  intro n
  induction n with
  | zero => intro l1 l2 l3 l4 T hw; exact hw.elim
  | succ n ih =>
    intro l1 l2 l3 l4 T hw H locs ls hB hS hl
    unfold wX6_rounds_28 at hw
    refine lv_iload hx hb dX6_rounds_28 (lv_at hl 4 rfl) ?_
    refine lv_iload_n hx hb dX6_rounds_30 rfl (lv_at hl 2 rfl) ?_
    refine lv_icmp_ge (tgt := 48) hx hb dX6_rounds_31 (by decide) (fun q => ?_) (fun q => ?_)
    · replace hw := hw.1 q
      refine lv_iload_n hx hb dX6_rounds_48 rfl (lv_at hl 3 rfl) ?_
      exact W.iret hx hb F.1.r (fun t ht hW => ⟨⟨_, _, rfl, hw, x_B (Bw := tB D A ad) ht hB⟩, hS.F ht⟩) hS.2.2 dX6_rounds_49 (hlocks := F.1.k)
    · replace hw := hw.2 q
      refine lv_iload_n hx hb dX6_rounds_34 rfl (lv_at hl 3 rfl) ?_
      refine lv_aload_n hx hb dX6_rounds_35 rfl (lv_at hl 0 rfl) ?_
      refine lv_iload_n hx hb dX6_rounds_36 rfl (lv_at hl 1 rfl) ?_
      refine kX6_X6_rounded F hB hS hw ⟨Nat.le_of_ble_eq_true rfl, Nat.le_of_ble_eq_true rfl⟩ ⟨Nat.zero_le _, Nat.zero_le _⟩ hl.1 (Nat.le_of_ble_eq_true rfl) dX6_rounds_37 (fun r1 T2 H locs hw hB hS => ?_)
      refine lv_iadd hx hb dX6_rounds_40 ?_
      refine lv_istore_n (lv' := [(3, .int (l3 + r1)), (0, .ref (ad 0 0 0)), (1, .int l1), (2, .int l2), (4, .int l4)]) hx hb dX6_rounds_41 rfl hl (by decide) rfl (fun ls hl => ?_)
      refine lv_iinc (v := l4 + (1 : Int32)) (lv' := [(4, .int (l4 + (1 : Int32))), (3, .int (l3 + r1)), (0, .ref (ad 0 0 0)), (1, .int l1), (2, .int l2)]) hx hb dX6_rounds_42 hl (k := 4) rfl (x_inc (by decide)) (by decide) rfl (fun ls hl => ?_)
      refine lv_goto (tgt := 28) hx hb dX6_rounds_45 (by decide) ?_
      exact ih _ _ _ _ _ hw _ _ _ hB hS (lv_sub hl [2, 3, 4, 1, 0] rfl)
set_option maxHeartbeats 4000000 in
theorem bX6_rounds_0 {p : Program} {l : Launch} {e : Env} {s : State} {m : MethodId} {args : Array Value} {below : List Frame} {meth : Method} {c : Code} {D : DD} {A : Nat → Prop} {s0 : State} {ad : AD} {Q : Int32 → TS → Prop} {a1 : Int32} {a2 : Int32} {T : TS} {H : Heap} {locs : List Loc} {ls : Array Slot} (F : FX p l c cX6_rounds s args m RX6 D A s0 5 meth (some .int)) (hB : tB D A ad T H) (hS : va_S A s.heap H locs) (hw : wX6_rounds a1 a2 T Q) (hl : lv_has ls 5 [(0, .ref (ad 0 0 0)), (1, .int a1), (2, .int a2)]) : W p l e rX6_rounds s m args below meth c H locs 0 0 (MQ below (va_Qi Q (fun u t => tB D A ad u t.heap) A) args s 0 0 A) (F0 m 0 ls []) := by
  have hx := F.1.x
  have hb := F.1.b
  unfold wX6_rounds at hw
  refine lv_aload_n hx hb dX6_rounds_0 rfl (lv_at hl 0 rfl) ?_
  refine lv_iload_n hx hb dX6_rounds_1 rfl (lv_at hl 1 rfl) ?_
  refine kX6_X6_isDeed F hB hS hw ⟨Nat.le_of_ble_eq_true rfl, Nat.le_of_ble_eq_true rfl⟩ ⟨Nat.zero_le _, Nat.zero_le _⟩ hl.1 (Nat.le_of_ble_eq_true rfl) dX6_rounds_2 (fun r1 T2 H locs hw hB hS => ?_)
  refine lv_if_eq (tgt := 20) hx hb dX6_rounds_5 (by decide) (fun q => ?_) (fun q => ?_)
  · replace hw := hw.1 q
    refine lv_ldc hx hb F.1.o (F.1.t _ q1326) dX6_rounds_20 ?_
    exact W.iret hx hb F.1.r (fun t ht hW => ⟨⟨_, _, rfl, hw, x_B (Bw := tB D A ad) ht hB⟩, hS.F ht⟩) hS.2.2 dX6_rounds_22 (hlocks := F.1.k)
  · replace hw := hw.2 q
    refine lv_iload_n hx hb dX6_rounds_8 rfl (lv_at hl 2 rfl) ?_
    refine lv_i2l hx hb dX6_rounds_9 rfl ?_
    refine lv_lconst (v := 1) hx hb dX6_rounds_10 (by decide) ?_
    refine lv_ldc2 hx hb F.1.o (F.1.t _ q1509) dX6_rounds_11 ?_
    refine kX6_X6_isIn F.1 hw ⟨Nat.le_of_ble_eq_true rfl, Nat.le_of_ble_eq_true rfl⟩ ⟨Nat.zero_le _, Nat.zero_le _⟩ hl.1 (Nat.le_of_ble_eq_true rfl) dX6_rounds_14 (fun r3 hw => ?_)
    refine lv_if_ne (tgt := 23) hx hb dX6_rounds_17 (by decide) (fun q => ?_) (fun q => ?_)
    · replace hw := hw.2 q
      refine lv_iconst (v := 0) hx hb dX6_rounds_23 (by decide) ?_
      refine lv_istore_n (lv' := [(3, .int (0 : Int32)), (0, .ref (ad 0 0 0)), (1, .int a1), (2, .int a2)]) hx hb dX6_rounds_24 rfl hl (by decide) rfl (fun ls hl => ?_)
      refine lv_iconst (v := 0) hx hb dX6_rounds_25 (by decide) ?_
      refine lv_istore (lv' := [(4, .int (0 : Int32)), (3, .int (0 : Int32)), (0, .ref (ad 0 0 0)), (1, .int a1), (2, .int a2)]) hx hb dX6_rounds_26 hl (by decide) rfl (fun ls hl => ?_)
      obtain ⟨f_28, hw⟩ := hw
      exact bX6_rounds_28 F f_28 _ _ _ _ _ hw _ _ _ hB hS (lv_sub hl [2, 3, 4, 1, 0] rfl)
    · replace hw := hw.1 q
      refine lv_ldc hx hb F.1.o (F.1.t _ q1326) dX6_rounds_20 ?_
      exact W.iret hx hb F.1.r (fun t ht hW => ⟨⟨_, _, rfl, hw, x_B (Bw := tB D A ad) ht hB⟩, hS.F ht⟩) hS.2.2 dX6_rounds_22 (hlocks := F.1.k)
set_option maxHeartbeats 4000000 in
theorem mX6_rounds {l : Launch} {D : DD} {A : Nat → Prop} {s0 : State} {ad : AD} {T : TS} {a1 : Int32} {a2 : Int32} {Q : Int32 → TS → Prop} (hw : wX6_rounds a1 a2 T Q) : Met l yX6_rounds (ws_ yX6_rounds cX6_rounds 5 (some .int)) rX6_rounds (va_Pc [.ref (ad 0 0 0), .int a1, .int a2] (fun U => tB D A ad T U.heap ∧ CX l D A s0 U)) (va_Qi Q (fun u t => tB D A ad u t.heap) A) 0 0 A := by
  refine Met.ofW (cc := cX6_rounds) (maxL := 5) (ret := some .int) (by decide) rfl ?_
  intro p e s m args below meth c s₁ B hml hv
  obtain ⟨rfl, hB, hC⟩ := hv
  have F : FX p l c cX6_rounds s _ m RX6 D A s0 5 meth (some .int) := ⟨mk_FP B hml rfl, hC⟩
  have hS : va_S A s.heap s.heap [] := va_S.rf
  have hl := lv_entry ([.ref (ad 0 0 0), .int a1, .int a2]) (n := 5) (Nat.le_of_ble_eq_true rfl)
  rw [lg_entry_eq]
  generalize (lg_sl ([.ref (ad 0 0 0), .int a1, .int a2]) ++ List.replicate (5 - (lg_sl ([.ref (ad 0 0 0), .int a1, .int a2])).length) Slot.unset).toArray = ls at hl ⊢
  exact bX6_rounds_0 F hB hS hw hl
def rX6_say : Room := { frames := 4, cells := 0, slots := 0, locals := 91 }
set_option maxHeartbeats 4000000 in
theorem bX6_say_0 {p : Program} {l : Launch} {e : Env} {s : State} {m : MethodId} {args : Array Value} {below : List Frame} {meth : Method} {c : Code} {D : DD} {A : Nat → Prop} {s0 : State} {ad : AD} {Q : Int32 → TS → Prop} {a1 : Int32} {a2 : Int32} {a3 : Int32} {T : TS} {H : Heap} {locs : List Loc} {ls : Array Slot} (F : FX p l c cX6_say s args m RX6 D A s0 4 meth (some .int)) (hB : tB D A ad T H) (hS : va_S A s.heap H locs) (hw : wX6_say a1 a2 a3 T Q) (hl : lv_has ls 4 [(0, .ref (ad 0 0 0)), (1, .int a1), (2, .int a2), (3, .int a3)]) : W p l e rX6_say s m args below meth c H locs 0 0 (MQ below (va_Qi Q (fun u t => tB D A ad u t.heap) A) args s 0 0 A) (F0 m 0 ls []) := by
  have hx := F.1.x
  have hb := F.1.b
  unfold wX6_say at hw
  refine lv_aload_n hx hb dX6_say_0 rfl (lv_at hl 0 rfl) ?_
  refine lv_iload_n hx hb dX6_say_1 rfl (lv_at hl 1 rfl) ?_
  refine kX6_X6_isPerson F hB hS hw ⟨Nat.le_of_ble_eq_true rfl, Nat.le_of_ble_eq_true rfl⟩ ⟨Nat.zero_le _, Nat.zero_le _⟩ hl.1 (Nat.le_of_ble_eq_true rfl) dX6_say_2 (fun r1 T2 H locs hw hB hS => ?_)
  refine lv_if_eq (tgt := 24) hx hb dX6_say_5 (by decide) (fun q => ?_) (fun q => ?_)
  · replace hw := hw.1 q
    refine lv_ldc hx hb F.1.o (F.1.t _ q1326) dX6_say_24 ?_
    exact W.iret hx hb F.1.r (fun t ht hW => ⟨⟨_, _, rfl, hw, x_B (Bw := tB D A ad) ht hB⟩, hS.F ht⟩) hS.2.2 dX6_say_26 (hlocks := F.1.k)
  · replace hw := hw.2 q
    refine lv_aload_n hx hb dX6_say_8 rfl (lv_at hl 0 rfl) ?_
    refine lv_iload_n hx hb dX6_say_9 rfl (lv_at hl 2 rfl) ?_
    refine kX6_X6_isDeed F hB hS hw ⟨Nat.le_of_ble_eq_true rfl, Nat.le_of_ble_eq_true rfl⟩ ⟨Nat.zero_le _, Nat.zero_le _⟩ hl.1 (Nat.le_of_ble_eq_true rfl) dX6_say_10 (fun r3 T4 H locs hw hB hS => ?_)
    refine lv_if_eq (tgt := 24) hx hb dX6_say_13 (by decide) (fun q => ?_) (fun q => ?_)
    · replace hw := hw.1 q
      refine lv_ldc hx hb F.1.o (F.1.t _ q1326) dX6_say_24 ?_
      exact W.iret hx hb F.1.r (fun t ht hW => ⟨⟨_, _, rfl, hw, x_B (Bw := tB D A ad) ht hB⟩, hS.F ht⟩) hS.2.2 dX6_say_26 (hlocks := F.1.k)
    · replace hw := hw.2 q
      refine lv_aload_n hx hb dX6_say_16 rfl (lv_at hl 0 rfl) ?_
      refine lv_iload_n hx hb dX6_say_17 rfl (lv_at hl 3 rfl) ?_
      refine kX6_X6_isPerson F hB hS hw ⟨Nat.le_of_ble_eq_true rfl, Nat.le_of_ble_eq_true rfl⟩ ⟨Nat.zero_le _, Nat.zero_le _⟩ hl.1 (Nat.le_of_ble_eq_true rfl) dX6_say_18 (fun r5 T6 H locs hw hB hS => ?_)
      refine lv_if_ne (tgt := 27) hx hb dX6_say_21 (by decide) (fun q => ?_) (fun q => ?_)
      · replace hw := hw.2 q
        refine lv_aload_n hx hb dX6_say_27 rfl (lv_at hl 0 rfl) ?_
        refine lv_iload_n hx hb dX6_say_28 rfl (lv_at hl 1 rfl) ?_
        refine lv_iload_n hx hb dX6_say_29 rfl (lv_at hl 2 rfl) ?_
        refine lv_iload_n hx hb dX6_say_30 rfl (lv_at hl 3 rfl) ?_
        refine kX6_X6_mayBe F hB hS hw ⟨Nat.le_of_ble_eq_true rfl, Nat.le_of_ble_eq_true rfl⟩ ⟨Nat.zero_le _, Nat.zero_le _⟩ hl.1 (Nat.le_of_ble_eq_true rfl) dX6_say_31 (fun r7 T8 H locs hw hB hS => ?_)
        refine lv_if_ne (tgt := 40) hx hb dX6_say_34 (by decide) (fun q => ?_) (fun q => ?_)
        · replace hw := hw.2 q
          refine lv_aload_n hx hb dX6_say_40 rfl (lv_at hl 0 rfl) ?_
          refine lv_iload_n hx hb dX6_say_41 rfl (lv_at hl 2 rfl) ?_
          refine lv_iload_n hx hb dX6_say_42 rfl (lv_at hl 3 rfl) ?_
          refine kX6_X6_says F hB hS hw ⟨Nat.le_of_ble_eq_true rfl, Nat.le_of_ble_eq_true rfl⟩ ⟨Nat.zero_le _, Nat.zero_le _⟩ hl.1 (Nat.le_of_ble_eq_true rfl) dX6_say_43 (fun T10 H locs hw hB hS => ?_)
          refine lv_aload_n hx hb dX6_say_46 rfl (lv_at hl 0 rfl) ?_
          refine lv_iload_n hx hb dX6_say_47 rfl (lv_at hl 2 rfl) ?_
          refine kX6_X6_left F hB hS hw ⟨Nat.le_of_ble_eq_true rfl, Nat.le_of_ble_eq_true rfl⟩ ⟨Nat.zero_le _, Nat.zero_le _⟩ hl.1 (Nat.le_of_ble_eq_true rfl) dX6_say_48 (fun r11 T12 H locs hw hB hS => ?_)
          refine kX6_X6_ones F.1 hw ⟨Nat.le_of_ble_eq_true rfl, Nat.le_of_ble_eq_true rfl⟩ ⟨Nat.zero_le _, Nat.zero_le _⟩ hl.1 (Nat.le_of_ble_eq_true rfl) dX6_say_51 (fun r13 hw => ?_)
          exact W.iret hx hb F.1.r (fun t ht hW => ⟨⟨_, _, rfl, hw, x_B (Bw := tB D A ad) ht hB⟩, hS.F ht⟩) hS.2.2 dX6_say_54 (hlocks := F.1.k)
        · replace hw := hw.1 q
          refine lv_ldc hx hb F.1.o (F.1.t _ q1482) dX6_say_37 ?_
          exact W.iret hx hb F.1.r (fun t ht hW => ⟨⟨_, _, rfl, hw, x_B (Bw := tB D A ad) ht hB⟩, hS.F ht⟩) hS.2.2 dX6_say_39 (hlocks := F.1.k)
      · replace hw := hw.1 q
        refine lv_ldc hx hb F.1.o (F.1.t _ q1326) dX6_say_24 ?_
        exact W.iret hx hb F.1.r (fun t ht hW => ⟨⟨_, _, rfl, hw, x_B (Bw := tB D A ad) ht hB⟩, hS.F ht⟩) hS.2.2 dX6_say_26 (hlocks := F.1.k)
set_option maxHeartbeats 4000000 in
theorem mX6_say {l : Launch} {D : DD} {A : Nat → Prop} {s0 : State} {ad : AD} {T : TS} {a1 : Int32} {a2 : Int32} {a3 : Int32} {Q : Int32 → TS → Prop} (hw : wX6_say a1 a2 a3 T Q) : Met l yX6_say (ws_ yX6_say cX6_say 4 (some .int)) rX6_say (va_Pc [.ref (ad 0 0 0), .int a1, .int a2, .int a3] (fun U => tB D A ad T U.heap ∧ CX l D A s0 U)) (va_Qi Q (fun u t => tB D A ad u t.heap) A) 0 0 A := by
  refine Met.ofW (cc := cX6_say) (maxL := 4) (ret := some .int) (by decide) rfl ?_
  intro p e s m args below meth c s₁ B hml hv
  obtain ⟨rfl, hB, hC⟩ := hv
  have F : FX p l c cX6_say s _ m RX6 D A s0 4 meth (some .int) := ⟨mk_FP B hml rfl, hC⟩
  have hS : va_S A s.heap s.heap [] := va_S.rf
  have hl := lv_entry ([.ref (ad 0 0 0), .int a1, .int a2, .int a3]) (n := 4) (Nat.le_of_ble_eq_true rfl)
  rw [lg_entry_eq]
  generalize (lg_sl ([.ref (ad 0 0 0), .int a1, .int a2, .int a3]) ++ List.replicate (4 - (lg_sl ([.ref (ad 0 0 0), .int a1, .int a2, .int a3])).length) Slot.unset).toArray = ls at hl ⊢
  exact bX6_say_0 F hB hS hw hl
def rX6_seed : Room := { frames := 1, cells := 0, slots := 0, locals := 23 }
set_option maxHeartbeats 4000000 in
theorem bX6_seed_0 {p : Program} {l : Launch} {e : Env} {s : State} {m : MethodId} {args : Array Value} {below : List Frame} {meth : Method} {c : Code} {D : DD} {A : Nat → Prop} {s0 : State} {ad : AD} {Q : Int32 → TS → Prop} {a1 : Int32} {T : TS} {H : Heap} {locs : List Loc} {ls : Array Slot} (F : FX p l c cX6_seed s args m RX6 D A s0 2 meth (some .int)) (hB : tB D A ad T H) (hS : va_S A s.heap H locs) (hw : wX6_seed a1 T Q) (hl : lv_has ls 2 [(0, .ref (ad 0 0 0)), (1, .int a1)]) : W p l e rX6_seed s m args below meth c H locs 0 0 (MQ below (va_Qi Q (fun u t => tB D A ad u t.heap) A) args s 0 0 A) (F0 m 0 ls []) := by
  have hx := F.1.x
  have hb := F.1.b
  unfold wX6_seed at hw
  refine lv_aload_n hx hb dX6_seed_0 rfl (lv_at hl 0 rfl) ?_
  refine lv_iconst (v := 4) hx hb dX6_seed_1 (by decide) ?_
  refine lv_iload_n hx hb dX6_seed_2 rfl (lv_at hl 1 rfl) ?_
  refine kX6_X6_becomes F hB hS hw ⟨Nat.le_of_ble_eq_true rfl, Nat.le_of_ble_eq_true rfl⟩ ⟨Nat.zero_le _, Nat.zero_le _⟩ hl.1 (Nat.le_of_ble_eq_true rfl) dX6_seed_3 (fun r1 T2 H locs hw hB hS => ?_)
  exact W.iret hx hb F.1.r (fun t ht hW => ⟨⟨_, _, rfl, hw, x_B (Bw := tB D A ad) ht hB⟩, hS.F ht⟩) hS.2.2 dX6_seed_6 (hlocks := F.1.k)
set_option maxHeartbeats 4000000 in
theorem mX6_seed {l : Launch} {D : DD} {A : Nat → Prop} {s0 : State} {ad : AD} {T : TS} {a1 : Int32} {Q : Int32 → TS → Prop} (hw : wX6_seed a1 T Q) : Met l yX6_seed (ws_ yX6_seed cX6_seed 2 (some .int)) rX6_seed (va_Pc [.ref (ad 0 0 0), .int a1] (fun U => tB D A ad T U.heap ∧ CX l D A s0 U)) (va_Qi Q (fun u t => tB D A ad u t.heap) A) 0 0 A := by
  refine Met.ofW (cc := cX6_seed) (maxL := 2) (ret := some .int) (by decide) rfl ?_
  intro p e s m args below meth c s₁ B hml hv
  obtain ⟨rfl, hB, hC⟩ := hv
  have F : FX p l c cX6_seed s _ m RX6 D A s0 2 meth (some .int) := ⟨mk_FP B hml rfl, hC⟩
  have hS : va_S A s.heap s.heap [] := va_S.rf
  have hl := lv_entry ([.ref (ad 0 0 0), .int a1]) (n := 2) (Nat.le_of_ble_eq_true rfl)
  rw [lg_entry_eq]
  generalize (lg_sl ([.ref (ad 0 0 0), .int a1]) ++ List.replicate (2 - (lg_sl ([.ref (ad 0 0 0), .int a1])).length) Slot.unset).toArray = ls at hl ⊢
  exact bX6_seed_0 F hB hS hw hl
def rX6_sheet : Room := { frames := 2, cells := 0, slots := 0, locals := 45 }
set_option maxHeartbeats 4000000 in
theorem bX6_sheet_69 {p : Program} {l : Launch} {e : Env} {s : State} {m : MethodId} {args : Array Value} {below : List Frame} {meth : Method} {c : Code} {D : DD} {A : Nat → Prop} {s0 : State} {ad : AD} {Q : Int32 → TS → Prop} (F : FX p l c cX6_sheet s args m RX6 D A s0 5 meth (some .int)) : ∀ (n : Nat) (l1 : Int32) (l4 : Int32) (T : TS), wX6_sheet_69 Q n l1 l4 T → ∀ (H : Heap) (locs : List Loc) (ls : Array Slot), tB D A ad T H → va_S A s.heap H locs → lv_has ls 5 [(0, .ref (ad 0 0 0)), (1, .int l1), (4, .int l4)] → W p l e rX6_sheet s m args below meth c H locs 0 0 (MQ below (va_Qi Q (fun u t => tB D A ad u t.heap) A) args s 0 0 A) (F0 m 69 ls []) := by
  have hx := F.1.x
  have hb := F.1.b
  intro n
  induction n with
  | zero => intro l1 l4 T hw; exact hw.elim
  | succ n ih =>
    intro l1 l4 T hw H locs ls hB hS hl
    unfold wX6_sheet_69 at hw
    refine lv_iload hx hb dX6_sheet_69 (lv_at hl 2 rfl) ?_
    refine lv_bipush (v := 24) hx hb dX6_sheet_71 (by decide) ?_
    refine lv_icmp_ge (tgt := 95) hx hb dX6_sheet_73 (by decide) (fun q => ?_) (fun q => ?_)
    · replace hw := hw.1 q
      refine lv_aload_n hx hb dX6_sheet_95 rfl (lv_at hl 0 rfl) ?_
      refine tg_5 F hB dX6_sheet_96 ?_
      refine lv_iload_n hx hb dX6_sheet_99 rfl (lv_at hl 1 rfl) ?_
      obtain ⟨hin, hw⟩ := hw
      refine t_ald F hB (k := 5) rfl hin dX6_sheet_100 ?_
      exact W.iret hx hb F.1.r (fun t ht hW => ⟨⟨_, _, rfl, hw, x_B (Bw := tB D A ad) ht hB⟩, hS.F ht⟩) hS.2.2 dX6_sheet_101 (hlocks := F.1.k)
    · replace hw := hw.2 q
      refine lv_aload_n hx hb dX6_sheet_76 rfl (lv_at hl 0 rfl) ?_
      refine tg_6 F hB dX6_sheet_77 ?_
      refine lv_bipush (v := 24) hx hb dX6_sheet_80 (by decide) ?_
      refine lv_iload_n hx hb dX6_sheet_82 rfl (lv_at hl 1 rfl) ?_
      refine lv_imul hx hb dX6_sheet_83 ?_
      refine lv_iload hx hb dX6_sheet_84 (lv_at hl 2 rfl) ?_
      refine lv_iadd hx hb dX6_sheet_86 ?_
      refine lv_iconst (v := 0) hx hb dX6_sheet_87 (by decide) ?_
      obtain ⟨hin, hw⟩ := hw
      refine t_ast F hB hS (k := 6) rfl hin dX6_sheet_88 (fun H locs hB hS => ?_)
      refine lv_iinc (v := l4 + (1 : Int32)) (lv' := [(4, .int (l4 + (1 : Int32))), (0, .ref (ad 0 0 0)), (1, .int l1)]) hx hb dX6_sheet_89 hl (k := 2) rfl (x_inc (by decide)) (by decide) rfl (fun ls hl => ?_)
      refine lv_goto (tgt := 69) hx hb dX6_sheet_92 (by decide) ?_
      exact ih _ _ _ hw _ _ _ hB hS (lv_sub hl [1, 2, 0] rfl)
set_option maxHeartbeats 4000000 in
theorem bX6_sheet_65 {p : Program} {l : Launch} {e : Env} {s : State} {m : MethodId} {args : Array Value} {below : List Frame} {meth : Method} {c : Code} {D : DD} {A : Nat → Prop} {s0 : State} {ad : AD} {Q : Int32 → TS → Prop} {l1 : Int32} {k0 : Int32} {k1 : Int32} {T : TS} {H : Heap} {locs : List Loc} {ls : Array Slot} (F : FX p l c cX6_sheet s args m RX6 D A s0 5 meth (some .int)) (hB : tB D A ad T H) (hS : va_S A s.heap H locs) (hw : wX6_sheet_65 l1 k0 k1 T Q) (hl : lv_has ls 5 [(0, .ref (ad 0 0 0)), (1, .int l1)]) : W p l e rX6_sheet s m args below meth c H locs 0 0 (MQ below (va_Qi Q (fun u t => tB D A ad u t.heap) A) args s 0 0 A) (F0 m 65 ls [.int k0, .int k1, .ref (ad 1 5 0)]) := by
  have hx := F.1.x
  have hb := F.1.b
  unfold wX6_sheet_65 at hw
  obtain ⟨hin, hw⟩ := hw
  refine t_ast F hB hS (k := 5) rfl hin dX6_sheet_65 (fun H locs hB hS => ?_)
  refine lv_iconst (v := 0) hx hb dX6_sheet_66 (by decide) ?_
  refine lv_istore (lv' := [(4, .int (0 : Int32)), (0, .ref (ad 0 0 0)), (1, .int l1)]) hx hb dX6_sheet_67 hl (by decide) rfl (fun ls hl => ?_)
  obtain ⟨f_69, hw⟩ := hw
  exact bX6_sheet_69 F f_69 _ _ _ hw _ _ _ hB hS (lv_sub hl [1, 2, 0] rfl)
set_option maxHeartbeats 4000000 in
theorem bX6_sheet_44 {p : Program} {l : Launch} {e : Env} {s : State} {m : MethodId} {args : Array Value} {below : List Frame} {meth : Method} {c : Code} {D : DD} {A : Nat → Prop} {s0 : State} {ad : AD} {Q : Int32 → TS → Prop} {l1 : Int32} {l2 : Int32} {l3 : Int32} {T : TS} {H : Heap} {locs : List Loc} {ls : Array Slot} (F : FX p l c cX6_sheet s args m RX6 D A s0 5 meth (some .int)) (hB : tB D A ad T H) (hS : va_S A s.heap H locs) (hw : wX6_sheet_44 l1 l2 l3 T Q) (hl : lv_has ls 5 [(0, .ref (ad 0 0 0)), (1, .int l1), (2, .int l2), (3, .int l3)]) : W p l e rX6_sheet s m args below meth c H locs 0 0 (MQ below (va_Qi Q (fun u t => tB D A ad u t.heap) A) args s 0 0 A) (F0 m 44 ls []) := by
  have hx := F.1.x
  have hb := F.1.b
  unfold wX6_sheet_44 at hw
  refine lv_aload_n hx hb dX6_sheet_44 rfl (lv_at hl 0 rfl) ?_
  refine tg_4 F hB dX6_sheet_45 ?_
  refine lv_iload_n hx hb dX6_sheet_48 rfl (lv_at hl 1 rfl) ?_
  refine lv_iload_n hx hb dX6_sheet_49 rfl (lv_at hl 2 rfl) ?_
  obtain ⟨hin, hw⟩ := hw
  refine t_ast F hB hS (k := 4) rfl hin dX6_sheet_50 (fun H locs hB hS => ?_)
  refine lv_aload_n hx hb dX6_sheet_51 rfl (lv_at hl 0 rfl) ?_
  refine tg_5 F hB dX6_sheet_52 ?_
  refine lv_iload_n hx hb dX6_sheet_55 rfl (lv_at hl 1 rfl) ?_
  refine lv_iload_n hx hb dX6_sheet_56 rfl (lv_at hl 2 rfl) ?_
  refine lv_if_ge (tgt := 64) hx hb dX6_sheet_57 (by decide) (fun q => ?_) (fun q => ?_)
  · replace hw := hw.1 q
    refine lv_iload_n hx hb dX6_sheet_64 rfl (lv_at hl 3 rfl) ?_
    exact bX6_sheet_65 F hB hS hw (lv_sub hl [0, 1] rfl)
  · replace hw := hw.2 q
    refine lv_iconst (v := 0) hx hb dX6_sheet_60 (by decide) ?_
    refine lv_goto (tgt := 65) hx hb dX6_sheet_61 (by decide) ?_
    exact bX6_sheet_65 F hB hS hw (lv_sub hl [0, 1] rfl)
set_option maxHeartbeats 4000000 in
theorem bX6_sheet_32 {p : Program} {l : Launch} {e : Env} {s : State} {m : MethodId} {args : Array Value} {below : List Frame} {meth : Method} {c : Code} {D : DD} {A : Nat → Prop} {s0 : State} {ad : AD} {Q : Int32 → TS → Prop} {l1 : Int32} {l2 : Int32} {l3 : Int32} {T : TS} {H : Heap} {locs : List Loc} {ls : Array Slot} (F : FX p l c cX6_sheet s args m RX6 D A s0 5 meth (some .int)) (hB : tB D A ad T H) (hS : va_S A s.heap H locs) (hw : wX6_sheet_32 l1 l2 l3 T Q) (hl : lv_has ls 5 [(0, .ref (ad 0 0 0)), (1, .int l1), (2, .int l2), (3, .int l3)]) : W p l e rX6_sheet s m args below meth c H locs 0 0 (MQ below (va_Qi Q (fun u t => tB D A ad u t.heap) A) args s 0 0 A) (F0 m 32 ls []) := by
  have hx := F.1.x
  have hb := F.1.b
  unfold wX6_sheet_32 at hw
  refine lv_iload_n hx hb dX6_sheet_32 rfl (lv_at hl 2 rfl) ?_
  refine lv_if_lt (tgt := 44) hx hb dX6_sheet_33 (by decide) (fun q => ?_) (fun q => ?_)
  · replace hw := hw.1 q
    exact bX6_sheet_44 F hB hS hw hl
  · replace hw := hw.2 q
    refine lv_iload_n hx hb dX6_sheet_36 rfl (lv_at hl 3 rfl) ?_
    refine lv_if_ge (tgt := 44) hx hb dX6_sheet_37 (by decide) (fun q => ?_) (fun q => ?_)
    · replace hw := hw.1 q
      exact bX6_sheet_44 F hB hS hw hl
    · replace hw := hw.2 q
      refine lv_ldcw hx hb F.1.o (F.1.t _ q1644) dX6_sheet_40 ?_
      exact W.iret hx hb F.1.r (fun t ht hW => ⟨⟨_, _, rfl, hw, x_B (Bw := tB D A ad) ht hB⟩, hS.F ht⟩) hS.2.2 dX6_sheet_43 (hlocks := F.1.k)
set_option maxHeartbeats 4000000 in
theorem bX6_sheet_0 {p : Program} {l : Launch} {e : Env} {s : State} {m : MethodId} {args : Array Value} {below : List Frame} {meth : Method} {c : Code} {D : DD} {A : Nat → Prop} {s0 : State} {ad : AD} {Q : Int32 → TS → Prop} {a1 : Int32} {a2 : Int32} {a3 : Int32} {T : TS} {H : Heap} {locs : List Loc} {ls : Array Slot} (F : FX p l c cX6_sheet s args m RX6 D A s0 5 meth (some .int)) (hB : tB D A ad T H) (hS : va_S A s.heap H locs) (hw : wX6_sheet a1 a2 a3 T Q) (hl : lv_has ls 5 [(0, .ref (ad 0 0 0)), (1, .int a1), (2, .int a2), (3, .int a3)]) : W p l e rX6_sheet s m args below meth c H locs 0 0 (MQ below (va_Qi Q (fun u t => tB D A ad u t.heap) A) args s 0 0 A) (F0 m 0 ls []) := by
  have hx := F.1.x
  have hb := F.1.b
  unfold wX6_sheet at hw
  refine lv_iload_n hx hb dX6_sheet_0 rfl (lv_at hl 1 rfl) ?_
  refine kX6_X6_isSheet F.1 hw ⟨Nat.le_of_ble_eq_true rfl, Nat.le_of_ble_eq_true rfl⟩ ⟨Nat.zero_le _, Nat.zero_le _⟩ hl.1 (Nat.le_of_ble_eq_true rfl) dX6_sheet_1 (fun r1 hw => ?_)
  refine lv_if_eq (tgt := 29) hx hb dX6_sheet_4 (by decide) (fun q => ?_) (fun q => ?_)
  · replace hw := hw.1 q
    refine lv_ldc hx hb F.1.o (F.1.t _ q1326) dX6_sheet_29 ?_
    exact W.iret hx hb F.1.r (fun t ht hW => ⟨⟨_, _, rfl, hw, x_B (Bw := tB D A ad) ht hB⟩, hS.F ht⟩) hS.2.2 dX6_sheet_31 (hlocks := F.1.k)
  · replace hw := hw.2 q
    refine lv_iload_n hx hb dX6_sheet_7 rfl (lv_at hl 2 rfl) ?_
    refine lv_i2l hx hb dX6_sheet_8 rfl ?_
    refine lv_ldc2 hx hb F.1.o (F.1.t _ q1643) dX6_sheet_9 ?_
    refine lv_lconst (v := 1) hx hb dX6_sheet_12 (by decide) ?_
    refine kX6_X6_isIn F.1 hw ⟨Nat.le_of_ble_eq_true rfl, Nat.le_of_ble_eq_true rfl⟩ ⟨Nat.zero_le _, Nat.zero_le _⟩ hl.1 (Nat.le_of_ble_eq_true rfl) dX6_sheet_13 (fun r2 hw => ?_)
    refine lv_if_eq (tgt := 29) hx hb dX6_sheet_16 (by decide) (fun q => ?_) (fun q => ?_)
    · replace hw := hw.1 q
      refine lv_ldc hx hb F.1.o (F.1.t _ q1326) dX6_sheet_29 ?_
      exact W.iret hx hb F.1.r (fun t ht hW => ⟨⟨_, _, rfl, hw, x_B (Bw := tB D A ad) ht hB⟩, hS.F ht⟩) hS.2.2 dX6_sheet_31 (hlocks := F.1.k)
    · replace hw := hw.2 q
      refine lv_iload_n hx hb dX6_sheet_19 rfl (lv_at hl 2 rfl) ?_
      refine lv_if_lt (tgt := 32) hx hb dX6_sheet_20 (by decide) (fun q => ?_) (fun q => ?_)
      · replace hw := hw.1 q
        exact bX6_sheet_32 F hB hS hw hl
      · replace hw := hw.2 q
        refine lv_iload_n hx hb dX6_sheet_23 rfl (lv_at hl 3 rfl) ?_
        refine lv_bipush (v := 24) hx hb dX6_sheet_24 (by decide) ?_
        refine lv_icmp_le (tgt := 32) hx hb dX6_sheet_26 (by decide) (fun q => ?_) (fun q => ?_)
        · replace hw := hw.1 q
          exact bX6_sheet_32 F hB hS hw hl
        · replace hw := hw.2 q
          refine lv_ldc hx hb F.1.o (F.1.t _ q1326) dX6_sheet_29 ?_
          exact W.iret hx hb F.1.r (fun t ht hW => ⟨⟨_, _, rfl, hw, x_B (Bw := tB D A ad) ht hB⟩, hS.F ht⟩) hS.2.2 dX6_sheet_31 (hlocks := F.1.k)
set_option maxHeartbeats 4000000 in
theorem mX6_sheet {l : Launch} {D : DD} {A : Nat → Prop} {s0 : State} {ad : AD} {T : TS} {a1 : Int32} {a2 : Int32} {a3 : Int32} {Q : Int32 → TS → Prop} (hw : wX6_sheet a1 a2 a3 T Q) : Met l yX6_sheet (ws_ yX6_sheet cX6_sheet 5 (some .int)) rX6_sheet (va_Pc [.ref (ad 0 0 0), .int a1, .int a2, .int a3] (fun U => tB D A ad T U.heap ∧ CX l D A s0 U)) (va_Qi Q (fun u t => tB D A ad u t.heap) A) 0 0 A := by
  refine Met.ofW (cc := cX6_sheet) (maxL := 5) (ret := some .int) (by decide) rfl ?_
  intro p e s m args below meth c s₁ B hml hv
  obtain ⟨rfl, hB, hC⟩ := hv
  have F : FX p l c cX6_sheet s _ m RX6 D A s0 5 meth (some .int) := ⟨mk_FP B hml rfl, hC⟩
  have hS : va_S A s.heap s.heap [] := va_S.rf
  have hl := lv_entry ([.ref (ad 0 0 0), .int a1, .int a2, .int a3]) (n := 5) (Nat.le_of_ble_eq_true rfl)
  rw [lg_entry_eq]
  generalize (lg_sl ([.ref (ad 0 0 0), .int a1, .int a2, .int a3]) ++ List.replicate (5 - (lg_sl ([.ref (ad 0 0 0), .int a1, .int a2, .int a3])).length) Slot.unset).toArray = ls at hl ⊢
  exact bX6_sheet_0 F hB hS hw hl
def rX6_silent : Room := { frames := 2, cells := 0, slots := 0, locals := 43 }
set_option maxHeartbeats 4000000 in
theorem bX6_silent_7 {p : Program} {l : Launch} {e : Env} {s : State} {m : MethodId} {args : Array Value} {below : List Frame} {meth : Method} {c : Code} {D : DD} {A : Nat → Prop} {s0 : State} {ad : AD} {Q : Int32 → TS → Prop} (F : FX p l c cX6_silent s args m RX6 D A s0 3 meth (some .int)) : ∀ (n : Nat) (l1 : Int32) (l2 : Int32) (T : TS), wX6_silent_7 Q n l1 l2 T → ∀ (H : Heap) (locs : List Loc) (ls : Array Slot), tB D A ad T H → va_S A s.heap H locs → lv_has ls 3 [(0, .ref (ad 0 0 0)), (1, .int l1), (2, .int l2)] → W p l e rX6_silent s m args below meth c H locs 0 0 (MQ below (va_Qi Q (fun u t => tB D A ad u t.heap) A) args s 0 0 A) (F0 m 7 ls []) := by
  have hx := F.1.x
  have hb := F.1.b
  intro n
  induction n with
  | zero => intro l1 l2 T hw; exact hw.elim
  | succ n ih =>
    intro l1 l2 T hw H locs ls hB hS hl
    unfold wX6_silent_7 at hw
    refine lv_iload_n hx hb dX6_silent_7 rfl (lv_at hl 2 rfl) ?_
    refine lv_aload_n hx hb dX6_silent_8 rfl (lv_at hl 0 rfl) ?_
    refine tg_0 F hB dX6_silent_9 ?_
    refine lv_iconst (v := 1) hx hb dX6_silent_12 (by decide) ?_
    obtain ⟨hin, hw⟩ := hw
    refine t_ald F hB (k := 0) rfl hin dX6_silent_13 ?_
    refine lv_icmp_ge (tgt := 31) hx hb dX6_silent_14 (by decide) (fun q => ?_) (fun q => ?_)
    · replace hw := hw.1 q
      refine lv_iload_n hx hb dX6_silent_31 rfl (lv_at hl 1 rfl) ?_
      exact W.iret hx hb F.1.r (fun t ht hW => ⟨⟨_, _, rfl, hw, x_B (Bw := tB D A ad) ht hB⟩, hS.F ht⟩) hS.2.2 dX6_silent_32 (hlocks := F.1.k)
    · replace hw := hw.2 q
      refine lv_iload_n hx hb dX6_silent_17 rfl (lv_at hl 1 rfl) ?_
      refine lv_aload_n hx hb dX6_silent_18 rfl (lv_at hl 0 rfl) ?_
      refine lv_iload_n hx hb dX6_silent_19 rfl (lv_at hl 2 rfl) ?_
      refine kX6_X6_left F hB hS hw ⟨Nat.le_of_ble_eq_true rfl, Nat.le_of_ble_eq_true rfl⟩ ⟨Nat.zero_le _, Nat.zero_le _⟩ hl.1 (Nat.le_of_ble_eq_true rfl) dX6_silent_20 (fun r1 T2 H locs hw hB hS => ?_)
      refine lv_iand hx hb dX6_silent_23 ?_
      refine lv_istore_n (lv' := [(1, .int (l1 &&& r1)), (0, .ref (ad 0 0 0)), (2, .int l2)]) hx hb dX6_silent_24 rfl hl (by decide) rfl (fun ls hl => ?_)
      refine lv_iinc (v := l2 + (1 : Int32)) (lv' := [(2, .int (l2 + (1 : Int32))), (1, .int (l1 &&& r1)), (0, .ref (ad 0 0 0))]) hx hb dX6_silent_25 hl (k := 2) rfl (x_inc (by decide)) (by decide) rfl (fun ls hl => ?_)
      refine lv_goto (tgt := 7) hx hb dX6_silent_28 (by decide) ?_
      exact ih _ _ _ hw _ _ _ hB hS (lv_sub hl [2, 1, 0] rfl)
set_option maxHeartbeats 4000000 in
theorem bX6_silent_0 {p : Program} {l : Launch} {e : Env} {s : State} {m : MethodId} {args : Array Value} {below : List Frame} {meth : Method} {c : Code} {D : DD} {A : Nat → Prop} {s0 : State} {ad : AD} {Q : Int32 → TS → Prop} {T : TS} {H : Heap} {locs : List Loc} {ls : Array Slot} (F : FX p l c cX6_silent s args m RX6 D A s0 3 meth (some .int)) (hB : tB D A ad T H) (hS : va_S A s.heap H locs) (hw : wX6_silent T Q) (hl : lv_has ls 3 [(0, .ref (ad 0 0 0))]) : W p l e rX6_silent s m args below meth c H locs 0 0 (MQ below (va_Qi Q (fun u t => tB D A ad u t.heap) A) args s 0 0 A) (F0 m 0 ls []) := by
  have hx := F.1.x
  have hb := F.1.b
  unfold wX6_silent at hw
  refine lv_aload_n hx hb dX6_silent_0 rfl (lv_at hl 0 rfl) ?_
  refine kX6_X6_everybody F hB hS hw ⟨Nat.le_of_ble_eq_true rfl, Nat.le_of_ble_eq_true rfl⟩ ⟨Nat.zero_le _, Nat.zero_le _⟩ hl.1 (Nat.le_of_ble_eq_true rfl) dX6_silent_1 (fun r1 T2 H locs hw hB hS => ?_)
  refine lv_istore_n (lv' := [(1, .int r1), (0, .ref (ad 0 0 0))]) hx hb dX6_silent_4 rfl hl (by decide) rfl (fun ls hl => ?_)
  refine lv_iconst (v := 0) hx hb dX6_silent_5 (by decide) ?_
  refine lv_istore_n (lv' := [(2, .int (0 : Int32)), (1, .int r1), (0, .ref (ad 0 0 0))]) hx hb dX6_silent_6 rfl hl (by decide) rfl (fun ls hl => ?_)
  obtain ⟨f_7, hw⟩ := hw
  exact bX6_silent_7 F f_7 _ _ _ hw _ _ _ hB hS (lv_sub hl [2, 1, 0] rfl)
set_option maxHeartbeats 4000000 in
theorem mX6_silent {l : Launch} {D : DD} {A : Nat → Prop} {s0 : State} {ad : AD} {T : TS}  {Q : Int32 → TS → Prop} (hw : wX6_silent T Q) : Met l yX6_silent (ws_ yX6_silent cX6_silent 3 (some .int)) rX6_silent (va_Pc [.ref (ad 0 0 0)] (fun U => tB D A ad T U.heap ∧ CX l D A s0 U)) (va_Qi Q (fun u t => tB D A ad u t.heap) A) 0 0 A := by
  refine Met.ofW (cc := cX6_silent) (maxL := 3) (ret := some .int) (by decide) rfl ?_
  intro p e s m args below meth c s₁ B hml hv
  obtain ⟨rfl, hB, hC⟩ := hv
  have F : FX p l c cX6_silent s _ m RX6 D A s0 3 meth (some .int) := ⟨mk_FP B hml rfl, hC⟩
  have hS : va_S A s.heap s.heap [] := va_S.rf
  have hl := lv_entry ([.ref (ad 0 0 0)]) (n := 3) (Nat.le_of_ble_eq_true rfl)
  rw [lg_entry_eq]
  generalize (lg_sl ([.ref (ad 0 0 0)]) ++ List.replicate (3 - (lg_sl ([.ref (ad 0 0 0)])).length) Slot.unset).toArray = ls at hl ⊢
  exact bX6_silent_0 F hB hS hw hl
def rX6_stop : Room := { frames := 1, cells := 0, slots := 0, locals := 25 }
set_option maxHeartbeats 4000000 in
theorem bX6_stop_0 {p : Program} {l : Launch} {e : Env} {s : State} {m : MethodId} {args : Array Value} {below : List Frame} {meth : Method} {c : Code} {D : DD} {A : Nat → Prop} {s0 : State} {ad : AD} {Q : Int32 → TS → Prop} {a1 : Int32} {T : TS} {H : Heap} {locs : List Loc} {ls : Array Slot} (F : FX p l c cX6_stop s args m RX6 D A s0 2 meth (some .int)) (hB : tB D A ad T H) (hS : va_S A s.heap H locs) (hw : wX6_stop a1 T Q) (hl : lv_has ls 2 [(0, .ref (ad 0 0 0)), (1, .int a1)]) : W p l e rX6_stop s m args below meth c H locs 0 0 (MQ below (va_Qi Q (fun u t => tB D A ad u t.heap) A) args s 0 0 A) (F0 m 0 ls []) := by
  have hx := F.1.x
  have hb := F.1.b
  unfold wX6_stop at hw
  refine lv_iload_n hx hb dX6_stop_0 rfl (lv_at hl 1 rfl) ?_
  refine lv_i2l hx hb dX6_stop_1 rfl ?_
  refine lv_lconst (v := 0) hx hb dX6_stop_2 (by decide) ?_
  refine lv_ldc2 hx hb F.1.o (F.1.t _ q1469) dX6_stop_3 ?_
  refine kX6_X6_isIn F.1 hw ⟨Nat.le_of_ble_eq_true rfl, Nat.le_of_ble_eq_true rfl⟩ ⟨Nat.zero_le _, Nat.zero_le _⟩ hl.1 (Nat.le_of_ble_eq_true rfl) dX6_stop_6 (fun r1 hw => ?_)
  refine lv_if_eq (tgt := 21) hx hb dX6_stop_9 (by decide) (fun q => ?_) (fun q => ?_)
  · replace hw := hw.1 q
    refine lv_ldc hx hb F.1.o (F.1.t _ q1326) dX6_stop_21 ?_
    exact W.iret hx hb F.1.r (fun t ht hW => ⟨⟨_, _, rfl, hw, x_B (Bw := tB D A ad) ht hB⟩, hS.F ht⟩) hS.2.2 dX6_stop_23 (hlocks := F.1.k)
  · replace hw := hw.2 q
    refine lv_aload_n hx hb dX6_stop_12 rfl (lv_at hl 0 rfl) ?_
    refine lv_iconst (v := 3) hx hb dX6_stop_13 (by decide) ?_
    refine lv_iload_n hx hb dX6_stop_14 rfl (lv_at hl 1 rfl) ?_
    refine kX6_X6_becomes F hB hS hw ⟨Nat.le_of_ble_eq_true rfl, Nat.le_of_ble_eq_true rfl⟩ ⟨Nat.zero_le _, Nat.zero_le _⟩ hl.1 (Nat.le_of_ble_eq_true rfl) dX6_stop_15 (fun r2 T3 H locs hw hB hS => ?_)
    refine lv_goto (tgt := 23) hx hb dX6_stop_18 (by decide) ?_
    exact W.iret hx hb F.1.r (fun t ht hW => ⟨⟨_, _, rfl, hw, x_B (Bw := tB D A ad) ht hB⟩, hS.F ht⟩) hS.2.2 dX6_stop_23 (hlocks := F.1.k)
set_option maxHeartbeats 4000000 in
theorem mX6_stop {l : Launch} {D : DD} {A : Nat → Prop} {s0 : State} {ad : AD} {T : TS} {a1 : Int32} {Q : Int32 → TS → Prop} (hw : wX6_stop a1 T Q) : Met l yX6_stop (ws_ yX6_stop cX6_stop 2 (some .int)) rX6_stop (va_Pc [.ref (ad 0 0 0), .int a1] (fun U => tB D A ad T U.heap ∧ CX l D A s0 U)) (va_Qi Q (fun u t => tB D A ad u t.heap) A) 0 0 A := by
  refine Met.ofW (cc := cX6_stop) (maxL := 2) (ret := some .int) (by decide) rfl ?_
  intro p e s m args below meth c s₁ B hml hv
  obtain ⟨rfl, hB, hC⟩ := hv
  have F : FX p l c cX6_stop s _ m RX6 D A s0 2 meth (some .int) := ⟨mk_FP B hml rfl, hC⟩
  have hS : va_S A s.heap s.heap [] := va_S.rf
  have hl := lv_entry ([.ref (ad 0 0 0), .int a1]) (n := 2) (Nat.le_of_ble_eq_true rfl)
  rw [lg_entry_eq]
  generalize (lg_sl ([.ref (ad 0 0 0), .int a1]) ++ List.replicate (2 - (lg_sl ([.ref (ad 0 0 0), .int a1])).length) Slot.unset).toArray = ls at hl ⊢
  exact bX6_stop_0 F hB hS hw hl
def rX6_tell : Room := { frames := 0, cells := 0, slots := 0, locals := 0 }
set_option maxHeartbeats 4000000 in
theorem bX6_tell_0 {p : Program} {l : Launch} {e : Env} {s : State} {m : MethodId} {args : Array Value} {below : List Frame} {meth : Method} {c : Code} {D : DD} {A : Nat → Prop} {s0 : State} {ad : AD} {Q : Int32 → TS → Prop} {a1 : Int32} {T : TS} {H : Heap} {locs : List Loc} {ls : Array Slot} (F : FX p l c cX6_tell s args m RX6 D A s0 2 meth (some .int)) (hB : tB D A ad T H) (hS : va_S A s.heap H locs) (hw : wX6_tell a1 T Q) (hl : lv_has ls 2 [(0, .ref (ad 0 0 0)), (1, .int a1)]) : W p l e rX6_tell s m args below meth c H locs 0 0 (MQ below (va_Qi Q (fun u t => tB D A ad u t.heap) A) args s 0 0 A) (F0 m 0 ls []) := by
  have hx := F.1.x
  have hb := F.1.b
  unfold wX6_tell at hw
  refine lv_aload_n hx hb dX6_tell_0 rfl (lv_at hl 0 rfl) ?_
  refine tg_29 F hB dX6_tell_1 ?_
  refine lv_bipush (v := 60) hx hb dX6_tell_4 (by decide) ?_
  refine lv_icmp_ne (tgt := 12) hx hb dX6_tell_6 (by decide) (fun q => ?_) (fun q => ?_)
  · replace hw := hw.2 q
    refine lv_aload_n hx hb dX6_tell_12 rfl (lv_at hl 0 rfl) ?_
    refine tg_28 F hB dX6_tell_13 ?_
    refine lv_aload_n hx hb dX6_tell_16 rfl (lv_at hl 0 rfl) ?_
    refine tg_29 F hB dX6_tell_17 ?_
    refine lv_iload_n hx hb dX6_tell_20 rfl (lv_at hl 1 rfl) ?_
    obtain ⟨hin, hw⟩ := hw
    refine t_ast F hB hS (k := 28) rfl hin dX6_tell_21 (fun H locs hB hS => ?_)
    refine lv_aload_n hx hb dX6_tell_22 rfl (lv_at hl 0 rfl) ?_
    refine lv_dup hx hb dX6_tell_23 rfl ?_
    refine tg_29 F hB dX6_tell_24 ?_
    refine lv_iconst (v := 1) hx hb dX6_tell_27 (by decide) ?_
    refine lv_iadd hx hb dX6_tell_28 ?_
    refine tp_29 F hB hS dX6_tell_29 (fun H locs hB hS => ?_)
    refine lv_aload_n hx hb dX6_tell_32 rfl (lv_at hl 0 rfl) ?_
    refine tg_29 F hB dX6_tell_33 ?_
    exact W.iret hx hb F.1.r (fun t ht hW => ⟨⟨_, _, rfl, hw, x_B (Bw := tB D A ad) ht hB⟩, hS.F ht⟩) hS.2.2 dX6_tell_36 (hlocks := F.1.k)
  · replace hw := hw.1 q
    refine lv_ldc hx hb F.1.o (F.1.t _ q1327) dX6_tell_9 ?_
    exact W.iret hx hb F.1.r (fun t ht hW => ⟨⟨_, _, rfl, hw, x_B (Bw := tB D A ad) ht hB⟩, hS.F ht⟩) hS.2.2 dX6_tell_11 (hlocks := F.1.k)
set_option maxHeartbeats 4000000 in
theorem mX6_tell {l : Launch} {D : DD} {A : Nat → Prop} {s0 : State} {ad : AD} {T : TS} {a1 : Int32} {Q : Int32 → TS → Prop} (hw : wX6_tell a1 T Q) : Met l yX6_tell (ws_ yX6_tell cX6_tell 2 (some .int)) rX6_tell (va_Pc [.ref (ad 0 0 0), .int a1] (fun U => tB D A ad T U.heap ∧ CX l D A s0 U)) (va_Qi Q (fun u t => tB D A ad u t.heap) A) 0 0 A := by
  refine Met.ofW (cc := cX6_tell) (maxL := 2) (ret := some .int) (by decide) rfl ?_
  intro p e s m args below meth c s₁ B hml hv
  obtain ⟨rfl, hB, hC⟩ := hv
  have F : FX p l c cX6_tell s _ m RX6 D A s0 2 meth (some .int) := ⟨mk_FP B hml rfl, hC⟩
  have hS : va_S A s.heap s.heap [] := va_S.rf
  have hl := lv_entry ([.ref (ad 0 0 0), .int a1]) (n := 2) (Nat.le_of_ble_eq_true rfl)
  rw [lg_entry_eq]
  generalize (lg_sl ([.ref (ad 0 0 0), .int a1]) ++ List.replicate (2 - (lg_sl ([.ref (ad 0 0 0), .int a1])).length) Slot.unset).toArray = ls at hl ⊢
  exact bX6_tell_0 F hB hS hw hl
def rX6_textTold : Room := { frames := 2, cells := 0, slots := 0, locals := 46 }
set_option maxHeartbeats 4000000 in
theorem bX6_textTold_0 {p : Program} {l : Launch} {e : Env} {s : State} {m : MethodId} {args : Array Value} {below : List Frame} {meth : Method} {c : Code} {D : DD} {A : Nat → Prop} {s0 : State} {ad : AD} {Q : Int32 → TS → Prop} {a1 : Int32} {a2 : Int32} {T : TS} {H : Heap} {locs : List Loc} {ls : Array Slot} (F : FX p l c cX6_textTold s args m RX6 D A s0 3 meth (some .int)) (hB : tB D A ad T H) (hS : va_S A s.heap H locs) (hw : wX6_textTold a1 a2 T Q) (hl : lv_has ls 3 [(0, .ref (ad 0 0 0)), (1, .int a1), (2, .int a2)]) : W p l e rX6_textTold s m args below meth c H locs 0 0 (MQ below (va_Qi Q (fun u t => tB D A ad u t.heap) A) args s 0 0 A) (F0 m 0 ls []) := by
  have hx := F.1.x
  have hb := F.1.b
  unfold wX6_textTold at hw
  refine lv_aload_n hx hb dX6_textTold_0 rfl (lv_at hl 0 rfl) ?_
  refine lv_iload_n hx hb dX6_textTold_1 rfl (lv_at hl 1 rfl) ?_
  refine kX6_X6_isText F hB hS hw ⟨Nat.le_of_ble_eq_true rfl, Nat.le_of_ble_eq_true rfl⟩ ⟨Nat.zero_le _, Nat.zero_le _⟩ hl.1 (Nat.le_of_ble_eq_true rfl) dX6_textTold_2 (fun r1 T2 H locs hw hB hS => ?_)
  refine lv_if_eq (tgt := 18) hx hb dX6_textTold_5 (by decide) (fun q => ?_) (fun q => ?_)
  · replace hw := hw.1 q
    refine lv_ldc hx hb F.1.o (F.1.t _ q1326) dX6_textTold_18 ?_
    exact W.iret hx hb F.1.r (fun t ht hW => ⟨⟨_, _, rfl, hw, x_B (Bw := tB D A ad) ht hB⟩, hS.F ht⟩) hS.2.2 dX6_textTold_20 (hlocks := F.1.k)
  · replace hw := hw.2 q
    refine lv_iload_n hx hb dX6_textTold_8 rfl (lv_at hl 2 rfl) ?_
    refine lv_i2l hx hb dX6_textTold_9 rfl ?_
    refine lv_lconst (v := 0) hx hb dX6_textTold_10 (by decide) ?_
    refine lv_lconst (v := 1) hx hb dX6_textTold_11 (by decide) ?_
    refine kX6_X6_isIn F.1 hw ⟨Nat.le_of_ble_eq_true rfl, Nat.le_of_ble_eq_true rfl⟩ ⟨Nat.zero_le _, Nat.zero_le _⟩ hl.1 (Nat.le_of_ble_eq_true rfl) dX6_textTold_12 (fun r3 hw => ?_)
    refine lv_if_ne (tgt := 21) hx hb dX6_textTold_15 (by decide) (fun q => ?_) (fun q => ?_)
    · replace hw := hw.2 q
      refine lv_aload_n hx hb dX6_textTold_21 rfl (lv_at hl 0 rfl) ?_
      refine tg_0 F hB dX6_textTold_22 ?_
      refine lv_aload_n hx hb dX6_textTold_25 rfl (lv_at hl 0 rfl) ?_
      refine lv_iload_n hx hb dX6_textTold_26 rfl (lv_at hl 1 rfl) ?_
      refine kX6_X6_textAt F hB hS hw ⟨Nat.le_of_ble_eq_true rfl, Nat.le_of_ble_eq_true rfl⟩ ⟨Nat.zero_le _, Nat.zero_le _⟩ hl.1 (Nat.le_of_ble_eq_true rfl) dX6_textTold_27 (fun r4 T5 H locs hw hB hS => ?_)
      refine lv_iload_n hx hb dX6_textTold_30 rfl (lv_at hl 2 rfl) ?_
      refine lv_iadd hx hb dX6_textTold_31 ?_
      obtain ⟨hin, hw⟩ := hw
      refine t_ald F hB (k := 0) rfl hin dX6_textTold_32 ?_
      exact W.iret hx hb F.1.r (fun t ht hW => ⟨⟨_, _, rfl, hw, x_B (Bw := tB D A ad) ht hB⟩, hS.F ht⟩) hS.2.2 dX6_textTold_33 (hlocks := F.1.k)
    · replace hw := hw.1 q
      refine lv_ldc hx hb F.1.o (F.1.t _ q1326) dX6_textTold_18 ?_
      exact W.iret hx hb F.1.r (fun t ht hW => ⟨⟨_, _, rfl, hw, x_B (Bw := tB D A ad) ht hB⟩, hS.F ht⟩) hS.2.2 dX6_textTold_20 (hlocks := F.1.k)
set_option maxHeartbeats 4000000 in
theorem mX6_textTold {l : Launch} {D : DD} {A : Nat → Prop} {s0 : State} {ad : AD} {T : TS} {a1 : Int32} {a2 : Int32} {Q : Int32 → TS → Prop} (hw : wX6_textTold a1 a2 T Q) : Met l yX6_textTold (ws_ yX6_textTold cX6_textTold 3 (some .int)) rX6_textTold (va_Pc [.ref (ad 0 0 0), .int a1, .int a2] (fun U => tB D A ad T U.heap ∧ CX l D A s0 U)) (va_Qi Q (fun u t => tB D A ad u t.heap) A) 0 0 A := by
  refine Met.ofW (cc := cX6_textTold) (maxL := 3) (ret := some .int) (by decide) rfl ?_
  intro p e s m args below meth c s₁ B hml hv
  obtain ⟨rfl, hB, hC⟩ := hv
  have F : FX p l c cX6_textTold s _ m RX6 D A s0 3 meth (some .int) := ⟨mk_FP B hml rfl, hC⟩
  have hS : va_S A s.heap s.heap [] := va_S.rf
  have hl := lv_entry ([.ref (ad 0 0 0), .int a1, .int a2]) (n := 3) (Nat.le_of_ble_eq_true rfl)
  rw [lg_entry_eq]
  generalize (lg_sl ([.ref (ad 0 0 0), .int a1, .int a2]) ++ List.replicate (3 - (lg_sl ([.ref (ad 0 0 0), .int a1, .int a2])).length) Slot.unset).toArray = ls at hl ⊢
  exact bX6_textTold_0 F hB hS hw hl
def rX6_told : Room := { frames := 2, cells := 0, slots := 0, locals := 46 }
set_option maxHeartbeats 4000000 in
theorem bX6_told_0 {p : Program} {l : Launch} {e : Env} {s : State} {m : MethodId} {args : Array Value} {below : List Frame} {meth : Method} {c : Code} {D : DD} {A : Nat → Prop} {s0 : State} {ad : AD} {Q : Int32 → TS → Prop} {a1 : Int32} {a2 : Int32} {T : TS} {H : Heap} {locs : List Loc} {ls : Array Slot} (F : FX p l c cX6_told s args m RX6 D A s0 3 meth (some .int)) (hB : tB D A ad T H) (hS : va_S A s.heap H locs) (hw : wX6_told a1 a2 T Q) (hl : lv_has ls 3 [(0, .ref (ad 0 0 0)), (1, .int a1), (2, .int a2)]) : W p l e rX6_told s m args below meth c H locs 0 0 (MQ below (va_Qi Q (fun u t => tB D A ad u t.heap) A) args s 0 0 A) (F0 m 0 ls []) := by
  have hx := F.1.x
  have hb := F.1.b
  unfold wX6_told at hw
  refine lv_aload_n hx hb dX6_told_0 rfl (lv_at hl 0 rfl) ?_
  refine lv_iload_n hx hb dX6_told_1 rfl (lv_at hl 1 rfl) ?_
  refine kX6_X6_isPerson F hB hS hw ⟨Nat.le_of_ble_eq_true rfl, Nat.le_of_ble_eq_true rfl⟩ ⟨Nat.zero_le _, Nat.zero_le _⟩ hl.1 (Nat.le_of_ble_eq_true rfl) dX6_told_2 (fun r1 T2 H locs hw hB hS => ?_)
  refine lv_if_ne (tgt := 11) hx hb dX6_told_5 (by decide) (fun q => ?_) (fun q => ?_)
  · replace hw := hw.2 q
    refine lv_iload_n hx hb dX6_told_11 rfl (lv_at hl 2 rfl) ?_
    by_cases q0 : a2 = 0
    · replace hw := hw.1 q0
      refine lv_tableIn (off := 44) (tgt := 56) hx hb dX6_told_12 (by rw [q0]; decide) (by rw [q0]; decide) (by rw [q0]; rfl) (by decide) ?_
      refine lv_aload_n hx hb dX6_told_56 rfl (lv_at hl 0 rfl) ?_
      refine lv_iload_n hx hb dX6_told_57 rfl (lv_at hl 1 rfl) ?_
      refine lv_iload_n hx hb dX6_told_58 rfl (lv_at hl 2 rfl) ?_
      refine kX6_X6_of F hB hS hw ⟨Nat.le_of_ble_eq_true rfl, Nat.le_of_ble_eq_true rfl⟩ ⟨Nat.zero_le _, Nat.zero_le _⟩ hl.1 (Nat.le_of_ble_eq_true rfl) dX6_told_59 (fun r3 T4 H locs hw hB hS => ?_)
      exact W.iret hx hb F.1.r (fun t ht hW => ⟨⟨_, _, rfl, hw, x_B (Bw := tB D A ad) ht hB⟩, hS.F ht⟩) hS.2.2 dX6_told_62 (hlocks := F.1.k)
    replace hw := hw.2 q0
    by_cases q1 : a2 = 1
    · replace hw := hw.1 q1
      refine lv_tableIn (off := 44) (tgt := 56) hx hb dX6_told_12 (by rw [q1]; decide) (by rw [q1]; decide) (by rw [q1]; rfl) (by decide) ?_
      refine lv_aload_n hx hb dX6_told_56 rfl (lv_at hl 0 rfl) ?_
      refine lv_iload_n hx hb dX6_told_57 rfl (lv_at hl 1 rfl) ?_
      refine lv_iload_n hx hb dX6_told_58 rfl (lv_at hl 2 rfl) ?_
      refine kX6_X6_of F hB hS hw ⟨Nat.le_of_ble_eq_true rfl, Nat.le_of_ble_eq_true rfl⟩ ⟨Nat.zero_le _, Nat.zero_le _⟩ hl.1 (Nat.le_of_ble_eq_true rfl) dX6_told_59 (fun r5 T6 H locs hw hB hS => ?_)
      exact W.iret hx hb F.1.r (fun t ht hW => ⟨⟨_, _, rfl, hw, x_B (Bw := tB D A ad) ht hB⟩, hS.F ht⟩) hS.2.2 dX6_told_62 (hlocks := F.1.k)
    replace hw := hw.2 q1
    by_cases q2 : a2 = 2
    · replace hw := hw.1 q2
      refine lv_tableIn (off := 44) (tgt := 56) hx hb dX6_told_12 (by rw [q2]; decide) (by rw [q2]; decide) (by rw [q2]; rfl) (by decide) ?_
      refine lv_aload_n hx hb dX6_told_56 rfl (lv_at hl 0 rfl) ?_
      refine lv_iload_n hx hb dX6_told_57 rfl (lv_at hl 1 rfl) ?_
      refine lv_iload_n hx hb dX6_told_58 rfl (lv_at hl 2 rfl) ?_
      refine kX6_X6_of F hB hS hw ⟨Nat.le_of_ble_eq_true rfl, Nat.le_of_ble_eq_true rfl⟩ ⟨Nat.zero_le _, Nat.zero_le _⟩ hl.1 (Nat.le_of_ble_eq_true rfl) dX6_told_59 (fun r7 T8 H locs hw hB hS => ?_)
      exact W.iret hx hb F.1.r (fun t ht hW => ⟨⟨_, _, rfl, hw, x_B (Bw := tB D A ad) ht hB⟩, hS.F ht⟩) hS.2.2 dX6_told_62 (hlocks := F.1.k)
    replace hw := hw.2 q2
    by_cases q3 : a2 = 3
    · replace hw := hw.1 q3
      refine lv_tableIn (off := 44) (tgt := 56) hx hb dX6_told_12 (by rw [q3]; decide) (by rw [q3]; decide) (by rw [q3]; rfl) (by decide) ?_
      refine lv_aload_n hx hb dX6_told_56 rfl (lv_at hl 0 rfl) ?_
      refine lv_iload_n hx hb dX6_told_57 rfl (lv_at hl 1 rfl) ?_
      refine lv_iload_n hx hb dX6_told_58 rfl (lv_at hl 2 rfl) ?_
      refine kX6_X6_of F hB hS hw ⟨Nat.le_of_ble_eq_true rfl, Nat.le_of_ble_eq_true rfl⟩ ⟨Nat.zero_le _, Nat.zero_le _⟩ hl.1 (Nat.le_of_ble_eq_true rfl) dX6_told_59 (fun r9 T10 H locs hw hB hS => ?_)
      exact W.iret hx hb F.1.r (fun t ht hW => ⟨⟨_, _, rfl, hw, x_B (Bw := tB D A ad) ht hB⟩, hS.F ht⟩) hS.2.2 dX6_told_62 (hlocks := F.1.k)
    replace hw := hw.2 q3
    by_cases q4 : a2 = 4
    · replace hw := hw.1 q4
      refine lv_tableIn (off := 51) (tgt := 63) hx hb dX6_told_12 (by rw [q4]; decide) (by rw [q4]; decide) (by rw [q4]; rfl) (by decide) ?_
      refine lv_aload_n hx hb dX6_told_63 rfl (lv_at hl 0 rfl) ?_
      refine lv_iload_n hx hb dX6_told_64 rfl (lv_at hl 1 rfl) ?_
      refine kX6_X6_followers F hB hS hw ⟨Nat.le_of_ble_eq_true rfl, Nat.le_of_ble_eq_true rfl⟩ ⟨Nat.zero_le _, Nat.zero_le _⟩ hl.1 (Nat.le_of_ble_eq_true rfl) dX6_told_65 (fun r11 T12 H locs hw hB hS => ?_)
      exact W.iret hx hb F.1.r (fun t ht hW => ⟨⟨_, _, rfl, hw, x_B (Bw := tB D A ad) ht hB⟩, hS.F ht⟩) hS.2.2 dX6_told_68 (hlocks := F.1.k)
    replace hw := hw.2 q4
    by_cases q5 : a2 = 5
    · replace hw := hw.1 q5
      refine lv_tableIn (off := 57) (tgt := 69) hx hb dX6_told_12 (by rw [q5]; decide) (by rw [q5]; decide) (by rw [q5]; rfl) (by decide) ?_
      refine lv_aload_n hx hb dX6_told_69 rfl (lv_at hl 0 rfl) ?_
      refine lv_iload_n hx hb dX6_told_70 rfl (lv_at hl 1 rfl) ?_
      refine lv_iconst (v := 0) hx hb dX6_told_71 (by decide) ?_
      refine kX6_X6_of F hB hS hw ⟨Nat.le_of_ble_eq_true rfl, Nat.le_of_ble_eq_true rfl⟩ ⟨Nat.zero_le _, Nat.zero_le _⟩ hl.1 (Nat.le_of_ble_eq_true rfl) dX6_told_72 (fun r13 T14 H locs hw hB hS => ?_)
      refine lv_aload_n hx hb dX6_told_75 rfl (lv_at hl 0 rfl) ?_
      refine lv_iload_n hx hb dX6_told_76 rfl (lv_at hl 1 rfl) ?_
      refine lv_iconst (v := 1) hx hb dX6_told_77 (by decide) ?_
      refine kX6_X6_of F hB hS hw ⟨Nat.le_of_ble_eq_true rfl, Nat.le_of_ble_eq_true rfl⟩ ⟨Nat.zero_le _, Nat.zero_le _⟩ hl.1 (Nat.le_of_ble_eq_true rfl) dX6_told_78 (fun r15 T16 H locs hw hB hS => ?_)
      refine kX6_X6_worthOf F.1 hw ⟨Nat.le_of_ble_eq_true rfl, Nat.le_of_ble_eq_true rfl⟩ ⟨Nat.zero_le _, Nat.zero_le _⟩ hl.1 (Nat.le_of_ble_eq_true rfl) dX6_told_81 (fun r17 hw => ?_)
      exact W.iret hx hb F.1.r (fun t ht hW => ⟨⟨_, _, rfl, hw, x_B (Bw := tB D A ad) ht hB⟩, hS.F ht⟩) hS.2.2 dX6_told_84 (hlocks := F.1.k)
    replace hw := hw.2 q5
    by_cases q6 : a2 = 6
    · replace hw := hw.1 q6
      refine lv_tableIn (off := 73) (tgt := 85) hx hb dX6_told_12 (by rw [q6]; decide) (by rw [q6]; decide) (by rw [q6]; rfl) (by decide) ?_
      refine lv_aload_n hx hb dX6_told_85 rfl (lv_at hl 0 rfl) ?_
      refine lv_iload_n hx hb dX6_told_86 rfl (lv_at hl 1 rfl) ?_
      refine kX6_X6_goneOn F hB hS hw ⟨Nat.le_of_ble_eq_true rfl, Nat.le_of_ble_eq_true rfl⟩ ⟨Nat.zero_le _, Nat.zero_le _⟩ hl.1 (Nat.le_of_ble_eq_true rfl) dX6_told_87 (fun r18 T19 H locs hw hB hS => ?_)
      exact W.iret hx hb F.1.r (fun t ht hW => ⟨⟨_, _, rfl, hw, x_B (Bw := tB D A ad) ht hB⟩, hS.F ht⟩) hS.2.2 dX6_told_90 (hlocks := F.1.k)
    replace hw := hw.2 q6
    refine lv_tableOut (tgt := 91) hx hb dX6_told_12 (by have n0 := x_ne q0 (a := 0) (by decide); have n1 := x_ne q1 (a := 1) (by decide); have n2 := x_ne q2 (a := 2) (by decide); have n3 := x_ne q3 (a := 3) (by decide); have n4 := x_ne q4 (a := 4) (by decide); have n5 := x_ne q5 (a := 5) (by decide); have n6 := x_ne q6 (a := 6) (by decide); omega) (by decide) ?_
    refine lv_ldc hx hb F.1.o (F.1.t _ q1326) dX6_told_91 ?_
    exact W.iret hx hb F.1.r (fun t ht hW => ⟨⟨_, _, rfl, hw, x_B (Bw := tB D A ad) ht hB⟩, hS.F ht⟩) hS.2.2 dX6_told_93 (hlocks := F.1.k)
  · replace hw := hw.1 q
    refine lv_ldc hx hb F.1.o (F.1.t _ q1326) dX6_told_8 ?_
    exact W.iret hx hb F.1.r (fun t ht hW => ⟨⟨_, _, rfl, hw, x_B (Bw := tB D A ad) ht hB⟩, hS.F ht⟩) hS.2.2 dX6_told_10 (hlocks := F.1.k)
set_option maxHeartbeats 4000000 in
theorem mX6_told {l : Launch} {D : DD} {A : Nat → Prop} {s0 : State} {ad : AD} {T : TS} {a1 : Int32} {a2 : Int32} {Q : Int32 → TS → Prop} (hw : wX6_told a1 a2 T Q) : Met l yX6_told (ws_ yX6_told cX6_told 3 (some .int)) rX6_told (va_Pc [.ref (ad 0 0 0), .int a1, .int a2] (fun U => tB D A ad T U.heap ∧ CX l D A s0 U)) (va_Qi Q (fun u t => tB D A ad u t.heap) A) 0 0 A := by
  refine Met.ofW (cc := cX6_told) (maxL := 3) (ret := some .int) (by decide) rfl ?_
  intro p e s m args below meth c s₁ B hml hv
  obtain ⟨rfl, hB, hC⟩ := hv
  have F : FX p l c cX6_told s _ m RX6 D A s0 3 meth (some .int) := ⟨mk_FP B hml rfl, hC⟩
  have hS : va_S A s.heap s.heap [] := va_S.rf
  have hl := lv_entry ([.ref (ad 0 0 0), .int a1, .int a2]) (n := 3) (Nat.le_of_ble_eq_true rfl)
  rw [lg_entry_eq]
  generalize (lg_sl ([.ref (ad 0 0 0), .int a1, .int a2]) ++ List.replicate (3 - (lg_sl ([.ref (ad 0 0 0), .int a1, .int a2])).length) Slot.unset).toArray = ls at hl ⊢
  exact bX6_told_0 F hB hS hw hl
def rX6_trim : Room := { frames := 1, cells := 0, slots := 0, locals := 25 }
set_option maxHeartbeats 4000000 in
theorem bX6_trim_0 {p : Program} {l : Launch} {e : Env} {s : State} {m : MethodId} {args : Array Value} {below : List Frame} {meth : Method} {c : Code} {D : DD} {A : Nat → Prop} {s0 : State} {ad : AD} {Q : Int32 → TS → Prop} {a1 : Int32} {T : TS} {H : Heap} {locs : List Loc} {ls : Array Slot} (F : FX p l c cX6_trim s args m RX6 D A s0 2 meth (some .int)) (hB : tB D A ad T H) (hS : va_S A s.heap H locs) (hw : wX6_trim a1 T Q) (hl : lv_has ls 2 [(0, .ref (ad 0 0 0)), (1, .int a1)]) : W p l e rX6_trim s m args below meth c H locs 0 0 (MQ below (va_Qi Q (fun u t => tB D A ad u t.heap) A) args s 0 0 A) (F0 m 0 ls []) := by
  have hx := F.1.x
  have hb := F.1.b
  unfold wX6_trim at hw
  refine lv_iload_n hx hb dX6_trim_0 rfl (lv_at hl 1 rfl) ?_
  refine lv_i2l hx hb dX6_trim_1 rfl ?_
  refine lv_lconst (v := 0) hx hb dX6_trim_2 (by decide) ?_
  refine lv_aload_n hx hb dX6_trim_3 rfl (lv_at hl 0 rfl) ?_
  refine tg_14 F hB dX6_trim_4 ?_
  refine lv_i2l hx hb dX6_trim_7 rfl ?_
  refine kX6_X6_isIn F.1 hw ⟨Nat.le_of_ble_eq_true rfl, Nat.le_of_ble_eq_true rfl⟩ ⟨Nat.zero_le _, Nat.zero_le _⟩ hl.1 (Nat.le_of_ble_eq_true rfl) dX6_trim_8 (fun r1 hw => ?_)
  refine lv_if_ne (tgt := 17) hx hb dX6_trim_11 (by decide) (fun q => ?_) (fun q => ?_)
  · replace hw := hw.2 q
    refine lv_aload_n hx hb dX6_trim_17 rfl (lv_at hl 0 rfl) ?_
    refine lv_iload_n hx hb dX6_trim_18 rfl (lv_at hl 1 rfl) ?_
    refine tp_14 F hB hS dX6_trim_19 (fun H locs hB hS => ?_)
    refine lv_iload_n hx hb dX6_trim_22 rfl (lv_at hl 1 rfl) ?_
    exact W.iret hx hb F.1.r (fun t ht hW => ⟨⟨_, _, rfl, hw, x_B (Bw := tB D A ad) ht hB⟩, hS.F ht⟩) hS.2.2 dX6_trim_23 (hlocks := F.1.k)
  · replace hw := hw.1 q
    refine lv_ldc hx hb F.1.o (F.1.t _ q1326) dX6_trim_14 ?_
    exact W.iret hx hb F.1.r (fun t ht hW => ⟨⟨_, _, rfl, hw, x_B (Bw := tB D A ad) ht hB⟩, hS.F ht⟩) hS.2.2 dX6_trim_16 (hlocks := F.1.k)
set_option maxHeartbeats 4000000 in
theorem mX6_trim {l : Launch} {D : DD} {A : Nat → Prop} {s0 : State} {ad : AD} {T : TS} {a1 : Int32} {Q : Int32 → TS → Prop} (hw : wX6_trim a1 T Q) : Met l yX6_trim (ws_ yX6_trim cX6_trim 2 (some .int)) rX6_trim (va_Pc [.ref (ad 0 0 0), .int a1] (fun U => tB D A ad T U.heap ∧ CX l D A s0 U)) (va_Qi Q (fun u t => tB D A ad u t.heap) A) 0 0 A := by
  refine Met.ofW (cc := cX6_trim) (maxL := 2) (ret := some .int) (by decide) rfl ?_
  intro p e s m args below meth c s₁ B hml hv
  obtain ⟨rfl, hB, hC⟩ := hv
  have F : FX p l c cX6_trim s _ m RX6 D A s0 2 meth (some .int) := ⟨mk_FP B hml rfl, hC⟩
  have hS : va_S A s.heap s.heap [] := va_S.rf
  have hl := lv_entry ([.ref (ad 0 0 0), .int a1]) (n := 2) (Nat.le_of_ble_eq_true rfl)
  rw [lg_entry_eq]
  generalize (lg_sl ([.ref (ad 0 0 0), .int a1]) ++ List.replicate (2 - (lg_sl ([.ref (ad 0 0 0), .int a1])).length) Slot.unset).toArray = ls at hl ⊢
  exact bX6_trim_0 F hB hS hw hl
def rX6_turns : Room := { frames := 2, cells := 0, slots := 0, locals := 46 }
set_option maxHeartbeats 4000000 in
theorem bX6_turns_0 {p : Program} {l : Launch} {e : Env} {s : State} {m : MethodId} {args : Array Value} {below : List Frame} {meth : Method} {c : Code} {D : DD} {A : Nat → Prop} {s0 : State} {ad : AD} {Q : Int32 → TS → Prop} {a1 : Int32} {a2 : Int32} {T : TS} {H : Heap} {locs : List Loc} {ls : Array Slot} (F : FX p l c cX6_turns s args m RX6 D A s0 3 meth (some .int)) (hB : tB D A ad T H) (hS : va_S A s.heap H locs) (hw : wX6_turns a1 a2 T Q) (hl : lv_has ls 3 [(0, .ref (ad 0 0 0)), (1, .int a1), (2, .int a2)]) : W p l e rX6_turns s m args below meth c H locs 0 0 (MQ below (va_Qi Q (fun u t => tB D A ad u t.heap) A) args s 0 0 A) (F0 m 0 ls []) := by
  have hx := F.1.x
  have hb := F.1.b
  unfold wX6_turns at hw
  refine lv_aload_n hx hb dX6_turns_0 rfl (lv_at hl 0 rfl) ?_
  refine lv_iload_n hx hb dX6_turns_1 rfl (lv_at hl 1 rfl) ?_
  refine kX6_X6_isPerson F hB hS hw ⟨Nat.le_of_ble_eq_true rfl, Nat.le_of_ble_eq_true rfl⟩ ⟨Nat.zero_le _, Nat.zero_le _⟩ hl.1 (Nat.le_of_ble_eq_true rfl) dX6_turns_2 (fun r1 T2 H locs hw hB hS => ?_)
  refine lv_if_eq (tgt := 34) hx hb dX6_turns_5 (by decide) (fun q => ?_) (fun q => ?_)
  · replace hw := hw.1 q
    refine lv_ldc hx hb F.1.o (F.1.t _ q1326) dX6_turns_34 ?_
    exact W.iret hx hb F.1.r (fun t ht hW => ⟨⟨_, _, rfl, hw, x_B (Bw := tB D A ad) ht hB⟩, hS.F ht⟩) hS.2.2 dX6_turns_36 (hlocks := F.1.k)
  · replace hw := hw.2 q
    refine lv_iload_n hx hb dX6_turns_8 rfl (lv_at hl 2 rfl) ?_
    refine lv_i2l hx hb dX6_turns_9 rfl ?_
    refine lv_lconst (v := 0) hx hb dX6_turns_10 (by decide) ?_
    refine lv_ldc2 hx hb F.1.o (F.1.t _ q1321) dX6_turns_11 ?_
    refine kX6_X6_isIn F.1 hw ⟨Nat.le_of_ble_eq_true rfl, Nat.le_of_ble_eq_true rfl⟩ ⟨Nat.zero_le _, Nat.zero_le _⟩ hl.1 (Nat.le_of_ble_eq_true rfl) dX6_turns_14 (fun r3 hw => ?_)
    refine lv_if_eq (tgt := 34) hx hb dX6_turns_17 (by decide) (fun q => ?_) (fun q => ?_)
    · replace hw := hw.1 q
      refine lv_ldc hx hb F.1.o (F.1.t _ q1326) dX6_turns_34 ?_
      exact W.iret hx hb F.1.r (fun t ht hW => ⟨⟨_, _, rfl, hw, x_B (Bw := tB D A ad) ht hB⟩, hS.F ht⟩) hS.2.2 dX6_turns_36 (hlocks := F.1.k)
    · replace hw := hw.2 q
      refine lv_aload_n hx hb dX6_turns_20 rfl (lv_at hl 0 rfl) ?_
      refine lv_bipush (v := 6) hx hb dX6_turns_21 (by decide) ?_
      refine lv_iconst (v := 5) hx hb dX6_turns_23 (by decide) ?_
      refine lv_iload_n hx hb dX6_turns_24 rfl (lv_at hl 1 rfl) ?_
      refine lv_imul hx hb dX6_turns_25 ?_
      refine lv_iadd hx hb dX6_turns_26 ?_
      refine lv_iload_n hx hb dX6_turns_27 rfl (lv_at hl 2 rfl) ?_
      refine kX6_X6_becomes F hB hS hw ⟨Nat.le_of_ble_eq_true rfl, Nat.le_of_ble_eq_true rfl⟩ ⟨Nat.zero_le _, Nat.zero_le _⟩ hl.1 (Nat.le_of_ble_eq_true rfl) dX6_turns_28 (fun r4 T5 H locs hw hB hS => ?_)
      refine lv_goto (tgt := 36) hx hb dX6_turns_31 (by decide) ?_
      exact W.iret hx hb F.1.r (fun t ht hW => ⟨⟨_, _, rfl, hw, x_B (Bw := tB D A ad) ht hB⟩, hS.F ht⟩) hS.2.2 dX6_turns_36 (hlocks := F.1.k)
set_option maxHeartbeats 4000000 in
theorem mX6_turns {l : Launch} {D : DD} {A : Nat → Prop} {s0 : State} {ad : AD} {T : TS} {a1 : Int32} {a2 : Int32} {Q : Int32 → TS → Prop} (hw : wX6_turns a1 a2 T Q) : Met l yX6_turns (ws_ yX6_turns cX6_turns 3 (some .int)) rX6_turns (va_Pc [.ref (ad 0 0 0), .int a1, .int a2] (fun U => tB D A ad T U.heap ∧ CX l D A s0 U)) (va_Qi Q (fun u t => tB D A ad u t.heap) A) 0 0 A := by
  refine Met.ofW (cc := cX6_turns) (maxL := 3) (ret := some .int) (by decide) rfl ?_
  intro p e s m args below meth c s₁ B hml hv
  obtain ⟨rfl, hB, hC⟩ := hv
  have F : FX p l c cX6_turns s _ m RX6 D A s0 3 meth (some .int) := ⟨mk_FP B hml rfl, hC⟩
  have hS : va_S A s.heap s.heap [] := va_S.rf
  have hl := lv_entry ([.ref (ad 0 0 0), .int a1, .int a2]) (n := 3) (Nat.le_of_ble_eq_true rfl)
  rw [lg_entry_eq]
  generalize (lg_sl ([.ref (ad 0 0 0), .int a1, .int a2]) ++ List.replicate (3 - (lg_sl ([.ref (ad 0 0 0), .int a1, .int a2])).length) Slot.unset).toArray = ls at hl ⊢
  exact bX6_turns_0 F hB hS hw hl
def rX6_why : Room := { frames := 2, cells := 0, slots := 0, locals := 44 }
set_option maxHeartbeats 4000000 in
theorem bX6_why_0 {p : Program} {l : Launch} {e : Env} {s : State} {m : MethodId} {args : Array Value} {below : List Frame} {meth : Method} {c : Code} {D : DD} {A : Nat → Prop} {s0 : State} {ad : AD} {Q : Int32 → TS → Prop} {a1 : Int32} {T : TS} {H : Heap} {locs : List Loc} {ls : Array Slot} (F : FX p l c cX6_why s args m RX6 D A s0 2 meth (some .int)) (hB : tB D A ad T H) (hS : va_S A s.heap H locs) (hw : wX6_why a1 T Q) (hl : lv_has ls 2 [(0, .ref (ad 0 0 0)), (1, .int a1)]) : W p l e rX6_why s m args below meth c H locs 0 0 (MQ below (va_Qi Q (fun u t => tB D A ad u t.heap) A) args s 0 0 A) (F0 m 0 ls []) := by
  have hx := F.1.x
  have hb := F.1.b
  unfold wX6_why at hw
  refine lv_iload_n hx hb dX6_why_0 rfl (lv_at hl 1 rfl) ?_
  refine lv_i2l hx hb dX6_why_1 rfl ?_
  refine lv_lconst (v := 0) hx hb dX6_why_2 (by decide) ?_
  refine lv_ldc2 hx hb F.1.o (F.1.t _ q1634) dX6_why_3 ?_
  refine kX6_X6_isIn F.1 hw ⟨Nat.le_of_ble_eq_true rfl, Nat.le_of_ble_eq_true rfl⟩ ⟨Nat.zero_le _, Nat.zero_le _⟩ hl.1 (Nat.le_of_ble_eq_true rfl) dX6_why_6 (fun r1 hw => ?_)
  refine lv_if_eq (tgt := 23) hx hb dX6_why_9 (by decide) (fun q => ?_) (fun q => ?_)
  · replace hw := hw.1 q
    refine lv_ldc hx hb F.1.o (F.1.t _ q1326) dX6_why_23 ?_
    exact W.iret hx hb F.1.r (fun t ht hW => ⟨⟨_, _, rfl, hw, x_B (Bw := tB D A ad) ht hB⟩, hS.F ht⟩) hS.2.2 dX6_why_25 (hlocks := F.1.k)
  · replace hw := hw.2 q
    refine lv_aload_n hx hb dX6_why_12 rfl (lv_at hl 0 rfl) ?_
    refine lv_iload_n hx hb dX6_why_13 rfl (lv_at hl 1 rfl) ?_
    refine kX6_X6_counts F hB hS hw ⟨Nat.le_of_ble_eq_true rfl, Nat.le_of_ble_eq_true rfl⟩ ⟨Nat.zero_le _, Nat.zero_le _⟩ hl.1 (Nat.le_of_ble_eq_true rfl) dX6_why_14 (fun r2 T3 H locs hw hB hS => ?_)
    refine kX6_X6_orNone F.1 hw ⟨Nat.le_of_ble_eq_true rfl, Nat.le_of_ble_eq_true rfl⟩ ⟨Nat.zero_le _, Nat.zero_le _⟩ hl.1 (Nat.le_of_ble_eq_true rfl) dX6_why_17 (fun r4 hw => ?_)
    refine lv_goto (tgt := 25) hx hb dX6_why_20 (by decide) ?_
    exact W.iret hx hb F.1.r (fun t ht hW => ⟨⟨_, _, rfl, hw, x_B (Bw := tB D A ad) ht hB⟩, hS.F ht⟩) hS.2.2 dX6_why_25 (hlocks := F.1.k)
set_option maxHeartbeats 4000000 in
theorem mX6_why {l : Launch} {D : DD} {A : Nat → Prop} {s0 : State} {ad : AD} {T : TS} {a1 : Int32} {Q : Int32 → TS → Prop} (hw : wX6_why a1 T Q) : Met l yX6_why (ws_ yX6_why cX6_why 2 (some .int)) rX6_why (va_Pc [.ref (ad 0 0 0), .int a1] (fun U => tB D A ad T U.heap ∧ CX l D A s0 U)) (va_Qi Q (fun u t => tB D A ad u t.heap) A) 0 0 A := by
  refine Met.ofW (cc := cX6_why) (maxL := 2) (ret := some .int) (by decide) rfl ?_
  intro p e s m args below meth c s₁ B hml hv
  obtain ⟨rfl, hB, hC⟩ := hv
  have F : FX p l c cX6_why s _ m RX6 D A s0 2 meth (some .int) := ⟨mk_FP B hml rfl, hC⟩
  have hS : va_S A s.heap s.heap [] := va_S.rf
  have hl := lv_entry ([.ref (ad 0 0 0), .int a1]) (n := 2) (Nat.le_of_ble_eq_true rfl)
  rw [lg_entry_eq]
  generalize (lg_sl ([.ref (ad 0 0 0), .int a1]) ++ List.replicate (2 - (lg_sl ([.ref (ad 0 0 0), .int a1])).length) Slot.unset).toArray = ls at hl ⊢
  exact bX6_why_0 F hB hS hw hl
