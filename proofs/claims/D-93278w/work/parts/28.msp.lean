set_option maxRecDepth 100000
def rJ5_bitCount : Room := { frames := 0, cells := 0, slots := 0, locals := 0 }
set_option maxHeartbeats 4000000 in
theorem bJ5_bitCount_0 {p : Program} {l : Launch} {e : Env} {s : State} {m : MethodId} {args : Array Value} {below : List Frame} {meth : Method} {c : Code} {Q : Int32 → Prop} {a0 : Int32} {ls : Array Slot} (F : FP p c cJ5_bitCount s args m RJ5 1 meth (some .int)) (hw : wJ5_bitCount a0 Q) (hl : lv_has ls 1 [(0, .int a0)]) : W p l e rJ5_bitCount s m args below meth c s.heap [] 0 0 (MQ below (vp_Si Q) args s 0 0 (fun _ => False)) (F0 m 0 ls []) := by
  have hx := F.x
  have hb := F.b
  unfold wJ5_bitCount at hw
  refine lv_iload_n hx hb dJ5_bitCount_0 rfl (lv_at hl 0 rfl) ?_
  refine lv_iload_n hx hb dJ5_bitCount_1 rfl (lv_at hl 0 rfl) ?_
  refine lv_iconst (v := 1) hx hb dJ5_bitCount_2 (by decide) ?_
  refine lv_iushr hx hb dJ5_bitCount_3 rfl ?_
  refine lv_ldcw hx hb F.o (F.t _ q795) dJ5_bitCount_4 ?_
  refine lv_iand hx hb dJ5_bitCount_7 ?_
  refine lv_isub hx hb dJ5_bitCount_8 ?_
  refine lv_topi (fun x1 e2 => ?_)
  replace hw := hw x1 e2
  refine lv_istore_n (lv' := [(0, .int x1)]) hx hb dJ5_bitCount_9 rfl hl (by decide) rfl (fun ls hl => ?_)
  refine lv_iload_n hx hb dJ5_bitCount_10 rfl (lv_at hl 0 rfl) ?_
  refine lv_ldcw hx hb F.o (F.t _ q796) dJ5_bitCount_11 ?_
  refine lv_iand hx hb dJ5_bitCount_14 ?_
  refine lv_iload_n hx hb dJ5_bitCount_15 rfl (lv_at hl 0 rfl) ?_
  refine lv_iconst (v := 2) hx hb dJ5_bitCount_16 (by decide) ?_
  refine lv_iushr hx hb dJ5_bitCount_17 rfl ?_
  refine lv_ldcw hx hb F.o (F.t _ q796) dJ5_bitCount_18 ?_
  refine lv_iand hx hb dJ5_bitCount_21 ?_
  refine lv_iadd hx hb dJ5_bitCount_22 ?_
  refine lv_topi (fun x3 e4 => ?_)
  replace hw := hw x3 e4
  refine lv_istore_n (lv' := [(0, .int x3)]) hx hb dJ5_bitCount_23 rfl hl (by decide) rfl (fun ls hl => ?_)
  refine lv_iload_n hx hb dJ5_bitCount_24 rfl (lv_at hl 0 rfl) ?_
  refine lv_iload_n hx hb dJ5_bitCount_25 rfl (lv_at hl 0 rfl) ?_
  refine lv_iconst (v := 4) hx hb dJ5_bitCount_26 (by decide) ?_
  refine lv_iushr hx hb dJ5_bitCount_27 rfl ?_
  refine lv_iadd hx hb dJ5_bitCount_28 ?_
  refine lv_ldcw hx hb F.o (F.t _ q797) dJ5_bitCount_29 ?_
  refine lv_iand hx hb dJ5_bitCount_32 ?_
  refine lv_topi (fun x5 e6 => ?_)
  replace hw := hw x5 e6
  refine lv_istore_n (lv' := [(0, .int x5)]) hx hb dJ5_bitCount_33 rfl hl (by decide) rfl (fun ls hl => ?_)
  refine lv_iload_n hx hb dJ5_bitCount_34 rfl (lv_at hl 0 rfl) ?_
  refine lv_iload_n hx hb dJ5_bitCount_35 rfl (lv_at hl 0 rfl) ?_
  refine lv_bipush (v := 8) hx hb dJ5_bitCount_36 (by decide) ?_
  refine lv_iushr hx hb dJ5_bitCount_38 rfl ?_
  refine lv_iadd hx hb dJ5_bitCount_39 ?_
  refine lv_topi (fun x7 e8 => ?_)
  replace hw := hw x7 e8
  refine lv_istore_n (lv' := [(0, .int x7)]) hx hb dJ5_bitCount_40 rfl hl (by decide) rfl (fun ls hl => ?_)
  refine lv_iload_n hx hb dJ5_bitCount_41 rfl (lv_at hl 0 rfl) ?_
  refine lv_iload_n hx hb dJ5_bitCount_42 rfl (lv_at hl 0 rfl) ?_
  refine lv_bipush (v := 16) hx hb dJ5_bitCount_43 (by decide) ?_
  refine lv_iushr hx hb dJ5_bitCount_45 rfl ?_
  refine lv_iadd hx hb dJ5_bitCount_46 ?_
  refine lv_topi (fun x9 e10 => ?_)
  replace hw := hw x9 e10
  refine lv_istore_n (lv' := [(0, .int x9)]) hx hb dJ5_bitCount_47 rfl hl (by decide) rfl (fun ls hl => ?_)
  refine lv_iload_n hx hb dJ5_bitCount_48 rfl (lv_at hl 0 rfl) ?_
  refine lv_bipush (v := 63) hx hb dJ5_bitCount_49 (by decide) ?_
  refine lv_iand hx hb dJ5_bitCount_51 ?_
  exact W.iret hx hb F.r (fun t ht hW => ⟨_, rfl, hw, ht⟩) (fun _ h => absurd h List.not_mem_nil) dJ5_bitCount_52 (hlocks := F.k)
set_option maxHeartbeats 4000000 in
theorem mJ5_bitCount {l : Launch}  {a0 : Int32} {Q : Int32 → Prop} (hw : wJ5_bitCount a0 Q) : Met l yJ5_bitCount (ws_ yJ5_bitCount cJ5_bitCount 1 (some .int)) rJ5_bitCount (va_Pc [.int a0] (fun _ => True)) (vp_Si Q) 0 0 (fun _ => False) := by
  refine Met.ofW (cc := cJ5_bitCount) (maxL := 1) (ret := some .int) (by decide) rfl ?_
  intro p e s m args below meth c s₁ B hml hv
  obtain ⟨rfl, -⟩ := hv
  have F : FP p c cJ5_bitCount s _ m RJ5 1 meth (some .int) := mk_FP B hml rfl
  have hl := lv_entry ([.int a0]) (n := 1) (Nat.le_of_ble_eq_true rfl)
  rw [lg_entry_eq]
  generalize (lg_sl ([.int a0]) ++ List.replicate (1 - (lg_sl ([.int a0])).length) Slot.unset).toArray = ls at hl ⊢
  exact bJ5_bitCount_0 F hw hl
theorem kX0_J5_bitCount {p : Program} {l : Launch} {e : Env} {R : Room} {s : State} {m : MethodId} {args : Array Value} {below : List Frame} {meth : Method} {c : Code} {H : Heap} {locs : List Loc} {cells slots : Nat} {Q0 : State → Prop} {cc : ByteArray} {pc nL : Nat} {ls : Array Slot} {rest : List Value} {ret : Option FieldType} {a0 : Int32} {Q : Int32 → Prop} (F : FP p c cc s args m RX0 nL meth ret) (hw : wJ5_bitCount a0 Q) (hR : rJ5_bitCount.frames + 1 ≤ R.frames ∧ 8 + (1 + 11) + rJ5_bitCount.locals ≤ R.locals) (hc : cells ≤ R.cells ∧ slots ≤ R.slots) (hsz : ls.size = nL) (hW : (rest.map fun v => v.category).sum ≤ 8) (hdg : decode cc pc = .ok (.invokestatic 335, 3)) (kk : ∀ r : Int32, Q r → W p l e R s m args below meth c H locs cells slots Q0 (F0 m (pc + 3) ls (.int r :: rest))) : W p l e R s m args below meth c H locs cells slots Q0 (F0 m pc ls (.int a0 :: rest)) :=
  k_csi (k_runP (n := 1) (As := [.int a0]) F (mJ5_bitCount hw) q792 q793 q102 q794 (by decide +kernel) hR ⟨rfl, rfl⟩ hc rfl hsz rfl hW hdg) kk
theorem kX2_J5_bitCount {p : Program} {l : Launch} {e : Env} {R : Room} {s : State} {m : MethodId} {args : Array Value} {below : List Frame} {meth : Method} {c : Code} {H : Heap} {locs : List Loc} {cells slots : Nat} {Q0 : State → Prop} {cc : ByteArray} {pc nL : Nat} {ls : Array Slot} {rest : List Value} {ret : Option FieldType} {a0 : Int32} {Q : Int32 → Prop} (F : FP p c cc s args m RX2 nL meth ret) (hw : wJ5_bitCount a0 Q) (hR : rJ5_bitCount.frames + 1 ≤ R.frames ∧ 8 + (1 + 11) + rJ5_bitCount.locals ≤ R.locals) (hc : cells ≤ R.cells ∧ slots ≤ R.slots) (hsz : ls.size = nL) (hW : (rest.map fun v => v.category).sum ≤ 8) (hdg : decode cc pc = .ok (.invokestatic 28, 3)) (kk : ∀ r : Int32, Q r → W p l e R s m args below meth c H locs cells slots Q0 (F0 m (pc + 3) ls (.int r :: rest))) : W p l e R s m args below meth c H locs cells slots Q0 (F0 m pc ls (.int a0 :: rest)) :=
  k_csi (k_runP (n := 1) (As := [.int a0]) F (mJ5_bitCount hw) q822 q793 q102 q794 (by decide +kernel) hR ⟨rfl, rfl⟩ hc rfl hsz rfl hW hdg) kk
def rJ5_numberOfLeadingZeros : Room := { frames := 0, cells := 0, slots := 0, locals := 0 }
set_option maxHeartbeats 4000000 in
theorem bJ5_numberOfLeadingZeros_73 {p : Program} {l : Launch} {e : Env} {s : State} {m : MethodId} {args : Array Value} {below : List Frame} {meth : Method} {c : Code} {Q : Int32 → Prop} {l0 : Int32} {l1 : Int32} {ls : Array Slot} (F : FP p c cJ5_numberOfLeadingZeros s args m RJ5 2 meth (some .int)) (hw : wJ5_numberOfLeadingZeros_73 l0 l1 Q) (hl : lv_has ls 2 [(0, .int l0), (1, .int l1)]) : W p l e rJ5_numberOfLeadingZeros s m args below meth c s.heap [] 0 0 (MQ below (vp_Si Q) args s 0 0 (fun _ => False)) (F0 m 73 ls []) := by
  have hx := F.x
  have hb := F.b
  unfold wJ5_numberOfLeadingZeros_73 at hw
  refine lv_iload_n hx hb dJ5_numberOfLeadingZeros_73 rfl (lv_at hl 1 rfl) ?_
  refine lv_iload_n hx hb dJ5_numberOfLeadingZeros_74 rfl (lv_at hl 0 rfl) ?_
  refine lv_iconst (v := 1) hx hb dJ5_numberOfLeadingZeros_75 (by decide) ?_
  refine lv_iushr hx hb dJ5_numberOfLeadingZeros_76 rfl ?_
  refine lv_isub hx hb dJ5_numberOfLeadingZeros_77 ?_
  exact W.iret hx hb F.r (fun t ht hW => ⟨_, rfl, hw, ht⟩) (fun _ h => absurd h List.not_mem_nil) dJ5_numberOfLeadingZeros_78 (hlocks := F.k)
set_option maxHeartbeats 4000000 in
theorem bJ5_numberOfLeadingZeros_61 {p : Program} {l : Launch} {e : Env} {s : State} {m : MethodId} {args : Array Value} {below : List Frame} {meth : Method} {c : Code} {Q : Int32 → Prop} {l0 : Int32} {l1 : Int32} {ls : Array Slot} (F : FP p c cJ5_numberOfLeadingZeros s args m RJ5 2 meth (some .int)) (hw : wJ5_numberOfLeadingZeros_61 l0 l1 Q) (hl : lv_has ls 2 [(0, .int l0), (1, .int l1)]) : W p l e rJ5_numberOfLeadingZeros s m args below meth c s.heap [] 0 0 (MQ below (vp_Si Q) args s 0 0 (fun _ => False)) (F0 m 61 ls []) := by
  have hx := F.x
  have hb := F.b
  unfold wJ5_numberOfLeadingZeros_61 at hw
  refine lv_iload_n hx hb dJ5_numberOfLeadingZeros_61 rfl (lv_at hl 0 rfl) ?_
  refine lv_iconst (v := 4) hx hb dJ5_numberOfLeadingZeros_62 (by decide) ?_
  refine lv_icmp_lt (tgt := 73) hx hb dJ5_numberOfLeadingZeros_63 (by decide) (fun q => ?_) (fun q => ?_)
  · replace hw := hw.1 q
    exact bJ5_numberOfLeadingZeros_73 F hw hl
  · replace hw := hw.2 q
    refine lv_iinc (v := l1 + (-2 : Int32)) (lv' := [(1, .int (l1 + (-2 : Int32))), (0, .int l0)]) hx hb dJ5_numberOfLeadingZeros_66 hl (k := 1) rfl (x_inc (by decide)) (by decide) rfl (fun ls hl => ?_)
    refine lv_iload_n hx hb dJ5_numberOfLeadingZeros_69 rfl (lv_at hl 1 rfl) ?_
    refine lv_iconst (v := 2) hx hb dJ5_numberOfLeadingZeros_70 (by decide) ?_
    refine lv_iushr hx hb dJ5_numberOfLeadingZeros_71 rfl ?_
    refine lv_istore_n (lv' := [(0, .int ((l0.toUInt32 >>> ((2 : Int32).toUInt32 &&& Int32.toUInt32 31)).toInt32)), (1, .int (l1 + (-2 : Int32)))]) hx hb dJ5_numberOfLeadingZeros_72 rfl hl (by decide) rfl (fun ls hl => ?_)
    exact bJ5_numberOfLeadingZeros_73 F hw hl
set_option maxHeartbeats 4000000 in
theorem bJ5_numberOfLeadingZeros_48 {p : Program} {l : Launch} {e : Env} {s : State} {m : MethodId} {args : Array Value} {below : List Frame} {meth : Method} {c : Code} {Q : Int32 → Prop} {l0 : Int32} {l1 : Int32} {ls : Array Slot} (F : FP p c cJ5_numberOfLeadingZeros s args m RJ5 2 meth (some .int)) (hw : wJ5_numberOfLeadingZeros_48 l0 l1 Q) (hl : lv_has ls 2 [(0, .int l0), (1, .int l1)]) : W p l e rJ5_numberOfLeadingZeros s m args below meth c s.heap [] 0 0 (MQ below (vp_Si Q) args s 0 0 (fun _ => False)) (F0 m 48 ls []) := by
  have hx := F.x
  have hb := F.b
  unfold wJ5_numberOfLeadingZeros_48 at hw
  refine lv_iload_n hx hb dJ5_numberOfLeadingZeros_48 rfl (lv_at hl 0 rfl) ?_
  refine lv_bipush (v := 16) hx hb dJ5_numberOfLeadingZeros_49 (by decide) ?_
  refine lv_icmp_lt (tgt := 61) hx hb dJ5_numberOfLeadingZeros_51 (by decide) (fun q => ?_) (fun q => ?_)
  · replace hw := hw.1 q
    exact bJ5_numberOfLeadingZeros_61 F hw hl
  · replace hw := hw.2 q
    refine lv_iinc (v := l1 + (-4 : Int32)) (lv' := [(1, .int (l1 + (-4 : Int32))), (0, .int l0)]) hx hb dJ5_numberOfLeadingZeros_54 hl (k := 1) rfl (x_inc (by decide)) (by decide) rfl (fun ls hl => ?_)
    refine lv_iload_n hx hb dJ5_numberOfLeadingZeros_57 rfl (lv_at hl 1 rfl) ?_
    refine lv_iconst (v := 4) hx hb dJ5_numberOfLeadingZeros_58 (by decide) ?_
    refine lv_iushr hx hb dJ5_numberOfLeadingZeros_59 rfl ?_
    refine lv_istore_n (lv' := [(0, .int ((l0.toUInt32 >>> ((4 : Int32).toUInt32 &&& Int32.toUInt32 31)).toInt32)), (1, .int (l1 + (-4 : Int32)))]) hx hb dJ5_numberOfLeadingZeros_60 rfl hl (by decide) rfl (fun ls hl => ?_)
    exact bJ5_numberOfLeadingZeros_61 F hw hl
set_option maxHeartbeats 4000000 in
theorem bJ5_numberOfLeadingZeros_33 {p : Program} {l : Launch} {e : Env} {s : State} {m : MethodId} {args : Array Value} {below : List Frame} {meth : Method} {c : Code} {Q : Int32 → Prop} {l0 : Int32} {l1 : Int32} {ls : Array Slot} (F : FP p c cJ5_numberOfLeadingZeros s args m RJ5 2 meth (some .int)) (hw : wJ5_numberOfLeadingZeros_33 l0 l1 Q) (hl : lv_has ls 2 [(0, .int l0), (1, .int l1)]) : W p l e rJ5_numberOfLeadingZeros s m args below meth c s.heap [] 0 0 (MQ below (vp_Si Q) args s 0 0 (fun _ => False)) (F0 m 33 ls []) := by
  have hx := F.x
  have hb := F.b
  unfold wJ5_numberOfLeadingZeros_33 at hw
  refine lv_iload_n hx hb dJ5_numberOfLeadingZeros_33 rfl (lv_at hl 0 rfl) ?_
  refine lv_sipush (v := 256) hx hb dJ5_numberOfLeadingZeros_34 (by decide) ?_
  refine lv_icmp_lt (tgt := 48) hx hb dJ5_numberOfLeadingZeros_37 (by decide) (fun q => ?_) (fun q => ?_)
  · replace hw := hw.1 q
    exact bJ5_numberOfLeadingZeros_48 F hw hl
  · replace hw := hw.2 q
    refine lv_iinc (v := l1 + (-8 : Int32)) (lv' := [(1, .int (l1 + (-8 : Int32))), (0, .int l0)]) hx hb dJ5_numberOfLeadingZeros_40 hl (k := 1) rfl (x_inc (by decide)) (by decide) rfl (fun ls hl => ?_)
    refine lv_iload_n hx hb dJ5_numberOfLeadingZeros_43 rfl (lv_at hl 1 rfl) ?_
    refine lv_bipush (v := 8) hx hb dJ5_numberOfLeadingZeros_44 (by decide) ?_
    refine lv_iushr hx hb dJ5_numberOfLeadingZeros_46 rfl ?_
    refine lv_istore_n (lv' := [(0, .int ((l0.toUInt32 >>> ((8 : Int32).toUInt32 &&& Int32.toUInt32 31)).toInt32)), (1, .int (l1 + (-8 : Int32)))]) hx hb dJ5_numberOfLeadingZeros_47 rfl hl (by decide) rfl (fun ls hl => ?_)
    exact bJ5_numberOfLeadingZeros_48 F hw hl
set_option maxHeartbeats 4000000 in
theorem bJ5_numberOfLeadingZeros_0 {p : Program} {l : Launch} {e : Env} {s : State} {m : MethodId} {args : Array Value} {below : List Frame} {meth : Method} {c : Code} {Q : Int32 → Prop} {a0 : Int32} {ls : Array Slot} (F : FP p c cJ5_numberOfLeadingZeros s args m RJ5 2 meth (some .int)) (hw : wJ5_numberOfLeadingZeros a0 Q) (hl : lv_has ls 2 [(0, .int a0)]) : W p l e rJ5_numberOfLeadingZeros s m args below meth c s.heap [] 0 0 (MQ below (vp_Si Q) args s 0 0 (fun _ => False)) (F0 m 0 ls []) := by
  have hx := F.x
  have hb := F.b
  unfold wJ5_numberOfLeadingZeros at hw
  refine lv_iload_n hx hb dJ5_numberOfLeadingZeros_0 rfl (lv_at hl 0 rfl) ?_
  refine lv_if_gt (tgt := 15) hx hb dJ5_numberOfLeadingZeros_1 (by decide) (fun q => ?_) (fun q => ?_)
  · replace hw := hw.1 q
    refine lv_bipush (v := 31) hx hb dJ5_numberOfLeadingZeros_15 (by decide) ?_
    refine lv_istore_n (lv' := [(1, .int (31 : Int32)), (0, .int a0)]) hx hb dJ5_numberOfLeadingZeros_17 rfl hl (by decide) rfl (fun ls hl => ?_)
    refine lv_iload_n hx hb dJ5_numberOfLeadingZeros_18 rfl (lv_at hl 1 rfl) ?_
    refine lv_ldcw hx hb F.o (F.t _ q895) dJ5_numberOfLeadingZeros_19 ?_
    refine lv_icmp_lt (tgt := 33) hx hb dJ5_numberOfLeadingZeros_22 (by decide) (fun q => ?_) (fun q => ?_)
    · replace hw := hw.1 q
      exact bJ5_numberOfLeadingZeros_33 F hw (lv_sub hl [1, 0] rfl)
    · replace hw := hw.2 q
      refine lv_iinc (v := (31 : Int32) + (-16 : Int32)) (lv' := [(1, .int ((31 : Int32) + (-16 : Int32))), (0, .int a0)]) hx hb dJ5_numberOfLeadingZeros_25 hl (k := 0) rfl (x_inc (by decide)) (by decide) rfl (fun ls hl => ?_)
      refine lv_iload_n hx hb dJ5_numberOfLeadingZeros_28 rfl (lv_at hl 1 rfl) ?_
      refine lv_bipush (v := 16) hx hb dJ5_numberOfLeadingZeros_29 (by decide) ?_
      refine lv_iushr hx hb dJ5_numberOfLeadingZeros_31 rfl ?_
      refine lv_topi (fun x1 e2 => ?_)
      replace hw := hw x1 e2
      refine lv_istore_n (lv' := [(0, .int x1), (1, .int ((31 : Int32) + (-16 : Int32)))]) hx hb dJ5_numberOfLeadingZeros_32 rfl hl (by decide) rfl (fun ls hl => ?_)
      exact bJ5_numberOfLeadingZeros_33 F hw hl
  · replace hw := hw.2 q
    refine lv_iload_n hx hb dJ5_numberOfLeadingZeros_4 rfl (lv_at hl 0 rfl) ?_
    refine lv_if_ne (tgt := 13) hx hb dJ5_numberOfLeadingZeros_5 (by decide) (fun q => ?_) (fun q => ?_)
    · replace hw := hw.2 q
      refine lv_iconst (v := 0) hx hb dJ5_numberOfLeadingZeros_13 (by decide) ?_
      exact W.iret hx hb F.r (fun t ht hW => ⟨_, rfl, hw, ht⟩) (fun _ h => absurd h List.not_mem_nil) dJ5_numberOfLeadingZeros_14 (hlocks := F.k)
    · replace hw := hw.1 q
      refine lv_bipush (v := 32) hx hb dJ5_numberOfLeadingZeros_8 (by decide) ?_
      refine lv_goto (tgt := 14) hx hb dJ5_numberOfLeadingZeros_10 (by decide) ?_
      exact W.iret hx hb F.r (fun t ht hW => ⟨_, rfl, hw, ht⟩) (fun _ h => absurd h List.not_mem_nil) dJ5_numberOfLeadingZeros_14 (hlocks := F.k)
set_option maxHeartbeats 4000000 in
theorem mJ5_numberOfLeadingZeros {l : Launch}  {a0 : Int32} {Q : Int32 → Prop} (hw : wJ5_numberOfLeadingZeros a0 Q) : Met l yJ5_numberOfLeadingZeros (ws_ yJ5_numberOfLeadingZeros cJ5_numberOfLeadingZeros 2 (some .int)) rJ5_numberOfLeadingZeros (va_Pc [.int a0] (fun _ => True)) (vp_Si Q) 0 0 (fun _ => False) := by
  refine Met.ofW (cc := cJ5_numberOfLeadingZeros) (maxL := 2) (ret := some .int) (by decide) rfl ?_
  intro p e s m args below meth c s₁ B hml hv
  obtain ⟨rfl, -⟩ := hv
  have F : FP p c cJ5_numberOfLeadingZeros s _ m RJ5 2 meth (some .int) := mk_FP B hml rfl
  have hl := lv_entry ([.int a0]) (n := 2) (Nat.le_of_ble_eq_true rfl)
  rw [lg_entry_eq]
  generalize (lg_sl ([.int a0]) ++ List.replicate (2 - (lg_sl ([.int a0])).length) Slot.unset).toArray = ls at hl ⊢
  exact bJ5_numberOfLeadingZeros_0 F hw hl
theorem kJ5_J5_numberOfLeadingZeros {p : Program} {l : Launch} {e : Env} {R : Room} {s : State} {m : MethodId} {args : Array Value} {below : List Frame} {meth : Method} {c : Code} {H : Heap} {locs : List Loc} {cells slots : Nat} {Q0 : State → Prop} {cc : ByteArray} {pc nL : Nat} {ls : Array Slot} {rest : List Value} {ret : Option FieldType} {a0 : Int32} {Q : Int32 → Prop} (F : FP p c cc s args m RJ5 nL meth ret) (hw : wJ5_numberOfLeadingZeros a0 Q) (hR : rJ5_numberOfLeadingZeros.frames + 1 ≤ R.frames ∧ 8 + (2 + 11) + rJ5_numberOfLeadingZeros.locals ≤ R.locals) (hc : cells ≤ R.cells ∧ slots ≤ R.slots) (hsz : ls.size = nL) (hW : (rest.map fun v => v.category).sum ≤ 8) (hdg : decode cc pc = .ok (.invokestatic 51, 3)) (kk : ∀ r : Int32, Q r → W p l e R s m args below meth c H locs cells slots Q0 (F0 m (pc + 3) ls (.int r :: rest))) : W p l e R s m args below meth c H locs cells slots Q0 (F0 m pc ls (.int a0 :: rest)) :=
  k_csi (k_runP (n := 1) (As := [.int a0]) F (mJ5_numberOfLeadingZeros hw) q912 q913 q102 q914 (by decide +kernel) hR ⟨rfl, rfl⟩ hc rfl hsz rfl hW hdg) kk
def rJ5_highestOneBit : Room := { frames := 1, cells := 0, slots := 0, locals := 21 }
set_option maxHeartbeats 4000000 in
theorem bJ5_highestOneBit_0 {p : Program} {l : Launch} {e : Env} {s : State} {m : MethodId} {args : Array Value} {below : List Frame} {meth : Method} {c : Code} {Q : Int32 → Prop} {a0 : Int32} {ls : Array Slot} (F : FP p c cJ5_highestOneBit s args m RJ5 1 meth (some .int)) (hw : wJ5_highestOneBit a0 Q) (hl : lv_has ls 1 [(0, .int a0)]) : W p l e rJ5_highestOneBit s m args below meth c s.heap [] 0 0 (MQ below (vp_Si Q) args s 0 0 (fun _ => False)) (F0 m 0 ls []) := by
  have hx := F.x
  have hb := F.b
  unfold wJ5_highestOneBit at hw
  refine lv_iload_n hx hb dJ5_highestOneBit_0 rfl (lv_at hl 0 rfl) ?_
  refine lv_ldc hx hb F.o (F.t _ q911) dJ5_highestOneBit_1 ?_
  refine lv_iload_n hx hb dJ5_highestOneBit_3 rfl (lv_at hl 0 rfl) ?_
  refine kJ5_J5_numberOfLeadingZeros F hw ⟨Nat.le_of_ble_eq_true rfl, Nat.le_of_ble_eq_true rfl⟩ ⟨Nat.zero_le _, Nat.zero_le _⟩ hl.1 (Nat.le_of_ble_eq_true rfl) dJ5_highestOneBit_4 (fun r1 hw => ?_)
  refine lv_iushr hx hb dJ5_highestOneBit_7 rfl ?_
  refine lv_iand hx hb dJ5_highestOneBit_8 ?_
  exact W.iret hx hb F.r (fun t ht hW => ⟨_, rfl, hw, ht⟩) (fun _ h => absurd h List.not_mem_nil) dJ5_highestOneBit_9 (hlocks := F.k)
set_option maxHeartbeats 4000000 in
theorem mJ5_highestOneBit {l : Launch}  {a0 : Int32} {Q : Int32 → Prop} (hw : wJ5_highestOneBit a0 Q) : Met l yJ5_highestOneBit (ws_ yJ5_highestOneBit cJ5_highestOneBit 1 (some .int)) rJ5_highestOneBit (va_Pc [.int a0] (fun _ => True)) (vp_Si Q) 0 0 (fun _ => False) := by
  refine Met.ofW (cc := cJ5_highestOneBit) (maxL := 1) (ret := some .int) (by decide) rfl ?_
  intro p e s m args below meth c s₁ B hml hv
  obtain ⟨rfl, -⟩ := hv
  have F : FP p c cJ5_highestOneBit s _ m RJ5 1 meth (some .int) := mk_FP B hml rfl
  have hl := lv_entry ([.int a0]) (n := 1) (Nat.le_of_ble_eq_true rfl)
  rw [lg_entry_eq]
  generalize (lg_sl ([.int a0]) ++ List.replicate (1 - (lg_sl ([.int a0])).length) Slot.unset).toArray = ls at hl ⊢
  exact bJ5_highestOneBit_0 F hw hl
theorem kX0_J5_highestOneBit {p : Program} {l : Launch} {e : Env} {R : Room} {s : State} {m : MethodId} {args : Array Value} {below : List Frame} {meth : Method} {c : Code} {H : Heap} {locs : List Loc} {cells slots : Nat} {Q0 : State → Prop} {cc : ByteArray} {pc nL : Nat} {ls : Array Slot} {rest : List Value} {ret : Option FieldType} {a0 : Int32} {Q : Int32 → Prop} (F : FP p c cc s args m RX0 nL meth ret) (hw : wJ5_highestOneBit a0 Q) (hR : rJ5_highestOneBit.frames + 1 ≤ R.frames ∧ 8 + (1 + 11) + rJ5_highestOneBit.locals ≤ R.locals) (hc : cells ≤ R.cells ∧ slots ≤ R.slots) (hsz : ls.size = nL) (hW : (rest.map fun v => v.category).sum ≤ 8) (hdg : decode cc pc = .ok (.invokestatic 418, 3)) (kk : ∀ r : Int32, Q r → W p l e R s m args below meth c H locs cells slots Q0 (F0 m (pc + 3) ls (.int r :: rest))) : W p l e R s m args below meth c H locs cells slots Q0 (F0 m pc ls (.int a0 :: rest)) :=
  k_csi (k_runP (n := 1) (As := [.int a0]) F (mJ5_highestOneBit hw) q964 q909 q102 q910 (by decide +kernel) hR ⟨rfl, rfl⟩ hc rfl hsz rfl hW hdg) kk
theorem kX10_J5_highestOneBit {p : Program} {l : Launch} {e : Env} {R : Room} {s : State} {m : MethodId} {args : Array Value} {below : List Frame} {meth : Method} {c : Code} {H : Heap} {locs : List Loc} {cells slots : Nat} {Q0 : State → Prop} {cc : ByteArray} {pc nL : Nat} {ls : Array Slot} {rest : List Value} {ret : Option FieldType} {a0 : Int32} {Q : Int32 → Prop} (F : FP p c cc s args m RX10 nL meth ret) (hw : wJ5_highestOneBit a0 Q) (hR : rJ5_highestOneBit.frames + 1 ≤ R.frames ∧ 8 + (1 + 11) + rJ5_highestOneBit.locals ≤ R.locals) (hc : cells ≤ R.cells ∧ slots ≤ R.slots) (hsz : ls.size = nL) (hW : (rest.map fun v => v.category).sum ≤ 8) (hdg : decode cc pc = .ok (.invokestatic 11, 3)) (kk : ∀ r : Int32, Q r → W p l e R s m args below meth c H locs cells slots Q0 (F0 m (pc + 3) ls (.int r :: rest))) : W p l e R s m args below meth c H locs cells slots Q0 (F0 m pc ls (.int a0 :: rest)) :=
  k_csi (k_runP (n := 1) (As := [.int a0]) F (mJ5_highestOneBit hw) q908 q909 q102 q910 (by decide +kernel) hR ⟨rfl, rfl⟩ hc rfl hsz rfl hW hdg) kk
def rJ5_numberOfTrailingZeros : Room := { frames := 0, cells := 0, slots := 0, locals := 0 }
set_option maxHeartbeats 4000000 in
theorem bJ5_numberOfTrailingZeros_74 {p : Program} {l : Launch} {e : Env} {s : State} {m : MethodId} {args : Array Value} {below : List Frame} {meth : Method} {c : Code} {Q : Int32 → Prop} {l0 : Int32} {l1 : Int32} {ls : Array Slot} (F : FP p c cJ5_numberOfTrailingZeros s args m RJ5 2 meth (some .int)) (hw : wJ5_numberOfTrailingZeros_74 l0 l1 Q) (hl : lv_has ls 2 [(0, .int l0), (1, .int l1)]) : W p l e rJ5_numberOfTrailingZeros s m args below meth c s.heap [] 0 0 (MQ below (vp_Si Q) args s 0 0 (fun _ => False)) (F0 m 74 ls []) := by
  have hx := F.x
  have hb := F.b
  unfold wJ5_numberOfTrailingZeros_74 at hw
  refine lv_iload_n hx hb dJ5_numberOfTrailingZeros_74 rfl (lv_at hl 1 rfl) ?_
  refine lv_iload_n hx hb dJ5_numberOfTrailingZeros_75 rfl (lv_at hl 0 rfl) ?_
  refine lv_iconst (v := 1) hx hb dJ5_numberOfTrailingZeros_76 (by decide) ?_
  refine lv_iushr hx hb dJ5_numberOfTrailingZeros_77 rfl ?_
  refine lv_iadd hx hb dJ5_numberOfTrailingZeros_78 ?_
  exact W.iret hx hb F.r (fun t ht hW => ⟨_, rfl, hw, ht⟩) (fun _ h => absurd h List.not_mem_nil) dJ5_numberOfTrailingZeros_79 (hlocks := F.k)
set_option maxHeartbeats 4000000 in
theorem bJ5_numberOfTrailingZeros_62 {p : Program} {l : Launch} {e : Env} {s : State} {m : MethodId} {args : Array Value} {below : List Frame} {meth : Method} {c : Code} {Q : Int32 → Prop} {l0 : Int32} {l1 : Int32} {ls : Array Slot} (F : FP p c cJ5_numberOfTrailingZeros s args m RJ5 2 meth (some .int)) (hw : wJ5_numberOfTrailingZeros_62 l0 l1 Q) (hl : lv_has ls 2 [(0, .int l0), (1, .int l1)]) : W p l e rJ5_numberOfTrailingZeros s m args below meth c s.heap [] 0 0 (MQ below (vp_Si Q) args s 0 0 (fun _ => False)) (F0 m 62 ls []) := by
  have hx := F.x
  have hb := F.b
  unfold wJ5_numberOfTrailingZeros_62 at hw
  refine lv_iload_n hx hb dJ5_numberOfTrailingZeros_62 rfl (lv_at hl 0 rfl) ?_
  refine lv_iconst (v := 4) hx hb dJ5_numberOfTrailingZeros_63 (by decide) ?_
  refine lv_icmp_le (tgt := 74) hx hb dJ5_numberOfTrailingZeros_64 (by decide) (fun q => ?_) (fun q => ?_)
  · replace hw := hw.1 q
    exact bJ5_numberOfTrailingZeros_74 F hw hl
  · replace hw := hw.2 q
    refine lv_iinc (v := l1 + (2 : Int32)) (lv' := [(1, .int (l1 + (2 : Int32))), (0, .int l0)]) hx hb dJ5_numberOfTrailingZeros_67 hl (k := 1) rfl (x_inc (by decide)) (by decide) rfl (fun ls hl => ?_)
    refine lv_iload_n hx hb dJ5_numberOfTrailingZeros_70 rfl (lv_at hl 1 rfl) ?_
    refine lv_iconst (v := 2) hx hb dJ5_numberOfTrailingZeros_71 (by decide) ?_
    refine lv_iushr hx hb dJ5_numberOfTrailingZeros_72 rfl ?_
    refine lv_istore_n (lv' := [(0, .int ((l0.toUInt32 >>> ((2 : Int32).toUInt32 &&& Int32.toUInt32 31)).toInt32)), (1, .int (l1 + (2 : Int32)))]) hx hb dJ5_numberOfTrailingZeros_73 rfl hl (by decide) rfl (fun ls hl => ?_)
    exact bJ5_numberOfTrailingZeros_74 F hw hl
set_option maxHeartbeats 4000000 in
theorem bJ5_numberOfTrailingZeros_49 {p : Program} {l : Launch} {e : Env} {s : State} {m : MethodId} {args : Array Value} {below : List Frame} {meth : Method} {c : Code} {Q : Int32 → Prop} {l0 : Int32} {l1 : Int32} {ls : Array Slot} (F : FP p c cJ5_numberOfTrailingZeros s args m RJ5 2 meth (some .int)) (hw : wJ5_numberOfTrailingZeros_49 l0 l1 Q) (hl : lv_has ls 2 [(0, .int l0), (1, .int l1)]) : W p l e rJ5_numberOfTrailingZeros s m args below meth c s.heap [] 0 0 (MQ below (vp_Si Q) args s 0 0 (fun _ => False)) (F0 m 49 ls []) := by
  have hx := F.x
  have hb := F.b
  unfold wJ5_numberOfTrailingZeros_49 at hw
  refine lv_iload_n hx hb dJ5_numberOfTrailingZeros_49 rfl (lv_at hl 0 rfl) ?_
  refine lv_bipush (v := 16) hx hb dJ5_numberOfTrailingZeros_50 (by decide) ?_
  refine lv_icmp_le (tgt := 62) hx hb dJ5_numberOfTrailingZeros_52 (by decide) (fun q => ?_) (fun q => ?_)
  · replace hw := hw.1 q
    exact bJ5_numberOfTrailingZeros_62 F hw hl
  · replace hw := hw.2 q
    refine lv_iinc (v := l1 + (4 : Int32)) (lv' := [(1, .int (l1 + (4 : Int32))), (0, .int l0)]) hx hb dJ5_numberOfTrailingZeros_55 hl (k := 1) rfl (x_inc (by decide)) (by decide) rfl (fun ls hl => ?_)
    refine lv_iload_n hx hb dJ5_numberOfTrailingZeros_58 rfl (lv_at hl 1 rfl) ?_
    refine lv_iconst (v := 4) hx hb dJ5_numberOfTrailingZeros_59 (by decide) ?_
    refine lv_iushr hx hb dJ5_numberOfTrailingZeros_60 rfl ?_
    refine lv_istore_n (lv' := [(0, .int ((l0.toUInt32 >>> ((4 : Int32).toUInt32 &&& Int32.toUInt32 31)).toInt32)), (1, .int (l1 + (4 : Int32)))]) hx hb dJ5_numberOfTrailingZeros_61 rfl hl (by decide) rfl (fun ls hl => ?_)
    exact bJ5_numberOfTrailingZeros_62 F hw hl
set_option maxHeartbeats 4000000 in
theorem bJ5_numberOfTrailingZeros_34 {p : Program} {l : Launch} {e : Env} {s : State} {m : MethodId} {args : Array Value} {below : List Frame} {meth : Method} {c : Code} {Q : Int32 → Prop} {l0 : Int32} {l1 : Int32} {ls : Array Slot} (F : FP p c cJ5_numberOfTrailingZeros s args m RJ5 2 meth (some .int)) (hw : wJ5_numberOfTrailingZeros_34 l0 l1 Q) (hl : lv_has ls 2 [(0, .int l0), (1, .int l1)]) : W p l e rJ5_numberOfTrailingZeros s m args below meth c s.heap [] 0 0 (MQ below (vp_Si Q) args s 0 0 (fun _ => False)) (F0 m 34 ls []) := by
  have hx := F.x
  have hb := F.b
  unfold wJ5_numberOfTrailingZeros_34 at hw
  refine lv_iload_n hx hb dJ5_numberOfTrailingZeros_34 rfl (lv_at hl 0 rfl) ?_
  refine lv_sipush (v := 256) hx hb dJ5_numberOfTrailingZeros_35 (by decide) ?_
  refine lv_icmp_le (tgt := 49) hx hb dJ5_numberOfTrailingZeros_38 (by decide) (fun q => ?_) (fun q => ?_)
  · replace hw := hw.1 q
    exact bJ5_numberOfTrailingZeros_49 F hw hl
  · replace hw := hw.2 q
    refine lv_iinc (v := l1 + (8 : Int32)) (lv' := [(1, .int (l1 + (8 : Int32))), (0, .int l0)]) hx hb dJ5_numberOfTrailingZeros_41 hl (k := 1) rfl (x_inc (by decide)) (by decide) rfl (fun ls hl => ?_)
    refine lv_iload_n hx hb dJ5_numberOfTrailingZeros_44 rfl (lv_at hl 1 rfl) ?_
    refine lv_bipush (v := 8) hx hb dJ5_numberOfTrailingZeros_45 (by decide) ?_
    refine lv_iushr hx hb dJ5_numberOfTrailingZeros_47 rfl ?_
    refine lv_istore_n (lv' := [(0, .int ((l0.toUInt32 >>> ((8 : Int32).toUInt32 &&& Int32.toUInt32 31)).toInt32)), (1, .int (l1 + (8 : Int32)))]) hx hb dJ5_numberOfTrailingZeros_48 rfl hl (by decide) rfl (fun ls hl => ?_)
    exact bJ5_numberOfTrailingZeros_49 F hw hl
set_option maxHeartbeats 4000000 in
theorem bJ5_numberOfTrailingZeros_0 {p : Program} {l : Launch} {e : Env} {s : State} {m : MethodId} {args : Array Value} {below : List Frame} {meth : Method} {c : Code} {Q : Int32 → Prop} {a0 : Int32} {ls : Array Slot} (F : FP p c cJ5_numberOfTrailingZeros s args m RJ5 2 meth (some .int)) (hw : wJ5_numberOfTrailingZeros a0 Q) (hl : lv_has ls 2 [(0, .int a0)]) : W p l e rJ5_numberOfTrailingZeros s m args below meth c s.heap [] 0 0 (MQ below (vp_Si Q) args s 0 0 (fun _ => False)) (F0 m 0 ls []) := by
  have hx := F.x
  have hb := F.b
  unfold wJ5_numberOfTrailingZeros at hw
  refine lv_iload_n hx hb dJ5_numberOfTrailingZeros_0 rfl (lv_at hl 0 rfl) ?_
  refine lv_iconst (v := -1) hx hb dJ5_numberOfTrailingZeros_1 (by decide) ?_
  refine lv_ixor hx hb dJ5_numberOfTrailingZeros_2 ?_
  refine lv_iload_n hx hb dJ5_numberOfTrailingZeros_3 rfl (lv_at hl 0 rfl) ?_
  refine lv_iconst (v := 1) hx hb dJ5_numberOfTrailingZeros_4 (by decide) ?_
  refine lv_isub hx hb dJ5_numberOfTrailingZeros_5 ?_
  refine lv_iand hx hb dJ5_numberOfTrailingZeros_6 ?_
  refine lv_istore_n (lv' := [(0, .int ((a0 ^^^ (-1 : Int32)) &&& (a0 - (1 : Int32))))]) hx hb dJ5_numberOfTrailingZeros_7 rfl hl (by decide) rfl (fun ls hl => ?_)
  refine lv_iload_n hx hb dJ5_numberOfTrailingZeros_8 rfl (lv_at hl 0 rfl) ?_
  refine lv_if_gt (tgt := 17) hx hb dJ5_numberOfTrailingZeros_9 (by decide) (fun q => ?_) (fun q => ?_)
  · replace hw := hw.1 q
    refine lv_iconst (v := 1) hx hb dJ5_numberOfTrailingZeros_17 (by decide) ?_
    refine lv_istore_n (lv' := [(1, .int (1 : Int32)), (0, .int ((a0 ^^^ (-1 : Int32)) &&& (a0 - (1 : Int32))))]) hx hb dJ5_numberOfTrailingZeros_18 rfl hl (by decide) rfl (fun ls hl => ?_)
    refine lv_iload_n hx hb dJ5_numberOfTrailingZeros_19 rfl (lv_at hl 1 rfl) ?_
    refine lv_ldcw hx hb F.o (F.t _ q895) dJ5_numberOfTrailingZeros_20 ?_
    refine lv_icmp_le (tgt := 34) hx hb dJ5_numberOfTrailingZeros_23 (by decide) (fun q => ?_) (fun q => ?_)
    · replace hw := hw.1 q
      exact bJ5_numberOfTrailingZeros_34 F hw (lv_sub hl [1, 0] rfl)
    · replace hw := hw.2 q
      refine lv_iinc (v := (1 : Int32) + (16 : Int32)) (lv' := [(1, .int ((1 : Int32) + (16 : Int32))), (0, .int ((a0 ^^^ (-1 : Int32)) &&& (a0 - (1 : Int32))))]) hx hb dJ5_numberOfTrailingZeros_26 hl (k := 0) rfl (x_inc (by decide)) (by decide) rfl (fun ls hl => ?_)
      refine lv_iload_n hx hb dJ5_numberOfTrailingZeros_29 rfl (lv_at hl 1 rfl) ?_
      refine lv_bipush (v := 16) hx hb dJ5_numberOfTrailingZeros_30 (by decide) ?_
      refine lv_iushr hx hb dJ5_numberOfTrailingZeros_32 rfl ?_
      refine lv_topi (fun x1 e2 => ?_)
      replace hw := hw x1 e2
      refine lv_istore_n (lv' := [(0, .int x1), (1, .int ((1 : Int32) + (16 : Int32)))]) hx hb dJ5_numberOfTrailingZeros_33 rfl hl (by decide) rfl (fun ls hl => ?_)
      exact bJ5_numberOfTrailingZeros_34 F hw hl
  · replace hw := hw.2 q
    refine lv_iload_n hx hb dJ5_numberOfTrailingZeros_12 rfl (lv_at hl 0 rfl) ?_
    refine lv_bipush (v := 32) hx hb dJ5_numberOfTrailingZeros_13 (by decide) ?_
    refine lv_iand hx hb dJ5_numberOfTrailingZeros_15 ?_
    exact W.iret hx hb F.r (fun t ht hW => ⟨_, rfl, hw, ht⟩) (fun _ h => absurd h List.not_mem_nil) dJ5_numberOfTrailingZeros_16 (hlocks := F.k)
set_option maxHeartbeats 4000000 in
theorem mJ5_numberOfTrailingZeros {l : Launch}  {a0 : Int32} {Q : Int32 → Prop} (hw : wJ5_numberOfTrailingZeros a0 Q) : Met l yJ5_numberOfTrailingZeros (ws_ yJ5_numberOfTrailingZeros cJ5_numberOfTrailingZeros 2 (some .int)) rJ5_numberOfTrailingZeros (va_Pc [.int a0] (fun _ => True)) (vp_Si Q) 0 0 (fun _ => False) := by
  refine Met.ofW (cc := cJ5_numberOfTrailingZeros) (maxL := 2) (ret := some .int) (by decide) rfl ?_
  intro p e s m args below meth c s₁ B hml hv
  obtain ⟨rfl, -⟩ := hv
  have F : FP p c cJ5_numberOfTrailingZeros s _ m RJ5 2 meth (some .int) := mk_FP B hml rfl
  have hl := lv_entry ([.int a0]) (n := 2) (Nat.le_of_ble_eq_true rfl)
  rw [lg_entry_eq]
  generalize (lg_sl ([.int a0]) ++ List.replicate (2 - (lg_sl ([.int a0])).length) Slot.unset).toArray = ls at hl ⊢
  exact bJ5_numberOfTrailingZeros_0 F hw hl
theorem kX17_J5_numberOfTrailingZeros {p : Program} {l : Launch} {e : Env} {R : Room} {s : State} {m : MethodId} {args : Array Value} {below : List Frame} {meth : Method} {c : Code} {H : Heap} {locs : List Loc} {cells slots : Nat} {Q0 : State → Prop} {cc : ByteArray} {pc nL : Nat} {ls : Array Slot} {rest : List Value} {ret : Option FieldType} {a0 : Int32} {Q : Int32 → Prop} (F : FP p c cc s args m RX17 nL meth ret) (hw : wJ5_numberOfTrailingZeros a0 Q) (hR : rJ5_numberOfTrailingZeros.frames + 1 ≤ R.frames ∧ 8 + (2 + 11) + rJ5_numberOfTrailingZeros.locals ≤ R.locals) (hc : cells ≤ R.cells ∧ slots ≤ R.slots) (hsz : ls.size = nL) (hW : (rest.map fun v => v.category).sum ≤ 8) (hdg : decode cc pc = .ok (.invokestatic 3, 3)) (kk : ∀ r : Int32, Q r → W p l e R s m args below meth c H locs cells slots Q0 (F0 m (pc + 3) ls (.int r :: rest))) : W p l e R s m args below meth c H locs cells slots Q0 (F0 m pc ls (.int a0 :: rest)) :=
  k_csi (k_runP (n := 1) (As := [.int a0]) F (mJ5_numberOfTrailingZeros hw) q892 q893 q102 q894 (by decide +kernel) hR ⟨rfl, rfl⟩ hc rfl hsz rfl hW hdg) kk
def rX7_kind : Room := { frames := 0, cells := 0, slots := 0, locals := 0 }
set_option maxHeartbeats 4000000 in
theorem bX7_kind_0 {p : Program} {l : Launch} {e : Env} {s : State} {m : MethodId} {args : Array Value} {below : List Frame} {meth : Method} {c : Code} {D : DD} {A : Nat → Prop} {s0 : State} {ad : AD} {Q : Int32 → CV → Prop} {a0 : Nat} {V : CV} {H : Heap} {locs : List Loc} {ls : Array Slot} (F : FX p l c cX7_kind s args m RX7 D A s0 1 meth (some .int)) (hB : cB D A ad V H) (hS : va_S A s.heap H locs) (hw : wX7_kind a0 V Q) (hl : lv_has ls 1 [(0, .ref a0)]) : W p l e rX7_kind s m args below meth c H locs 0 0 (MQ below (va_Qi Q (fun u t => cB D A ad u t.heap) A) args s 0 0 A) (F0 m 0 ls []) := by
  have hx := F.1.x
  have hb := F.1.b
  unfold wX7_kind at hw
  refine lv_iconst (v := 0) hx hb dX7_kind_0 (by decide) ?_
  exact W.iret hx hb F.1.r (fun t ht hW => ⟨⟨_, _, rfl, hw, x_B (Bw := cB D A ad) ht hB⟩, hS.F ht⟩) hS.2.2 dX7_kind_1 (hlocks := F.1.k)
set_option maxHeartbeats 4000000 in
theorem mX7_kind {l : Launch} {D : DD} {A : Nat → Prop} {s0 : State} {ad : AD} {V : CV} {a0 : Nat} {Q : Int32 → CV → Prop} (hw : wX7_kind a0 V Q) : Met l yX7_kind (ws_ yX7_kind cX7_kind 1 (some .int)) rX7_kind (va_Pc [.ref a0] (fun U => cB D A ad V U.heap ∧ CX l D A s0 U)) (va_Qi Q (fun u t => cB D A ad u t.heap) A) 0 0 A := by
  refine Met.ofW (cc := cX7_kind) (maxL := 1) (ret := some .int) (by decide) rfl ?_
  intro p e s m args below meth c s₁ B hml hv
  obtain ⟨rfl, hB, hC⟩ := hv
  have F : FX p l c cX7_kind s _ m RX7 D A s0 1 meth (some .int) := ⟨mk_FP B hml rfl, hC⟩
  have hS : va_S A s.heap s.heap [] := va_S.rf
  have hl := lv_entry ([.ref a0]) (n := 1) (Nat.le_of_ble_eq_true rfl)
  rw [lg_entry_eq]
  generalize (lg_sl ([.ref a0]) ++ List.replicate (1 - (lg_sl ([.ref a0])).length) Slot.unset).toArray = ls at hl ⊢
  exact bX7_kind_0 F hB hS hw hl
def rX7_init : Room := { frames := 1, cells := 0, slots := 0, locals := 40 }
set_option maxHeartbeats 4000000 in
theorem bX7_init_0 {p : Program} {l : Launch} {e : Env} {s : State} {m : MethodId} {args : Array Value} {below : List Frame} {meth : Method} {c : Code} {D : DD} {A : Nat → Prop} {s0 : State} {ad : AD} {Q : CV → Prop} {a0 : Nat} {V : CV} {H : Heap} {locs : List Loc} {ls : Array Slot} (F : FX p l c cX7_init s args m RX7 D A s0 1 meth (none)) (hin : meth.name = "<init>") (hB : cB D A ad V H) (hS : va_S A s.heap H locs) (hw : wX7_init a0 V Q) (hl : lv_has ls 1 [(0, .ref a0)]) : W p l e rX7_init s m args below meth c H locs 0 0 (MQ below (va_Qv Q (fun u t => cB D A ad u t.heap) A) args s 0 0 A) (F0 m 0 ls []) := by
  have hx := F.1.x
  have hb := F.1.b
  unfold wX7_init at hw
  refine lv_aload_n hx hb dX7_init_0 rfl (lv_at hl 0 rfl) ?_
  refine W.objInit hx hb F.1.o (F.1.t _ q594) (F.1.t _ q117) (F.1.t _ q118) rfl (by rw [F.1.ml]; exact hl.1) rfl dX7_init_1 (Nat.le_of_ble_eq_true rfl) (Nat.le_of_ble_eq_true rfl) ?_
  refine W.eq (g2 := F0 m 4 ls []) rfl ?_
  exact W.vret hx hb F.1.r (fun t ht hW => ⟨⟨_, rfl, hw, x_B (Bw := cB D A ad) ht hB⟩, hS.F ht⟩) hS.2.2 dX7_init_4 (hlocks := F.1.k)
set_option maxHeartbeats 4000000 in
theorem mX7_init {l : Launch} {D : DD} {A : Nat → Prop} {s0 : State} {ad : AD} {V : CV} {a0 : Nat} {Q : CV → Prop} (hw : wX7_init a0 V Q) : Met l yX7_init (ws_ yX7_init cX7_init 1 (none)) rX7_init (va_Pc [.ref a0] (fun U => cB D A ad V U.heap ∧ CX l D A s0 U)) (va_Qv Q (fun u t => cB D A ad u t.heap) A) 0 0 A := by
  refine Met.ofW (cc := cX7_init) (maxL := 1) (ret := none) (by decide) rfl ?_
  intro p e s m args below meth c s₁ B hml hv
  obtain ⟨rfl, hB, hC⟩ := hv
  have F : FX p l c cX7_init s _ m RX7 D A s0 1 meth (none) := ⟨mk_FP B hml rfl, hC⟩
  have hS : va_S A s.heap s.heap [] := va_S.rf
  have hin : meth.name = "<init>" := (name_of_methodNamed B.named B.method).1
  have hl := lv_entry ([.ref a0]) (n := 1) (Nat.le_of_ble_eq_true rfl)
  rw [lg_entry_eq]
  generalize (lg_sl ([.ref a0]) ++ List.replicate (1 - (lg_sl ([.ref a0])).length) Slot.unset).toArray = ls at hl ⊢
  exact bX7_init_0 F hin hB hS hw hl
theorem kX7_X7_init {p : Program} {l : Launch} {e : Env} {R : Room} {s : State} {m : MethodId} {args : Array Value} {below : List Frame} {meth : Method} {c : Code} {H : Heap} {locs : List Loc} {cells slots : Nat} {Q0 : State → Prop} {cc : ByteArray} {pc nL : Nat} {ls : Array Slot} {rest : List Value} {ret : Option FieldType} {D : DD} {A : Nat → Prop} {s0 : State} {ad : AD} {V : CV} {a0 : Nat} {Q : CV → Prop} (F : FX p l c cc s args m RX7 D A s0 nL meth ret) (hB : cB D A ad V H) (hS : va_S A s.heap H locs) (hw : wX7_init a0 V Q) (hR : rX7_init.frames + 1 ≤ R.frames ∧ 8 + (1 + 11) + rX7_init.locals ≤ R.locals) (hc : cells + 0 ≤ R.cells ∧ slots + 0 ≤ R.slots) (hsz : ls.size = nL) (hW : (rest.map fun v => v.category).sum ≤ 8) (hdg : decode cc pc = .ok (.invokespecial 13, 3)) (kk : ∀ (u : CV) (H1 : Heap) (locs1 : List Loc), Q u → cB D A ad u H1 → va_S A s.heap H1 locs1 → W p l e R s m args below meth c H1 locs1 cells slots Q0 (F0 m (pc + 3) ls (rest))) : W p l e R s m args below meth c H locs cells slots Q0 (F0 m pc ls (.ref a0 :: rest)) :=
  k_v (Bw := cB D A ad) (k_runI (Bw := cB D A ad) (n := 0) (As := []) F hB hS (mX7_init hw) q1121 q592 q93 q593 rfl (by decide +kernel) hR ⟨rfl, rfl⟩ hc rfl hsz rfl hW hdg) hS kk
theorem kX0_X7_init {p : Program} {l : Launch} {e : Env} {R : Room} {s : State} {m : MethodId} {args : Array Value} {below : List Frame} {meth : Method} {c : Code} {H : Heap} {locs : List Loc} {cells slots : Nat} {Q0 : State → Prop} {cc : ByteArray} {pc nL : Nat} {ls : Array Slot} {rest : List Value} {ret : Option FieldType} {D : DD} {A : Nat → Prop} {s0 : State} {ad : AD} {V : CV} {a0 : Nat} {Q : CV → Prop} (F : FX p l c cc s args m RX0 D A s0 nL meth ret) (hB : cB D A ad V H) (hS : va_S A s.heap H locs) (hw : wX7_init a0 V Q) (hR : rX7_init.frames + 1 ≤ R.frames ∧ 8 + (1 + 11) + rX7_init.locals ≤ R.locals) (hc : cells + 0 ≤ R.cells ∧ slots + 0 ≤ R.slots) (hsz : ls.size = nL) (hW : (rest.map fun v => v.category).sum ≤ 8) (hdg : decode cc pc = .ok (.invokespecial 33, 3)) (kk : ∀ (u : CV) (H1 : Heap) (locs1 : List Loc), Q u → cB D A ad u H1 → va_S A s.heap H1 locs1 → W p l e R s m args below meth c H1 locs1 cells slots Q0 (F0 m (pc + 3) ls (rest))) : W p l e R s m args below meth c H locs cells slots Q0 (F0 m pc ls (.ref a0 :: rest)) :=
  k_v (Bw := cB D A ad) (k_runIN (Bw := cB D A ad) (n := 0) (As := []) F hB hS (mX7_init hw) q637 q592 q93 q593 rfl (by decide +kernel) hR ⟨rfl, rfl⟩ hc rfl hsz rfl hW hdg) hS kk
theorem kX12_X7_init {p : Program} {l : Launch} {e : Env} {R : Room} {s : State} {m : MethodId} {args : Array Value} {below : List Frame} {meth : Method} {c : Code} {H : Heap} {locs : List Loc} {cells slots : Nat} {Q0 : State → Prop} {cc : ByteArray} {pc nL : Nat} {ls : Array Slot} {rest : List Value} {ret : Option FieldType} {D : DD} {A : Nat → Prop} {s0 : State} {ad : AD} {V : CV} {a0 : Nat} {Q : CV → Prop} (F : FX p l c cc s args m RX12 D A s0 nL meth ret) (hB : cB D A ad V H) (hS : va_S A s.heap H locs) (hw : wX7_init a0 V Q) (hR : rX7_init.frames + 1 ≤ R.frames ∧ 8 + (1 + 11) + rX7_init.locals ≤ R.locals) (hc : cells + 0 ≤ R.cells ∧ slots + 0 ≤ R.slots) (hsz : ls.size = nL) (hW : (rest.map fun v => v.category).sum ≤ 8) (hdg : decode cc pc = .ok (.invokespecial 3, 3)) (kk : ∀ (u : CV) (H1 : Heap) (locs1 : List Loc), Q u → cB D A ad u H1 → va_S A s.heap H1 locs1 → W p l e R s m args below meth c H1 locs1 cells slots Q0 (F0 m (pc + 3) ls (rest))) : W p l e R s m args below meth c H locs cells slots Q0 (F0 m pc ls (.ref a0 :: rest)) :=
  k_v (Bw := cB D A ad) (k_runIN (Bw := cB D A ad) (n := 0) (As := []) F hB hS (mX7_init hw) q632 q592 q93 q593 rfl (by decide +kernel) hR ⟨rfl, rfl⟩ hc rfl hsz rfl hW hdg) hS kk
theorem kX8_X7_init {p : Program} {l : Launch} {e : Env} {R : Room} {s : State} {m : MethodId} {args : Array Value} {below : List Frame} {meth : Method} {c : Code} {H : Heap} {locs : List Loc} {cells slots : Nat} {Q0 : State → Prop} {cc : ByteArray} {pc nL : Nat} {ls : Array Slot} {rest : List Value} {ret : Option FieldType} {D : DD} {A : Nat → Prop} {s0 : State} {ad : AD} {V : CV} {a0 : Nat} {Q : CV → Prop} (F : FX p l c cc s args m RX8 D A s0 nL meth ret) (hB : cB D A ad V H) (hS : va_S A s.heap H locs) (hw : wX7_init a0 V Q) (hR : rX7_init.frames + 1 ≤ R.frames ∧ 8 + (1 + 11) + rX7_init.locals ≤ R.locals) (hc : cells + 0 ≤ R.cells ∧ slots + 0 ≤ R.slots) (hsz : ls.size = nL) (hW : (rest.map fun v => v.category).sum ≤ 8) (hdg : decode cc pc = .ok (.invokespecial 3, 3)) (kk : ∀ (u : CV) (H1 : Heap) (locs1 : List Loc), Q u → cB D A ad u H1 → va_S A s.heap H1 locs1 → W p l e R s m args below meth c H1 locs1 cells slots Q0 (F0 m (pc + 3) ls (rest))) : W p l e R s m args below meth c H locs cells slots Q0 (F0 m pc ls (.ref a0 :: rest)) :=
  k_v (Bw := cB D A ad) (k_runIN (Bw := cB D A ad) (n := 0) (As := []) F hB hS (mX7_init hw) q591 q592 q93 q593 rfl (by decide +kernel) hR ⟨rfl, rfl⟩ hc rfl hsz rfl hW hdg) hS kk
theorem kX9_X7_init {p : Program} {l : Launch} {e : Env} {R : Room} {s : State} {m : MethodId} {args : Array Value} {below : List Frame} {meth : Method} {c : Code} {H : Heap} {locs : List Loc} {cells slots : Nat} {Q0 : State → Prop} {cc : ByteArray} {pc nL : Nat} {ls : Array Slot} {rest : List Value} {ret : Option FieldType} {D : DD} {A : Nat → Prop} {s0 : State} {ad : AD} {V : CV} {a0 : Nat} {Q : CV → Prop} (F : FX p l c cc s args m RX9 D A s0 nL meth ret) (hB : cB D A ad V H) (hS : va_S A s.heap H locs) (hw : wX7_init a0 V Q) (hR : rX7_init.frames + 1 ≤ R.frames ∧ 8 + (1 + 11) + rX7_init.locals ≤ R.locals) (hc : cells + 0 ≤ R.cells ∧ slots + 0 ≤ R.slots) (hsz : ls.size = nL) (hW : (rest.map fun v => v.category).sum ≤ 8) (hdg : decode cc pc = .ok (.invokespecial 3, 3)) (kk : ∀ (u : CV) (H1 : Heap) (locs1 : List Loc), Q u → cB D A ad u H1 → va_S A s.heap H1 locs1 → W p l e R s m args below meth c H1 locs1 cells slots Q0 (F0 m (pc + 3) ls (rest))) : W p l e R s m args below meth c H locs cells slots Q0 (F0 m pc ls (.ref a0 :: rest)) :=
  k_v (Bw := cB D A ad) (k_runIN (Bw := cB D A ad) (n := 0) (As := []) F hB hS (mX7_init hw) q608 q592 q93 q593 rfl (by decide +kernel) hR ⟨rfl, rfl⟩ hc rfl hsz rfl hW hdg) hS kk
def rX7_another : Room := { frames := 2, cells := 1, slots := 1, locals := 60 }
set_option maxHeartbeats 4000000 in
theorem bX7_another_0 {p : Program} {l : Launch} {e : Env} {s : State} {m : MethodId} {args : Array Value} {below : List Frame} {meth : Method} {c : Code} {D : DD} {A : Nat → Prop} {s0 : State} {ad : AD} {Q : Nat → CV → Prop} {a0 : Nat} {V : CV} {H : Heap} {locs : List Loc} {ls : Array Slot} (F : FX p l c cX7_another s args m RX7 D A s0 1 meth (some (.object "NeverSaid$Speaker"))) (hB : cB D A ad V H) (hS : va_S A s.heap H locs) (hw : wX7_another a0 V Q) (hl : lv_has ls 1 [(0, .ref a0)]) : W p l e rX7_another s m args below meth c H locs 0 0 (MQ below (xa_Qn Q (fun u t => cB D A ad u t.heap) A) args s 1 1 A) (F0 m 0 ls []) := by
  have hx := F.1.x
  have hb := F.1.b
  unfold wX7_another at hw
  refine nX7_8 F hB hS (by show 0 + 1 ≤ 1; omega) (by show 0 + 1 ≤ 1; omega) dX7_another_0 (fun q1 H hq2 hB hS => ?_)
  replace hw := hw q1 hq2
  refine lv_dup hx hb dX7_another_3 rfl ?_
  refine kX7_X7_init F hB hS hw ⟨Nat.le_of_ble_eq_true rfl, Nat.le_of_ble_eq_true rfl⟩ ⟨by show _ ≤ 1; omega, by show _ ≤ 1; omega⟩ hl.1 (Nat.le_of_ble_eq_true rfl) dX7_another_4 (fun V4 H locs hw hB hS => ?_)
  exact W.aret hx hb F.1.r (Or.inl ⟨_, rfl⟩) (Or.inr ⟨_, rfl⟩) (fun t ht hW => xa_mk hw (x_B (Bw := cB D A ad) ht hB) (hS.F ht)) hS.2.2 dX7_another_7 (hlocks := F.1.k)
set_option maxHeartbeats 4000000 in
theorem mX7_another {l : Launch} {D : DD} {A : Nat → Prop} {s0 : State} {ad : AD} {V : CV} {a0 : Nat} {Q : Nat → CV → Prop} (hw : wX7_another a0 V Q) : Met l yX7_another (ws_ yX7_another cX7_another 1 (some (.object "NeverSaid$Speaker"))) rX7_another (va_Pc [.ref a0] (fun U => cB D A ad V U.heap ∧ CX l D A s0 U)) (xa_Qn Q (fun u t => cB D A ad u t.heap) A) 1 1 A := by
  refine Met.ofW (cc := cX7_another) (maxL := 1) (ret := some (.object "NeverSaid$Speaker")) (by decide) rfl ?_
  intro p e s m args below meth c s₁ B hml hv
  obtain ⟨rfl, hB, hC⟩ := hv
  have F : FX p l c cX7_another s _ m RX7 D A s0 1 meth (some (.object "NeverSaid$Speaker")) := ⟨mk_FP B hml rfl, hC⟩
  have hS : va_S A s.heap s.heap [] := va_S.rf
  have hl := lv_entry ([.ref a0]) (n := 1) (Nat.le_of_ble_eq_true rfl)
  rw [lg_entry_eq]
  generalize (lg_sl ([.ref a0]) ++ List.replicate (1 - (lg_sl ([.ref a0])).length) Slot.unset).toArray = ls at hl ⊢
  exact bX7_another_0 F hB hS hw hl
def rX7_worth : Room := { frames := 0, cells := 0, slots := 0, locals := 0 }
set_option maxHeartbeats 4000000 in
theorem bX7_worth_0 {p : Program} {l : Launch} {e : Env} {s : State} {m : MethodId} {args : Array Value} {below : List Frame} {meth : Method} {c : Code} {D : DD} {A : Nat → Prop} {s0 : State} {ad : AD} {Q : Int32 → CV → Prop} {a0 : Nat} {V : CV} {H : Heap} {locs : List Loc} {ls : Array Slot} (F : FX p l c cX7_worth s args m RX7 D A s0 1 meth (some .int)) (hB : cB D A ad V H) (hS : va_S A s.heap H locs) (hw : wX7_worth a0 V Q) (hl : lv_has ls 1 [(0, .ref a0)]) : W p l e rX7_worth s m args below meth c H locs 0 0 (MQ below (va_Qi Q (fun u t => cB D A ad u t.heap) A) args s 0 0 A) (F0 m 0 ls []) := by
  have hx := F.1.x
  have hb := F.1.b
  unfold wX7_worth at hw
  refine lv_aload_n hx hb dX7_worth_0 rfl (lv_at hl 0 rfl) ?_
  obtain ⟨c1, b2, hk3, hm4, hw⟩ := hw
  refine cg_X7_7 F hB hk3 hm4 dX7_worth_1 ?_
  exact W.iret hx hb F.1.r (fun t ht hW => ⟨⟨_, _, rfl, hw, x_B (Bw := cB D A ad) ht hB⟩, hS.F ht⟩) hS.2.2 dX7_worth_4 (hlocks := F.1.k)
set_option maxHeartbeats 4000000 in
theorem mX7_worth {l : Launch} {D : DD} {A : Nat → Prop} {s0 : State} {ad : AD} {V : CV} {a0 : Nat} {Q : Int32 → CV → Prop} (hw : wX7_worth a0 V Q) : Met l yX7_worth (ws_ yX7_worth cX7_worth 1 (some .int)) rX7_worth (va_Pc [.ref a0] (fun U => cB D A ad V U.heap ∧ CX l D A s0 U)) (va_Qi Q (fun u t => cB D A ad u t.heap) A) 0 0 A := by
  refine Met.ofW (cc := cX7_worth) (maxL := 1) (ret := some .int) (by decide) rfl ?_
  intro p e s m args below meth c s₁ B hml hv
  obtain ⟨rfl, hB, hC⟩ := hv
  have F : FX p l c cX7_worth s _ m RX7 D A s0 1 meth (some .int) := ⟨mk_FP B hml rfl, hC⟩
  have hS : va_S A s.heap s.heap [] := va_S.rf
  have hl := lv_entry ([.ref a0]) (n := 1) (Nat.le_of_ble_eq_true rfl)
  rw [lg_entry_eq]
  generalize (lg_sl ([.ref a0]) ++ List.replicate (1 - (lg_sl ([.ref a0])).length) Slot.unset).toArray = ls at hl ⊢
  exact bX7_worth_0 F hB hS hw hl
theorem kX12_X7_worth {p : Program} {l : Launch} {e : Env} {R : Room} {s : State} {m : MethodId} {args : Array Value} {below : List Frame} {meth : Method} {c : Code} {H : Heap} {locs : List Loc} {cells slots : Nat} {Q0 : State → Prop} {cc : ByteArray} {pc nL : Nat} {ls : Array Slot} {rest : List Value} {ret : Option FieldType} {D : DD} {A : Nat → Prop} {s0 : State} {ad : AD} {V : CV} {a0 : Nat} {Q : Int32 → CV → Prop} (F : FX p l c cc s args m RX12 D A s0 nL meth ret) (hB : cB D A ad V H) (hS : va_S A s.heap H locs) {k0 : Nat} {b0 : Int32} (hk : isSpk k0) (hm : vM V a0 = some (eSp k0 b0)) (hw : wX7_worth a0 V Q) (hR : rX7_worth.frames + 1 ≤ R.frames ∧ 8 + (1 + 11) + rX7_worth.locals ≤ R.locals) (hc : cells + 0 ≤ R.cells ∧ slots + 0 ≤ R.slots) (hsz : ls.size = nL) (hW : (rest.map fun v => v.category).sum ≤ 8) (hdg : decode cc pc = .ok (.invokespecial 19, 3)) (kk : ∀ (r : Int32) (u : CV) (H1 : Heap) (locs1 : List Loc), Q r u → cB D A ad u H1 → va_S A s.heap H1 locs1 → W p l e R s m args below meth c H1 locs1 cells slots Q0 (F0 m (pc + 3) ls (.int r :: rest))) : W p l e R s m args below meth c H locs cells slots Q0 (F0 m pc ls (.ref a0 :: rest)) := by
  rcases hk.or with rfl | rfl | rfl | rfl | rfl | rfl
  · exact k_i (Bw := cB D A ad) (k_runSU (Bw := cB D A ad) (C := RX7) (n := 0) (As := []) F hB hS ((F.2.1).1 7 _ rfl).2 (c_at F (hB.dyn hm) rfl) (mX7_worth hw) q695 q683 q634 q681 q93 q704 (by decide +kernel) hR ⟨rfl, rfl⟩ hc rfl hsz rfl hW hdg) hS kk
  · exact k_i (Bw := cB D A ad) (k_runSU (Bw := cB D A ad) (C := RX8) (n := 0) (As := []) F hB hS ((F.2.1).1 8 _ rfl).2 (c_at F (hB.dyn hm) rfl) (mX7_worth hw) q695 q683 q634 q681 q93 q704 (by decide +kernel) hR ⟨rfl, rfl⟩ hc rfl hsz rfl hW hdg) hS kk
  · exact k_i (Bw := cB D A ad) (k_runSU (Bw := cB D A ad) (C := RX9) (n := 0) (As := []) F hB hS ((F.2.1).1 9 _ rfl).2 (c_at F (hB.dyn hm) rfl) (mX7_worth hw) q695 q683 q634 q681 q93 q704 (by decide +kernel) hR ⟨rfl, rfl⟩ hc rfl hsz rfl hW hdg) hS kk
  · exact k_i (Bw := cB D A ad) (k_runSU (Bw := cB D A ad) (C := RX10) (n := 0) (As := []) F hB hS ((F.2.1).1 10 _ rfl).2 (c_at F (hB.dyn hm) rfl) (mX7_worth hw) q695 q683 q634 q681 q93 q704 (by decide +kernel) hR ⟨rfl, rfl⟩ hc rfl hsz rfl hW hdg) hS kk
  · exact k_i (Bw := cB D A ad) (k_runSU (Bw := cB D A ad) (C := RX11) (n := 0) (As := []) F hB hS ((F.2.1).1 11 _ rfl).2 (c_at F (hB.dyn hm) rfl) (mX7_worth hw) q695 q683 q634 q681 q93 q704 (by decide +kernel) hR ⟨rfl, rfl⟩ hc rfl hsz rfl hW hdg) hS kk
  · exact k_i (Bw := cB D A ad) (k_runSU (Bw := cB D A ad) (C := RX12) (n := 0) (As := []) F hB hS ((F.2.1).1 12 _ rfl).2 (c_at F (hB.dyn hm) rfl) (mX7_worth hw) q695 q683 q634 q681 q93 q704 (by decide +kernel) hR ⟨rfl, rfl⟩ hc rfl hsz rfl hW hdg) hS kk
theorem kX8_X7_worth {p : Program} {l : Launch} {e : Env} {R : Room} {s : State} {m : MethodId} {args : Array Value} {below : List Frame} {meth : Method} {c : Code} {H : Heap} {locs : List Loc} {cells slots : Nat} {Q0 : State → Prop} {cc : ByteArray} {pc nL : Nat} {ls : Array Slot} {rest : List Value} {ret : Option FieldType} {D : DD} {A : Nat → Prop} {s0 : State} {ad : AD} {V : CV} {a0 : Nat} {Q : Int32 → CV → Prop} (F : FX p l c cc s args m RX8 D A s0 nL meth ret) (hB : cB D A ad V H) (hS : va_S A s.heap H locs) {k0 : Nat} {b0 : Int32} (hk : isSpk k0) (hm : vM V a0 = some (eSp k0 b0)) (hw : wX7_worth a0 V Q) (hR : rX7_worth.frames + 1 ≤ R.frames ∧ 8 + (1 + 11) + rX7_worth.locals ≤ R.locals) (hc : cells + 0 ≤ R.cells ∧ slots + 0 ≤ R.slots) (hsz : ls.size = nL) (hW : (rest.map fun v => v.category).sum ≤ 8) (hdg : decode cc pc = .ok (.invokespecial 13, 3)) (kk : ∀ (r : Int32) (u : CV) (H1 : Heap) (locs1 : List Loc), Q r u → cB D A ad u H1 → va_S A s.heap H1 locs1 → W p l e R s m args below meth c H1 locs1 cells slots Q0 (F0 m (pc + 3) ls (.int r :: rest))) : W p l e R s m args below meth c H locs cells slots Q0 (F0 m pc ls (.ref a0 :: rest)) := by
  rcases hk.or with rfl | rfl | rfl | rfl | rfl | rfl
  · exact k_i (Bw := cB D A ad) (k_runSU (Bw := cB D A ad) (C := RX7) (n := 0) (As := []) F hB hS ((F.2.1).1 7 _ rfl).2 (c_at F (hB.dyn hm) rfl) (mX7_worth hw) q702 q683 q602 q681 q93 q704 (by decide +kernel) hR ⟨rfl, rfl⟩ hc rfl hsz rfl hW hdg) hS kk
  · exact k_i (Bw := cB D A ad) (k_runSU (Bw := cB D A ad) (C := RX8) (n := 0) (As := []) F hB hS ((F.2.1).1 8 _ rfl).2 (c_at F (hB.dyn hm) rfl) (mX7_worth hw) q702 q683 q602 q681 q93 q704 (by decide +kernel) hR ⟨rfl, rfl⟩ hc rfl hsz rfl hW hdg) hS kk
  · exact k_i (Bw := cB D A ad) (k_runSU (Bw := cB D A ad) (C := RX9) (n := 0) (As := []) F hB hS ((F.2.1).1 9 _ rfl).2 (c_at F (hB.dyn hm) rfl) (mX7_worth hw) q702 q683 q602 q681 q93 q704 (by decide +kernel) hR ⟨rfl, rfl⟩ hc rfl hsz rfl hW hdg) hS kk
  · exact k_i (Bw := cB D A ad) (k_runSU (Bw := cB D A ad) (C := RX10) (n := 0) (As := []) F hB hS ((F.2.1).1 10 _ rfl).2 (c_at F (hB.dyn hm) rfl) (mX7_worth hw) q702 q683 q602 q681 q93 q704 (by decide +kernel) hR ⟨rfl, rfl⟩ hc rfl hsz rfl hW hdg) hS kk
  · exact k_i (Bw := cB D A ad) (k_runSU (Bw := cB D A ad) (C := RX11) (n := 0) (As := []) F hB hS ((F.2.1).1 11 _ rfl).2 (c_at F (hB.dyn hm) rfl) (mX7_worth hw) q702 q683 q602 q681 q93 q704 (by decide +kernel) hR ⟨rfl, rfl⟩ hc rfl hsz rfl hW hdg) hS kk
  · exact k_i (Bw := cB D A ad) (k_runSU (Bw := cB D A ad) (C := RX12) (n := 0) (As := []) F hB hS ((F.2.1).1 12 _ rfl).2 (c_at F (hB.dyn hm) rfl) (mX7_worth hw) q702 q683 q602 q681 q93 q704 (by decide +kernel) hR ⟨rfl, rfl⟩ hc rfl hsz rfl hW hdg) hS kk
theorem kX9_X7_worth {p : Program} {l : Launch} {e : Env} {R : Room} {s : State} {m : MethodId} {args : Array Value} {below : List Frame} {meth : Method} {c : Code} {H : Heap} {locs : List Loc} {cells slots : Nat} {Q0 : State → Prop} {cc : ByteArray} {pc nL : Nat} {ls : Array Slot} {rest : List Value} {ret : Option FieldType} {D : DD} {A : Nat → Prop} {s0 : State} {ad : AD} {V : CV} {a0 : Nat} {Q : Int32 → CV → Prop} (F : FX p l c cc s args m RX9 D A s0 nL meth ret) (hB : cB D A ad V H) (hS : va_S A s.heap H locs) {k0 : Nat} {b0 : Int32} (hk : isSpk k0) (hm : vM V a0 = some (eSp k0 b0)) (hw : wX7_worth a0 V Q) (hR : rX7_worth.frames + 1 ≤ R.frames ∧ 8 + (1 + 11) + rX7_worth.locals ≤ R.locals) (hc : cells + 0 ≤ R.cells ∧ slots + 0 ≤ R.slots) (hsz : ls.size = nL) (hW : (rest.map fun v => v.category).sum ≤ 8) (hdg : decode cc pc = .ok (.invokespecial 19, 3)) (kk : ∀ (r : Int32) (u : CV) (H1 : Heap) (locs1 : List Loc), Q r u → cB D A ad u H1 → va_S A s.heap H1 locs1 → W p l e R s m args below meth c H1 locs1 cells slots Q0 (F0 m (pc + 3) ls (.int r :: rest))) : W p l e R s m args below meth c H locs cells slots Q0 (F0 m pc ls (.ref a0 :: rest)) := by
  rcases hk.or with rfl | rfl | rfl | rfl | rfl | rfl
  · exact k_i (Bw := cB D A ad) (k_runSU (Bw := cB D A ad) (C := RX7) (n := 0) (As := []) F hB hS ((F.2.1).1 7 _ rfl).2 (c_at F (hB.dyn hm) rfl) (mX7_worth hw) q690 q683 q610 q681 q93 q704 (by decide +kernel) hR ⟨rfl, rfl⟩ hc rfl hsz rfl hW hdg) hS kk
  · exact k_i (Bw := cB D A ad) (k_runSU (Bw := cB D A ad) (C := RX8) (n := 0) (As := []) F hB hS ((F.2.1).1 8 _ rfl).2 (c_at F (hB.dyn hm) rfl) (mX7_worth hw) q690 q683 q610 q681 q93 q704 (by decide +kernel) hR ⟨rfl, rfl⟩ hc rfl hsz rfl hW hdg) hS kk
  · exact k_i (Bw := cB D A ad) (k_runSU (Bw := cB D A ad) (C := RX9) (n := 0) (As := []) F hB hS ((F.2.1).1 9 _ rfl).2 (c_at F (hB.dyn hm) rfl) (mX7_worth hw) q690 q683 q610 q681 q93 q704 (by decide +kernel) hR ⟨rfl, rfl⟩ hc rfl hsz rfl hW hdg) hS kk
  · exact k_i (Bw := cB D A ad) (k_runSU (Bw := cB D A ad) (C := RX10) (n := 0) (As := []) F hB hS ((F.2.1).1 10 _ rfl).2 (c_at F (hB.dyn hm) rfl) (mX7_worth hw) q690 q683 q610 q681 q93 q704 (by decide +kernel) hR ⟨rfl, rfl⟩ hc rfl hsz rfl hW hdg) hS kk
  · exact k_i (Bw := cB D A ad) (k_runSU (Bw := cB D A ad) (C := RX11) (n := 0) (As := []) F hB hS ((F.2.1).1 11 _ rfl).2 (c_at F (hB.dyn hm) rfl) (mX7_worth hw) q690 q683 q610 q681 q93 q704 (by decide +kernel) hR ⟨rfl, rfl⟩ hc rfl hsz rfl hW hdg) hS kk
  · exact k_i (Bw := cB D A ad) (k_runSU (Bw := cB D A ad) (C := RX12) (n := 0) (As := []) F hB hS ((F.2.1).1 12 _ rfl).2 (c_at F (hB.dyn hm) rfl) (mX7_worth hw) q690 q683 q610 q681 q93 q704 (by decide +kernel) hR ⟨rfl, rfl⟩ hc rfl hsz rfl hW hdg) hS kk
def rX8_init : Room := { frames := 2, cells := 0, slots := 0, locals := 60 }
set_option maxHeartbeats 4000000 in
theorem bX8_init_0 {p : Program} {l : Launch} {e : Env} {s : State} {m : MethodId} {args : Array Value} {below : List Frame} {meth : Method} {c : Code} {D : DD} {A : Nat → Prop} {s0 : State} {ad : AD} {Q : CV → Prop} {a0 : Nat} {V : CV} {H : Heap} {locs : List Loc} {ls : Array Slot} (F : FX p l c cX8_init s args m RX8 D A s0 1 meth (none)) (hin : meth.name = "<init>") (hB : cB D A ad V H) (hS : va_S A s.heap H locs) (hw : wX8_init a0 V Q) (hl : lv_has ls 1 [(0, .ref a0)]) : W p l e rX8_init s m args below meth c H locs 0 0 (MQ below (va_Qv Q (fun u t => cB D A ad u t.heap) A) args s 0 0 A) (F0 m 0 ls []) := by
  have hx := F.1.x
  have hb := F.1.b
  unfold wX8_init at hw
  refine lv_aload_n hx hb dX8_init_0 rfl (lv_at hl 0 rfl) ?_
  refine kX8_X7_init F hB hS hw ⟨Nat.le_of_ble_eq_true rfl, Nat.le_of_ble_eq_true rfl⟩ ⟨Nat.zero_le _, Nat.zero_le _⟩ hl.1 (Nat.le_of_ble_eq_true rfl) dX8_init_1 (fun V2 H locs hw hB hS => ?_)
  exact W.vret hx hb F.1.r (fun t ht hW => ⟨⟨_, rfl, hw, x_B (Bw := cB D A ad) ht hB⟩, hS.F ht⟩) hS.2.2 dX8_init_4 (hlocks := F.1.k)
set_option maxHeartbeats 4000000 in
theorem mX8_init {l : Launch} {D : DD} {A : Nat → Prop} {s0 : State} {ad : AD} {V : CV} {a0 : Nat} {Q : CV → Prop} (hw : wX8_init a0 V Q) : Met l yX8_init (ws_ yX8_init cX8_init 1 (none)) rX8_init (va_Pc [.ref a0] (fun U => cB D A ad V U.heap ∧ CX l D A s0 U)) (va_Qv Q (fun u t => cB D A ad u t.heap) A) 0 0 A := by
  refine Met.ofW (cc := cX8_init) (maxL := 1) (ret := none) (by decide) rfl ?_
  intro p e s m args below meth c s₁ B hml hv
  obtain ⟨rfl, hB, hC⟩ := hv
  have F : FX p l c cX8_init s _ m RX8 D A s0 1 meth (none) := ⟨mk_FP B hml rfl, hC⟩
  have hS : va_S A s.heap s.heap [] := va_S.rf
  have hin : meth.name = "<init>" := (name_of_methodNamed B.named B.method).1
  have hl := lv_entry ([.ref a0]) (n := 1) (Nat.le_of_ble_eq_true rfl)
  rw [lg_entry_eq]
  generalize (lg_sl ([.ref a0]) ++ List.replicate (1 - (lg_sl ([.ref a0])).length) Slot.unset).toArray = ls at hl ⊢
  exact bX8_init_0 F hin hB hS hw hl
theorem kX8_X8_init {p : Program} {l : Launch} {e : Env} {R : Room} {s : State} {m : MethodId} {args : Array Value} {below : List Frame} {meth : Method} {c : Code} {H : Heap} {locs : List Loc} {cells slots : Nat} {Q0 : State → Prop} {cc : ByteArray} {pc nL : Nat} {ls : Array Slot} {rest : List Value} {ret : Option FieldType} {D : DD} {A : Nat → Prop} {s0 : State} {ad : AD} {V : CV} {a0 : Nat} {Q : CV → Prop} (F : FX p l c cc s args m RX8 D A s0 nL meth ret) (hB : cB D A ad V H) (hS : va_S A s.heap H locs) (hw : wX8_init a0 V Q) (hR : rX8_init.frames + 1 ≤ R.frames ∧ 8 + (1 + 11) + rX8_init.locals ≤ R.locals) (hc : cells + 0 ≤ R.cells ∧ slots + 0 ≤ R.slots) (hsz : ls.size = nL) (hW : (rest.map fun v => v.category).sum ≤ 8) (hdg : decode cc pc = .ok (.invokespecial 19, 3)) (kk : ∀ (u : CV) (H1 : Heap) (locs1 : List Loc), Q u → cB D A ad u H1 → va_S A s.heap H1 locs1 → W p l e R s m args below meth c H1 locs1 cells slots Q0 (F0 m (pc + 3) ls (rest))) : W p l e R s m args below meth c H locs cells slots Q0 (F0 m pc ls (.ref a0 :: rest)) :=
  k_v (Bw := cB D A ad) (k_runI (Bw := cB D A ad) (n := 0) (As := []) F hB hS (mX8_init hw) q1118 q589 q94 q590 rfl (by decide +kernel) hR ⟨rfl, rfl⟩ hc rfl hsz rfl hW hdg) hS kk
theorem kX0_X8_init {p : Program} {l : Launch} {e : Env} {R : Room} {s : State} {m : MethodId} {args : Array Value} {below : List Frame} {meth : Method} {c : Code} {H : Heap} {locs : List Loc} {cells slots : Nat} {Q0 : State → Prop} {cc : ByteArray} {pc nL : Nat} {ls : Array Slot} {rest : List Value} {ret : Option FieldType} {D : DD} {A : Nat → Prop} {s0 : State} {ad : AD} {V : CV} {a0 : Nat} {Q : CV → Prop} (F : FX p l c cc s args m RX0 D A s0 nL meth ret) (hB : cB D A ad V H) (hS : va_S A s.heap H locs) (hw : wX8_init a0 V Q) (hR : rX8_init.frames + 1 ≤ R.frames ∧ 8 + (1 + 11) + rX8_init.locals ≤ R.locals) (hc : cells + 0 ≤ R.cells ∧ slots + 0 ≤ R.slots) (hsz : ls.size = nL) (hW : (rest.map fun v => v.category).sum ≤ 8) (hdg : decode cc pc = .ok (.invokespecial 15, 3)) (kk : ∀ (u : CV) (H1 : Heap) (locs1 : List Loc), Q u → cB D A ad u H1 → va_S A s.heap H1 locs1 → W p l e R s m args below meth c H1 locs1 cells slots Q0 (F0 m (pc + 3) ls (rest))) : W p l e R s m args below meth c H locs cells slots Q0 (F0 m pc ls (.ref a0 :: rest)) :=
  k_v (Bw := cB D A ad) (k_runIN (Bw := cB D A ad) (n := 0) (As := []) F hB hS (mX8_init hw) q588 q589 q94 q590 rfl (by decide +kernel) hR ⟨rfl, rfl⟩ hc rfl hsz rfl hW hdg) hS kk
theorem kX10_X8_init {p : Program} {l : Launch} {e : Env} {R : Room} {s : State} {m : MethodId} {args : Array Value} {below : List Frame} {meth : Method} {c : Code} {H : Heap} {locs : List Loc} {cells slots : Nat} {Q0 : State → Prop} {cc : ByteArray} {pc nL : Nat} {ls : Array Slot} {rest : List Value} {ret : Option FieldType} {D : DD} {A : Nat → Prop} {s0 : State} {ad : AD} {V : CV} {a0 : Nat} {Q : CV → Prop} (F : FX p l c cc s args m RX10 D A s0 nL meth ret) (hB : cB D A ad V H) (hS : va_S A s.heap H locs) (hw : wX8_init a0 V Q) (hR : rX8_init.frames + 1 ≤ R.frames ∧ 8 + (1 + 11) + rX8_init.locals ≤ R.locals) (hc : cells + 0 ≤ R.cells ∧ slots + 0 ≤ R.slots) (hsz : ls.size = nL) (hW : (rest.map fun v => v.category).sum ≤ 8) (hdg : decode cc pc = .ok (.invokespecial 1, 3)) (kk : ∀ (u : CV) (H1 : Heap) (locs1 : List Loc), Q u → cB D A ad u H1 → va_S A s.heap H1 locs1 → W p l e R s m args below meth c H1 locs1 cells slots Q0 (F0 m (pc + 3) ls (rest))) : W p l e R s m args below meth c H locs cells slots Q0 (F0 m pc ls (.ref a0 :: rest)) :=
  k_v (Bw := cB D A ad) (k_runIN (Bw := cB D A ad) (n := 0) (As := []) F hB hS (mX8_init hw) q616 q589 q94 q590 rfl (by decide +kernel) hR ⟨rfl, rfl⟩ hc rfl hsz rfl hW hdg) hS kk
def rX8_kind : Room := { frames := 0, cells := 0, slots := 0, locals := 0 }
set_option maxHeartbeats 4000000 in
theorem bX8_kind_0 {p : Program} {l : Launch} {e : Env} {s : State} {m : MethodId} {args : Array Value} {below : List Frame} {meth : Method} {c : Code} {D : DD} {A : Nat → Prop} {s0 : State} {ad : AD} {Q : Int32 → CV → Prop} {a0 : Nat} {V : CV} {H : Heap} {locs : List Loc} {ls : Array Slot} (F : FX p l c cX8_kind s args m RX8 D A s0 1 meth (some .int)) (hB : cB D A ad V H) (hS : va_S A s.heap H locs) (hw : wX8_kind a0 V Q) (hl : lv_has ls 1 [(0, .ref a0)]) : W p l e rX8_kind s m args below meth c H locs 0 0 (MQ below (va_Qi Q (fun u t => cB D A ad u t.heap) A) args s 0 0 A) (F0 m 0 ls []) := by
  have hx := F.1.x
  have hb := F.1.b
  unfold wX8_kind at hw
  refine lv_iconst (v := 1) hx hb dX8_kind_0 (by decide) ?_
  exact W.iret hx hb F.1.r (fun t ht hW => ⟨⟨_, _, rfl, hw, x_B (Bw := cB D A ad) ht hB⟩, hS.F ht⟩) hS.2.2 dX8_kind_1 (hlocks := F.1.k)
set_option maxHeartbeats 4000000 in
theorem mX8_kind {l : Launch} {D : DD} {A : Nat → Prop} {s0 : State} {ad : AD} {V : CV} {a0 : Nat} {Q : Int32 → CV → Prop} (hw : wX8_kind a0 V Q) : Met l yX8_kind (ws_ yX8_kind cX8_kind 1 (some .int)) rX8_kind (va_Pc [.ref a0] (fun U => cB D A ad V U.heap ∧ CX l D A s0 U)) (va_Qi Q (fun u t => cB D A ad u t.heap) A) 0 0 A := by
  refine Met.ofW (cc := cX8_kind) (maxL := 1) (ret := some .int) (by decide) rfl ?_
  intro p e s m args below meth c s₁ B hml hv
  obtain ⟨rfl, hB, hC⟩ := hv
  have F : FX p l c cX8_kind s _ m RX8 D A s0 1 meth (some .int) := ⟨mk_FP B hml rfl, hC⟩
  have hS : va_S A s.heap s.heap [] := va_S.rf
  have hl := lv_entry ([.ref a0]) (n := 1) (Nat.le_of_ble_eq_true rfl)
  rw [lg_entry_eq]
  generalize (lg_sl ([.ref a0]) ++ List.replicate (1 - (lg_sl ([.ref a0])).length) Slot.unset).toArray = ls at hl ⊢
  exact bX8_kind_0 F hB hS hw hl
theorem kX10_X8_kind {p : Program} {l : Launch} {e : Env} {R : Room} {s : State} {m : MethodId} {args : Array Value} {below : List Frame} {meth : Method} {c : Code} {H : Heap} {locs : List Loc} {cells slots : Nat} {Q0 : State → Prop} {cc : ByteArray} {pc nL : Nat} {ls : Array Slot} {rest : List Value} {ret : Option FieldType} {D : DD} {A : Nat → Prop} {s0 : State} {ad : AD} {V : CV} {a0 : Nat} {Q : Int32 → CV → Prop} (F : FX p l c cc s args m RX10 D A s0 nL meth ret) (hB : cB D A ad V H) (hS : va_S A s.heap H locs) {k0 : Nat} {b0 : Int32} (hk : isSpk k0) (hm : vM V a0 = some (eSp k0 b0)) (hw : wX8_kind a0 V Q) (hR : rX8_kind.frames + 1 ≤ R.frames ∧ 8 + (1 + 11) + rX8_kind.locals ≤ R.locals) (hc : cells + 0 ≤ R.cells ∧ slots + 0 ≤ R.slots) (hsz : ls.size = nL) (hW : (rest.map fun v => v.category).sum ≤ 8) (hdg : decode cc pc = .ok (.invokespecial 7, 3)) (kk : ∀ (r : Int32) (u : CV) (H1 : Heap) (locs1 : List Loc), Q r u → cB D A ad u H1 → va_S A s.heap H1 locs1 → W p l e R s m args below meth c H1 locs1 cells slots Q0 (F0 m (pc + 3) ls (.int r :: rest))) : W p l e R s m args below meth c H locs cells slots Q0 (F0 m pc ls (.ref a0 :: rest)) := by
  rcases hk.or with rfl | rfl | rfl | rfl | rfl | rfl
  · exact k_i (Bw := cB D A ad) (k_runSU (Bw := cB D A ad) (C := RX7) (n := 0) (As := []) F hB hS ((F.2.1).1 7 _ rfl).2 (c_at F (hB.dyn hm) rfl) (mX8_kind hw) q665 q1715 q618 q666 q94 q667 (by decide +kernel) hR ⟨rfl, rfl⟩ hc rfl hsz rfl hW hdg) hS kk
  · exact k_i (Bw := cB D A ad) (k_runSU (Bw := cB D A ad) (C := RX8) (n := 0) (As := []) F hB hS ((F.2.1).1 8 _ rfl).2 (c_at F (hB.dyn hm) rfl) (mX8_kind hw) q665 q1715 q618 q666 q94 q667 (by decide +kernel) hR ⟨rfl, rfl⟩ hc rfl hsz rfl hW hdg) hS kk
  · exact k_i (Bw := cB D A ad) (k_runSU (Bw := cB D A ad) (C := RX9) (n := 0) (As := []) F hB hS ((F.2.1).1 9 _ rfl).2 (c_at F (hB.dyn hm) rfl) (mX8_kind hw) q665 q1715 q618 q666 q94 q667 (by decide +kernel) hR ⟨rfl, rfl⟩ hc rfl hsz rfl hW hdg) hS kk
  · exact k_i (Bw := cB D A ad) (k_runSU (Bw := cB D A ad) (C := RX10) (n := 0) (As := []) F hB hS ((F.2.1).1 10 _ rfl).2 (c_at F (hB.dyn hm) rfl) (mX8_kind hw) q665 q1715 q618 q666 q94 q667 (by decide +kernel) hR ⟨rfl, rfl⟩ hc rfl hsz rfl hW hdg) hS kk
  · exact k_i (Bw := cB D A ad) (k_runSU (Bw := cB D A ad) (C := RX11) (n := 0) (As := []) F hB hS ((F.2.1).1 11 _ rfl).2 (c_at F (hB.dyn hm) rfl) (mX8_kind hw) q665 q1715 q618 q666 q94 q667 (by decide +kernel) hR ⟨rfl, rfl⟩ hc rfl hsz rfl hW hdg) hS kk
  · exact k_i (Bw := cB D A ad) (k_runSU (Bw := cB D A ad) (C := RX12) (n := 0) (As := []) F hB hS ((F.2.1).1 12 _ rfl).2 (c_at F (hB.dyn hm) rfl) (mX8_kind hw) q665 q1715 q618 q666 q94 q667 (by decide +kernel) hR ⟨rfl, rfl⟩ hc rfl hsz rfl hW hdg) hS kk
def rX8_worth : Room := { frames := 1, cells := 0, slots := 0, locals := 20 }
set_option maxHeartbeats 4000000 in
theorem bX8_worth_0 {p : Program} {l : Launch} {e : Env} {s : State} {m : MethodId} {args : Array Value} {below : List Frame} {meth : Method} {c : Code} {D : DD} {A : Nat → Prop} {s0 : State} {ad : AD} {Q : Int32 → CV → Prop} {a0 : Nat} {V : CV} {H : Heap} {locs : List Loc} {ls : Array Slot} (F : FX p l c cX8_worth s args m RX8 D A s0 1 meth (some .int)) (hB : cB D A ad V H) (hS : va_S A s.heap H locs) (hw : wX8_worth a0 V Q) (hl : lv_has ls 1 [(0, .ref a0)]) : W p l e rX8_worth s m args below meth c H locs 0 0 (MQ below (va_Qi Q (fun u t => cB D A ad u t.heap) A) args s 0 0 A) (F0 m 0 ls []) := by
  have hx := F.1.x
  have hb := F.1.b
  unfold wX8_worth at hw
  refine lv_aload_n hx hb dX8_worth_0 rfl (lv_at hl 0 rfl) ?_
  obtain ⟨c2, b3, hk4, hm5, hw⟩ := hw
  refine kX8_X7_worth F hB hS hk4 hm5 hw ⟨Nat.le_of_ble_eq_true rfl, Nat.le_of_ble_eq_true rfl⟩ ⟨Nat.zero_le _, Nat.zero_le _⟩ hl.1 (Nat.le_of_ble_eq_true rfl) dX8_worth_1 (fun r1 V6 H locs hw hB hS => ?_)
  refine lv_iconst (v := 5) hx hb dX8_worth_4 (by decide) ?_
  refine lv_iadd hx hb dX8_worth_5 ?_
  exact W.iret hx hb F.1.r (fun t ht hW => ⟨⟨_, _, rfl, hw, x_B (Bw := cB D A ad) ht hB⟩, hS.F ht⟩) hS.2.2 dX8_worth_6 (hlocks := F.1.k)
set_option maxHeartbeats 4000000 in
theorem mX8_worth {l : Launch} {D : DD} {A : Nat → Prop} {s0 : State} {ad : AD} {V : CV} {a0 : Nat} {Q : Int32 → CV → Prop} (hw : wX8_worth a0 V Q) : Met l yX8_worth (ws_ yX8_worth cX8_worth 1 (some .int)) rX8_worth (va_Pc [.ref a0] (fun U => cB D A ad V U.heap ∧ CX l D A s0 U)) (va_Qi Q (fun u t => cB D A ad u t.heap) A) 0 0 A := by
  refine Met.ofW (cc := cX8_worth) (maxL := 1) (ret := some .int) (by decide) rfl ?_
  intro p e s m args below meth c s₁ B hml hv
  obtain ⟨rfl, hB, hC⟩ := hv
  have F : FX p l c cX8_worth s _ m RX8 D A s0 1 meth (some .int) := ⟨mk_FP B hml rfl, hC⟩
  have hS : va_S A s.heap s.heap [] := va_S.rf
  have hl := lv_entry ([.ref a0]) (n := 1) (Nat.le_of_ble_eq_true rfl)
  rw [lg_entry_eq]
  generalize (lg_sl ([.ref a0]) ++ List.replicate (1 - (lg_sl ([.ref a0])).length) Slot.unset).toArray = ls at hl ⊢
  exact bX8_worth_0 F hB hS hw hl
theorem kX10_X8_worth {p : Program} {l : Launch} {e : Env} {R : Room} {s : State} {m : MethodId} {args : Array Value} {below : List Frame} {meth : Method} {c : Code} {H : Heap} {locs : List Loc} {cells slots : Nat} {Q0 : State → Prop} {cc : ByteArray} {pc nL : Nat} {ls : Array Slot} {rest : List Value} {ret : Option FieldType} {D : DD} {A : Nat → Prop} {s0 : State} {ad : AD} {V : CV} {a0 : Nat} {Q : Int32 → CV → Prop} (F : FX p l c cc s args m RX10 D A s0 nL meth ret) (hB : cB D A ad V H) (hS : va_S A s.heap H locs) {k0 : Nat} {b0 : Int32} (hk : isSpk k0) (hm : vM V a0 = some (eSp k0 b0)) (hw : wX8_worth a0 V Q) (hR : rX8_worth.frames + 1 ≤ R.frames ∧ 8 + (1 + 11) + rX8_worth.locals ≤ R.locals) (hc : cells + 0 ≤ R.cells ∧ slots + 0 ≤ R.slots) (hsz : ls.size = nL) (hW : (rest.map fun v => v.category).sum ≤ 8) (hdg : decode cc pc = .ok (.invokespecial 20, 3)) (kk : ∀ (r : Int32) (u : CV) (H1 : Heap) (locs1 : List Loc), Q r u → cB D A ad u H1 → va_S A s.heap H1 locs1 → W p l e R s m args below meth c H1 locs1 cells slots Q0 (F0 m (pc + 3) ls (.int r :: rest))) : W p l e R s m args below meth c H locs cells slots Q0 (F0 m pc ls (.ref a0 :: rest)) := by
  rcases hk.or with rfl | rfl | rfl | rfl | rfl | rfl
  · exact k_i (Bw := cB D A ad) (k_runSU (Bw := cB D A ad) (C := RX7) (n := 0) (As := []) F hB hS ((F.2.1).1 7 _ rfl).2 (c_at F (hB.dyn hm) rfl) (mX8_worth hw) q699 q1717 q618 q700 q94 q701 (by decide +kernel) hR ⟨rfl, rfl⟩ hc rfl hsz rfl hW hdg) hS kk
  · exact k_i (Bw := cB D A ad) (k_runSU (Bw := cB D A ad) (C := RX8) (n := 0) (As := []) F hB hS ((F.2.1).1 8 _ rfl).2 (c_at F (hB.dyn hm) rfl) (mX8_worth hw) q699 q1717 q618 q700 q94 q701 (by decide +kernel) hR ⟨rfl, rfl⟩ hc rfl hsz rfl hW hdg) hS kk
  · exact k_i (Bw := cB D A ad) (k_runSU (Bw := cB D A ad) (C := RX9) (n := 0) (As := []) F hB hS ((F.2.1).1 9 _ rfl).2 (c_at F (hB.dyn hm) rfl) (mX8_worth hw) q699 q1717 q618 q700 q94 q701 (by decide +kernel) hR ⟨rfl, rfl⟩ hc rfl hsz rfl hW hdg) hS kk
  · exact k_i (Bw := cB D A ad) (k_runSU (Bw := cB D A ad) (C := RX10) (n := 0) (As := []) F hB hS ((F.2.1).1 10 _ rfl).2 (c_at F (hB.dyn hm) rfl) (mX8_worth hw) q699 q1717 q618 q700 q94 q701 (by decide +kernel) hR ⟨rfl, rfl⟩ hc rfl hsz rfl hW hdg) hS kk
  · exact k_i (Bw := cB D A ad) (k_runSU (Bw := cB D A ad) (C := RX11) (n := 0) (As := []) F hB hS ((F.2.1).1 11 _ rfl).2 (c_at F (hB.dyn hm) rfl) (mX8_worth hw) q699 q1717 q618 q700 q94 q701 (by decide +kernel) hR ⟨rfl, rfl⟩ hc rfl hsz rfl hW hdg) hS kk
  · exact k_i (Bw := cB D A ad) (k_runSU (Bw := cB D A ad) (C := RX12) (n := 0) (As := []) F hB hS ((F.2.1).1 12 _ rfl).2 (c_at F (hB.dyn hm) rfl) (mX8_worth hw) q699 q1717 q618 q700 q94 q701 (by decide +kernel) hR ⟨rfl, rfl⟩ hc rfl hsz rfl hW hdg) hS kk
def rX8_another : Room := { frames := 3, cells := 1, slots := 1, locals := 80 }
set_option maxHeartbeats 4000000 in
theorem bX8_another_0 {p : Program} {l : Launch} {e : Env} {s : State} {m : MethodId} {args : Array Value} {below : List Frame} {meth : Method} {c : Code} {D : DD} {A : Nat → Prop} {s0 : State} {ad : AD} {Q : Nat → CV → Prop} {a0 : Nat} {V : CV} {H : Heap} {locs : List Loc} {ls : Array Slot} (F : FX p l c cX8_another s args m RX8 D A s0 1 meth (some (.object "NeverSaid$Speaker"))) (hB : cB D A ad V H) (hS : va_S A s.heap H locs) (hw : wX8_another a0 V Q) (hl : lv_has ls 1 [(0, .ref a0)]) : W p l e rX8_another s m args below meth c H locs 0 0 (MQ below (xa_Qn Q (fun u t => cB D A ad u t.heap) A) args s 1 1 A) (F0 m 0 ls []) := by
  have hx := F.1.x
  have hb := F.1.b
  unfold wX8_another at hw
  refine nX8_17 F hB hS (by show 0 + 1 ≤ 1; omega) (by show 0 + 1 ≤ 1; omega) dX8_another_0 (fun q1 H hq2 hB hS => ?_)
  replace hw := hw q1 hq2
  refine lv_dup hx hb dX8_another_3 rfl ?_
  refine kX8_X8_init F hB hS hw ⟨Nat.le_of_ble_eq_true rfl, Nat.le_of_ble_eq_true rfl⟩ ⟨by show _ ≤ 1; omega, by show _ ≤ 1; omega⟩ hl.1 (Nat.le_of_ble_eq_true rfl) dX8_another_4 (fun V4 H locs hw hB hS => ?_)
  exact W.aret hx hb F.1.r (Or.inl ⟨_, rfl⟩) (Or.inr ⟨_, rfl⟩) (fun t ht hW => xa_mk hw (x_B (Bw := cB D A ad) ht hB) (hS.F ht)) hS.2.2 dX8_another_7 (hlocks := F.1.k)
set_option maxHeartbeats 4000000 in
theorem mX8_another {l : Launch} {D : DD} {A : Nat → Prop} {s0 : State} {ad : AD} {V : CV} {a0 : Nat} {Q : Nat → CV → Prop} (hw : wX8_another a0 V Q) : Met l yX8_another (ws_ yX8_another cX8_another 1 (some (.object "NeverSaid$Speaker"))) rX8_another (va_Pc [.ref a0] (fun U => cB D A ad V U.heap ∧ CX l D A s0 U)) (xa_Qn Q (fun u t => cB D A ad u t.heap) A) 1 1 A := by
  refine Met.ofW (cc := cX8_another) (maxL := 1) (ret := some (.object "NeverSaid$Speaker")) (by decide) rfl ?_
  intro p e s m args below meth c s₁ B hml hv
  obtain ⟨rfl, hB, hC⟩ := hv
  have F : FX p l c cX8_another s _ m RX8 D A s0 1 meth (some (.object "NeverSaid$Speaker")) := ⟨mk_FP B hml rfl, hC⟩
  have hS : va_S A s.heap s.heap [] := va_S.rf
  have hl := lv_entry ([.ref a0]) (n := 1) (Nat.le_of_ble_eq_true rfl)
  rw [lg_entry_eq]
  generalize (lg_sl ([.ref a0]) ++ List.replicate (1 - (lg_sl ([.ref a0])).length) Slot.unset).toArray = ls at hl ⊢
  exact bX8_another_0 F hB hS hw hl
def rX9_init : Room := { frames := 2, cells := 0, slots := 0, locals := 60 }
set_option maxHeartbeats 4000000 in
theorem bX9_init_0 {p : Program} {l : Launch} {e : Env} {s : State} {m : MethodId} {args : Array Value} {below : List Frame} {meth : Method} {c : Code} {D : DD} {A : Nat → Prop} {s0 : State} {ad : AD} {Q : CV → Prop} {a0 : Nat} {V : CV} {H : Heap} {locs : List Loc} {ls : Array Slot} (F : FX p l c cX9_init s args m RX9 D A s0 1 meth (none)) (hin : meth.name = "<init>") (hB : cB D A ad V H) (hS : va_S A s.heap H locs) (hw : wX9_init a0 V Q) (hl : lv_has ls 1 [(0, .ref a0)]) : W p l e rX9_init s m args below meth c H locs 0 0 (MQ below (va_Qv Q (fun u t => cB D A ad u t.heap) A) args s 0 0 A) (F0 m 0 ls []) := by
  have hx := F.1.x
  have hb := F.1.b
  unfold wX9_init at hw
  refine lv_aload_n hx hb dX9_init_0 rfl (lv_at hl 0 rfl) ?_
  refine kX9_X7_init F hB hS hw ⟨Nat.le_of_ble_eq_true rfl, Nat.le_of_ble_eq_true rfl⟩ ⟨Nat.zero_le _, Nat.zero_le _⟩ hl.1 (Nat.le_of_ble_eq_true rfl) dX9_init_1 (fun V2 H locs hw hB hS => ?_)
  exact W.vret hx hb F.1.r (fun t ht hW => ⟨⟨_, rfl, hw, x_B (Bw := cB D A ad) ht hB⟩, hS.F ht⟩) hS.2.2 dX9_init_4 (hlocks := F.1.k)
set_option maxHeartbeats 4000000 in
theorem mX9_init {l : Launch} {D : DD} {A : Nat → Prop} {s0 : State} {ad : AD} {V : CV} {a0 : Nat} {Q : CV → Prop} (hw : wX9_init a0 V Q) : Met l yX9_init (ws_ yX9_init cX9_init 1 (none)) rX9_init (va_Pc [.ref a0] (fun U => cB D A ad V U.heap ∧ CX l D A s0 U)) (va_Qv Q (fun u t => cB D A ad u t.heap) A) 0 0 A := by
  refine Met.ofW (cc := cX9_init) (maxL := 1) (ret := none) (by decide) rfl ?_
  intro p e s m args below meth c s₁ B hml hv
  obtain ⟨rfl, hB, hC⟩ := hv
  have F : FX p l c cX9_init s _ m RX9 D A s0 1 meth (none) := ⟨mk_FP B hml rfl, hC⟩
  have hS : va_S A s.heap s.heap [] := va_S.rf
  have hin : meth.name = "<init>" := (name_of_methodNamed B.named B.method).1
  have hl := lv_entry ([.ref a0]) (n := 1) (Nat.le_of_ble_eq_true rfl)
  rw [lg_entry_eq]
  generalize (lg_sl ([.ref a0]) ++ List.replicate (1 - (lg_sl ([.ref a0])).length) Slot.unset).toArray = ls at hl ⊢
  exact bX9_init_0 F hin hB hS hw hl
theorem kX9_X9_init {p : Program} {l : Launch} {e : Env} {R : Room} {s : State} {m : MethodId} {args : Array Value} {below : List Frame} {meth : Method} {c : Code} {H : Heap} {locs : List Loc} {cells slots : Nat} {Q0 : State → Prop} {cc : ByteArray} {pc nL : Nat} {ls : Array Slot} {rest : List Value} {ret : Option FieldType} {D : DD} {A : Nat → Prop} {s0 : State} {ad : AD} {V : CV} {a0 : Nat} {Q : CV → Prop} (F : FX p l c cc s args m RX9 D A s0 nL meth ret) (hB : cB D A ad V H) (hS : va_S A s.heap H locs) (hw : wX9_init a0 V Q) (hR : rX9_init.frames + 1 ≤ R.frames ∧ 8 + (1 + 11) + rX9_init.locals ≤ R.locals) (hc : cells + 0 ≤ R.cells ∧ slots + 0 ≤ R.slots) (hsz : ls.size = nL) (hW : (rest.map fun v => v.category).sum ≤ 8) (hdg : decode cc pc = .ok (.invokespecial 23, 3)) (kk : ∀ (u : CV) (H1 : Heap) (locs1 : List Loc), Q u → cB D A ad u H1 → va_S A s.heap H1 locs1 → W p l e R s m args below meth c H1 locs1 cells slots Q0 (F0 m (pc + 3) ls (rest))) : W p l e R s m args below meth c H locs cells slots Q0 (F0 m pc ls (.ref a0 :: rest)) :=
  k_v (Bw := cB D A ad) (k_runI (Bw := cB D A ad) (n := 0) (As := []) F hB hS (mX9_init hw) q1103 q606 q95 q607 rfl (by decide +kernel) hR ⟨rfl, rfl⟩ hc rfl hsz rfl hW hdg) hS kk
theorem kX0_X9_init {p : Program} {l : Launch} {e : Env} {R : Room} {s : State} {m : MethodId} {args : Array Value} {below : List Frame} {meth : Method} {c : Code} {H : Heap} {locs : List Loc} {cells slots : Nat} {Q0 : State → Prop} {cc : ByteArray} {pc nL : Nat} {ls : Array Slot} {rest : List Value} {ret : Option FieldType} {D : DD} {A : Nat → Prop} {s0 : State} {ad : AD} {V : CV} {a0 : Nat} {Q : CV → Prop} (F : FX p l c cc s args m RX0 D A s0 nL meth ret) (hB : cB D A ad V H) (hS : va_S A s.heap H locs) (hw : wX9_init a0 V Q) (hR : rX9_init.frames + 1 ≤ R.frames ∧ 8 + (1 + 11) + rX9_init.locals ≤ R.locals) (hc : cells + 0 ≤ R.cells ∧ slots + 0 ≤ R.slots) (hsz : ls.size = nL) (hW : (rest.map fun v => v.category).sum ≤ 8) (hdg : decode cc pc = .ok (.invokespecial 21, 3)) (kk : ∀ (u : CV) (H1 : Heap) (locs1 : List Loc), Q u → cB D A ad u H1 → va_S A s.heap H1 locs1 → W p l e R s m args below meth c H1 locs1 cells slots Q0 (F0 m (pc + 3) ls (rest))) : W p l e R s m args below meth c H locs cells slots Q0 (F0 m pc ls (.ref a0 :: rest)) :=
  k_v (Bw := cB D A ad) (k_runIN (Bw := cB D A ad) (n := 0) (As := []) F hB hS (mX9_init hw) q605 q606 q95 q607 rfl (by decide +kernel) hR ⟨rfl, rfl⟩ hc rfl hsz rfl hW hdg) hS kk
theorem kX11_X9_init {p : Program} {l : Launch} {e : Env} {R : Room} {s : State} {m : MethodId} {args : Array Value} {below : List Frame} {meth : Method} {c : Code} {H : Heap} {locs : List Loc} {cells slots : Nat} {Q0 : State → Prop} {cc : ByteArray} {pc nL : Nat} {ls : Array Slot} {rest : List Value} {ret : Option FieldType} {D : DD} {A : Nat → Prop} {s0 : State} {ad : AD} {V : CV} {a0 : Nat} {Q : CV → Prop} (F : FX p l c cc s args m RX11 D A s0 nL meth ret) (hB : cB D A ad V H) (hS : va_S A s.heap H locs) (hw : wX9_init a0 V Q) (hR : rX9_init.frames + 1 ≤ R.frames ∧ 8 + (1 + 11) + rX9_init.locals ≤ R.locals) (hc : cells + 0 ≤ R.cells ∧ slots + 0 ≤ R.slots) (hsz : ls.size = nL) (hW : (rest.map fun v => v.category).sum ≤ 8) (hdg : decode cc pc = .ok (.invokespecial 3, 3)) (kk : ∀ (u : CV) (H1 : Heap) (locs1 : List Loc), Q u → cB D A ad u H1 → va_S A s.heap H1 locs1 → W p l e R s m args below meth c H1 locs1 cells slots Q0 (F0 m (pc + 3) ls (rest))) : W p l e R s m args below meth c H locs cells slots Q0 (F0 m pc ls (.ref a0 :: rest)) :=
  k_v (Bw := cB D A ad) (k_runIN (Bw := cB D A ad) (n := 0) (As := []) F hB hS (mX9_init hw) q624 q606 q95 q607 rfl (by decide +kernel) hR ⟨rfl, rfl⟩ hc rfl hsz rfl hW hdg) hS kk
def rX9_kind : Room := { frames := 0, cells := 0, slots := 0, locals := 0 }
set_option maxHeartbeats 4000000 in
theorem bX9_kind_0 {p : Program} {l : Launch} {e : Env} {s : State} {m : MethodId} {args : Array Value} {below : List Frame} {meth : Method} {c : Code} {D : DD} {A : Nat → Prop} {s0 : State} {ad : AD} {Q : Int32 → CV → Prop} {a0 : Nat} {V : CV} {H : Heap} {locs : List Loc} {ls : Array Slot} (F : FX p l c cX9_kind s args m RX9 D A s0 1 meth (some .int)) (hB : cB D A ad V H) (hS : va_S A s.heap H locs) (hw : wX9_kind a0 V Q) (hl : lv_has ls 1 [(0, .ref a0)]) : W p l e rX9_kind s m args below meth c H locs 0 0 (MQ below (va_Qi Q (fun u t => cB D A ad u t.heap) A) args s 0 0 A) (F0 m 0 ls []) := by
  have hx := F.1.x
  have hb := F.1.b
  unfold wX9_kind at hw
  refine lv_iconst (v := 2) hx hb dX9_kind_0 (by decide) ?_
  exact W.iret hx hb F.1.r (fun t ht hW => ⟨⟨_, _, rfl, hw, x_B (Bw := cB D A ad) ht hB⟩, hS.F ht⟩) hS.2.2 dX9_kind_1 (hlocks := F.1.k)
set_option maxHeartbeats 4000000 in
theorem mX9_kind {l : Launch} {D : DD} {A : Nat → Prop} {s0 : State} {ad : AD} {V : CV} {a0 : Nat} {Q : Int32 → CV → Prop} (hw : wX9_kind a0 V Q) : Met l yX9_kind (ws_ yX9_kind cX9_kind 1 (some .int)) rX9_kind (va_Pc [.ref a0] (fun U => cB D A ad V U.heap ∧ CX l D A s0 U)) (va_Qi Q (fun u t => cB D A ad u t.heap) A) 0 0 A := by
  refine Met.ofW (cc := cX9_kind) (maxL := 1) (ret := some .int) (by decide) rfl ?_
  intro p e s m args below meth c s₁ B hml hv
  obtain ⟨rfl, hB, hC⟩ := hv
  have F : FX p l c cX9_kind s _ m RX9 D A s0 1 meth (some .int) := ⟨mk_FP B hml rfl, hC⟩
  have hS : va_S A s.heap s.heap [] := va_S.rf
  have hl := lv_entry ([.ref a0]) (n := 1) (Nat.le_of_ble_eq_true rfl)
  rw [lg_entry_eq]
  generalize (lg_sl ([.ref a0]) ++ List.replicate (1 - (lg_sl ([.ref a0])).length) Slot.unset).toArray = ls at hl ⊢
  exact bX9_kind_0 F hB hS hw hl
theorem kX11_X9_kind {p : Program} {l : Launch} {e : Env} {R : Room} {s : State} {m : MethodId} {args : Array Value} {below : List Frame} {meth : Method} {c : Code} {H : Heap} {locs : List Loc} {cells slots : Nat} {Q0 : State → Prop} {cc : ByteArray} {pc nL : Nat} {ls : Array Slot} {rest : List Value} {ret : Option FieldType} {D : DD} {A : Nat → Prop} {s0 : State} {ad : AD} {V : CV} {a0 : Nat} {Q : Int32 → CV → Prop} (F : FX p l c cc s args m RX11 D A s0 nL meth ret) (hB : cB D A ad V H) (hS : va_S A s.heap H locs) {k0 : Nat} {b0 : Int32} (hk : isSpk k0) (hm : vM V a0 = some (eSp k0 b0)) (hw : wX9_kind a0 V Q) (hR : rX9_kind.frames + 1 ≤ R.frames ∧ 8 + (1 + 11) + rX9_kind.locals ≤ R.locals) (hc : cells + 0 ≤ R.cells ∧ slots + 0 ≤ R.slots) (hsz : ls.size = nL) (hW : (rest.map fun v => v.category).sum ≤ 8) (hdg : decode cc pc = .ok (.invokespecial 9, 3)) (kk : ∀ (r : Int32) (u : CV) (H1 : Heap) (locs1 : List Loc), Q r u → cB D A ad u H1 → va_S A s.heap H1 locs1 → W p l e R s m args below meth c H1 locs1 cells slots Q0 (F0 m (pc + 3) ls (.int r :: rest))) : W p l e R s m args below meth c H locs cells slots Q0 (F0 m pc ls (.ref a0 :: rest)) := by
  rcases hk.or with rfl | rfl | rfl | rfl | rfl | rfl
  · exact k_i (Bw := cB D A ad) (k_runSU (Bw := cB D A ad) (C := RX7) (n := 0) (As := []) F hB hS ((F.2.1).1 7 _ rfl).2 (c_at F (hB.dyn hm) rfl) (mX9_kind hw) q655 q1714 q626 q656 q95 q657 (by decide +kernel) hR ⟨rfl, rfl⟩ hc rfl hsz rfl hW hdg) hS kk
  · exact k_i (Bw := cB D A ad) (k_runSU (Bw := cB D A ad) (C := RX8) (n := 0) (As := []) F hB hS ((F.2.1).1 8 _ rfl).2 (c_at F (hB.dyn hm) rfl) (mX9_kind hw) q655 q1714 q626 q656 q95 q657 (by decide +kernel) hR ⟨rfl, rfl⟩ hc rfl hsz rfl hW hdg) hS kk
  · exact k_i (Bw := cB D A ad) (k_runSU (Bw := cB D A ad) (C := RX9) (n := 0) (As := []) F hB hS ((F.2.1).1 9 _ rfl).2 (c_at F (hB.dyn hm) rfl) (mX9_kind hw) q655 q1714 q626 q656 q95 q657 (by decide +kernel) hR ⟨rfl, rfl⟩ hc rfl hsz rfl hW hdg) hS kk
  · exact k_i (Bw := cB D A ad) (k_runSU (Bw := cB D A ad) (C := RX10) (n := 0) (As := []) F hB hS ((F.2.1).1 10 _ rfl).2 (c_at F (hB.dyn hm) rfl) (mX9_kind hw) q655 q1714 q626 q656 q95 q657 (by decide +kernel) hR ⟨rfl, rfl⟩ hc rfl hsz rfl hW hdg) hS kk
  · exact k_i (Bw := cB D A ad) (k_runSU (Bw := cB D A ad) (C := RX11) (n := 0) (As := []) F hB hS ((F.2.1).1 11 _ rfl).2 (c_at F (hB.dyn hm) rfl) (mX9_kind hw) q655 q1714 q626 q656 q95 q657 (by decide +kernel) hR ⟨rfl, rfl⟩ hc rfl hsz rfl hW hdg) hS kk
  · exact k_i (Bw := cB D A ad) (k_runSU (Bw := cB D A ad) (C := RX12) (n := 0) (As := []) F hB hS ((F.2.1).1 12 _ rfl).2 (c_at F (hB.dyn hm) rfl) (mX9_kind hw) q655 q1714 q626 q656 q95 q657 (by decide +kernel) hR ⟨rfl, rfl⟩ hc rfl hsz rfl hW hdg) hS kk
def rX9_worth : Room := { frames := 1, cells := 0, slots := 0, locals := 20 }
set_option maxHeartbeats 4000000 in
theorem bX9_worth_0 {p : Program} {l : Launch} {e : Env} {s : State} {m : MethodId} {args : Array Value} {below : List Frame} {meth : Method} {c : Code} {D : DD} {A : Nat → Prop} {s0 : State} {ad : AD} {Q : Int32 → CV → Prop} {a0 : Nat} {V : CV} {H : Heap} {locs : List Loc} {ls : Array Slot} (F : FX p l c cX9_worth s args m RX9 D A s0 1 meth (some .int)) (hB : cB D A ad V H) (hS : va_S A s.heap H locs) (hw : wX9_worth a0 V Q) (hl : lv_has ls 1 [(0, .ref a0)]) : W p l e rX9_worth s m args below meth c H locs 0 0 (MQ below (va_Qi Q (fun u t => cB D A ad u t.heap) A) args s 0 0 A) (F0 m 0 ls []) := by
  have hx := F.1.x
  have hb := F.1.b
  unfold wX9_worth at hw
  refine lv_bipush (v := 100) hx hb dX9_worth_0 (by decide) ?_
  refine lv_aload_n hx hb dX9_worth_2 rfl (lv_at hl 0 rfl) ?_
  obtain ⟨c2, b3, hk4, hm5, hw⟩ := hw
  refine kX9_X7_worth F hB hS hk4 hm5 hw ⟨Nat.le_of_ble_eq_true rfl, Nat.le_of_ble_eq_true rfl⟩ ⟨Nat.zero_le _, Nat.zero_le _⟩ hl.1 (Nat.le_of_ble_eq_true rfl) dX9_worth_3 (fun r1 V6 H locs hw hB hS => ?_)
  refine lv_isub hx hb dX9_worth_6 ?_
  exact W.iret hx hb F.1.r (fun t ht hW => ⟨⟨_, _, rfl, hw, x_B (Bw := cB D A ad) ht hB⟩, hS.F ht⟩) hS.2.2 dX9_worth_7 (hlocks := F.1.k)
set_option maxHeartbeats 4000000 in
theorem mX9_worth {l : Launch} {D : DD} {A : Nat → Prop} {s0 : State} {ad : AD} {V : CV} {a0 : Nat} {Q : Int32 → CV → Prop} (hw : wX9_worth a0 V Q) : Met l yX9_worth (ws_ yX9_worth cX9_worth 1 (some .int)) rX9_worth (va_Pc [.ref a0] (fun U => cB D A ad V U.heap ∧ CX l D A s0 U)) (va_Qi Q (fun u t => cB D A ad u t.heap) A) 0 0 A := by
  refine Met.ofW (cc := cX9_worth) (maxL := 1) (ret := some .int) (by decide) rfl ?_
  intro p e s m args below meth c s₁ B hml hv
  obtain ⟨rfl, hB, hC⟩ := hv
  have F : FX p l c cX9_worth s _ m RX9 D A s0 1 meth (some .int) := ⟨mk_FP B hml rfl, hC⟩
  have hS : va_S A s.heap s.heap [] := va_S.rf
  have hl := lv_entry ([.ref a0]) (n := 1) (Nat.le_of_ble_eq_true rfl)
  rw [lg_entry_eq]
  generalize (lg_sl ([.ref a0]) ++ List.replicate (1 - (lg_sl ([.ref a0])).length) Slot.unset).toArray = ls at hl ⊢
  exact bX9_worth_0 F hB hS hw hl
theorem kX11_X9_worth {p : Program} {l : Launch} {e : Env} {R : Room} {s : State} {m : MethodId} {args : Array Value} {below : List Frame} {meth : Method} {c : Code} {H : Heap} {locs : List Loc} {cells slots : Nat} {Q0 : State → Prop} {cc : ByteArray} {pc nL : Nat} {ls : Array Slot} {rest : List Value} {ret : Option FieldType} {D : DD} {A : Nat → Prop} {s0 : State} {ad : AD} {V : CV} {a0 : Nat} {Q : Int32 → CV → Prop} (F : FX p l c cc s args m RX11 D A s0 nL meth ret) (hB : cB D A ad V H) (hS : va_S A s.heap H locs) {k0 : Nat} {b0 : Int32} (hk : isSpk k0) (hm : vM V a0 = some (eSp k0 b0)) (hw : wX9_worth a0 V Q) (hR : rX9_worth.frames + 1 ≤ R.frames ∧ 8 + (1 + 11) + rX9_worth.locals ≤ R.locals) (hc : cells + 0 ≤ R.cells ∧ slots + 0 ≤ R.slots) (hsz : ls.size = nL) (hW : (rest.map fun v => v.category).sum ≤ 8) (hdg : decode cc pc = .ok (.invokespecial 23, 3)) (kk : ∀ (r : Int32) (u : CV) (H1 : Heap) (locs1 : List Loc), Q r u → cB D A ad u H1 → va_S A s.heap H1 locs1 → W p l e R s m args below meth c H1 locs1 cells slots Q0 (F0 m (pc + 3) ls (.int r :: rest))) : W p l e R s m args below meth c H locs cells slots Q0 (F0 m pc ls (.ref a0 :: rest)) := by
  rcases hk.or with rfl | rfl | rfl | rfl | rfl | rfl
  · exact k_i (Bw := cB D A ad) (k_runSU (Bw := cB D A ad) (C := RX7) (n := 0) (As := []) F hB hS ((F.2.1).1 7 _ rfl).2 (c_at F (hB.dyn hm) rfl) (mX9_worth hw) q687 q1716 q626 q688 q95 q689 (by decide +kernel) hR ⟨rfl, rfl⟩ hc rfl hsz rfl hW hdg) hS kk
  · exact k_i (Bw := cB D A ad) (k_runSU (Bw := cB D A ad) (C := RX8) (n := 0) (As := []) F hB hS ((F.2.1).1 8 _ rfl).2 (c_at F (hB.dyn hm) rfl) (mX9_worth hw) q687 q1716 q626 q688 q95 q689 (by decide +kernel) hR ⟨rfl, rfl⟩ hc rfl hsz rfl hW hdg) hS kk
  · exact k_i (Bw := cB D A ad) (k_runSU (Bw := cB D A ad) (C := RX9) (n := 0) (As := []) F hB hS ((F.2.1).1 9 _ rfl).2 (c_at F (hB.dyn hm) rfl) (mX9_worth hw) q687 q1716 q626 q688 q95 q689 (by decide +kernel) hR ⟨rfl, rfl⟩ hc rfl hsz rfl hW hdg) hS kk
  · exact k_i (Bw := cB D A ad) (k_runSU (Bw := cB D A ad) (C := RX10) (n := 0) (As := []) F hB hS ((F.2.1).1 10 _ rfl).2 (c_at F (hB.dyn hm) rfl) (mX9_worth hw) q687 q1716 q626 q688 q95 q689 (by decide +kernel) hR ⟨rfl, rfl⟩ hc rfl hsz rfl hW hdg) hS kk
  · exact k_i (Bw := cB D A ad) (k_runSU (Bw := cB D A ad) (C := RX11) (n := 0) (As := []) F hB hS ((F.2.1).1 11 _ rfl).2 (c_at F (hB.dyn hm) rfl) (mX9_worth hw) q687 q1716 q626 q688 q95 q689 (by decide +kernel) hR ⟨rfl, rfl⟩ hc rfl hsz rfl hW hdg) hS kk
  · exact k_i (Bw := cB D A ad) (k_runSU (Bw := cB D A ad) (C := RX12) (n := 0) (As := []) F hB hS ((F.2.1).1 12 _ rfl).2 (c_at F (hB.dyn hm) rfl) (mX9_worth hw) q687 q1716 q626 q688 q95 q689 (by decide +kernel) hR ⟨rfl, rfl⟩ hc rfl hsz rfl hW hdg) hS kk
def rX9_another : Room := { frames := 3, cells := 1, slots := 1, locals := 80 }
set_option maxHeartbeats 4000000 in
theorem bX9_another_0 {p : Program} {l : Launch} {e : Env} {s : State} {m : MethodId} {args : Array Value} {below : List Frame} {meth : Method} {c : Code} {D : DD} {A : Nat → Prop} {s0 : State} {ad : AD} {Q : Nat → CV → Prop} {a0 : Nat} {V : CV} {H : Heap} {locs : List Loc} {ls : Array Slot} (F : FX p l c cX9_another s args m RX9 D A s0 1 meth (some (.object "NeverSaid$Speaker"))) (hB : cB D A ad V H) (hS : va_S A s.heap H locs) (hw : wX9_another a0 V Q) (hl : lv_has ls 1 [(0, .ref a0)]) : W p l e rX9_another s m args below meth c H locs 0 0 (MQ below (xa_Qn Q (fun u t => cB D A ad u t.heap) A) args s 1 1 A) (F0 m 0 ls []) := by
  have hx := F.1.x
  have hb := F.1.b
  unfold wX9_another at hw
  refine nX9_10 F hB hS (by show 0 + 1 ≤ 1; omega) (by show 0 + 1 ≤ 1; omega) dX9_another_0 (fun q1 H hq2 hB hS => ?_)
  replace hw := hw q1 hq2
  refine lv_dup hx hb dX9_another_3 rfl ?_
  refine kX9_X9_init F hB hS hw ⟨Nat.le_of_ble_eq_true rfl, Nat.le_of_ble_eq_true rfl⟩ ⟨by show _ ≤ 1; omega, by show _ ≤ 1; omega⟩ hl.1 (Nat.le_of_ble_eq_true rfl) dX9_another_4 (fun V4 H locs hw hB hS => ?_)
  exact W.aret hx hb F.1.r (Or.inl ⟨_, rfl⟩) (Or.inr ⟨_, rfl⟩) (fun t ht hW => xa_mk hw (x_B (Bw := cB D A ad) ht hB) (hS.F ht)) hS.2.2 dX9_another_7 (hlocks := F.1.k)
set_option maxHeartbeats 4000000 in
theorem mX9_another {l : Launch} {D : DD} {A : Nat → Prop} {s0 : State} {ad : AD} {V : CV} {a0 : Nat} {Q : Nat → CV → Prop} (hw : wX9_another a0 V Q) : Met l yX9_another (ws_ yX9_another cX9_another 1 (some (.object "NeverSaid$Speaker"))) rX9_another (va_Pc [.ref a0] (fun U => cB D A ad V U.heap ∧ CX l D A s0 U)) (xa_Qn Q (fun u t => cB D A ad u t.heap) A) 1 1 A := by
  refine Met.ofW (cc := cX9_another) (maxL := 1) (ret := some (.object "NeverSaid$Speaker")) (by decide) rfl ?_
  intro p e s m args below meth c s₁ B hml hv
  obtain ⟨rfl, hB, hC⟩ := hv
  have F : FX p l c cX9_another s _ m RX9 D A s0 1 meth (some (.object "NeverSaid$Speaker")) := ⟨mk_FP B hml rfl, hC⟩
  have hS : va_S A s.heap s.heap [] := va_S.rf
  have hl := lv_entry ([.ref a0]) (n := 1) (Nat.le_of_ble_eq_true rfl)
  rw [lg_entry_eq]
  generalize (lg_sl ([.ref a0]) ++ List.replicate (1 - (lg_sl ([.ref a0])).length) Slot.unset).toArray = ls at hl ⊢
  exact bX9_another_0 F hB hS hw hl
def rX10_init : Room := { frames := 3, cells := 0, slots := 0, locals := 80 }
set_option maxHeartbeats 4000000 in
theorem bX10_init_0 {p : Program} {l : Launch} {e : Env} {s : State} {m : MethodId} {args : Array Value} {below : List Frame} {meth : Method} {c : Code} {D : DD} {A : Nat → Prop} {s0 : State} {ad : AD} {Q : CV → Prop} {a0 : Nat} {V : CV} {H : Heap} {locs : List Loc} {ls : Array Slot} (F : FX p l c cX10_init s args m RX10 D A s0 1 meth (none)) (hin : meth.name = "<init>") (hB : cB D A ad V H) (hS : va_S A s.heap H locs) (hw : wX10_init a0 V Q) (hl : lv_has ls 1 [(0, .ref a0)]) : W p l e rX10_init s m args below meth c H locs 0 0 (MQ below (va_Qv Q (fun u t => cB D A ad u t.heap) A) args s 0 0 A) (F0 m 0 ls []) := by
  have hx := F.1.x
  have hb := F.1.b
  unfold wX10_init at hw
  refine lv_aload_n hx hb dX10_init_0 rfl (lv_at hl 0 rfl) ?_
  refine kX10_X8_init F hB hS hw ⟨Nat.le_of_ble_eq_true rfl, Nat.le_of_ble_eq_true rfl⟩ ⟨Nat.zero_le _, Nat.zero_le _⟩ hl.1 (Nat.le_of_ble_eq_true rfl) dX10_init_1 (fun V2 H locs hw hB hS => ?_)
  exact W.vret hx hb F.1.r (fun t ht hW => ⟨⟨_, rfl, hw, x_B (Bw := cB D A ad) ht hB⟩, hS.F ht⟩) hS.2.2 dX10_init_4 (hlocks := F.1.k)
set_option maxHeartbeats 4000000 in
theorem mX10_init {l : Launch} {D : DD} {A : Nat → Prop} {s0 : State} {ad : AD} {V : CV} {a0 : Nat} {Q : CV → Prop} (hw : wX10_init a0 V Q) : Met l yX10_init (ws_ yX10_init cX10_init 1 (none)) rX10_init (va_Pc [.ref a0] (fun U => cB D A ad V U.heap ∧ CX l D A s0 U)) (va_Qv Q (fun u t => cB D A ad u t.heap) A) 0 0 A := by
  refine Met.ofW (cc := cX10_init) (maxL := 1) (ret := none) (by decide) rfl ?_
  intro p e s m args below meth c s₁ B hml hv
  obtain ⟨rfl, hB, hC⟩ := hv
  have F : FX p l c cX10_init s _ m RX10 D A s0 1 meth (none) := ⟨mk_FP B hml rfl, hC⟩
  have hS : va_S A s.heap s.heap [] := va_S.rf
  have hin : meth.name = "<init>" := (name_of_methodNamed B.named B.method).1
  have hl := lv_entry ([.ref a0]) (n := 1) (Nat.le_of_ble_eq_true rfl)
  rw [lg_entry_eq]
  generalize (lg_sl ([.ref a0]) ++ List.replicate (1 - (lg_sl ([.ref a0])).length) Slot.unset).toArray = ls at hl ⊢
  exact bX10_init_0 F hin hB hS hw hl
theorem kX10_X10_init {p : Program} {l : Launch} {e : Env} {R : Room} {s : State} {m : MethodId} {args : Array Value} {below : List Frame} {meth : Method} {c : Code} {H : Heap} {locs : List Loc} {cells slots : Nat} {Q0 : State → Prop} {cc : ByteArray} {pc nL : Nat} {ls : Array Slot} {rest : List Value} {ret : Option FieldType} {D : DD} {A : Nat → Prop} {s0 : State} {ad : AD} {V : CV} {a0 : Nat} {Q : CV → Prop} (F : FX p l c cc s args m RX10 D A s0 nL meth ret) (hB : cB D A ad V H) (hS : va_S A s.heap H locs) (hw : wX10_init a0 V Q) (hR : rX10_init.frames + 1 ≤ R.frames ∧ 8 + (1 + 11) + rX10_init.locals ≤ R.locals) (hc : cells + 0 ≤ R.cells ∧ slots + 0 ≤ R.slots) (hsz : ls.size = nL) (hW : (rest.map fun v => v.category).sum ≤ 8) (hdg : decode cc pc = .ok (.invokespecial 25, 3)) (kk : ∀ (u : CV) (H1 : Heap) (locs1 : List Loc), Q u → cB D A ad u H1 → va_S A s.heap H1 locs1 → W p l e R s m args below meth c H1 locs1 cells slots Q0 (F0 m (pc + 3) ls (rest))) : W p l e R s m args below meth c H locs cells slots Q0 (F0 m pc ls (.ref a0 :: rest)) :=
  k_v (Bw := cB D A ad) (k_runI (Bw := cB D A ad) (n := 0) (As := []) F hB hS (mX10_init hw) q1113 q614 q96 q615 rfl (by decide +kernel) hR ⟨rfl, rfl⟩ hc rfl hsz rfl hW hdg) hS kk
theorem kX0_X10_init {p : Program} {l : Launch} {e : Env} {R : Room} {s : State} {m : MethodId} {args : Array Value} {below : List Frame} {meth : Method} {c : Code} {H : Heap} {locs : List Loc} {cells slots : Nat} {Q0 : State → Prop} {cc : ByteArray} {pc nL : Nat} {ls : Array Slot} {rest : List Value} {ret : Option FieldType} {D : DD} {A : Nat → Prop} {s0 : State} {ad : AD} {V : CV} {a0 : Nat} {Q : CV → Prop} (F : FX p l c cc s args m RX0 D A s0 nL meth ret) (hB : cB D A ad V H) (hS : va_S A s.heap H locs) (hw : wX10_init a0 V Q) (hR : rX10_init.frames + 1 ≤ R.frames ∧ 8 + (1 + 11) + rX10_init.locals ≤ R.locals) (hc : cells + 0 ≤ R.cells ∧ slots + 0 ≤ R.slots) (hsz : ls.size = nL) (hW : (rest.map fun v => v.category).sum ≤ 8) (hdg : decode cc pc = .ok (.invokespecial 24, 3)) (kk : ∀ (u : CV) (H1 : Heap) (locs1 : List Loc), Q u → cB D A ad u H1 → va_S A s.heap H1 locs1 → W p l e R s m args below meth c H1 locs1 cells slots Q0 (F0 m (pc + 3) ls (rest))) : W p l e R s m args below meth c H locs cells slots Q0 (F0 m pc ls (.ref a0 :: rest)) :=
  k_v (Bw := cB D A ad) (k_runIN (Bw := cB D A ad) (n := 0) (As := []) F hB hS (mX10_init hw) q613 q614 q96 q615 rfl (by decide +kernel) hR ⟨rfl, rfl⟩ hc rfl hsz rfl hW hdg) hS kk
def rX10_another : Room := { frames := 4, cells := 1, slots := 1, locals := 100 }
set_option maxHeartbeats 4000000 in
theorem bX10_another_0 {p : Program} {l : Launch} {e : Env} {s : State} {m : MethodId} {args : Array Value} {below : List Frame} {meth : Method} {c : Code} {D : DD} {A : Nat → Prop} {s0 : State} {ad : AD} {Q : Nat → CV → Prop} {a0 : Nat} {V : CV} {H : Heap} {locs : List Loc} {ls : Array Slot} (F : FX p l c cX10_another s args m RX10 D A s0 1 meth (some (.object "NeverSaid$Speaker"))) (hB : cB D A ad V H) (hS : va_S A s.heap H locs) (hw : wX10_another a0 V Q) (hl : lv_has ls 1 [(0, .ref a0)]) : W p l e rX10_another s m args below meth c H locs 0 0 (MQ below (xa_Qn Q (fun u t => cB D A ad u t.heap) A) args s 1 1 A) (F0 m 0 ls []) := by
  have hx := F.1.x
  have hb := F.1.b
  unfold wX10_another at hw
  refine nX10_23 F hB hS (by show 0 + 1 ≤ 1; omega) (by show 0 + 1 ≤ 1; omega) dX10_another_0 (fun q1 H hq2 hB hS => ?_)
  replace hw := hw q1 hq2
  refine lv_dup hx hb dX10_another_3 rfl ?_
  refine kX10_X10_init F hB hS hw ⟨Nat.le_of_ble_eq_true rfl, Nat.le_of_ble_eq_true rfl⟩ ⟨by show _ ≤ 1; omega, by show _ ≤ 1; omega⟩ hl.1 (Nat.le_of_ble_eq_true rfl) dX10_another_4 (fun V4 H locs hw hB hS => ?_)
  exact W.aret hx hb F.1.r (Or.inl ⟨_, rfl⟩) (Or.inr ⟨_, rfl⟩) (fun t ht hW => xa_mk hw (x_B (Bw := cB D A ad) ht hB) (hS.F ht)) hS.2.2 dX10_another_7 (hlocks := F.1.k)
set_option maxHeartbeats 4000000 in
theorem mX10_another {l : Launch} {D : DD} {A : Nat → Prop} {s0 : State} {ad : AD} {V : CV} {a0 : Nat} {Q : Nat → CV → Prop} (hw : wX10_another a0 V Q) : Met l yX10_another (ws_ yX10_another cX10_another 1 (some (.object "NeverSaid$Speaker"))) rX10_another (va_Pc [.ref a0] (fun U => cB D A ad V U.heap ∧ CX l D A s0 U)) (xa_Qn Q (fun u t => cB D A ad u t.heap) A) 1 1 A := by
  refine Met.ofW (cc := cX10_another) (maxL := 1) (ret := some (.object "NeverSaid$Speaker")) (by decide) rfl ?_
  intro p e s m args below meth c s₁ B hml hv
  obtain ⟨rfl, hB, hC⟩ := hv
  have F : FX p l c cX10_another s _ m RX10 D A s0 1 meth (some (.object "NeverSaid$Speaker")) := ⟨mk_FP B hml rfl, hC⟩
  have hS : va_S A s.heap s.heap [] := va_S.rf
  have hl := lv_entry ([.ref a0]) (n := 1) (Nat.le_of_ble_eq_true rfl)
  rw [lg_entry_eq]
  generalize (lg_sl ([.ref a0]) ++ List.replicate (1 - (lg_sl ([.ref a0])).length) Slot.unset).toArray = ls at hl ⊢
  exact bX10_another_0 F hB hS hw hl
def rX10_kind : Room := { frames := 1, cells := 0, slots := 0, locals := 20 }
set_option maxHeartbeats 4000000 in
theorem bX10_kind_0 {p : Program} {l : Launch} {e : Env} {s : State} {m : MethodId} {args : Array Value} {below : List Frame} {meth : Method} {c : Code} {D : DD} {A : Nat → Prop} {s0 : State} {ad : AD} {Q : Int32 → CV → Prop} {a0 : Nat} {V : CV} {H : Heap} {locs : List Loc} {ls : Array Slot} (F : FX p l c cX10_kind s args m RX10 D A s0 1 meth (some .int)) (hB : cB D A ad V H) (hS : va_S A s.heap H locs) (hw : wX10_kind a0 V Q) (hl : lv_has ls 1 [(0, .ref a0)]) : W p l e rX10_kind s m args below meth c H locs 0 0 (MQ below (va_Qi Q (fun u t => cB D A ad u t.heap) A) args s 0 0 A) (F0 m 0 ls []) := by
  have hx := F.1.x
  have hb := F.1.b
  unfold wX10_kind at hw
  refine lv_aload_n hx hb dX10_kind_0 rfl (lv_at hl 0 rfl) ?_
  obtain ⟨c2, b3, hk4, hm5, hw⟩ := hw
  refine kX10_X8_kind F hB hS hk4 hm5 hw ⟨Nat.le_of_ble_eq_true rfl, Nat.le_of_ble_eq_true rfl⟩ ⟨Nat.zero_le _, Nat.zero_le _⟩ hl.1 (Nat.le_of_ble_eq_true rfl) dX10_kind_1 (fun r1 V6 H locs hw hB hS => ?_)
  refine lv_iconst (v := 2) hx hb dX10_kind_4 (by decide) ?_
  refine lv_iadd hx hb dX10_kind_5 ?_
  exact W.iret hx hb F.1.r (fun t ht hW => ⟨⟨_, _, rfl, hw, x_B (Bw := cB D A ad) ht hB⟩, hS.F ht⟩) hS.2.2 dX10_kind_6 (hlocks := F.1.k)
set_option maxHeartbeats 4000000 in
theorem mX10_kind {l : Launch} {D : DD} {A : Nat → Prop} {s0 : State} {ad : AD} {V : CV} {a0 : Nat} {Q : Int32 → CV → Prop} (hw : wX10_kind a0 V Q) : Met l yX10_kind (ws_ yX10_kind cX10_kind 1 (some .int)) rX10_kind (va_Pc [.ref a0] (fun U => cB D A ad V U.heap ∧ CX l D A s0 U)) (va_Qi Q (fun u t => cB D A ad u t.heap) A) 0 0 A := by
  refine Met.ofW (cc := cX10_kind) (maxL := 1) (ret := some .int) (by decide) rfl ?_
  intro p e s m args below meth c s₁ B hml hv
  obtain ⟨rfl, hB, hC⟩ := hv
  have F : FX p l c cX10_kind s _ m RX10 D A s0 1 meth (some .int) := ⟨mk_FP B hml rfl, hC⟩
  have hS : va_S A s.heap s.heap [] := va_S.rf
  have hl := lv_entry ([.ref a0]) (n := 1) (Nat.le_of_ble_eq_true rfl)
  rw [lg_entry_eq]
  generalize (lg_sl ([.ref a0]) ++ List.replicate (1 - (lg_sl ([.ref a0])).length) Slot.unset).toArray = ls at hl ⊢
  exact bX10_kind_0 F hB hS hw hl
def rX10_worth : Room := { frames := 2, cells := 0, slots := 0, locals := 40 }
set_option maxHeartbeats 4000000 in
theorem bX10_worth_0 {p : Program} {l : Launch} {e : Env} {s : State} {m : MethodId} {args : Array Value} {below : List Frame} {meth : Method} {c : Code} {D : DD} {A : Nat → Prop} {s0 : State} {ad : AD} {Q : Int32 → CV → Prop} {a0 : Nat} {V : CV} {H : Heap} {locs : List Loc} {ls : Array Slot} (F : FX p l c cX10_worth s args m RX10 D A s0 1 meth (some .int)) (hB : cB D A ad V H) (hS : va_S A s.heap H locs) (hw : wX10_worth a0 V Q) (hl : lv_has ls 1 [(0, .ref a0)]) : W p l e rX10_worth s m args below meth c H locs 0 0 (MQ below (va_Qi Q (fun u t => cB D A ad u t.heap) A) args s 0 0 A) (F0 m 0 ls []) := by
  have hx := F.1.x
  have hb := F.1.b
  unfold wX10_worth at hw
  refine lv_iconst (v := 2) hx hb dX10_worth_0 (by decide) ?_
  refine lv_aload_n hx hb dX10_worth_1 rfl (lv_at hl 0 rfl) ?_
  obtain ⟨c2, b3, hk4, hm5, hw⟩ := hw
  refine kX10_X8_worth F hB hS hk4 hm5 hw ⟨Nat.le_of_ble_eq_true rfl, Nat.le_of_ble_eq_true rfl⟩ ⟨Nat.zero_le _, Nat.zero_le _⟩ hl.1 (Nat.le_of_ble_eq_true rfl) dX10_worth_2 (fun r1 V6 H locs hw hB hS => ?_)
  refine lv_imul hx hb dX10_worth_5 ?_
  exact W.iret hx hb F.1.r (fun t ht hW => ⟨⟨_, _, rfl, hw, x_B (Bw := cB D A ad) ht hB⟩, hS.F ht⟩) hS.2.2 dX10_worth_6 (hlocks := F.1.k)
set_option maxHeartbeats 4000000 in
theorem mX10_worth {l : Launch} {D : DD} {A : Nat → Prop} {s0 : State} {ad : AD} {V : CV} {a0 : Nat} {Q : Int32 → CV → Prop} (hw : wX10_worth a0 V Q) : Met l yX10_worth (ws_ yX10_worth cX10_worth 1 (some .int)) rX10_worth (va_Pc [.ref a0] (fun U => cB D A ad V U.heap ∧ CX l D A s0 U)) (va_Qi Q (fun u t => cB D A ad u t.heap) A) 0 0 A := by
  refine Met.ofW (cc := cX10_worth) (maxL := 1) (ret := some .int) (by decide) rfl ?_
  intro p e s m args below meth c s₁ B hml hv
  obtain ⟨rfl, hB, hC⟩ := hv
  have F : FX p l c cX10_worth s _ m RX10 D A s0 1 meth (some .int) := ⟨mk_FP B hml rfl, hC⟩
  have hS : va_S A s.heap s.heap [] := va_S.rf
  have hl := lv_entry ([.ref a0]) (n := 1) (Nat.le_of_ble_eq_true rfl)
  rw [lg_entry_eq]
  generalize (lg_sl ([.ref a0]) ++ List.replicate (1 - (lg_sl ([.ref a0])).length) Slot.unset).toArray = ls at hl ⊢
  exact bX10_worth_0 F hB hS hw hl
def rX11_init : Room := { frames := 3, cells := 0, slots := 0, locals := 80 }
set_option maxHeartbeats 4000000 in
theorem bX11_init_0 {p : Program} {l : Launch} {e : Env} {s : State} {m : MethodId} {args : Array Value} {below : List Frame} {meth : Method} {c : Code} {D : DD} {A : Nat → Prop} {s0 : State} {ad : AD} {Q : CV → Prop} {a0 : Nat} {V : CV} {H : Heap} {locs : List Loc} {ls : Array Slot} (F : FX p l c cX11_init s args m RX11 D A s0 1 meth (none)) (hin : meth.name = "<init>") (hB : cB D A ad V H) (hS : va_S A s.heap H locs) (hw : wX11_init a0 V Q) (hl : lv_has ls 1 [(0, .ref a0)]) : W p l e rX11_init s m args below meth c H locs 0 0 (MQ below (va_Qv Q (fun u t => cB D A ad u t.heap) A) args s 0 0 A) (F0 m 0 ls []) := by
  have hx := F.1.x
  have hb := F.1.b
  unfold wX11_init at hw
  refine lv_aload_n hx hb dX11_init_0 rfl (lv_at hl 0 rfl) ?_
  refine kX11_X9_init F hB hS hw ⟨Nat.le_of_ble_eq_true rfl, Nat.le_of_ble_eq_true rfl⟩ ⟨Nat.zero_le _, Nat.zero_le _⟩ hl.1 (Nat.le_of_ble_eq_true rfl) dX11_init_1 (fun V2 H locs hw hB hS => ?_)
  exact W.vret hx hb F.1.r (fun t ht hW => ⟨⟨_, rfl, hw, x_B (Bw := cB D A ad) ht hB⟩, hS.F ht⟩) hS.2.2 dX11_init_4 (hlocks := F.1.k)
set_option maxHeartbeats 4000000 in
theorem mX11_init {l : Launch} {D : DD} {A : Nat → Prop} {s0 : State} {ad : AD} {V : CV} {a0 : Nat} {Q : CV → Prop} (hw : wX11_init a0 V Q) : Met l yX11_init (ws_ yX11_init cX11_init 1 (none)) rX11_init (va_Pc [.ref a0] (fun U => cB D A ad V U.heap ∧ CX l D A s0 U)) (va_Qv Q (fun u t => cB D A ad u t.heap) A) 0 0 A := by
  refine Met.ofW (cc := cX11_init) (maxL := 1) (ret := none) (by decide) rfl ?_
  intro p e s m args below meth c s₁ B hml hv
  obtain ⟨rfl, hB, hC⟩ := hv
  have F : FX p l c cX11_init s _ m RX11 D A s0 1 meth (none) := ⟨mk_FP B hml rfl, hC⟩
  have hS : va_S A s.heap s.heap [] := va_S.rf
  have hin : meth.name = "<init>" := (name_of_methodNamed B.named B.method).1
  have hl := lv_entry ([.ref a0]) (n := 1) (Nat.le_of_ble_eq_true rfl)
  rw [lg_entry_eq]
  generalize (lg_sl ([.ref a0]) ++ List.replicate (1 - (lg_sl ([.ref a0])).length) Slot.unset).toArray = ls at hl ⊢
  exact bX11_init_0 F hin hB hS hw hl
theorem kX11_X11_init {p : Program} {l : Launch} {e : Env} {R : Room} {s : State} {m : MethodId} {args : Array Value} {below : List Frame} {meth : Method} {c : Code} {H : Heap} {locs : List Loc} {cells slots : Nat} {Q0 : State → Prop} {cc : ByteArray} {pc nL : Nat} {ls : Array Slot} {rest : List Value} {ret : Option FieldType} {D : DD} {A : Nat → Prop} {s0 : State} {ad : AD} {V : CV} {a0 : Nat} {Q : CV → Prop} (F : FX p l c cc s args m RX11 D A s0 nL meth ret) (hB : cB D A ad V H) (hS : va_S A s.heap H locs) (hw : wX11_init a0 V Q) (hR : rX11_init.frames + 1 ≤ R.frames ∧ 8 + (1 + 11) + rX11_init.locals ≤ R.locals) (hc : cells + 0 ≤ R.cells ∧ slots + 0 ≤ R.slots) (hsz : ls.size = nL) (hW : (rest.map fun v => v.category).sum ≤ 8) (hdg : decode cc pc = .ok (.invokespecial 26, 3)) (kk : ∀ (u : CV) (H1 : Heap) (locs1 : List Loc), Q u → cB D A ad u H1 → va_S A s.heap H1 locs1 → W p l e R s m args below meth c H1 locs1 cells slots Q0 (F0 m (pc + 3) ls (rest))) : W p l e R s m args below meth c H locs cells slots Q0 (F0 m pc ls (.ref a0 :: rest)) :=
  k_v (Bw := cB D A ad) (k_runI (Bw := cB D A ad) (n := 0) (As := []) F hB hS (mX11_init hw) q1098 q622 q97 q623 rfl (by decide +kernel) hR ⟨rfl, rfl⟩ hc rfl hsz rfl hW hdg) hS kk
theorem kX0_X11_init {p : Program} {l : Launch} {e : Env} {R : Room} {s : State} {m : MethodId} {args : Array Value} {below : List Frame} {meth : Method} {c : Code} {H : Heap} {locs : List Loc} {cells slots : Nat} {Q0 : State → Prop} {cc : ByteArray} {pc nL : Nat} {ls : Array Slot} {rest : List Value} {ret : Option FieldType} {D : DD} {A : Nat → Prop} {s0 : State} {ad : AD} {V : CV} {a0 : Nat} {Q : CV → Prop} (F : FX p l c cc s args m RX0 D A s0 nL meth ret) (hB : cB D A ad V H) (hS : va_S A s.heap H locs) (hw : wX11_init a0 V Q) (hR : rX11_init.frames + 1 ≤ R.frames ∧ 8 + (1 + 11) + rX11_init.locals ≤ R.locals) (hc : cells + 0 ≤ R.cells ∧ slots + 0 ≤ R.slots) (hsz : ls.size = nL) (hW : (rest.map fun v => v.category).sum ≤ 8) (hdg : decode cc pc = .ok (.invokespecial 27, 3)) (kk : ∀ (u : CV) (H1 : Heap) (locs1 : List Loc), Q u → cB D A ad u H1 → va_S A s.heap H1 locs1 → W p l e R s m args below meth c H1 locs1 cells slots Q0 (F0 m (pc + 3) ls (rest))) : W p l e R s m args below meth c H locs cells slots Q0 (F0 m pc ls (.ref a0 :: rest)) :=
  k_v (Bw := cB D A ad) (k_runIN (Bw := cB D A ad) (n := 0) (As := []) F hB hS (mX11_init hw) q621 q622 q97 q623 rfl (by decide +kernel) hR ⟨rfl, rfl⟩ hc rfl hsz rfl hW hdg) hS kk
def rX11_another : Room := { frames := 4, cells := 1, slots := 1, locals := 100 }
set_option maxHeartbeats 4000000 in
theorem bX11_another_0 {p : Program} {l : Launch} {e : Env} {s : State} {m : MethodId} {args : Array Value} {below : List Frame} {meth : Method} {c : Code} {D : DD} {A : Nat → Prop} {s0 : State} {ad : AD} {Q : Nat → CV → Prop} {a0 : Nat} {V : CV} {H : Heap} {locs : List Loc} {ls : Array Slot} (F : FX p l c cX11_another s args m RX11 D A s0 1 meth (some (.object "NeverSaid$Speaker"))) (hB : cB D A ad V H) (hS : va_S A s.heap H locs) (hw : wX11_another a0 V Q) (hl : lv_has ls 1 [(0, .ref a0)]) : W p l e rX11_another s m args below meth c H locs 0 0 (MQ below (xa_Qn Q (fun u t => cB D A ad u t.heap) A) args s 1 1 A) (F0 m 0 ls []) := by
  have hx := F.1.x
  have hb := F.1.b
  unfold wX11_another at hw
  refine nX11_14 F hB hS (by show 0 + 1 ≤ 1; omega) (by show 0 + 1 ≤ 1; omega) dX11_another_0 (fun q1 H hq2 hB hS => ?_)
  replace hw := hw q1 hq2
  refine lv_dup hx hb dX11_another_3 rfl ?_
  refine kX11_X11_init F hB hS hw ⟨Nat.le_of_ble_eq_true rfl, Nat.le_of_ble_eq_true rfl⟩ ⟨by show _ ≤ 1; omega, by show _ ≤ 1; omega⟩ hl.1 (Nat.le_of_ble_eq_true rfl) dX11_another_4 (fun V4 H locs hw hB hS => ?_)
  exact W.aret hx hb F.1.r (Or.inl ⟨_, rfl⟩) (Or.inr ⟨_, rfl⟩) (fun t ht hW => xa_mk hw (x_B (Bw := cB D A ad) ht hB) (hS.F ht)) hS.2.2 dX11_another_7 (hlocks := F.1.k)
set_option maxHeartbeats 4000000 in
theorem mX11_another {l : Launch} {D : DD} {A : Nat → Prop} {s0 : State} {ad : AD} {V : CV} {a0 : Nat} {Q : Nat → CV → Prop} (hw : wX11_another a0 V Q) : Met l yX11_another (ws_ yX11_another cX11_another 1 (some (.object "NeverSaid$Speaker"))) rX11_another (va_Pc [.ref a0] (fun U => cB D A ad V U.heap ∧ CX l D A s0 U)) (xa_Qn Q (fun u t => cB D A ad u t.heap) A) 1 1 A := by
  refine Met.ofW (cc := cX11_another) (maxL := 1) (ret := some (.object "NeverSaid$Speaker")) (by decide) rfl ?_
  intro p e s m args below meth c s₁ B hml hv
  obtain ⟨rfl, hB, hC⟩ := hv
  have F : FX p l c cX11_another s _ m RX11 D A s0 1 meth (some (.object "NeverSaid$Speaker")) := ⟨mk_FP B hml rfl, hC⟩
  have hS : va_S A s.heap s.heap [] := va_S.rf
  have hl := lv_entry ([.ref a0]) (n := 1) (Nat.le_of_ble_eq_true rfl)
  rw [lg_entry_eq]
  generalize (lg_sl ([.ref a0]) ++ List.replicate (1 - (lg_sl ([.ref a0])).length) Slot.unset).toArray = ls at hl ⊢
  exact bX11_another_0 F hB hS hw hl
def rX11_kind : Room := { frames := 1, cells := 0, slots := 0, locals := 20 }
set_option maxHeartbeats 4000000 in
theorem bX11_kind_0 {p : Program} {l : Launch} {e : Env} {s : State} {m : MethodId} {args : Array Value} {below : List Frame} {meth : Method} {c : Code} {D : DD} {A : Nat → Prop} {s0 : State} {ad : AD} {Q : Int32 → CV → Prop} {a0 : Nat} {V : CV} {H : Heap} {locs : List Loc} {ls : Array Slot} (F : FX p l c cX11_kind s args m RX11 D A s0 1 meth (some .int)) (hB : cB D A ad V H) (hS : va_S A s.heap H locs) (hw : wX11_kind a0 V Q) (hl : lv_has ls 1 [(0, .ref a0)]) : W p l e rX11_kind s m args below meth c H locs 0 0 (MQ below (va_Qi Q (fun u t => cB D A ad u t.heap) A) args s 0 0 A) (F0 m 0 ls []) := by
  have hx := F.1.x
  have hb := F.1.b
  unfold wX11_kind at hw
  refine lv_aload_n hx hb dX11_kind_0 rfl (lv_at hl 0 rfl) ?_
  obtain ⟨c2, b3, hk4, hm5, hw⟩ := hw
  refine kX11_X9_kind F hB hS hk4 hm5 hw ⟨Nat.le_of_ble_eq_true rfl, Nat.le_of_ble_eq_true rfl⟩ ⟨Nat.zero_le _, Nat.zero_le _⟩ hl.1 (Nat.le_of_ble_eq_true rfl) dX11_kind_1 (fun r1 V6 H locs hw hB hS => ?_)
  refine lv_iconst (v := 2) hx hb dX11_kind_4 (by decide) ?_
  refine lv_iadd hx hb dX11_kind_5 ?_
  exact W.iret hx hb F.1.r (fun t ht hW => ⟨⟨_, _, rfl, hw, x_B (Bw := cB D A ad) ht hB⟩, hS.F ht⟩) hS.2.2 dX11_kind_6 (hlocks := F.1.k)
set_option maxHeartbeats 4000000 in
theorem mX11_kind {l : Launch} {D : DD} {A : Nat → Prop} {s0 : State} {ad : AD} {V : CV} {a0 : Nat} {Q : Int32 → CV → Prop} (hw : wX11_kind a0 V Q) : Met l yX11_kind (ws_ yX11_kind cX11_kind 1 (some .int)) rX11_kind (va_Pc [.ref a0] (fun U => cB D A ad V U.heap ∧ CX l D A s0 U)) (va_Qi Q (fun u t => cB D A ad u t.heap) A) 0 0 A := by
  refine Met.ofW (cc := cX11_kind) (maxL := 1) (ret := some .int) (by decide) rfl ?_
  intro p e s m args below meth c s₁ B hml hv
  obtain ⟨rfl, hB, hC⟩ := hv
  have F : FX p l c cX11_kind s _ m RX11 D A s0 1 meth (some .int) := ⟨mk_FP B hml rfl, hC⟩
  have hS : va_S A s.heap s.heap [] := va_S.rf
  have hl := lv_entry ([.ref a0]) (n := 1) (Nat.le_of_ble_eq_true rfl)
  rw [lg_entry_eq]
  generalize (lg_sl ([.ref a0]) ++ List.replicate (1 - (lg_sl ([.ref a0])).length) Slot.unset).toArray = ls at hl ⊢
  exact bX11_kind_0 F hB hS hw hl
def rX11_worth : Room := { frames := 2, cells := 0, slots := 0, locals := 40 }
set_option maxHeartbeats 4000000 in
theorem bX11_worth_0 {p : Program} {l : Launch} {e : Env} {s : State} {m : MethodId} {args : Array Value} {below : List Frame} {meth : Method} {c : Code} {D : DD} {A : Nat → Prop} {s0 : State} {ad : AD} {Q : Int32 → CV → Prop} {a0 : Nat} {V : CV} {H : Heap} {locs : List Loc} {ls : Array Slot} (F : FX p l c cX11_worth s args m RX11 D A s0 1 meth (some .int)) (hB : cB D A ad V H) (hS : va_S A s.heap H locs) (hw : wX11_worth a0 V Q) (hl : lv_has ls 1 [(0, .ref a0)]) : W p l e rX11_worth s m args below meth c H locs 0 0 (MQ below (va_Qi Q (fun u t => cB D A ad u t.heap) A) args s 0 0 A) (F0 m 0 ls []) := by
  have hx := F.1.x
  have hb := F.1.b
  unfold wX11_worth at hw
  refine lv_aload_n hx hb dX11_worth_0 rfl (lv_at hl 0 rfl) ?_
  obtain ⟨c2, b3, hk4, hm5, hw⟩ := hw
  refine kX11_X9_worth F hB hS hk4 hm5 hw ⟨Nat.le_of_ble_eq_true rfl, Nat.le_of_ble_eq_true rfl⟩ ⟨Nat.zero_le _, Nat.zero_le _⟩ hl.1 (Nat.le_of_ble_eq_true rfl) dX11_worth_1 (fun r1 V6 H locs hw hB hS => ?_)
  refine lv_bipush (v := 7) hx hb dX11_worth_4 (by decide) ?_
  refine lv_isub hx hb dX11_worth_6 ?_
  exact W.iret hx hb F.1.r (fun t ht hW => ⟨⟨_, _, rfl, hw, x_B (Bw := cB D A ad) ht hB⟩, hS.F ht⟩) hS.2.2 dX11_worth_7 (hlocks := F.1.k)
set_option maxHeartbeats 4000000 in
theorem mX11_worth {l : Launch} {D : DD} {A : Nat → Prop} {s0 : State} {ad : AD} {V : CV} {a0 : Nat} {Q : Int32 → CV → Prop} (hw : wX11_worth a0 V Q) : Met l yX11_worth (ws_ yX11_worth cX11_worth 1 (some .int)) rX11_worth (va_Pc [.ref a0] (fun U => cB D A ad V U.heap ∧ CX l D A s0 U)) (va_Qi Q (fun u t => cB D A ad u t.heap) A) 0 0 A := by
  refine Met.ofW (cc := cX11_worth) (maxL := 1) (ret := some .int) (by decide) rfl ?_
  intro p e s m args below meth c s₁ B hml hv
  obtain ⟨rfl, hB, hC⟩ := hv
  have F : FX p l c cX11_worth s _ m RX11 D A s0 1 meth (some .int) := ⟨mk_FP B hml rfl, hC⟩
  have hS : va_S A s.heap s.heap [] := va_S.rf
  have hl := lv_entry ([.ref a0]) (n := 1) (Nat.le_of_ble_eq_true rfl)
  rw [lg_entry_eq]
  generalize (lg_sl ([.ref a0]) ++ List.replicate (1 - (lg_sl ([.ref a0])).length) Slot.unset).toArray = ls at hl ⊢
  exact bX11_worth_0 F hB hS hw hl
def rX12_init : Room := { frames := 2, cells := 0, slots := 0, locals := 60 }
set_option maxHeartbeats 4000000 in
theorem bX12_init_0 {p : Program} {l : Launch} {e : Env} {s : State} {m : MethodId} {args : Array Value} {below : List Frame} {meth : Method} {c : Code} {D : DD} {A : Nat → Prop} {s0 : State} {ad : AD} {Q : CV → Prop} {a0 : Nat} {V : CV} {H : Heap} {locs : List Loc} {ls : Array Slot} (F : FX p l c cX12_init s args m RX12 D A s0 1 meth (none)) (hin : meth.name = "<init>") (hB : cB D A ad V H) (hS : va_S A s.heap H locs) (hw : wX12_init a0 V Q) (hl : lv_has ls 1 [(0, .ref a0)]) : W p l e rX12_init s m args below meth c H locs 0 0 (MQ below (va_Qv Q (fun u t => cB D A ad u t.heap) A) args s 0 0 A) (F0 m 0 ls []) := by
  have hx := F.1.x
  have hb := F.1.b
  unfold wX12_init at hw
  refine lv_aload_n hx hb dX12_init_0 rfl (lv_at hl 0 rfl) ?_
  refine kX12_X7_init F hB hS hw ⟨Nat.le_of_ble_eq_true rfl, Nat.le_of_ble_eq_true rfl⟩ ⟨Nat.zero_le _, Nat.zero_le _⟩ hl.1 (Nat.le_of_ble_eq_true rfl) dX12_init_1 (fun V2 H locs hw hB hS => ?_)
  exact W.vret hx hb F.1.r (fun t ht hW => ⟨⟨_, rfl, hw, x_B (Bw := cB D A ad) ht hB⟩, hS.F ht⟩) hS.2.2 dX12_init_4 (hlocks := F.1.k)
set_option maxHeartbeats 4000000 in
theorem mX12_init {l : Launch} {D : DD} {A : Nat → Prop} {s0 : State} {ad : AD} {V : CV} {a0 : Nat} {Q : CV → Prop} (hw : wX12_init a0 V Q) : Met l yX12_init (ws_ yX12_init cX12_init 1 (none)) rX12_init (va_Pc [.ref a0] (fun U => cB D A ad V U.heap ∧ CX l D A s0 U)) (va_Qv Q (fun u t => cB D A ad u t.heap) A) 0 0 A := by
  refine Met.ofW (cc := cX12_init) (maxL := 1) (ret := none) (by decide) rfl ?_
  intro p e s m args below meth c s₁ B hml hv
  obtain ⟨rfl, hB, hC⟩ := hv
  have F : FX p l c cX12_init s _ m RX12 D A s0 1 meth (none) := ⟨mk_FP B hml rfl, hC⟩
  have hS : va_S A s.heap s.heap [] := va_S.rf
  have hin : meth.name = "<init>" := (name_of_methodNamed B.named B.method).1
  have hl := lv_entry ([.ref a0]) (n := 1) (Nat.le_of_ble_eq_true rfl)
  rw [lg_entry_eq]
  generalize (lg_sl ([.ref a0]) ++ List.replicate (1 - (lg_sl ([.ref a0])).length) Slot.unset).toArray = ls at hl ⊢
  exact bX12_init_0 F hin hB hS hw hl
theorem kX12_X12_init {p : Program} {l : Launch} {e : Env} {R : Room} {s : State} {m : MethodId} {args : Array Value} {below : List Frame} {meth : Method} {c : Code} {H : Heap} {locs : List Loc} {cells slots : Nat} {Q0 : State → Prop} {cc : ByteArray} {pc nL : Nat} {ls : Array Slot} {rest : List Value} {ret : Option FieldType} {D : DD} {A : Nat → Prop} {s0 : State} {ad : AD} {V : CV} {a0 : Nat} {Q : CV → Prop} (F : FX p l c cc s args m RX12 D A s0 nL meth ret) (hB : cB D A ad V H) (hS : va_S A s.heap H locs) (hw : wX12_init a0 V Q) (hR : rX12_init.frames + 1 ≤ R.frames ∧ 8 + (1 + 11) + rX12_init.locals ≤ R.locals) (hc : cells + 0 ≤ R.cells ∧ slots + 0 ≤ R.slots) (hsz : ls.size = nL) (hW : (rest.map fun v => v.category).sum ≤ 8) (hdg : decode cc pc = .ok (.invokespecial 23, 3)) (kk : ∀ (u : CV) (H1 : Heap) (locs1 : List Loc), Q u → cB D A ad u H1 → va_S A s.heap H1 locs1 → W p l e R s m args below meth c H1 locs1 cells slots Q0 (F0 m (pc + 3) ls (rest))) : W p l e R s m args below meth c H locs cells slots Q0 (F0 m pc ls (.ref a0 :: rest)) :=
  k_v (Bw := cB D A ad) (k_runI (Bw := cB D A ad) (n := 0) (As := []) F hB hS (mX12_init hw) q1108 q630 q98 q631 rfl (by decide +kernel) hR ⟨rfl, rfl⟩ hc rfl hsz rfl hW hdg) hS kk
theorem kX0_X12_init {p : Program} {l : Launch} {e : Env} {R : Room} {s : State} {m : MethodId} {args : Array Value} {below : List Frame} {meth : Method} {c : Code} {H : Heap} {locs : List Loc} {cells slots : Nat} {Q0 : State → Prop} {cc : ByteArray} {pc nL : Nat} {ls : Array Slot} {rest : List Value} {ret : Option FieldType} {D : DD} {A : Nat → Prop} {s0 : State} {ad : AD} {V : CV} {a0 : Nat} {Q : CV → Prop} (F : FX p l c cc s args m RX0 D A s0 nL meth ret) (hB : cB D A ad V H) (hS : va_S A s.heap H locs) (hw : wX12_init a0 V Q) (hR : rX12_init.frames + 1 ≤ R.frames ∧ 8 + (1 + 11) + rX12_init.locals ≤ R.locals) (hc : cells + 0 ≤ R.cells ∧ slots + 0 ≤ R.slots) (hsz : ls.size = nL) (hW : (rest.map fun v => v.category).sum ≤ 8) (hdg : decode cc pc = .ok (.invokespecial 30, 3)) (kk : ∀ (u : CV) (H1 : Heap) (locs1 : List Loc), Q u → cB D A ad u H1 → va_S A s.heap H1 locs1 → W p l e R s m args below meth c H1 locs1 cells slots Q0 (F0 m (pc + 3) ls (rest))) : W p l e R s m args below meth c H locs cells slots Q0 (F0 m pc ls (.ref a0 :: rest)) :=
  k_v (Bw := cB D A ad) (k_runIN (Bw := cB D A ad) (n := 0) (As := []) F hB hS (mX12_init hw) q629 q630 q98 q631 rfl (by decide +kernel) hR ⟨rfl, rfl⟩ hc rfl hsz rfl hW hdg) hS kk
def rX12_another : Room := { frames := 3, cells := 1, slots := 1, locals := 80 }
set_option maxHeartbeats 4000000 in
theorem bX12_another_0 {p : Program} {l : Launch} {e : Env} {s : State} {m : MethodId} {args : Array Value} {below : List Frame} {meth : Method} {c : Code} {D : DD} {A : Nat → Prop} {s0 : State} {ad : AD} {Q : Nat → CV → Prop} {a0 : Nat} {V : CV} {H : Heap} {locs : List Loc} {ls : Array Slot} (F : FX p l c cX12_another s args m RX12 D A s0 1 meth (some (.object "NeverSaid$Speaker"))) (hB : cB D A ad V H) (hS : va_S A s.heap H locs) (hw : wX12_another a0 V Q) (hl : lv_has ls 1 [(0, .ref a0)]) : W p l e rX12_another s m args below meth c H locs 0 0 (MQ below (xa_Qn Q (fun u t => cB D A ad u t.heap) A) args s 1 1 A) (F0 m 0 ls []) := by
  have hx := F.1.x
  have hb := F.1.b
  unfold wX12_another at hw
  refine nX12_10 F hB hS (by show 0 + 1 ≤ 1; omega) (by show 0 + 1 ≤ 1; omega) dX12_another_0 (fun q1 H hq2 hB hS => ?_)
  replace hw := hw q1 hq2
  refine lv_dup hx hb dX12_another_3 rfl ?_
  refine kX12_X12_init F hB hS hw ⟨Nat.le_of_ble_eq_true rfl, Nat.le_of_ble_eq_true rfl⟩ ⟨by show _ ≤ 1; omega, by show _ ≤ 1; omega⟩ hl.1 (Nat.le_of_ble_eq_true rfl) dX12_another_4 (fun V4 H locs hw hB hS => ?_)
  exact W.aret hx hb F.1.r (Or.inl ⟨_, rfl⟩) (Or.inr ⟨_, rfl⟩) (fun t ht hW => xa_mk hw (x_B (Bw := cB D A ad) ht hB) (hS.F ht)) hS.2.2 dX12_another_7 (hlocks := F.1.k)
set_option maxHeartbeats 4000000 in
theorem mX12_another {l : Launch} {D : DD} {A : Nat → Prop} {s0 : State} {ad : AD} {V : CV} {a0 : Nat} {Q : Nat → CV → Prop} (hw : wX12_another a0 V Q) : Met l yX12_another (ws_ yX12_another cX12_another 1 (some (.object "NeverSaid$Speaker"))) rX12_another (va_Pc [.ref a0] (fun U => cB D A ad V U.heap ∧ CX l D A s0 U)) (xa_Qn Q (fun u t => cB D A ad u t.heap) A) 1 1 A := by
  refine Met.ofW (cc := cX12_another) (maxL := 1) (ret := some (.object "NeverSaid$Speaker")) (by decide) rfl ?_
  intro p e s m args below meth c s₁ B hml hv
  obtain ⟨rfl, hB, hC⟩ := hv
  have F : FX p l c cX12_another s _ m RX12 D A s0 1 meth (some (.object "NeverSaid$Speaker")) := ⟨mk_FP B hml rfl, hC⟩
  have hS : va_S A s.heap s.heap [] := va_S.rf
  have hl := lv_entry ([.ref a0]) (n := 1) (Nat.le_of_ble_eq_true rfl)
  rw [lg_entry_eq]
  generalize (lg_sl ([.ref a0]) ++ List.replicate (1 - (lg_sl ([.ref a0])).length) Slot.unset).toArray = ls at hl ⊢
  exact bX12_another_0 F hB hS hw hl
def rX12_kind : Room := { frames := 0, cells := 0, slots := 0, locals := 0 }
set_option maxHeartbeats 4000000 in
theorem bX12_kind_0 {p : Program} {l : Launch} {e : Env} {s : State} {m : MethodId} {args : Array Value} {below : List Frame} {meth : Method} {c : Code} {D : DD} {A : Nat → Prop} {s0 : State} {ad : AD} {Q : Int32 → CV → Prop} {a0 : Nat} {V : CV} {H : Heap} {locs : List Loc} {ls : Array Slot} (F : FX p l c cX12_kind s args m RX12 D A s0 1 meth (some .int)) (hB : cB D A ad V H) (hS : va_S A s.heap H locs) (hw : wX12_kind a0 V Q) (hl : lv_has ls 1 [(0, .ref a0)]) : W p l e rX12_kind s m args below meth c H locs 0 0 (MQ below (va_Qi Q (fun u t => cB D A ad u t.heap) A) args s 0 0 A) (F0 m 0 ls []) := by
  have hx := F.1.x
  have hb := F.1.b
  unfold wX12_kind at hw
  refine lv_iconst (v := 5) hx hb dX12_kind_0 (by decide) ?_
  exact W.iret hx hb F.1.r (fun t ht hW => ⟨⟨_, _, rfl, hw, x_B (Bw := cB D A ad) ht hB⟩, hS.F ht⟩) hS.2.2 dX12_kind_1 (hlocks := F.1.k)
set_option maxHeartbeats 4000000 in
theorem mX12_kind {l : Launch} {D : DD} {A : Nat → Prop} {s0 : State} {ad : AD} {V : CV} {a0 : Nat} {Q : Int32 → CV → Prop} (hw : wX12_kind a0 V Q) : Met l yX12_kind (ws_ yX12_kind cX12_kind 1 (some .int)) rX12_kind (va_Pc [.ref a0] (fun U => cB D A ad V U.heap ∧ CX l D A s0 U)) (va_Qi Q (fun u t => cB D A ad u t.heap) A) 0 0 A := by
  refine Met.ofW (cc := cX12_kind) (maxL := 1) (ret := some .int) (by decide) rfl ?_
  intro p e s m args below meth c s₁ B hml hv
  obtain ⟨rfl, hB, hC⟩ := hv
  have F : FX p l c cX12_kind s _ m RX12 D A s0 1 meth (some .int) := ⟨mk_FP B hml rfl, hC⟩
  have hS : va_S A s.heap s.heap [] := va_S.rf
  have hl := lv_entry ([.ref a0]) (n := 1) (Nat.le_of_ble_eq_true rfl)
  rw [lg_entry_eq]
  generalize (lg_sl ([.ref a0]) ++ List.replicate (1 - (lg_sl ([.ref a0])).length) Slot.unset).toArray = ls at hl ⊢
  exact bX12_kind_0 F hB hS hw hl
def rX12_worth : Room := { frames := 1, cells := 0, slots := 0, locals := 20 }
set_option maxHeartbeats 4000000 in
theorem bX12_worth_0 {p : Program} {l : Launch} {e : Env} {s : State} {m : MethodId} {args : Array Value} {below : List Frame} {meth : Method} {c : Code} {D : DD} {A : Nat → Prop} {s0 : State} {ad : AD} {Q : Int32 → CV → Prop} {a0 : Nat} {V : CV} {H : Heap} {locs : List Loc} {ls : Array Slot} (F : FX p l c cX12_worth s args m RX12 D A s0 1 meth (some .int)) (hB : cB D A ad V H) (hS : va_S A s.heap H locs) (hw : wX12_worth a0 V Q) (hl : lv_has ls 1 [(0, .ref a0)]) : W p l e rX12_worth s m args below meth c H locs 0 0 (MQ below (va_Qi Q (fun u t => cB D A ad u t.heap) A) args s 0 0 A) (F0 m 0 ls []) := by
  have hx := F.1.x
  have hb := F.1.b
  unfold wX12_worth at hw
  refine lv_bipush (v := 10) hx hb dX12_worth_0 (by decide) ?_
  refine lv_aload_n hx hb dX12_worth_2 rfl (lv_at hl 0 rfl) ?_
  obtain ⟨c2, b3, hk4, hm5, hw⟩ := hw
  refine kX12_X7_worth F hB hS hk4 hm5 hw ⟨Nat.le_of_ble_eq_true rfl, Nat.le_of_ble_eq_true rfl⟩ ⟨Nat.zero_le _, Nat.zero_le _⟩ hl.1 (Nat.le_of_ble_eq_true rfl) dX12_worth_3 (fun r1 V6 H locs hw hB hS => ?_)
  refine lv_imul hx hb dX12_worth_6 ?_
  exact W.iret hx hb F.1.r (fun t ht hW => ⟨⟨_, _, rfl, hw, x_B (Bw := cB D A ad) ht hB⟩, hS.F ht⟩) hS.2.2 dX12_worth_7 (hlocks := F.1.k)
set_option maxHeartbeats 4000000 in
theorem mX12_worth {l : Launch} {D : DD} {A : Nat → Prop} {s0 : State} {ad : AD} {V : CV} {a0 : Nat} {Q : Int32 → CV → Prop} (hw : wX12_worth a0 V Q) : Met l yX12_worth (ws_ yX12_worth cX12_worth 1 (some .int)) rX12_worth (va_Pc [.ref a0] (fun U => cB D A ad V U.heap ∧ CX l D A s0 U)) (va_Qi Q (fun u t => cB D A ad u t.heap) A) 0 0 A := by
  refine Met.ofW (cc := cX12_worth) (maxL := 1) (ret := some .int) (by decide) rfl ?_
  intro p e s m args below meth c s₁ B hml hv
  obtain ⟨rfl, hB, hC⟩ := hv
  have F : FX p l c cX12_worth s _ m RX12 D A s0 1 meth (some .int) := ⟨mk_FP B hml rfl, hC⟩
  have hS : va_S A s.heap s.heap [] := va_S.rf
  have hl := lv_entry ([.ref a0]) (n := 1) (Nat.le_of_ble_eq_true rfl)
  rw [lg_entry_eq]
  generalize (lg_sl ([.ref a0]) ++ List.replicate (1 - (lg_sl ([.ref a0])).length) Slot.unset).toArray = ls at hl ⊢
  exact bX12_worth_0 F hB hS hw hl
def rX0_divisor (d : Nat) : Room := { frames := d, cells := 0, slots := 0, locals := 30 * d }
theorem kX0_X0_divisorB {p : Program} {l : Launch} {e : Env} {R rm : Room} {s : State} {m : MethodId} {args : Array Value} {below : List Frame} {meth : Method} {c : Code} {H : Heap} {locs : List Loc} {cells slots : Nat} {Q0 : State → Prop} {cc : ByteArray} {pc nL : Nat} {ls : Array Slot} {rest : List Value} {ret : Option FieldType} {a0 a2 : Int64} {Q : Int64 → Prop} (F : FP p c cc s args m RX0 nL meth ret) (hM : Met l yX0_divisor (ws_ yX0_divisor cX0_divisor 4 (some .long)) rm (va_Pc [.long a0, .long a2] (fun _ => True)) (vp_Sl Q) 0 0 (fun _ => False)) (hz : rm.cells = 0 ∧ rm.slots = 0) (hR : rm.frames + 1 ≤ R.frames ∧ 8 + (4 + 11) + rm.locals ≤ R.locals) (hc : cells ≤ R.cells ∧ slots ≤ R.slots) (hsz : ls.size = nL) (hW : (rest.map fun v => v.category).sum ≤ 8) (hdg : decode cc pc = .ok (.invokestatic 421, 3)) (kk : ∀ r : Int64, Q r → W p l e R s m args below meth c H locs cells slots Q0 (F0 m (pc + 3) ls (.long r :: rest))) : W p l e R s m args below meth c H locs cells slots Q0 (F0 m pc ls (.long a2 :: .long a0 :: rest)) :=
  k_csl (k_runP (n := 2) (As := [.long a0, .long a2]) F hM q978 q979 q83 q980 (by decide +kernel) hR hz hc rfl hsz rfl hW hdg) kk
set_option maxHeartbeats 4000000 in
theorem bX0_divisorB_0 {p : Program} {l : Launch} {e : Env} {s : State} {m : MethodId} {args : Array Value} {below : List Frame} {meth : Method} {c : Code} {Q : Int64 → Prop} {a0 : Int64} {a2 : Int64} {ls : Array Slot} (F : FP p c cX0_divisor s args m RX0 4 meth (some .long)) {P : Int64 → Int64 → (Int64 → Prop) → Prop} {d : Nat} (hP : ∀ (a0 a2 : Int64) (Q : Int64 → Prop), P a0 a2 Q → Met l yX0_divisor (ws_ yX0_divisor cX0_divisor 4 (some .long)) (rX0_divisor d) (va_Pc [.long a0, .long a2] (fun _ => True)) (vp_Sl Q) 0 0 (fun _ => False)) (hw : wX0_divisorB P a0 a2 Q) (hl : lv_has ls 4 [(0, .long a0), (2, .long a2)]) : W p l e (rX0_divisor (d + 1)) s m args below meth c s.heap [] 0 0 (MQ below (vp_Sl Q) args s 0 0 (fun _ => False)) (F0 m 0 ls []) := by
  have hx := F.x
  have hb := F.b
  unfold wX0_divisorB at hw
  refine lv_lload_n hx hb dX0_divisor_0 rfl (lv_at hl 1 rfl) ?_
  refine lv_lconst (v := 0) hx hb dX0_divisor_1 (by decide) ?_
  refine W.lcmp hx hb dX0_divisor_2 ?_
  refine lv_if_ne (tgt := 10) hx hb dX0_divisor_3 (by decide) (fun q => ?_) (fun q => ?_)
  · replace hw := hw.2 q
    refine lv_lload_n hx hb dX0_divisor_10 rfl (lv_at hl 1 rfl) ?_
    refine lv_lload_n hx hb dX0_divisor_11 rfl (lv_at hl 0 rfl) ?_
    refine lv_lload_n hx hb dX0_divisor_12 rfl (lv_at hl 1 rfl) ?_
    obtain ⟨hne, hw⟩ := hw
    refine lv_lrem hx hb dX0_divisor_13 hne ?_
    refine kX0_X0_divisorB F (hP _ _ _ hw) ⟨rfl, rfl⟩ ⟨by show _ + 1 ≤ _; simp only [rX0_divisor]; omega, by show _ + _ ≤ _; simp only [rX0_divisor]; omega⟩ ⟨Nat.zero_le _, Nat.zero_le _⟩ hl.1 (Nat.le_of_ble_eq_true rfl) dX0_divisor_14 (fun r1 hw => ?_)
    exact W.lret hx hb F.r (fun t ht hW => ⟨_, rfl, hw, ht⟩) (fun _ h => absurd h List.not_mem_nil) dX0_divisor_17 (hlocks := F.k)
  · replace hw := hw.1 q
    refine lv_lload_n hx hb dX0_divisor_6 rfl (lv_at hl 0 rfl) ?_
    refine lv_goto (tgt := 17) hx hb dX0_divisor_7 (by decide) ?_
    exact W.lret hx hb F.r (fun t ht hW => ⟨_, rfl, hw, ht⟩) (fun _ h => absurd h List.not_mem_nil) dX0_divisor_17 (hlocks := F.k)
set_option maxHeartbeats 4000000 in
theorem mX0_divisorB {l : Launch}  {P : Int64 → Int64 → (Int64 → Prop) → Prop} {d : Nat} (hP : ∀ (a0 a2 : Int64) (Q : Int64 → Prop), P a0 a2 Q → Met l yX0_divisor (ws_ yX0_divisor cX0_divisor 4 (some .long)) (rX0_divisor d) (va_Pc [.long a0, .long a2] (fun _ => True)) (vp_Sl Q) 0 0 (fun _ => False)) {a0 : Int64} {a2 : Int64} {Q : Int64 → Prop} (hw : wX0_divisorB P a0 a2 Q) : Met l yX0_divisor (ws_ yX0_divisor cX0_divisor 4 (some .long)) (rX0_divisor (d + 1)) (va_Pc [.long a0, .long a2] (fun _ => True)) (vp_Sl Q) 0 0 (fun _ => False) := by
  refine Met.ofW (cc := cX0_divisor) (maxL := 4) (ret := some .long) (by decide) rfl ?_
  intro p e s m args below meth c s₁ B hml hv
  obtain ⟨rfl, -⟩ := hv
  have F : FP p c cX0_divisor s _ m RX0 4 meth (some .long) := mk_FP B hml rfl
  have hl := lv_entry ([.long a0, .long a2]) (n := 4) (Nat.le_of_ble_eq_true rfl)
  rw [lg_entry_eq]
  generalize (lg_sl ([.long a0, .long a2]) ++ List.replicate (4 - (lg_sl ([.long a0, .long a2])).length) Slot.unset).toArray = ls at hl ⊢
  exact bX0_divisorB_0 F hP hw hl
theorem mX0_divisor {l : Launch} : ∀ (d : Nat), ∀ (a0 a2 : Int64) (Q : Int64 → Prop), wX0_divisor d a0 a2 Q → Met l yX0_divisor (ws_ yX0_divisor cX0_divisor 4 (some .long)) (rX0_divisor d) (va_Pc [.long a0, .long a2] (fun _ => True)) (vp_Sl Q) 0 0 (fun _ => False) := by
  intro d
  induction d with
  | zero => intro a0 a2 Q hw; exact hw.elim
  | succ d ih => intro a0 a2 Q hw; unfold wX0_divisor at hw; exact mX0_divisorB (P := fun a b Q => wX0_divisor d a b Q) (d := d) ih hw
def rX0_divisorC : Room := { frames := 64, cells := 0, slots := 0, locals := 1920 }
theorem mX0_divisorC {l : Launch} {a0 a2 : Int64} {Q : Int64 → Prop} (hw : wX0_divisorC a0 a2 Q) : Met l yX0_divisor (ws_ yX0_divisor cX0_divisor 4 (some .long)) rX0_divisorC (va_Pc [.long a0, .long a2] (fun _ => True)) (vp_Sl Q) 0 0 (fun _ => False) := mX0_divisor 64 _ _ _ hw
theorem kX0_X0_divisorC {p : Program} {l : Launch} {e : Env} {R : Room} {s : State} {m : MethodId} {args : Array Value} {below : List Frame} {meth : Method} {c : Code} {H : Heap} {locs : List Loc} {cells slots : Nat} {Q0 : State → Prop} {cc : ByteArray} {pc nL : Nat} {ls : Array Slot} {rest : List Value} {ret : Option FieldType} {a0 : Int64} {a2 : Int64} {Q : Int64 → Prop} (F : FP p c cc s args m RX0 nL meth ret) (hw : wX0_divisorC a0 a2 Q) (hR : rX0_divisorC.frames + 1 ≤ R.frames ∧ 8 + (4 + 11) + rX0_divisorC.locals ≤ R.locals) (hc : cells ≤ R.cells ∧ slots ≤ R.slots) (hsz : ls.size = nL) (hW : (rest.map fun v => v.category).sum ≤ 8) (hdg : decode cc pc = .ok (.invokestatic 421, 3)) (kk : ∀ r : Int64, Q r → W p l e R s m args below meth c H locs cells slots Q0 (F0 m (pc + 3) ls (.long r :: rest))) : W p l e R s m args below meth c H locs cells slots Q0 (F0 m pc ls (.long a2 :: .long a0 :: rest)) :=
  k_csl (k_runP (n := 2) (As := [.long a0, .long a2]) F (mX0_divisorC hw) q978 q979 q83 q980 (by decide +kernel) hR ⟨rfl, rfl⟩ hc rfl hsz rfl hW hdg) kk
