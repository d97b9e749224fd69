set_option maxRecDepth 100000
theorem x_dflt_X1 : ∀ j, j < 11 → defaultValue (tyX1 j) = vp_V [.int 0, .int 0, .int 0, .null, .null, .null, .null, .int 0, .null, .int 0, .null] j := by
  intro j hj
  match j, hj with
  | 0, _ => rfl
  | 1, _ => rfl
  | 2, _ => rfl
  | 3, _ => rfl
  | 4, _ => rfl
  | 5, _ => rfl
  | 6, _ => rfl
  | 7, _ => rfl
  | 8, _ => rfl
  | 9, _ => rfl
  | 10, _ => rfl
theorem x_dflt_X2 : ∀ j, j < 6 → defaultValue (tyX2 j) = vp_V [.int 0, .int 0, .int 0, .int 0, .int 0, .int 0] j := by
  intro j hj
  match j, hj with
  | 0, _ => rfl
  | 1, _ => rfl
  | 2, _ => rfl
  | 3, _ => rfl
  | 4, _ => rfl
  | 5, _ => rfl
theorem x_dflt_X4 : ∀ j, j < 1 → defaultValue (tyX4 j) = vp_V [.null] j := by
  intro j hj
  match j, hj with
  | 0, _ => rfl
theorem x_dflt_X5 : ∀ j, j < 1 → defaultValue (tyX5 j) = vp_V [.null] j := by
  intro j hj
  match j, hj with
  | 0, _ => rfl
def rX2c_init : Room := { frames := 1, cells := 0, slots := 0, locals := 40 }
set_option maxHeartbeats 4000000 in
theorem bX2c_init_0 {p : Program} {l : Launch} {e : Env} {s : State} {m : MethodId} {args : Array Value} {below : List Frame} {meth : Method} {c : Code} {D : DD} {A : Nat → Prop} {s0 : State} {Q : MW → Prop} {a0 : Nat} {Z : MW} {H : Heap} {locs : List Loc} {ls : Array Slot} (F : FX p l c cX2_init s args m RX2 D A s0 1 meth (none)) (hin : meth.name = "<init>") (hB : iB D A Z H) (hS : va_S A s.heap H locs) (hw : wX2c_init a0 Z Q) (hl : lv_has ls 1 [(0, .ref a0)]) : W p l e rX2c_init s m args below meth c H locs 0 0 (MQ below (va_Qv Q (fun u t => iB D A u t.heap) A) args s 0 0 A) (F0 m 0 ls []) := by
  have hx := F.1.x
  have hb := F.1.b
  unfold wX2c_init at hw
  refine lv_aload_n hx hb dX2_init_0 rfl (lv_at hl 0 rfl) ?_
  refine W.objInit hx hb F.1.o (F.1.t _ q135) (F.1.t _ q117) (F.1.t _ q118) rfl (by rw [F.1.ml]; exact hl.1) rfl dX2_init_1 (Nat.le_of_ble_eq_true rfl) (Nat.le_of_ble_eq_true rfl) ?_
  refine W.eq (g2 := F0 m 4 ls []) rfl ?_
  exact W.vret hx hb F.1.r (fun t ht hW => ⟨⟨_, rfl, hw, x_B (Bw := iB D A) ht hB⟩, hS.F ht⟩) hS.2.2 dX2_init_4 (hlocks := F.1.k)
set_option maxHeartbeats 4000000 in
theorem mX2c_init {l : Launch} {D : DD} {A : Nat → Prop} {s0 : State} {Z : MW} {a0 : Nat} {Q : MW → Prop} (hw : wX2c_init a0 Z Q) : Met l yX2_init (ws_ yX2_init cX2_init 1 (none)) rX2c_init (va_Pc [.ref a0] (fun U => iB D A Z U.heap ∧ CX l D A s0 U)) (va_Qv Q (fun u t => iB D A u t.heap) A) 0 0 A := by
  refine Met.ofW (cc := cX2_init) (maxL := 1) (ret := none) (by decide) rfl ?_
  intro p e s m args below meth c s₁ B hml hv
  obtain ⟨rfl, hB, hC⟩ := hv
  have F : FX p l c cX2_init s _ m RX2 D A s0 1 meth (none) := ⟨mk_FP B hml rfl, hC⟩
  have hS : va_S A s.heap s.heap [] := va_S.rf
  have hin : meth.name = "<init>" := (name_of_methodNamed B.named B.method).1
  have hl := lv_entry ([.ref a0]) (n := 1) (Nat.le_of_ble_eq_true rfl)
  rw [lg_entry_eq]
  generalize (lg_sl ([.ref a0]) ++ List.replicate (1 - (lg_sl ([.ref a0])).length) Slot.unset).toArray = ls at hl ⊢
  exact bX2c_init_0 F hin hB hS hw hl
theorem kX1_X2c_init {p : Program} {l : Launch} {e : Env} {R : Room} {s : State} {m : MethodId} {args : Array Value} {below : List Frame} {meth : Method} {c : Code} {H : Heap} {locs : List Loc} {cells slots : Nat} {Q0 : State → Prop} {cc : ByteArray} {pc nL : Nat} {ls : Array Slot} {rest : List Value} {ret : Option FieldType} {D : DD} {A : Nat → Prop} {s0 : State} {Z : MW} {a0 : Nat} {Q : MW → Prop} (F : FX p l c cc s args m RX1 D A s0 nL meth ret) (hB : iB D A Z H) (hS : va_S A s.heap H locs) (hw : wX2c_init a0 Z Q) (hR : rX2c_init.frames + 1 ≤ R.frames ∧ 8 + (1 + 11) + rX2c_init.locals ≤ R.locals) (hc : cells + 0 ≤ R.cells ∧ slots + 0 ≤ R.slots) (hsz : ls.size = nL) (hW : (rest.map fun v => v.category).sum ≤ 8) (hdg : decode cc pc = .ok (.invokespecial 46, 3)) (kk : ∀ (u : MW) (H1 : Heap) (locs1 : List Loc), Q u → iB D A u H1 → va_S A s.heap H1 locs1 → W p l e R s m args below meth c H1 locs1 cells slots Q0 (F0 m (pc + 3) ls rest)) : W p l e R s m args below meth c H locs cells slots Q0 (F0 m pc ls (.ref a0 :: rest)) :=
  k_v (Bw := iB D A) (k_runIN (Bw := iB D A) (n := 0) (As := []) F hB hS (mX2c_init hw) q132 q133 q85 q134 rfl (by decide +kernel) hR ⟨rfl, rfl⟩ hc rfl hsz rfl hW hdg) hS kk
def rX4c_init : Room := { frames := 1, cells := 0, slots := 0, locals := 40 }
set_option maxHeartbeats 4000000 in
theorem bX4c_init_0 {p : Program} {l : Launch} {e : Env} {s : State} {m : MethodId} {args : Array Value} {below : List Frame} {meth : Method} {c : Code} {D : DD} {A : Nat → Prop} {s0 : State} {Q : MW → Prop} {a0 : Nat} {Z : MW} {H : Heap} {locs : List Loc} {ls : Array Slot} (F : FX p l c cX4_init s args m RX4 D A s0 1 meth (none)) (hin : meth.name = "<init>") (hB : iB D A Z H) (hS : va_S A s.heap H locs) (hw : wX4c_init a0 Z Q) (hl : lv_has ls 1 [(0, .ref a0)]) : W p l e rX4c_init s m args below meth c H locs 0 0 (MQ below (va_Qv Q (fun u t => iB D A u t.heap) A) args s 0 0 A) (F0 m 0 ls []) := by
  have hx := F.1.x
  have hb := F.1.b
  unfold wX4c_init at hw
  refine lv_aload_n hx hb dX4_init_0 rfl (lv_at hl 0 rfl) ?_
  refine W.objInit hx hb F.1.o (F.1.t _ q281) (F.1.t _ q117) (F.1.t _ q118) rfl (by rw [F.1.ml]; exact hl.1) rfl dX4_init_1 (Nat.le_of_ble_eq_true rfl) (Nat.le_of_ble_eq_true rfl) ?_
  refine W.eq (g2 := F0 m 4 ls []) rfl ?_
  exact W.vret hx hb F.1.r (fun t ht hW => ⟨⟨_, rfl, hw, x_B (Bw := iB D A) ht hB⟩, hS.F ht⟩) hS.2.2 dX4_init_4 (hlocks := F.1.k)
set_option maxHeartbeats 4000000 in
theorem mX4c_init {l : Launch} {D : DD} {A : Nat → Prop} {s0 : State} {Z : MW} {a0 : Nat} {Q : MW → Prop} (hw : wX4c_init a0 Z Q) : Met l yX4_init (ws_ yX4_init cX4_init 1 (none)) rX4c_init (va_Pc [.ref a0] (fun U => iB D A Z U.heap ∧ CX l D A s0 U)) (va_Qv Q (fun u t => iB D A u t.heap) A) 0 0 A := by
  refine Met.ofW (cc := cX4_init) (maxL := 1) (ret := none) (by decide) rfl ?_
  intro p e s m args below meth c s₁ B hml hv
  obtain ⟨rfl, hB, hC⟩ := hv
  have F : FX p l c cX4_init s _ m RX4 D A s0 1 meth (none) := ⟨mk_FP B hml rfl, hC⟩
  have hS : va_S A s.heap s.heap [] := va_S.rf
  have hin : meth.name = "<init>" := (name_of_methodNamed B.named B.method).1
  have hl := lv_entry ([.ref a0]) (n := 1) (Nat.le_of_ble_eq_true rfl)
  rw [lg_entry_eq]
  generalize (lg_sl ([.ref a0]) ++ List.replicate (1 - (lg_sl ([.ref a0])).length) Slot.unset).toArray = ls at hl ⊢
  exact bX4c_init_0 F hin hB hS hw hl
theorem kX0_X4c_init {p : Program} {l : Launch} {e : Env} {R : Room} {s : State} {m : MethodId} {args : Array Value} {below : List Frame} {meth : Method} {c : Code} {H : Heap} {locs : List Loc} {cells slots : Nat} {Q0 : State → Prop} {cc : ByteArray} {pc nL : Nat} {ls : Array Slot} {rest : List Value} {ret : Option FieldType} {D : DD} {A : Nat → Prop} {s0 : State} {Z : MW} {a0 : Nat} {Q : MW → Prop} (F : FX p l c cc s args m RX0 D A s0 nL meth ret) (hB : iB D A Z H) (hS : va_S A s.heap H locs) (hw : wX4c_init a0 Z Q) (hR : rX4c_init.frames + 1 ≤ R.frames ∧ 8 + (1 + 11) + rX4c_init.locals ≤ R.locals) (hc : cells + 0 ≤ R.cells ∧ slots + 0 ≤ R.slots) (hsz : ls.size = nL) (hW : (rest.map fun v => v.category).sum ≤ 8) (hdg : decode cc pc = .ok (.invokespecial 79, 3)) (kk : ∀ (u : MW) (H1 : Heap) (locs1 : List Loc), Q u → iB D A u H1 → va_S A s.heap H1 locs1 → W p l e R s m args below meth c H1 locs1 cells slots Q0 (F0 m (pc + 3) ls rest)) : W p l e R s m args below meth c H locs cells slots Q0 (F0 m pc ls (.ref a0 :: rest)) :=
  k_v (Bw := iB D A) (k_runIN (Bw := iB D A) (n := 0) (As := []) F hB hS (mX4c_init hw) q278 q279 q90 q280 rfl (by decide +kernel) hR ⟨rfl, rfl⟩ hc rfl hsz rfl hW hdg) hS kk
def rX5c_init : Room := { frames := 1, cells := 0, slots := 0, locals := 40 }
set_option maxHeartbeats 4000000 in
theorem bX5c_init_0 {p : Program} {l : Launch} {e : Env} {s : State} {m : MethodId} {args : Array Value} {below : List Frame} {meth : Method} {c : Code} {D : DD} {A : Nat → Prop} {s0 : State} {Q : MW → Prop} {a0 : Nat} {Z : MW} {H : Heap} {locs : List Loc} {ls : Array Slot} (F : FX p l c cX5_init s args m RX5 D A s0 1 meth (none)) (hin : meth.name = "<init>") (hB : iB D A Z H) (hS : va_S A s.heap H locs) (hw : wX5c_init a0 Z Q) (hl : lv_has ls 1 [(0, .ref a0)]) : W p l e rX5c_init s m args below meth c H locs 0 0 (MQ below (va_Qv Q (fun u t => iB D A u t.heap) A) args s 0 0 A) (F0 m 0 ls []) := by
  have hx := F.1.x
  have hb := F.1.b
  unfold wX5c_init at hw
  refine lv_aload_n hx hb dX5_init_0 rfl (lv_at hl 0 rfl) ?_
  refine W.objInit hx hb F.1.o (F.1.t _ q293) (F.1.t _ q117) (F.1.t _ q118) rfl (by rw [F.1.ml]; exact hl.1) rfl dX5_init_1 (Nat.le_of_ble_eq_true rfl) (Nat.le_of_ble_eq_true rfl) ?_
  refine W.eq (g2 := F0 m 4 ls []) rfl ?_
  exact W.vret hx hb F.1.r (fun t ht hW => ⟨⟨_, rfl, hw, x_B (Bw := iB D A) ht hB⟩, hS.F ht⟩) hS.2.2 dX5_init_4 (hlocks := F.1.k)
set_option maxHeartbeats 4000000 in
theorem mX5c_init {l : Launch} {D : DD} {A : Nat → Prop} {s0 : State} {Z : MW} {a0 : Nat} {Q : MW → Prop} (hw : wX5c_init a0 Z Q) : Met l yX5_init (ws_ yX5_init cX5_init 1 (none)) rX5c_init (va_Pc [.ref a0] (fun U => iB D A Z U.heap ∧ CX l D A s0 U)) (va_Qv Q (fun u t => iB D A u t.heap) A) 0 0 A := by
  refine Met.ofW (cc := cX5_init) (maxL := 1) (ret := none) (by decide) rfl ?_
  intro p e s m args below meth c s₁ B hml hv
  obtain ⟨rfl, hB, hC⟩ := hv
  have F : FX p l c cX5_init s _ m RX5 D A s0 1 meth (none) := ⟨mk_FP B hml rfl, hC⟩
  have hS : va_S A s.heap s.heap [] := va_S.rf
  have hin : meth.name = "<init>" := (name_of_methodNamed B.named B.method).1
  have hl := lv_entry ([.ref a0]) (n := 1) (Nat.le_of_ble_eq_true rfl)
  rw [lg_entry_eq]
  generalize (lg_sl ([.ref a0]) ++ List.replicate (1 - (lg_sl ([.ref a0])).length) Slot.unset).toArray = ls at hl ⊢
  exact bX5c_init_0 F hin hB hS hw hl
theorem kX0_X5c_init {p : Program} {l : Launch} {e : Env} {R : Room} {s : State} {m : MethodId} {args : Array Value} {below : List Frame} {meth : Method} {c : Code} {H : Heap} {locs : List Loc} {cells slots : Nat} {Q0 : State → Prop} {cc : ByteArray} {pc nL : Nat} {ls : Array Slot} {rest : List Value} {ret : Option FieldType} {D : DD} {A : Nat → Prop} {s0 : State} {Z : MW} {a0 : Nat} {Q : MW → Prop} (F : FX p l c cc s args m RX0 D A s0 nL meth ret) (hB : iB D A Z H) (hS : va_S A s.heap H locs) (hw : wX5c_init a0 Z Q) (hR : rX5c_init.frames + 1 ≤ R.frames ∧ 8 + (1 + 11) + rX5c_init.locals ≤ R.locals) (hc : cells + 0 ≤ R.cells ∧ slots + 0 ≤ R.slots) (hsz : ls.size = nL) (hW : (rest.map fun v => v.category).sum ≤ 8) (hdg : decode cc pc = .ok (.invokespecial 86, 3)) (kk : ∀ (u : MW) (H1 : Heap) (locs1 : List Loc), Q u → iB D A u H1 → va_S A s.heap H1 locs1 → W p l e R s m args below meth c H1 locs1 cells slots Q0 (F0 m (pc + 3) ls rest)) : W p l e R s m args below meth c H locs cells slots Q0 (F0 m pc ls (.ref a0 :: rest)) :=
  k_v (Bw := iB D A) (k_runIN (Bw := iB D A) (n := 0) (As := []) F hB hS (mX5c_init hw) q290 q291 q91 q292 rfl (by decide +kernel) hR ⟨rfl, rfl⟩ hc rfl hsz rfl hW hdg) hS kk
def rX1c_init : Room := { frames := 2, cells := 15, slots := 124, locals := 60 }
set_option maxHeartbeats 4000000 in
theorem bX1c_init_67 {p : Program} {l : Launch} {e : Env} {s : State} {m : MethodId} {args : Array Value} {below : List Frame} {meth : Method} {c : Code} {D : DD} {A : Nat → Prop} {s0 : State} {Q : MW → Prop} (F : FX p l c cX1_init s args m RX1 D A s0 2 meth (none)) (hin : meth.name = "<init>") : ∀ (n : Nat) (l0 : Nat) (l1 : Int32) (Z : MW), ∀ (ce sl : Nat), ce + n * 1 ≤ 15 → sl + n * 6 ≤ 124 → wX1c_init_67 Q n l0 l1 Z → ∀ (H : Heap) (locs : List Loc) (ls : Array Slot), iB D A Z H → va_S A s.heap H locs → lv_has ls 2 [(0, .ref l0), (1, .int l1)] → W p l e rX1c_init s m args below meth c H locs ce sl (MQ below (va_Qv Q (fun u t => iB D A u t.heap) A) args s 15 124 A) (F0 m 67 ls []) := by
  have hx := F.1.x
  have hb := F.1.b
  intro n
  induction n with
  | zero => intro l0 l1 Z ce sl hce hsl hw; exact hw.elim
  | succ n ih =>
    intro l0 l1 Z ce sl hce hsl hw H locs ls hB hS hl
    unfold wX1c_init_67 at hw
    refine lv_iload_n hx hb dX1_init_67 rfl (lv_at hl 1 rfl) ?_
    refine lv_bipush (v := 8) hx hb dX1_init_68 (by decide) ?_
    refine lv_icmp_ge (tgt := 92) hx hb dX1_init_70 (by decide) (fun q => ?_) (fun q => ?_)
    · replace hw := hw.1 q
      refine W.widen (k := 15) (n := 124) (by omega) (by omega) ?_
      exact W.vret hx hb F.1.r (fun t ht hW => ⟨⟨_, rfl, hw, x_B (Bw := iB D A) ht hB⟩, hS.F ht⟩) hS.2.2 dX1_init_92 (hlocks := F.1.k)
    · replace hw := hw.2 q
      refine lv_aload_n hx hb dX1_init_73 rfl (lv_at hl 0 rfl) ?_
      obtain ⟨fs1, r2, hm3, hv4, hw⟩ := hw
      refine i_get F hB in_X1 hm3 rfl 8 (by decide) q178 rfl hv4 dX1_init_74 ?_
      refine lv_iload_n hx hb dX1_init_77 rfl (lv_at hl 1 rfl) ?_
      refine i_new F hB hS (ci := 2) (fs := [.int 0, .int 0, .int 0, .int 0, .int 0, .int 0]) in_X2 tyX2_ok q127 q131 q85 rfl (x_dflt_X2) (by show ce + 1 ≤ 15; omega) (by show sl + 6 ≤ 124; omega) dX1_init_78 (fun H hB hS => ?_)
      replace hw := hw _ rfl
      refine lv_dup hx hb dX1_init_81 rfl ?_
      refine kX1_X2c_init F hB hS hw ⟨Nat.le_of_ble_eq_true rfl, Nat.le_of_ble_eq_true rfl⟩ ⟨by show _ ≤ 15; omega, by show _ ≤ 124; omega⟩ hl.1 (Nat.le_of_ble_eq_true rfl) dX1_init_82 (fun Z6 H locs hw hB hS => ?_)
      obtain ⟨n7, f8, fs9, hm10, hv11, hin12, hw⟩ := hw
      refine i_aast F hB hS (t := 5) (ci := 2) rfl rfl hm10 hv11 hin12 dX1_init_85 (fun H locs hB hS => ?_)
      replace hw := hw _ rfl
      refine lv_iinc (v := l1 + (1 : Int32)) (lv' := [(1, .int (l1 + (1 : Int32))), (0, .ref l0)]) hx hb dX1_init_86 hl (k := 1) rfl (x_inc (by decide)) (by decide) rfl (fun ls hl => ?_)
      refine lv_goto (tgt := 67) hx hb dX1_init_89 (by decide) ?_
      exact ih _ _ _ _ _ (by omega) (by omega) hw _ _ _ hB hS (lv_sub hl [1, 0] rfl)
set_option maxHeartbeats 4000000 in
theorem bX1c_init_0 {p : Program} {l : Launch} {e : Env} {s : State} {m : MethodId} {args : Array Value} {below : List Frame} {meth : Method} {c : Code} {D : DD} {A : Nat → Prop} {s0 : State} {Q : MW → Prop} {a0 : Nat} {Z : MW} {H : Heap} {locs : List Loc} {ls : Array Slot} (F : FX p l c cX1_init s args m RX1 D A s0 2 meth (none)) (hin : meth.name = "<init>") (hB : iB D A Z H) (hS : va_S A s.heap H locs) (hw : wX1c_init a0 Z Q) (hl : lv_has ls 2 [(0, .ref a0)]) : W p l e rX1c_init s m args below meth c H locs 0 0 (MQ below (va_Qv Q (fun u t => iB D A u t.heap) A) args s 15 124 A) (F0 m 0 ls []) := by
  have hx := F.1.x
  have hb := F.1.b
  unfold wX1c_init at hw
  refine lv_aload_n hx hb dX1_init_0 rfl (lv_at hl 0 rfl) ?_
  refine W.objInit hx hb F.1.o (F.1.t _ q124) (F.1.t _ q117) (F.1.t _ q118) rfl (by rw [F.1.ml]; exact hl.1) rfl dX1_init_1 (Nat.le_of_ble_eq_true rfl) (Nat.le_of_ble_eq_true rfl) ?_
  refine W.eq (g2 := F0 m 4 ls []) rfl ?_
  refine lv_aload_n hx hb dX1_init_4 rfl (lv_at hl 0 rfl) ?_
  refine lv_iconst (v := 1) hx hb dX1_init_5 (by decide) ?_
  obtain ⟨fs1, hm2, hn3, hw⟩ := hw
  refine i_put F hB hS in_X1 tyX1_ok nmX1 hm2 rfl 0 (by decide) q162 rfl rfl (ty := .int) rfl rfl rfl hn3 dX1_init_6 (fun H locs hB hS => ?_)
  replace hw := hw _ rfl
  refine lv_aload_n hx hb dX1_init_9 rfl (lv_at hl 0 rfl) ?_
  refine lv_iconst (v := 2) hx hb dX1_init_10 (by decide) ?_
  obtain ⟨fs5, hm6, hn7, hw⟩ := hw
  refine i_put F hB hS in_X1 tyX1_ok nmX1 hm6 rfl 1 (by decide) q164 rfl rfl (ty := .int) rfl rfl rfl hn7 dX1_init_11 (fun H locs hB hS => ?_)
  replace hw := hw _ rfl
  refine lv_aload_n hx hb dX1_init_14 rfl (lv_at hl 0 rfl) ?_
  refine lv_bipush (v := 12) hx hb dX1_init_15 (by decide) ?_
  refine i_anew F hB hS (t := 4) (n := 12) (N' := 12) q125 q126 rfl (by decide) (by decide) (by decide) (by show 0 + 1 ≤ 15; omega) (by show 0 + 12 ≤ 124; omega) dX1_init_17 (fun H hB hS => ?_)
  replace hw := hw _ rfl
  obtain ⟨fs10, hm11, hn12, hw⟩ := hw
  refine i_putF F hB hS in_X1 tyX1_ok nmX1 hm11 rfl 3 (by decide) q168 rfl rfl hin rfl (ty := (.array (.object "NeverSaid$Speaker"))) rfl rfl rfl hn12 dX1_init_20 (fun H locs hB hS => ?_)
  replace hw := hw _ rfl
  refine lv_aload_n hx hb dX1_init_23 rfl (lv_at hl 0 rfl) ?_
  refine lv_bipush (v := 12) hx hb dX1_init_24 (by decide) ?_
  refine i_newa F hB hS (ty := .int) (t := 0) (n := 12) (N' := 12) (a0 := (12, .inl (fun _ => 0))) rfl q161 rfl (fun _ h => h) (fun _ => by rw [vp_cell_i]; rfl) (by decide) (by decide) (by decide) (by show 1 + 1 ≤ 15; omega) (by show 12 + 12 ≤ 124; omega) dX1_init_26 (fun H hB hS => ?_)
  replace hw := hw _ rfl
  obtain ⟨fs15, hm16, hn17, hw⟩ := hw
  refine i_putF F hB hS in_X1 tyX1_ok nmX1 hm16 rfl 4 (by decide) q170 rfl rfl hin rfl (ty := (.array .int)) rfl rfl rfl hn17 dX1_init_28 (fun H locs hB hS => ?_)
  replace hw := hw _ rfl
  refine lv_aload_n hx hb dX1_init_31 rfl (lv_at hl 0 rfl) ?_
  refine lv_bipush (v := 12) hx hb dX1_init_32 (by decide) ?_
  refine i_newa F hB hS (ty := .int) (t := 0) (n := 12) (N' := 12) (a0 := (12, .inl (fun _ => 0))) rfl q161 rfl (fun _ h => h) (fun _ => by rw [vp_cell_i]; rfl) (by decide) (by decide) (by decide) (by show 2 + 1 ≤ 15; omega) (by show 24 + 12 ≤ 124; omega) dX1_init_34 (fun H hB hS => ?_)
  replace hw := hw _ rfl
  obtain ⟨fs20, hm21, hn22, hw⟩ := hw
  refine i_putF F hB hS in_X1 tyX1_ok nmX1 hm21 rfl 5 (by decide) q172 rfl rfl hin rfl (ty := (.array .int)) rfl rfl rfl hn22 dX1_init_36 (fun H locs hB hS => ?_)
  replace hw := hw _ rfl
  refine lv_aload_n hx hb dX1_init_39 rfl (lv_at hl 0 rfl) ?_
  refine lv_bipush (v := 12) hx hb dX1_init_40 (by decide) ?_
  refine i_newa F hB hS (ty := .int) (t := 0) (n := 12) (N' := 12) (a0 := (12, .inl (fun _ => 0))) rfl q161 rfl (fun _ h => h) (fun _ => by rw [vp_cell_i]; rfl) (by decide) (by decide) (by decide) (by show 3 + 1 ≤ 15; omega) (by show 36 + 12 ≤ 124; omega) dX1_init_42 (fun H hB hS => ?_)
  replace hw := hw _ rfl
  obtain ⟨fs25, hm26, hn27, hw⟩ := hw
  refine i_putF F hB hS in_X1 tyX1_ok nmX1 hm26 rfl 6 (by decide) q174 rfl rfl hin rfl (ty := (.array .int)) rfl rfl rfl hn27 dX1_init_44 (fun H locs hB hS => ?_)
  replace hw := hw _ rfl
  refine lv_aload_n hx hb dX1_init_47 rfl (lv_at hl 0 rfl) ?_
  refine lv_bipush (v := 8) hx hb dX1_init_48 (by decide) ?_
  refine i_anew F hB hS (t := 5) (n := 8) (N' := 8) q127 q128 rfl (by decide) (by decide) (by decide) (by show 4 + 1 ≤ 15; omega) (by show 48 + 8 ≤ 124; omega) dX1_init_50 (fun H hB hS => ?_)
  replace hw := hw _ rfl
  obtain ⟨fs30, hm31, hn32, hw⟩ := hw
  refine i_putF F hB hS in_X1 tyX1_ok nmX1 hm31 rfl 8 (by decide) q178 rfl rfl hin rfl (ty := (.array (.object "NeverSaid$Deed"))) rfl rfl rfl hn32 dX1_init_53 (fun H locs hB hS => ?_)
  replace hw := hw _ rfl
  refine lv_aload_n hx hb dX1_init_56 rfl (lv_at hl 0 rfl) ?_
  refine lv_bipush (v := 14) hx hb dX1_init_57 (by decide) ?_
  refine i_anew F hB hS (t := 6) (n := 14) (N' := 14) q129 q130 rfl (by decide) (by decide) (by decide) (by show 5 + 1 ≤ 15; omega) (by show 56 + 14 ≤ 124; omega) dX1_init_59 (fun H hB hS => ?_)
  replace hw := hw _ rfl
  obtain ⟨fs35, hm36, hn37, hw⟩ := hw
  refine i_putF F hB hS in_X1 tyX1_ok nmX1 hm36 rfl 10 (by decide) q182 rfl rfl hin rfl (ty := (.array (.object "NeverSaid$Text"))) rfl rfl rfl hn37 dX1_init_62 (fun H locs hB hS => ?_)
  replace hw := hw _ rfl
  refine lv_iconst (v := 0) hx hb dX1_init_65 (by decide) ?_
  refine lv_istore_n (lv' := [(1, .int (0 : Int32)), (0, .ref a0)]) hx hb dX1_init_66 rfl hl (by decide) rfl (fun ls hl => ?_)
  skip
  exact bX1c_init_67 F hin 9 _ _ _ _ _ (by omega) (by omega) hw _ _ _ hB hS (lv_sub hl [1, 0] rfl)
set_option maxHeartbeats 4000000 in
theorem mX1c_init {l : Launch} {D : DD} {A : Nat → Prop} {s0 : State} {Z : MW} {a0 : Nat} {Q : MW → Prop} (hw : wX1c_init a0 Z Q) : Met l yX1_init (ws_ yX1_init cX1_init 2 (none)) rX1c_init (va_Pc [.ref a0] (fun U => iB D A Z U.heap ∧ CX l D A s0 U)) (va_Qv Q (fun u t => iB D A u t.heap) A) 15 124 A := by
  refine Met.ofW (cc := cX1_init) (maxL := 2) (ret := none) (by decide) rfl ?_
  intro p e s m args below meth c s₁ B hml hv
  obtain ⟨rfl, hB, hC⟩ := hv
  have F : FX p l c cX1_init s _ m RX1 D A s0 2 meth (none) := ⟨mk_FP B hml rfl, hC⟩
  have hS : va_S A s.heap s.heap [] := va_S.rf
  have hin : meth.name = "<init>" := (name_of_methodNamed B.named B.method).1
  have hl := lv_entry ([.ref a0]) (n := 2) (Nat.le_of_ble_eq_true rfl)
  rw [lg_entry_eq]
  generalize (lg_sl ([.ref a0]) ++ List.replicate (2 - (lg_sl ([.ref a0])).length) Slot.unset).toArray = ls at hl ⊢
  exact bX1c_init_0 F hin hB hS hw hl
theorem kX0_X1c_init {p : Program} {l : Launch} {e : Env} {R : Room} {s : State} {m : MethodId} {args : Array Value} {below : List Frame} {meth : Method} {c : Code} {H : Heap} {locs : List Loc} {cells slots : Nat} {Q0 : State → Prop} {cc : ByteArray} {pc nL : Nat} {ls : Array Slot} {rest : List Value} {ret : Option FieldType} {D : DD} {A : Nat → Prop} {s0 : State} {Z : MW} {a0 : Nat} {Q : MW → Prop} (F : FX p l c cc s args m RX0 D A s0 nL meth ret) (hB : iB D A Z H) (hS : va_S A s.heap H locs) (hw : wX1c_init a0 Z Q) (hR : rX1c_init.frames + 1 ≤ R.frames ∧ 8 + (2 + 11) + rX1c_init.locals ≤ R.locals) (hc : cells + 15 ≤ R.cells ∧ slots + 124 ≤ R.slots) (hsz : ls.size = nL) (hW : (rest.map fun v => v.category).sum ≤ 8) (hdg : decode cc pc = .ok (.invokespecial 45, 3)) (kk : ∀ (u : MW) (H1 : Heap) (locs1 : List Loc), Q u → iB D A u H1 → va_S A s.heap H1 locs1 → W p l e R s m args below meth c H1 locs1 (cells + 15) (slots + 124) Q0 (F0 m (pc + 3) ls rest)) : W p l e R s m args below meth c H locs cells slots Q0 (F0 m pc ls (.ref a0 :: rest)) :=
  k_v (Bw := iB D A) (k_runI (Bw := iB D A) (n := 0) (As := []) F hB hS (mX1c_init hw) q121 q122 q84 q123 rfl (by decide +kernel) hR ⟨rfl, rfl⟩ hc rfl hsz rfl hW hdg) hS kk
def rX0c_init : Room := { frames := 7, cells := 67, slots := 910, locals := 200 }
set_option maxHeartbeats 4000000 in
theorem bX0c_init_0 {p : Program} {l : Launch} {e : Env} {s : State} {m : MethodId} {args : Array Value} {below : List Frame} {meth : Method} {c : Code} {D : DD} {A : Nat → Prop} {s0 : State} {Q : MW → Prop} {a0 : Nat} {Z : MW} {H : Heap} {locs : List Loc} {ls : Array Slot} (F : FX p l c cX0_init s args m RX0 D A s0 1 meth (none)) (hin : meth.name = "<init>") (hB : iB D A Z H) (hS : va_S A s.heap H locs) (hw : wX0c_init a0 Z Q) (hl : lv_has ls 1 [(0, .ref a0)]) : W p l e rX0c_init s m args below meth c H locs 0 0 (MQ below (va_Qv Q (fun u t => iB D A u t.heap) A) args s 67 910 A) (F0 m 0 ls []) := by
  have hx := F.1.x
  have hb := F.1.b
  unfold wX0c_init at hw
  refine lv_aload_n hx hb dX0_init_0 rfl (lv_at hl 0 rfl) ?_
  refine W.objInit hx hb F.1.o (F.1.t _ q116) (F.1.t _ q117) (F.1.t _ q118) rfl (by rw [F.1.ml]; exact hl.1) rfl dX0_init_1 (Nat.le_of_ble_eq_true rfl) (Nat.le_of_ble_eq_true rfl) ?_
  refine W.eq (g2 := F0 m 4 ls []) rfl ?_
  refine lv_aload_n hx hb dX0_init_4 rfl (lv_at hl 0 rfl) ?_
  refine i_new F hB hS (ci := 1) (fs := [.int 0, .int 0, .int 0, .null, .null, .null, .null, .int 0, .null, .int 0, .null]) in_X1 tyX1_ok q119 q120 q84 rfl (x_dflt_X1) (by show 0 + 1 ≤ 67; omega) (by show 0 + 11 ≤ 910; omega) dX0_init_5 (fun H hB hS => ?_)
  replace hw := hw _ rfl
  refine lv_dup hx hb dX0_init_8 rfl ?_
  refine kX0_X1c_init F hB hS hw ⟨Nat.le_of_ble_eq_true rfl, Nat.le_of_ble_eq_true rfl⟩ ⟨by show _ ≤ 67; omega, by show _ ≤ 910; omega⟩ hl.1 (Nat.le_of_ble_eq_true rfl) dX0_init_9 (fun Z2 H locs hw hB hS => ?_)
  obtain ⟨fs3, hm4, hn5, hw⟩ := hw
  refine i_putF F hB hS in_X0 tyX0_ok nmX0 hm4 rfl 0 (by decide) q299 rfl rfl hin rfl (ty := (.object "NeverSaid$State")) rfl rfl rfl hn5 dX0_init_12 (fun H locs hB hS => ?_)
  replace hw := hw _ rfl
  refine lv_aload_n hx hb dX0_init_15 rfl (lv_at hl 0 rfl) ?_
  refine i_new F hB hS (ci := 1) (fs := [.int 0, .int 0, .int 0, .null, .null, .null, .null, .int 0, .null, .int 0, .null]) in_X1 tyX1_ok q119 q120 q84 rfl (x_dflt_X1) (by show 16 + 1 ≤ 67; omega) (by show 135 + 11 ≤ 910; omega) dX0_init_16 (fun H hB hS => ?_)
  replace hw := hw _ rfl
  refine lv_dup hx hb dX0_init_19 rfl ?_
  refine kX0_X1c_init F hB hS hw ⟨Nat.le_of_ble_eq_true rfl, Nat.le_of_ble_eq_true rfl⟩ ⟨by show _ ≤ 67; omega, by show _ ≤ 910; omega⟩ hl.1 (Nat.le_of_ble_eq_true rfl) dX0_init_20 (fun Z8 H locs hw hB hS => ?_)
  obtain ⟨fs9, hm10, hn11, hw⟩ := hw
  refine i_putF F hB hS in_X0 tyX0_ok nmX0 hm10 rfl 1 (by decide) q300 rfl rfl hin rfl (ty := (.object "NeverSaid$State")) rfl rfl rfl hn11 dX0_init_23 (fun H locs hB hS => ?_)
  replace hw := hw _ rfl
  refine lv_aload_n hx hb dX0_init_26 rfl (lv_at hl 0 rfl) ?_
  refine i_new F hB hS (ci := 1) (fs := [.int 0, .int 0, .int 0, .null, .null, .null, .null, .int 0, .null, .int 0, .null]) in_X1 tyX1_ok q119 q120 q84 rfl (x_dflt_X1) (by show 32 + 1 ≤ 67; omega) (by show 270 + 11 ≤ 910; omega) dX0_init_27 (fun H hB hS => ?_)
  replace hw := hw _ rfl
  refine lv_dup hx hb dX0_init_30 rfl ?_
  refine kX0_X1c_init F hB hS hw ⟨Nat.le_of_ble_eq_true rfl, Nat.le_of_ble_eq_true rfl⟩ ⟨by show _ ≤ 67; omega, by show _ ≤ 910; omega⟩ hl.1 (Nat.le_of_ble_eq_true rfl) dX0_init_31 (fun Z14 H locs hw hB hS => ?_)
  obtain ⟨fs15, hm16, hn17, hw⟩ := hw
  refine i_putF F hB hS in_X0 tyX0_ok nmX0 hm16 rfl 2 (by decide) q301 rfl rfl hin rfl (ty := (.object "NeverSaid$State")) rfl rfl rfl hn17 dX0_init_34 (fun H locs hB hS => ?_)
  replace hw := hw _ rfl
  refine lv_aload_n hx hb dX0_init_37 rfl (lv_at hl 0 rfl) ?_
  refine lv_bipush (v := 96) hx hb dX0_init_38 (by decide) ?_
  refine i_newa F hB hS (ty := .int) (t := 0) (n := 96) (N' := 96) (a0 := (96, .inl (fun _ => 0))) rfl q161 rfl (fun _ h => h) (fun _ => by rw [vp_cell_i]; rfl) (by decide) (by decide) (by decide) (by show 48 + 1 ≤ 67; omega) (by show 405 + 96 ≤ 910; omega) dX0_init_40 (fun H hB hS => ?_)
  replace hw := hw _ rfl
  obtain ⟨fs20, hm21, hn22, hw⟩ := hw
  refine i_putF F hB hS in_X0 tyX0_ok nmX0 hm21 rfl 4 (by decide) q303 rfl rfl hin rfl (ty := (.array .int)) rfl rfl rfl hn22 dX0_init_42 (fun H locs hB hS => ?_)
  replace hw := hw _ rfl
  refine lv_aload_n hx hb dX0_init_45 rfl (lv_at hl 0 rfl) ?_
  refine lv_bipush (v := 96) hx hb dX0_init_46 (by decide) ?_
  refine i_newa F hB hS (ty := .byte) (t := 1) (n := 96) (N' := 96) (a0 := (96, .inl (fun _ => 0))) rfl q274 rfl (fun _ h => h) (fun _ => by rw [vp_cell_i]; rfl) (by decide) (by decide) (by decide) (by show 49 + 1 ≤ 67; omega) (by show 501 + 96 ≤ 910; omega) dX0_init_48 (fun H hB hS => ?_)
  replace hw := hw _ rfl
  obtain ⟨fs25, hm26, hn27, hw⟩ := hw
  refine i_putF F hB hS in_X0 tyX0_ok nmX0 hm26 rfl 5 (by decide) q304 rfl rfl hin rfl (ty := (.array .byte)) rfl rfl rfl hn27 dX0_init_50 (fun H locs hB hS => ?_)
  replace hw := hw _ rfl
  refine lv_aload_n hx hb dX0_init_53 rfl (lv_at hl 0 rfl) ?_
  refine i_newFault F hB hS hl.1 (Nat.le_of_ble_eq_true rfl) (Nat.le_of_ble_eq_true rfl) (Nat.le_of_ble_eq_true rfl) (by show 50 + 1 ≤ 67; omega) (by show 597 + 7 ≤ 910; omega) dX0_init_54 dX0_init_57 dX0_init_58 (fun H locs fs29 h30 h31 hB hS => ?_)
  replace hw := hw fs29 h30 h31 _ rfl
  obtain ⟨fs33, hm34, hn35, hw⟩ := hw
  refine i_putF F hB hS in_X0 tyX0_ok nmX0 hm34 rfl 7 (by decide) q306 rfl rfl hin rfl (ty := (.object "NeverSaid$Fault")) rfl rfl rfl hn35 dX0_init_61 (fun H locs hB hS => ?_)
  replace hw := hw _ rfl
  refine lv_aload_n hx hb dX0_init_64 rfl (lv_at hl 0 rfl) ?_
  refine lv_sipush (v := 128) hx hb dX0_init_65 (by decide) ?_
  refine i_newa F hB hS (ty := .int) (t := 0) (n := 128) (N' := 128) (a0 := (128, .inl (fun _ => 0))) rfl q161 rfl (fun _ h => h) (fun _ => by rw [vp_cell_i]; rfl) (by decide) (by decide) (by decide) (by show 51 + 1 ≤ 67; omega) (by show 604 + 128 ≤ 910; omega) dX0_init_68 (fun H hB hS => ?_)
  replace hw := hw _ rfl
  obtain ⟨fs38, hm39, hn40, hw⟩ := hw
  refine i_putF F hB hS in_X0 tyX0_ok nmX0 hm39 rfl 15 (by decide) q314 rfl rfl hin rfl (ty := (.array .int)) rfl rfl rfl hn40 dX0_init_70 (fun H locs hB hS => ?_)
  replace hw := hw _ rfl
  refine lv_aload_n hx hb dX0_init_73 rfl (lv_at hl 0 rfl) ?_
  refine lv_bipush (v := 12) hx hb dX0_init_74 (by decide) ?_
  refine i_newa F hB hS (ty := .int) (t := 0) (n := 12) (N' := 12) (a0 := (12, .inl (fun _ => 0))) rfl q161 rfl (fun _ h => h) (fun _ => by rw [vp_cell_i]; rfl) (by decide) (by decide) (by decide) (by show 52 + 1 ≤ 67; omega) (by show 732 + 12 ≤ 910; omega) dX0_init_76 (fun H hB hS => ?_)
  replace hw := hw _ rfl
  obtain ⟨fs43, hm44, hn45, hw⟩ := hw
  refine i_putF F hB hS in_X0 tyX0_ok nmX0 hm44 rfl 16 (by decide) q315 rfl rfl hin rfl (ty := (.array .int)) rfl rfl rfl hn45 dX0_init_78 (fun H locs hB hS => ?_)
  replace hw := hw _ rfl
  refine lv_aload_n hx hb dX0_init_81 rfl (lv_at hl 0 rfl) ?_
  refine lv_iconst (v := 4) hx hb dX0_init_82 (by decide) ?_
  refine i_anew F hB hS (t := 7) (n := 4) (N' := 4) q275 q276 rfl (by decide) (by decide) (by decide) (by show 53 + 1 ≤ 67; omega) (by show 744 + 4 ≤ 910; omega) dX0_init_83 (fun H hB hS => ?_)
  replace hw := hw _ rfl
  refine lv_dup hx hb dX0_init_86 rfl ?_
  refine lv_iconst (v := 0) hx hb dX0_init_87 (by decide) ?_
  refine i_new F hB hS (ci := 4) (fs := [.null]) in_X4 tyX4_ok q275 q277 q90 rfl (x_dflt_X4) (by show 54 + 1 ≤ 67; omega) (by show 748 + 1 ≤ 910; omega) dX0_init_88 (fun H hB hS => ?_)
  replace hw := hw _ rfl
  refine lv_dup hx hb dX0_init_91 rfl ?_
  refine kX0_X4c_init F hB hS hw ⟨Nat.le_of_ble_eq_true rfl, Nat.le_of_ble_eq_true rfl⟩ ⟨by show _ ≤ 67; omega, by show _ ≤ 910; omega⟩ hl.1 (Nat.le_of_ble_eq_true rfl) dX0_init_92 (fun Z49 H locs hw hB hS => ?_)
  obtain ⟨n50, f51, fs52, hm53, hv54, hin55, hw⟩ := hw
  refine i_aast F hB hS (t := 7) (ci := 4) rfl rfl hm53 hv54 hin55 dX0_init_95 (fun H locs hB hS => ?_)
  replace hw := hw _ rfl
  refine lv_dup hx hb dX0_init_96 rfl ?_
  refine lv_iconst (v := 1) hx hb dX0_init_97 (by decide) ?_
  refine i_new F hB hS (ci := 4) (fs := [.null]) in_X4 tyX4_ok q275 q277 q90 rfl (x_dflt_X4) (by show 55 + 1 ≤ 67; omega) (by show 749 + 1 ≤ 910; omega) dX0_init_98 (fun H hB hS => ?_)
  replace hw := hw _ rfl
  refine lv_dup hx hb dX0_init_101 rfl ?_
  refine kX0_X4c_init F hB hS hw ⟨Nat.le_of_ble_eq_true rfl, Nat.le_of_ble_eq_true rfl⟩ ⟨by show _ ≤ 67; omega, by show _ ≤ 910; omega⟩ hl.1 (Nat.le_of_ble_eq_true rfl) dX0_init_102 (fun Z58 H locs hw hB hS => ?_)
  obtain ⟨n59, f60, fs61, hm62, hv63, hin64, hw⟩ := hw
  refine i_aast F hB hS (t := 7) (ci := 4) rfl rfl hm62 hv63 hin64 dX0_init_105 (fun H locs hB hS => ?_)
  replace hw := hw _ rfl
  refine lv_dup hx hb dX0_init_106 rfl ?_
  refine lv_iconst (v := 2) hx hb dX0_init_107 (by decide) ?_
  refine i_new F hB hS (ci := 4) (fs := [.null]) in_X4 tyX4_ok q275 q277 q90 rfl (x_dflt_X4) (by show 56 + 1 ≤ 67; omega) (by show 750 + 1 ≤ 910; omega) dX0_init_108 (fun H hB hS => ?_)
  replace hw := hw _ rfl
  refine lv_dup hx hb dX0_init_111 rfl ?_
  refine kX0_X4c_init F hB hS hw ⟨Nat.le_of_ble_eq_true rfl, Nat.le_of_ble_eq_true rfl⟩ ⟨by show _ ≤ 67; omega, by show _ ≤ 910; omega⟩ hl.1 (Nat.le_of_ble_eq_true rfl) dX0_init_112 (fun Z67 H locs hw hB hS => ?_)
  obtain ⟨n68, f69, fs70, hm71, hv72, hin73, hw⟩ := hw
  refine i_aast F hB hS (t := 7) (ci := 4) rfl rfl hm71 hv72 hin73 dX0_init_115 (fun H locs hB hS => ?_)
  replace hw := hw _ rfl
  refine lv_dup hx hb dX0_init_116 rfl ?_
  refine lv_iconst (v := 3) hx hb dX0_init_117 (by decide) ?_
  refine i_new F hB hS (ci := 4) (fs := [.null]) in_X4 tyX4_ok q275 q277 q90 rfl (x_dflt_X4) (by show 57 + 1 ≤ 67; omega) (by show 751 + 1 ≤ 910; omega) dX0_init_118 (fun H hB hS => ?_)
  replace hw := hw _ rfl
  refine lv_dup hx hb dX0_init_121 rfl ?_
  refine kX0_X4c_init F hB hS hw ⟨Nat.le_of_ble_eq_true rfl, Nat.le_of_ble_eq_true rfl⟩ ⟨by show _ ≤ 67; omega, by show _ ≤ 910; omega⟩ hl.1 (Nat.le_of_ble_eq_true rfl) dX0_init_122 (fun Z76 H locs hw hB hS => ?_)
  obtain ⟨n77, f78, fs79, hm80, hv81, hin82, hw⟩ := hw
  refine i_aast F hB hS (t := 7) (ci := 4) rfl rfl hm80 hv81 hin82 dX0_init_125 (fun H locs hB hS => ?_)
  replace hw := hw _ rfl
  obtain ⟨fs84, hm85, hn86, hw⟩ := hw
  refine i_putF F hB hS in_X0 tyX0_ok nmX0 hm85 rfl 19 (by decide) q318 rfl rfl hin rfl (ty := (.array (.object "NeverSaid$Sheet"))) rfl rfl rfl hn86 dX0_init_126 (fun H locs hB hS => ?_)
  replace hw := hw _ rfl
  refine lv_aload_n hx hb dX0_init_129 rfl (lv_at hl 0 rfl) ?_
  refine lv_iconst (v := 5) hx hb dX0_init_130 (by decide) ?_
  refine i_anew F hB hS (t := 8) (n := 5) (N' := 5) q287 q288 rfl (by decide) (by decide) (by decide) (by show 58 + 1 ≤ 67; omega) (by show 752 + 5 ≤ 910; omega) dX0_init_131 (fun H hB hS => ?_)
  replace hw := hw _ rfl
  refine lv_dup hx hb dX0_init_134 rfl ?_
  refine lv_iconst (v := 0) hx hb dX0_init_135 (by decide) ?_
  refine i_new F hB hS (ci := 5) (fs := [.null]) in_X5 tyX5_ok q287 q289 q91 rfl (x_dflt_X5) (by show 59 + 1 ≤ 67; omega) (by show 757 + 1 ≤ 910; omega) dX0_init_136 (fun H hB hS => ?_)
  replace hw := hw _ rfl
  refine lv_dup hx hb dX0_init_139 rfl ?_
  refine kX0_X5c_init F hB hS hw ⟨Nat.le_of_ble_eq_true rfl, Nat.le_of_ble_eq_true rfl⟩ ⟨by show _ ≤ 67; omega, by show _ ≤ 910; omega⟩ hl.1 (Nat.le_of_ble_eq_true rfl) dX0_init_140 (fun Z90 H locs hw hB hS => ?_)
  obtain ⟨n91, f92, fs93, hm94, hv95, hin96, hw⟩ := hw
  refine i_aast F hB hS (t := 8) (ci := 5) rfl rfl hm94 hv95 hin96 dX0_init_143 (fun H locs hB hS => ?_)
  replace hw := hw _ rfl
  refine lv_dup hx hb dX0_init_144 rfl ?_
  refine lv_iconst (v := 1) hx hb dX0_init_145 (by decide) ?_
  refine i_new F hB hS (ci := 5) (fs := [.null]) in_X5 tyX5_ok q287 q289 q91 rfl (x_dflt_X5) (by show 60 + 1 ≤ 67; omega) (by show 758 + 1 ≤ 910; omega) dX0_init_146 (fun H hB hS => ?_)
  replace hw := hw _ rfl
  refine lv_dup hx hb dX0_init_149 rfl ?_
  refine kX0_X5c_init F hB hS hw ⟨Nat.le_of_ble_eq_true rfl, Nat.le_of_ble_eq_true rfl⟩ ⟨by show _ ≤ 67; omega, by show _ ≤ 910; omega⟩ hl.1 (Nat.le_of_ble_eq_true rfl) dX0_init_150 (fun Z99 H locs hw hB hS => ?_)
  obtain ⟨n100, f101, fs102, hm103, hv104, hin105, hw⟩ := hw
  refine i_aast F hB hS (t := 8) (ci := 5) rfl rfl hm103 hv104 hin105 dX0_init_153 (fun H locs hB hS => ?_)
  replace hw := hw _ rfl
  refine lv_dup hx hb dX0_init_154 rfl ?_
  refine lv_iconst (v := 2) hx hb dX0_init_155 (by decide) ?_
  refine i_new F hB hS (ci := 5) (fs := [.null]) in_X5 tyX5_ok q287 q289 q91 rfl (x_dflt_X5) (by show 61 + 1 ≤ 67; omega) (by show 759 + 1 ≤ 910; omega) dX0_init_156 (fun H hB hS => ?_)
  replace hw := hw _ rfl
  refine lv_dup hx hb dX0_init_159 rfl ?_
  refine kX0_X5c_init F hB hS hw ⟨Nat.le_of_ble_eq_true rfl, Nat.le_of_ble_eq_true rfl⟩ ⟨by show _ ≤ 67; omega, by show _ ≤ 910; omega⟩ hl.1 (Nat.le_of_ble_eq_true rfl) dX0_init_160 (fun Z108 H locs hw hB hS => ?_)
  obtain ⟨n109, f110, fs111, hm112, hv113, hin114, hw⟩ := hw
  refine i_aast F hB hS (t := 8) (ci := 5) rfl rfl hm112 hv113 hin114 dX0_init_163 (fun H locs hB hS => ?_)
  replace hw := hw _ rfl
  refine lv_dup hx hb dX0_init_164 rfl ?_
  refine lv_iconst (v := 3) hx hb dX0_init_165 (by decide) ?_
  refine i_new F hB hS (ci := 5) (fs := [.null]) in_X5 tyX5_ok q287 q289 q91 rfl (x_dflt_X5) (by show 62 + 1 ≤ 67; omega) (by show 760 + 1 ≤ 910; omega) dX0_init_166 (fun H hB hS => ?_)
  replace hw := hw _ rfl
  refine lv_dup hx hb dX0_init_169 rfl ?_
  refine kX0_X5c_init F hB hS hw ⟨Nat.le_of_ble_eq_true rfl, Nat.le_of_ble_eq_true rfl⟩ ⟨by show _ ≤ 67; omega, by show _ ≤ 910; omega⟩ hl.1 (Nat.le_of_ble_eq_true rfl) dX0_init_170 (fun Z117 H locs hw hB hS => ?_)
  obtain ⟨n118, f119, fs120, hm121, hv122, hin123, hw⟩ := hw
  refine i_aast F hB hS (t := 8) (ci := 5) rfl rfl hm121 hv122 hin123 dX0_init_173 (fun H locs hB hS => ?_)
  replace hw := hw _ rfl
  refine lv_dup hx hb dX0_init_174 rfl ?_
  refine lv_iconst (v := 4) hx hb dX0_init_175 (by decide) ?_
  refine i_new F hB hS (ci := 5) (fs := [.null]) in_X5 tyX5_ok q287 q289 q91 rfl (x_dflt_X5) (by show 63 + 1 ≤ 67; omega) (by show 761 + 1 ≤ 910; omega) dX0_init_176 (fun H hB hS => ?_)
  replace hw := hw _ rfl
  refine lv_dup hx hb dX0_init_179 rfl ?_
  refine kX0_X5c_init F hB hS hw ⟨Nat.le_of_ble_eq_true rfl, Nat.le_of_ble_eq_true rfl⟩ ⟨by show _ ≤ 67; omega, by show _ ≤ 910; omega⟩ hl.1 (Nat.le_of_ble_eq_true rfl) dX0_init_180 (fun Z126 H locs hw hB hS => ?_)
  obtain ⟨n127, f128, fs129, hm130, hv131, hin132, hw⟩ := hw
  refine i_aast F hB hS (t := 8) (ci := 5) rfl rfl hm130 hv131 hin132 dX0_init_183 (fun H locs hB hS => ?_)
  replace hw := hw _ rfl
  obtain ⟨fs134, hm135, hn136, hw⟩ := hw
  refine i_putF F hB hS in_X0 tyX0_ok nmX0 hm135 rfl 20 (by decide) q319 rfl rfl hin rfl (ty := (.array (.object "NeverSaid$Slot"))) rfl rfl rfl hn136 dX0_init_184 (fun H locs hB hS => ?_)
  replace hw := hw _ rfl
  refine lv_aload_n hx hb dX0_init_187 rfl (lv_at hl 0 rfl) ?_
  refine lv_bipush (v := 24) hx hb dX0_init_188 (by decide) ?_
  refine i_newa F hB hS (ty := .float) (t := 3) (n := 24) (N' := 24) (a0 := (24, .inr (.inr (.inl (fun _ => 0))))) rfl q375 rfl (fun _ h => h) (fun _ => by rw [vp_cell_f]; rfl) (by decide) (by decide) (by decide) (by show 64 + 1 ≤ 67; omega) (by show 762 + 24 ≤ 910; omega) dX0_init_190 (fun H hB hS => ?_)
  replace hw := hw _ rfl
  obtain ⟨fs139, hm140, hn141, hw⟩ := hw
  refine i_putF F hB hS in_X0 tyX0_ok nmX0 hm140 rfl 21 (by decide) q320 rfl rfl hin rfl (ty := (.array .float)) rfl rfl rfl hn141 dX0_init_192 (fun H locs hB hS => ?_)
  replace hw := hw _ rfl
  refine lv_aload_n hx hb dX0_init_195 rfl (lv_at hl 0 rfl) ?_
  refine lv_bipush (v := 60) hx hb dX0_init_196 (by decide) ?_
  refine i_newa F hB hS (ty := .int) (t := 0) (n := 60) (N' := 60) (a0 := (60, .inl (fun _ => 0))) rfl q161 rfl (fun _ h => h) (fun _ => by rw [vp_cell_i]; rfl) (by decide) (by decide) (by decide) (by show 65 + 1 ≤ 67; omega) (by show 786 + 60 ≤ 910; omega) dX0_init_198 (fun H hB hS => ?_)
  replace hw := hw _ rfl
  obtain ⟨fs144, hm145, hn146, hw⟩ := hw
  refine i_putF F hB hS in_X0 tyX0_ok nmX0 hm145 rfl 22 (by decide) q321 rfl rfl hin rfl (ty := (.array .int)) rfl rfl rfl hn146 dX0_init_200 (fun H locs hB hS => ?_)
  replace hw := hw _ rfl
  refine lv_aload_n hx hb dX0_init_203 rfl (lv_at hl 0 rfl) ?_
  refine lv_bipush (v := 60) hx hb dX0_init_204 (by decide) ?_
  refine i_newa F hB hS (ty := .int) (t := 0) (n := 60) (N' := 60) (a0 := (60, .inl (fun _ => 0))) rfl q161 rfl (fun _ h => h) (fun _ => by rw [vp_cell_i]; rfl) (by decide) (by decide) (by decide) (by show 66 + 1 ≤ 67; omega) (by show 846 + 60 ≤ 910; omega) dX0_init_206 (fun H hB hS => ?_)
  replace hw := hw _ rfl
  obtain ⟨fs149, hm150, hn151, hw⟩ := hw
  refine i_putF F hB hS in_X0 tyX0_ok nmX0 hm150 rfl 24 (by decide) q323 rfl rfl hin rfl (ty := (.array .int)) rfl rfl rfl hn151 dX0_init_208 (fun H locs hB hS => ?_)
  replace hw := hw _ rfl
  refine W.widen (k := 67) (n := 910) (by omega) (by omega) ?_
  exact W.vret hx hb F.1.r (fun t ht hW => ⟨⟨_, rfl, hw, x_B (Bw := iB D A) ht hB⟩, hS.F ht⟩) hS.2.2 dX0_init_211 (hlocks := F.1.k)
set_option maxHeartbeats 4000000 in
theorem mX0c_init {l : Launch} {D : DD} {A : Nat → Prop} {s0 : State} {Z : MW} {a0 : Nat} {Q : MW → Prop} (hw : wX0c_init a0 Z Q) : Met l yX0_init (ws_ yX0_init cX0_init 1 (none)) rX0c_init (va_Pc [.ref a0] (fun U => iB D A Z U.heap ∧ CX l D A s0 U)) (va_Qv Q (fun u t => iB D A u t.heap) A) 67 910 A := by
  refine Met.ofW (cc := cX0_init) (maxL := 1) (ret := none) (by decide) rfl ?_
  intro p e s m args below meth c s₁ B hml hv
  obtain ⟨rfl, hB, hC⟩ := hv
  have F : FX p l c cX0_init s _ m RX0 D A s0 1 meth (none) := ⟨mk_FP B hml rfl, hC⟩
  have hS : va_S A s.heap s.heap [] := va_S.rf
  have hin : meth.name = "<init>" := (name_of_methodNamed B.named B.method).1
  have hl := lv_entry ([.ref a0]) (n := 1) (Nat.le_of_ble_eq_true rfl)
  rw [lg_entry_eq]
  generalize (lg_sl ([.ref a0]) ++ List.replicate (1 - (lg_sl ([.ref a0])).length) Slot.unset).toArray = ls at hl ⊢
  exact bX0c_init_0 F hin hB hS hw hl
def rX6c_init : Room := { frames := 1, cells := 18, slots := 10066, locals := 40 }
set_option maxHeartbeats 4000000 in
theorem bX6c_init_162 {p : Program} {l : Launch} {e : Env} {s : State} {m : MethodId} {args : Array Value} {below : List Frame} {meth : Method} {c : Code} {D : DD} {A : Nat → Prop} {s0 : State} {Q : MW → Prop} (F : FX p l c cX6_init s args m RX6 D A s0 2 meth (none)) (hin : meth.name = "<init>") : ∀ (n : Nat) (l0 : Nat) (l1 : Int32) (Z : MW), wX6c_init_162 Q n l0 l1 Z → ∀ (H : Heap) (locs : List Loc) (ls : Array Slot), iB D A Z H → va_S A s.heap H locs → lv_has ls 2 [(0, .ref l0), (1, .int l1)] → W p l e rX6c_init s m args below meth c H locs 18 10066 (MQ below (va_Qv Q (fun u t => iB D A u t.heap) A) args s 18 10066 A) (F0 m 162 ls []) := by
  have hx := F.1.x
  have hb := F.1.b
  intro n
  induction n with
  | zero => intro l0 l1 Z hw; exact hw.elim
  | succ n ih =>
    intro l0 l1 Z hw H locs ls hB hS hl
    unfold wX6c_init_162 at hw
    refine lv_iload_n hx hb dX6_init_162 rfl (lv_at hl 1 rfl) ?_
    refine lv_iconst (v := 4) hx hb dX6_init_163 (by decide) ?_
    refine lv_icmp_ge (tgt := 180) hx hb dX6_init_164 (by decide) (fun q => ?_) (fun q => ?_)
    · replace hw := hw.1 q
      exact W.vret hx hb F.1.r (fun t ht hW => ⟨⟨_, rfl, hw, x_B (Bw := iB D A) ht hB⟩, hS.F ht⟩) hS.2.2 dX6_init_180 (hlocks := F.1.k)
    · replace hw := hw.2 q
      refine lv_aload_n hx hb dX6_init_167 rfl (lv_at hl 0 rfl) ?_
      obtain ⟨fs1, r2, hm3, hv4, hw⟩ := hw
      refine i_get F hB in_X6 hm3 rfl 4 (by decide) q1227 rfl hv4 dX6_init_168 ?_
      refine lv_iload_n hx hb dX6_init_171 rfl (lv_at hl 1 rfl) ?_
      refine lv_iconst (v := -1) hx hb dX6_init_172 (by decide) ?_
      obtain ⟨n5, f6, hm7, hin8, hw⟩ := hw
      refine i_iast F hB hS hm7 hin8 dX6_init_173 (fun H locs hB hS => ?_)
      replace hw := hw _ rfl
      refine lv_iinc (v := l1 + (1 : Int32)) (lv' := [(1, .int (l1 + (1 : Int32))), (0, .ref l0)]) hx hb dX6_init_174 hl (k := 1) rfl (x_inc (by decide)) (by decide) rfl (fun ls hl => ?_)
      refine lv_goto (tgt := 162) hx hb dX6_init_177 (by decide) ?_
      exact ih _ _ _ hw _ _ _ hB hS (lv_sub hl [1, 0] rfl)
set_option maxHeartbeats 4000000 in
theorem bX6c_init_0 {p : Program} {l : Launch} {e : Env} {s : State} {m : MethodId} {args : Array Value} {below : List Frame} {meth : Method} {c : Code} {D : DD} {A : Nat → Prop} {s0 : State} {Q : MW → Prop} {a0 : Nat} {Z : MW} {H : Heap} {locs : List Loc} {ls : Array Slot} (F : FX p l c cX6_init s args m RX6 D A s0 2 meth (none)) (hin : meth.name = "<init>") (hB : iB D A Z H) (hS : va_S A s.heap H locs) (hw : wX6c_init a0 Z Q) (hl : lv_has ls 2 [(0, .ref a0)]) : W p l e rX6c_init s m args below meth c H locs 0 0 (MQ below (va_Qv Q (fun u t => iB D A u t.heap) A) args s 18 10066 A) (F0 m 0 ls []) := by
  have hx := F.1.x
  have hb := F.1.b
  unfold wX6c_init at hw
  refine lv_aload_n hx hb dX6_init_0 rfl (lv_at hl 0 rfl) ?_
  refine W.objInit hx hb F.1.o (F.1.t _ q1222) (F.1.t _ q117) (F.1.t _ q118) rfl (by rw [F.1.ml]; exact hl.1) rfl dX6_init_1 (Nat.le_of_ble_eq_true rfl) (Nat.le_of_ble_eq_true rfl) ?_
  refine W.eq (g2 := F0 m 4 ls []) rfl ?_
  refine lv_aload_n hx hb dX6_init_4 rfl (lv_at hl 0 rfl) ?_
  refine lv_sipush (v := 3114) hx hb dX6_init_5 (by decide) ?_
  refine i_newa F hB hS (ty := .int) (t := 0) (n := 3114) (N' := 3114) (a0 := (3114, .inl (fun _ => 0))) rfl q161 rfl (fun _ h => h) (fun _ => by rw [vp_cell_i]; rfl) (by decide) (by decide) (by decide) (by show 0 + 1 ≤ 18; omega) (by show 0 + 3114 ≤ 10066; omega) dX6_init_8 (fun H hB hS => ?_)
  replace hw := hw _ rfl
  obtain ⟨fs2, hm3, hn4, hw⟩ := hw
  refine i_putF F hB hS in_X6 tyX6_ok nmX6 hm3 rfl 0 (by decide) q1223 rfl rfl hin rfl (ty := (.array .int)) rfl rfl rfl hn4 dX6_init_10 (fun H locs hB hS => ?_)
  replace hw := hw _ rfl
  refine lv_aload_n hx hb dX6_init_13 rfl (lv_at hl 0 rfl) ?_
  refine lv_sipush (v := 3114) hx hb dX6_init_14 (by decide) ?_
  refine i_newa F hB hS (ty := .int) (t := 0) (n := 3114) (N' := 3114) (a0 := (3114, .inl (fun _ => 0))) rfl q161 rfl (fun _ h => h) (fun _ => by rw [vp_cell_i]; rfl) (by decide) (by decide) (by decide) (by show 1 + 1 ≤ 18; omega) (by show 3114 + 3114 ≤ 10066; omega) dX6_init_17 (fun H hB hS => ?_)
  replace hw := hw _ rfl
  obtain ⟨fs7, hm8, hn9, hw⟩ := hw
  refine i_putF F hB hS in_X6 tyX6_ok nmX6 hm8 rfl 1 (by decide) q1224 rfl rfl hin rfl (ty := (.array .int)) rfl rfl rfl hn9 dX6_init_19 (fun H locs hB hS => ?_)
  replace hw := hw _ rfl
  refine lv_aload_n hx hb dX6_init_22 rfl (lv_at hl 0 rfl) ?_
  refine lv_sipush (v := 3114) hx hb dX6_init_23 (by decide) ?_
  refine i_newa F hB hS (ty := .int) (t := 0) (n := 3114) (N' := 3114) (a0 := (3114, .inl (fun _ => 0))) rfl q161 rfl (fun _ h => h) (fun _ => by rw [vp_cell_i]; rfl) (by decide) (by decide) (by decide) (by show 2 + 1 ≤ 18; omega) (by show 6228 + 3114 ≤ 10066; omega) dX6_init_26 (fun H hB hS => ?_)
  replace hw := hw _ rfl
  obtain ⟨fs12, hm13, hn14, hw⟩ := hw
  refine i_putF F hB hS in_X6 tyX6_ok nmX6 hm13 rfl 2 (by decide) q1225 rfl rfl hin rfl (ty := (.array .int)) rfl rfl rfl hn14 dX6_init_28 (fun H locs hB hS => ?_)
  replace hw := hw _ rfl
  refine lv_aload_n hx hb dX6_init_31 rfl (lv_at hl 0 rfl) ?_
  refine lv_iconst (v := 4) hx hb dX6_init_32 (by decide) ?_
  refine i_newa F hB hS (ty := .int) (t := 0) (n := 4) (N' := 4) (a0 := (4, .inl (fun _ => 0))) rfl q161 rfl (fun _ h => h) (fun _ => by rw [vp_cell_i]; rfl) (by decide) (by decide) (by decide) (by show 3 + 1 ≤ 18; omega) (by show 9342 + 4 ≤ 10066; omega) dX6_init_33 (fun H hB hS => ?_)
  replace hw := hw _ rfl
  obtain ⟨fs17, hm18, hn19, hw⟩ := hw
  refine i_putF F hB hS in_X6 tyX6_ok nmX6 hm18 rfl 4 (by decide) q1227 rfl rfl hin rfl (ty := (.array .int)) rfl rfl rfl hn19 dX6_init_35 (fun H locs hB hS => ?_)
  replace hw := hw _ rfl
  refine lv_aload_n hx hb dX6_init_38 rfl (lv_at hl 0 rfl) ?_
  refine lv_iconst (v := 4) hx hb dX6_init_39 (by decide) ?_
  refine i_newa F hB hS (ty := .int) (t := 0) (n := 4) (N' := 4) (a0 := (4, .inl (fun _ => 0))) rfl q161 rfl (fun _ h => h) (fun _ => by rw [vp_cell_i]; rfl) (by decide) (by decide) (by decide) (by show 4 + 1 ≤ 18; omega) (by show 9346 + 4 ≤ 10066; omega) dX6_init_40 (fun H hB hS => ?_)
  replace hw := hw _ rfl
  obtain ⟨fs22, hm23, hn24, hw⟩ := hw
  refine i_putF F hB hS in_X6 tyX6_ok nmX6 hm23 rfl 5 (by decide) q1228 rfl rfl hin rfl (ty := (.array .int)) rfl rfl rfl hn24 dX6_init_42 (fun H locs hB hS => ?_)
  replace hw := hw _ rfl
  refine lv_aload_n hx hb dX6_init_45 rfl (lv_at hl 0 rfl) ?_
  refine lv_bipush (v := 96) hx hb dX6_init_46 (by decide) ?_
  refine i_newa F hB hS (ty := .int) (t := 0) (n := 96) (N' := 96) (a0 := (96, .inl (fun _ => 0))) rfl q161 rfl (fun _ h => h) (fun _ => by rw [vp_cell_i]; rfl) (by decide) (by decide) (by decide) (by show 5 + 1 ≤ 18; omega) (by show 9350 + 96 ≤ 10066; omega) dX6_init_48 (fun H hB hS => ?_)
  replace hw := hw _ rfl
  obtain ⟨fs27, hm28, hn29, hw⟩ := hw
  refine i_putF F hB hS in_X6 tyX6_ok nmX6 hm28 rfl 6 (by decide) q1229 rfl rfl hin rfl (ty := (.array .int)) rfl rfl rfl hn29 dX6_init_50 (fun H locs hB hS => ?_)
  replace hw := hw _ rfl
  refine lv_aload_n hx hb dX6_init_53 rfl (lv_at hl 0 rfl) ?_
  refine lv_iconst (v := 5) hx hb dX6_init_54 (by decide) ?_
  refine i_newa F hB hS (ty := .int) (t := 0) (n := 5) (N' := 5) (a0 := (5, .inl (fun _ => 0))) rfl q161 rfl (fun _ h => h) (fun _ => by rw [vp_cell_i]; rfl) (by decide) (by decide) (by decide) (by show 6 + 1 ≤ 18; omega) (by show 9446 + 5 ≤ 10066; omega) dX6_init_55 (fun H hB hS => ?_)
  replace hw := hw _ rfl
  obtain ⟨fs32, hm33, hn34, hw⟩ := hw
  refine i_putF F hB hS in_X6 tyX6_ok nmX6 hm33 rfl 7 (by decide) q1230 rfl rfl hin rfl (ty := (.array .int)) rfl rfl rfl hn34 dX6_init_57 (fun H locs hB hS => ?_)
  replace hw := hw _ rfl
  refine lv_aload_n hx hb dX6_init_60 rfl (lv_at hl 0 rfl) ?_
  refine lv_iconst (v := 5) hx hb dX6_init_61 (by decide) ?_
  refine i_newa F hB hS (ty := .int) (t := 0) (n := 5) (N' := 5) (a0 := (5, .inl (fun _ => 0))) rfl q161 rfl (fun _ h => h) (fun _ => by rw [vp_cell_i]; rfl) (by decide) (by decide) (by decide) (by show 7 + 1 ≤ 18; omega) (by show 9451 + 5 ≤ 10066; omega) dX6_init_62 (fun H hB hS => ?_)
  replace hw := hw _ rfl
  obtain ⟨fs37, hm38, hn39, hw⟩ := hw
  refine i_putF F hB hS in_X6 tyX6_ok nmX6 hm38 rfl 8 (by decide) q1231 rfl rfl hin rfl (ty := (.array .int)) rfl rfl rfl hn39 dX6_init_64 (fun H locs hB hS => ?_)
  replace hw := hw _ rfl
  refine lv_aload_n hx hb dX6_init_67 rfl (lv_at hl 0 rfl) ?_
  refine lv_iconst (v := 5) hx hb dX6_init_68 (by decide) ?_
  refine i_newa F hB hS (ty := .int) (t := 0) (n := 5) (N' := 5) (a0 := (5, .inl (fun _ => 0))) rfl q161 rfl (fun _ h => h) (fun _ => by rw [vp_cell_i]; rfl) (by decide) (by decide) (by decide) (by show 8 + 1 ≤ 18; omega) (by show 9456 + 5 ≤ 10066; omega) dX6_init_69 (fun H hB hS => ?_)
  replace hw := hw _ rfl
  obtain ⟨fs42, hm43, hn44, hw⟩ := hw
  refine i_putF F hB hS in_X6 tyX6_ok nmX6 hm43 rfl 9 (by decide) q1232 rfl rfl hin rfl (ty := (.array .int)) rfl rfl rfl hn44 dX6_init_71 (fun H locs hB hS => ?_)
  replace hw := hw _ rfl
  refine lv_aload_n hx hb dX6_init_74 rfl (lv_at hl 0 rfl) ?_
  refine lv_iconst (v := 5) hx hb dX6_init_75 (by decide) ?_
  refine i_newa F hB hS (ty := .int) (t := 0) (n := 5) (N' := 5) (a0 := (5, .inl (fun _ => 0))) rfl q161 rfl (fun _ h => h) (fun _ => by rw [vp_cell_i]; rfl) (by decide) (by decide) (by decide) (by show 9 + 1 ≤ 18; omega) (by show 9461 + 5 ≤ 10066; omega) dX6_init_76 (fun H hB hS => ?_)
  replace hw := hw _ rfl
  obtain ⟨fs47, hm48, hn49, hw⟩ := hw
  refine i_putF F hB hS in_X6 tyX6_ok nmX6 hm48 rfl 10 (by decide) q1233 rfl rfl hin rfl (ty := (.array .int)) rfl rfl rfl hn49 dX6_init_78 (fun H locs hB hS => ?_)
  replace hw := hw _ rfl
  refine lv_aload_n hx hb dX6_init_81 rfl (lv_at hl 0 rfl) ?_
  refine lv_bipush (v := 120) hx hb dX6_init_82 (by decide) ?_
  refine i_newa F hB hS (ty := .int) (t := 0) (n := 120) (N' := 120) (a0 := (120, .inl (fun _ => 0))) rfl q161 rfl (fun _ h => h) (fun _ => by rw [vp_cell_i]; rfl) (by decide) (by decide) (by decide) (by show 10 + 1 ≤ 18; omega) (by show 9466 + 120 ≤ 10066; omega) dX6_init_84 (fun H hB hS => ?_)
  replace hw := hw _ rfl
  obtain ⟨fs52, hm53, hn54, hw⟩ := hw
  refine i_putF F hB hS in_X6 tyX6_ok nmX6 hm53 rfl 11 (by decide) q1234 rfl rfl hin rfl (ty := (.array .int)) rfl rfl rfl hn54 dX6_init_86 (fun H locs hB hS => ?_)
  replace hw := hw _ rfl
  refine lv_aload_n hx hb dX6_init_89 rfl (lv_at hl 0 rfl) ?_
  refine lv_bipush (v := 12) hx hb dX6_init_90 (by decide) ?_
  refine i_newa F hB hS (ty := .int) (t := 0) (n := 12) (N' := 12) (a0 := (12, .inl (fun _ => 0))) rfl q161 rfl (fun _ h => h) (fun _ => by rw [vp_cell_i]; rfl) (by decide) (by decide) (by decide) (by show 11 + 1 ≤ 18; omega) (by show 9586 + 12 ≤ 10066; omega) dX6_init_92 (fun H hB hS => ?_)
  replace hw := hw _ rfl
  obtain ⟨fs57, hm58, hn59, hw⟩ := hw
  refine i_putF F hB hS in_X6 tyX6_ok nmX6 hm58 rfl 12 (by decide) q1235 rfl rfl hin rfl (ty := (.array .int)) rfl rfl rfl hn59 dX6_init_94 (fun H locs hB hS => ?_)
  replace hw := hw _ rfl
  refine lv_aload_n hx hb dX6_init_97 rfl (lv_at hl 0 rfl) ?_
  refine lv_bipush (v := 96) hx hb dX6_init_98 (by decide) ?_
  refine i_newa F hB hS (ty := .int) (t := 0) (n := 96) (N' := 96) (a0 := (96, .inl (fun _ => 0))) rfl q161 rfl (fun _ h => h) (fun _ => by rw [vp_cell_i]; rfl) (by decide) (by decide) (by decide) (by show 12 + 1 ≤ 18; omega) (by show 9598 + 96 ≤ 10066; omega) dX6_init_100 (fun H hB hS => ?_)
  replace hw := hw _ rfl
  obtain ⟨fs62, hm63, hn64, hw⟩ := hw
  refine i_putF F hB hS in_X6 tyX6_ok nmX6 hm63 rfl 13 (by decide) q1236 rfl rfl hin rfl (ty := (.array .int)) rfl rfl rfl hn64 dX6_init_102 (fun H locs hB hS => ?_)
  replace hw := hw _ rfl
  refine lv_aload_n hx hb dX6_init_105 rfl (lv_at hl 0 rfl) ?_
  refine lv_sipush (v := 128) hx hb dX6_init_106 (by decide) ?_
  refine i_newa F hB hS (ty := .int) (t := 0) (n := 128) (N' := 128) (a0 := (128, .inl (fun _ => 0))) rfl q161 rfl (fun _ h => h) (fun _ => by rw [vp_cell_i]; rfl) (by decide) (by decide) (by decide) (by show 13 + 1 ≤ 18; omega) (by show 9694 + 128 ≤ 10066; omega) dX6_init_109 (fun H hB hS => ?_)
  replace hw := hw _ rfl
  obtain ⟨fs67, hm68, hn69, hw⟩ := hw
  refine i_putF F hB hS in_X6 tyX6_ok nmX6 hm68 rfl 25 (by decide) q1248 rfl rfl hin rfl (ty := (.array .int)) rfl rfl rfl hn69 dX6_init_111 (fun H locs hB hS => ?_)
  replace hw := hw _ rfl
  refine lv_aload_n hx hb dX6_init_114 rfl (lv_at hl 0 rfl) ?_
  refine lv_bipush (v := 100) hx hb dX6_init_115 (by decide) ?_
  refine i_newa F hB hS (ty := .int) (t := 0) (n := 100) (N' := 100) (a0 := (100, .inl (fun _ => 0))) rfl q161 rfl (fun _ h => h) (fun _ => by rw [vp_cell_i]; rfl) (by decide) (by decide) (by decide) (by show 14 + 1 ≤ 18; omega) (by show 9822 + 100 ≤ 10066; omega) dX6_init_117 (fun H hB hS => ?_)
  replace hw := hw _ rfl
  obtain ⟨fs72, hm73, hn74, hw⟩ := hw
  refine i_putF F hB hS in_X6 tyX6_ok nmX6 hm73 rfl 26 (by decide) q1249 rfl rfl hin rfl (ty := (.array .int)) rfl rfl rfl hn74 dX6_init_119 (fun H locs hB hS => ?_)
  replace hw := hw _ rfl
  refine lv_aload_n hx hb dX6_init_122 rfl (lv_at hl 0 rfl) ?_
  refine lv_bipush (v := 24) hx hb dX6_init_123 (by decide) ?_
  refine i_newa F hB hS (ty := .int) (t := 0) (n := 24) (N' := 24) (a0 := (24, .inl (fun _ => 0))) rfl q161 rfl (fun _ h => h) (fun _ => by rw [vp_cell_i]; rfl) (by decide) (by decide) (by decide) (by show 15 + 1 ≤ 18; omega) (by show 9922 + 24 ≤ 10066; omega) dX6_init_125 (fun H hB hS => ?_)
  replace hw := hw _ rfl
  obtain ⟨fs77, hm78, hn79, hw⟩ := hw
  refine i_putF F hB hS in_X6 tyX6_ok nmX6 hm78 rfl 27 (by decide) q1250 rfl rfl hin rfl (ty := (.array .int)) rfl rfl rfl hn79 dX6_init_127 (fun H locs hB hS => ?_)
  replace hw := hw _ rfl
  refine lv_aload_n hx hb dX6_init_130 rfl (lv_at hl 0 rfl) ?_
  refine lv_bipush (v := 60) hx hb dX6_init_131 (by decide) ?_
  refine i_newa F hB hS (ty := .int) (t := 0) (n := 60) (N' := 60) (a0 := (60, .inl (fun _ => 0))) rfl q161 rfl (fun _ h => h) (fun _ => by rw [vp_cell_i]; rfl) (by decide) (by decide) (by decide) (by show 16 + 1 ≤ 18; omega) (by show 9946 + 60 ≤ 10066; omega) dX6_init_133 (fun H hB hS => ?_)
  replace hw := hw _ rfl
  obtain ⟨fs82, hm83, hn84, hw⟩ := hw
  refine i_putF F hB hS in_X6 tyX6_ok nmX6 hm83 rfl 28 (by decide) q1251 rfl rfl hin rfl (ty := (.array .int)) rfl rfl rfl hn84 dX6_init_135 (fun H locs hB hS => ?_)
  replace hw := hw _ rfl
  refine lv_aload_n hx hb dX6_init_138 rfl (lv_at hl 0 rfl) ?_
  refine lv_bipush (v := 60) hx hb dX6_init_139 (by decide) ?_
  refine i_newa F hB hS (ty := .int) (t := 0) (n := 60) (N' := 60) (a0 := (60, .inl (fun _ => 0))) rfl q161 rfl (fun _ h => h) (fun _ => by rw [vp_cell_i]; rfl) (by decide) (by decide) (by decide) (by show 17 + 1 ≤ 18; omega) (by show 10006 + 60 ≤ 10066; omega) dX6_init_141 (fun H hB hS => ?_)
  replace hw := hw _ rfl
  obtain ⟨fs87, hm88, hn89, hw⟩ := hw
  refine i_putF F hB hS in_X6 tyX6_ok nmX6 hm88 rfl 30 (by decide) q1253 rfl rfl hin rfl (ty := (.array .int)) rfl rfl rfl hn89 dX6_init_143 (fun H locs hB hS => ?_)
  replace hw := hw _ rfl
  refine lv_aload_n hx hb dX6_init_146 rfl (lv_at hl 0 rfl) ?_
  obtain ⟨fs91, r92, hm93, hv94, hw⟩ := hw
  refine i_get F hB in_X6 hm93 rfl 0 (by decide) q1223 rfl hv94 dX6_init_147 ?_
  refine lv_iconst (v := 3) hx hb dX6_init_150 (by decide) ?_
  refine lv_iconst (v := 2) hx hb dX6_init_151 (by decide) ?_
  obtain ⟨n95, f96, hm97, hin98, hw⟩ := hw
  refine i_iast F hB hS hm97 hin98 dX6_init_152 (fun H locs hB hS => ?_)
  replace hw := hw _ rfl
  refine lv_aload_n hx hb dX6_init_153 rfl (lv_at hl 0 rfl) ?_
  obtain ⟨fs100, r101, hm102, hv103, hw⟩ := hw
  refine i_get F hB in_X6 hm102 rfl 0 (by decide) q1223 rfl hv103 dX6_init_154 ?_
  refine lv_iconst (v := 4) hx hb dX6_init_157 (by decide) ?_
  refine lv_iconst (v := 1) hx hb dX6_init_158 (by decide) ?_
  obtain ⟨n104, f105, hm106, hin107, hw⟩ := hw
  refine i_iast F hB hS hm106 hin107 dX6_init_159 (fun H locs hB hS => ?_)
  replace hw := hw _ rfl
  refine lv_iconst (v := 0) hx hb dX6_init_160 (by decide) ?_
  refine lv_istore_n (lv' := [(1, .int (0 : Int32)), (0, .ref a0)]) hx hb dX6_init_161 rfl hl (by decide) rfl (fun ls hl => ?_)
  obtain ⟨f_162, hw⟩ := hw
  exact bX6c_init_162 F hin f_162 _ _ _ hw _ _ _ hB hS (lv_sub hl [1, 0] rfl)
set_option maxHeartbeats 4000000 in
theorem mX6c_init {l : Launch} {D : DD} {A : Nat → Prop} {s0 : State} {Z : MW} {a0 : Nat} {Q : MW → Prop} (hw : wX6c_init a0 Z Q) : Met l yX6_init (ws_ yX6_init cX6_init 2 (none)) rX6c_init (va_Pc [.ref a0] (fun U => iB D A Z U.heap ∧ CX l D A s0 U)) (va_Qv Q (fun u t => iB D A u t.heap) A) 18 10066 A := by
  refine Met.ofW (cc := cX6_init) (maxL := 2) (ret := none) (by decide) rfl ?_
  intro p e s m args below meth c s₁ B hml hv
  obtain ⟨rfl, hB, hC⟩ := hv
  have F : FX p l c cX6_init s _ m RX6 D A s0 2 meth (none) := ⟨mk_FP B hml rfl, hC⟩
  have hS : va_S A s.heap s.heap [] := va_S.rf
  have hin : meth.name = "<init>" := (name_of_methodNamed B.named B.method).1
  have hl := lv_entry ([.ref a0]) (n := 2) (Nat.le_of_ble_eq_true rfl)
  rw [lg_entry_eq]
  generalize (lg_sl ([.ref a0]) ++ List.replicate (2 - (lg_sl ([.ref a0])).length) Slot.unset).toArray = ls at hl ⊢
  exact bX6c_init_0 F hin hB hS hw hl
