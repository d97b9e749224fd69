set_option maxRecDepth 100000
def rJ4_isLatin1 : Room := { frames := 0, cells := 0, slots := 0, locals := 0 }
set_option maxHeartbeats 4000000 in
theorem bJ4_isLatin1_0 {p : Program} {l : Launch} {e : Env} {s : State} {m : MethodId} {args : Array Value} {below : List Frame} {meth : Method} {c : Code} {D : DD} {A : Nat → Prop} {s0 : State} {ad : AD} {Q : Int32 → CV → Prop} {a0 : Nat} {V : CV} {H : Heap} {locs : List Loc} {ls : Array Slot} (F : FX p l c cJ4_isLatin1 s args m RJ4 D A s0 1 meth (some .boolean)) (hB : cB D A ad V H) (hS : va_S A s.heap H locs) (hw : wJ4_isLatin1 a0 V Q) (hl : lv_has ls 1 [(0, .ref (sK s0 a0))]) : W p l e rJ4_isLatin1 s m args below meth c H locs 0 0 (MQ below (va_Qi Q (fun u t => cB D A ad u t.heap) A) args s 0 0 A) (F0 m 0 ls []) := by
  have hx := F.1.x
  have hb := F.1.b
  unfold wJ4_isLatin1 at hw
  obtain ⟨g_a0, hw⟩ := hw
  refine va_gets hx hb F.2.compact hS F.1.o (F.1.t _ q432) (fun _ h => h) dJ4_isLatin1_0 ?_
  refine lv_if_eq (tgt := 17) hx hb dJ4_isLatin1_3 (by decide) (fun q => ?_) (fun q => ?_)
  · replace hw := hw.1 q
    refine lv_iconst (v := 0) hx hb dJ4_isLatin1_17 (by decide) ?_
    exact W.zret hx hb F.1.r rfl (fun t ht hW => ⟨⟨_, _, rfl, hw, x_B (Bw := cB D A ad) ht hB⟩, hS.F ht⟩) hS.2.2 dJ4_isLatin1_18 (hlocks := F.1.k)
  · replace hw := hw.2 q
    refine lv_aload_n hx hb dJ4_isLatin1_6 rfl (lv_at hl 0 rfl) ?_
    refine vk_getf hx hb (F.2.str.1 _ g_a0).2.1 hS F.1.o (F.1.t _ q1727) (fun _ h => h) dJ4_isLatin1_7 ?_
    refine lv_if_ne (tgt := 17) hx hb dJ4_isLatin1_10 (by decide) (fun q => ?_) (fun q => ?_)
    · replace hw := hw.2 q
      refine lv_iconst (v := 0) hx hb dJ4_isLatin1_17 (by decide) ?_
      exact W.zret hx hb F.1.r rfl (fun t ht hW => ⟨⟨_, _, rfl, hw, x_B (Bw := cB D A ad) ht hB⟩, hS.F ht⟩) hS.2.2 dJ4_isLatin1_18 (hlocks := F.1.k)
    · replace hw := hw.1 q
      refine lv_iconst (v := 1) hx hb dJ4_isLatin1_13 (by decide) ?_
      refine lv_goto (tgt := 18) hx hb dJ4_isLatin1_14 (by decide) ?_
      exact W.zret hx hb F.1.r rfl (fun t ht hW => ⟨⟨_, _, rfl, hw, x_B (Bw := cB D A ad) ht hB⟩, hS.F ht⟩) hS.2.2 dJ4_isLatin1_18 (hlocks := F.1.k)
set_option maxHeartbeats 4000000 in
theorem mJ4_isLatin1 {l : Launch} {D : DD} {A : Nat → Prop} {s0 : State} {ad : AD} {V : CV} {a0 : Nat} {Q : Int32 → CV → Prop} (hw : wJ4_isLatin1 a0 V Q) : Met l yJ4_isLatin1 (ws_ yJ4_isLatin1 cJ4_isLatin1 1 (some .boolean)) rJ4_isLatin1 (va_Pc [.ref (sK s0 a0)] (fun U => cB D A ad V U.heap ∧ CX l D A s0 U)) (va_Qi Q (fun u t => cB D A ad u t.heap) A) 0 0 A := by
  refine Met.ofW (cc := cJ4_isLatin1) (maxL := 1) (ret := some .boolean) (by decide) rfl ?_
  intro p e s m args below meth c s₁ B hml hv
  obtain ⟨rfl, hB, hC⟩ := hv
  have F : FX p l c cJ4_isLatin1 s _ m RJ4 D A s0 1 meth (some .boolean) := ⟨mk_FP B hml rfl, hC⟩
  have hS : va_S A s.heap s.heap [] := va_S.rf
  have hl := lv_entry ([.ref (sK s0 a0)]) (n := 1) (Nat.le_of_ble_eq_true rfl)
  rw [lg_entry_eq]
  generalize (lg_sl ([.ref (sK s0 a0)]) ++ List.replicate (1 - (lg_sl ([.ref (sK s0 a0)])).length) Slot.unset).toArray = ls at hl ⊢
  exact bJ4_isLatin1_0 F hB hS hw hl
theorem kJ4_J4_isLatin1 {p : Program} {l : Launch} {e : Env} {R : Room} {s : State} {m : MethodId} {args : Array Value} {below : List Frame} {meth : Method} {c : Code} {H : Heap} {locs : List Loc} {cells slots : Nat} {Q0 : State → Prop} {cc : ByteArray} {pc nL : Nat} {ls : Array Slot} {rest : List Value} {ret : Option FieldType} {D : DD} {A : Nat → Prop} {s0 : State} {ad : AD} {V : CV} {a0 : Nat} {Q : Int32 → CV → Prop} (F : FX p l c cc s args m RJ4 D A s0 nL meth ret) (hB : cB D A ad V H) (hS : va_S A s.heap H locs) (hw : wJ4_isLatin1 a0 V Q) (hR : rJ4_isLatin1.frames + 1 ≤ R.frames ∧ 8 + (1 + 11) + rJ4_isLatin1.locals ≤ R.locals) (hc : cells + 0 ≤ R.cells ∧ slots + 0 ≤ R.slots) (hsz : ls.size = nL) (hW : (rest.map fun v => v.category).sum ≤ 8) (hdg : decode cc pc = .ok (.invokevirtual 492, 3)) (kk : ∀ (r : Int32) (u : CV) (H1 : Heap) (locs1 : List Loc), Q r u → cB D A ad u H1 → va_S A s.heap H1 locs1 → W p l e R s m args below meth c H1 locs1 cells slots Q0 (F0 m (pc + 3) ls (.int r :: rest))) : W p l e R s m args below meth c H locs cells slots Q0 (F0 m pc ls (.ref (sK s0 a0) :: rest)) :=
  k_i (Bw := cB D A ad) (k_runV (Bw := cB D A ad) (n := 0) (As := []) F hB hS (vk_recv F.2.str hw.1 hS) (mJ4_isLatin1 hw) q438 q439 q440 q101 q441 (by decide +kernel) hR ⟨rfl, rfl⟩ hc rfl hsz rfl hW hdg) hS kk
def rJ8_checkIndex : Room := { frames := 0, cells := 0, slots := 0, locals := 0 }
set_option maxHeartbeats 4000000 in
theorem bJ8_checkIndex_9 {p : Program} {l : Launch} {e : Env} {s : State} {m : MethodId} {args : Array Value} {below : List Frame} {meth : Method} {c : Code} {D : DD} {A : Nat → Prop} {s0 : State} {ad : AD} {Q : Int32 → CV → Prop} {l0 : Int32} {l1 : Int32} {l2 : Option Nat} {V : CV} {H : Heap} {locs : List Loc} {ls : Array Slot} (F : FX p l c cJ8_checkIndex s args m RJ8 D A s0 3 meth (some .int)) (hB : cB D A ad V H) (hS : va_S A s.heap H locs) (hw : wJ8_checkIndex_9 l0 l1 l2 V Q) (hl : lv_has ls 3 [(0, .int l0), (1, .int l1), (2, va_rf l2)]) : W p l e rJ8_checkIndex s m args below meth c H locs 0 0 (MQ below (va_Qi Q (fun u t => cB D A ad u t.heap) A) args s 0 0 A) (F0 m 9 ls []) := by
  have hx := F.1.x
  have hb := F.1.b
  unfold wJ8_checkIndex_9 at hw
  exact hw.elim
set_option maxHeartbeats 4000000 in
theorem bJ8_checkIndex_0 {p : Program} {l : Launch} {e : Env} {s : State} {m : MethodId} {args : Array Value} {below : List Frame} {meth : Method} {c : Code} {D : DD} {A : Nat → Prop} {s0 : State} {ad : AD} {Q : Int32 → CV → Prop} {a0 : Int32} {a1 : Int32} {a2 : Option Nat} {V : CV} {H : Heap} {locs : List Loc} {ls : Array Slot} (F : FX p l c cJ8_checkIndex s args m RJ8 D A s0 3 meth (some .int)) (hB : cB D A ad V H) (hS : va_S A s.heap H locs) (hw : wJ8_checkIndex a0 a1 a2 V Q) (hl : lv_has ls 3 [(0, .int a0), (1, .int a1), (2, va_rf a2)]) : W p l e rJ8_checkIndex s m args below meth c H locs 0 0 (MQ below (va_Qi Q (fun u t => cB D A ad u t.heap) A) args s 0 0 A) (F0 m 0 ls []) := by
  have hx := F.1.x
  have hb := F.1.b
  unfold wJ8_checkIndex at hw
  refine lv_iload_n hx hb dJ8_checkIndex_0 rfl (lv_at hl 0 rfl) ?_
  refine lv_if_lt (tgt := 9) hx hb dJ8_checkIndex_1 (by decide) (fun q => ?_) (fun q => ?_)
  · replace hw := hw.1 q
    exact bJ8_checkIndex_9 F hB hS hw hl
  · replace hw := hw.2 q
    refine lv_iload_n hx hb dJ8_checkIndex_4 rfl (lv_at hl 0 rfl) ?_
    refine lv_iload_n hx hb dJ8_checkIndex_5 rfl (lv_at hl 1 rfl) ?_
    refine lv_icmp_lt (tgt := 16) hx hb dJ8_checkIndex_6 (by decide) (fun q => ?_) (fun q => ?_)
    · replace hw := hw.1 q
      refine lv_iload_n hx hb dJ8_checkIndex_16 rfl (lv_at hl 0 rfl) ?_
      exact W.iret hx hb F.1.r (fun t ht hW => ⟨⟨_, _, rfl, hw, x_B (Bw := cB D A ad) ht hB⟩, hS.F ht⟩) hS.2.2 dJ8_checkIndex_17 (hlocks := F.1.k)
    · replace hw := hw.2 q
      exact bJ8_checkIndex_9 F hB hS hw hl
set_option maxHeartbeats 4000000 in
theorem mJ8_checkIndex {l : Launch} {D : DD} {A : Nat → Prop} {s0 : State} {ad : AD} {V : CV} {a0 : Int32} {a1 : Int32} {a2 : Option Nat} {Q : Int32 → CV → Prop} (hw : wJ8_checkIndex a0 a1 a2 V Q) : Met l yJ8_checkIndex (ws_ yJ8_checkIndex cJ8_checkIndex 3 (some .int)) rJ8_checkIndex (va_Pc [.int a0, .int a1, va_rf a2] (fun U => cB D A ad V U.heap ∧ CX l D A s0 U)) (va_Qi Q (fun u t => cB D A ad u t.heap) A) 0 0 A := by
  refine Met.ofW (cc := cJ8_checkIndex) (maxL := 3) (ret := some .int) (by decide) rfl ?_
  intro p e s m args below meth c s₁ B hml hv
  obtain ⟨rfl, hB, hC⟩ := hv
  have F : FX p l c cJ8_checkIndex s _ m RJ8 D A s0 3 meth (some .int) := ⟨mk_FP B hml rfl, hC⟩
  have hS : va_S A s.heap s.heap [] := va_S.rf
  have hl := lv_entry ([.int a0, .int a1, va_rf a2]) (n := 3) (by cases a2 <;> exact Nat.le_of_ble_eq_true rfl)
  rw [lg_entry_eq]
  generalize (lg_sl ([.int a0, .int a1, va_rf a2]) ++ List.replicate (3 - (lg_sl ([.int a0, .int a1, va_rf a2])).length) Slot.unset).toArray = ls at hl ⊢
  exact bJ8_checkIndex_0 F hB hS hw hl
theorem kJ4_J8_checkIndex {p : Program} {l : Launch} {e : Env} {R : Room} {s : State} {m : MethodId} {args : Array Value} {below : List Frame} {meth : Method} {c : Code} {H : Heap} {locs : List Loc} {cells slots : Nat} {Q0 : State → Prop} {cc : ByteArray} {pc nL : Nat} {ls : Array Slot} {rest : List Value} {ret : Option FieldType} {D : DD} {A : Nat → Prop} {s0 : State} {ad : AD} {V : CV} {a0 : Int32} {a1 : Int32} {a2 : Option Nat} {Q : Int32 → CV → Prop} (F : FX p l c cc s args m RJ4 D A s0 nL meth ret) (hB : cB D A ad V H) (hS : va_S A s.heap H locs) (hw : wJ8_checkIndex a0 a1 a2 V Q) (hR : rJ8_checkIndex.frames + 1 ≤ R.frames ∧ 8 + (3 + 11) + rJ8_checkIndex.locals ≤ R.locals) (hc : cells + 0 ≤ R.cells ∧ slots + 0 ≤ R.slots) (hsz : ls.size = nL) (hW : (rest.map fun v => v.category).sum ≤ 8) (hdg : decode cc pc = .ok (.invokestatic 1059, 3)) (kk : ∀ (r : Int32) (u : CV) (H1 : Heap) (locs1 : List Loc), Q r u → cB D A ad u H1 → va_S A s.heap H1 locs1 → W p l e R s m args below meth c H1 locs1 cells slots Q0 (F0 m (pc + 3) ls (.int r :: rest))) : W p l e R s m args below meth c H locs cells slots Q0 (F0 m pc ls (va_rf a2 :: .int a1 :: .int a0 :: rest)) :=
  k_i (Bw := cB D A ad) (k_runS (Bw := cB D A ad) (n := 3) (As := [.int a0, .int a1, va_rf a2]) F hB hS (mJ8_checkIndex hw) q450 q451 q105 q452 (by decide +kernel) hR ⟨rfl, rfl⟩ hc rfl hsz rfl hW hdg) hS kk
def rJ4_checkIndex : Room := { frames := 1, cells := 0, slots := 0, locals := 22 }
set_option maxHeartbeats 4000000 in
theorem bJ4_checkIndex_0 {p : Program} {l : Launch} {e : Env} {s : State} {m : MethodId} {args : Array Value} {below : List Frame} {meth : Method} {c : Code} {D : DD} {A : Nat → Prop} {s0 : State} {ad : AD} {Q : CV → Prop} {a0 : Int32} {a1 : Int32} {V : CV} {H : Heap} {locs : List Loc} {ls : Array Slot} (F : FX p l c cJ4_checkIndex s args m RJ4 D A s0 2 meth (none)) (hB : cB D A ad V H) (hS : va_S A s.heap H locs) (hw : wJ4_checkIndex a0 a1 V Q) (hl : lv_has ls 2 [(0, .int a0), (1, .int a1)]) : W p l e rJ4_checkIndex s m args below meth c H locs 0 0 (MQ below (va_Qv Q (fun u t => cB D A ad u t.heap) A) args s 0 0 A) (F0 m 0 ls []) := by
  have hx := F.1.x
  have hb := F.1.b
  unfold wJ4_checkIndex at hw
  refine lv_iload_n hx hb dJ4_checkIndex_0 rfl (lv_at hl 0 rfl) ?_
  refine lv_iload_n hx hb dJ4_checkIndex_1 rfl (lv_at hl 1 rfl) ?_
  obtain ⟨y1, hy2⟩ := F.2.fmt
  replace hw := hw y1
  refine va_gets hx hb hy2 hS F.1.o (F.1.t _ q448) (fun _ h => h) dJ4_checkIndex_2 ?_
  refine kJ4_J8_checkIndex F hB hS hw ⟨Nat.le_of_ble_eq_true rfl, Nat.le_of_ble_eq_true rfl⟩ ⟨Nat.zero_le _, Nat.zero_le _⟩ hl.1 (Nat.le_of_ble_eq_true rfl) dJ4_checkIndex_5 (fun r3 V4 H locs hw hB hS => ?_)
  refine lv_pop hx hb dJ4_checkIndex_8 rfl ?_
  exact W.vret hx hb F.1.r (fun t ht hW => ⟨⟨_, rfl, hw, x_B (Bw := cB D A ad) ht hB⟩, hS.F ht⟩) hS.2.2 dJ4_checkIndex_9 (hlocks := F.1.k)
set_option maxHeartbeats 4000000 in
theorem mJ4_checkIndex {l : Launch} {D : DD} {A : Nat → Prop} {s0 : State} {ad : AD} {V : CV} {a0 : Int32} {a1 : Int32} {Q : CV → Prop} (hw : wJ4_checkIndex a0 a1 V Q) : Met l yJ4_checkIndex (ws_ yJ4_checkIndex cJ4_checkIndex 2 (none)) rJ4_checkIndex (va_Pc [.int a0, .int a1] (fun U => cB D A ad V U.heap ∧ CX l D A s0 U)) (va_Qv Q (fun u t => cB D A ad u t.heap) A) 0 0 A := by
  refine Met.ofW (cc := cJ4_checkIndex) (maxL := 2) (ret := none) (by decide) rfl ?_
  intro p e s m args below meth c s₁ B hml hv
  obtain ⟨rfl, hB, hC⟩ := hv
  have F : FX p l c cJ4_checkIndex s _ m RJ4 D A s0 2 meth (none) := ⟨mk_FP B hml rfl, hC⟩
  have hS : va_S A s.heap s.heap [] := va_S.rf
  have hl := lv_entry ([.int a0, .int a1]) (n := 2) (Nat.le_of_ble_eq_true rfl)
  rw [lg_entry_eq]
  generalize (lg_sl ([.int a0, .int a1]) ++ List.replicate (2 - (lg_sl ([.int a0, .int a1])).length) Slot.unset).toArray = ls at hl ⊢
  exact bJ4_checkIndex_0 F hB hS hw hl
theorem kJ7_J4_checkIndex {p : Program} {l : Launch} {e : Env} {R : Room} {s : State} {m : MethodId} {args : Array Value} {below : List Frame} {meth : Method} {c : Code} {H : Heap} {locs : List Loc} {cells slots : Nat} {Q0 : State → Prop} {cc : ByteArray} {pc nL : Nat} {ls : Array Slot} {rest : List Value} {ret : Option FieldType} {D : DD} {A : Nat → Prop} {s0 : State} {ad : AD} {V : CV} {a0 : Int32} {a1 : Int32} {Q : CV → Prop} (F : FX p l c cc s args m RJ7 D A s0 nL meth ret) (hB : cB D A ad V H) (hS : va_S A s.heap H locs) (hw : wJ4_checkIndex a0 a1 V Q) (hR : rJ4_checkIndex.frames + 1 ≤ R.frames ∧ 8 + (2 + 11) + rJ4_checkIndex.locals ≤ R.locals) (hc : cells + 0 ≤ R.cells ∧ slots + 0 ≤ R.slots) (hsz : ls.size = nL) (hW : (rest.map fun v => v.category).sum ≤ 8) (hdg : decode cc pc = .ok (.invokestatic 9, 3)) (kk : ∀ (u : CV) (H1 : Heap) (locs1 : List Loc), Q u → cB D A ad u H1 → va_S A s.heap H1 locs1 → W p l e R s m args below meth c H1 locs1 cells slots Q0 (F0 m (pc + 3) ls (rest))) : W p l e R s m args below meth c H locs cells slots Q0 (F0 m pc ls (.int a1 :: .int a0 :: rest)) :=
  k_v (Bw := cB D A ad) (k_runS (Bw := cB D A ad) (n := 2) (As := [.int a0, .int a1]) F hB hS (mJ4_checkIndex hw) q445 q446 q101 q447 (by decide +kernel) hR ⟨rfl, rfl⟩ hc rfl hsz rfl hW hdg) hS kk
theorem kJ9_J4_checkIndex {p : Program} {l : Launch} {e : Env} {R : Room} {s : State} {m : MethodId} {args : Array Value} {below : List Frame} {meth : Method} {c : Code} {H : Heap} {locs : List Loc} {cells slots : Nat} {Q0 : State → Prop} {cc : ByteArray} {pc nL : Nat} {ls : Array Slot} {rest : List Value} {ret : Option FieldType} {D : DD} {A : Nat → Prop} {s0 : State} {ad : AD} {V : CV} {a0 : Int32} {a1 : Int32} {Q : CV → Prop} (F : FX p l c cc s args m RJ9 D A s0 nL meth ret) (hB : cB D A ad V H) (hS : va_S A s.heap H locs) (hw : wJ4_checkIndex a0 a1 V Q) (hR : rJ4_checkIndex.frames + 1 ≤ R.frames ∧ 8 + (2 + 11) + rJ4_checkIndex.locals ≤ R.locals) (hc : cells + 0 ≤ R.cells ∧ slots + 0 ≤ R.slots) (hsz : ls.size = nL) (hW : (rest.map fun v => v.category).sum ≤ 8) (hdg : decode cc pc = .ok (.invokestatic 414, 3)) (kk : ∀ (u : CV) (H1 : Heap) (locs1 : List Loc), Q u → cB D A ad u H1 → va_S A s.heap H1 locs1 → W p l e R s m args below meth c H1 locs1 cells slots Q0 (F0 m (pc + 3) ls (rest))) : W p l e R s m args below meth c H locs cells slots Q0 (F0 m pc ls (.int a1 :: .int a0 :: rest)) :=
  k_v (Bw := cB D A ad) (k_runS (Bw := cB D A ad) (n := 2) (As := [.int a0, .int a1]) F hB hS (mJ4_checkIndex hw) q462 q446 q101 q447 (by decide +kernel) hR ⟨rfl, rfl⟩ hc rfl hsz rfl hW hdg) hS kk
def rJ7_charAt : Room := { frames := 2, cells := 0, slots := 0, locals := 43 }
set_option maxHeartbeats 4000000 in
theorem bJ7_charAt_0 {p : Program} {l : Launch} {e : Env} {s : State} {m : MethodId} {args : Array Value} {below : List Frame} {meth : Method} {c : Code} {D : DD} {A : Nat → Prop} {s0 : State} {ad : AD} {Q : Int32 → CV → Prop} {a0 : Nat} {a1 : Int32} {V : CV} {H : Heap} {locs : List Loc} {ls : Array Slot} (F : FX p l c cJ7_charAt s args m RJ7 D A s0 2 meth (some .char)) (hB : cB D A ad V H) (hS : va_S A s.heap H locs) (hw : wJ7_charAt a0 a1 V Q) (hl : lv_has ls 2 [(0, .ref (sV s0 a0)), (1, .int a1)]) : W p l e rJ7_charAt s m args below meth c H locs 0 0 (MQ below (va_Qi Q (fun u t => cB D A ad u t.heap) A) args s 0 0 A) (F0 m 0 ls []) := by
  have hx := F.1.x
  have hb := F.1.b
  unfold wJ7_charAt at hw
  obtain ⟨g_a0, hw⟩ := hw
  refine lv_iload_n hx hb dJ7_charAt_0 rfl (lv_at hl 1 rfl) ?_
  refine lv_aload_n hx hb dJ7_charAt_1 rfl (lv_at hl 0 rfl) ?_
  refine va_tlen hx hb (F.2.str.1 _ g_a0).2.2.2 hS rfl dJ7_charAt_2 ?_
  refine kJ7_J4_checkIndex F hB hS hw ⟨Nat.le_of_ble_eq_true rfl, Nat.le_of_ble_eq_true rfl⟩ ⟨Nat.zero_le _, Nat.zero_le _⟩ hl.1 (Nat.le_of_ble_eq_true rfl) dJ7_charAt_3 (fun V2 H locs hw hB hS => ?_)
  refine lv_aload_n hx hb dJ7_charAt_6 rfl (lv_at hl 0 rfl) ?_
  refine lv_iload_n hx hb dJ7_charAt_7 rfl (lv_at hl 1 rfl) ?_
  obtain ⟨hin3, hw⟩ := hw
  refine va_tb hx hb (F.2.str.1 _ g_a0).2.2.2 hS hin3 rfl dJ7_charAt_8 ?_
  refine lv_sipush (v := 255) hx hb dJ7_charAt_9 (by decide) ?_
  refine lv_iand hx hb dJ7_charAt_12 ?_
  refine lv_i2c hx hb dJ7_charAt_13 rfl ?_
  obtain ⟨hn, hw⟩ := hw
  exact W.zret hx hb F.1.r hn (fun t ht hW => ⟨⟨_, _, rfl, hw, x_B (Bw := cB D A ad) ht hB⟩, hS.F ht⟩) hS.2.2 dJ7_charAt_14 (hlocks := F.1.k)
set_option maxHeartbeats 4000000 in
theorem mJ7_charAt {l : Launch} {D : DD} {A : Nat → Prop} {s0 : State} {ad : AD} {V : CV} {a0 : Nat} {a1 : Int32} {Q : Int32 → CV → Prop} (hw : wJ7_charAt a0 a1 V Q) : Met l yJ7_charAt (ws_ yJ7_charAt cJ7_charAt 2 (some .char)) rJ7_charAt (va_Pc [.ref (sV s0 a0), .int a1] (fun U => cB D A ad V U.heap ∧ CX l D A s0 U)) (va_Qi Q (fun u t => cB D A ad u t.heap) A) 0 0 A := by
  refine Met.ofW (cc := cJ7_charAt) (maxL := 2) (ret := some .char) (by decide) rfl ?_
  intro p e s m args below meth c s₁ B hml hv
  obtain ⟨rfl, hB, hC⟩ := hv
  have F : FX p l c cJ7_charAt s _ m RJ7 D A s0 2 meth (some .char) := ⟨mk_FP B hml rfl, hC⟩
  have hS : va_S A s.heap s.heap [] := va_S.rf
  have hl := lv_entry ([.ref (sV s0 a0), .int a1]) (n := 2) (Nat.le_of_ble_eq_true rfl)
  rw [lg_entry_eq]
  generalize (lg_sl ([.ref (sV s0 a0), .int a1]) ++ List.replicate (2 - (lg_sl ([.ref (sV s0 a0), .int a1])).length) Slot.unset).toArray = ls at hl ⊢
  exact bJ7_charAt_0 F hB hS hw hl
theorem kJ4_J7_charAt {p : Program} {l : Launch} {e : Env} {R : Room} {s : State} {m : MethodId} {args : Array Value} {below : List Frame} {meth : Method} {c : Code} {H : Heap} {locs : List Loc} {cells slots : Nat} {Q0 : State → Prop} {cc : ByteArray} {pc nL : Nat} {ls : Array Slot} {rest : List Value} {ret : Option FieldType} {D : DD} {A : Nat → Prop} {s0 : State} {ad : AD} {V : CV} {a0 : Nat} {a1 : Int32} {Q : Int32 → CV → Prop} (F : FX p l c cc s args m RJ4 D A s0 nL meth ret) (hB : cB D A ad V H) (hS : va_S A s.heap H locs) (hw : wJ7_charAt a0 a1 V Q) (hR : rJ7_charAt.frames + 1 ≤ R.frames ∧ 8 + (2 + 11) + rJ7_charAt.locals ≤ R.locals) (hc : cells + 0 ≤ R.cells ∧ slots + 0 ≤ R.slots) (hsz : ls.size = nL) (hW : (rest.map fun v => v.category).sum ≤ 8) (hdg : decode cc pc = .ok (.invokestatic 495, 3)) (kk : ∀ (r : Int32) (u : CV) (H1 : Heap) (locs1 : List Loc), Q r u → cB D A ad u H1 → va_S A s.heap H1 locs1 → W p l e R s m args below meth c H1 locs1 cells slots Q0 (F0 m (pc + 3) ls (.int r :: rest))) : W p l e R s m args below meth c H locs cells slots Q0 (F0 m pc ls (.int a1 :: .ref (sV s0 a0) :: rest)) :=
  k_i (Bw := cB D A ad) (k_runS (Bw := cB D A ad) (n := 2) (As := [.ref (sV s0 a0), .int a1]) F hB hS (mJ7_charAt hw) q442 q443 q104 q444 (by decide +kernel) hR ⟨rfl, rfl⟩ hc rfl hsz rfl hW hdg) hS kk
def rJ4_charAt : Room := { frames := 3, cells := 0, slots := 0, locals := 64 }
set_option maxHeartbeats 4000000 in
theorem bJ4_charAt_0 {p : Program} {l : Launch} {e : Env} {s : State} {m : MethodId} {args : Array Value} {below : List Frame} {meth : Method} {c : Code} {D : DD} {A : Nat → Prop} {s0 : State} {ad : AD} {Q : Int32 → CV → Prop} {a0 : Nat} {a1 : Int32} {V : CV} {H : Heap} {locs : List Loc} {ls : Array Slot} (F : FX p l c cJ4_charAt s args m RJ4 D A s0 2 meth (some .char)) (hB : cB D A ad V H) (hS : va_S A s.heap H locs) (hw : wJ4_charAt a0 a1 V Q) (hl : lv_has ls 2 [(0, .ref (sK s0 a0)), (1, .int a1)]) : W p l e rJ4_charAt s m args below meth c H locs 0 0 (MQ below (va_Qi Q (fun u t => cB D A ad u t.heap) A) args s 0 0 A) (F0 m 0 ls []) := by
  have hx := F.1.x
  have hb := F.1.b
  unfold wJ4_charAt at hw
  obtain ⟨g_a0, hw⟩ := hw
  refine lv_aload_n hx hb dJ4_charAt_0 rfl (lv_at hl 0 rfl) ?_
  refine kJ4_J4_isLatin1 F hB hS hw ⟨Nat.le_of_ble_eq_true rfl, Nat.le_of_ble_eq_true rfl⟩ ⟨Nat.zero_le _, Nat.zero_le _⟩ hl.1 (Nat.le_of_ble_eq_true rfl) dJ4_charAt_1 (fun r1 V2 H locs hw hB hS => ?_)
  refine lv_if_eq (tgt := 16) hx hb dJ4_charAt_4 (by decide) (fun q => ?_) (fun q => ?_)
  · replace hw := hw.1 q
    exact hw.elim
  · replace hw := hw.2 q
    refine lv_aload_n hx hb dJ4_charAt_7 rfl (lv_at hl 0 rfl) ?_
    refine vk_getf hx hb (F.2.str.1 _ g_a0).2.2.1 hS F.1.o (F.1.t _ q1726) (fun _ h => h) dJ4_charAt_8 ?_
    refine lv_iload_n hx hb dJ4_charAt_11 rfl (lv_at hl 1 rfl) ?_
    refine kJ4_J7_charAt F hB hS hw ⟨Nat.le_of_ble_eq_true rfl, Nat.le_of_ble_eq_true rfl⟩ ⟨Nat.zero_le _, Nat.zero_le _⟩ hl.1 (Nat.le_of_ble_eq_true rfl) dJ4_charAt_12 (fun r3 V4 H locs hw hB hS => ?_)
    obtain ⟨hn, hw⟩ := hw
    exact W.zret hx hb F.1.r hn (fun t ht hW => ⟨⟨_, _, rfl, hw, x_B (Bw := cB D A ad) ht hB⟩, hS.F ht⟩) hS.2.2 dJ4_charAt_15 (hlocks := F.1.k)
set_option maxHeartbeats 4000000 in
theorem mJ4_charAt {l : Launch} {D : DD} {A : Nat → Prop} {s0 : State} {ad : AD} {V : CV} {a0 : Nat} {a1 : Int32} {Q : Int32 → CV → Prop} (hw : wJ4_charAt a0 a1 V Q) : Met l yJ4_charAt (ws_ yJ4_charAt cJ4_charAt 2 (some .char)) rJ4_charAt (va_Pc [.ref (sK s0 a0), .int a1] (fun U => cB D A ad V U.heap ∧ CX l D A s0 U)) (va_Qi Q (fun u t => cB D A ad u t.heap) A) 0 0 A := by
  refine Met.ofW (cc := cJ4_charAt) (maxL := 2) (ret := some .char) (by decide) rfl ?_
  intro p e s m args below meth c s₁ B hml hv
  obtain ⟨rfl, hB, hC⟩ := hv
  have F : FX p l c cJ4_charAt s _ m RJ4 D A s0 2 meth (some .char) := ⟨mk_FP B hml rfl, hC⟩
  have hS : va_S A s.heap s.heap [] := va_S.rf
  have hl := lv_entry ([.ref (sK s0 a0), .int a1]) (n := 2) (Nat.le_of_ble_eq_true rfl)
  rw [lg_entry_eq]
  generalize (lg_sl ([.ref (sK s0 a0), .int a1]) ++ List.replicate (2 - (lg_sl ([.ref (sK s0 a0), .int a1])).length) Slot.unset).toArray = ls at hl ⊢
  exact bJ4_charAt_0 F hB hS hw hl
theorem kX0_J4_charAt {p : Program} {l : Launch} {e : Env} {R : Room} {s : State} {m : MethodId} {args : Array Value} {below : List Frame} {meth : Method} {c : Code} {H : Heap} {locs : List Loc} {cells slots : Nat} {Q0 : State → Prop} {cc : ByteArray} {pc nL : Nat} {ls : Array Slot} {rest : List Value} {ret : Option FieldType} {D : DD} {A : Nat → Prop} {s0 : State} {ad : AD} {V : CV} {a0 : Nat} {a1 : Int32} {Q : Int32 → CV → Prop} (F : FX p l c cc s args m RX0 D A s0 nL meth ret) (hB : cB D A ad V H) (hS : va_S A s.heap H locs) (hw : wJ4_charAt a0 a1 V Q) (hR : rJ4_charAt.frames + 1 ≤ R.frames ∧ 8 + (2 + 11) + rJ4_charAt.locals ≤ R.locals) (hc : cells + 0 ≤ R.cells ∧ slots + 0 ≤ R.slots) (hsz : ls.size = nL) (hW : (rest.map fun v => v.category).sum ≤ 8) (hdg : decode cc pc = .ok (.invokevirtual 164, 3)) (kk : ∀ (r : Int32) (u : CV) (H1 : Heap) (locs1 : List Loc), Q r u → cB D A ad u H1 → va_S A s.heap H1 locs1 → W p l e R s m args below meth c H1 locs1 cells slots Q0 (F0 m (pc + 3) ls (.int r :: rest))) : W p l e R s m args below meth c H locs cells slots Q0 (F0 m pc ls (.int a1 :: .ref (sK s0 a0) :: rest)) :=
  k_i (Bw := cB D A ad) (k_runV (Bw := cB D A ad) (n := 1) (As := [.int a1]) F hB hS (vk_recv F.2.str hw.1 hS) (mJ4_charAt hw) q434 q435 q436 q101 q437 (by decide +kernel) hR ⟨rfl, rfl⟩ hc rfl hsz rfl hW hdg) hS kk
def rJ4_coder : Room := { frames := 0, cells := 0, slots := 0, locals := 0 }
set_option maxHeartbeats 4000000 in
theorem bJ4_coder_0 {p : Program} {l : Launch} {e : Env} {s : State} {m : MethodId} {args : Array Value} {below : List Frame} {meth : Method} {c : Code} {D : DD} {A : Nat → Prop} {s0 : State} {ad : AD} {Q : Int32 → CV → Prop} {a0 : Nat} {V : CV} {H : Heap} {locs : List Loc} {ls : Array Slot} (F : FX p l c cJ4_coder s args m RJ4 D A s0 1 meth (some .byte)) (hB : cB D A ad V H) (hS : va_S A s.heap H locs) (hw : wJ4_coder a0 V Q) (hl : lv_has ls 1 [(0, .ref (sK s0 a0))]) : W p l e rJ4_coder s m args below meth c H locs 0 0 (MQ below (va_Qi Q (fun u t => cB D A ad u t.heap) A) args s 0 0 A) (F0 m 0 ls []) := by
  have hx := F.1.x
  have hb := F.1.b
  unfold wJ4_coder at hw
  obtain ⟨g_a0, hw⟩ := hw
  refine va_gets hx hb F.2.compact hS F.1.o (F.1.t _ q432) (fun _ h => h) dJ4_coder_0 ?_
  refine lv_if_eq (tgt := 13) hx hb dJ4_coder_3 (by decide) (fun q => ?_) (fun q => ?_)
  · replace hw := hw.1 q
    refine lv_iconst (v := 1) hx hb dJ4_coder_13 (by decide) ?_
    obtain ⟨hn, hw⟩ := hw
    exact W.zret hx hb F.1.r hn (fun t ht hW => ⟨⟨_, _, rfl, hw, x_B (Bw := cB D A ad) ht hB⟩, hS.F ht⟩) hS.2.2 dJ4_coder_14 (hlocks := F.1.k)
  · replace hw := hw.2 q
    refine lv_aload_n hx hb dJ4_coder_6 rfl (lv_at hl 0 rfl) ?_
    refine vk_getf hx hb (F.2.str.1 _ g_a0).2.1 hS F.1.o (F.1.t _ q1727) (fun _ h => h) dJ4_coder_7 ?_
    refine lv_goto (tgt := 14) hx hb dJ4_coder_10 (by decide) ?_
    obtain ⟨hn, hw⟩ := hw
    exact W.zret hx hb F.1.r hn (fun t ht hW => ⟨⟨_, _, rfl, hw, x_B (Bw := cB D A ad) ht hB⟩, hS.F ht⟩) hS.2.2 dJ4_coder_14 (hlocks := F.1.k)
set_option maxHeartbeats 4000000 in
theorem mJ4_coder {l : Launch} {D : DD} {A : Nat → Prop} {s0 : State} {ad : AD} {V : CV} {a0 : Nat} {Q : Int32 → CV → Prop} (hw : wJ4_coder a0 V Q) : Met l yJ4_coder (ws_ yJ4_coder cJ4_coder 1 (some .byte)) rJ4_coder (va_Pc [.ref (sK s0 a0)] (fun U => cB D A ad V U.heap ∧ CX l D A s0 U)) (va_Qi Q (fun u t => cB D A ad u t.heap) A) 0 0 A := by
  refine Met.ofW (cc := cJ4_coder) (maxL := 1) (ret := some .byte) (by decide) rfl ?_
  intro p e s m args below meth c s₁ B hml hv
  obtain ⟨rfl, hB, hC⟩ := hv
  have F : FX p l c cJ4_coder s _ m RJ4 D A s0 1 meth (some .byte) := ⟨mk_FP B hml rfl, hC⟩
  have hS : va_S A s.heap s.heap [] := va_S.rf
  have hl := lv_entry ([.ref (sK s0 a0)]) (n := 1) (Nat.le_of_ble_eq_true rfl)
  rw [lg_entry_eq]
  generalize (lg_sl ([.ref (sK s0 a0)]) ++ List.replicate (1 - (lg_sl ([.ref (sK s0 a0)])).length) Slot.unset).toArray = ls at hl ⊢
  exact bJ4_coder_0 F hB hS hw hl
theorem kJ4_J4_coder {p : Program} {l : Launch} {e : Env} {R : Room} {s : State} {m : MethodId} {args : Array Value} {below : List Frame} {meth : Method} {c : Code} {H : Heap} {locs : List Loc} {cells slots : Nat} {Q0 : State → Prop} {cc : ByteArray} {pc nL : Nat} {ls : Array Slot} {rest : List Value} {ret : Option FieldType} {D : DD} {A : Nat → Prop} {s0 : State} {ad : AD} {V : CV} {a0 : Nat} {Q : Int32 → CV → Prop} (F : FX p l c cc s args m RJ4 D A s0 nL meth ret) (hB : cB D A ad V H) (hS : va_S A s.heap H locs) (hw : wJ4_coder a0 V Q) (hR : rJ4_coder.frames + 1 ≤ R.frames ∧ 8 + (1 + 11) + rJ4_coder.locals ≤ R.locals) (hc : cells + 0 ≤ R.cells ∧ slots + 0 ≤ R.slots) (hsz : ls.size = nL) (hW : (rest.map fun v => v.category).sum ≤ 8) (hdg : decode cc pc = .ok (.invokevirtual 335, 3)) (kk : ∀ (r : Int32) (u : CV) (H1 : Heap) (locs1 : List Loc), Q r u → cB D A ad u H1 → va_S A s.heap H1 locs1 → W p l e R s m args below meth c H1 locs1 cells slots Q0 (F0 m (pc + 3) ls (.int r :: rest))) : W p l e R s m args below meth c H locs cells slots Q0 (F0 m pc ls (.ref (sK s0 a0) :: rest)) :=
  k_i (Bw := cB D A ad) (k_runV (Bw := cB D A ad) (n := 0) (As := []) F hB hS (vk_recv F.2.str hw.1 hS) (mJ4_coder hw) q428 q429 q430 q101 q431 (by decide +kernel) hR ⟨rfl, rfl⟩ hc rfl hsz rfl hW hdg) hS kk
def rJ4_length : Room := { frames := 1, cells := 0, slots := 0, locals := 20 }
set_option maxHeartbeats 4000000 in
theorem bJ4_length_0 {p : Program} {l : Launch} {e : Env} {s : State} {m : MethodId} {args : Array Value} {below : List Frame} {meth : Method} {c : Code} {D : DD} {A : Nat → Prop} {s0 : State} {ad : AD} {Q : Int32 → CV → Prop} {a0 : Nat} {V : CV} {H : Heap} {locs : List Loc} {ls : Array Slot} (F : FX p l c cJ4_length s args m RJ4 D A s0 1 meth (some .int)) (hB : cB D A ad V H) (hS : va_S A s.heap H locs) (hw : wJ4_length a0 V Q) (hl : lv_has ls 1 [(0, .ref (sK s0 a0))]) : W p l e rJ4_length s m args below meth c H locs 0 0 (MQ below (va_Qi Q (fun u t => cB D A ad u t.heap) A) args s 0 0 A) (F0 m 0 ls []) := by
  have hx := F.1.x
  have hb := F.1.b
  unfold wJ4_length at hw
  obtain ⟨g_a0, hw⟩ := hw
  refine lv_aload_n hx hb dJ4_length_0 rfl (lv_at hl 0 rfl) ?_
  refine vk_getf hx hb (F.2.str.1 _ g_a0).2.2.1 hS F.1.o (F.1.t _ q1726) (fun _ h => h) dJ4_length_1 ?_
  refine va_tlen hx hb (F.2.str.1 _ g_a0).2.2.2 hS rfl dJ4_length_4 ?_
  refine lv_aload_n hx hb dJ4_length_5 rfl (lv_at hl 0 rfl) ?_
  refine kJ4_J4_coder F hB hS hw ⟨Nat.le_of_ble_eq_true rfl, Nat.le_of_ble_eq_true rfl⟩ ⟨Nat.zero_le _, Nat.zero_le _⟩ hl.1 (Nat.le_of_ble_eq_true rfl) dJ4_length_6 (fun r1 V2 H locs hw hB hS => ?_)
  refine lv_ishr hx hb dJ4_length_9 ?_
  exact W.iret hx hb F.1.r (fun t ht hW => ⟨⟨_, _, rfl, hw, x_B (Bw := cB D A ad) ht hB⟩, hS.F ht⟩) hS.2.2 dJ4_length_10 (hlocks := F.1.k)
set_option maxHeartbeats 4000000 in
theorem mJ4_length {l : Launch} {D : DD} {A : Nat → Prop} {s0 : State} {ad : AD} {V : CV} {a0 : Nat} {Q : Int32 → CV → Prop} (hw : wJ4_length a0 V Q) : Met l yJ4_length (ws_ yJ4_length cJ4_length 1 (some .int)) rJ4_length (va_Pc [.ref (sK s0 a0)] (fun U => cB D A ad V U.heap ∧ CX l D A s0 U)) (va_Qi Q (fun u t => cB D A ad u t.heap) A) 0 0 A := by
  refine Met.ofW (cc := cJ4_length) (maxL := 1) (ret := some .int) (by decide) rfl ?_
  intro p e s m args below meth c s₁ B hml hv
  obtain ⟨rfl, hB, hC⟩ := hv
  have F : FX p l c cJ4_length s _ m RJ4 D A s0 1 meth (some .int) := ⟨mk_FP B hml rfl, hC⟩
  have hS : va_S A s.heap s.heap [] := va_S.rf
  have hl := lv_entry ([.ref (sK s0 a0)]) (n := 1) (Nat.le_of_ble_eq_true rfl)
  rw [lg_entry_eq]
  generalize (lg_sl ([.ref (sK s0 a0)]) ++ List.replicate (1 - (lg_sl ([.ref (sK s0 a0)])).length) Slot.unset).toArray = ls at hl ⊢
  exact bJ4_length_0 F hB hS hw hl
theorem kX0_J4_length {p : Program} {l : Launch} {e : Env} {R : Room} {s : State} {m : MethodId} {args : Array Value} {below : List Frame} {meth : Method} {c : Code} {H : Heap} {locs : List Loc} {cells slots : Nat} {Q0 : State → Prop} {cc : ByteArray} {pc nL : Nat} {ls : Array Slot} {rest : List Value} {ret : Option FieldType} {D : DD} {A : Nat → Prop} {s0 : State} {ad : AD} {V : CV} {a0 : Nat} {Q : Int32 → CV → Prop} (F : FX p l c cc s args m RX0 D A s0 nL meth ret) (hB : cB D A ad V H) (hS : va_S A s.heap H locs) (hw : wJ4_length a0 V Q) (hR : rJ4_length.frames + 1 ≤ R.frames ∧ 8 + (1 + 11) + rJ4_length.locals ≤ R.locals) (hc : cells + 0 ≤ R.cells ∧ slots + 0 ≤ R.slots) (hsz : ls.size = nL) (hW : (rest.map fun v => v.category).sum ≤ 8) (hdg : decode cc pc = .ok (.invokevirtual 158, 3)) (kk : ∀ (r : Int32) (u : CV) (H1 : Heap) (locs1 : List Loc), Q r u → cB D A ad u H1 → va_S A s.heap H1 locs1 → W p l e R s m args below meth c H1 locs1 cells slots Q0 (F0 m (pc + 3) ls (.int r :: rest))) : W p l e R s m args below meth c H locs cells slots Q0 (F0 m pc ls (.ref (sK s0 a0) :: rest)) :=
  k_i (Bw := cB D A ad) (k_runV (Bw := cB D A ad) (n := 0) (As := []) F hB hS (vk_recv F.2.str hw.1 hS) (mJ4_length hw) q424 q425 q426 q101 q427 (by decide +kernel) hR ⟨rfl, rfl⟩ hc rfl hsz rfl hW hdg) hS kk
def rX0_isIn : Room := { frames := 0, cells := 0, slots := 0, locals := 0 }
set_option maxHeartbeats 4000000 in
theorem bX0_isIn_0 {p : Program} {l : Launch} {e : Env} {s : State} {m : MethodId} {args : Array Value} {below : List Frame} {meth : Method} {c : Code} {Q : Int32 → Prop} {a0 : Int32} {a1 : Int32} {a2 : Int32} {ls : Array Slot} (F : FP p c cX0_isIn s args m RX0 3 meth (some .boolean)) (hw : wX0_isIn a0 a1 a2 Q) (hl : lv_has ls 3 [(0, .int a0), (1, .int a1), (2, .int a2)]) : W p l e rX0_isIn s m args below meth c s.heap [] 0 0 (MQ below (vp_Si Q) args s 0 0 (fun _ => False)) (F0 m 0 ls []) := by
  have hx := F.x
  have hb := F.b
  unfold wX0_isIn at hw
  refine lv_iload_n hx hb dX0_isIn_0 rfl (lv_at hl 0 rfl) ?_
  refine lv_iload_n hx hb dX0_isIn_1 rfl (lv_at hl 1 rfl) ?_
  refine lv_icmp_lt (tgt := 14) hx hb dX0_isIn_2 (by decide) (fun q => ?_) (fun q => ?_)
  · replace hw := hw.1 q
    refine lv_iconst (v := 0) hx hb dX0_isIn_14 (by decide) ?_
    exact W.zret hx hb F.r rfl (fun t ht hW => ⟨_, rfl, hw, ht⟩) (fun _ h => absurd h List.not_mem_nil) dX0_isIn_15 (hlocks := F.k)
  · replace hw := hw.2 q
    refine lv_iload_n hx hb dX0_isIn_5 rfl (lv_at hl 0 rfl) ?_
    refine lv_iload_n hx hb dX0_isIn_6 rfl (lv_at hl 2 rfl) ?_
    refine lv_icmp_gt (tgt := 14) hx hb dX0_isIn_7 (by decide) (fun q => ?_) (fun q => ?_)
    · replace hw := hw.1 q
      refine lv_iconst (v := 0) hx hb dX0_isIn_14 (by decide) ?_
      exact W.zret hx hb F.r rfl (fun t ht hW => ⟨_, rfl, hw, ht⟩) (fun _ h => absurd h List.not_mem_nil) dX0_isIn_15 (hlocks := F.k)
    · replace hw := hw.2 q
      refine lv_iconst (v := 1) hx hb dX0_isIn_10 (by decide) ?_
      refine lv_goto (tgt := 15) hx hb dX0_isIn_11 (by decide) ?_
      exact W.zret hx hb F.r rfl (fun t ht hW => ⟨_, rfl, hw, ht⟩) (fun _ h => absurd h List.not_mem_nil) dX0_isIn_15 (hlocks := F.k)
set_option maxHeartbeats 4000000 in
theorem mX0_isIn {l : Launch}  {a0 : Int32} {a1 : Int32} {a2 : Int32} {Q : Int32 → Prop} (hw : wX0_isIn a0 a1 a2 Q) : Met l yX0_isIn (ws_ yX0_isIn cX0_isIn 3 (some .boolean)) rX0_isIn (va_Pc [.int a0, .int a1, .int a2] (fun _ => True)) (vp_Si Q) 0 0 (fun _ => False) := by
  refine Met.ofW (cc := cX0_isIn) (maxL := 3) (ret := some .boolean) (by decide) rfl ?_
  intro p e s m args below meth c s₁ B hml hv
  obtain ⟨rfl, -⟩ := hv
  have F : FP p c cX0_isIn s _ m RX0 3 meth (some .boolean) := mk_FP B hml rfl
  have hl := lv_entry ([.int a0, .int a1, .int a2]) (n := 3) (Nat.le_of_ble_eq_true rfl)
  rw [lg_entry_eq]
  generalize (lg_sl ([.int a0, .int a1, .int a2]) ++ List.replicate (3 - (lg_sl ([.int a0, .int a1, .int a2])).length) Slot.unset).toArray = ls at hl ⊢
  exact bX0_isIn_0 F hw hl
theorem kX0_X0_isIn {p : Program} {l : Launch} {e : Env} {R : Room} {s : State} {m : MethodId} {args : Array Value} {below : List Frame} {meth : Method} {c : Code} {H : Heap} {locs : List Loc} {cells slots : Nat} {Q0 : State → Prop} {cc : ByteArray} {pc nL : Nat} {ls : Array Slot} {rest : List Value} {ret : Option FieldType} {a0 : Int32} {a1 : Int32} {a2 : Int32} {Q : Int32 → Prop} (F : FP p c cc s args m RX0 nL meth ret) (hw : wX0_isIn a0 a1 a2 Q) (hR : rX0_isIn.frames + 1 ≤ R.frames ∧ 8 + (3 + 11) + rX0_isIn.locals ≤ R.locals) (hc : cells ≤ R.cells ∧ slots ≤ R.slots) (hsz : ls.size = nL) (hW : (rest.map fun v => v.category).sum ≤ 8) (hdg : decode cc pc = .ok (.invokestatic 105, 3)) (kk : ∀ r : Int32, Q r → W p l e R s m args below meth c H locs cells slots Q0 (F0 m (pc + 3) ls (.int r :: rest))) : W p l e R s m args below meth c H locs cells slots Q0 (F0 m pc ls (.int a2 :: .int a1 :: .int a0 :: rest)) :=
  k_csi (k_runP (n := 3) (As := [.int a0, .int a1, .int a2]) F (mX0_isIn hw) q389 q390 q83 q391 (by decide +kernel) hR ⟨rfl, rfl⟩ hc rfl hsz rfl hW hdg) kk
def rX0_isDeed : Room := { frames := 1, cells := 0, slots := 0, locals := 22 }
set_option maxHeartbeats 4000000 in
theorem bX0_isDeed_0 {p : Program} {l : Launch} {e : Env} {s : State} {m : MethodId} {args : Array Value} {below : List Frame} {meth : Method} {c : Code} {D : DD} {A : Nat → Prop} {s0 : State} {ad : AD} {Q : Int32 → CV → Prop} {a1 : Int32} {V : CV} {H : Heap} {locs : List Loc} {ls : Array Slot} (F : FX p l c cX0_isDeed s args m RX0 D A s0 2 meth (some .boolean)) (hB : cB D A ad V H) (hS : va_S A s.heap H locs) (hw : wX0_isDeed a1 V Q) (hl : lv_has ls 2 [(0, .ref (ad 0 0 0)), (1, .int a1)]) : W p l e rX0_isDeed s m args below meth c H locs 0 0 (MQ below (va_Qi Q (fun u t => cB D A ad u t.heap) A) args s 0 0 A) (F0 m 0 ls []) := by
  have hx := F.1.x
  have hb := F.1.b
  unfold wX0_isDeed at hw
  refine lv_iload_n hx hb dX0_isDeed_0 rfl (lv_at hl 1 rfl) ?_
  refine lv_iconst (v := 0) hx hb dX0_isDeed_1 (by decide) ?_
  refine lv_aload_n hx hb dX0_isDeed_2 rfl (lv_at hl 0 rfl) ?_
  refine cg_X0_46 F hB dX0_isDeed_3 ?_
  refine cg_X0_109 F hB (by decide) dX0_isDeed_6 ?_
  refine lv_iconst (v := 1) hx hb dX0_isDeed_9 (by decide) ?_
  refine lv_isub hx hb dX0_isDeed_10 ?_
  refine kX0_X0_isIn F.1 hw ⟨Nat.le_of_ble_eq_true rfl, Nat.le_of_ble_eq_true rfl⟩ ⟨Nat.zero_le _, Nat.zero_le _⟩ hl.1 (Nat.le_of_ble_eq_true rfl) dX0_isDeed_11 (fun r1 hw => ?_)
  obtain ⟨hn, hw⟩ := hw
  exact W.zret hx hb F.1.r hn (fun t ht hW => ⟨⟨_, _, rfl, hw, x_B (Bw := cB D A ad) ht hB⟩, hS.F ht⟩) hS.2.2 dX0_isDeed_14 (hlocks := F.1.k)
set_option maxHeartbeats 4000000 in
theorem mX0_isDeed {l : Launch} {D : DD} {A : Nat → Prop} {s0 : State} {ad : AD} {V : CV} {a1 : Int32} {Q : Int32 → CV → Prop} (hw : wX0_isDeed a1 V Q) : Met l yX0_isDeed (ws_ yX0_isDeed cX0_isDeed 2 (some .boolean)) rX0_isDeed (va_Pc [.ref (ad 0 0 0), .int a1] (fun U => cB D A ad V U.heap ∧ CX l D A s0 U)) (va_Qi Q (fun u t => cB D A ad u t.heap) A) 0 0 A := by
  refine Met.ofW (cc := cX0_isDeed) (maxL := 2) (ret := some .boolean) (by decide) rfl ?_
  intro p e s m args below meth c s₁ B hml hv
  obtain ⟨rfl, hB, hC⟩ := hv
  have F : FX p l c cX0_isDeed s _ m RX0 D A s0 2 meth (some .boolean) := ⟨mk_FP B hml rfl, hC⟩
  have hS : va_S A s.heap s.heap [] := va_S.rf
  have hl := lv_entry ([.ref (ad 0 0 0), .int a1]) (n := 2) (Nat.le_of_ble_eq_true rfl)
  rw [lg_entry_eq]
  generalize (lg_sl ([.ref (ad 0 0 0), .int a1]) ++ List.replicate (2 - (lg_sl ([.ref (ad 0 0 0), .int a1])).length) Slot.unset).toArray = ls at hl ⊢
  exact bX0_isDeed_0 F hB hS hw hl
theorem kX0_X0_isDeed {p : Program} {l : Launch} {e : Env} {R : Room} {s : State} {m : MethodId} {args : Array Value} {below : List Frame} {meth : Method} {c : Code} {H : Heap} {locs : List Loc} {cells slots : Nat} {Q0 : State → Prop} {cc : ByteArray} {pc nL : Nat} {ls : Array Slot} {rest : List Value} {ret : Option FieldType} {D : DD} {A : Nat → Prop} {s0 : State} {ad : AD} {V : CV} {a1 : Int32} {Q : Int32 → CV → Prop} (F : FX p l c cc s args m RX0 D A s0 nL meth ret) (hB : cB D A ad V H) (hS : va_S A s.heap H locs) (hw : wX0_isDeed a1 V Q) (hR : rX0_isDeed.frames + 1 ≤ R.frames ∧ 8 + (2 + 11) + rX0_isDeed.locals ≤ R.locals) (hc : cells + 0 ≤ R.cells ∧ slots + 0 ≤ R.slots) (hsz : ls.size = nL) (hW : (rest.map fun v => v.category).sum ≤ 8) (hdg : decode cc pc = .ok (.invokevirtual 377, 3)) (kk : ∀ (r : Int32) (u : CV) (H1 : Heap) (locs1 : List Loc), Q r u → cB D A ad u H1 → va_S A s.heap H1 locs1 → W p l e R s m args below meth c H1 locs1 cells slots Q0 (F0 m (pc + 3) ls (.int r :: rest))) : W p l e R s m args below meth c H locs cells slots Q0 (F0 m pc ls (.int a1 :: .ref (ad 0 0 0) :: rest)) :=
  k_i (Bw := cB D A ad) (k_runV (Bw := cB D A ad) (n := 1) (As := [.int a1]) F hB hS (c_at F (hB.pic cpic0) rfl) (mX0_isDeed hw) q810 q812 qs25 q83 q813 (by decide +kernel) hR ⟨rfl, rfl⟩ hc rfl hsz rfl hW hdg) hS kk
def rX2_leftMany : Room := { frames := 1, cells := 0, slots := 0, locals := 20 }
set_option maxHeartbeats 4000000 in
theorem bX2_leftMany_0 {p : Program} {l : Launch} {e : Env} {s : State} {m : MethodId} {args : Array Value} {below : List Frame} {meth : Method} {c : Code} {D : DD} {A : Nat → Prop} {s0 : State} {ad : AD} {Q : Int32 → CV → Prop} {a0 : Nat} {a0' : Nat} {V : CV} {H : Heap} {locs : List Loc} {ls : Array Slot} (F : FX p l c cX2_leftMany s args m RX2 D A s0 1 meth (some .int)) (hB : cB D A ad V H) (hS : va_S A s.heap H locs) (hw : wX2_leftMany a0 a0' V Q) (hl : lv_has ls 1 [(0, .ref (ad 4 a0 a0'))]) : W p l e rX2_leftMany s m args below meth c H locs 0 0 (MQ below (va_Qi Q (fun u t => cB D A ad u t.heap) A) args s 0 0 A) (F0 m 0 ls []) := by
  have hx := F.1.x
  have hb := F.1.b
  unfold wX2_leftMany at hw
  obtain ⟨g_a0, hw⟩ := hw
  obtain ⟨g_a0p, hw⟩ := hw
  refine lv_aload_n hx hb dX2_leftMany_0 rfl (lv_at hl 0 rfl) ?_
  refine cg_X2_19 F hB g_a0 g_a0p dX2_leftMany_1 ?_
  refine kX2_J5_bitCount F.1 hw ⟨Nat.le_of_ble_eq_true rfl, Nat.le_of_ble_eq_true rfl⟩ ⟨Nat.zero_le _, Nat.zero_le _⟩ hl.1 (Nat.le_of_ble_eq_true rfl) dX2_leftMany_4 (fun r1 hw => ?_)
  exact W.iret hx hb F.1.r (fun t ht hW => ⟨⟨_, _, rfl, hw, x_B (Bw := cB D A ad) ht hB⟩, hS.F ht⟩) hS.2.2 dX2_leftMany_7 (hlocks := F.1.k)
set_option maxHeartbeats 4000000 in
theorem mX2_leftMany {l : Launch} {D : DD} {A : Nat → Prop} {s0 : State} {ad : AD} {V : CV} {a0 : Nat} {a0' : Nat} {Q : Int32 → CV → Prop} (hw : wX2_leftMany a0 a0' V Q) : Met l yX2_leftMany (ws_ yX2_leftMany cX2_leftMany 1 (some .int)) rX2_leftMany (va_Pc [.ref (ad 4 a0 a0')] (fun U => cB D A ad V U.heap ∧ CX l D A s0 U)) (va_Qi Q (fun u t => cB D A ad u t.heap) A) 0 0 A := by
  refine Met.ofW (cc := cX2_leftMany) (maxL := 1) (ret := some .int) (by decide) rfl ?_
  intro p e s m args below meth c s₁ B hml hv
  obtain ⟨rfl, hB, hC⟩ := hv
  have F : FX p l c cX2_leftMany s _ m RX2 D A s0 1 meth (some .int) := ⟨mk_FP B hml rfl, hC⟩
  have hS : va_S A s.heap s.heap [] := va_S.rf
  have hl := lv_entry ([.ref (ad 4 a0 a0')]) (n := 1) (Nat.le_of_ble_eq_true rfl)
  rw [lg_entry_eq]
  generalize (lg_sl ([.ref (ad 4 a0 a0')]) ++ List.replicate (1 - (lg_sl ([.ref (ad 4 a0 a0')])).length) Slot.unset).toArray = ls at hl ⊢
  exact bX2_leftMany_0 F hB hS hw hl
theorem kX0_X2_leftMany {p : Program} {l : Launch} {e : Env} {R : Room} {s : State} {m : MethodId} {args : Array Value} {below : List Frame} {meth : Method} {c : Code} {H : Heap} {locs : List Loc} {cells slots : Nat} {Q0 : State → Prop} {cc : ByteArray} {pc nL : Nat} {ls : Array Slot} {rest : List Value} {ret : Option FieldType} {D : DD} {A : Nat → Prop} {s0 : State} {ad : AD} {V : CV} {a0 : Nat} {a0' : Nat} {Q : Int32 → CV → Prop} (F : FX p l c cc s args m RX0 D A s0 nL meth ret) (hB : cB D A ad V H) (hS : va_S A s.heap H locs) (hw : wX2_leftMany a0 a0' V Q) (hR : rX2_leftMany.frames + 1 ≤ R.frames ∧ 8 + (1 + 11) + rX2_leftMany.locals ≤ R.locals) (hc : cells + 0 ≤ R.cells ∧ slots + 0 ≤ R.slots) (hsz : ls.size = nL) (hW : (rest.map fun v => v.category).sum ≤ 8) (hdg : decode cc pc = .ok (.invokevirtual 362, 3)) (kk : ∀ (r : Int32) (u : CV) (H1 : Heap) (locs1 : List Loc), Q r u → cB D A ad u H1 → va_S A s.heap H1 locs1 → W p l e R s m args below meth c H1 locs1 cells slots Q0 (F0 m (pc + 3) ls (.int r :: rest))) : W p l e R s m args below meth c H locs cells slots Q0 (F0 m pc ls (.ref (ad 4 a0 a0') :: rest)) :=
  k_i (Bw := cB D A ad) (k_runV (Bw := cB D A ad) (n := 0) (As := []) F hB hS (c_at F (hB.pic (cpic4 hw.1 hw.2.1)) rfl) (mX2_leftMany hw) q818 q819 q820 q85 q821 (by decide +kernel) hR ⟨rfl, rfl⟩ hc rfl hsz rfl hW hdg) hS kk
def rX1_all : Room := { frames := 0, cells := 0, slots := 0, locals := 0 }
set_option maxHeartbeats 4000000 in
theorem bX1_all_0 {p : Program} {l : Launch} {e : Env} {s : State} {m : MethodId} {args : Array Value} {below : List Frame} {meth : Method} {c : Code} {D : DD} {A : Nat → Prop} {s0 : State} {ad : AD} {Q : Int32 → CV → Prop} {a0 : Nat} {V : CV} {H : Heap} {locs : List Loc} {ls : Array Slot} (F : FX p l c cX1_all s args m RX1 D A s0 1 meth (some .int)) (hB : cB D A ad V H) (hS : va_S A s.heap H locs) (hw : wX1_all a0 V Q) (hl : lv_has ls 1 [(0, .ref (ad 1 a0 0))]) : W p l e rX1_all s m args below meth c H locs 0 0 (MQ below (va_Qi Q (fun u t => cB D A ad u t.heap) A) args s 0 0 A) (F0 m 0 ls []) := by
  have hx := F.1.x
  have hb := F.1.b
  unfold wX1_all at hw
  obtain ⟨g_a0, hw⟩ := hw
  refine lv_iconst (v := 1) hx hb dX1_all_0 (by decide) ?_
  refine lv_aload_n hx hb dX1_all_1 rfl (lv_at hl 0 rfl) ?_
  refine cg_X1_47 F hB g_a0 dX1_all_2 ?_
  refine lv_ishl hx hb dX1_all_5 ?_
  refine lv_iconst (v := 1) hx hb dX1_all_6 (by decide) ?_
  refine lv_isub hx hb dX1_all_7 ?_
  exact W.iret hx hb F.1.r (fun t ht hW => ⟨⟨_, _, rfl, hw, x_B (Bw := cB D A ad) ht hB⟩, hS.F ht⟩) hS.2.2 dX1_all_8 (hlocks := F.1.k)
set_option maxHeartbeats 4000000 in
theorem mX1_all {l : Launch} {D : DD} {A : Nat → Prop} {s0 : State} {ad : AD} {V : CV} {a0 : Nat} {Q : Int32 → CV → Prop} (hw : wX1_all a0 V Q) : Met l yX1_all (ws_ yX1_all cX1_all 1 (some .int)) rX1_all (va_Pc [.ref (ad 1 a0 0)] (fun U => cB D A ad V U.heap ∧ CX l D A s0 U)) (va_Qi Q (fun u t => cB D A ad u t.heap) A) 0 0 A := by
  refine Met.ofW (cc := cX1_all) (maxL := 1) (ret := some .int) (by decide) rfl ?_
  intro p e s m args below meth c s₁ B hml hv
  obtain ⟨rfl, hB, hC⟩ := hv
  have F : FX p l c cX1_all s _ m RX1 D A s0 1 meth (some .int) := ⟨mk_FP B hml rfl, hC⟩
  have hS : va_S A s.heap s.heap [] := va_S.rf
  have hl := lv_entry ([.ref (ad 1 a0 0)]) (n := 1) (Nat.le_of_ble_eq_true rfl)
  rw [lg_entry_eq]
  generalize (lg_sl ([.ref (ad 1 a0 0)]) ++ List.replicate (1 - (lg_sl ([.ref (ad 1 a0 0)])).length) Slot.unset).toArray = ls at hl ⊢
  exact bX1_all_0 F hB hS hw hl
theorem kX0_X1_all {p : Program} {l : Launch} {e : Env} {R : Room} {s : State} {m : MethodId} {args : Array Value} {below : List Frame} {meth : Method} {c : Code} {H : Heap} {locs : List Loc} {cells slots : Nat} {Q0 : State → Prop} {cc : ByteArray} {pc nL : Nat} {ls : Array Slot} {rest : List Value} {ret : Option FieldType} {D : DD} {A : Nat → Prop} {s0 : State} {ad : AD} {V : CV} {a0 : Nat} {Q : Int32 → CV → Prop} (F : FX p l c cc s args m RX0 D A s0 nL meth ret) (hB : cB D A ad V H) (hS : va_S A s.heap H locs) (hw : wX1_all a0 V Q) (hR : rX1_all.frames + 1 ≤ R.frames ∧ 8 + (1 + 11) + rX1_all.locals ≤ R.locals) (hc : cells + 0 ≤ R.cells ∧ slots + 0 ≤ R.slots) (hsz : ls.size = nL) (hW : (rest.map fun v => v.category).sum ≤ 8) (hdg : decode cc pc = .ok (.invokevirtual 353, 3)) (kk : ∀ (r : Int32) (u : CV) (H1 : Heap) (locs1 : List Loc), Q r u → cB D A ad u H1 → va_S A s.heap H1 locs1 → W p l e R s m args below meth c H1 locs1 cells slots Q0 (F0 m (pc + 3) ls (.int r :: rest))) : W p l e R s m args below meth c H locs cells slots Q0 (F0 m pc ls (.ref (ad 1 a0 0) :: rest)) :=
  k_i (Bw := cB D A ad) (k_runV (Bw := cB D A ad) (n := 0) (As := []) F hB hS (c_at F (hB.pic (cpic1 hw.1)) rfl) (mX1_all hw) q802 q803 q804 q84 q805 (by decide +kernel) hR ⟨rfl, rfl⟩ hc rfl hsz rfl hW hdg) hS kk
def rX0_begins : Room := { frames := 1, cells := 0, slots := 0, locals := 20 }
set_option maxHeartbeats 4000000 in
theorem bX0_begins_0 {p : Program} {l : Launch} {e : Env} {s : State} {m : MethodId} {args : Array Value} {below : List Frame} {meth : Method} {c : Code} {D : DD} {A : Nat → Prop} {s0 : State} {ad : AD} {Q : CV → Prop} {a1 : Nat} {a1' : Nat} {V : CV} {H : Heap} {locs : List Loc} {ls : Array Slot} (F : FX p l c cX0_begins s args m RX0 D A s0 2 meth (none)) (hB : cB D A ad V H) (hS : va_S A s.heap H locs) (hw : wX0_begins a1 a1' V Q) (hl : lv_has ls 2 [(0, .ref (ad 0 0 0)), (1, .ref (ad 4 a1 a1'))]) : W p l e rX0_begins s m args below meth c H locs 0 0 (MQ below (va_Qv Q (fun u t => cB D A ad u t.heap) A) args s 0 0 A) (F0 m 0 ls []) := by
  have hx := F.1.x
  have hb := F.1.b
  unfold wX0_begins at hw
  obtain ⟨g_a1, hw⟩ := hw
  obtain ⟨g_a1p, hw⟩ := hw
  refine lv_aload_n hx hb dX0_begins_0 rfl (lv_at hl 1 rfl) ?_
  refine lv_aload_n hx hb dX0_begins_1 rfl (lv_at hl 0 rfl) ?_
  refine cg_X0_46 F hB dX0_begins_2 ?_
  refine kX0_X1_all F hB hS hw ⟨Nat.le_of_ble_eq_true rfl, Nat.le_of_ble_eq_true rfl⟩ ⟨Nat.zero_le _, Nat.zero_le _⟩ hl.1 (Nat.le_of_ble_eq_true rfl) dX0_begins_5 (fun r1 V2 H locs hw hB hS => ?_)
  refine cp_X0_282 F hB hS g_a1 g_a1p dX0_begins_8 (fun H locs hB hS => ?_)
  refine lv_aload_n hx hb dX0_begins_11 rfl (lv_at hl 1 rfl) ?_
  refine lv_iconst (v := 0) hx hb dX0_begins_12 (by decide) ?_
  refine cp_X0_356 F hB hS g_a1 g_a1p dX0_begins_13 (fun H locs hB hS => ?_)
  refine lv_aload_n hx hb dX0_begins_16 rfl (lv_at hl 1 rfl) ?_
  refine lv_iconst (v := 0) hx hb dX0_begins_17 (by decide) ?_
  refine cp_X0_359 F hB hS g_a1 g_a1p dX0_begins_18 (fun H locs hB hS => ?_)
  exact W.vret hx hb F.1.r (fun t ht hW => ⟨⟨_, rfl, hw, x_B (Bw := cB D A ad) ht hB⟩, hS.F ht⟩) hS.2.2 dX0_begins_21 (hlocks := F.1.k)
set_option maxHeartbeats 4000000 in
theorem mX0_begins {l : Launch} {D : DD} {A : Nat → Prop} {s0 : State} {ad : AD} {V : CV} {a1 : Nat} {a1' : Nat} {Q : CV → Prop} (hw : wX0_begins a1 a1' V Q) : Met l yX0_begins (ws_ yX0_begins cX0_begins 2 (none)) rX0_begins (va_Pc [.ref (ad 0 0 0), .ref (ad 4 a1 a1')] (fun U => cB D A ad V U.heap ∧ CX l D A s0 U)) (va_Qv Q (fun u t => cB D A ad u t.heap) A) 0 0 A := by
  refine Met.ofW (cc := cX0_begins) (maxL := 2) (ret := none) (by decide) rfl ?_
  intro p e s m args below meth c s₁ B hml hv
  obtain ⟨rfl, hB, hC⟩ := hv
  have F : FX p l c cX0_begins s _ m RX0 D A s0 2 meth (none) := ⟨mk_FP B hml rfl, hC⟩
  have hS : va_S A s.heap s.heap [] := va_S.rf
  have hl := lv_entry ([.ref (ad 0 0 0), .ref (ad 4 a1 a1')]) (n := 2) (Nat.le_of_ble_eq_true rfl)
  rw [lg_entry_eq]
  generalize (lg_sl ([.ref (ad 0 0 0), .ref (ad 4 a1 a1')]) ++ List.replicate (2 - (lg_sl ([.ref (ad 0 0 0), .ref (ad 4 a1 a1')])).length) Slot.unset).toArray = ls at hl ⊢
  exact bX0_begins_0 F hB hS hw hl
theorem kX0_X0_begins {p : Program} {l : Launch} {e : Env} {R : Room} {s : State} {m : MethodId} {args : Array Value} {below : List Frame} {meth : Method} {c : Code} {H : Heap} {locs : List Loc} {cells slots : Nat} {Q0 : State → Prop} {cc : ByteArray} {pc nL : Nat} {ls : Array Slot} {rest : List Value} {ret : Option FieldType} {D : DD} {A : Nat → Prop} {s0 : State} {ad : AD} {V : CV} {a1 : Nat} {a1' : Nat} {Q : CV → Prop} (F : FX p l c cc s args m RX0 D A s0 nL meth ret) (hB : cB D A ad V H) (hS : va_S A s.heap H locs) (hw : wX0_begins a1 a1' V Q) (hR : rX0_begins.frames + 1 ≤ R.frames ∧ 8 + (2 + 11) + rX0_begins.locals ≤ R.locals) (hc : cells + 0 ≤ R.cells ∧ slots + 0 ≤ R.slots) (hsz : ls.size = nL) (hW : (rest.map fun v => v.category).sum ≤ 8) (hdg : decode cc pc = .ok (.invokevirtual 349, 3)) (kk : ∀ (u : CV) (H1 : Heap) (locs1 : List Loc), Q u → cB D A ad u H1 → va_S A s.heap H1 locs1 → W p l e R s m args below meth c H1 locs1 cells slots Q0 (F0 m (pc + 3) ls (rest))) : W p l e R s m args below meth c H locs cells slots Q0 (F0 m pc ls (.ref (ad 4 a1 a1') :: .ref (ad 0 0 0) :: rest)) :=
  k_v (Bw := cB D A ad) (k_runV (Bw := cB D A ad) (n := 1) (As := [.ref (ad 4 a1 a1')]) F hB hS (c_at F (hB.pic cpic0) rfl) (mX0_begins hw) q798 q800 qs24 q83 q801 (by decide +kernel) hR ⟨rfl, rfl⟩ hc rfl hsz rfl hW hdg) hS kk
def rX0_again : Room := { frames := 2, cells := 0, slots := 0, locals := 43 }
set_option maxHeartbeats 4000000 in
theorem bX0_again_0 {p : Program} {l : Launch} {e : Env} {s : State} {m : MethodId} {args : Array Value} {below : List Frame} {meth : Method} {c : Code} {D : DD} {A : Nat → Prop} {s0 : State} {ad : AD} {Q : Int32 → CV → Prop} {a1 : Int32} {V : CV} {H : Heap} {locs : List Loc} {ls : Array Slot} (F : FX p l c cX0_again s args m RX0 D A s0 3 meth (some .int)) (hB : cB D A ad V H) (hS : va_S A s.heap H locs) (hw : wX0_again a1 V Q) (hl : lv_has ls 3 [(0, .ref (ad 0 0 0)), (1, .int a1)]) : W p l e rX0_again s m args below meth c H locs 0 0 (MQ below (va_Qi Q (fun u t => cB D A ad u t.heap) A) args s 0 0 A) (F0 m 0 ls []) := by
  have hx := F.1.x
  have hb := F.1.b
  unfold wX0_again at hw
  refine lv_aload_n hx hb dX0_again_0 rfl (lv_at hl 0 rfl) ?_
  refine lv_iload_n hx hb dX0_again_1 rfl (lv_at hl 1 rfl) ?_
  refine kX0_X0_isDeed F hB hS hw ⟨Nat.le_of_ble_eq_true rfl, Nat.le_of_ble_eq_true rfl⟩ ⟨Nat.zero_le _, Nat.zero_le _⟩ hl.1 (Nat.le_of_ble_eq_true rfl) dX0_again_2 (fun r1 V2 H locs hw hB hS => ?_)
  refine lv_if_ne (tgt := 11) hx hb dX0_again_5 (by decide) (fun q => ?_) (fun q => ?_)
  · replace hw := hw.2 q
    refine lv_aload_n hx hb dX0_again_11 rfl (lv_at hl 0 rfl) ?_
    refine cg_X0_46 F hB dX0_again_12 ?_
    refine cg_X0_101 F hB (by decide) dX0_again_15 ?_
    refine lv_aload_n hx hb dX0_again_18 rfl (lv_at hl 0 rfl) ?_
    refine cg_X0_46 F hB dX0_again_19 ?_
    refine cg_X0_278 F hB (by decide) dX0_again_22 ?_
    refine lv_iload_n hx hb dX0_again_25 rfl (lv_at hl 1 rfl) ?_
    obtain ⟨hin3, hw⟩ := hw
    refine cl_De F hB (by decide) hin3 dX0_again_26 ?_
    refine kX0_X2_leftMany F hB hS hw ⟨Nat.le_of_ble_eq_true rfl, Nat.le_of_ble_eq_true rfl⟩ ⟨Nat.zero_le _, Nat.zero_le _⟩ hl.1 (Nat.le_of_ble_eq_true rfl) dX0_again_27 (fun r4 V5 H locs hw hB hS => ?_)
    refine lv_isub hx hb dX0_again_30 ?_
    refine lv_istore_n (lv' := [(2, .int ((vS V2 0 2) - r4)), (0, .ref (ad 0 0 0)), (1, .int a1)]) hx hb dX0_again_31 rfl hl (by decide) rfl (fun ls hl => ?_)
    refine lv_aload_n hx hb dX0_again_32 rfl (lv_at hl 1 rfl) ?_
    refine lv_aload_n hx hb dX0_again_33 rfl (lv_at hl 1 rfl) ?_
    refine cg_X0_46 F hB dX0_again_34 ?_
    refine cg_X0_278 F hB (by decide) dX0_again_37 ?_
    refine lv_iload_n hx hb dX0_again_40 rfl (lv_at hl 2 rfl) ?_
    obtain ⟨hin6, hw⟩ := hw
    refine cl_De F hB (by decide) hin6 dX0_again_41 ?_
    refine kX0_X0_begins F hB hS hw ⟨Nat.le_of_ble_eq_true rfl, Nat.le_of_ble_eq_true rfl⟩ ⟨Nat.zero_le _, Nat.zero_le _⟩ hl.1 (Nat.le_of_ble_eq_true rfl) dX0_again_42 (fun V8 H locs hw hB hS => ?_)
    refine lv_iload_n hx hb dX0_again_45 rfl (lv_at hl 0 rfl) ?_
    exact W.iret hx hb F.1.r (fun t ht hW => ⟨⟨_, _, rfl, hw, x_B (Bw := cB D A ad) ht hB⟩, hS.F ht⟩) hS.2.2 dX0_again_46 (hlocks := F.1.k)
  · replace hw := hw.1 q
    refine lv_ldc hx hb F.1.o (F.1.t _ q392) dX0_again_8 ?_
    exact W.iret hx hb F.1.r (fun t ht hW => ⟨⟨_, _, rfl, hw, x_B (Bw := cB D A ad) ht hB⟩, hS.F ht⟩) hS.2.2 dX0_again_10 (hlocks := F.1.k)
set_option maxHeartbeats 4000000 in
theorem mX0_again {l : Launch} {D : DD} {A : Nat → Prop} {s0 : State} {ad : AD} {V : CV} {a1 : Int32} {Q : Int32 → CV → Prop} (hw : wX0_again a1 V Q) : Met l yX0_again (ws_ yX0_again cX0_again 3 (some .int)) rX0_again (va_Pc [.ref (ad 0 0 0), .int a1] (fun U => cB D A ad V U.heap ∧ CX l D A s0 U)) (va_Qi Q (fun u t => cB D A ad u t.heap) A) 0 0 A := by
  refine Met.ofW (cc := cX0_again) (maxL := 3) (ret := some .int) (by decide) rfl ?_
  intro p e s m args below meth c s₁ B hml hv
  obtain ⟨rfl, hB, hC⟩ := hv
  have F : FX p l c cX0_again s _ m RX0 D A s0 3 meth (some .int) := ⟨mk_FP B hml rfl, hC⟩
  have hS : va_S A s.heap s.heap [] := va_S.rf
  have hl := lv_entry ([.ref (ad 0 0 0), .int a1]) (n := 3) (Nat.le_of_ble_eq_true rfl)
  rw [lg_entry_eq]
  generalize (lg_sl ([.ref (ad 0 0 0), .int a1]) ++ List.replicate (3 - (lg_sl ([.ref (ad 0 0 0), .int a1])).length) Slot.unset).toArray = ls at hl ⊢
  exact bX0_again_0 F hB hS hw hl
def rX0_isSign : Room := { frames := 0, cells := 0, slots := 0, locals := 0 }
set_option maxHeartbeats 4000000 in
theorem bX0_isSign_0 {p : Program} {l : Launch} {e : Env} {s : State} {m : MethodId} {args : Array Value} {below : List Frame} {meth : Method} {c : Code} {D : DD} {A : Nat → Prop} {s0 : State} {ad : AD} {Q : Int32 → CV → Prop} {a1 : Int32} {V : CV} {H : Heap} {locs : List Loc} {ls : Array Slot} (F : FX p l c cX0_isSign s args m RX0 D A s0 2 meth (some .boolean)) (hB : cB D A ad V H) (hS : va_S A s.heap H locs) (hw : wX0_isSign a1 V Q) (hl : lv_has ls 2 [(0, .ref (ad 0 0 0)), (1, .int a1)]) : W p l e rX0_isSign s m args below meth c H locs 0 0 (MQ below (va_Qi Q (fun u t => cB D A ad u t.heap) A) args s 0 0 A) (F0 m 0 ls []) := by
  have hx := F.1.x
  have hb := F.1.b
  unfold wX0_isSign at hw
  refine lv_aload_n hx hb dX0_isSign_0 rfl (lv_at hl 0 rfl) ?_
  refine cg_X0_136 F hB dX0_isSign_1 ?_
  refine lv_aload_n hx hb dX0_isSign_4 rfl (lv_at hl 0 rfl) ?_
  refine cg_X0_145 F hB dX0_isSign_5 ?_
  refine lv_icmp_ge (tgt := 41) hx hb dX0_isSign_8 (by decide) (fun q => ?_) (fun q => ?_)
  · replace hw := hw.1 q
    refine lv_iconst (v := 0) hx hb dX0_isSign_41 (by decide) ?_
    exact W.zret hx hb F.1.r rfl (fun t ht hW => ⟨⟨_, _, rfl, hw, x_B (Bw := cB D A ad) ht hB⟩, hS.F ht⟩) hS.2.2 dX0_isSign_42 (hlocks := F.1.k)
  · replace hw := hw.2 q
    refine lv_aload_n hx hb dX0_isSign_11 rfl (lv_at hl 0 rfl) ?_
    refine cg_X0_142 F hB dX0_isSign_12 ?_
    refine lv_aload_n hx hb dX0_isSign_15 rfl (lv_at hl 0 rfl) ?_
    refine cg_X0_136 F hB dX0_isSign_16 ?_
    refine lv_isub hx hb dX0_isSign_19 ?_
    refine lv_iconst (v := 1) hx hb dX0_isSign_20 (by decide) ?_
    refine lv_icmp_ne (tgt := 41) hx hb dX0_isSign_21 (by decide) (fun q => ?_) (fun q => ?_)
    · replace hw := hw.2 q
      refine lv_iconst (v := 0) hx hb dX0_isSign_41 (by decide) ?_
      exact W.zret hx hb F.1.r rfl (fun t ht hW => ⟨⟨_, _, rfl, hw, x_B (Bw := cB D A ad) ht hB⟩, hS.F ht⟩) hS.2.2 dX0_isSign_42 (hlocks := F.1.k)
    · replace hw := hw.1 q
      refine lv_aload_n hx hb dX0_isSign_24 rfl (lv_at hl 0 rfl) ?_
      refine cg_X0_60 F hB dX0_isSign_25 ?_
      refine lv_aload_n hx hb dX0_isSign_28 rfl (lv_at hl 0 rfl) ?_
      refine cg_X0_136 F hB dX0_isSign_29 ?_
      obtain ⟨hin1, hw⟩ := hw
      refine cl_5 F hB hin1 dX0_isSign_32 ?_
      refine lv_iload_n hx hb dX0_isSign_33 rfl (lv_at hl 1 rfl) ?_
      refine lv_icmp_ne (tgt := 41) hx hb dX0_isSign_34 (by decide) (fun q => ?_) (fun q => ?_)
      · replace hw := hw.2 q
        refine lv_iconst (v := 0) hx hb dX0_isSign_41 (by decide) ?_
        exact W.zret hx hb F.1.r rfl (fun t ht hW => ⟨⟨_, _, rfl, hw, x_B (Bw := cB D A ad) ht hB⟩, hS.F ht⟩) hS.2.2 dX0_isSign_42 (hlocks := F.1.k)
      · replace hw := hw.1 q
        refine lv_iconst (v := 1) hx hb dX0_isSign_37 (by decide) ?_
        refine lv_goto (tgt := 42) hx hb dX0_isSign_38 (by decide) ?_
        exact W.zret hx hb F.1.r rfl (fun t ht hW => ⟨⟨_, _, rfl, hw, x_B (Bw := cB D A ad) ht hB⟩, hS.F ht⟩) hS.2.2 dX0_isSign_42 (hlocks := F.1.k)
set_option maxHeartbeats 4000000 in
theorem mX0_isSign {l : Launch} {D : DD} {A : Nat → Prop} {s0 : State} {ad : AD} {V : CV} {a1 : Int32} {Q : Int32 → CV → Prop} (hw : wX0_isSign a1 V Q) : Met l yX0_isSign (ws_ yX0_isSign cX0_isSign 2 (some .boolean)) rX0_isSign (va_Pc [.ref (ad 0 0 0), .int a1] (fun U => cB D A ad V U.heap ∧ CX l D A s0 U)) (va_Qi Q (fun u t => cB D A ad u t.heap) A) 0 0 A := by
  refine Met.ofW (cc := cX0_isSign) (maxL := 2) (ret := some .boolean) (by decide) rfl ?_
  intro p e s m args below meth c s₁ B hml hv
  obtain ⟨rfl, hB, hC⟩ := hv
  have F : FX p l c cX0_isSign s _ m RX0 D A s0 2 meth (some .boolean) := ⟨mk_FP B hml rfl, hC⟩
  have hS : va_S A s.heap s.heap [] := va_S.rf
  have hl := lv_entry ([.ref (ad 0 0 0), .int a1]) (n := 2) (Nat.le_of_ble_eq_true rfl)
  rw [lg_entry_eq]
  generalize (lg_sl ([.ref (ad 0 0 0), .int a1]) ++ List.replicate (2 - (lg_sl ([.ref (ad 0 0 0), .int a1])).length) Slot.unset).toArray = ls at hl ⊢
  exact bX0_isSign_0 F hB hS hw hl
theorem kX0_X0_isSign {p : Program} {l : Launch} {e : Env} {R : Room} {s : State} {m : MethodId} {args : Array Value} {below : List Frame} {meth : Method} {c : Code} {H : Heap} {locs : List Loc} {cells slots : Nat} {Q0 : State → Prop} {cc : ByteArray} {pc nL : Nat} {ls : Array Slot} {rest : List Value} {ret : Option FieldType} {D : DD} {A : Nat → Prop} {s0 : State} {ad : AD} {V : CV} {a1 : Int32} {Q : Int32 → CV → Prop} (F : FX p l c cc s args m RX0 D A s0 nL meth ret) (hB : cB D A ad V H) (hS : va_S A s.heap H locs) (hw : wX0_isSign a1 V Q) (hR : rX0_isSign.frames + 1 ≤ R.frames ∧ 8 + (2 + 11) + rX0_isSign.locals ≤ R.locals) (hc : cells + 0 ≤ R.cells ∧ slots + 0 ≤ R.slots) (hsz : ls.size = nL) (hW : (rest.map fun v => v.category).sum ≤ 8) (hdg : decode cc pc = .ok (.invokevirtual 179, 3)) (kk : ∀ (r : Int32) (u : CV) (H1 : Heap) (locs1 : List Loc), Q r u → cB D A ad u H1 → va_S A s.heap H1 locs1 → W p l e R s m args below meth c H1 locs1 cells slots Q0 (F0 m (pc + 3) ls (.int r :: rest))) : W p l e R s m args below meth c H locs cells slots Q0 (F0 m pc ls (.int a1 :: .ref (ad 0 0 0) :: rest)) :=
  k_i (Bw := cB D A ad) (k_runV (Bw := cB D A ad) (n := 1) (As := [.int a1]) F hB hS (c_at F (hB.pic cpic0) rfl) (mX0_isSign hw) q521 q523 qs14 q83 q524 (by decide +kernel) hR ⟨rfl, rfl⟩ hc rfl hsz rfl hW hdg) hS kk
def rX0_wrong : Room := { frames := 0, cells := 0, slots := 0, locals := 0 }
set_option maxHeartbeats 4000000 in
theorem bX0_wrong_0 {p : Program} {l : Launch} {e : Env} {s : State} {m : MethodId} {args : Array Value} {below : List Frame} {meth : Method} {c : Code} {D : DD} {A : Nat → Prop} {s0 : State} {ad : AD} {Q : CV → Prop} {E : CV → Prop} {V : CV} {H : Heap} {locs : List Loc} {ls : Array Slot} (F : FX p l c cX0_wrong s args m RX0 D A s0 1 meth (none)) (hnm : s.methodNamed? yX0_wrong = some m) (hB : cB D A ad V H) (hS : va_S A s.heap H locs) (hw : wX0_wrong V Q E) (hl : lv_has ls 1 [(0, .ref (ad 0 0 0))]) : W p l e rX0_wrong s m args below meth c H locs 0 0 (XMQ below (yQ (va_Qv Q (fun u t => cB D A ad u t.heap) A) E (fun x t => x = ad 6 0 0) (fun u t => cB D A ad u t.heap) A) args s 0 0 A) (F0 m 0 ls []) := by
  have hx := F.1.x
  have hb := F.1.b
  unfold wX0_wrong at hw
  refine lv_aload_n hx hb dX0_wrong_0 rfl (lv_at hl 0 rfl) ?_
  refine cg_X0_67 F hB dX0_wrong_1 ?_
  refine lv_aload_n hx hb dX0_wrong_4 rfl (lv_at hl 0 rfl) ?_
  refine cg_X0_136 F hB dX0_wrong_5 ?_
  obtain ⟨h1, hw⟩ := hw
  refine cp_X0_139 F hB hS h1 dX0_wrong_8 (fun H locs hB hS => ?_)
  refine lv_aload_n hx hb dX0_wrong_11 rfl (lv_at hl 0 rfl) ?_
  refine cg_X0_67 F hB dX0_wrong_12 ?_
  refine w_athrow hx hb dX0_wrong_15 ?_
  exact wt_out (Bw := cB D A ad) F.1 hnm q414 hw (fun t _ _ => rfl) hB hS
set_option maxHeartbeats 4000000 in
theorem mX0_wrong {l : Launch} {D : DD} {A : Nat → Prop} {s0 : State} {ad : AD} {V : CV}  {Q : CV → Prop} {E : CV → Prop} (hw : wX0_wrong V Q E) : MetY l yX0_wrong (ws_ yX0_wrong cX0_wrong 1 (none)) rX0_wrong (va_Pc [.ref (ad 0 0 0)] (fun U => cB D A ad V U.heap ∧ CX l D A s0 U)) (yQ (va_Qv Q (fun u t => cB D A ad u t.heap) A) E (fun x t => x = ad 6 0 0) (fun u t => cB D A ad u t.heap) A) 0 0 A := by
  refine MetY.ofW (cc := cX0_wrong) (maxL := 1) (ret := none) (by decide) ?_
  intro p e s m args below meth c F1 hnm _ hv
  obtain ⟨rfl, hB, hC⟩ := hv
  have F : FX p l c cX0_wrong s _ m RX0 D A s0 1 meth (none) := ⟨F1, hC⟩
  have hS : va_S A s.heap s.heap [] := va_S.rf
  have hl := lv_entry ([.ref (ad 0 0 0)]) (n := 1) (Nat.le_of_ble_eq_true rfl)
  rw [lg_entry_eq]
  generalize (lg_sl ([.ref (ad 0 0 0)]) ++ List.replicate (1 - (lg_sl ([.ref (ad 0 0 0)])).length) Slot.unset).toArray = ls at hl ⊢
  exact bX0_wrong_0 F hnm hB hS hw hl
theorem kX0_X0_wrong {p : Program} {l : Launch} {e : Env} {R : Room} {s : State} {m : MethodId} {args : Array Value} {below : List Frame} {meth : Method} {c : Code} {H : Heap} {locs : List Loc} {cells slots : Nat} {Q0 : State → Prop} {cc : ByteArray} {pc nL : Nat} {ls : Array Slot} {rest : List Value} {ret : Option FieldType} {D : DD} {A : Nat → Prop} {s0 : State} {ad : AD} {V : CV} {Q : CV → Prop} {E : CV → Prop} (F : FX p l c cc s args m RX0 D A s0 nL meth ret) (hB : cB D A ad V H) (hS : va_S A s.heap H locs) (hw : wX0_wrong V Q E) (hR : rX0_wrong.frames + 1 ≤ R.frames ∧ 8 + (1 + 11) + rX0_wrong.locals ≤ R.locals) (hc : cells + 0 ≤ R.cells ∧ slots + 0 ≤ R.slots) (hsz : ls.size = nL) (hW : (rest.map fun v => v.category).sum ≤ 8) (hdg : decode cc pc = .ok (.invokevirtual 155, 3)) (kk : ∀ (u : CV) (H1 : Heap) (locs1 : List Loc), Q u → cB D A ad u H1 → va_S A s.heap H1 locs1 → W p l e R s m args below meth c H1 locs1 cells slots Q0 (F0 m (pc + 3) ls (rest))) (ke : ∀ (u : CV) (H1 : Heap) (locs1 : List Loc), E u → cB D A ad u H1 → va_S A s.heap H1 locs1 → WT p l e R s m args below meth c H1 locs1 cells slots Q0 (F0 m pc ls rest) (ad 6 0 0)) : W p l e R s m args below meth c H locs cells slots Q0 (F0 m pc ls (.ref (ad 0 0 0) :: rest)) :=
  k_vY (Bw := cB D A ad) (k_runVY (Bw := cB D A ad) (n := 0) (As := []) F hB hS (c_at F (hB.pic cpic0) rfl) (mX0_wrong hw) codeOf (lw_meth q414) q411 q413 qs4 (by decide +kernel) hR ⟨rfl, rfl⟩ hc rfl hsz rfl hW hdg) hS kk (fun x u H1 locs1 hE hK hB hS => by
    obtain ⟨t, h1, h2, h3⟩ := hK
    subst h3
    exact ke u H1 locs1 hE hB hS)
def rX0_isLetter : Room := { frames := 1, cells := 0, slots := 0, locals := 22 }
set_option maxHeartbeats 4000000 in
theorem bX0_isLetter_0 {p : Program} {l : Launch} {e : Env} {s : State} {m : MethodId} {args : Array Value} {below : List Frame} {meth : Method} {c : Code} {Q : Int32 → Prop} {a0 : Int32} {ls : Array Slot} (F : FP p c cX0_isLetter s args m RX0 1 meth (some .boolean)) (hw : wX0_isLetter a0 Q) (hl : lv_has ls 1 [(0, .int a0)]) : W p l e rX0_isLetter s m args below meth c s.heap [] 0 0 (MQ below (vp_Si Q) args s 0 0 (fun _ => False)) (F0 m 0 ls []) := by
  have hx := F.x
  have hb := F.b
  unfold wX0_isLetter at hw
  refine lv_iload_n hx hb dX0_isLetter_0 rfl (lv_at hl 0 rfl) ?_
  refine lv_bipush (v := 97) hx hb dX0_isLetter_1 (by decide) ?_
  refine lv_bipush (v := 122) hx hb dX0_isLetter_3 (by decide) ?_
  refine kX0_X0_isIn F hw ⟨Nat.le_of_ble_eq_true rfl, Nat.le_of_ble_eq_true rfl⟩ ⟨Nat.zero_le _, Nat.zero_le _⟩ hl.1 (Nat.le_of_ble_eq_true rfl) dX0_isLetter_5 (fun r1 hw => ?_)
  obtain ⟨hn, hw⟩ := hw
  exact W.zret hx hb F.r hn (fun t ht hW => ⟨_, rfl, hw, ht⟩) (fun _ h => absurd h List.not_mem_nil) dX0_isLetter_8 (hlocks := F.k)
set_option maxHeartbeats 4000000 in
theorem mX0_isLetter {l : Launch}  {a0 : Int32} {Q : Int32 → Prop} (hw : wX0_isLetter a0 Q) : Met l yX0_isLetter (ws_ yX0_isLetter cX0_isLetter 1 (some .boolean)) rX0_isLetter (va_Pc [.int a0] (fun _ => True)) (vp_Si Q) 0 0 (fun _ => False) := by
  refine Met.ofW (cc := cX0_isLetter) (maxL := 1) (ret := some .boolean) (by decide) rfl ?_
  intro p e s m args below meth c s₁ B hml hv
  obtain ⟨rfl, -⟩ := hv
  have F : FP p c cX0_isLetter s _ m RX0 1 meth (some .boolean) := mk_FP B hml rfl
  have hl := lv_entry ([.int a0]) (n := 1) (Nat.le_of_ble_eq_true rfl)
  rw [lg_entry_eq]
  generalize (lg_sl ([.int a0]) ++ List.replicate (1 - (lg_sl ([.int a0])).length) Slot.unset).toArray = ls at hl ⊢
  exact bX0_isLetter_0 F hw hl
theorem kX0_X0_isLetter {p : Program} {l : Launch} {e : Env} {R : Room} {s : State} {m : MethodId} {args : Array Value} {below : List Frame} {meth : Method} {c : Code} {H : Heap} {locs : List Loc} {cells slots : Nat} {Q0 : State → Prop} {cc : ByteArray} {pc nL : Nat} {ls : Array Slot} {rest : List Value} {ret : Option FieldType} {a0 : Int32} {Q : Int32 → Prop} (F : FP p c cc s args m RX0 nL meth ret) (hw : wX0_isLetter a0 Q) (hR : rX0_isLetter.frames + 1 ≤ R.frames ∧ 8 + (1 + 11) + rX0_isLetter.locals ≤ R.locals) (hc : cells ≤ R.cells ∧ slots ≤ R.slots) (hsz : ls.size = nL) (hW : (rest.map fun v => v.category).sum ≤ 8) (hdg : decode cc pc = .ok (.invokestatic 148, 3)) (kk : ∀ r : Int32, Q r → W p l e R s m args below meth c H locs cells slots Q0 (F0 m (pc + 3) ls (.int r :: rest))) : W p l e R s m args below meth c H locs cells slots Q0 (F0 m pc ls (.int a0 :: rest)) :=
  k_csi (k_runP (n := 1) (As := [.int a0]) F (mX0_isLetter hw) q405 q406 q83 q407 (by decide +kernel) hR ⟨rfl, rfl⟩ hc rfl hsz rfl hW hdg) kk
def rX0_isDigit : Room := { frames := 1, cells := 0, slots := 0, locals := 22 }
set_option maxHeartbeats 4000000 in
theorem bX0_isDigit_0 {p : Program} {l : Launch} {e : Env} {s : State} {m : MethodId} {args : Array Value} {below : List Frame} {meth : Method} {c : Code} {Q : Int32 → Prop} {a0 : Int32} {ls : Array Slot} (F : FP p c cX0_isDigit s args m RX0 1 meth (some .boolean)) (hw : wX0_isDigit a0 Q) (hl : lv_has ls 1 [(0, .int a0)]) : W p l e rX0_isDigit s m args below meth c s.heap [] 0 0 (MQ below (vp_Si Q) args s 0 0 (fun _ => False)) (F0 m 0 ls []) := by
  have hx := F.x
  have hb := F.b
  unfold wX0_isDigit at hw
  refine lv_iload_n hx hb dX0_isDigit_0 rfl (lv_at hl 0 rfl) ?_
  refine lv_bipush (v := 48) hx hb dX0_isDigit_1 (by decide) ?_
  refine lv_bipush (v := 57) hx hb dX0_isDigit_3 (by decide) ?_
  refine kX0_X0_isIn F hw ⟨Nat.le_of_ble_eq_true rfl, Nat.le_of_ble_eq_true rfl⟩ ⟨Nat.zero_le _, Nat.zero_le _⟩ hl.1 (Nat.le_of_ble_eq_true rfl) dX0_isDigit_5 (fun r1 hw => ?_)
  obtain ⟨hn, hw⟩ := hw
  exact W.zret hx hb F.r hn (fun t ht hW => ⟨_, rfl, hw, ht⟩) (fun _ h => absurd h List.not_mem_nil) dX0_isDigit_8 (hlocks := F.k)
set_option maxHeartbeats 4000000 in
theorem mX0_isDigit {l : Launch}  {a0 : Int32} {Q : Int32 → Prop} (hw : wX0_isDigit a0 Q) : Met l yX0_isDigit (ws_ yX0_isDigit cX0_isDigit 1 (some .boolean)) rX0_isDigit (va_Pc [.int a0] (fun _ => True)) (vp_Si Q) 0 0 (fun _ => False) := by
  refine Met.ofW (cc := cX0_isDigit) (maxL := 1) (ret := some .boolean) (by decide) rfl ?_
  intro p e s m args below meth c s₁ B hml hv
  obtain ⟨rfl, -⟩ := hv
  have F : FP p c cX0_isDigit s _ m RX0 1 meth (some .boolean) := mk_FP B hml rfl
  have hl := lv_entry ([.int a0]) (n := 1) (Nat.le_of_ble_eq_true rfl)
  rw [lg_entry_eq]
  generalize (lg_sl ([.int a0]) ++ List.replicate (1 - (lg_sl ([.int a0])).length) Slot.unset).toArray = ls at hl ⊢
  exact bX0_isDigit_0 F hw hl
theorem kX0_X0_isDigit {p : Program} {l : Launch} {e : Env} {R : Room} {s : State} {m : MethodId} {args : Array Value} {below : List Frame} {meth : Method} {c : Code} {H : Heap} {locs : List Loc} {cells slots : Nat} {Q0 : State → Prop} {cc : ByteArray} {pc nL : Nat} {ls : Array Slot} {rest : List Value} {ret : Option FieldType} {a0 : Int32} {Q : Int32 → Prop} (F : FP p c cc s args m RX0 nL meth ret) (hw : wX0_isDigit a0 Q) (hR : rX0_isDigit.frames + 1 ≤ R.frames ∧ 8 + (1 + 11) + rX0_isDigit.locals ≤ R.locals) (hc : cells ≤ R.cells ∧ slots ≤ R.slots) (hsz : ls.size = nL) (hW : (rest.map fun v => v.category).sum ≤ 8) (hdg : decode cc pc = .ok (.invokestatic 152, 3)) (kk : ∀ r : Int32, Q r → W p l e R s m args below meth c H locs cells slots Q0 (F0 m (pc + 3) ls (.int r :: rest))) : W p l e R s m args below meth c H locs cells slots Q0 (F0 m pc ls (.int a0 :: rest)) :=
  k_csi (k_runP (n := 1) (As := [.int a0]) F (mX0_isDigit hw) q408 q409 q83 q410 (by decide +kernel) hR ⟨rfl, rfl⟩ hc rfl hsz rfl hW hdg) kk
def rX0_goes : Room := { frames := 2, cells := 0, slots := 0, locals := 42 }
set_option maxHeartbeats 4000000 in
theorem bX0_goes_290 {p : Program} {l : Launch} {e : Env} {s : State} {m : MethodId} {args : Array Value} {below : List Frame} {meth : Method} {c : Code} {D : DD} {A : Nat → Prop} {s0 : State} {ad : AD} {Q : CV → Prop} {E : CV → Prop} {V : CV} {H : Heap} {locs : List Loc} {ls : Array Slot} (F : FX p l c cX0_goes s args m RX0 D A s0 5 meth (none)) (hnm : s.methodNamed? yX0_goes = some m) (hB : cB D A ad V H) (hS : va_S A s.heap H locs) (hw : wX0_goes_290 V Q E) (hl : lv_has ls 5 [(0, .ref (ad 0 0 0))]) : W p l e rX0_goes s m args below meth c H locs 0 0 (XMQ below (yQ (va_Qv Q (fun u t => cB D A ad u t.heap) A) E (fun x t => x = ad 6 0 0) (fun u t => cB D A ad u t.heap) A) args s 0 0 A) (F0 m 290 ls []) := by
  have hx := F.1.x
  have hb := F.1.b
  unfold wX0_goes_290 at hw
  refine lv_aload_n hx hb dX0_goes_290 rfl (lv_at hl 0 rfl) ?_
  refine kX0_X0_wrong F hB hS hw ⟨Nat.le_of_ble_eq_true rfl, Nat.le_of_ble_eq_true rfl⟩ ⟨Nat.zero_le _, Nat.zero_le _⟩ hl.1 (Nat.le_of_ble_eq_true rfl) dX0_goes_291 (fun V2 H locs hw hB hS => ?_) (fun V2 H locs hw hB hS => ?_)
  · skip
    refine W.retY ?_
    exact W.vret hx hb F.1.r (fun t ht hW => ⟨⟨_, rfl, hw, x_B (Bw := cB D A ad) ht hB⟩, hS.F ht⟩) hS.2.2 dX0_goes_294 (hlocks := F.1.k)
  · skip
    exact wt_out (Bw := cB D A ad) F.1 hnm q404 hw (fun t _ _ => rfl) hB hS
set_option maxHeartbeats 4000000 in
theorem bX0_goes_275 {p : Program} {l : Launch} {e : Env} {s : State} {m : MethodId} {args : Array Value} {below : List Frame} {meth : Method} {c : Code} {D : DD} {A : Nat → Prop} {s0 : State} {ad : AD} {Q : CV → Prop} {E : CV → Prop} {l2 : Int32} {l3 : Int32} {k0 : Int32} {V : CV} {H : Heap} {locs : List Loc} {ls : Array Slot} (F : FX p l c cX0_goes s args m RX0 D A s0 5 meth (none)) (hnm : s.methodNamed? yX0_goes = some m) (hB : cB D A ad V H) (hS : va_S A s.heap H locs) (hw : wX0_goes_275 l2 l3 k0 V Q E) (hl : lv_has ls 5 [(0, .ref (ad 0 0 0)), (2, .int l2), (3, .int l3)]) : W p l e rX0_goes s m args below meth c H locs 0 0 (XMQ below (yQ (va_Qv Q (fun u t => cB D A ad u t.heap) A) E (fun x t => x = ad 6 0 0) (fun u t => cB D A ad u t.heap) A) args s 0 0 A) (F0 m 275 ls [.int k0]) := by
  have hx := F.1.x
  have hb := F.1.b
  unfold wX0_goes_275 at hw
  refine lv_istore (lv' := [(4, .int k0), (0, .ref (ad 0 0 0)), (2, .int l2), (3, .int l3)]) hx hb dX0_goes_275 hl (by decide) rfl (fun ls hl => ?_)
  refine lv_iload hx hb dX0_goes_277 (lv_at hl 0 rfl) ?_
  refine lv_if_eq (tgt := 294) hx hb dX0_goes_279 (by decide) (fun q => ?_) (fun q => ?_)
  · replace hw := hw.1 q
    refine W.retY ?_
    exact W.vret hx hb F.1.r (fun t ht hW => ⟨⟨_, rfl, hw, x_B (Bw := cB D A ad) ht hB⟩, hS.F ht⟩) hS.2.2 dX0_goes_294 (hlocks := F.1.k)
  · replace hw := hw.2 q
    refine lv_iload_n hx hb dX0_goes_282 rfl (lv_at hl 2 rfl) ?_
    refine lv_if_ne (tgt := 290) hx hb dX0_goes_283 (by decide) (fun q => ?_) (fun q => ?_)
    · replace hw := hw.2 q
      exact bX0_goes_290 F hnm hB hS hw (lv_sub hl [1] rfl)
    · replace hw := hw.1 q
      refine lv_iload_n hx hb dX0_goes_286 rfl (lv_at hl 3 rfl) ?_
      refine lv_if_eq (tgt := 294) hx hb dX0_goes_287 (by decide) (fun q => ?_) (fun q => ?_)
      · replace hw := hw.1 q
        refine W.retY ?_
        exact W.vret hx hb F.1.r (fun t ht hW => ⟨⟨_, rfl, hw, x_B (Bw := cB D A ad) ht hB⟩, hS.F ht⟩) hS.2.2 dX0_goes_294 (hlocks := F.1.k)
      · replace hw := hw.2 q
        exact bX0_goes_290 F hnm hB hS hw (lv_sub hl [1] rfl)
set_option maxHeartbeats 4000000 in
theorem bX0_goes_274 {p : Program} {l : Launch} {e : Env} {s : State} {m : MethodId} {args : Array Value} {below : List Frame} {meth : Method} {c : Code} {D : DD} {A : Nat → Prop} {s0 : State} {ad : AD} {Q : CV → Prop} {E : CV → Prop} {l2 : Int32} {l3 : Int32} {V : CV} {H : Heap} {locs : List Loc} {ls : Array Slot} (F : FX p l c cX0_goes s args m RX0 D A s0 5 meth (none)) (hnm : s.methodNamed? yX0_goes = some m) (hB : cB D A ad V H) (hS : va_S A s.heap H locs) (hw : wX0_goes_274 l2 l3 V Q E) (hl : lv_has ls 5 [(0, .ref (ad 0 0 0)), (2, .int l2), (3, .int l3)]) : W p l e rX0_goes s m args below meth c H locs 0 0 (XMQ below (yQ (va_Qv Q (fun u t => cB D A ad u t.heap) A) E (fun x t => x = ad 6 0 0) (fun u t => cB D A ad u t.heap) A) args s 0 0 A) (F0 m 274 ls []) := by
  have hx := F.1.x
  have hb := F.1.b
  unfold wX0_goes_274 at hw
  refine lv_iconst (v := 0) hx hb dX0_goes_274 (by decide) ?_
  exact bX0_goes_275 F hnm hB hS hw hl
set_option maxHeartbeats 4000000 in
theorem bX0_goes_270 {p : Program} {l : Launch} {e : Env} {s : State} {m : MethodId} {args : Array Value} {below : List Frame} {meth : Method} {c : Code} {D : DD} {A : Nat → Prop} {s0 : State} {ad : AD} {Q : CV → Prop} {E : CV → Prop} {l2 : Int32} {l3 : Int32} {V : CV} {H : Heap} {locs : List Loc} {ls : Array Slot} (F : FX p l c cX0_goes s args m RX0 D A s0 5 meth (none)) (hnm : s.methodNamed? yX0_goes = some m) (hB : cB D A ad V H) (hS : va_S A s.heap H locs) (hw : wX0_goes_270 l2 l3 V Q E) (hl : lv_has ls 5 [(0, .ref (ad 0 0 0)), (2, .int l2), (3, .int l3)]) : W p l e rX0_goes s m args below meth c H locs 0 0 (XMQ below (yQ (va_Qv Q (fun u t => cB D A ad u t.heap) A) E (fun x t => x = ad 6 0 0) (fun u t => cB D A ad u t.heap) A) args s 0 0 A) (F0 m 270 ls []) := by
  have hx := F.1.x
  have hb := F.1.b
  unfold wX0_goes_270 at hw
  refine lv_iconst (v := 1) hx hb dX0_goes_270 (by decide) ?_
  refine lv_goto (tgt := 275) hx hb dX0_goes_271 (by decide) ?_
  exact bX0_goes_275 F hnm hB hS hw hl
set_option maxHeartbeats 4000000 in
theorem bX0_goes_230 {p : Program} {l : Launch} {e : Env} {s : State} {m : MethodId} {args : Array Value} {below : List Frame} {meth : Method} {c : Code} {D : DD} {A : Nat → Prop} {s0 : State} {ad : AD} {Q : CV → Prop} {E : CV → Prop} {l1 : Int32} {l2 : Int32} {l3 : Int32} {V : CV} {H : Heap} {locs : List Loc} {ls : Array Slot} (F : FX p l c cX0_goes s args m RX0 D A s0 5 meth (none)) (hnm : s.methodNamed? yX0_goes = some m) (hB : cB D A ad V H) (hS : va_S A s.heap H locs) (hw : wX0_goes_230 l1 l2 l3 V Q E) (hl : lv_has ls 5 [(0, .ref (ad 0 0 0)), (1, .int l1), (2, .int l2), (3, .int l3)]) : W p l e rX0_goes s m args below meth c H locs 0 0 (XMQ below (yQ (va_Qv Q (fun u t => cB D A ad u t.heap) A) E (fun x t => x = ad 6 0 0) (fun u t => cB D A ad u t.heap) A) args s 0 0 A) (F0 m 230 ls []) := by
  have hx := F.1.x
  have hb := F.1.b
  unfold wX0_goes_230 at hw
  refine lv_aload_n hx hb dX0_goes_230 rfl (lv_at hl 0 rfl) ?_
  refine cg_X0_136 F hB dX0_goes_231 ?_
  refine lv_iload_n hx hb dX0_goes_234 rfl (lv_at hl 1 rfl) ?_
  refine lv_icmp_ne (tgt := 274) hx hb dX0_goes_235 (by decide) (fun q => ?_) (fun q => ?_)
  · replace hw := hw.2 q
    exact bX0_goes_274 F hnm hB hS hw (lv_sub hl [0, 2, 3] rfl)
  · replace hw := hw.1 q
    refine lv_iload_n hx hb dX0_goes_238 rfl (lv_at hl 1 rfl) ?_
    refine lv_if_le (tgt := 274) hx hb dX0_goes_239 (by decide) (fun q => ?_) (fun q => ?_)
    · replace hw := hw.1 q
      exact bX0_goes_274 F hnm hB hS hw (lv_sub hl [0, 2, 3] rfl)
    · replace hw := hw.2 q
      refine lv_aload_n hx hb dX0_goes_242 rfl (lv_at hl 0 rfl) ?_
      refine cg_X0_60 F hB dX0_goes_243 ?_
      refine lv_iload_n hx hb dX0_goes_246 rfl (lv_at hl 1 rfl) ?_
      refine lv_iconst (v := 1) hx hb dX0_goes_247 (by decide) ?_
      refine lv_isub hx hb dX0_goes_248 ?_
      obtain ⟨hin1, hw⟩ := hw
      refine cl_5 F hB hin1 dX0_goes_249 ?_
      refine kX0_X0_isLetter F.1 hw ⟨Nat.le_of_ble_eq_true rfl, Nat.le_of_ble_eq_true rfl⟩ ⟨Nat.zero_le _, Nat.zero_le _⟩ hl.1 (Nat.le_of_ble_eq_true rfl) dX0_goes_250 (fun r2 hw => ?_)
      refine lv_if_ne (tgt := 270) hx hb dX0_goes_253 (by decide) (fun q => ?_) (fun q => ?_)
      · replace hw := hw.2 q
        exact bX0_goes_270 F hnm hB hS hw (lv_sub hl [0, 2, 3] rfl)
      · replace hw := hw.1 q
        refine lv_aload_n hx hb dX0_goes_256 rfl (lv_at hl 0 rfl) ?_
        refine cg_X0_60 F hB dX0_goes_257 ?_
        refine lv_iload_n hx hb dX0_goes_260 rfl (lv_at hl 1 rfl) ?_
        refine lv_iconst (v := 1) hx hb dX0_goes_261 (by decide) ?_
        refine lv_isub hx hb dX0_goes_262 ?_
        obtain ⟨hin3, hw⟩ := hw
        refine cl_5 F hB hin3 dX0_goes_263 ?_
        refine kX0_X0_isDigit F.1 hw ⟨Nat.le_of_ble_eq_true rfl, Nat.le_of_ble_eq_true rfl⟩ ⟨Nat.zero_le _, Nat.zero_le _⟩ hl.1 (Nat.le_of_ble_eq_true rfl) dX0_goes_264 (fun r4 hw => ?_)
        refine lv_if_eq (tgt := 274) hx hb dX0_goes_267 (by decide) (fun q => ?_) (fun q => ?_)
        · replace hw := hw.1 q
          exact bX0_goes_274 F hnm hB hS hw (lv_sub hl [0, 2, 3] rfl)
        · replace hw := hw.2 q
          exact bX0_goes_270 F hnm hB hS hw (lv_sub hl [0, 2, 3] rfl)
set_option maxHeartbeats 4000000 in
theorem bX0_goes_170 {p : Program} {l : Launch} {e : Env} {s : State} {m : MethodId} {args : Array Value} {below : List Frame} {meth : Method} {c : Code} {D : DD} {A : Nat → Prop} {s0 : State} {ad : AD} {Q : CV → Prop} {E : CV → Prop} (F : FX p l c cX0_goes s args m RX0 D A s0 5 meth (none)) (hnm : s.methodNamed? yX0_goes = some m) : ∀ (n : Nat) (l1 : Int32) (l2 : Int32) (l3 : Int32) (V : CV), wX0_goes_170 Q E n l1 l2 l3 V → ∀ (H : Heap) (locs : List Loc) (ls : Array Slot), cB D A ad V H → va_S A s.heap H locs → lv_has ls 5 [(0, .ref (ad 0 0 0)), (1, .int l1), (2, .int l2), (3, .int l3)] → W p l e rX0_goes s m args below meth c H locs 0 0 (XMQ below (yQ (va_Qv Q (fun u t => cB D A ad u t.heap) A) E (fun x t => x = ad 6 0 0) (fun u t => cB D A ad u t.heap) A) args s 0 0 A) (F0 m 170 ls []) := by
  have hx := F.1.x
  have hb := F.1.b
  intro n
  induction n with
  | zero => intro l1 l2 l3 V hw; exact hw.elim
  | succ n ih =>
    intro l1 l2 l3 V hw H locs ls hB hS hl
    unfold wX0_goes_170 at hw
    refine lv_aload_n hx hb dX0_goes_170 rfl (lv_at hl 0 rfl) ?_
    refine cg_X0_142 F hB dX0_goes_171 ?_
    refine lv_aload_n hx hb dX0_goes_174 rfl (lv_at hl 0 rfl) ?_
    refine cg_X0_145 F hB dX0_goes_175 ?_
    refine lv_icmp_ge (tgt := 230) hx hb dX0_goes_178 (by decide) (fun q => ?_) (fun q => ?_)
    · replace hw := hw.1 q
      exact bX0_goes_230 F hnm hB hS hw hl
    · replace hw := hw.2 q
      refine lv_aload_n hx hb dX0_goes_181 rfl (lv_at hl 0 rfl) ?_
      refine cg_X0_60 F hB dX0_goes_182 ?_
      refine lv_aload_n hx hb dX0_goes_185 rfl (lv_at hl 0 rfl) ?_
      refine cg_X0_142 F hB dX0_goes_186 ?_
      obtain ⟨hin1, hw⟩ := hw
      refine cl_5 F hB hin1 dX0_goes_189 ?_
      refine kX0_X0_isDigit F.1 hw ⟨Nat.le_of_ble_eq_true rfl, Nat.le_of_ble_eq_true rfl⟩ ⟨Nat.zero_le _, Nat.zero_le _⟩ hl.1 (Nat.le_of_ble_eq_true rfl) dX0_goes_190 (fun r2 hw => ?_)
      refine lv_if_eq (tgt := 230) hx hb dX0_goes_193 (by decide) (fun q => ?_) (fun q => ?_)
      · replace hw := hw.1 q
        exact bX0_goes_230 F hnm hB hS hw hl
      · replace hw := hw.2 q
        refine lv_aload_n hx hb dX0_goes_196 rfl (lv_at hl 0 rfl) ?_
        refine lv_dup hx hb dX0_goes_197 rfl ?_
        refine cg_X0_142 F hB dX0_goes_198 ?_
        refine lv_iconst (v := 1) hx hb dX0_goes_201 (by decide) ?_
        refine lv_iadd hx hb dX0_goes_202 ?_
        refine cp_X0_142 F hB hS dX0_goes_203 (fun H locs hB hS => ?_)
        refine lv_goto (tgt := 170) hx hb dX0_goes_206 (by decide) ?_
        exact ih _ _ _ _ hw _ _ _ hB hS hl
set_option maxHeartbeats 4000000 in
theorem bX0_goes_127 {p : Program} {l : Launch} {e : Env} {s : State} {m : MethodId} {args : Array Value} {below : List Frame} {meth : Method} {c : Code} {D : DD} {A : Nat → Prop} {s0 : State} {ad : AD} {Q : CV → Prop} {E : CV → Prop} (F : FX p l c cX0_goes s args m RX0 D A s0 5 meth (none)) (hnm : s.methodNamed? yX0_goes = some m) : ∀ (n : Nat) (l1 : Int32) (l2 : Int32) (l3 : Int32) (V : CV), wX0_goes_127 Q E n l1 l2 l3 V → ∀ (H : Heap) (locs : List Loc) (ls : Array Slot), cB D A ad V H → va_S A s.heap H locs → lv_has ls 5 [(0, .ref (ad 0 0 0)), (1, .int l1), (2, .int l2), (3, .int l3)] → W p l e rX0_goes s m args below meth c H locs 0 0 (XMQ below (yQ (va_Qv Q (fun u t => cB D A ad u t.heap) A) E (fun x t => x = ad 6 0 0) (fun u t => cB D A ad u t.heap) A) args s 0 0 A) (F0 m 127 ls []) := by
  have hx := F.1.x
  have hb := F.1.b
  intro n
  induction n with
  | zero => intro l1 l2 l3 V hw; exact hw.elim
  | succ n ih =>
    intro l1 l2 l3 V hw H locs ls hB hS hl
    unfold wX0_goes_127 at hw
    refine lv_aload_n hx hb dX0_goes_127 rfl (lv_at hl 0 rfl) ?_
    refine cg_X0_142 F hB dX0_goes_128 ?_
    refine lv_aload_n hx hb dX0_goes_131 rfl (lv_at hl 0 rfl) ?_
    refine cg_X0_145 F hB dX0_goes_132 ?_
    refine lv_icmp_ge (tgt := 230) hx hb dX0_goes_135 (by decide) (fun q => ?_) (fun q => ?_)
    · replace hw := hw.1 q
      exact bX0_goes_230 F hnm hB hS hw hl
    · replace hw := hw.2 q
      refine lv_aload_n hx hb dX0_goes_138 rfl (lv_at hl 0 rfl) ?_
      refine cg_X0_60 F hB dX0_goes_139 ?_
      refine lv_aload_n hx hb dX0_goes_142 rfl (lv_at hl 0 rfl) ?_
      refine cg_X0_142 F hB dX0_goes_143 ?_
      obtain ⟨hin1, hw⟩ := hw
      refine cl_5 F hB hin1 dX0_goes_146 ?_
      refine kX0_X0_isLetter F.1 hw ⟨Nat.le_of_ble_eq_true rfl, Nat.le_of_ble_eq_true rfl⟩ ⟨Nat.zero_le _, Nat.zero_le _⟩ hl.1 (Nat.le_of_ble_eq_true rfl) dX0_goes_147 (fun r2 hw => ?_)
      refine lv_if_eq (tgt := 230) hx hb dX0_goes_150 (by decide) (fun q => ?_) (fun q => ?_)
      · replace hw := hw.1 q
        exact bX0_goes_230 F hnm hB hS hw hl
      · replace hw := hw.2 q
        refine lv_aload_n hx hb dX0_goes_153 rfl (lv_at hl 0 rfl) ?_
        refine lv_dup hx hb dX0_goes_154 rfl ?_
        refine cg_X0_142 F hB dX0_goes_155 ?_
        refine lv_iconst (v := 1) hx hb dX0_goes_158 (by decide) ?_
        refine lv_iadd hx hb dX0_goes_159 ?_
        refine cp_X0_142 F hB hS dX0_goes_160 (fun H locs hB hS => ?_)
        refine lv_goto (tgt := 127) hx hb dX0_goes_163 (by decide) ?_
        exact ih _ _ _ _ hw _ _ _ hB hS hl
set_option maxHeartbeats 4000000 in
theorem bX0_goes_122 {p : Program} {l : Launch} {e : Env} {s : State} {m : MethodId} {args : Array Value} {below : List Frame} {meth : Method} {c : Code} {D : DD} {A : Nat → Prop} {s0 : State} {ad : AD} {Q : CV → Prop} {E : CV → Prop} {l1 : Int32} {l2 : Int32} {k0 : Int32} {V : CV} {H : Heap} {locs : List Loc} {ls : Array Slot} (F : FX p l c cX0_goes s args m RX0 D A s0 5 meth (none)) (hnm : s.methodNamed? yX0_goes = some m) (hB : cB D A ad V H) (hS : va_S A s.heap H locs) (hw : wX0_goes_122 l1 l2 k0 V Q E) (hl : lv_has ls 5 [(0, .ref (ad 0 0 0)), (1, .int l1), (2, .int l2)]) : W p l e rX0_goes s m args below meth c H locs 0 0 (XMQ below (yQ (va_Qv Q (fun u t => cB D A ad u t.heap) A) E (fun x t => x = ad 6 0 0) (fun u t => cB D A ad u t.heap) A) args s 0 0 A) (F0 m 122 ls [.int k0]) := by
  have hx := F.1.x
  have hb := F.1.b
  unfold wX0_goes_122 at hw
  refine lv_istore_n (lv' := [(3, .int k0), (0, .ref (ad 0 0 0)), (1, .int l1), (2, .int l2)]) hx hb dX0_goes_122 rfl hl (by decide) rfl (fun ls hl => ?_)
  refine lv_iload_n hx hb dX0_goes_123 rfl (lv_at hl 3 rfl) ?_
  refine lv_if_eq (tgt := 166) hx hb dX0_goes_124 (by decide) (fun q => ?_) (fun q => ?_)
  · replace hw := hw.1 q
    refine lv_iload_n hx hb dX0_goes_166 rfl (lv_at hl 0 rfl) ?_
    refine lv_if_eq (tgt := 209) hx hb dX0_goes_167 (by decide) (fun q => ?_) (fun q => ?_)
    · replace hw := hw.1 q
      refine lv_aload_n hx hb dX0_goes_209 rfl (lv_at hl 1 rfl) ?_
      refine cg_X0_136 F hB dX0_goes_210 ?_
      refine lv_aload_n hx hb dX0_goes_213 rfl (lv_at hl 1 rfl) ?_
      refine cg_X0_145 F hB dX0_goes_214 ?_
      refine lv_icmp_ge (tgt := 230) hx hb dX0_goes_217 (by decide) (fun q => ?_) (fun q => ?_)
      · replace hw := hw.1 q
        exact bX0_goes_230 F hnm hB hS hw (lv_sub hl [1, 2, 3, 0] rfl)
      · replace hw := hw.2 q
        refine lv_aload_n hx hb dX0_goes_220 rfl (lv_at hl 1 rfl) ?_
        refine lv_dup hx hb dX0_goes_221 rfl ?_
        refine cg_X0_142 F hB dX0_goes_222 ?_
        refine lv_iconst (v := 1) hx hb dX0_goes_225 (by decide) ?_
        refine lv_iadd hx hb dX0_goes_226 ?_
        refine cp_X0_142 F hB hS dX0_goes_227 (fun H locs hB hS => ?_)
        exact bX0_goes_230 F hnm hB hS hw (lv_sub hl [1, 2, 3, 0] rfl)
    · replace hw := hw.2 q
      obtain ⟨f_170, hw⟩ := hw
      exact bX0_goes_170 F hnm f_170 _ _ _ _ hw _ _ _ hB hS (lv_sub hl [1, 2, 3, 0] rfl)
  · replace hw := hw.2 q
    obtain ⟨f_127, hw⟩ := hw
    exact bX0_goes_127 F hnm f_127 _ _ _ _ hw _ _ _ hB hS (lv_sub hl [1, 2, 3, 0] rfl)
set_option maxHeartbeats 4000000 in
theorem bX0_goes_121 {p : Program} {l : Launch} {e : Env} {s : State} {m : MethodId} {args : Array Value} {below : List Frame} {meth : Method} {c : Code} {D : DD} {A : Nat → Prop} {s0 : State} {ad : AD} {Q : CV → Prop} {E : CV → Prop} {l1 : Int32} {l2 : Int32} {V : CV} {H : Heap} {locs : List Loc} {ls : Array Slot} (F : FX p l c cX0_goes s args m RX0 D A s0 5 meth (none)) (hnm : s.methodNamed? yX0_goes = some m) (hB : cB D A ad V H) (hS : va_S A s.heap H locs) (hw : wX0_goes_121 l1 l2 V Q E) (hl : lv_has ls 5 [(0, .ref (ad 0 0 0)), (1, .int l1), (2, .int l2)]) : W p l e rX0_goes s m args below meth c H locs 0 0 (XMQ below (yQ (va_Qv Q (fun u t => cB D A ad u t.heap) A) E (fun x t => x = ad 6 0 0) (fun u t => cB D A ad u t.heap) A) args s 0 0 A) (F0 m 121 ls []) := by
  have hx := F.1.x
  have hb := F.1.b
  unfold wX0_goes_121 at hw
  refine lv_iconst (v := 0) hx hb dX0_goes_121 (by decide) ?_
  exact bX0_goes_122 F hnm hB hS hw hl
set_option maxHeartbeats 4000000 in
theorem bX0_goes_90 {p : Program} {l : Launch} {e : Env} {s : State} {m : MethodId} {args : Array Value} {below : List Frame} {meth : Method} {c : Code} {D : DD} {A : Nat → Prop} {s0 : State} {ad : AD} {Q : CV → Prop} {E : CV → Prop} {l1 : Int32} {k0 : Int32} {V : CV} {H : Heap} {locs : List Loc} {ls : Array Slot} (F : FX p l c cX0_goes s args m RX0 D A s0 5 meth (none)) (hnm : s.methodNamed? yX0_goes = some m) (hB : cB D A ad V H) (hS : va_S A s.heap H locs) (hw : wX0_goes_90 l1 k0 V Q E) (hl : lv_has ls 5 [(0, .ref (ad 0 0 0)), (1, .int l1)]) : W p l e rX0_goes s m args below meth c H locs 0 0 (XMQ below (yQ (va_Qv Q (fun u t => cB D A ad u t.heap) A) E (fun x t => x = ad 6 0 0) (fun u t => cB D A ad u t.heap) A) args s 0 0 A) (F0 m 90 ls [.int k0]) := by
  have hx := F.1.x
  have hb := F.1.b
  unfold wX0_goes_90 at hw
  refine lv_istore_n (lv' := [(2, .int k0), (0, .ref (ad 0 0 0)), (1, .int l1)]) hx hb dX0_goes_90 rfl hl (by decide) rfl (fun ls hl => ?_)
  refine lv_aload_n hx hb dX0_goes_91 rfl (lv_at hl 1 rfl) ?_
  refine cg_X0_136 F hB dX0_goes_92 ?_
  refine lv_aload_n hx hb dX0_goes_95 rfl (lv_at hl 1 rfl) ?_
  refine cg_X0_145 F hB dX0_goes_96 ?_
  refine lv_icmp_ge (tgt := 121) hx hb dX0_goes_99 (by decide) (fun q => ?_) (fun q => ?_)
  · replace hw := hw.1 q
    exact bX0_goes_121 F hnm hB hS hw (lv_sub hl [1, 2, 0] rfl)
  · replace hw := hw.2 q
    refine lv_aload_n hx hb dX0_goes_102 rfl (lv_at hl 1 rfl) ?_
    refine cg_X0_60 F hB dX0_goes_103 ?_
    refine lv_aload_n hx hb dX0_goes_106 rfl (lv_at hl 1 rfl) ?_
    refine cg_X0_136 F hB dX0_goes_107 ?_
    obtain ⟨hin1, hw⟩ := hw
    refine cl_5 F hB hin1 dX0_goes_110 ?_
    refine kX0_X0_isDigit F.1 hw ⟨Nat.le_of_ble_eq_true rfl, Nat.le_of_ble_eq_true rfl⟩ ⟨Nat.zero_le _, Nat.zero_le _⟩ hl.1 (Nat.le_of_ble_eq_true rfl) dX0_goes_111 (fun r2 hw => ?_)
    refine lv_if_eq (tgt := 121) hx hb dX0_goes_114 (by decide) (fun q => ?_) (fun q => ?_)
    · replace hw := hw.1 q
      exact bX0_goes_121 F hnm hB hS hw (lv_sub hl [1, 2, 0] rfl)
    · replace hw := hw.2 q
      refine lv_iconst (v := 1) hx hb dX0_goes_117 (by decide) ?_
      refine lv_goto (tgt := 122) hx hb dX0_goes_118 (by decide) ?_
      exact bX0_goes_122 F hnm hB hS hw (lv_sub hl [1, 2, 0] rfl)
set_option maxHeartbeats 4000000 in
theorem bX0_goes_89 {p : Program} {l : Launch} {e : Env} {s : State} {m : MethodId} {args : Array Value} {below : List Frame} {meth : Method} {c : Code} {D : DD} {A : Nat → Prop} {s0 : State} {ad : AD} {Q : CV → Prop} {E : CV → Prop} {l1 : Int32} {V : CV} {H : Heap} {locs : List Loc} {ls : Array Slot} (F : FX p l c cX0_goes s args m RX0 D A s0 5 meth (none)) (hnm : s.methodNamed? yX0_goes = some m) (hB : cB D A ad V H) (hS : va_S A s.heap H locs) (hw : wX0_goes_89 l1 V Q E) (hl : lv_has ls 5 [(0, .ref (ad 0 0 0)), (1, .int l1)]) : W p l e rX0_goes s m args below meth c H locs 0 0 (XMQ below (yQ (va_Qv Q (fun u t => cB D A ad u t.heap) A) E (fun x t => x = ad 6 0 0) (fun u t => cB D A ad u t.heap) A) args s 0 0 A) (F0 m 89 ls []) := by
  have hx := F.1.x
  have hb := F.1.b
  unfold wX0_goes_89 at hw
  refine lv_iconst (v := 0) hx hb dX0_goes_89 (by decide) ?_
  exact bX0_goes_90 F hnm hB hS hw hl
set_option maxHeartbeats 4000000 in
theorem bX0_goes_51 {p : Program} {l : Launch} {e : Env} {s : State} {m : MethodId} {args : Array Value} {below : List Frame} {meth : Method} {c : Code} {D : DD} {A : Nat → Prop} {s0 : State} {ad : AD} {Q : CV → Prop} {E : CV → Prop} {l1 : Int32} {V : CV} {H : Heap} {locs : List Loc} {ls : Array Slot} (F : FX p l c cX0_goes s args m RX0 D A s0 5 meth (none)) (hnm : s.methodNamed? yX0_goes = some m) (hB : cB D A ad V H) (hS : va_S A s.heap H locs) (hw : wX0_goes_51 l1 V Q E) (hl : lv_has ls 5 [(0, .ref (ad 0 0 0)), (1, .int l1)]) : W p l e rX0_goes s m args below meth c H locs 0 0 (XMQ below (yQ (va_Qv Q (fun u t => cB D A ad u t.heap) A) E (fun x t => x = ad 6 0 0) (fun u t => cB D A ad u t.heap) A) args s 0 0 A) (F0 m 51 ls []) := by
  have hx := F.1.x
  have hb := F.1.b
  unfold wX0_goes_51 at hw
  refine lv_aload_n hx hb dX0_goes_51 rfl (lv_at hl 0 rfl) ?_
  refine lv_aload_n hx hb dX0_goes_52 rfl (lv_at hl 0 rfl) ?_
  refine cg_X0_136 F hB dX0_goes_53 ?_
  refine cp_X0_142 F hB hS dX0_goes_56 (fun H locs hB hS => ?_)
  refine lv_aload_n hx hb dX0_goes_59 rfl (lv_at hl 0 rfl) ?_
  refine cg_X0_136 F hB dX0_goes_60 ?_
  refine lv_aload_n hx hb dX0_goes_63 rfl (lv_at hl 0 rfl) ?_
  refine cg_X0_145 F hB dX0_goes_64 ?_
  refine lv_icmp_ge (tgt := 89) hx hb dX0_goes_67 (by decide) (fun q => ?_) (fun q => ?_)
  · replace hw := hw.1 q
    exact bX0_goes_89 F hnm hB hS hw hl
  · replace hw := hw.2 q
    refine lv_aload_n hx hb dX0_goes_70 rfl (lv_at hl 0 rfl) ?_
    refine cg_X0_60 F hB dX0_goes_71 ?_
    refine lv_aload_n hx hb dX0_goes_74 rfl (lv_at hl 0 rfl) ?_
    refine cg_X0_136 F hB dX0_goes_75 ?_
    obtain ⟨hin1, hw⟩ := hw
    refine cl_5 F hB hin1 dX0_goes_78 ?_
    refine kX0_X0_isLetter F.1 hw ⟨Nat.le_of_ble_eq_true rfl, Nat.le_of_ble_eq_true rfl⟩ ⟨Nat.zero_le _, Nat.zero_le _⟩ hl.1 (Nat.le_of_ble_eq_true rfl) dX0_goes_79 (fun r2 hw => ?_)
    refine lv_if_eq (tgt := 89) hx hb dX0_goes_82 (by decide) (fun q => ?_) (fun q => ?_)
    · replace hw := hw.1 q
      exact bX0_goes_89 F hnm hB hS hw hl
    · replace hw := hw.2 q
      refine lv_iconst (v := 1) hx hb dX0_goes_85 (by decide) ?_
      refine lv_goto (tgt := 90) hx hb dX0_goes_86 (by decide) ?_
      exact bX0_goes_90 F hnm hB hS hw hl
set_option maxHeartbeats 4000000 in
theorem bX0_goes_13 {p : Program} {l : Launch} {e : Env} {s : State} {m : MethodId} {args : Array Value} {below : List Frame} {meth : Method} {c : Code} {D : DD} {A : Nat → Prop} {s0 : State} {ad : AD} {Q : CV → Prop} {E : CV → Prop} (F : FX p l c cX0_goes s args m RX0 D A s0 5 meth (none)) (hnm : s.methodNamed? yX0_goes = some m) : ∀ (n : Nat) (l1 : Int32) (V : CV), wX0_goes_13 Q E n l1 V → ∀ (H : Heap) (locs : List Loc) (ls : Array Slot), cB D A ad V H → va_S A s.heap H locs → lv_has ls 5 [(0, .ref (ad 0 0 0)), (1, .int l1)] → W p l e rX0_goes s m args below meth c H locs 0 0 (XMQ below (yQ (va_Qv Q (fun u t => cB D A ad u t.heap) A) E (fun x t => x = ad 6 0 0) (fun u t => cB D A ad u t.heap) A) args s 0 0 A) (F0 m 13 ls []) := by
  have hx := F.1.x
  have hb := F.1.b
  intro n
  induction n with
  | zero => intro l1 V hw; exact hw.elim
  | succ n ih =>
    intro l1 V hw H locs ls hB hS hl
    unfold wX0_goes_13 at hw
    refine lv_aload_n hx hb dX0_goes_13 rfl (lv_at hl 0 rfl) ?_
    refine cg_X0_136 F hB dX0_goes_14 ?_
    refine lv_aload_n hx hb dX0_goes_17 rfl (lv_at hl 0 rfl) ?_
    refine cg_X0_145 F hB dX0_goes_18 ?_
    refine lv_icmp_ge (tgt := 51) hx hb dX0_goes_21 (by decide) (fun q => ?_) (fun q => ?_)
    · replace hw := hw.1 q
      exact bX0_goes_51 F hnm hB hS hw hl
    · replace hw := hw.2 q
      refine lv_aload_n hx hb dX0_goes_24 rfl (lv_at hl 0 rfl) ?_
      refine cg_X0_60 F hB dX0_goes_25 ?_
      refine lv_aload_n hx hb dX0_goes_28 rfl (lv_at hl 0 rfl) ?_
      refine cg_X0_136 F hB dX0_goes_29 ?_
      obtain ⟨hin1, hw⟩ := hw
      refine cl_5 F hB hin1 dX0_goes_32 ?_
      refine lv_bipush (v := 32) hx hb dX0_goes_33 (by decide) ?_
      refine lv_icmp_ne (tgt := 51) hx hb dX0_goes_35 (by decide) (fun q => ?_) (fun q => ?_)
      · replace hw := hw.2 q
        exact bX0_goes_51 F hnm hB hS hw hl
      · replace hw := hw.1 q
        refine lv_aload_n hx hb dX0_goes_38 rfl (lv_at hl 0 rfl) ?_
        refine lv_dup hx hb dX0_goes_39 rfl ?_
        refine cg_X0_136 F hB dX0_goes_40 ?_
        refine lv_iconst (v := 1) hx hb dX0_goes_43 (by decide) ?_
        refine lv_iadd hx hb dX0_goes_44 ?_
        refine cp_X0_136 F hB hS dX0_goes_45 (fun H locs hB hS => ?_)
        refine lv_goto (tgt := 13) hx hb dX0_goes_48 (by decide) ?_
        exact ih _ _ hw _ _ _ hB hS hl
set_option maxHeartbeats 4000000 in
theorem bX0_goes_0 {p : Program} {l : Launch} {e : Env} {s : State} {m : MethodId} {args : Array Value} {below : List Frame} {meth : Method} {c : Code} {D : DD} {A : Nat → Prop} {s0 : State} {ad : AD} {Q : CV → Prop} {E : CV → Prop} {V : CV} {H : Heap} {locs : List Loc} {ls : Array Slot} (F : FX p l c cX0_goes s args m RX0 D A s0 5 meth (none)) (hnm : s.methodNamed? yX0_goes = some m) (hB : cB D A ad V H) (hS : va_S A s.heap H locs) (hw : wX0_goes V Q E) (hl : lv_has ls 5 [(0, .ref (ad 0 0 0))]) : W p l e rX0_goes s m args below meth c H locs 0 0 (XMQ below (yQ (va_Qv Q (fun u t => cB D A ad u t.heap) A) E (fun x t => x = ad 6 0 0) (fun u t => cB D A ad u t.heap) A) args s 0 0 A) (F0 m 0 ls []) := by
  have hx := F.1.x
  have hb := F.1.b
  unfold wX0_goes at hw
  refine lv_aload_n hx hb dX0_goes_0 rfl (lv_at hl 0 rfl) ?_
  refine cg_X0_142 F hB dX0_goes_1 ?_
  refine lv_istore_n (lv' := [(1, .int (vI V 9)), (0, .ref (ad 0 0 0))]) hx hb dX0_goes_4 rfl hl (by decide) rfl (fun ls hl => ?_)
  refine lv_aload_n hx hb dX0_goes_5 rfl (lv_at hl 1 rfl) ?_
  refine lv_aload_n hx hb dX0_goes_6 rfl (lv_at hl 1 rfl) ?_
  refine cg_X0_142 F hB dX0_goes_7 ?_
  refine cp_X0_136 F hB hS dX0_goes_10 (fun H locs hB hS => ?_)
  obtain ⟨f_13, hw⟩ := hw
  exact bX0_goes_13 F hnm f_13 _ _ hw _ _ _ hB hS (lv_sub hl [1, 0] rfl)
set_option maxHeartbeats 4000000 in
theorem mX0_goes {l : Launch} {D : DD} {A : Nat → Prop} {s0 : State} {ad : AD} {V : CV}  {Q : CV → Prop} {E : CV → Prop} (hw : wX0_goes V Q E) : MetY l yX0_goes (ws_ yX0_goes cX0_goes 5 (none)) rX0_goes (va_Pc [.ref (ad 0 0 0)] (fun U => cB D A ad V U.heap ∧ CX l D A s0 U)) (yQ (va_Qv Q (fun u t => cB D A ad u t.heap) A) E (fun x t => x = ad 6 0 0) (fun u t => cB D A ad u t.heap) A) 0 0 A := by
  refine MetY.ofW (cc := cX0_goes) (maxL := 5) (ret := none) (by decide) ?_
  intro p e s m args below meth c F1 hnm _ hv
  obtain ⟨rfl, hB, hC⟩ := hv
  have F : FX p l c cX0_goes s _ m RX0 D A s0 5 meth (none) := ⟨F1, hC⟩
  have hS : va_S A s.heap s.heap [] := va_S.rf
  have hl := lv_entry ([.ref (ad 0 0 0)]) (n := 5) (Nat.le_of_ble_eq_true rfl)
  rw [lg_entry_eq]
  generalize (lg_sl ([.ref (ad 0 0 0)]) ++ List.replicate (5 - (lg_sl ([.ref (ad 0 0 0)])).length) Slot.unset).toArray = ls at hl ⊢
  exact bX0_goes_0 F hnm hB hS hw hl
theorem kX0_X0_goes {p : Program} {l : Launch} {e : Env} {R : Room} {s : State} {m : MethodId} {args : Array Value} {below : List Frame} {meth : Method} {c : Code} {H : Heap} {locs : List Loc} {cells slots : Nat} {Q0 : State → Prop} {cc : ByteArray} {pc nL : Nat} {ls : Array Slot} {rest : List Value} {ret : Option FieldType} {D : DD} {A : Nat → Prop} {s0 : State} {ad : AD} {V : CV} {Q : CV → Prop} {E : CV → Prop} (F : FX p l c cc s args m RX0 D A s0 nL meth ret) (hB : cB D A ad V H) (hS : va_S A s.heap H locs) (hw : wX0_goes V Q E) (hR : rX0_goes.frames + 1 ≤ R.frames ∧ 8 + (5 + 11) + rX0_goes.locals ≤ R.locals) (hc : cells + 0 ≤ R.cells ∧ slots + 0 ≤ R.slots) (hsz : ls.size = nL) (hW : (rest.map fun v => v.category).sum ≤ 8) (hdg : decode cc pc = .ok (.invokevirtual 168, 3)) (kk : ∀ (u : CV) (H1 : Heap) (locs1 : List Loc), Q u → cB D A ad u H1 → va_S A s.heap H1 locs1 → W p l e R s m args below meth c H1 locs1 cells slots Q0 (F0 m (pc + 3) ls (rest))) (ke : ∀ (u : CV) (H1 : Heap) (locs1 : List Loc), E u → cB D A ad u H1 → va_S A s.heap H1 locs1 → WT p l e R s m args below meth c H1 locs1 cells slots Q0 (F0 m pc ls rest) (ad 6 0 0)) : W p l e R s m args below meth c H locs cells slots Q0 (F0 m pc ls (.ref (ad 0 0 0) :: rest)) :=
  k_vY (Bw := cB D A ad) (k_runVY (Bw := cB D A ad) (n := 0) (As := []) F hB hS (c_at F (hB.pic cpic0) rfl) (mX0_goes hw) codeOf (lw_meth q404) q401 q403 qs3 (by decide +kernel) hR ⟨rfl, rfl⟩ hc rfl hsz rfl hW hdg) hS kk (fun x u H1 locs1 hE hK hB hS => by
    obtain ⟨t, h1, h2, h3⟩ := hK
    subst h3
    exact ke u H1 locs1 hE hB hS)
def rX13_add : Room := { frames := 0, cells := 0, slots := 0, locals := 0 }
set_option maxHeartbeats 4000000 in
theorem bX13_add_0 {p : Program} {l : Launch} {e : Env} {s : State} {m : MethodId} {args : Array Value} {below : List Frame} {meth : Method} {c : Code} {D : DD} {A : Nat → Prop} {s0 : State} {ad : AD} {Q : CV → Prop} {a0 : Nat} {a1 : Int32} {a2 : Int32} {V : CV} {H : Heap} {locs : List Loc} {ls : Array Slot} (F : FX p l c cX13_add s args m RX13 D A s0 3 meth (none)) (hB : cB D A ad V H) (hS : va_S A s.heap H locs) (hw : wX13_add a0 a1 a2 V Q) (hl : lv_has ls 3 [(0, .ref a0), (1, .int a1), (2, .int a2)]) : W p l e rX13_add s m args below meth c H locs 0 0 (MQ below (va_Qv Q (fun u t => cB D A ad u t.heap) A) args s 0 0 A) (F0 m 0 ls []) := by
  have hx := F.1.x
  have hb := F.1.b
  unfold wX13_add at hw
  refine lv_aload_n hx hb dX13_add_0 rfl (lv_at hl 0 rfl) ?_
  obtain ⟨f1, f2, f3, hm4, hw⟩ := hw
  refine cg_X13_9 F hB hm4 dX13_add_1 ?_
  refine lv_aload_n hx hb dX13_add_4 rfl (lv_at hl 0 rfl) ?_
  refine cg_X13_18 F hB hm4 dX13_add_5 ?_
  refine lv_iload_n hx hb dX13_add_8 rfl (lv_at hl 1 rfl) ?_
  obtain ⟨n6, f7, hm8, hw⟩ := hw
  obtain ⟨hin5, hw⟩ := hw
  refine dt_I F hB hS hm8 hin5 dX13_add_9 (fun H locs hB hS => ?_)
  refine lv_aload_n hx hb dX13_add_10 rfl (lv_at hl 0 rfl) ?_
  obtain ⟨f9, f10, f11, hm12, hw⟩ := hw
  refine cg_X13_15 F hB hm12 dX13_add_11 ?_
  refine lv_aload_n hx hb dX13_add_14 rfl (lv_at hl 0 rfl) ?_
  refine cg_X13_18 F hB hm12 dX13_add_15 ?_
  refine lv_iload_n hx hb dX13_add_18 rfl (lv_at hl 2 rfl) ?_
  obtain ⟨n14, f15, hm16, hw⟩ := hw
  obtain ⟨hin13, hw⟩ := hw
  refine dt_I F hB hS hm16 hin13 dX13_add_19 (fun H locs hB hS => ?_)
  refine lv_aload_n hx hb dX13_add_20 rfl (lv_at hl 0 rfl) ?_
  refine lv_dup hx hb dX13_add_21 rfl ?_
  obtain ⟨f17, f18, f19, hm20, hw⟩ := hw
  refine cg_X13_18 F hB hm20 dX13_add_22 ?_
  refine lv_iconst (v := 1) hx hb dX13_add_25 (by decide) ?_
  refine lv_iadd hx hb dX13_add_26 ?_
  refine cp_X13_18 (v := f19 + (1 : Int32)) F hB hS hm20 dX13_add_27 (fun H locs hB hS => ?_)
  exact W.vret hx hb F.1.r (fun t ht hW => ⟨⟨_, rfl, hw, x_B (Bw := cB D A ad) ht hB⟩, hS.F ht⟩) hS.2.2 dX13_add_30 (hlocks := F.1.k)
set_option maxHeartbeats 4000000 in
theorem mX13_add {l : Launch} {D : DD} {A : Nat → Prop} {s0 : State} {ad : AD} {V : CV} {a0 : Nat} {a1 : Int32} {a2 : Int32} {Q : CV → Prop} (hw : wX13_add a0 a1 a2 V Q) : Met l yX13_add (ws_ yX13_add cX13_add 3 (none)) rX13_add (va_Pc [.ref a0, .int a1, .int a2] (fun U => cB D A ad V U.heap ∧ CX l D A s0 U)) (va_Qv Q (fun u t => cB D A ad u t.heap) A) 0 0 A := by
  refine Met.ofW (cc := cX13_add) (maxL := 3) (ret := none) (by decide) rfl ?_
  intro p e s m args below meth c s₁ B hml hv
  obtain ⟨rfl, hB, hC⟩ := hv
  have F : FX p l c cX13_add s _ m RX13 D A s0 3 meth (none) := ⟨mk_FP B hml rfl, hC⟩
  have hS : va_S A s.heap s.heap [] := va_S.rf
  have hl := lv_entry ([.ref a0, .int a1, .int a2]) (n := 3) (Nat.le_of_ble_eq_true rfl)
  rw [lg_entry_eq]
  generalize (lg_sl ([.ref a0, .int a1, .int a2]) ++ List.replicate (3 - (lg_sl ([.ref a0, .int a1, .int a2])).length) Slot.unset).toArray = ls at hl ⊢
  exact bX13_add_0 F hB hS hw hl
theorem kX0_X13_add {p : Program} {l : Launch} {e : Env} {R : Room} {s : State} {m : MethodId} {args : Array Value} {below : List Frame} {meth : Method} {c : Code} {H : Heap} {locs : List Loc} {cells slots : Nat} {Q0 : State → Prop} {cc : ByteArray} {pc nL : Nat} {ls : Array Slot} {rest : List Value} {ret : Option FieldType} {D : DD} {A : Nat → Prop} {s0 : State} {ad : AD} {V : CV} {a0 : Nat} {a1 : Int32} {a2 : Int32} {Q : CV → Prop} (F : FX p l c cc s args m RX0 D A s0 nL meth ret) (hB : cB D A ad V H) (hS : va_S A s.heap H locs) {fs : List Value} (hm : vM V a0 = some (.inr (13, fs))) (hw : wX13_add a0 a1 a2 V Q) (hR : rX13_add.frames + 1 ≤ R.frames ∧ 8 + (3 + 11) + rX13_add.locals ≤ R.locals) (hc : cells + 0 ≤ R.cells ∧ slots + 0 ≤ R.slots) (hsz : ls.size = nL) (hW : (rest.map fun v => v.category).sum ≤ 8) (hdg : decode cc pc = .ok (.invokevirtual 182, 3)) (kk : ∀ (u : CV) (H1 : Heap) (locs1 : List Loc), Q u → cB D A ad u H1 → va_S A s.heap H1 locs1 → W p l e R s m args below meth c H1 locs1 cells slots Q0 (F0 m (pc + 3) ls (rest))) : W p l e R s m args below meth c H locs cells slots Q0 (F0 m pc ls (.int a2 :: .int a1 :: .ref a0 :: rest)) :=
  k_v (Bw := cB D A ad) (k_runV (Bw := cB D A ad) (n := 2) (As := [.int a1, .int a2]) F hB hS (c_at F (hB.dyn hm) rfl) (mX13_add hw) q525 q526 q527 q107 q528 (by decide +kernel) hR ⟨rfl, rfl⟩ hc rfl hsz rfl hW hdg) hS kk
def rX0_number : Room := { frames := 3, cells := 0, slots := 0, locals := 66 }
set_option maxHeartbeats 4000000 in
theorem bX0_number_50 {p : Program} {l : Launch} {e : Env} {s : State} {m : MethodId} {args : Array Value} {below : List Frame} {meth : Method} {c : Code} {D : DD} {A : Nat → Prop} {s0 : State} {ad : AD} {Q : Int32 → CV → Prop} {E : CV → Prop} (F : FX p l c cX0_number s args m RX0 D A s0 3 meth (some .int)) (hnm : s.methodNamed? yX0_number = some m) : ∀ (n : Nat) (l1 : Int32) (l2 : Int32) (V : CV), wX0_number_50 Q E n l1 l2 V → ∀ (H : Heap) (locs : List Loc) (ls : Array Slot), cB D A ad V H → va_S A s.heap H locs → lv_has ls 3 [(0, .ref (ad 0 0 0)), (1, .int l1), (2, .int l2)] → W p l e rX0_number s m args below meth c H locs 0 0 (XMQ below (yQ (va_Qi Q (fun u t => cB D A ad u t.heap) A) E (fun x t => x = ad 6 0 0) (fun u t => cB D A ad u t.heap) A) args s 0 0 A) (F0 m 50 ls []) := by
  have hx := F.1.x
  have hb := F.1.b
  intro n
  induction n with
  | zero => intro l1 l2 V hw; exact hw.elim
  | succ n ih =>
    intro l1 l2 V hw H locs ls hB hS hl
    unfold wX0_number_50 at hw
    refine lv_iload_n hx hb dX0_number_50 rfl (lv_at hl 2 rfl) ?_
    refine lv_aload_n hx hb dX0_number_51 rfl (lv_at hl 0 rfl) ?_
    refine cg_X0_142 F hB dX0_number_52 ?_
    refine lv_icmp_ge (tgt := 79) hx hb dX0_number_55 (by decide) (fun q => ?_) (fun q => ?_)
    · replace hw := hw.1 q
      refine lv_aload_n hx hb dX0_number_79 rfl (lv_at hl 0 rfl) ?_
      refine kX0_X0_goes F hB hS hw ⟨Nat.le_of_ble_eq_true rfl, Nat.le_of_ble_eq_true rfl⟩ ⟨Nat.zero_le _, Nat.zero_le _⟩ hl.1 (Nat.le_of_ble_eq_true rfl) dX0_number_80 (fun V2 H locs hw hB hS => ?_) (fun V2 H locs hw hB hS => ?_)
      · skip
        refine lv_iload_n hx hb dX0_number_83 rfl (lv_at hl 1 rfl) ?_
        refine W.retY ?_
        exact W.iret hx hb F.1.r (fun t ht hW => ⟨⟨_, _, rfl, hw, x_B (Bw := cB D A ad) ht hB⟩, hS.F ht⟩) hS.2.2 dX0_number_84 (hlocks := F.1.k)
      · skip
        exact wt_out (Bw := cB D A ad) F.1 hnm q532 hw (fun t _ _ => rfl) hB hS
    · replace hw := hw.2 q
      refine lv_bipush (v := 10) hx hb dX0_number_58 (by decide) ?_
      refine lv_iload_n hx hb dX0_number_60 rfl (lv_at hl 1 rfl) ?_
      refine lv_imul hx hb dX0_number_61 ?_
      refine lv_aload_n hx hb dX0_number_62 rfl (lv_at hl 0 rfl) ?_
      refine cg_X0_60 F hB dX0_number_63 ?_
      refine lv_iload_n hx hb dX0_number_66 rfl (lv_at hl 2 rfl) ?_
      obtain ⟨hin3, hw⟩ := hw
      refine cl_5 F hB hin3 dX0_number_67 ?_
      refine lv_iadd hx hb dX0_number_68 ?_
      refine lv_bipush (v := 48) hx hb dX0_number_69 (by decide) ?_
      refine lv_isub hx hb dX0_number_71 ?_
      refine lv_istore_n (lv' := [(1, .int ((((10 : Int32) * l1) + (vA V 5 l2.toNatClampNeg)) - (48 : Int32))), (0, .ref (ad 0 0 0)), (2, .int l2)]) hx hb dX0_number_72 rfl hl (by decide) rfl (fun ls hl => ?_)
      refine lv_iinc (v := l2 + (1 : Int32)) (lv' := [(2, .int (l2 + (1 : Int32))), (1, .int ((((10 : Int32) * l1) + (vA V 5 l2.toNatClampNeg)) - (48 : Int32))), (0, .ref (ad 0 0 0))]) hx hb dX0_number_73 hl (k := 2) rfl (x_inc (by decide)) (by decide) rfl (fun ls hl => ?_)
      refine lv_goto (tgt := 50) hx hb dX0_number_76 (by decide) ?_
      exact ih _ _ _ hw _ _ _ hB hS (lv_sub hl [2, 1, 0] rfl)
set_option maxHeartbeats 4000000 in
theorem bX0_number_43 {p : Program} {l : Launch} {e : Env} {s : State} {m : MethodId} {args : Array Value} {below : List Frame} {meth : Method} {c : Code} {D : DD} {A : Nat → Prop} {s0 : State} {ad : AD} {Q : Int32 → CV → Prop} {E : CV → Prop} {V : CV} {H : Heap} {locs : List Loc} {ls : Array Slot} (F : FX p l c cX0_number s args m RX0 D A s0 3 meth (some .int)) (hnm : s.methodNamed? yX0_number = some m) (hB : cB D A ad V H) (hS : va_S A s.heap H locs) (hw : wX0_number_43 V Q E) (hl : lv_has ls 3 [(0, .ref (ad 0 0 0))]) : W p l e rX0_number s m args below meth c H locs 0 0 (XMQ below (yQ (va_Qi Q (fun u t => cB D A ad u t.heap) A) E (fun x t => x = ad 6 0 0) (fun u t => cB D A ad u t.heap) A) args s 0 0 A) (F0 m 43 ls []) := by
  have hx := F.1.x
  have hb := F.1.b
  unfold wX0_number_43 at hw
  refine lv_iconst (v := 0) hx hb dX0_number_43 (by decide) ?_
  refine lv_istore_n (lv' := [(1, .int (0 : Int32)), (0, .ref (ad 0 0 0))]) hx hb dX0_number_44 rfl hl (by decide) rfl (fun ls hl => ?_)
  refine lv_aload_n hx hb dX0_number_45 rfl (lv_at hl 1 rfl) ?_
  refine cg_X0_136 F hB dX0_number_46 ?_
  refine lv_istore_n (lv' := [(2, .int (vI V 8)), (1, .int (0 : Int32)), (0, .ref (ad 0 0 0))]) hx hb dX0_number_49 rfl hl (by decide) rfl (fun ls hl => ?_)
  obtain ⟨f_50, hw⟩ := hw
  exact bX0_number_50 F hnm f_50 _ _ _ hw _ _ _ hB hS (lv_sub hl [2, 1, 0] rfl)
set_option maxHeartbeats 4000000 in
theorem bX0_number_39 {p : Program} {l : Launch} {e : Env} {s : State} {m : MethodId} {args : Array Value} {below : List Frame} {meth : Method} {c : Code} {D : DD} {A : Nat → Prop} {s0 : State} {ad : AD} {Q : Int32 → CV → Prop} {E : CV → Prop} {V : CV} {H : Heap} {locs : List Loc} {ls : Array Slot} (F : FX p l c cX0_number s args m RX0 D A s0 3 meth (some .int)) (hnm : s.methodNamed? yX0_number = some m) (hB : cB D A ad V H) (hS : va_S A s.heap H locs) (hw : wX0_number_39 V Q E) (hl : lv_has ls 3 [(0, .ref (ad 0 0 0))]) : W p l e rX0_number s m args below meth c H locs 0 0 (XMQ below (yQ (va_Qi Q (fun u t => cB D A ad u t.heap) A) E (fun x t => x = ad 6 0 0) (fun u t => cB D A ad u t.heap) A) args s 0 0 A) (F0 m 39 ls []) := by
  have hx := F.1.x
  have hb := F.1.b
  unfold wX0_number_39 at hw
  refine lv_aload_n hx hb dX0_number_39 rfl (lv_at hl 0 rfl) ?_
  refine kX0_X0_wrong F hB hS hw ⟨Nat.le_of_ble_eq_true rfl, Nat.le_of_ble_eq_true rfl⟩ ⟨Nat.zero_le _, Nat.zero_le _⟩ hl.1 (Nat.le_of_ble_eq_true rfl) dX0_number_40 (fun V2 H locs hw hB hS => ?_) (fun V2 H locs hw hB hS => ?_)
  · skip
    exact bX0_number_43 F hnm hB hS hw hl
  · skip
    exact wt_out (Bw := cB D A ad) F.1 hnm q532 hw (fun t _ _ => rfl) hB hS
set_option maxHeartbeats 4000000 in
theorem bX0_number_0 {p : Program} {l : Launch} {e : Env} {s : State} {m : MethodId} {args : Array Value} {below : List Frame} {meth : Method} {c : Code} {D : DD} {A : Nat → Prop} {s0 : State} {ad : AD} {Q : Int32 → CV → Prop} {E : CV → Prop} {V : CV} {H : Heap} {locs : List Loc} {ls : Array Slot} (F : FX p l c cX0_number s args m RX0 D A s0 3 meth (some .int)) (hnm : s.methodNamed? yX0_number = some m) (hB : cB D A ad V H) (hS : va_S A s.heap H locs) (hw : wX0_number V Q E) (hl : lv_has ls 3 [(0, .ref (ad 0 0 0))]) : W p l e rX0_number s m args below meth c H locs 0 0 (XMQ below (yQ (va_Qi Q (fun u t => cB D A ad u t.heap) A) E (fun x t => x = ad 6 0 0) (fun u t => cB D A ad u t.heap) A) args s 0 0 A) (F0 m 0 ls []) := by
  have hx := F.1.x
  have hb := F.1.b
  unfold wX0_number at hw
  refine lv_aload_n hx hb dX0_number_0 rfl (lv_at hl 0 rfl) ?_
  refine cg_X0_136 F hB dX0_number_1 ?_
  refine lv_aload_n hx hb dX0_number_4 rfl (lv_at hl 0 rfl) ?_
  refine cg_X0_145 F hB dX0_number_5 ?_
  refine lv_icmp_eq (tgt := 39) hx hb dX0_number_8 (by decide) (fun q => ?_) (fun q => ?_)
  · replace hw := hw.1 q
    exact bX0_number_39 F hnm hB hS hw hl
  · replace hw := hw.2 q
    refine lv_aload_n hx hb dX0_number_11 rfl (lv_at hl 0 rfl) ?_
    refine cg_X0_60 F hB dX0_number_12 ?_
    refine lv_aload_n hx hb dX0_number_15 rfl (lv_at hl 0 rfl) ?_
    refine cg_X0_136 F hB dX0_number_16 ?_
    obtain ⟨hin1, hw⟩ := hw
    refine cl_5 F hB hin1 dX0_number_19 ?_
    refine kX0_X0_isDigit F.1 hw ⟨Nat.le_of_ble_eq_true rfl, Nat.le_of_ble_eq_true rfl⟩ ⟨Nat.zero_le _, Nat.zero_le _⟩ hl.1 (Nat.le_of_ble_eq_true rfl) dX0_number_20 (fun r2 hw => ?_)
    refine lv_if_eq (tgt := 39) hx hb dX0_number_23 (by decide) (fun q => ?_) (fun q => ?_)
    · replace hw := hw.1 q
      exact bX0_number_39 F hnm hB hS hw hl
    · replace hw := hw.2 q
      refine lv_aload_n hx hb dX0_number_26 rfl (lv_at hl 0 rfl) ?_
      refine cg_X0_142 F hB dX0_number_27 ?_
      refine lv_aload_n hx hb dX0_number_30 rfl (lv_at hl 0 rfl) ?_
      refine cg_X0_136 F hB dX0_number_31 ?_
      refine lv_isub hx hb dX0_number_34 ?_
      refine lv_iconst (v := 4) hx hb dX0_number_35 (by decide) ?_
      refine lv_icmp_le (tgt := 43) hx hb dX0_number_36 (by decide) (fun q => ?_) (fun q => ?_)
      · replace hw := hw.1 q
        exact bX0_number_43 F hnm hB hS hw hl
      · replace hw := hw.2 q
        exact bX0_number_39 F hnm hB hS hw hl
set_option maxHeartbeats 4000000 in
theorem mX0_number {l : Launch} {D : DD} {A : Nat → Prop} {s0 : State} {ad : AD} {V : CV}  {Q : Int32 → CV → Prop} {E : CV → Prop} (hw : wX0_number V Q E) : MetY l yX0_number (ws_ yX0_number cX0_number 3 (some .int)) rX0_number (va_Pc [.ref (ad 0 0 0)] (fun U => cB D A ad V U.heap ∧ CX l D A s0 U)) (yQ (va_Qi Q (fun u t => cB D A ad u t.heap) A) E (fun x t => x = ad 6 0 0) (fun u t => cB D A ad u t.heap) A) 0 0 A := by
  refine MetY.ofW (cc := cX0_number) (maxL := 3) (ret := some .int) (by decide) ?_
  intro p e s m args below meth c F1 hnm _ hv
  obtain ⟨rfl, hB, hC⟩ := hv
  have F : FX p l c cX0_number s _ m RX0 D A s0 3 meth (some .int) := ⟨F1, hC⟩
  have hS : va_S A s.heap s.heap [] := va_S.rf
  have hl := lv_entry ([.ref (ad 0 0 0)]) (n := 3) (Nat.le_of_ble_eq_true rfl)
  rw [lg_entry_eq]
  generalize (lg_sl ([.ref (ad 0 0 0)]) ++ List.replicate (3 - (lg_sl ([.ref (ad 0 0 0)])).length) Slot.unset).toArray = ls at hl ⊢
  exact bX0_number_0 F hnm hB hS hw hl
theorem kX0_X0_number {p : Program} {l : Launch} {e : Env} {R : Room} {s : State} {m : MethodId} {args : Array Value} {below : List Frame} {meth : Method} {c : Code} {H : Heap} {locs : List Loc} {cells slots : Nat} {Q0 : State → Prop} {cc : ByteArray} {pc nL : Nat} {ls : Array Slot} {rest : List Value} {ret : Option FieldType} {D : DD} {A : Nat → Prop} {s0 : State} {ad : AD} {V : CV} {Q : Int32 → CV → Prop} {E : CV → Prop} (F : FX p l c cc s args m RX0 D A s0 nL meth ret) (hB : cB D A ad V H) (hS : va_S A s.heap H locs) (hw : wX0_number V Q E) (hR : rX0_number.frames + 1 ≤ R.frames ∧ 8 + (3 + 11) + rX0_number.locals ≤ R.locals) (hc : cells + 0 ≤ R.cells ∧ slots + 0 ≤ R.slots) (hsz : ls.size = nL) (hW : (rest.map fun v => v.category).sum ≤ 8) (hdg : decode cc pc = .ok (.invokevirtual 210, 3)) (kk : ∀ (r : Int32) (u : CV) (H1 : Heap) (locs1 : List Loc), Q r u → cB D A ad u H1 → va_S A s.heap H1 locs1 → W p l e R s m args below meth c H1 locs1 cells slots Q0 (F0 m (pc + 3) ls (.int r :: rest))) (ke : ∀ (u : CV) (H1 : Heap) (locs1 : List Loc), E u → cB D A ad u H1 → va_S A s.heap H1 locs1 → WT p l e R s m args below meth c H1 locs1 cells slots Q0 (F0 m pc ls rest) (ad 6 0 0)) : W p l e R s m args below meth c H locs cells slots Q0 (F0 m pc ls (.ref (ad 0 0 0) :: rest)) :=
  k_iY (Bw := cB D A ad) (k_runVY (Bw := cB D A ad) (n := 0) (As := []) F hB hS (c_at F (hB.pic cpic0) rfl) (mX0_number hw) codeOf (lw_meth q532) q529 q531 qs15 (by decide +kernel) hR ⟨rfl, rfl⟩ hc rfl hsz rfl hW hdg) hS kk (fun x u H1 locs1 hE hK hB hS => by
    obtain ⟨t, h1, h2, h3⟩ := hK
    subst h3
    exact ke u H1 locs1 hE hB hS)
def rX0_isName : Room := { frames := 0, cells := 0, slots := 0, locals := 0 }
set_option maxHeartbeats 4000000 in
theorem bX0_isName_0 {p : Program} {l : Launch} {e : Env} {s : State} {m : MethodId} {args : Array Value} {below : List Frame} {meth : Method} {c : Code} {D : DD} {A : Nat → Prop} {s0 : State} {ad : AD} {Q : Int32 → CV → Prop} {a1 : Int32} {V : CV} {H : Heap} {locs : List Loc} {ls : Array Slot} (F : FX p l c cX0_isName s args m RX0 D A s0 2 meth (some .boolean)) (hB : cB D A ad V H) (hS : va_S A s.heap H locs) (hw : wX0_isName a1 V Q) (hl : lv_has ls 2 [(0, .ref (ad 0 0 0)), (1, .int a1)]) : W p l e rX0_isName s m args below meth c H locs 0 0 (MQ below (va_Qi Q (fun u t => cB D A ad u t.heap) A) args s 0 0 A) (F0 m 0 ls []) := by
  have hx := F.1.x
  have hb := F.1.b
  unfold wX0_isName at hw
  refine lv_iload_n hx hb dX0_isName_0 rfl (lv_at hl 1 rfl) ?_
  by_cases q98 : a1 = 98
  · replace hw := hw.1 q98
    refine lv_lookup (off := 127) (tgt := 128) hx hb dX0_isName_1 (by decide) (by rw [q98]; rfl) (by decide) ?_
    refine lv_aload_n hx hb dX0_isName_128 rfl (lv_at hl 0 rfl) ?_
    refine cg_X0_198 F hB dX0_isName_129 ?_
    refine lv_iconst (v := 2) hx hb dX0_isName_132 (by decide) ?_
    refine lv_icmp_ne (tgt := 140) hx hb dX0_isName_133 (by decide) (fun q => ?_) (fun q => ?_)
    · replace hw := hw.2 q
      refine lv_iconst (v := 0) hx hb dX0_isName_140 (by decide) ?_
      exact W.zret hx hb F.1.r rfl (fun t ht hW => ⟨⟨_, _, rfl, hw, x_B (Bw := cB D A ad) ht hB⟩, hS.F ht⟩) hS.2.2 dX0_isName_141 (hlocks := F.1.k)
    · replace hw := hw.1 q
      refine lv_iconst (v := 1) hx hb dX0_isName_136 (by decide) ?_
      refine lv_goto (tgt := 141) hx hb dX0_isName_137 (by decide) ?_
      exact W.zret hx hb F.1.r rfl (fun t ht hW => ⟨⟨_, _, rfl, hw, x_B (Bw := cB D A ad) ht hB⟩, hS.F ht⟩) hS.2.2 dX0_isName_141 (hlocks := F.1.k)
  replace hw := hw.2 q98
  by_cases q108 : a1 = 108
  · replace hw := hw.1 q108
    refine lv_lookup (off := 100) (tgt := 101) hx hb dX0_isName_1 (by decide) (by rw [q108]; rfl) (by decide) ?_
    refine lv_aload_n hx hb dX0_isName_101 rfl (lv_at hl 0 rfl) ?_
    refine cg_X0_198 F hB dX0_isName_102 ?_
    refine lv_iconst (v := 1) hx hb dX0_isName_105 (by decide) ?_
    refine lv_icmp_ne (tgt := 113) hx hb dX0_isName_106 (by decide) (fun q => ?_) (fun q => ?_)
    · replace hw := hw.2 q
      refine lv_iconst (v := 0) hx hb dX0_isName_113 (by decide) ?_
      exact W.zret hx hb F.1.r rfl (fun t ht hW => ⟨⟨_, _, rfl, hw, x_B (Bw := cB D A ad) ht hB⟩, hS.F ht⟩) hS.2.2 dX0_isName_114 (hlocks := F.1.k)
    · replace hw := hw.1 q
      refine lv_iconst (v := 1) hx hb dX0_isName_109 (by decide) ?_
      refine lv_goto (tgt := 114) hx hb dX0_isName_110 (by decide) ?_
      exact W.zret hx hb F.1.r rfl (fun t ht hW => ⟨⟨_, _, rfl, hw, x_B (Bw := cB D A ad) ht hB⟩, hS.F ht⟩) hS.2.2 dX0_isName_114 (hlocks := F.1.k)
  replace hw := hw.2 q108
  by_cases q110 : a1 = 110
  · replace hw := hw.1 q110
    refine lv_lookup (off := 114) (tgt := 115) hx hb dX0_isName_1 (by decide) (by rw [q110]; rfl) (by decide) ?_
    refine lv_aload_n hx hb dX0_isName_115 rfl (lv_at hl 0 rfl) ?_
    refine cg_X0_198 F hB dX0_isName_116 ?_
    refine lv_if_eq (tgt := 126) hx hb dX0_isName_119 (by decide) (fun q => ?_) (fun q => ?_)
    · replace hw := hw.1 q
      refine lv_iconst (v := 0) hx hb dX0_isName_126 (by decide) ?_
      exact W.zret hx hb F.1.r rfl (fun t ht hW => ⟨⟨_, _, rfl, hw, x_B (Bw := cB D A ad) ht hB⟩, hS.F ht⟩) hS.2.2 dX0_isName_127 (hlocks := F.1.k)
    · replace hw := hw.2 q
      refine lv_iconst (v := 1) hx hb dX0_isName_122 (by decide) ?_
      refine lv_goto (tgt := 127) hx hb dX0_isName_123 (by decide) ?_
      exact W.zret hx hb F.1.r rfl (fun t ht hW => ⟨⟨_, _, rfl, hw, x_B (Bw := cB D A ad) ht hB⟩, hS.F ht⟩) hS.2.2 dX0_isName_127 (hlocks := F.1.k)
  replace hw := hw.2 q110
  by_cases q112 : a1 = 112
  · replace hw := hw.1 q112
    refine lv_lookup (off := 73) (tgt := 74) hx hb dX0_isName_1 (by decide) (by rw [q112]; rfl) (by decide) ?_
    refine lv_aload_n hx hb dX0_isName_74 rfl (lv_at hl 0 rfl) ?_
    refine cg_X0_198 F hB dX0_isName_75 ?_
    refine lv_if_ne (tgt := 85) hx hb dX0_isName_78 (by decide) (fun q => ?_) (fun q => ?_)
    · replace hw := hw.2 q
      refine lv_iconst (v := 0) hx hb dX0_isName_85 (by decide) ?_
      exact W.zret hx hb F.1.r rfl (fun t ht hW => ⟨⟨_, _, rfl, hw, x_B (Bw := cB D A ad) ht hB⟩, hS.F ht⟩) hS.2.2 dX0_isName_86 (hlocks := F.1.k)
    · replace hw := hw.1 q
      refine lv_iconst (v := 1) hx hb dX0_isName_81 (by decide) ?_
      refine lv_goto (tgt := 86) hx hb dX0_isName_82 (by decide) ?_
      exact W.zret hx hb F.1.r rfl (fun t ht hW => ⟨⟨_, _, rfl, hw, x_B (Bw := cB D A ad) ht hB⟩, hS.F ht⟩) hS.2.2 dX0_isName_86 (hlocks := F.1.k)
  replace hw := hw.2 q112
  by_cases q115 : a1 = 115
  · replace hw := hw.1 q115
    refine lv_lookup (off := 59) (tgt := 60) hx hb dX0_isName_1 (by decide) (by rw [q115]; rfl) (by decide) ?_
    refine lv_aload_n hx hb dX0_isName_60 rfl (lv_at hl 0 rfl) ?_
    refine cg_X0_198 F hB dX0_isName_61 ?_
    refine lv_iconst (v := 1) hx hb dX0_isName_64 (by decide) ?_
    refine lv_icmp_eq (tgt := 72) hx hb dX0_isName_65 (by decide) (fun q => ?_) (fun q => ?_)
    · replace hw := hw.1 q
      refine lv_iconst (v := 0) hx hb dX0_isName_72 (by decide) ?_
      exact W.zret hx hb F.1.r rfl (fun t ht hW => ⟨⟨_, _, rfl, hw, x_B (Bw := cB D A ad) ht hB⟩, hS.F ht⟩) hS.2.2 dX0_isName_73 (hlocks := F.1.k)
    · replace hw := hw.2 q
      refine lv_iconst (v := 1) hx hb dX0_isName_68 (by decide) ?_
      refine lv_goto (tgt := 73) hx hb dX0_isName_69 (by decide) ?_
      exact W.zret hx hb F.1.r rfl (fun t ht hW => ⟨⟨_, _, rfl, hw, x_B (Bw := cB D A ad) ht hB⟩, hS.F ht⟩) hS.2.2 dX0_isName_73 (hlocks := F.1.k)
  replace hw := hw.2 q115
  by_cases q119 : a1 = 119
  · replace hw := hw.1 q119
    refine lv_lookup (off := 86) (tgt := 87) hx hb dX0_isName_1 (by decide) (by rw [q119]; rfl) (by decide) ?_
    refine lv_aload_n hx hb dX0_isName_87 rfl (lv_at hl 0 rfl) ?_
    refine cg_X0_198 F hB dX0_isName_88 ?_
    refine lv_iconst (v := 2) hx hb dX0_isName_91 (by decide) ?_
    refine lv_icmp_eq (tgt := 99) hx hb dX0_isName_92 (by decide) (fun q => ?_) (fun q => ?_)
    · replace hw := hw.1 q
      refine lv_iconst (v := 0) hx hb dX0_isName_99 (by decide) ?_
      exact W.zret hx hb F.1.r rfl (fun t ht hW => ⟨⟨_, _, rfl, hw, x_B (Bw := cB D A ad) ht hB⟩, hS.F ht⟩) hS.2.2 dX0_isName_100 (hlocks := F.1.k)
    · replace hw := hw.2 q
      refine lv_iconst (v := 1) hx hb dX0_isName_95 (by decide) ?_
      refine lv_goto (tgt := 100) hx hb dX0_isName_96 (by decide) ?_
      exact W.zret hx hb F.1.r rfl (fun t ht hW => ⟨⟨_, _, rfl, hw, x_B (Bw := cB D A ad) ht hB⟩, hS.F ht⟩) hS.2.2 dX0_isName_100 (hlocks := F.1.k)
  replace hw := hw.2 q119
  refine lv_lookup (off := 141) (tgt := 142) hx hb dX0_isName_1 (by decide) ((lv_osw q98 rfl).trans ((lv_osw q108 rfl).trans ((lv_osw q110 rfl).trans ((lv_osw q112 rfl).trans ((lv_osw q115 rfl).trans ((lv_osw q119 rfl).trans (rfl))))))) (by decide) ?_
  refine lv_iconst (v := 0) hx hb dX0_isName_142 (by decide) ?_
  exact W.zret hx hb F.1.r rfl (fun t ht hW => ⟨⟨_, _, rfl, hw, x_B (Bw := cB D A ad) ht hB⟩, hS.F ht⟩) hS.2.2 dX0_isName_143 (hlocks := F.1.k)
set_option maxHeartbeats 4000000 in
theorem mX0_isName {l : Launch} {D : DD} {A : Nat → Prop} {s0 : State} {ad : AD} {V : CV} {a1 : Int32} {Q : Int32 → CV → Prop} (hw : wX0_isName a1 V Q) : Met l yX0_isName (ws_ yX0_isName cX0_isName 2 (some .boolean)) rX0_isName (va_Pc [.ref (ad 0 0 0), .int a1] (fun U => cB D A ad V U.heap ∧ CX l D A s0 U)) (va_Qi Q (fun u t => cB D A ad u t.heap) A) 0 0 A := by
  refine Met.ofW (cc := cX0_isName) (maxL := 2) (ret := some .boolean) (by decide) rfl ?_
  intro p e s m args below meth c s₁ B hml hv
  obtain ⟨rfl, hB, hC⟩ := hv
  have F : FX p l c cX0_isName s _ m RX0 D A s0 2 meth (some .boolean) := ⟨mk_FP B hml rfl, hC⟩
  have hS : va_S A s.heap s.heap [] := va_S.rf
  have hl := lv_entry ([.ref (ad 0 0 0), .int a1]) (n := 2) (Nat.le_of_ble_eq_true rfl)
  rw [lg_entry_eq]
  generalize (lg_sl ([.ref (ad 0 0 0), .int a1]) ++ List.replicate (2 - (lg_sl ([.ref (ad 0 0 0), .int a1])).length) Slot.unset).toArray = ls at hl ⊢
  exact bX0_isName_0 F hB hS hw hl
theorem kX0_X0_isName {p : Program} {l : Launch} {e : Env} {R : Room} {s : State} {m : MethodId} {args : Array Value} {below : List Frame} {meth : Method} {c : Code} {H : Heap} {locs : List Loc} {cells slots : Nat} {Q0 : State → Prop} {cc : ByteArray} {pc nL : Nat} {ls : Array Slot} {rest : List Value} {ret : Option FieldType} {D : DD} {A : Nat → Prop} {s0 : State} {ad : AD} {V : CV} {a1 : Int32} {Q : Int32 → CV → Prop} (F : FX p l c cc s args m RX0 D A s0 nL meth ret) (hB : cB D A ad V H) (hS : va_S A s.heap H locs) (hw : wX0_isName a1 V Q) (hR : rX0_isName.frames + 1 ≤ R.frames ∧ 8 + (2 + 11) + rX0_isName.locals ≤ R.locals) (hc : cells + 0 ≤ R.cells ∧ slots + 0 ≤ R.slots) (hsz : ls.size = nL) (hW : (rest.map fun v => v.category).sum ≤ 8) (hdg : decode cc pc = .ok (.invokevirtual 213, 3)) (kk : ∀ (r : Int32) (u : CV) (H1 : Heap) (locs1 : List Loc), Q r u → cB D A ad u H1 → va_S A s.heap H1 locs1 → W p l e R s m args below meth c H1 locs1 cells slots Q0 (F0 m (pc + 3) ls (.int r :: rest))) : W p l e R s m args below meth c H locs cells slots Q0 (F0 m pc ls (.int a1 :: .ref (ad 0 0 0) :: rest)) :=
  k_i (Bw := cB D A ad) (k_runV (Bw := cB D A ad) (n := 1) (As := [.int a1]) F hB hS (c_at F (hB.pic cpic0) rfl) (mX0_isName hw) q533 q535 qs16 q83 q536 (by decide +kernel) hR ⟨rfl, rfl⟩ hc rfl hsz rfl hW hdg) hS kk
def rX0_isPerson : Room := { frames := 1, cells := 0, slots := 0, locals := 22 }
set_option maxHeartbeats 4000000 in
theorem bX0_isPerson_0 {p : Program} {l : Launch} {e : Env} {s : State} {m : MethodId} {args : Array Value} {below : List Frame} {meth : Method} {c : Code} {D : DD} {A : Nat → Prop} {s0 : State} {ad : AD} {Q : Int32 → CV → Prop} {a1 : Int32} {V : CV} {H : Heap} {locs : List Loc} {ls : Array Slot} (F : FX p l c cX0_isPerson s args m RX0 D A s0 2 meth (some .boolean)) (hB : cB D A ad V H) (hS : va_S A s.heap H locs) (hw : wX0_isPerson a1 V Q) (hl : lv_has ls 2 [(0, .ref (ad 0 0 0)), (1, .int a1)]) : W p l e rX0_isPerson s m args below meth c H locs 0 0 (MQ below (va_Qi Q (fun u t => cB D A ad u t.heap) A) args s 0 0 A) (F0 m 0 ls []) := by
  have hx := F.1.x
  have hb := F.1.b
  unfold wX0_isPerson at hw
  refine lv_iload_n hx hb dX0_isPerson_0 rfl (lv_at hl 1 rfl) ?_
  refine lv_iconst (v := 0) hx hb dX0_isPerson_1 (by decide) ?_
  refine lv_aload_n hx hb dX0_isPerson_2 rfl (lv_at hl 0 rfl) ?_
  refine cg_X0_46 F hB dX0_isPerson_3 ?_
  refine cg_X0_101 F hB (by decide) dX0_isPerson_6 ?_
  refine lv_iconst (v := 1) hx hb dX0_isPerson_9 (by decide) ?_
  refine lv_isub hx hb dX0_isPerson_10 ?_
  refine kX0_X0_isIn F.1 hw ⟨Nat.le_of_ble_eq_true rfl, Nat.le_of_ble_eq_true rfl⟩ ⟨Nat.zero_le _, Nat.zero_le _⟩ hl.1 (Nat.le_of_ble_eq_true rfl) dX0_isPerson_11 (fun r1 hw => ?_)
  obtain ⟨hn, hw⟩ := hw
  exact W.zret hx hb F.1.r hn (fun t ht hW => ⟨⟨_, _, rfl, hw, x_B (Bw := cB D A ad) ht hB⟩, hS.F ht⟩) hS.2.2 dX0_isPerson_14 (hlocks := F.1.k)
set_option maxHeartbeats 4000000 in
theorem mX0_isPerson {l : Launch} {D : DD} {A : Nat → Prop} {s0 : State} {ad : AD} {V : CV} {a1 : Int32} {Q : Int32 → CV → Prop} (hw : wX0_isPerson a1 V Q) : Met l yX0_isPerson (ws_ yX0_isPerson cX0_isPerson 2 (some .boolean)) rX0_isPerson (va_Pc [.ref (ad 0 0 0), .int a1] (fun U => cB D A ad V U.heap ∧ CX l D A s0 U)) (va_Qi Q (fun u t => cB D A ad u t.heap) A) 0 0 A := by
  refine Met.ofW (cc := cX0_isPerson) (maxL := 2) (ret := some .boolean) (by decide) rfl ?_
  intro p e s m args below meth c s₁ B hml hv
  obtain ⟨rfl, hB, hC⟩ := hv
  have F : FX p l c cX0_isPerson s _ m RX0 D A s0 2 meth (some .boolean) := ⟨mk_FP B hml rfl, hC⟩
  have hS : va_S A s.heap s.heap [] := va_S.rf
  have hl := lv_entry ([.ref (ad 0 0 0), .int a1]) (n := 2) (Nat.le_of_ble_eq_true rfl)
  rw [lg_entry_eq]
  generalize (lg_sl ([.ref (ad 0 0 0), .int a1]) ++ List.replicate (2 - (lg_sl ([.ref (ad 0 0 0), .int a1])).length) Slot.unset).toArray = ls at hl ⊢
  exact bX0_isPerson_0 F hB hS hw hl
theorem kX0_X0_isPerson {p : Program} {l : Launch} {e : Env} {R : Room} {s : State} {m : MethodId} {args : Array Value} {below : List Frame} {meth : Method} {c : Code} {H : Heap} {locs : List Loc} {cells slots : Nat} {Q0 : State → Prop} {cc : ByteArray} {pc nL : Nat} {ls : Array Slot} {rest : List Value} {ret : Option FieldType} {D : DD} {A : Nat → Prop} {s0 : State} {ad : AD} {V : CV} {a1 : Int32} {Q : Int32 → CV → Prop} (F : FX p l c cc s args m RX0 D A s0 nL meth ret) (hB : cB D A ad V H) (hS : va_S A s.heap H locs) (hw : wX0_isPerson a1 V Q) (hR : rX0_isPerson.frames + 1 ≤ R.frames ∧ 8 + (2 + 11) + rX0_isPerson.locals ≤ R.locals) (hc : cells + 0 ≤ R.cells ∧ slots + 0 ≤ R.slots) (hsz : ls.size = nL) (hW : (rest.map fun v => v.category).sum ≤ 8) (hdg : decode cc pc = .ok (.invokevirtual 297, 3)) (kk : ∀ (r : Int32) (u : CV) (H1 : Heap) (locs1 : List Loc), Q r u → cB D A ad u H1 → va_S A s.heap H1 locs1 → W p l e R s m args below meth c H1 locs1 cells slots Q0 (F0 m (pc + 3) ls (.int r :: rest))) : W p l e R s m args below meth c H locs cells slots Q0 (F0 m pc ls (.int a1 :: .ref (ad 0 0 0) :: rest)) :=
  k_i (Bw := cB D A ad) (k_runV (Bw := cB D A ad) (n := 1) (As := [.int a1]) F hB hS (c_at F (hB.pic cpic0) rfl) (mX0_isPerson hw) q644 q646 qs19 q83 q647 (by decide +kernel) hR ⟨rfl, rfl⟩ hc rfl hsz rfl hW hdg) hS kk
def rX0_areTwo : Room := { frames := 2, cells := 0, slots := 0, locals := 43 }
set_option maxHeartbeats 4000000 in
theorem bX0_areTwo_0 {p : Program} {l : Launch} {e : Env} {s : State} {m : MethodId} {args : Array Value} {below : List Frame} {meth : Method} {c : Code} {D : DD} {A : Nat → Prop} {s0 : State} {ad : AD} {Q : Int32 → CV → Prop} {a1 : Int32} {a2 : Int32} {a3 : Int32} {V : CV} {H : Heap} {locs : List Loc} {ls : Array Slot} (F : FX p l c cX0_areTwo s args m RX0 D A s0 4 meth (some .boolean)) (hB : cB D A ad V H) (hS : va_S A s.heap H locs) (hw : wX0_areTwo a1 a2 a3 V Q) (hl : lv_has ls 4 [(0, .ref (ad 0 0 0)), (1, .int a1), (2, .int a2), (3, .int a3)]) : W p l e rX0_areTwo s m args below meth c H locs 0 0 (MQ below (va_Qi Q (fun u t => cB D A ad u t.heap) A) args s 0 0 A) (F0 m 0 ls []) := by
  have hx := F.1.x
  have hb := F.1.b
  unfold wX0_areTwo at hw
  refine lv_aload_n hx hb dX0_areTwo_0 rfl (lv_at hl 0 rfl) ?_
  refine lv_iload_n hx hb dX0_areTwo_1 rfl (lv_at hl 1 rfl) ?_
  refine kX0_X0_isPerson F hB hS hw ⟨Nat.le_of_ble_eq_true rfl, Nat.le_of_ble_eq_true rfl⟩ ⟨Nat.zero_le _, Nat.zero_le _⟩ hl.1 (Nat.le_of_ble_eq_true rfl) dX0_areTwo_2 (fun r1 V2 H locs hw hB hS => ?_)
  refine lv_if_eq (tgt := 34) hx hb dX0_areTwo_5 (by decide) (fun q => ?_) (fun q => ?_)
  · replace hw := hw.1 q
    refine lv_iconst (v := 0) hx hb dX0_areTwo_34 (by decide) ?_
    exact W.zret hx hb F.1.r rfl (fun t ht hW => ⟨⟨_, _, rfl, hw, x_B (Bw := cB D A ad) ht hB⟩, hS.F ht⟩) hS.2.2 dX0_areTwo_35 (hlocks := F.1.k)
  · replace hw := hw.2 q
    refine lv_aload_n hx hb dX0_areTwo_8 rfl (lv_at hl 0 rfl) ?_
    refine lv_iload_n hx hb dX0_areTwo_9 rfl (lv_at hl 2 rfl) ?_
    refine kX0_X0_isPerson F hB hS hw ⟨Nat.le_of_ble_eq_true rfl, Nat.le_of_ble_eq_true rfl⟩ ⟨Nat.zero_le _, Nat.zero_le _⟩ hl.1 (Nat.le_of_ble_eq_true rfl) dX0_areTwo_10 (fun r3 V4 H locs hw hB hS => ?_)
    refine lv_if_eq (tgt := 34) hx hb dX0_areTwo_13 (by decide) (fun q => ?_) (fun q => ?_)
    · replace hw := hw.1 q
      refine lv_iconst (v := 0) hx hb dX0_areTwo_34 (by decide) ?_
      exact W.zret hx hb F.1.r rfl (fun t ht hW => ⟨⟨_, _, rfl, hw, x_B (Bw := cB D A ad) ht hB⟩, hS.F ht⟩) hS.2.2 dX0_areTwo_35 (hlocks := F.1.k)
    · replace hw := hw.2 q
      refine lv_iload_n hx hb dX0_areTwo_16 rfl (lv_at hl 1 rfl) ?_
      refine lv_iload_n hx hb dX0_areTwo_17 rfl (lv_at hl 2 rfl) ?_
      refine lv_icmp_eq (tgt := 34) hx hb dX0_areTwo_18 (by decide) (fun q => ?_) (fun q => ?_)
      · replace hw := hw.1 q
        refine lv_iconst (v := 0) hx hb dX0_areTwo_34 (by decide) ?_
        exact W.zret hx hb F.1.r rfl (fun t ht hW => ⟨⟨_, _, rfl, hw, x_B (Bw := cB D A ad) ht hB⟩, hS.F ht⟩) hS.2.2 dX0_areTwo_35 (hlocks := F.1.k)
      · replace hw := hw.2 q
        refine lv_iload_n hx hb dX0_areTwo_21 rfl (lv_at hl 3 rfl) ?_
        refine lv_iconst (v := 0) hx hb dX0_areTwo_22 (by decide) ?_
        refine lv_iconst (v := 1) hx hb dX0_areTwo_23 (by decide) ?_
        refine kX0_X0_isIn F.1 hw ⟨Nat.le_of_ble_eq_true rfl, Nat.le_of_ble_eq_true rfl⟩ ⟨Nat.zero_le _, Nat.zero_le _⟩ hl.1 (Nat.le_of_ble_eq_true rfl) dX0_areTwo_24 (fun r5 hw => ?_)
        refine lv_if_eq (tgt := 34) hx hb dX0_areTwo_27 (by decide) (fun q => ?_) (fun q => ?_)
        · replace hw := hw.1 q
          refine lv_iconst (v := 0) hx hb dX0_areTwo_34 (by decide) ?_
          exact W.zret hx hb F.1.r rfl (fun t ht hW => ⟨⟨_, _, rfl, hw, x_B (Bw := cB D A ad) ht hB⟩, hS.F ht⟩) hS.2.2 dX0_areTwo_35 (hlocks := F.1.k)
        · replace hw := hw.2 q
          refine lv_iconst (v := 1) hx hb dX0_areTwo_30 (by decide) ?_
          refine lv_goto (tgt := 35) hx hb dX0_areTwo_31 (by decide) ?_
          exact W.zret hx hb F.1.r rfl (fun t ht hW => ⟨⟨_, _, rfl, hw, x_B (Bw := cB D A ad) ht hB⟩, hS.F ht⟩) hS.2.2 dX0_areTwo_35 (hlocks := F.1.k)
set_option maxHeartbeats 4000000 in
theorem mX0_areTwo {l : Launch} {D : DD} {A : Nat → Prop} {s0 : State} {ad : AD} {V : CV} {a1 : Int32} {a2 : Int32} {a3 : Int32} {Q : Int32 → CV → Prop} (hw : wX0_areTwo a1 a2 a3 V Q) : Met l yX0_areTwo (ws_ yX0_areTwo cX0_areTwo 4 (some .boolean)) rX0_areTwo (va_Pc [.ref (ad 0 0 0), .int a1, .int a2, .int a3] (fun U => cB D A ad V U.heap ∧ CX l D A s0 U)) (va_Qi Q (fun u t => cB D A ad u t.heap) A) 0 0 A := by
  refine Met.ofW (cc := cX0_areTwo) (maxL := 4) (ret := some .boolean) (by decide) rfl ?_
  intro p e s m args below meth c s₁ B hml hv
  obtain ⟨rfl, hB, hC⟩ := hv
  have F : FX p l c cX0_areTwo s _ m RX0 D A s0 4 meth (some .boolean) := ⟨mk_FP B hml rfl, hC⟩
  have hS : va_S A s.heap s.heap [] := va_S.rf
  have hl := lv_entry ([.ref (ad 0 0 0), .int a1, .int a2, .int a3]) (n := 4) (Nat.le_of_ble_eq_true rfl)
  rw [lg_entry_eq]
  generalize (lg_sl ([.ref (ad 0 0 0), .int a1, .int a2, .int a3]) ++ List.replicate (4 - (lg_sl ([.ref (ad 0 0 0), .int a1, .int a2, .int a3])).length) Slot.unset).toArray = ls at hl ⊢
  exact bX0_areTwo_0 F hB hS hw hl
theorem kX0_X0_areTwo {p : Program} {l : Launch} {e : Env} {R : Room} {s : State} {m : MethodId} {args : Array Value} {below : List Frame} {meth : Method} {c : Code} {H : Heap} {locs : List Loc} {cells slots : Nat} {Q0 : State → Prop} {cc : ByteArray} {pc nL : Nat} {ls : Array Slot} {rest : List Value} {ret : Option FieldType} {D : DD} {A : Nat → Prop} {s0 : State} {ad : AD} {V : CV} {a1 : Int32} {a2 : Int32} {a3 : Int32} {Q : Int32 → CV → Prop} (F : FX p l c cc s args m RX0 D A s0 nL meth ret) (hB : cB D A ad V H) (hS : va_S A s.heap H locs) (hw : wX0_areTwo a1 a2 a3 V Q) (hR : rX0_areTwo.frames + 1 ≤ R.frames ∧ 8 + (4 + 11) + rX0_areTwo.locals ≤ R.locals) (hc : cells + 0 ≤ R.cells ∧ slots + 0 ≤ R.slots) (hsz : ls.size = nL) (hW : (rest.map fun v => v.category).sum ≤ 8) (hdg : decode cc pc = .ok (.invokevirtual 323, 3)) (kk : ∀ (r : Int32) (u : CV) (H1 : Heap) (locs1 : List Loc), Q r u → cB D A ad u H1 → va_S A s.heap H1 locs1 → W p l e R s m args below meth c H1 locs1 cells slots Q0 (F0 m (pc + 3) ls (.int r :: rest))) : W p l e R s m args below meth c H locs cells slots Q0 (F0 m pc ls (.int a3 :: .int a2 :: .int a1 :: .ref (ad 0 0 0) :: rest)) :=
  k_i (Bw := cB D A ad) (k_runV (Bw := cB D A ad) (n := 3) (As := [.int a1, .int a2, .int a3]) F hB hS (c_at F (hB.pic cpic0) rfl) (mX0_areTwo hw) q763 q765 qs22 q83 q766 (by decide +kernel) hR ⟨rfl, rfl⟩ hc rfl hsz rfl hW hdg) hS kk
def rX0_takenFor : Room := { frames := 7, cells := 3, slots := 900, locals := 10300 }
set_option maxHeartbeats 4000000 in
theorem bX0_takenFor_0 {p : Program} {l : Launch} {e : Env} {s : State} {m : MethodId} {args : Array Value} {below : List Frame} {meth : Method} {c : Code} {D : DD} {A : Nat → Prop} {s0 : State} {ad : AD} {Q : Nat → CV → Prop} {E : CV → Prop} {a0 : Nat} {a1 : Int32} {V : CV} {ls : Array Slot} (F : FX p l c cX0_takenFor s args m RX0 D A s0 2 meth (some (.object "NeverSaid$Speaker"))) (hnm : s.methodNamed? yX0_takenFor = some m) (hB : cB D A ad V s.heap) (hS : va_S A s.heap s.heap []) (hw : wX0_takenFor a0 a1 V Q E) (hl : lv_has ls 2 [(0, .ref a0), (1, .int a1)]) : W p l e rX0_takenFor s m args below meth c s.heap [] 0 0 (XMQ below (yQ (xa_Qn Q (fun u t => cB D A ad u t.heap) A) E (fun x t => va_Any "java/lang/ClassCastException" t t.heap x) (fun u t => cB D A ad u t.heap) A) args s 3 900 A) (F0 m 0 ls []) := by
  have hx := F.1.x
  have hb := F.1.b
  unfold wX0_takenFor at hw
  refine lv_iload_n hx hb dX0_takenFor_0 rfl (lv_at hl 1 rfl) ?_
  by_cases q1 : a1 = 1
  · replace hw := hw.1 q1
    refine lv_tableIn (off := 35) (tgt := 36) hx hb dX0_takenFor_1 (by rw [q1]; decide) (by rw [q1]; decide) (by rw [q1]; rfl) (by decide) ?_
    refine lv_aload_n hx hb dX0_takenFor_36 rfl (lv_at hl 0 rfl) ?_
    rcases hw with ⟨c1, b2, hk3, hm4, hw⟩ | ⟨r5, hm4, hw⟩ | ⟨v6, hm4, hw⟩
    · by_cases hz : c1 = 8 ∨ c1 = 10
      · replace hw := hw.1 hz
        refine dy_X8 F hB hk3 hz hm4 q586 dX0_takenFor_37 ?_
        refine W.widen (k := 3) (n := 900) (by omega) (by omega) ?_
        refine W.retY ?_
        exact W.aret hx hb F.1.r (Or.inl ⟨_, rfl⟩) (Or.inr ⟨_, rfl⟩) (fun t ht hW => xa_mk hw (x_B (Bw := cB D A ad) ht hB) (hS.F ht)) hS.2.2 dX0_takenFor_40 (hlocks := F.1.k)
      · replace hw := hw.2 hz
        refine dn_X8_spk F hB hk3 hz hm4 q586 hl.1 (Nat.le_of_ble_eq_true rfl) (Nat.le_of_ble_eq_true rfl) (Nat.le_of_ble_eq_true rfl) ⟨Nat.le_of_ble_eq_true rfl, Nat.le_of_ble_eq_true rfl⟩ dX0_takenFor_37 (fun x H locs hB hS hK => ?_)
        exact wt_out (Bw := cB D A ad) F.1 hnm q742 hw (fun t ht hA => by show va_Any _ t t.heap _; rw [ht]; exact hK.moved hA) hB hS
    · refine dn_X8_X4 F hB hm4 q586 hl.1 (Nat.le_of_ble_eq_true rfl) (Nat.le_of_ble_eq_true rfl) (Nat.le_of_ble_eq_true rfl) ⟨Nat.le_of_ble_eq_true rfl, Nat.le_of_ble_eq_true rfl⟩ dX0_takenFor_37 (fun x H locs hB hS hK => ?_)
      exact wt_out (Bw := cB D A ad) F.1 hnm q742 hw (fun t ht hA => by show va_Any _ t t.heap _; rw [ht]; exact hK.moved hA) hB hS
    · refine dn_X8_X15 F hB hm4 q586 hl.1 (Nat.le_of_ble_eq_true rfl) (Nat.le_of_ble_eq_true rfl) (Nat.le_of_ble_eq_true rfl) ⟨Nat.le_of_ble_eq_true rfl, Nat.le_of_ble_eq_true rfl⟩ dX0_takenFor_37 (fun x H locs hB hS hK => ?_)
      exact wt_out (Bw := cB D A ad) F.1 hnm q742 hw (fun t ht hA => by show va_Any _ t t.heap _; rw [ht]; exact hK.moved hA) hB hS
  replace hw := hw.2 q1
  by_cases q2 : a1 = 2
  · replace hw := hw.1 q2
    refine lv_tableIn (off := 40) (tgt := 41) hx hb dX0_takenFor_1 (by rw [q2]; decide) (by rw [q2]; decide) (by rw [q2]; rfl) (by decide) ?_
    refine lv_aload_n hx hb dX0_takenFor_41 rfl (lv_at hl 0 rfl) ?_
    rcases hw with ⟨c7, b8, hk9, hm10, hw⟩ | ⟨r11, hm10, hw⟩ | ⟨v12, hm10, hw⟩
    · by_cases hz : c7 = 9 ∨ c7 = 11
      · replace hw := hw.1 hz
        refine dy_X9 F hB hk9 hz hm10 q603 dX0_takenFor_42 ?_
        refine W.widen (k := 3) (n := 900) (by omega) (by omega) ?_
        refine W.retY ?_
        exact W.aret hx hb F.1.r (Or.inl ⟨_, rfl⟩) (Or.inr ⟨_, rfl⟩) (fun t ht hW => xa_mk hw (x_B (Bw := cB D A ad) ht hB) (hS.F ht)) hS.2.2 dX0_takenFor_45 (hlocks := F.1.k)
      · replace hw := hw.2 hz
        refine dn_X9_spk F hB hk9 hz hm10 q603 hl.1 (Nat.le_of_ble_eq_true rfl) (Nat.le_of_ble_eq_true rfl) (Nat.le_of_ble_eq_true rfl) ⟨Nat.le_of_ble_eq_true rfl, Nat.le_of_ble_eq_true rfl⟩ dX0_takenFor_42 (fun x H locs hB hS hK => ?_)
        exact wt_out (Bw := cB D A ad) F.1 hnm q742 hw (fun t ht hA => by show va_Any _ t t.heap _; rw [ht]; exact hK.moved hA) hB hS
    · refine dn_X9_X4 F hB hm10 q603 hl.1 (Nat.le_of_ble_eq_true rfl) (Nat.le_of_ble_eq_true rfl) (Nat.le_of_ble_eq_true rfl) ⟨Nat.le_of_ble_eq_true rfl, Nat.le_of_ble_eq_true rfl⟩ dX0_takenFor_42 (fun x H locs hB hS hK => ?_)
      exact wt_out (Bw := cB D A ad) F.1 hnm q742 hw (fun t ht hA => by show va_Any _ t t.heap _; rw [ht]; exact hK.moved hA) hB hS
    · refine dn_X9_X15 F hB hm10 q603 hl.1 (Nat.le_of_ble_eq_true rfl) (Nat.le_of_ble_eq_true rfl) (Nat.le_of_ble_eq_true rfl) ⟨Nat.le_of_ble_eq_true rfl, Nat.le_of_ble_eq_true rfl⟩ dX0_takenFor_42 (fun x H locs hB hS hK => ?_)
      exact wt_out (Bw := cB D A ad) F.1 hnm q742 hw (fun t ht hA => by show va_Any _ t t.heap _; rw [ht]; exact hK.moved hA) hB hS
  replace hw := hw.2 q2
  by_cases q3 : a1 = 3
  · replace hw := hw.1 q3
    refine lv_tableIn (off := 45) (tgt := 46) hx hb dX0_takenFor_1 (by rw [q3]; decide) (by rw [q3]; decide) (by rw [q3]; rfl) (by decide) ?_
    refine lv_aload_n hx hb dX0_takenFor_46 rfl (lv_at hl 0 rfl) ?_
    rcases hw with ⟨c13, b14, hk15, hm16, hw⟩ | ⟨r17, hm16, hw⟩ | ⟨v18, hm16, hw⟩
    · by_cases hz : c13 = 10
      · replace hw := hw.1 hz
        refine dy_X10 F hB hk15 hz hm16 q611 dX0_takenFor_47 ?_
        refine W.widen (k := 3) (n := 900) (by omega) (by omega) ?_
        refine W.retY ?_
        exact W.aret hx hb F.1.r (Or.inl ⟨_, rfl⟩) (Or.inr ⟨_, rfl⟩) (fun t ht hW => xa_mk hw (x_B (Bw := cB D A ad) ht hB) (hS.F ht)) hS.2.2 dX0_takenFor_50 (hlocks := F.1.k)
      · replace hw := hw.2 hz
        refine dn_X10_spk F hB hk15 hz hm16 q611 hl.1 (Nat.le_of_ble_eq_true rfl) (Nat.le_of_ble_eq_true rfl) (Nat.le_of_ble_eq_true rfl) ⟨Nat.le_of_ble_eq_true rfl, Nat.le_of_ble_eq_true rfl⟩ dX0_takenFor_47 (fun x H locs hB hS hK => ?_)
        exact wt_out (Bw := cB D A ad) F.1 hnm q742 hw (fun t ht hA => by show va_Any _ t t.heap _; rw [ht]; exact hK.moved hA) hB hS
    · refine dn_X10_X4 F hB hm16 q611 hl.1 (Nat.le_of_ble_eq_true rfl) (Nat.le_of_ble_eq_true rfl) (Nat.le_of_ble_eq_true rfl) ⟨Nat.le_of_ble_eq_true rfl, Nat.le_of_ble_eq_true rfl⟩ dX0_takenFor_47 (fun x H locs hB hS hK => ?_)
      exact wt_out (Bw := cB D A ad) F.1 hnm q742 hw (fun t ht hA => by show va_Any _ t t.heap _; rw [ht]; exact hK.moved hA) hB hS
    · refine dn_X10_X15 F hB hm16 q611 hl.1 (Nat.le_of_ble_eq_true rfl) (Nat.le_of_ble_eq_true rfl) (Nat.le_of_ble_eq_true rfl) ⟨Nat.le_of_ble_eq_true rfl, Nat.le_of_ble_eq_true rfl⟩ dX0_takenFor_47 (fun x H locs hB hS hK => ?_)
      exact wt_out (Bw := cB D A ad) F.1 hnm q742 hw (fun t ht hA => by show va_Any _ t t.heap _; rw [ht]; exact hK.moved hA) hB hS
  replace hw := hw.2 q3
  by_cases q4 : a1 = 4
  · replace hw := hw.1 q4
    refine lv_tableIn (off := 50) (tgt := 51) hx hb dX0_takenFor_1 (by rw [q4]; decide) (by rw [q4]; decide) (by rw [q4]; rfl) (by decide) ?_
    refine lv_aload_n hx hb dX0_takenFor_51 rfl (lv_at hl 0 rfl) ?_
    rcases hw with ⟨c19, b20, hk21, hm22, hw⟩ | ⟨r23, hm22, hw⟩ | ⟨v24, hm22, hw⟩
    · by_cases hz : c19 = 11
      · replace hw := hw.1 hz
        refine dy_X11 F hB hk21 hz hm22 q619 dX0_takenFor_52 ?_
        refine W.widen (k := 3) (n := 900) (by omega) (by omega) ?_
        refine W.retY ?_
        exact W.aret hx hb F.1.r (Or.inl ⟨_, rfl⟩) (Or.inr ⟨_, rfl⟩) (fun t ht hW => xa_mk hw (x_B (Bw := cB D A ad) ht hB) (hS.F ht)) hS.2.2 dX0_takenFor_55 (hlocks := F.1.k)
      · replace hw := hw.2 hz
        refine dn_X11_spk F hB hk21 hz hm22 q619 hl.1 (Nat.le_of_ble_eq_true rfl) (Nat.le_of_ble_eq_true rfl) (Nat.le_of_ble_eq_true rfl) ⟨Nat.le_of_ble_eq_true rfl, Nat.le_of_ble_eq_true rfl⟩ dX0_takenFor_52 (fun x H locs hB hS hK => ?_)
        exact wt_out (Bw := cB D A ad) F.1 hnm q742 hw (fun t ht hA => by show va_Any _ t t.heap _; rw [ht]; exact hK.moved hA) hB hS
    · refine dn_X11_X4 F hB hm22 q619 hl.1 (Nat.le_of_ble_eq_true rfl) (Nat.le_of_ble_eq_true rfl) (Nat.le_of_ble_eq_true rfl) ⟨Nat.le_of_ble_eq_true rfl, Nat.le_of_ble_eq_true rfl⟩ dX0_takenFor_52 (fun x H locs hB hS hK => ?_)
      exact wt_out (Bw := cB D A ad) F.1 hnm q742 hw (fun t ht hA => by show va_Any _ t t.heap _; rw [ht]; exact hK.moved hA) hB hS
    · refine dn_X11_X15 F hB hm22 q619 hl.1 (Nat.le_of_ble_eq_true rfl) (Nat.le_of_ble_eq_true rfl) (Nat.le_of_ble_eq_true rfl) ⟨Nat.le_of_ble_eq_true rfl, Nat.le_of_ble_eq_true rfl⟩ dX0_takenFor_52 (fun x H locs hB hS hK => ?_)
      exact wt_out (Bw := cB D A ad) F.1 hnm q742 hw (fun t ht hA => by show va_Any _ t t.heap _; rw [ht]; exact hK.moved hA) hB hS
  replace hw := hw.2 q4
  by_cases q5 : a1 = 5
  · replace hw := hw.1 q5
    refine lv_tableIn (off := 55) (tgt := 56) hx hb dX0_takenFor_1 (by rw [q5]; decide) (by rw [q5]; decide) (by rw [q5]; rfl) (by decide) ?_
    refine lv_aload_n hx hb dX0_takenFor_56 rfl (lv_at hl 0 rfl) ?_
    rcases hw with ⟨c25, b26, hk27, hm28, hw⟩ | ⟨r29, hm28, hw⟩ | ⟨v30, hm28, hw⟩
    · by_cases hz : c25 = 12
      · replace hw := hw.1 hz
        refine dy_X12 F hB hk27 hz hm28 q627 dX0_takenFor_57 ?_
        refine W.widen (k := 3) (n := 900) (by omega) (by omega) ?_
        refine W.retY ?_
        exact W.aret hx hb F.1.r (Or.inl ⟨_, rfl⟩) (Or.inr ⟨_, rfl⟩) (fun t ht hW => xa_mk hw (x_B (Bw := cB D A ad) ht hB) (hS.F ht)) hS.2.2 dX0_takenFor_60 (hlocks := F.1.k)
      · replace hw := hw.2 hz
        refine dn_X12_spk F hB hk27 hz hm28 q627 hl.1 (Nat.le_of_ble_eq_true rfl) (Nat.le_of_ble_eq_true rfl) (Nat.le_of_ble_eq_true rfl) ⟨Nat.le_of_ble_eq_true rfl, Nat.le_of_ble_eq_true rfl⟩ dX0_takenFor_57 (fun x H locs hB hS hK => ?_)
        exact wt_out (Bw := cB D A ad) F.1 hnm q742 hw (fun t ht hA => by show va_Any _ t t.heap _; rw [ht]; exact hK.moved hA) hB hS
    · refine dn_X12_X4 F hB hm28 q627 hl.1 (Nat.le_of_ble_eq_true rfl) (Nat.le_of_ble_eq_true rfl) (Nat.le_of_ble_eq_true rfl) ⟨Nat.le_of_ble_eq_true rfl, Nat.le_of_ble_eq_true rfl⟩ dX0_takenFor_57 (fun x H locs hB hS hK => ?_)
      exact wt_out (Bw := cB D A ad) F.1 hnm q742 hw (fun t ht hA => by show va_Any _ t t.heap _; rw [ht]; exact hK.moved hA) hB hS
    · refine dn_X12_X15 F hB hm28 q627 hl.1 (Nat.le_of_ble_eq_true rfl) (Nat.le_of_ble_eq_true rfl) (Nat.le_of_ble_eq_true rfl) ⟨Nat.le_of_ble_eq_true rfl, Nat.le_of_ble_eq_true rfl⟩ dX0_takenFor_57 (fun x H locs hB hS hK => ?_)
      exact wt_out (Bw := cB D A ad) F.1 hnm q742 hw (fun t ht hA => by show va_Any _ t t.heap _; rw [ht]; exact hK.moved hA) hB hS
  replace hw := hw.2 q5
  refine lv_tableOut (tgt := 61) hx hb dX0_takenFor_1 (by have n1 := x_ne q1 (a := 1) (by decide); have n2 := x_ne q2 (a := 2) (by decide); have n3 := x_ne q3 (a := 3) (by decide); have n4 := x_ne q4 (a := 4) (by decide); have n5 := x_ne q5 (a := 5) (by decide); omega) (by decide) ?_
  refine lv_aload_n hx hb dX0_takenFor_61 rfl (lv_at hl 0 rfl) ?_
  rcases hw with ⟨c31, b32, hk33, hm34, hw⟩ | ⟨r35, hm34, hw⟩ | ⟨v36, hm34, hw⟩
  · refine dy_X7 F hB hk33 hm34 q635 dX0_takenFor_62 ?_
    refine W.widen (k := 3) (n := 900) (by omega) (by omega) ?_
    refine W.retY ?_
    exact W.aret hx hb F.1.r (Or.inl ⟨_, rfl⟩) (Or.inr ⟨_, rfl⟩) (fun t ht hW => xa_mk hw (x_B (Bw := cB D A ad) ht hB) (hS.F ht)) hS.2.2 dX0_takenFor_65 (hlocks := F.1.k)
  · refine dn_X7_X4 F hB hm34 q635 hl.1 (Nat.le_of_ble_eq_true rfl) (Nat.le_of_ble_eq_true rfl) (Nat.le_of_ble_eq_true rfl) ⟨Nat.le_of_ble_eq_true rfl, Nat.le_of_ble_eq_true rfl⟩ dX0_takenFor_62 (fun x H locs hB hS hK => ?_)
    exact wt_out (Bw := cB D A ad) F.1 hnm q742 hw (fun t ht hA => by show va_Any _ t t.heap _; rw [ht]; exact hK.moved hA) hB hS
  · refine dn_X7_X15 F hB hm34 q635 hl.1 (Nat.le_of_ble_eq_true rfl) (Nat.le_of_ble_eq_true rfl) (Nat.le_of_ble_eq_true rfl) ⟨Nat.le_of_ble_eq_true rfl, Nat.le_of_ble_eq_true rfl⟩ dX0_takenFor_62 (fun x H locs hB hS hK => ?_)
    exact wt_out (Bw := cB D A ad) F.1 hnm q742 hw (fun t ht hA => by show va_Any _ t t.heap _; rw [ht]; exact hK.moved hA) hB hS
set_option maxHeartbeats 4000000 in
theorem mX0_takenFor {l : Launch} {D : DD} {A : Nat → Prop} {s0 : State} {ad : AD} {V : CV} {a0 : Nat} {a1 : Int32} {Q : Nat → CV → Prop} {E : CV → Prop} (hw : wX0_takenFor a0 a1 V Q E) : MetY l yX0_takenFor (ws_ yX0_takenFor cX0_takenFor 2 (some (.object "NeverSaid$Speaker"))) rX0_takenFor (va_Pc [.ref a0, .int a1] (fun U => cB D A ad V U.heap ∧ CX l D A s0 U)) (yQ (xa_Qn Q (fun u t => cB D A ad u t.heap) A) E (fun x t => va_Any "java/lang/ClassCastException" t t.heap x) (fun u t => cB D A ad u t.heap) A) 3 900 A := by
  refine MetY.ofW (cc := cX0_takenFor) (maxL := 2) (ret := some (.object "NeverSaid$Speaker")) (by decide) ?_
  intro p e s m args below meth c F1 hnm _ hv
  obtain ⟨rfl, hB, hC⟩ := hv
  have F : FX p l c cX0_takenFor s _ m RX0 D A s0 2 meth (some (.object "NeverSaid$Speaker")) := ⟨F1, hC⟩
  have hS : va_S A s.heap s.heap [] := va_S.rf
  have hl := lv_entry ([.ref a0, .int a1]) (n := 2) (Nat.le_of_ble_eq_true rfl)
  rw [lg_entry_eq]
  generalize (lg_sl ([.ref a0, .int a1]) ++ List.replicate (2 - (lg_sl ([.ref a0, .int a1])).length) Slot.unset).toArray = ls at hl ⊢
  exact bX0_takenFor_0 F hnm hB hS hw hl
theorem kX0_X0_takenFor {p : Program} {l : Launch} {e : Env} {R : Room} {s : State} {m : MethodId} {args : Array Value} {below : List Frame} {meth : Method} {c : Code} {H : Heap} {locs : List Loc} {cells slots : Nat} {Q0 : State → Prop} {cc : ByteArray} {pc nL : Nat} {ls : Array Slot} {rest : List Value} {ret : Option FieldType} {D : DD} {A : Nat → Prop} {s0 : State} {ad : AD} {V : CV} {a0 : Nat} {a1 : Int32} {Q : Nat → CV → Prop} {E : CV → Prop} (F : FX p l c cc s args m RX0 D A s0 nL meth ret) (hB : cB D A ad V H) (hS : va_S A s.heap H locs) (hw : wX0_takenFor a0 a1 V Q E) (hR : rX0_takenFor.frames + 1 ≤ R.frames ∧ 8 + (2 + 11) + rX0_takenFor.locals ≤ R.locals) (hc : cells + 3 ≤ R.cells ∧ slots + 900 ≤ R.slots) (hsz : ls.size = nL) (hW : (rest.map fun v => v.category).sum ≤ 8) (hdg : decode cc pc = .ok (.invokestatic 312, 3)) (kk : ∀ (r : Nat) (u : CV) (H1 : Heap) (locs1 : List Loc), Q r u → cB D A ad u H1 → va_S A s.heap H1 locs1 → W p l e R s m args below meth c H1 locs1 (cells + 3) (slots + 900) Q0 (F0 m (pc + 3) ls (.ref r :: rest))) (ke : ∀ (x : Nat) (u : CV) (H1 : Heap) (locs1 : List Loc), E u → va_Any "java/lang/ClassCastException" s H1 x → cB D A ad u H1 → va_S A s.heap H1 locs1 → WT p l e R s m args below meth c H1 locs1 (cells + 3) (slots + 900) Q0 (F0 m pc ls rest) x) : W p l e R s m args below meth c H locs cells slots Q0 (F0 m pc ls (.int a1 :: .ref a0 :: rest)) :=
  k_nY (Bw := cB D A ad) (k_runSY (Bw := cB D A ad) (n := 2) (As := [.ref a0, .int a1]) F hB hS (mX0_takenFor hw) codeOf (lw_meth q742) q740 q741 q83 q742 (by decide +kernel) hR ⟨rfl, rfl⟩ hc rfl hsz rfl hW hdg) hS kk (fun x u H1 locs1 hE hK hB hS => by
    obtain ⟨t, h1, h2, h3⟩ := hK
    rw [h1] at h3
    exact ke x u H1 locs1 hE (h3.moved h2.symm) hB hS)
def rX0_as : Room := { frames := 8, cells := 3, slots := 900, locals := 10321 }
set_option maxHeartbeats 4000000 in
theorem bX0_as_0 {p : Program} {l : Launch} {e : Env} {s : State} {m : MethodId} {args : Array Value} {below : List Frame} {meth : Method} {c : Code} {D : DD} {A : Nat → Prop} {s0 : State} {ad : AD} {Q : Int32 → CV → Prop} {a1 : Int32} {a2 : Int32} {V : CV} {H : Heap} {locs : List Loc} {ls : Array Slot} (F : FX p l c cX0_as s args m RX0 D A s0 5 meth (some .int)) (hnm : s.methodNamed? yX0_as = some m) (hB : cB D A ad V H) (hS : va_S A s.heap H locs) (hw : wX0_as a1 a2 V Q) (hl : lv_has ls 5 [(0, .ref (ad 0 0 0)), (1, .int a1), (2, .int a2)]) : W p l e rX0_as s m args below meth c H locs 0 0 (XMQ below (va_Qi Q (fun u t => cB D A ad u t.heap) A) args s 3 900 A) (F0 m 0 ls []) := by
  have hx := F.1.x
  have hb := F.1.b
  unfold wX0_as at hw
  refine lv_aload_n hx hb dX0_as_0 rfl (lv_at hl 0 rfl) ?_
  refine lv_iload_n hx hb dX0_as_1 rfl (lv_at hl 1 rfl) ?_
  refine kX0_X0_isPerson F hB hS hw ⟨Nat.le_of_ble_eq_true rfl, Nat.le_of_ble_eq_true rfl⟩ ⟨by show _ ≤ 3; omega, by show _ ≤ 900; omega⟩ hl.1 (Nat.le_of_ble_eq_true rfl) dX0_as_2 (fun r1 V2 H locs hw hB hS => ?_)
  refine lv_if_eq (tgt := 17) hx hb dX0_as_5 (by decide) (fun q => ?_) (fun q => ?_)
  · replace hw := hw.1 q
    refine lv_ldc hx hb F.1.o (F.1.t _ q392) dX0_as_17 ?_
    refine W.widen (k := 3) (n := 900) (by omega) (by omega) ?_
    refine W.retX ?_
    exact W.iret hx hb F.1.r (fun t ht hW => ⟨⟨_, _, rfl, hw, x_B (Bw := cB D A ad) ht hB⟩, hS.F ht⟩) hS.2.2 dX0_as_19 (hlocks := F.1.k)
  · replace hw := hw.2 q
    refine lv_iload_n hx hb dX0_as_8 rfl (lv_at hl 2 rfl) ?_
    refine lv_iconst (v := 0) hx hb dX0_as_9 (by decide) ?_
    refine lv_iconst (v := 5) hx hb dX0_as_10 (by decide) ?_
    refine kX0_X0_isIn F.1 hw ⟨Nat.le_of_ble_eq_true rfl, Nat.le_of_ble_eq_true rfl⟩ ⟨by show _ ≤ 3; omega, by show _ ≤ 900; omega⟩ hl.1 (Nat.le_of_ble_eq_true rfl) dX0_as_11 (fun r3 hw => ?_)
    refine lv_if_ne (tgt := 20) hx hb dX0_as_14 (by decide) (fun q => ?_) (fun q => ?_)
    · replace hw := hw.2 q
      refine lv_aload_n hx hb dX0_as_20 rfl (lv_at hl 0 rfl) ?_
      refine cg_X0_46 F hB dX0_as_21 ?_
      refine cg_X0_259 F hB (by decide) dX0_as_24 ?_
      refine lv_iload_n hx hb dX0_as_27 rfl (lv_at hl 1 rfl) ?_
      obtain ⟨hin4, hw⟩ := hw
      refine cl_Sp F hB (by decide) hin4 dX0_as_28 ?_
      refine x_astore_n (lv' := [(3, va_rf (vSp V2 0 a1.toNatClampNeg)), (0, .ref (ad 0 0 0)), (1, .int a1), (2, .int a2)]) hx hb dX0_as_29 rfl hl (by decide) rfl (fun ls hl => ?_)
      refine x_aload_n hx hb dX0_as_30 rfl (lv_at hl 0 rfl) ?_
      refine lv_iload_n hx hb dX0_as_31 rfl (lv_at hl 3 rfl) ?_
      obtain ⟨y5, e6, hw⟩ := hw
      refine W.eq (g2 := F0 m 32 ls [.int a2, .ref y5]) (congrArg (fun z => F0 m 32 ls [.int a2, va_rf z]) e6) ?_
      refine kX0_X0_takenFor F hB hS hw ⟨Nat.le_of_ble_eq_true rfl, Nat.le_of_ble_eq_true rfl⟩ ⟨by show _ ≤ 3; omega, by show _ ≤ 900; omega⟩ hl.1 (Nat.le_of_ble_eq_true rfl) dX0_as_32 (fun r7 V8 H locs hw hB hS => ?_) (fun x V8 H locs hw hK hB hS => ?_)
      · skip
        obtain ⟨c9, b10, hk11, hm12, hw⟩ := hw
        refine cg_X0_267 F hB hk11 hm12 dX0_as_35 ?_
        refine W.retX ?_
        exact W.iret hx hb F.1.r (fun t ht hW => ⟨⟨_, _, rfl, hw, x_B (Bw := cB D A ad) ht hB⟩, hS.F ht⟩) hS.2.2 dX0_as_38 (hlocks := F.1.k)
      · skip
        refine wt_catch (C := "java/lang/ClassCastException") F.1 hnm (hs := [(30, 38, 39, 316)]) (pre := []) (rst := []) (s1 := 30) (s2 := 38) (hpc := 39) (ct := 316) q712 rfl (by decide) (by decide) (by decide) q713 hK ?_
        refine lv_astore (lv' := [(4, .ref x), (3, va_rf (vSp V2 0 a1.toNatClampNeg)), (0, .ref (ad 0 0 0)), (1, .int a1), (2, .int a2)]) hx hb dX0_as_39 hl (by decide) (by simp only [List.filter_cons, x_cat]; rfl) (fun ls hl => ?_)
        refine lv_ldcw hx hb F.1.o (F.1.t _ q743) dX0_as_41 ?_
        refine W.retX ?_
        exact W.iret hx hb F.1.r (fun t ht hW => ⟨⟨_, _, rfl, hw, x_B (Bw := cB D A ad) ht hB⟩, hS.F ht⟩) hS.2.2 dX0_as_44 (hlocks := F.1.k)
    · replace hw := hw.1 q
      refine lv_ldc hx hb F.1.o (F.1.t _ q392) dX0_as_17 ?_
      refine W.widen (k := 3) (n := 900) (by omega) (by omega) ?_
      refine W.retX ?_
      exact W.iret hx hb F.1.r (fun t ht hW => ⟨⟨_, _, rfl, hw, x_B (Bw := cB D A ad) ht hB⟩, hS.F ht⟩) hS.2.2 dX0_as_19 (hlocks := F.1.k)
set_option maxHeartbeats 4000000 in
theorem mX0_as {l : Launch} {D : DD} {A : Nat → Prop} {s0 : State} {ad : AD} {V : CV} {a1 : Int32} {a2 : Int32} {Q : Int32 → CV → Prop} (hw : wX0_as a1 a2 V Q) : MetY l yX0_as (wsW_ yX0_as cX0_as 5 (some .int) [(30, 38, 39, 316)]) rX0_as (va_Pc [.ref (ad 0 0 0), .int a1, .int a2] (fun U => cB D A ad V U.heap ∧ CX l D A s0 U)) (va_Qi Q (fun u t => cB D A ad u t.heap) A) 3 900 A := by
  refine MetY.ofWW (cc := cX0_as) (maxL := 5) (ret := some .int) (by decide) ?_
  intro p e s m args below meth c F1 hnm _ hv
  obtain ⟨rfl, hB, hC⟩ := hv
  have F : FX p l c cX0_as s _ m RX0 D A s0 5 meth (some .int) := ⟨F1, hC⟩
  have hS : va_S A s.heap s.heap [] := va_S.rf
  have hl := lv_entry ([.ref (ad 0 0 0), .int a1, .int a2]) (n := 5) (Nat.le_of_ble_eq_true rfl)
  rw [lg_entry_eq]
  generalize (lg_sl ([.ref (ad 0 0 0), .int a1, .int a2]) ++ List.replicate (5 - (lg_sl ([.ref (ad 0 0 0), .int a1, .int a2])).length) Slot.unset).toArray = ls at hl ⊢
  exact bX0_as_0 F hnm hB hS hw hl
def rX0_isSlot : Room := { frames := 1, cells := 0, slots := 0, locals := 22 }
set_option maxHeartbeats 4000000 in
theorem bX0_isSlot_0 {p : Program} {l : Launch} {e : Env} {s : State} {m : MethodId} {args : Array Value} {below : List Frame} {meth : Method} {c : Code} {Q : Int32 → Prop} {a0 : Int32} {ls : Array Slot} (F : FP p c cX0_isSlot s args m RX0 1 meth (some .boolean)) (hw : wX0_isSlot a0 Q) (hl : lv_has ls 1 [(0, .int a0)]) : W p l e rX0_isSlot s m args below meth c s.heap [] 0 0 (MQ below (vp_Si Q) args s 0 0 (fun _ => False)) (F0 m 0 ls []) := by
  have hx := F.x
  have hb := F.b
  unfold wX0_isSlot at hw
  refine lv_iload_n hx hb dX0_isSlot_0 rfl (lv_at hl 0 rfl) ?_
  refine lv_iconst (v := 0) hx hb dX0_isSlot_1 (by decide) ?_
  refine lv_iconst (v := 4) hx hb dX0_isSlot_2 (by decide) ?_
  refine kX0_X0_isIn F hw ⟨Nat.le_of_ble_eq_true rfl, Nat.le_of_ble_eq_true rfl⟩ ⟨Nat.zero_le _, Nat.zero_le _⟩ hl.1 (Nat.le_of_ble_eq_true rfl) dX0_isSlot_3 (fun r1 hw => ?_)
  obtain ⟨hn, hw⟩ := hw
  exact W.zret hx hb F.r hn (fun t ht hW => ⟨_, rfl, hw, ht⟩) (fun _ h => absurd h List.not_mem_nil) dX0_isSlot_6 (hlocks := F.k)
set_option maxHeartbeats 4000000 in
theorem mX0_isSlot {l : Launch}  {a0 : Int32} {Q : Int32 → Prop} (hw : wX0_isSlot a0 Q) : Met l yX0_isSlot (ws_ yX0_isSlot cX0_isSlot 1 (some .boolean)) rX0_isSlot (va_Pc [.int a0] (fun _ => True)) (vp_Si Q) 0 0 (fun _ => False) := by
  refine Met.ofW (cc := cX0_isSlot) (maxL := 1) (ret := some .boolean) (by decide) rfl ?_
  intro p e s m args below meth c s₁ B hml hv
  obtain ⟨rfl, -⟩ := hv
  have F : FP p c cX0_isSlot s _ m RX0 1 meth (some .boolean) := mk_FP B hml rfl
  have hl := lv_entry ([.int a0]) (n := 1) (Nat.le_of_ble_eq_true rfl)
  rw [lg_entry_eq]
  generalize (lg_sl ([.int a0]) ++ List.replicate (1 - (lg_sl ([.int a0])).length) Slot.unset).toArray = ls at hl ⊢
  exact bX0_isSlot_0 F hw hl
theorem kX0_X0_isSlot {p : Program} {l : Launch} {e : Env} {R : Room} {s : State} {m : MethodId} {args : Array Value} {below : List Frame} {meth : Method} {c : Code} {H : Heap} {locs : List Loc} {cells slots : Nat} {Q0 : State → Prop} {cc : ByteArray} {pc nL : Nat} {ls : Array Slot} {rest : List Value} {ret : Option FieldType} {a0 : Int32} {Q : Int32 → Prop} (F : FP p c cc s args m RX0 nL meth ret) (hw : wX0_isSlot a0 Q) (hR : rX0_isSlot.frames + 1 ≤ R.frames ∧ 8 + (1 + 11) + rX0_isSlot.locals ≤ R.locals) (hc : cells ≤ R.cells ∧ slots ≤ R.slots) (hsz : ls.size = nL) (hW : (rest.map fun v => v.category).sum ≤ 8) (hdg : decode cc pc = .ok (.invokestatic 487, 3)) (kk : ∀ r : Int32, Q r → W p l e R s m args below meth c H locs cells slots Q0 (F0 m (pc + 3) ls (.int r :: rest))) : W p l e R s m args below meth c H locs cells slots Q0 (F0 m pc ls (.int a0 :: rest)) :=
  k_csi (k_runP (n := 1) (As := [.int a0]) F (mX0_isSlot hw) q1071 q1072 q83 q1073 (by decide +kernel) hR ⟨rfl, rfl⟩ hc rfl hsz rfl hW hdg) kk
def rX0_ask : Room := { frames := 8, cells := 3, slots := 900, locals := 10321 }
set_option maxHeartbeats 4000000 in
theorem bX0_ask_0 {p : Program} {l : Launch} {e : Env} {s : State} {m : MethodId} {args : Array Value} {below : List Frame} {meth : Method} {c : Code} {D : DD} {A : Nat → Prop} {s0 : State} {ad : AD} {Q : Int32 → CV → Prop} {a1 : Int32} {a2 : Int32} {V : CV} {H : Heap} {locs : List Loc} {ls : Array Slot} (F : FX p l c cX0_ask s args m RX0 D A s0 5 meth (some .int)) (hnm : s.methodNamed? yX0_ask = some m) (hB : cB D A ad V H) (hS : va_S A s.heap H locs) (hw : wX0_ask a1 a2 V Q) (hl : lv_has ls 5 [(0, .ref (ad 0 0 0)), (1, .int a1), (2, .int a2)]) : W p l e rX0_ask s m args below meth c H locs 0 0 (XMQ below (va_Qi Q (fun u t => cB D A ad u t.heap) A) args s 3 900 A) (F0 m 0 ls []) := by
  have hx := F.1.x
  have hb := F.1.b
  unfold wX0_ask at hw
  refine lv_iload_n hx hb dX0_ask_0 rfl (lv_at hl 1 rfl) ?_
  refine kX0_X0_isSlot F.1 hw ⟨Nat.le_of_ble_eq_true rfl, Nat.le_of_ble_eq_true rfl⟩ ⟨by show _ ≤ 3; omega, by show _ ≤ 900; omega⟩ hl.1 (Nat.le_of_ble_eq_true rfl) dX0_ask_1 (fun r1 hw => ?_)
  refine lv_if_eq (tgt := 16) hx hb dX0_ask_4 (by decide) (fun q => ?_) (fun q => ?_)
  · replace hw := hw.1 q
    refine lv_ldc hx hb F.1.o (F.1.t _ q392) dX0_ask_16 ?_
    refine W.widen (k := 3) (n := 900) (by omega) (by omega) ?_
    refine W.retX ?_
    exact W.iret hx hb F.1.r (fun t ht hW => ⟨⟨_, _, rfl, hw, x_B (Bw := cB D A ad) ht hB⟩, hS.F ht⟩) hS.2.2 dX0_ask_18 (hlocks := F.1.k)
  · replace hw := hw.2 q
    refine lv_iload_n hx hb dX0_ask_7 rfl (lv_at hl 2 rfl) ?_
    refine lv_iconst (v := 0) hx hb dX0_ask_8 (by decide) ?_
    refine lv_iconst (v := 5) hx hb dX0_ask_9 (by decide) ?_
    refine kX0_X0_isIn F.1 hw ⟨Nat.le_of_ble_eq_true rfl, Nat.le_of_ble_eq_true rfl⟩ ⟨by show _ ≤ 3; omega, by show _ ≤ 900; omega⟩ hl.1 (Nat.le_of_ble_eq_true rfl) dX0_ask_10 (fun r2 hw => ?_)
    refine lv_if_ne (tgt := 19) hx hb dX0_ask_13 (by decide) (fun q => ?_) (fun q => ?_)
    · replace hw := hw.2 q
      refine lv_aload_n hx hb dX0_ask_19 rfl (lv_at hl 0 rfl) ?_
      refine cg_X0_87 F hB dX0_ask_20 ?_
      refine lv_iload_n hx hb dX0_ask_23 rfl (lv_at hl 1 rfl) ?_
      obtain ⟨hin3, hw⟩ := hw
      refine cl_Sl F hB hin3 dX0_ask_24 ?_
      refine cg_X0_505 F hB (x_lt hin3) dX0_ask_25 ?_
      refine x_astore_n (lv' := [(3, va_rf (vHe V a1.toNatClampNeg)), (0, .ref (ad 0 0 0)), (1, .int a1), (2, .int a2)]) hx hb dX0_ask_28 rfl hl (by decide) rfl (fun ls hl => ?_)
      refine x_aload_n hx hb dX0_ask_29 rfl (lv_at hl 0 rfl) ?_
      refine x_ifnonnull (tgt := 37) hx hb dX0_ask_30 (by decide) (fun q => ?_) (fun q => ?_)
      · replace hw := hw.2 q
        refine x_aload_n hx hb dX0_ask_37 rfl (lv_at hl 0 rfl) ?_
        refine lv_iload_n hx hb dX0_ask_38 rfl (lv_at hl 3 rfl) ?_
        obtain ⟨y4, e5, hw⟩ := hw
        refine W.eq (g2 := F0 m 39 ls [.int a2, .ref y4]) (congrArg (fun z => F0 m 39 ls [.int a2, va_rf z]) e5) ?_
        refine kX0_X0_takenFor F hB hS hw ⟨Nat.le_of_ble_eq_true rfl, Nat.le_of_ble_eq_true rfl⟩ ⟨by show _ ≤ 3; omega, by show _ ≤ 900; omega⟩ hl.1 (Nat.le_of_ble_eq_true rfl) dX0_ask_39 (fun r6 V7 H locs hw hB hS => ?_) (fun x V7 H locs hw hK hB hS => ?_)
        · skip
          refine lv_astore (lv' := [(4, .ref r6), (3, va_rf (vHe V a1.toNatClampNeg)), (0, .ref (ad 0 0 0)), (1, .int a1), (2, .int a2)]) hx hb dX0_ask_42 hl (by decide) (by simp only [List.filter_cons, x_cat]; rfl) (fun ls hl => ?_)
          refine lv_aload hx hb dX0_ask_44 (lv_at hl 0 rfl) ?_
          refine kX0_Sp_worthI F hB hS hw ⟨Nat.le_of_ble_eq_true rfl, Nat.le_of_ble_eq_true rfl⟩ ⟨by show _ ≤ 3; omega, by show _ ≤ 900; omega⟩ hl.1 (Nat.le_of_ble_eq_true rfl) dX0_ask_46 (fun r8 V9 H locs hw hB hS => ?_)
          refine W.retX ?_
          exact W.iret hx hb F.1.r (fun t ht hW => ⟨⟨_, _, rfl, hw, x_B (Bw := cB D A ad) ht hB⟩, hS.F ht⟩) hS.2.2 dX0_ask_51 (hlocks := F.1.k)
        · skip
          refine wt_catch (C := "java/lang/ClassCastException") F.1 hnm (hs := [(37, 51, 52, 316)]) (pre := []) (rst := []) (s1 := 37) (s2 := 51) (hpc := 52) (ct := 316) q1140 rfl (by decide) (by decide) (by decide) q713 hK ?_
          refine lv_astore (lv' := [(4, .ref x), (3, va_rf (vHe V a1.toNatClampNeg)), (0, .ref (ad 0 0 0)), (1, .int a1), (2, .int a2)]) hx hb dX0_ask_52 hl (by decide) (by simp only [List.filter_cons, x_cat]; rfl) (fun ls hl => ?_)
          refine lv_ldcw hx hb F.1.o (F.1.t _ q743) dX0_ask_54 ?_
          refine W.retX ?_
          exact W.iret hx hb F.1.r (fun t ht hW => ⟨⟨_, _, rfl, hw, x_B (Bw := cB D A ad) ht hB⟩, hS.F ht⟩) hS.2.2 dX0_ask_57 (hlocks := F.1.k)
      · replace hw := hw.1 q
        refine lv_ldcw hx hb F.1.o (F.1.t _ q1019) dX0_ask_33 ?_
        refine W.widen (k := 3) (n := 900) (by omega) (by omega) ?_
        refine W.retX ?_
        exact W.iret hx hb F.1.r (fun t ht hW => ⟨⟨_, _, rfl, hw, x_B (Bw := cB D A ad) ht hB⟩, hS.F ht⟩) hS.2.2 dX0_ask_36 (hlocks := F.1.k)
    · replace hw := hw.1 q
      refine lv_ldc hx hb F.1.o (F.1.t _ q392) dX0_ask_16 ?_
      refine W.widen (k := 3) (n := 900) (by omega) (by omega) ?_
      refine W.retX ?_
      exact W.iret hx hb F.1.r (fun t ht hW => ⟨⟨_, _, rfl, hw, x_B (Bw := cB D A ad) ht hB⟩, hS.F ht⟩) hS.2.2 dX0_ask_18 (hlocks := F.1.k)
set_option maxHeartbeats 4000000 in
theorem mX0_ask {l : Launch} {D : DD} {A : Nat → Prop} {s0 : State} {ad : AD} {V : CV} {a1 : Int32} {a2 : Int32} {Q : Int32 → CV → Prop} (hw : wX0_ask a1 a2 V Q) : MetY l yX0_ask (wsW_ yX0_ask cX0_ask 5 (some .int) [(37, 51, 52, 316)]) rX0_ask (va_Pc [.ref (ad 0 0 0), .int a1, .int a2] (fun U => cB D A ad V U.heap ∧ CX l D A s0 U)) (va_Qi Q (fun u t => cB D A ad u t.heap) A) 3 900 A := by
  refine MetY.ofWW (cc := cX0_ask) (maxL := 5) (ret := some .int) (by decide) ?_
  intro p e s m args below meth c F1 hnm _ hv
  obtain ⟨rfl, hB, hC⟩ := hv
  have F : FX p l c cX0_ask s _ m RX0 D A s0 5 meth (some .int) := ⟨F1, hC⟩
  have hS : va_S A s.heap s.heap [] := va_S.rf
  have hl := lv_entry ([.ref (ad 0 0 0), .int a1, .int a2]) (n := 5) (Nat.le_of_ble_eq_true rfl)
  rw [lg_entry_eq]
  generalize (lg_sl ([.ref (ad 0 0 0), .int a1, .int a2]) ++ List.replicate (5 - (lg_sl ([.ref (ad 0 0 0), .int a1, .int a2])).length) Slot.unset).toArray = ls at hl ⊢
  exact bX0_ask_0 F hnm hB hS hw hl
def rX0_has : Room := { frames := 0, cells := 0, slots := 0, locals := 0 }
set_option maxHeartbeats 4000000 in
theorem bX0_has_0 {p : Program} {l : Launch} {e : Env} {s : State} {m : MethodId} {args : Array Value} {below : List Frame} {meth : Method} {c : Code} {Q : Int32 → Prop} {a0 : Int32} {a1 : Int32} {ls : Array Slot} (F : FP p c cX0_has s args m RX0 2 meth (some .boolean)) (hw : wX0_has a0 a1 Q) (hl : lv_has ls 2 [(0, .int a0), (1, .int a1)]) : W p l e rX0_has s m args below meth c s.heap [] 0 0 (MQ below (vp_Si Q) args s 0 0 (fun _ => False)) (F0 m 0 ls []) := by
  have hx := F.x
  have hb := F.b
  unfold wX0_has at hw
  refine lv_iload_n hx hb dX0_has_0 rfl (lv_at hl 0 rfl) ?_
  refine lv_iload_n hx hb dX0_has_1 rfl (lv_at hl 1 rfl) ?_
  refine lv_ishr hx hb dX0_has_2 ?_
  refine lv_iconst (v := 1) hx hb dX0_has_3 (by decide) ?_
  refine lv_iand hx hb dX0_has_4 ?_
  refine lv_iconst (v := 1) hx hb dX0_has_5 (by decide) ?_
  refine lv_icmp_ne (tgt := 13) hx hb dX0_has_6 (by decide) (fun q => ?_) (fun q => ?_)
  · replace hw := hw.2 q
    refine lv_iconst (v := 0) hx hb dX0_has_13 (by decide) ?_
    exact W.zret hx hb F.r rfl (fun t ht hW => ⟨_, rfl, hw, ht⟩) (fun _ h => absurd h List.not_mem_nil) dX0_has_14 (hlocks := F.k)
  · replace hw := hw.1 q
    refine lv_iconst (v := 1) hx hb dX0_has_9 (by decide) ?_
    refine lv_goto (tgt := 14) hx hb dX0_has_10 (by decide) ?_
    exact W.zret hx hb F.r rfl (fun t ht hW => ⟨_, rfl, hw, ht⟩) (fun _ h => absurd h List.not_mem_nil) dX0_has_14 (hlocks := F.k)
set_option maxHeartbeats 4000000 in
theorem mX0_has {l : Launch}  {a0 : Int32} {a1 : Int32} {Q : Int32 → Prop} (hw : wX0_has a0 a1 Q) : Met l yX0_has (ws_ yX0_has cX0_has 2 (some .boolean)) rX0_has (va_Pc [.int a0, .int a1] (fun _ => True)) (vp_Si Q) 0 0 (fun _ => False) := by
  refine Met.ofW (cc := cX0_has) (maxL := 2) (ret := some .boolean) (by decide) rfl ?_
  intro p e s m args below meth c s₁ B hml hv
  obtain ⟨rfl, -⟩ := hv
  have F : FP p c cX0_has s _ m RX0 2 meth (some .boolean) := mk_FP B hml rfl
  have hl := lv_entry ([.int a0, .int a1]) (n := 2) (Nat.le_of_ble_eq_true rfl)
  rw [lg_entry_eq]
  generalize (lg_sl ([.int a0, .int a1]) ++ List.replicate (2 - (lg_sl ([.int a0, .int a1])).length) Slot.unset).toArray = ls at hl ⊢
  exact bX0_has_0 F hw hl
theorem kX0_X0_has {p : Program} {l : Launch} {e : Env} {R : Room} {s : State} {m : MethodId} {args : Array Value} {below : List Frame} {meth : Method} {c : Code} {H : Heap} {locs : List Loc} {cells slots : Nat} {Q0 : State → Prop} {cc : ByteArray} {pc nL : Nat} {ls : Array Slot} {rest : List Value} {ret : Option FieldType} {a0 : Int32} {a1 : Int32} {Q : Int32 → Prop} (F : FP p c cc s args m RX0 nL meth ret) (hw : wX0_has a0 a1 Q) (hR : rX0_has.frames + 1 ≤ R.frames ∧ 8 + (2 + 11) + rX0_has.locals ≤ R.locals) (hc : cells ≤ R.cells ∧ slots ≤ R.slots) (hsz : ls.size = nL) (hW : (rest.map fun v => v.category).sum ≤ 8) (hdg : decode cc pc = .ok (.invokestatic 293, 3)) (kk : ∀ r : Int32, Q r → W p l e R s m args below meth c H locs cells slots Q0 (F0 m (pc + 3) ls (.int r :: rest))) : W p l e R s m args below meth c H locs cells slots Q0 (F0 m pc ls (.int a1 :: .int a0 :: rest)) :=
  k_csi (k_runP (n := 2) (As := [.int a0, .int a1]) F (mX0_has hw) q677 q678 q83 q679 (by decide +kernel) hR ⟨rfl, rfl⟩ hc rfl hsz rfl hW hdg) kk
def rX0_becomes : Room := { frames := 1, cells := 0, slots := 0, locals := 21 }
set_option maxHeartbeats 4000000 in
theorem bX0_becomes_43 {p : Program} {l : Launch} {e : Env} {s : State} {m : MethodId} {args : Array Value} {below : List Frame} {meth : Method} {c : Code} {D : DD} {A : Nat → Prop} {s0 : State} {ad : AD} {Q : Int32 → CV → Prop} {l4 : Int32} {k0 : Int32} {k1 : Int32} {k2 : Nat} {k2' : Nat} {V : CV} {H : Heap} {locs : List Loc} {ls : Array Slot} (F : FX p l c cX0_becomes s args m RX0 D A s0 5 meth (some .int)) (g_k2 : k2 < 3) (g_k2p : (k2' = 4 ∨ k2' = 5 ∨ k2' = 6)) (hB : cB D A ad V H) (hS : va_S A s.heap H locs) (hw : wX0_becomes_43 l4 k0 k1 k2 k2' V Q) (hl : lv_has ls 5 [(4, .int l4)]) : W p l e rX0_becomes s m args below meth c H locs 0 0 (MQ below (va_Qi Q (fun u t => cB D A ad u t.heap) A) args s 0 0 A) (F0 m 43 ls [.int k0, .int k1, .ref (ad 3 k2 k2')]) := by
  have hx := F.1.x
  have hb := F.1.b
  unfold wX0_becomes_43 at hw
  obtain ⟨hin1, hw⟩ := hw
  refine ct_S F hB hS g_k2 g_k2p hin1 dX0_becomes_43 (fun H locs hB hS => ?_)
  refine lv_iload hx hb dX0_becomes_44 (lv_at hl 0 rfl) ?_
  exact W.iret hx hb F.1.r (fun t ht hW => ⟨⟨_, _, rfl, hw, x_B (Bw := cB D A ad) ht hB⟩, hS.F ht⟩) hS.2.2 dX0_becomes_46 (hlocks := F.1.k)
set_option maxHeartbeats 4000000 in
theorem bX0_becomes_15 {p : Program} {l : Launch} {e : Env} {s : State} {m : MethodId} {args : Array Value} {below : List Frame} {meth : Method} {c : Code} {D : DD} {A : Nat → Prop} {s0 : State} {ad : AD} {Q : Int32 → CV → Prop} {l0 : Nat} {l0' : Nat} {l1 : Int32} {l2 : Int32} {l3 : Int32} {k0 : Int32} {V : CV} {H : Heap} {locs : List Loc} {ls : Array Slot} (F : FX p l c cX0_becomes s args m RX0 D A s0 5 meth (some .int)) (g_l0 : l0 < 3) (g_l0p : (l0' = 4 ∨ l0' = 5 ∨ l0' = 6)) (hB : cB D A ad V H) (hS : va_S A s.heap H locs) (hw : wX0_becomes_15 l0 l0' l1 l2 l3 k0 V Q) (hl : lv_has ls 5 [(0, .ref (ad 3 l0 l0')), (1, .int l1), (2, .int l2), (3, .int l3)]) : W p l e rX0_becomes s m args below meth c H locs 0 0 (MQ below (va_Qi Q (fun u t => cB D A ad u t.heap) A) args s 0 0 A) (F0 m 15 ls [.int k0]) := by
  have hx := F.1.x
  have hb := F.1.b
  unfold wX0_becomes_15 at hw
  refine lv_istore (lv' := [(4, .int k0), (0, .ref (ad 3 l0 l0')), (1, .int l1), (2, .int l2), (3, .int l3)]) hx hb dX0_becomes_15 hl (by decide) rfl (fun ls hl => ?_)
  refine lv_aload_n hx hb dX0_becomes_17 rfl (lv_at hl 1 rfl) ?_
  refine lv_iload_n hx hb dX0_becomes_18 rfl (lv_at hl 2 rfl) ?_
  refine lv_iload_n hx hb dX0_becomes_19 rfl (lv_at hl 4 rfl) ?_
  refine lv_iconst (v := 1) hx hb dX0_becomes_20 (by decide) ?_
  refine lv_icmp_ne (tgt := 34) hx hb dX0_becomes_21 (by decide) (fun q => ?_) (fun q => ?_)
  · replace hw := hw.2 q
    refine lv_aload_n hx hb dX0_becomes_34 rfl (lv_at hl 1 rfl) ?_
    refine lv_iload_n hx hb dX0_becomes_35 rfl (lv_at hl 2 rfl) ?_
    obtain ⟨hin1, hw⟩ := hw
    refine cl_S F hB g_l0 g_l0p hin1 dX0_becomes_36 ?_
    refine lv_iconst (v := 1) hx hb dX0_becomes_37 (by decide) ?_
    refine lv_iload_n hx hb dX0_becomes_38 rfl (lv_at hl 3 rfl) ?_
    refine lv_ishl hx hb dX0_becomes_39 ?_
    refine lv_iconst (v := -1) hx hb dX0_becomes_40 (by decide) ?_
    refine lv_ixor hx hb dX0_becomes_41 ?_
    refine lv_iand hx hb dX0_becomes_42 ?_
    exact bX0_becomes_43 F g_l0 g_l0p hB hS hw (lv_sub hl [0] rfl)
  · replace hw := hw.1 q
    refine lv_aload_n hx hb dX0_becomes_24 rfl (lv_at hl 1 rfl) ?_
    refine lv_iload_n hx hb dX0_becomes_25 rfl (lv_at hl 2 rfl) ?_
    obtain ⟨hin2, hw⟩ := hw
    refine cl_S F hB g_l0 g_l0p hin2 dX0_becomes_26 ?_
    refine lv_iconst (v := 1) hx hb dX0_becomes_27 (by decide) ?_
    refine lv_iload_n hx hb dX0_becomes_28 rfl (lv_at hl 3 rfl) ?_
    refine lv_ishl hx hb dX0_becomes_29 ?_
    refine lv_ior hx hb dX0_becomes_30 ?_
    refine lv_goto (tgt := 43) hx hb dX0_becomes_31 (by decide) ?_
    exact bX0_becomes_43 F g_l0 g_l0p hB hS hw (lv_sub hl [0] rfl)
set_option maxHeartbeats 4000000 in
theorem bX0_becomes_0 {p : Program} {l : Launch} {e : Env} {s : State} {m : MethodId} {args : Array Value} {below : List Frame} {meth : Method} {c : Code} {D : DD} {A : Nat → Prop} {s0 : State} {ad : AD} {Q : Int32 → CV → Prop} {a0 : Nat} {a0' : Nat} {a1 : Int32} {a2 : Int32} {a3 : Int32} {V : CV} {H : Heap} {locs : List Loc} {ls : Array Slot} (F : FX p l c cX0_becomes s args m RX0 D A s0 5 meth (some .int)) (hB : cB D A ad V H) (hS : va_S A s.heap H locs) (hw : wX0_becomes a0 a0' a1 a2 a3 V Q) (hl : lv_has ls 5 [(0, .ref (ad 3 a0 a0')), (1, .int a1), (2, .int a2), (3, .int a3)]) : W p l e rX0_becomes s m args below meth c H locs 0 0 (MQ below (va_Qi Q (fun u t => cB D A ad u t.heap) A) args s 0 0 A) (F0 m 0 ls []) := by
  have hx := F.1.x
  have hb := F.1.b
  unfold wX0_becomes at hw
  obtain ⟨g_a0, hw⟩ := hw
  obtain ⟨g_a0p, hw⟩ := hw
  refine lv_aload_n hx hb dX0_becomes_0 rfl (lv_at hl 0 rfl) ?_
  refine lv_iload_n hx hb dX0_becomes_1 rfl (lv_at hl 1 rfl) ?_
  obtain ⟨hin1, hw⟩ := hw
  refine cl_S F hB g_a0 g_a0p hin1 dX0_becomes_2 ?_
  refine lv_iload_n hx hb dX0_becomes_3 rfl (lv_at hl 2 rfl) ?_
  refine kX0_X0_has F.1 hw ⟨Nat.le_of_ble_eq_true rfl, Nat.le_of_ble_eq_true rfl⟩ ⟨Nat.zero_le _, Nat.zero_le _⟩ hl.1 (Nat.le_of_ble_eq_true rfl) dX0_becomes_4 (fun r2 hw => ?_)
  refine lv_if_eq (tgt := 14) hx hb dX0_becomes_7 (by decide) (fun q => ?_) (fun q => ?_)
  · replace hw := hw.1 q
    refine lv_iconst (v := 0) hx hb dX0_becomes_14 (by decide) ?_
    exact bX0_becomes_15 F g_a0 g_a0p hB hS hw hl
  · replace hw := hw.2 q
    refine lv_iconst (v := 1) hx hb dX0_becomes_10 (by decide) ?_
    refine lv_goto (tgt := 15) hx hb dX0_becomes_11 (by decide) ?_
    exact bX0_becomes_15 F g_a0 g_a0p hB hS hw hl
set_option maxHeartbeats 4000000 in
theorem mX0_becomes {l : Launch} {D : DD} {A : Nat → Prop} {s0 : State} {ad : AD} {V : CV} {a0 : Nat} {a0' : Nat} {a1 : Int32} {a2 : Int32} {a3 : Int32} {Q : Int32 → CV → Prop} (hw : wX0_becomes a0 a0' a1 a2 a3 V Q) : Met l yX0_becomes (ws_ yX0_becomes cX0_becomes 5 (some .int)) rX0_becomes (va_Pc [.ref (ad 3 a0 a0'), .int a1, .int a2, .int a3] (fun U => cB D A ad V U.heap ∧ CX l D A s0 U)) (va_Qi Q (fun u t => cB D A ad u t.heap) A) 0 0 A := by
  refine Met.ofW (cc := cX0_becomes) (maxL := 5) (ret := some .int) (by decide) rfl ?_
  intro p e s m args below meth c s₁ B hml hv
  obtain ⟨rfl, hB, hC⟩ := hv
  have F : FX p l c cX0_becomes s _ m RX0 D A s0 5 meth (some .int) := ⟨mk_FP B hml rfl, hC⟩
  have hS : va_S A s.heap s.heap [] := va_S.rf
  have hl := lv_entry ([.ref (ad 3 a0 a0'), .int a1, .int a2, .int a3]) (n := 5) (Nat.le_of_ble_eq_true rfl)
  rw [lg_entry_eq]
  generalize (lg_sl ([.ref (ad 3 a0 a0'), .int a1, .int a2, .int a3]) ++ List.replicate (5 - (lg_sl ([.ref (ad 3 a0 a0'), .int a1, .int a2, .int a3])).length) Slot.unset).toArray = ls at hl ⊢
  exact bX0_becomes_0 F hB hS hw hl
theorem kX0_X0_becomes {p : Program} {l : Launch} {e : Env} {R : Room} {s : State} {m : MethodId} {args : Array Value} {below : List Frame} {meth : Method} {c : Code} {H : Heap} {locs : List Loc} {cells slots : Nat} {Q0 : State → Prop} {cc : ByteArray} {pc nL : Nat} {ls : Array Slot} {rest : List Value} {ret : Option FieldType} {D : DD} {A : Nat → Prop} {s0 : State} {ad : AD} {V : CV} {a0 : Nat} {a0' : Nat} {a1 : Int32} {a2 : Int32} {a3 : Int32} {Q : Int32 → CV → Prop} (F : FX p l c cc s args m RX0 D A s0 nL meth ret) (hB : cB D A ad V H) (hS : va_S A s.heap H locs) (hw : wX0_becomes a0 a0' a1 a2 a3 V Q) (hR : rX0_becomes.frames + 1 ≤ R.frames ∧ 8 + (5 + 11) + rX0_becomes.locals ≤ R.locals) (hc : cells + 0 ≤ R.cells ∧ slots + 0 ≤ R.slots) (hsz : ls.size = nL) (hW : (rest.map fun v => v.category).sum ≤ 8) (hdg : decode cc pc = .ok (.invokestatic 319, 3)) (kk : ∀ (r : Int32) (u : CV) (H1 : Heap) (locs1 : List Loc), Q r u → cB D A ad u H1 → va_S A s.heap H1 locs1 → W p l e R s m args below meth c H1 locs1 cells slots Q0 (F0 m (pc + 3) ls (.int r :: rest))) : W p l e R s m args below meth c H locs cells slots Q0 (F0 m pc ls (.int a3 :: .int a2 :: .int a1 :: .ref (ad 3 a0 a0') :: rest)) :=
  k_i (Bw := cB D A ad) (k_runS (Bw := cB D A ad) (n := 4) (As := [.ref (ad 3 a0 a0'), .int a1, .int a2, .int a3]) F hB hS (mX0_becomes hw) q756 q757 q83 q758 (by decide +kernel) hR ⟨rfl, rfl⟩ hc rfl hsz rfl hW hdg) hS kk
def rX0_away : Room := { frames := 2, cells := 0, slots := 0, locals := 45 }
set_option maxHeartbeats 4000000 in
theorem bX0_away_0 {p : Program} {l : Launch} {e : Env} {s : State} {m : MethodId} {args : Array Value} {below : List Frame} {meth : Method} {c : Code} {D : DD} {A : Nat → Prop} {s0 : State} {ad : AD} {Q : Int32 → CV → Prop} {a1 : Int32} {a2 : Int32} {a3 : Int32} {V : CV} {H : Heap} {locs : List Loc} {ls : Array Slot} (F : FX p l c cX0_away s args m RX0 D A s0 4 meth (some .int)) (hB : cB D A ad V H) (hS : va_S A s.heap H locs) (hw : wX0_away a1 a2 a3 V Q) (hl : lv_has ls 4 [(0, .ref (ad 0 0 0)), (1, .int a1), (2, .int a2), (3, .int a3)]) : W p l e rX0_away s m args below meth c H locs 0 0 (MQ below (va_Qi Q (fun u t => cB D A ad u t.heap) A) args s 0 0 A) (F0 m 0 ls []) := by
  have hx := F.1.x
  have hb := F.1.b
  unfold wX0_away at hw
  refine lv_aload_n hx hb dX0_away_0 rfl (lv_at hl 0 rfl) ?_
  refine lv_iload_n hx hb dX0_away_1 rfl (lv_at hl 1 rfl) ?_
  refine kX0_X0_isPerson F hB hS hw ⟨Nat.le_of_ble_eq_true rfl, Nat.le_of_ble_eq_true rfl⟩ ⟨Nat.zero_le _, Nat.zero_le _⟩ hl.1 (Nat.le_of_ble_eq_true rfl) dX0_away_2 (fun r1 V2 H locs hw hB hS => ?_)
  refine lv_if_eq (tgt := 27) hx hb dX0_away_5 (by decide) (fun q => ?_) (fun q => ?_)
  · replace hw := hw.1 q
    refine lv_ldc hx hb F.1.o (F.1.t _ q392) dX0_away_27 ?_
    exact W.iret hx hb F.1.r (fun t ht hW => ⟨⟨_, _, rfl, hw, x_B (Bw := cB D A ad) ht hB⟩, hS.F ht⟩) hS.2.2 dX0_away_29 (hlocks := F.1.k)
  · replace hw := hw.2 q
    refine lv_iload_n hx hb dX0_away_8 rfl (lv_at hl 2 rfl) ?_
    refine lv_iconst (v := 0) hx hb dX0_away_9 (by decide) ?_
    refine lv_bipush (v := 23) hx hb dX0_away_10 (by decide) ?_
    refine kX0_X0_isIn F.1 hw ⟨Nat.le_of_ble_eq_true rfl, Nat.le_of_ble_eq_true rfl⟩ ⟨Nat.zero_le _, Nat.zero_le _⟩ hl.1 (Nat.le_of_ble_eq_true rfl) dX0_away_12 (fun r3 hw => ?_)
    refine lv_if_eq (tgt := 27) hx hb dX0_away_15 (by decide) (fun q => ?_) (fun q => ?_)
    · replace hw := hw.1 q
      refine lv_ldc hx hb F.1.o (F.1.t _ q392) dX0_away_27 ?_
      exact W.iret hx hb F.1.r (fun t ht hW => ⟨⟨_, _, rfl, hw, x_B (Bw := cB D A ad) ht hB⟩, hS.F ht⟩) hS.2.2 dX0_away_29 (hlocks := F.1.k)
    · replace hw := hw.2 q
      refine lv_iload_n hx hb dX0_away_18 rfl (lv_at hl 3 rfl) ?_
      refine lv_iconst (v := 0) hx hb dX0_away_19 (by decide) ?_
      refine lv_iconst (v := 1) hx hb dX0_away_20 (by decide) ?_
      refine kX0_X0_isIn F.1 hw ⟨Nat.le_of_ble_eq_true rfl, Nat.le_of_ble_eq_true rfl⟩ ⟨Nat.zero_le _, Nat.zero_le _⟩ hl.1 (Nat.le_of_ble_eq_true rfl) dX0_away_21 (fun r4 hw => ?_)
      refine lv_if_ne (tgt := 30) hx hb dX0_away_24 (by decide) (fun q => ?_) (fun q => ?_)
      · replace hw := hw.2 q
        refine lv_aload_n hx hb dX0_away_30 rfl (lv_at hl 0 rfl) ?_
        refine cg_X0_46 F hB dX0_away_31 ?_
        refine cg_X0_269 F hB (by decide) dX0_away_34 ?_
        refine lv_iload_n hx hb dX0_away_37 rfl (lv_at hl 1 rfl) ?_
        refine lv_iload_n hx hb dX0_away_38 rfl (lv_at hl 2 rfl) ?_
        refine lv_iload_n hx hb dX0_away_39 rfl (lv_at hl 3 rfl) ?_
        refine kX0_X0_becomes F hB hS hw ⟨Nat.le_of_ble_eq_true rfl, Nat.le_of_ble_eq_true rfl⟩ ⟨Nat.zero_le _, Nat.zero_le _⟩ hl.1 (Nat.le_of_ble_eq_true rfl) dX0_away_40 (fun r5 V6 H locs hw hB hS => ?_)
        exact W.iret hx hb F.1.r (fun t ht hW => ⟨⟨_, _, rfl, hw, x_B (Bw := cB D A ad) ht hB⟩, hS.F ht⟩) hS.2.2 dX0_away_43 (hlocks := F.1.k)
      · replace hw := hw.1 q
        refine lv_ldc hx hb F.1.o (F.1.t _ q392) dX0_away_27 ?_
        exact W.iret hx hb F.1.r (fun t ht hW => ⟨⟨_, _, rfl, hw, x_B (Bw := cB D A ad) ht hB⟩, hS.F ht⟩) hS.2.2 dX0_away_29 (hlocks := F.1.k)
set_option maxHeartbeats 4000000 in
theorem mX0_away {l : Launch} {D : DD} {A : Nat → Prop} {s0 : State} {ad : AD} {V : CV} {a1 : Int32} {a2 : Int32} {a3 : Int32} {Q : Int32 → CV → Prop} (hw : wX0_away a1 a2 a3 V Q) : Met l yX0_away (ws_ yX0_away cX0_away 4 (some .int)) rX0_away (va_Pc [.ref (ad 0 0 0), .int a1, .int a2, .int a3] (fun U => cB D A ad V U.heap ∧ CX l D A s0 U)) (va_Qi Q (fun u t => cB D A ad u t.heap) A) 0 0 A := by
  refine Met.ofW (cc := cX0_away) (maxL := 4) (ret := some .int) (by decide) rfl ?_
  intro p e s m args below meth c s₁ B hml hv
  obtain ⟨rfl, hB, hC⟩ := hv
  have F : FX p l c cX0_away s _ m RX0 D A s0 4 meth (some .int) := ⟨mk_FP B hml rfl, hC⟩
  have hS : va_S A s.heap s.heap [] := va_S.rf
  have hl := lv_entry ([.ref (ad 0 0 0), .int a1, .int a2, .int a3]) (n := 4) (Nat.le_of_ble_eq_true rfl)
  rw [lg_entry_eq]
  generalize (lg_sl ([.ref (ad 0 0 0), .int a1, .int a2, .int a3]) ++ List.replicate (4 - (lg_sl ([.ref (ad 0 0 0), .int a1, .int a2, .int a3])).length) Slot.unset).toArray = ls at hl ⊢
  exact bX0_away_0 F hB hS hw hl
def rX1_takesSpeaker : Room := { frames := 6, cells := 1, slots := 1, locals := 240 }
set_option maxHeartbeats 4000000 in
theorem bX1_takesSpeaker_35 {p : Program} {l : Launch} {e : Env} {s : State} {m : MethodId} {args : Array Value} {below : List Frame} {meth : Method} {c : Code} {D : DD} {A : Nat → Prop} {s0 : State} {ad : AD} {Q : CV → Prop} {l0 : Nat} {l1 : Int32} {l2 : Nat} {V : CV} {H : Heap} {locs : List Loc} {ls : Array Slot} (F : FX p l c cX1_takesSpeaker s args m RX1 D A s0 3 meth (none)) (g_l0 : l0 < 3) (hB : cB D A ad V H) (hS : va_S A s.heap H locs) (hw : wX1_takesSpeaker_35 l0 l1 l2 V Q) (hl : lv_has ls 3 [(0, .ref (ad 1 l0 0)), (1, .int l1), (2, .ref l2)]) : W p l e rX1_takesSpeaker s m args below meth c H locs 1 1 (MQ below (va_Qv Q (fun u t => cB D A ad u t.heap) A) args s 1 1 A) (F0 m 35 ls []) := by
  have hx := F.1.x
  have hb := F.1.b
  unfold wX1_takesSpeaker_35 at hw
  refine lv_aload_n hx hb dX1_takesSpeaker_35 rfl (lv_at hl 0 rfl) ?_
  refine cg_X1_20 F hB g_l0 dX1_takesSpeaker_36 ?_
  refine lv_iload_n hx hb dX1_takesSpeaker_39 rfl (lv_at hl 1 rfl) ?_
  obtain ⟨hin1, hw⟩ := hw
  refine cl_Sp F hB g_l0 hin1 dX1_takesSpeaker_40 ?_
  refine lv_aload_n hx hb dX1_takesSpeaker_41 rfl (lv_at hl 2 rfl) ?_
  obtain ⟨c2, b3, hk4, hm5, hw⟩ := hw
  refine cg_X1_82 F hB hk4 hm5 dX1_takesSpeaker_42 ?_
  obtain ⟨y6, e7, hw⟩ := hw
  refine W.eq (g2 := F0 m 45 ls [.int b3, .ref y6]) (congrArg (fun z => F0 m 45 ls [.int b3, va_rf z]) e7) ?_
  obtain ⟨c8, b9, hk10, hm11, hw⟩ := hw
  refine cp_X1_82 F hB hS hk10 hm11 dX1_takesSpeaker_45 (fun H locs hB hS => ?_)
  exact W.vret hx hb F.1.r (fun t ht hW => ⟨⟨_, rfl, hw, x_B (Bw := cB D A ad) ht hB⟩, hS.F ht⟩) hS.2.2 dX1_takesSpeaker_48 (hlocks := F.1.k)
set_option maxHeartbeats 4000000 in
theorem bX1_takesSpeaker_25 {p : Program} {l : Launch} {e : Env} {s : State} {m : MethodId} {args : Array Value} {below : List Frame} {meth : Method} {c : Code} {D : DD} {A : Nat → Prop} {s0 : State} {ad : AD} {Q : CV → Prop} {l0 : Nat} {l1 : Int32} {l2 : Nat} {V : CV} {H : Heap} {locs : List Loc} {ls : Array Slot} (F : FX p l c cX1_takesSpeaker s args m RX1 D A s0 3 meth (none)) (g_l0 : l0 < 3) (hB : cB D A ad V H) (hS : va_S A s.heap H locs) (hw : wX1_takesSpeaker_25 l0 l1 l2 V Q) (hl : lv_has ls 3 [(0, .ref (ad 1 l0 0)), (1, .int l1), (2, .ref l2)]) : W p l e rX1_takesSpeaker s m args below meth c H locs 0 0 (MQ below (va_Qv Q (fun u t => cB D A ad u t.heap) A) args s 1 1 A) (F0 m 25 ls []) := by
  have hx := F.1.x
  have hb := F.1.b
  unfold wX1_takesSpeaker_25 at hw
  refine lv_aload_n hx hb dX1_takesSpeaker_25 rfl (lv_at hl 0 rfl) ?_
  refine cg_X1_20 F hB g_l0 dX1_takesSpeaker_26 ?_
  refine lv_iload_n hx hb dX1_takesSpeaker_29 rfl (lv_at hl 1 rfl) ?_
  refine lv_aload_n hx hb dX1_takesSpeaker_30 rfl (lv_at hl 2 rfl) ?_
  refine kX1_Sp_another F hB hS hw ⟨Nat.le_of_ble_eq_true rfl, Nat.le_of_ble_eq_true rfl⟩ ⟨by show _ ≤ 1; omega, by show _ ≤ 1; omega⟩ hl.1 (Nat.le_of_ble_eq_true rfl) dX1_takesSpeaker_31 (fun r1 V2 H locs hw hB hS => ?_)
  obtain ⟨c4, b5, hk6, hm7, hw⟩ := hw
  obtain ⟨hin3, hw⟩ := hw
  refine ct_Sp F hB hS g_l0 hk6 hm7 hin3 dX1_takesSpeaker_34 (fun H locs hB hS => ?_)
  exact bX1_takesSpeaker_35 F g_l0 hB hS hw hl
set_option maxHeartbeats 4000000 in
theorem bX1_takesSpeaker_0 {p : Program} {l : Launch} {e : Env} {s : State} {m : MethodId} {args : Array Value} {below : List Frame} {meth : Method} {c : Code} {D : DD} {A : Nat → Prop} {s0 : State} {ad : AD} {Q : CV → Prop} {a0 : Nat} {a1 : Int32} {a2 : Nat} {V : CV} {H : Heap} {locs : List Loc} {ls : Array Slot} (F : FX p l c cX1_takesSpeaker s args m RX1 D A s0 3 meth (none)) (hB : cB D A ad V H) (hS : va_S A s.heap H locs) (hw : wX1_takesSpeaker a0 a1 a2 V Q) (hl : lv_has ls 3 [(0, .ref (ad 1 a0 0)), (1, .int a1), (2, .ref a2)]) : W p l e rX1_takesSpeaker s m args below meth c H locs 0 0 (MQ below (va_Qv Q (fun u t => cB D A ad u t.heap) A) args s 1 1 A) (F0 m 0 ls []) := by
  have hx := F.1.x
  have hb := F.1.b
  unfold wX1_takesSpeaker at hw
  obtain ⟨g_a0, hw⟩ := hw
  refine lv_aload_n hx hb dX1_takesSpeaker_0 rfl (lv_at hl 0 rfl) ?_
  refine cg_X1_20 F hB g_a0 dX1_takesSpeaker_1 ?_
  refine lv_iload_n hx hb dX1_takesSpeaker_4 rfl (lv_at hl 1 rfl) ?_
  obtain ⟨hin1, hw⟩ := hw
  refine cl_Sp F hB g_a0 hin1 dX1_takesSpeaker_5 ?_
  refine x_ifnull (tgt := 25) hx hb dX1_takesSpeaker_6 (by decide) (fun q => ?_) (fun q => ?_)
  · replace hw := hw.1 q
    exact bX1_takesSpeaker_25 F g_a0 hB hS hw hl
  · replace hw := hw.2 q
    refine lv_aload_n hx hb dX1_takesSpeaker_9 rfl (lv_at hl 0 rfl) ?_
    refine cg_X1_20 F hB g_a0 dX1_takesSpeaker_10 ?_
    refine lv_iload_n hx hb dX1_takesSpeaker_13 rfl (lv_at hl 1 rfl) ?_
    obtain ⟨hin2, hw⟩ := hw
    refine cl_Sp F hB g_a0 hin2 dX1_takesSpeaker_14 ?_
    obtain ⟨y3, e4, hw⟩ := hw
    refine W.eq (g2 := F0 m 15 ls [.ref y3]) (congrArg (fun z => F0 m 15 ls [va_rf z]) e4) ?_
    refine kX1_Sp_kind F hB hS hw ⟨Nat.le_of_ble_eq_true rfl, Nat.le_of_ble_eq_true rfl⟩ ⟨by show _ ≤ 1; omega, by show _ ≤ 1; omega⟩ hl.1 (Nat.le_of_ble_eq_true rfl) dX1_takesSpeaker_15 (fun r5 V6 H locs hw hB hS => ?_)
    refine lv_aload_n hx hb dX1_takesSpeaker_18 rfl (lv_at hl 2 rfl) ?_
    refine kX1_Sp_kind F hB hS hw ⟨Nat.le_of_ble_eq_true rfl, Nat.le_of_ble_eq_true rfl⟩ ⟨by show _ ≤ 1; omega, by show _ ≤ 1; omega⟩ hl.1 (Nat.le_of_ble_eq_true rfl) dX1_takesSpeaker_19 (fun r7 V8 H locs hw hB hS => ?_)
    refine lv_icmp_eq (tgt := 35) hx hb dX1_takesSpeaker_22 (by decide) (fun q => ?_) (fun q => ?_)
    · replace hw := hw.1 q
      refine W.widen (k := 1) (n := 1) (by omega) (by omega) ?_
      exact bX1_takesSpeaker_35 F g_a0 hB hS hw hl
    · replace hw := hw.2 q
      exact bX1_takesSpeaker_25 F g_a0 hB hS hw hl
set_option maxHeartbeats 4000000 in
theorem mX1_takesSpeaker {l : Launch} {D : DD} {A : Nat → Prop} {s0 : State} {ad : AD} {V : CV} {a0 : Nat} {a1 : Int32} {a2 : Nat} {Q : CV → Prop} (hw : wX1_takesSpeaker a0 a1 a2 V Q) : Met l yX1_takesSpeaker (ws_ yX1_takesSpeaker cX1_takesSpeaker 3 (none)) rX1_takesSpeaker (va_Pc [.ref (ad 1 a0 0), .int a1, .ref a2] (fun U => cB D A ad V U.heap ∧ CX l D A s0 U)) (va_Qv Q (fun u t => cB D A ad u t.heap) A) 1 1 A := by
  refine Met.ofW (cc := cX1_takesSpeaker) (maxL := 3) (ret := none) (by decide) rfl ?_
  intro p e s m args below meth c s₁ B hml hv
  obtain ⟨rfl, hB, hC⟩ := hv
  have F : FX p l c cX1_takesSpeaker s _ m RX1 D A s0 3 meth (none) := ⟨mk_FP B hml rfl, hC⟩
  have hS : va_S A s.heap s.heap [] := va_S.rf
  have hl := lv_entry ([.ref (ad 1 a0 0), .int a1, .ref a2]) (n := 3) (Nat.le_of_ble_eq_true rfl)
  rw [lg_entry_eq]
  generalize (lg_sl ([.ref (ad 1 a0 0), .int a1, .ref a2]) ++ List.replicate (3 - (lg_sl ([.ref (ad 1 a0 0), .int a1, .ref a2])).length) Slot.unset).toArray = ls at hl ⊢
  exact bX1_takesSpeaker_0 F hB hS hw hl
theorem kX1_X1_takesSpeaker {p : Program} {l : Launch} {e : Env} {R : Room} {s : State} {m : MethodId} {args : Array Value} {below : List Frame} {meth : Method} {c : Code} {H : Heap} {locs : List Loc} {cells slots : Nat} {Q0 : State → Prop} {cc : ByteArray} {pc nL : Nat} {ls : Array Slot} {rest : List Value} {ret : Option FieldType} {D : DD} {A : Nat → Prop} {s0 : State} {ad : AD} {V : CV} {a0 : Nat} {a1 : Int32} {a2 : Nat} {Q : CV → Prop} (F : FX p l c cc s args m RX1 D A s0 nL meth ret) (hB : cB D A ad V H) (hS : va_S A s.heap H locs) (hw : wX1_takesSpeaker a0 a1 a2 V Q) (hR : rX1_takesSpeaker.frames + 1 ≤ R.frames ∧ 8 + (3 + 11) + rX1_takesSpeaker.locals ≤ R.locals) (hc : cells + 1 ≤ R.cells ∧ slots + 1 ≤ R.slots) (hsz : ls.size = nL) (hW : (rest.map fun v => v.category).sum ≤ 8) (hdg : decode cc pc = .ok (.invokevirtual 50, 3)) (kk : ∀ (u : CV) (H1 : Heap) (locs1 : List Loc), Q u → cB D A ad u H1 → va_S A s.heap H1 locs1 → W p l e R s m args below meth c H1 locs1 (cells + 1) (slots + 1) Q0 (F0 m (pc + 3) ls (rest))) : W p l e R s m args below meth c H locs cells slots Q0 (F0 m pc ls (.ref a2 :: .int a1 :: .ref (ad 1 a0 0) :: rest)) :=
  k_v (Bw := cB D A ad) (k_runV (Bw := cB D A ad) (n := 2) (As := [.int a1, .ref a2]) F hB hS (c_at F (hB.pic (cpic1 hw.1)) rfl) (mX1_takesSpeaker hw) q1187 q1189 qs39 q84 q1190 (by decide +kernel) hR ⟨rfl, rfl⟩ hc rfl hsz rfl hW hdg) hS kk
def rX0_copyRow : Room := { frames := 1, cells := 0, slots := 0, locals := 60 }
set_option maxHeartbeats 4000000 in
theorem bX0_copyRow_0 {p : Program} {l : Launch} {e : Env} {s : State} {m : MethodId} {args : Array Value} {below : List Frame} {meth : Method} {c : Code} {D : DD} {A : Nat → Prop} {s0 : State} {ad : AD} {Q : CV → Prop} {a0 : Nat} {a0' : Nat} {a1 : Nat} {a1' : Nat} {V : CV} {H : Heap} {locs : List Loc} {ls : Array Slot} (F : FX p l c cX0_copyRow s args m RX0 D A s0 2 meth (none)) (hB : cB D A ad V H) (hS : va_S A s.heap H locs) (hw : wX0_copyRow a0 a0' a1 a1' V Q) (hl : lv_has ls 2 [(0, .ref (ad 3 a0 a0')), (1, .ref (ad 3 a1 a1'))]) : W p l e rX0_copyRow s m args below meth c H locs 0 0 (MQ below (va_Qv Q (fun u t => cB D A ad u t.heap) A) args s 0 0 A) (F0 m 0 ls []) := by
  have hx := F.1.x
  have hb := F.1.b
  unfold wX0_copyRow at hw
  obtain ⟨g_a0, hw⟩ := hw
  obtain ⟨g_a0p, hw⟩ := hw
  obtain ⟨g_a1, hw⟩ := hw
  obtain ⟨g_a1p, hw⟩ := hw
  refine lv_aload_n hx hb dX0_copyRow_0 rfl (lv_at hl 0 rfl) ?_
  refine lv_iconst (v := 0) hx hb dX0_copyRow_1 (by decide) ?_
  refine lv_aload_n hx hb dX0_copyRow_2 rfl (lv_at hl 1 rfl) ?_
  refine lv_iconst (v := 0) hx hb dX0_copyRow_3 (by decide) ?_
  refine lv_aload_n hx hb dX0_copyRow_4 rfl (lv_at hl 1 rfl) ?_
  refine cn_S F hB g_a1 g_a1p dX0_copyRow_5 ?_
  refine cy_S F hB hS hl.1 q674 g_a0 g_a0p g_a1 g_a1p (Nat.le_of_ble_eq_true rfl) (Nat.le_of_ble_eq_true rfl) dX0_copyRow_6 (fun H locs hB hS => ?_)
  exact W.vret hx hb F.1.r (fun t ht hW => ⟨⟨_, rfl, hw, x_B (Bw := cB D A ad) ht hB⟩, hS.F ht⟩) hS.2.2 dX0_copyRow_9 (hlocks := F.1.k)
set_option maxHeartbeats 4000000 in
theorem mX0_copyRow {l : Launch} {D : DD} {A : Nat → Prop} {s0 : State} {ad : AD} {V : CV} {a0 : Nat} {a0' : Nat} {a1 : Nat} {a1' : Nat} {Q : CV → Prop} (hw : wX0_copyRow a0 a0' a1 a1' V Q) : Met l yX0_copyRow (ws_ yX0_copyRow cX0_copyRow 2 (none)) rX0_copyRow (va_Pc [.ref (ad 3 a0 a0'), .ref (ad 3 a1 a1')] (fun U => cB D A ad V U.heap ∧ CX l D A s0 U)) (va_Qv Q (fun u t => cB D A ad u t.heap) A) 0 0 A := by
  refine Met.ofW (cc := cX0_copyRow) (maxL := 2) (ret := none) (by decide) rfl ?_
  intro p e s m args below meth c s₁ B hml hv
  obtain ⟨rfl, hB, hC⟩ := hv
  have F : FX p l c cX0_copyRow s _ m RX0 D A s0 2 meth (none) := ⟨mk_FP B hml rfl, hC⟩
  have hS : va_S A s.heap s.heap [] := va_S.rf
  have hl := lv_entry ([.ref (ad 3 a0 a0'), .ref (ad 3 a1 a1')]) (n := 2) (Nat.le_of_ble_eq_true rfl)
  rw [lg_entry_eq]
  generalize (lg_sl ([.ref (ad 3 a0 a0'), .ref (ad 3 a1 a1')]) ++ List.replicate (2 - (lg_sl ([.ref (ad 3 a0 a0'), .ref (ad 3 a1 a1')])).length) Slot.unset).toArray = ls at hl ⊢
  exact bX0_copyRow_0 F hB hS hw hl
theorem kX1_X0_copyRow {p : Program} {l : Launch} {e : Env} {R : Room} {s : State} {m : MethodId} {args : Array Value} {below : List Frame} {meth : Method} {c : Code} {H : Heap} {locs : List Loc} {cells slots : Nat} {Q0 : State → Prop} {cc : ByteArray} {pc nL : Nat} {ls : Array Slot} {rest : List Value} {ret : Option FieldType} {D : DD} {A : Nat → Prop} {s0 : State} {ad : AD} {V : CV} {a0 : Nat} {a0' : Nat} {a1 : Nat} {a1' : Nat} {Q : CV → Prop} (F : FX p l c cc s args m RX1 D A s0 nL meth ret) (hB : cB D A ad V H) (hS : va_S A s.heap H locs) (hw : wX0_copyRow a0 a0' a1 a1' V Q) (hR : rX0_copyRow.frames + 1 ≤ R.frames ∧ 8 + (2 + 11) + rX0_copyRow.locals ≤ R.locals) (hc : cells + 0 ≤ R.cells ∧ slots + 0 ≤ R.slots) (hsz : ls.size = nL) (hW : (rest.map fun v => v.category).sum ≤ 8) (hdg : decode cc pc = .ok (.invokestatic 54, 3)) (kk : ∀ (u : CV) (H1 : Heap) (locs1 : List Loc), Q u → cB D A ad u H1 → va_S A s.heap H1 locs1 → W p l e R s m args below meth c H1 locs1 cells slots Q0 (F0 m (pc + 3) ls (rest))) : W p l e R s m args below meth c H locs cells slots Q0 (F0 m pc ls (.ref (ad 3 a1 a1') :: .ref (ad 3 a0 a0') :: rest)) :=
  k_v (Bw := cB D A ad) (k_runSN (Bw := cB D A ad) (n := 2) (As := [.ref (ad 3 a0 a0'), .ref (ad 3 a1 a1')]) F hB hS (mX0_copyRow hw) q1193 q1194 q83 q1195 (by decide +kernel) hR ⟨rfl, rfl⟩ hc rfl hsz rfl hW hdg) hS kk
def rX2_copyOf : Room := { frames := 0, cells := 0, slots := 0, locals := 0 }
set_option maxHeartbeats 4000000 in
theorem bX2_copyOf_0 {p : Program} {l : Launch} {e : Env} {s : State} {m : MethodId} {args : Array Value} {below : List Frame} {meth : Method} {c : Code} {D : DD} {A : Nat → Prop} {s0 : State} {ad : AD} {Q : CV → Prop} {a0 : Nat} {a0' : Nat} {a1 : Nat} {a1' : Nat} {V : CV} {H : Heap} {locs : List Loc} {ls : Array Slot} (F : FX p l c cX2_copyOf s args m RX2 D A s0 2 meth (none)) (hB : cB D A ad V H) (hS : va_S A s.heap H locs) (hw : wX2_copyOf a0 a0' a1 a1' V Q) (hl : lv_has ls 2 [(0, .ref (ad 4 a0 a0')), (1, .ref (ad 4 a1 a1'))]) : W p l e rX2_copyOf s m args below meth c H locs 0 0 (MQ below (va_Qv Q (fun u t => cB D A ad u t.heap) A) args s 0 0 A) (F0 m 0 ls []) := by
  have hx := F.1.x
  have hb := F.1.b
  unfold wX2_copyOf at hw
  obtain ⟨g_a0, hw⟩ := hw
  obtain ⟨g_a0p, hw⟩ := hw
  obtain ⟨g_a1, hw⟩ := hw
  obtain ⟨g_a1p, hw⟩ := hw
  refine lv_aload_n hx hb dX2_copyOf_0 rfl (lv_at hl 0 rfl) ?_
  refine lv_aload_n hx hb dX2_copyOf_1 rfl (lv_at hl 1 rfl) ?_
  refine cg_X2_7 F hB g_a1 g_a1p dX2_copyOf_2 ?_
  refine cp_X2_7 F hB hS g_a0 g_a0p dX2_copyOf_5 (fun H locs hB hS => ?_)
  refine lv_aload_n hx hb dX2_copyOf_8 rfl (lv_at hl 0 rfl) ?_
  refine lv_aload_n hx hb dX2_copyOf_9 rfl (lv_at hl 1 rfl) ?_
  refine cg_X2_13 F hB g_a1 g_a1p dX2_copyOf_10 ?_
  refine cp_X2_13 F hB hS g_a0 g_a0p dX2_copyOf_13 (fun H locs hB hS => ?_)
  refine lv_aload_n hx hb dX2_copyOf_16 rfl (lv_at hl 0 rfl) ?_
  refine lv_aload_n hx hb dX2_copyOf_17 rfl (lv_at hl 1 rfl) ?_
  refine cg_X2_16 F hB g_a1 g_a1p dX2_copyOf_18 ?_
  refine cp_X2_16 F hB hS g_a0 g_a0p dX2_copyOf_21 (fun H locs hB hS => ?_)
  refine lv_aload_n hx hb dX2_copyOf_24 rfl (lv_at hl 0 rfl) ?_
  refine lv_aload_n hx hb dX2_copyOf_25 rfl (lv_at hl 1 rfl) ?_
  refine cg_X2_19 F hB g_a1 g_a1p dX2_copyOf_26 ?_
  refine cp_X2_19 F hB hS g_a0 g_a0p dX2_copyOf_29 (fun H locs hB hS => ?_)
  refine lv_aload_n hx hb dX2_copyOf_32 rfl (lv_at hl 0 rfl) ?_
  refine lv_aload_n hx hb dX2_copyOf_33 rfl (lv_at hl 1 rfl) ?_
  refine cg_X2_22 F hB g_a1 g_a1p dX2_copyOf_34 ?_
  refine cp_X2_22 F hB hS g_a0 g_a0p dX2_copyOf_37 (fun H locs hB hS => ?_)
  refine lv_aload_n hx hb dX2_copyOf_40 rfl (lv_at hl 0 rfl) ?_
  refine lv_aload_n hx hb dX2_copyOf_41 rfl (lv_at hl 1 rfl) ?_
  refine cg_X2_25 F hB g_a1 g_a1p dX2_copyOf_42 ?_
  refine cp_X2_25 F hB hS g_a0 g_a0p dX2_copyOf_45 (fun H locs hB hS => ?_)
  exact W.vret hx hb F.1.r (fun t ht hW => ⟨⟨_, rfl, hw, x_B (Bw := cB D A ad) ht hB⟩, hS.F ht⟩) hS.2.2 dX2_copyOf_48 (hlocks := F.1.k)
set_option maxHeartbeats 4000000 in
theorem mX2_copyOf {l : Launch} {D : DD} {A : Nat → Prop} {s0 : State} {ad : AD} {V : CV} {a0 : Nat} {a0' : Nat} {a1 : Nat} {a1' : Nat} {Q : CV → Prop} (hw : wX2_copyOf a0 a0' a1 a1' V Q) : Met l yX2_copyOf (ws_ yX2_copyOf cX2_copyOf 2 (none)) rX2_copyOf (va_Pc [.ref (ad 4 a0 a0'), .ref (ad 4 a1 a1')] (fun U => cB D A ad V U.heap ∧ CX l D A s0 U)) (va_Qv Q (fun u t => cB D A ad u t.heap) A) 0 0 A := by
  refine Met.ofW (cc := cX2_copyOf) (maxL := 2) (ret := none) (by decide) rfl ?_
  intro p e s m args below meth c s₁ B hml hv
  obtain ⟨rfl, hB, hC⟩ := hv
  have F : FX p l c cX2_copyOf s _ m RX2 D A s0 2 meth (none) := ⟨mk_FP B hml rfl, hC⟩
  have hS : va_S A s.heap s.heap [] := va_S.rf
  have hl := lv_entry ([.ref (ad 4 a0 a0'), .ref (ad 4 a1 a1')]) (n := 2) (Nat.le_of_ble_eq_true rfl)
  rw [lg_entry_eq]
  generalize (lg_sl ([.ref (ad 4 a0 a0'), .ref (ad 4 a1 a1')]) ++ List.replicate (2 - (lg_sl ([.ref (ad 4 a0 a0'), .ref (ad 4 a1 a1')])).length) Slot.unset).toArray = ls at hl ⊢
  exact bX2_copyOf_0 F hB hS hw hl
theorem kX1_X2_copyOf {p : Program} {l : Launch} {e : Env} {R : Room} {s : State} {m : MethodId} {args : Array Value} {below : List Frame} {meth : Method} {c : Code} {H : Heap} {locs : List Loc} {cells slots : Nat} {Q0 : State → Prop} {cc : ByteArray} {pc nL : Nat} {ls : Array Slot} {rest : List Value} {ret : Option FieldType} {D : DD} {A : Nat → Prop} {s0 : State} {ad : AD} {V : CV} {a0 : Nat} {a0' : Nat} {a1 : Nat} {a1' : Nat} {Q : CV → Prop} (F : FX p l c cc s args m RX1 D A s0 nL meth ret) (hB : cB D A ad V H) (hS : va_S A s.heap H locs) (hw : wX2_copyOf a0 a0' a1 a1' V Q) (hR : rX2_copyOf.frames + 1 ≤ R.frames ∧ 8 + (2 + 11) + rX2_copyOf.locals ≤ R.locals) (hc : cells + 0 ≤ R.cells ∧ slots + 0 ≤ R.slots) (hsz : ls.size = nL) (hW : (rest.map fun v => v.category).sum ≤ 8) (hdg : decode cc pc = .ok (.invokevirtual 61, 3)) (kk : ∀ (u : CV) (H1 : Heap) (locs1 : List Loc), Q u → cB D A ad u H1 → va_S A s.heap H1 locs1 → W p l e R s m args below meth c H1 locs1 cells slots Q0 (F0 m (pc + 3) ls (rest))) : W p l e R s m args below meth c H locs cells slots Q0 (F0 m pc ls (.ref (ad 4 a1 a1') :: .ref (ad 4 a0 a0') :: rest)) :=
  k_v (Bw := cB D A ad) (k_runV (Bw := cB D A ad) (n := 1) (As := [.ref (ad 4 a1 a1')]) F hB hS (c_at F (hB.pic (cpic4 hw.1 hw.2.1)) rfl) (mX2_copyOf hw) q1196 q1197 q1198 q85 q1199 (by decide +kernel) hR ⟨rfl, rfl⟩ hc rfl hsz rfl hW hdg) hS kk
def rX1_copyOf : Room := { frames := 7, cells := 13, slots := 13, locals := 262 }
set_option maxHeartbeats 4000000 in
theorem bX1_copyOf_94 {p : Program} {l : Launch} {e : Env} {s : State} {m : MethodId} {args : Array Value} {below : List Frame} {meth : Method} {c : Code} {D : DD} {A : Nat → Prop} {s0 : State} {ad : AD} {Q : CV → Prop} (F : FX p l c cX1_copyOf s args m RX1 D A s0 3 meth (none)) : ∀ (n : Nat) (l0 : Nat) (l1 : Nat) (l2 : Int32) (V : CV), l0 < 3 → l1 < 3 → wX1_copyOf_94 Q n l0 l1 l2 V → ∀ (H : Heap) (locs : List Loc) (ls : Array Slot), cB D A ad V H → va_S A s.heap H locs → lv_has ls 3 [(0, .ref (ad 1 l0 0)), (1, .ref (ad 1 l1 0)), (2, .int l2)] → W p l e rX1_copyOf s m args below meth c H locs 13 13 (MQ below (va_Qv Q (fun u t => cB D A ad u t.heap) A) args s 13 13 A) (F0 m 94 ls []) := by
  have hx := F.1.x
  have hb := F.1.b
  intro n
  induction n with
  | zero => intro l0 l1 l2 V g_l0 g_l1 hw; exact hw.elim
  | succ n ih =>
    intro l0 l1 l2 V g_l0 g_l1 hw H locs ls hB hS hl
    unfold wX1_copyOf_94 at hw
    refine lv_iload_n hx hb dX1_copyOf_94 rfl (lv_at hl 2 rfl) ?_
    refine lv_aload_n hx hb dX1_copyOf_95 rfl (lv_at hl 0 rfl) ?_
    refine cg_X1_58 F hB g_l0 dX1_copyOf_96 ?_
    refine lv_icmp_ge (tgt := 123) hx hb dX1_copyOf_99 (by decide) (fun q => ?_) (fun q => ?_)
    · replace hw := hw.1 q
      refine lv_aload_n hx hb dX1_copyOf_123 rfl (lv_at hl 0 rfl) ?_
      refine lv_aload_n hx hb dX1_copyOf_124 rfl (lv_at hl 1 rfl) ?_
      refine cg_X1_65 F hB g_l1 dX1_copyOf_125 ?_
      refine cp_X1_65 F hB hS g_l0 dX1_copyOf_128 (fun H locs hB hS => ?_)
      refine lv_aload_n hx hb dX1_copyOf_131 rfl (lv_at hl 1 rfl) ?_
      refine cg_X1_42 F hB g_l1 dX1_copyOf_132 ?_
      refine lv_iconst (v := 0) hx hb dX1_copyOf_135 (by decide) ?_
      refine lv_aload_n hx hb dX1_copyOf_136 rfl (lv_at hl 0 rfl) ?_
      refine cg_X1_42 F hB g_l0 dX1_copyOf_137 ?_
      refine lv_iconst (v := 0) hx hb dX1_copyOf_140 (by decide) ?_
      refine lv_bipush (v := 14) hx hb dX1_copyOf_141 (by decide) ?_
      obtain ⟨ht1, hw⟩ := hw
      refine cy_Tx F hB hS hl.1 q1200 g_l1 g_l0 ht1 (Nat.le_of_ble_eq_true rfl) (Nat.le_of_ble_eq_true rfl) dX1_copyOf_143 (fun H locs hB hS => ?_)
      exact W.vret hx hb F.1.r (fun t ht hW => ⟨⟨_, rfl, hw, x_B (Bw := cB D A ad) ht hB⟩, hS.F ht⟩) hS.2.2 dX1_copyOf_146 (hlocks := F.1.k)
    · replace hw := hw.2 q
      refine lv_aload_n hx hb dX1_copyOf_102 rfl (lv_at hl 0 rfl) ?_
      refine cg_X1_36 F hB g_l0 dX1_copyOf_103 ?_
      refine lv_iload_n hx hb dX1_copyOf_106 rfl (lv_at hl 2 rfl) ?_
      obtain ⟨hin2, hw⟩ := hw
      refine cl_De F hB g_l0 hin2 dX1_copyOf_107 ?_
      refine lv_aload_n hx hb dX1_copyOf_108 rfl (lv_at hl 1 rfl) ?_
      refine cg_X1_36 F hB g_l1 dX1_copyOf_109 ?_
      refine lv_iload_n hx hb dX1_copyOf_112 rfl (lv_at hl 2 rfl) ?_
      obtain ⟨hin3, hw⟩ := hw
      refine cl_De F hB g_l1 hin3 dX1_copyOf_113 ?_
      refine kX1_X2_copyOf F hB hS hw ⟨Nat.le_of_ble_eq_true rfl, Nat.le_of_ble_eq_true rfl⟩ ⟨by show _ ≤ 13; omega, by show _ ≤ 13; omega⟩ hl.1 (Nat.le_of_ble_eq_true rfl) dX1_copyOf_114 (fun V5 H locs hw hB hS => ?_)
      refine lv_iinc (v := l2 + (1 : Int32)) (lv' := [(2, .int (l2 + (1 : Int32))), (0, .ref (ad 1 l0 0)), (1, .ref (ad 1 l1 0))]) hx hb dX1_copyOf_117 hl (k := 2) rfl (x_inc (by decide)) (by decide) rfl (fun ls hl => ?_)
      refine lv_goto (tgt := 94) hx hb dX1_copyOf_120 (by decide) ?_
      exact ih _ _ _ _ g_l0 g_l1 hw _ _ _ hB hS (lv_sub hl [1, 2, 0] rfl)
set_option maxHeartbeats 4000000 in
theorem bX1_copyOf_26 {p : Program} {l : Launch} {e : Env} {s : State} {m : MethodId} {args : Array Value} {below : List Frame} {meth : Method} {c : Code} {D : DD} {A : Nat → Prop} {s0 : State} {ad : AD} {Q : CV → Prop} (F : FX p l c cX1_copyOf s args m RX1 D A s0 3 meth (none)) : ∀ (n : Nat) (l0 : Nat) (l1 : Nat) (l2 : Int32) (V : CV), ∀ (ce sl : Nat), ce + n * 1 ≤ 13 → sl + n * 1 ≤ 13 → l0 < 3 → l1 < 3 → wX1_copyOf_26 Q n l0 l1 l2 V → ∀ (H : Heap) (locs : List Loc) (ls : Array Slot), cB D A ad V H → va_S A s.heap H locs → lv_has ls 3 [(0, .ref (ad 1 l0 0)), (1, .ref (ad 1 l1 0)), (2, .int l2)] → W p l e rX1_copyOf s m args below meth c H locs ce sl (MQ below (va_Qv Q (fun u t => cB D A ad u t.heap) A) args s 13 13 A) (F0 m 26 ls []) := by
  have hx := F.1.x
  have hb := F.1.b
  intro n
  induction n with
  | zero => intro l0 l1 l2 V ce sl hce hsl g_l0 g_l1 hw; exact hw.elim
  | succ n ih =>
    intro l0 l1 l2 V ce sl hce hsl g_l0 g_l1 hw H locs ls hB hS hl
    unfold wX1_copyOf_26 at hw
    refine lv_iload_n hx hb dX1_copyOf_26 rfl (lv_at hl 2 rfl) ?_
    refine lv_aload_n hx hb dX1_copyOf_27 rfl (lv_at hl 0 rfl) ?_
    refine cg_X1_47 F hB g_l0 dX1_copyOf_28 ?_
    refine lv_icmp_ge (tgt := 51) hx hb dX1_copyOf_31 (by decide) (fun q => ?_) (fun q => ?_)
    · replace hw := hw.1 q
      refine lv_aload_n hx hb dX1_copyOf_51 rfl (lv_at hl 1 rfl) ?_
      refine cg_X1_24 F hB g_l1 dX1_copyOf_52 ?_
      refine lv_aload_n hx hb dX1_copyOf_55 rfl (lv_at hl 0 rfl) ?_
      refine cg_X1_24 F hB g_l0 dX1_copyOf_56 ?_
      refine kX1_X0_copyRow F hB hS hw ⟨Nat.le_of_ble_eq_true rfl, Nat.le_of_ble_eq_true rfl⟩ ⟨by show _ ≤ 13; omega, by show _ ≤ 13; omega⟩ hl.1 (Nat.le_of_ble_eq_true rfl) dX1_copyOf_59 (fun V2 H locs hw hB hS => ?_)
      refine lv_aload_n hx hb dX1_copyOf_62 rfl (lv_at hl 1 rfl) ?_
      refine cg_X1_28 F hB g_l1 dX1_copyOf_63 ?_
      refine lv_aload_n hx hb dX1_copyOf_66 rfl (lv_at hl 0 rfl) ?_
      refine cg_X1_28 F hB g_l0 dX1_copyOf_67 ?_
      refine kX1_X0_copyRow F hB hS hw ⟨Nat.le_of_ble_eq_true rfl, Nat.le_of_ble_eq_true rfl⟩ ⟨by show _ ≤ 13; omega, by show _ ≤ 13; omega⟩ hl.1 (Nat.le_of_ble_eq_true rfl) dX1_copyOf_70 (fun V4 H locs hw hB hS => ?_)
      refine lv_aload_n hx hb dX1_copyOf_73 rfl (lv_at hl 1 rfl) ?_
      refine cg_X1_31 F hB g_l1 dX1_copyOf_74 ?_
      refine lv_aload_n hx hb dX1_copyOf_77 rfl (lv_at hl 0 rfl) ?_
      refine cg_X1_31 F hB g_l0 dX1_copyOf_78 ?_
      refine kX1_X0_copyRow F hB hS hw ⟨Nat.le_of_ble_eq_true rfl, Nat.le_of_ble_eq_true rfl⟩ ⟨by show _ ≤ 13; omega, by show _ ≤ 13; omega⟩ hl.1 (Nat.le_of_ble_eq_true rfl) dX1_copyOf_81 (fun V6 H locs hw hB hS => ?_)
      refine lv_aload_n hx hb dX1_copyOf_84 rfl (lv_at hl 0 rfl) ?_
      refine lv_aload_n hx hb dX1_copyOf_85 rfl (lv_at hl 1 rfl) ?_
      refine cg_X1_58 F hB g_l1 dX1_copyOf_86 ?_
      refine cp_X1_58 F hB hS g_l0 dX1_copyOf_89 (fun H locs hB hS => ?_)
      refine lv_iconst (v := 0) hx hb dX1_copyOf_92 (by decide) ?_
      refine lv_istore_n (lv' := [(2, .int (0 : Int32)), (0, .ref (ad 1 l0 0)), (1, .ref (ad 1 l1 0))]) hx hb dX1_copyOf_93 rfl hl (by decide) rfl (fun ls hl => ?_)
      refine W.widen (k := 13) (n := 13) (by omega) (by omega) ?_
      obtain ⟨f_94, hw⟩ := hw
      exact bX1_copyOf_94 F f_94 _ _ _ _ g_l0 g_l1 hw _ _ _ hB hS (lv_sub hl [1, 2, 0] rfl)
    · replace hw := hw.2 q
      refine lv_aload_n hx hb dX1_copyOf_34 rfl (lv_at hl 0 rfl) ?_
      refine lv_iload_n hx hb dX1_copyOf_35 rfl (lv_at hl 2 rfl) ?_
      refine lv_aload_n hx hb dX1_copyOf_36 rfl (lv_at hl 1 rfl) ?_
      refine cg_X1_20 F hB g_l1 dX1_copyOf_37 ?_
      refine lv_iload_n hx hb dX1_copyOf_40 rfl (lv_at hl 2 rfl) ?_
      obtain ⟨hin7, hw⟩ := hw
      refine cl_Sp F hB g_l1 hin7 dX1_copyOf_41 ?_
      obtain ⟨y8, e9, hw⟩ := hw
      refine W.eq (g2 := F0 m 42 ls [.ref y8, .int l2, .ref (ad 1 l0 0)]) (congrArg (fun z => F0 m 42 ls [va_rf z, .int l2, .ref (ad 1 l0 0)]) e9) ?_
      refine kX1_X1_takesSpeaker F hB hS hw ⟨Nat.le_of_ble_eq_true rfl, Nat.le_of_ble_eq_true rfl⟩ ⟨by show _ ≤ 13; omega, by show _ ≤ 13; omega⟩ hl.1 (Nat.le_of_ble_eq_true rfl) dX1_copyOf_42 (fun V11 H locs hw hB hS => ?_)
      refine lv_iinc (v := l2 + (1 : Int32)) (lv' := [(2, .int (l2 + (1 : Int32))), (0, .ref (ad 1 l0 0)), (1, .ref (ad 1 l1 0))]) hx hb dX1_copyOf_45 hl (k := 2) rfl (x_inc (by decide)) (by decide) rfl (fun ls hl => ?_)
      refine lv_goto (tgt := 26) hx hb dX1_copyOf_48 (by decide) ?_
      exact ih _ _ _ _ _ _ (by omega) (by omega) g_l0 g_l1 hw _ _ _ hB hS (lv_sub hl [1, 2, 0] rfl)
set_option maxHeartbeats 4000000 in
theorem bX1_copyOf_0 {p : Program} {l : Launch} {e : Env} {s : State} {m : MethodId} {args : Array Value} {below : List Frame} {meth : Method} {c : Code} {D : DD} {A : Nat → Prop} {s0 : State} {ad : AD} {Q : CV → Prop} {a0 : Nat} {a1 : Nat} {V : CV} {H : Heap} {locs : List Loc} {ls : Array Slot} (F : FX p l c cX1_copyOf s args m RX1 D A s0 3 meth (none)) (hB : cB D A ad V H) (hS : va_S A s.heap H locs) (hw : wX1_copyOf a0 a1 V Q) (hl : lv_has ls 3 [(0, .ref (ad 1 a0 0)), (1, .ref (ad 1 a1 0))]) : W p l e rX1_copyOf s m args below meth c H locs 0 0 (MQ below (va_Qv Q (fun u t => cB D A ad u t.heap) A) args s 13 13 A) (F0 m 0 ls []) := by
  have hx := F.1.x
  have hb := F.1.b
  unfold wX1_copyOf at hw
  obtain ⟨g_a0, hw⟩ := hw
  obtain ⟨g_a1, hw⟩ := hw
  refine lv_aload_n hx hb dX1_copyOf_0 rfl (lv_at hl 0 rfl) ?_
  refine lv_aload_n hx hb dX1_copyOf_1 rfl (lv_at hl 1 rfl) ?_
  refine cg_X1_9 F hB g_a1 dX1_copyOf_2 ?_
  refine cp_X1_9 F hB hS g_a0 dX1_copyOf_5 (fun H locs hB hS => ?_)
  refine lv_aload_n hx hb dX1_copyOf_8 rfl (lv_at hl 0 rfl) ?_
  refine lv_aload_n hx hb dX1_copyOf_9 rfl (lv_at hl 1 rfl) ?_
  refine cg_X1_15 F hB g_a1 dX1_copyOf_10 ?_
  refine cp_X1_15 F hB hS g_a0 dX1_copyOf_13 (fun H locs hB hS => ?_)
  refine lv_aload_n hx hb dX1_copyOf_16 rfl (lv_at hl 0 rfl) ?_
  refine lv_aload_n hx hb dX1_copyOf_17 rfl (lv_at hl 1 rfl) ?_
  refine cg_X1_47 F hB g_a1 dX1_copyOf_18 ?_
  refine cp_X1_47 F hB hS g_a0 dX1_copyOf_21 (fun H locs hB hS => ?_)
  refine lv_iconst (v := 0) hx hb dX1_copyOf_24 (by decide) ?_
  refine lv_istore_n (lv' := [(2, .int (0 : Int32)), (0, .ref (ad 1 a0 0)), (1, .ref (ad 1 a1 0))]) hx hb dX1_copyOf_25 rfl hl (by decide) rfl (fun ls hl => ?_)
  skip
  exact bX1_copyOf_26 F 13 _ _ _ _ _ _ (by omega) (by omega) g_a0 g_a1 hw _ _ _ hB hS (lv_sub hl [1, 2, 0] rfl)
set_option maxHeartbeats 4000000 in
theorem mX1_copyOf {l : Launch} {D : DD} {A : Nat → Prop} {s0 : State} {ad : AD} {V : CV} {a0 : Nat} {a1 : Nat} {Q : CV → Prop} (hw : wX1_copyOf a0 a1 V Q) : Met l yX1_copyOf (ws_ yX1_copyOf cX1_copyOf 3 (none)) rX1_copyOf (va_Pc [.ref (ad 1 a0 0), .ref (ad 1 a1 0)] (fun U => cB D A ad V U.heap ∧ CX l D A s0 U)) (va_Qv Q (fun u t => cB D A ad u t.heap) A) 13 13 A := by
  refine Met.ofW (cc := cX1_copyOf) (maxL := 3) (ret := none) (by decide) rfl ?_
  intro p e s m args below meth c s₁ B hml hv
  obtain ⟨rfl, hB, hC⟩ := hv
  have F : FX p l c cX1_copyOf s _ m RX1 D A s0 3 meth (none) := ⟨mk_FP B hml rfl, hC⟩
  have hS : va_S A s.heap s.heap [] := va_S.rf
  have hl := lv_entry ([.ref (ad 1 a0 0), .ref (ad 1 a1 0)]) (n := 3) (Nat.le_of_ble_eq_true rfl)
  rw [lg_entry_eq]
  generalize (lg_sl ([.ref (ad 1 a0 0), .ref (ad 1 a1 0)]) ++ List.replicate (3 - (lg_sl ([.ref (ad 1 a0 0), .ref (ad 1 a1 0)])).length) Slot.unset).toArray = ls at hl ⊢
  exact bX1_copyOf_0 F hB hS hw hl
theorem kX0_X1_copyOf {p : Program} {l : Launch} {e : Env} {R : Room} {s : State} {m : MethodId} {args : Array Value} {below : List Frame} {meth : Method} {c : Code} {H : Heap} {locs : List Loc} {cells slots : Nat} {Q0 : State → Prop} {cc : ByteArray} {pc nL : Nat} {ls : Array Slot} {rest : List Value} {ret : Option FieldType} {D : DD} {A : Nat → Prop} {s0 : State} {ad : AD} {V : CV} {a0 : Nat} {a1 : Nat} {Q : CV → Prop} (F : FX p l c cc s args m RX0 D A s0 nL meth ret) (hB : cB D A ad V H) (hS : va_S A s.heap H locs) (hw : wX1_copyOf a0 a1 V Q) (hR : rX1_copyOf.frames + 1 ≤ R.frames ∧ 8 + (3 + 11) + rX1_copyOf.locals ≤ R.locals) (hc : cells + 13 ≤ R.cells ∧ slots + 13 ≤ R.slots) (hsz : ls.size = nL) (hW : (rest.map fun v => v.category).sum ≤ 8) (hdg : decode cc pc = .ok (.invokevirtual 515, 3)) (kk : ∀ (u : CV) (H1 : Heap) (locs1 : List Loc), Q u → cB D A ad u H1 → va_S A s.heap H1 locs1 → W p l e R s m args below meth c H1 locs1 (cells + 13) (slots + 13) Q0 (F0 m (pc + 3) ls (rest))) : W p l e R s m args below meth c H locs cells slots Q0 (F0 m pc ls (.ref (ad 1 a1 0) :: .ref (ad 1 a0 0) :: rest)) :=
  k_v (Bw := cB D A ad) (k_runV (Bw := cB D A ad) (n := 1) (As := [.ref (ad 1 a1 0)]) F hB hS (c_at F (hB.pic (cpic1 hw.1)) rfl) (mX1_copyOf hw) q1183 q1184 q1185 q84 q1186 (by decide +kernel) hR ⟨rfl, rfl⟩ hc rfl hsz rfl hW hdg) hS kk
def rX0_back : Room := { frames := 8, cells := 13, slots := 13, locals := 284 }
set_option maxHeartbeats 4000000 in
theorem bX0_back_0 {p : Program} {l : Launch} {e : Env} {s : State} {m : MethodId} {args : Array Value} {below : List Frame} {meth : Method} {c : Code} {D : DD} {A : Nat → Prop} {s0 : State} {ad : AD} {Q : Int32 → CV → Prop} {V : CV} {H : Heap} {locs : List Loc} {ls : Array Slot} (F : FX p l c cX0_back s args m RX0 D A s0 1 meth (some .int)) (hB : cB D A ad V H) (hS : va_S A s.heap H locs) (hw : wX0_back V Q) (hl : lv_has ls 1 [(0, .ref (ad 0 0 0))]) : W p l e rX0_back s m args below meth c H locs 0 0 (MQ below (va_Qi Q (fun u t => cB D A ad u t.heap) A) args s 13 13 A) (F0 m 0 ls []) := by
  have hx := F.1.x
  have hb := F.1.b
  unfold wX0_back at hw
  refine lv_aload_n hx hb dX0_back_0 rfl (lv_at hl 0 rfl) ?_
  refine cg_X0_519 F hB dX0_back_1 ?_
  refine lv_if_ne (tgt := 11) hx hb dX0_back_4 (by decide) (fun q => ?_) (fun q => ?_)
  · replace hw := hw.2 q
    refine lv_aload_n hx hb dX0_back_11 rfl (lv_at hl 0 rfl) ?_
    refine cg_X0_46 F hB dX0_back_12 ?_
    refine lv_aload_n hx hb dX0_back_15 rfl (lv_at hl 0 rfl) ?_
    refine cg_X0_50 F hB dX0_back_16 ?_
    refine kX0_X1_copyOf F hB hS hw ⟨Nat.le_of_ble_eq_true rfl, Nat.le_of_ble_eq_true rfl⟩ ⟨by show _ ≤ 13; omega, by show _ ≤ 13; omega⟩ hl.1 (Nat.le_of_ble_eq_true rfl) dX0_back_19 (fun V2 H locs hw hB hS => ?_)
    refine lv_aload_n hx hb dX0_back_22 rfl (lv_at hl 0 rfl) ?_
    refine cg_X0_46 F hB dX0_back_23 ?_
    refine cg_X0_101 F hB (by decide) dX0_back_26 ?_
    exact W.iret hx hb F.1.r (fun t ht hW => ⟨⟨_, _, rfl, hw, x_B (Bw := cB D A ad) ht hB⟩, hS.F ht⟩) hS.2.2 dX0_back_29 (hlocks := F.1.k)
  · replace hw := hw.1 q
    refine lv_ldcw hx hb F.1.o (F.1.t _ q860) dX0_back_7 ?_
    refine W.widen (k := 13) (n := 13) (by omega) (by omega) ?_
    exact W.iret hx hb F.1.r (fun t ht hW => ⟨⟨_, _, rfl, hw, x_B (Bw := cB D A ad) ht hB⟩, hS.F ht⟩) hS.2.2 dX0_back_10 (hlocks := F.1.k)
set_option maxHeartbeats 4000000 in
theorem mX0_back {l : Launch} {D : DD} {A : Nat → Prop} {s0 : State} {ad : AD} {V : CV}  {Q : Int32 → CV → Prop} (hw : wX0_back V Q) : Met l yX0_back (ws_ yX0_back cX0_back 1 (some .int)) rX0_back (va_Pc [.ref (ad 0 0 0)] (fun U => cB D A ad V U.heap ∧ CX l D A s0 U)) (va_Qi Q (fun u t => cB D A ad u t.heap) A) 13 13 A := by
  refine Met.ofW (cc := cX0_back) (maxL := 1) (ret := some .int) (by decide) rfl ?_
  intro p e s m args below meth c s₁ B hml hv
  obtain ⟨rfl, hB, hC⟩ := hv
  have F : FX p l c cX0_back s _ m RX0 D A s0 1 meth (some .int) := ⟨mk_FP B hml rfl, hC⟩
  have hS : va_S A s.heap s.heap [] := va_S.rf
  have hl := lv_entry ([.ref (ad 0 0 0)]) (n := 1) (Nat.le_of_ble_eq_true rfl)
  rw [lg_entry_eq]
  generalize (lg_sl ([.ref (ad 0 0 0)]) ++ List.replicate (1 - (lg_sl ([.ref (ad 0 0 0)])).length) Slot.unset).toArray = ls at hl ⊢
  exact bX0_back_0 F hB hS hw hl
def rX0_counts : Room := { frames := 0, cells := 0, slots := 0, locals := 0 }
set_option maxHeartbeats 4000000 in
theorem bX0_counts_36 {p : Program} {l : Launch} {e : Env} {s : State} {m : MethodId} {args : Array Value} {below : List Frame} {meth : Method} {c : Code} {D : DD} {A : Nat → Prop} {s0 : State} {ad : AD} {Q : Int32 → CV → Prop} {k_4 : Int32 → Int32 → Int32 → CV → Prop} {l1 : Int32} {l3 : Int32} {k0 : Int32} {V : CV} {H : Heap} {locs : List Loc} {ls : Array Slot} (F : FX p l c cX0_counts s args m RX0 D A s0 4 meth (some .int)) (h_4 : ∀ (l1 : Int32) (l2 : Int32) (l3 : Int32) (V : CV), k_4 l1 l2 l3 V → ∀ (H : Heap) (locs : List Loc) (ls : Array Slot), cB D A ad V H → va_S A s.heap H locs → lv_has ls 4 [(0, .ref (ad 0 0 0)), (1, .int l1), (2, .int l2), (3, .int l3)] → W p l e rX0_counts s m args below meth c H locs 0 0 (MQ below (va_Qi Q (fun u t => cB D A ad u t.heap) A) args s 0 0 A) (F0 m 4 ls [])) (hB : cB D A ad V H) (hS : va_S A s.heap H locs) (hw : wX0_counts_36 k_4 l1 l3 k0 V Q) (hl : lv_has ls 4 [(0, .ref (ad 0 0 0)), (1, .int l1), (3, .int l3)]) : W p l e rX0_counts s m args below meth c H locs 0 0 (MQ below (va_Qi Q (fun u t => cB D A ad u t.heap) A) args s 0 0 A) (F0 m 36 ls [.int k0]) := by
  have hx := F.1.x
  have hb := F.1.b
  unfold wX0_counts_36 at hw
  refine lv_istore_n (lv' := [(2, .int k0), (0, .ref (ad 0 0 0)), (1, .int l1), (3, .int l3)]) hx hb dX0_counts_36 rfl hl (by decide) rfl (fun ls hl => ?_)
  refine lv_iinc (v := l3 + (1 : Int32)) (lv' := [(3, .int (l3 + (1 : Int32))), (2, .int k0), (0, .ref (ad 0 0 0)), (1, .int l1)]) hx hb dX0_counts_37 hl (k := 3) rfl (x_inc (by decide)) (by decide) rfl (fun ls hl => ?_)
  refine lv_goto (tgt := 4) hx hb dX0_counts_40 (by decide) ?_
  exact h_4 _ _ _ _ hw _ _ _ hB hS (lv_sub hl [2, 3, 1, 0] rfl)
set_option maxHeartbeats 4000000 in
theorem bX0_counts_4 {p : Program} {l : Launch} {e : Env} {s : State} {m : MethodId} {args : Array Value} {below : List Frame} {meth : Method} {c : Code} {D : DD} {A : Nat → Prop} {s0 : State} {ad : AD} {Q : Int32 → CV → Prop} (F : FX p l c cX0_counts s args m RX0 D A s0 4 meth (some .int)) : ∀ (n : Nat) (l1 : Int32) (l2 : Int32) (l3 : Int32) (V : CV), wX0_counts_4 Q n l1 l2 l3 V → ∀ (H : Heap) (locs : List Loc) (ls : Array Slot), cB D A ad V H → va_S A s.heap H locs → lv_has ls 4 [(0, .ref (ad 0 0 0)), (1, .int l1), (2, .int l2), (3, .int l3)] → W p l e rX0_counts s m args below meth c H locs 0 0 (MQ below (va_Qi Q (fun u t => cB D A ad u t.heap) A) args s 0 0 A) (F0 m 4 ls []) := by
  have hx := F.1.x
  have hb := F.1.b
  intro n
  induction n with
  | zero => intro l1 l2 l3 V hw; exact hw.elim
  | succ n ih =>
    intro l1 l2 l3 V hw H locs ls hB hS hl
    unfold wX0_counts_4 at hw
    refine lv_iload_n hx hb dX0_counts_4 rfl (lv_at hl 3 rfl) ?_
    refine lv_aload_n hx hb dX0_counts_5 rfl (lv_at hl 0 rfl) ?_
    refine cg_X0_46 F hB dX0_counts_6 ?_
    refine cg_X0_242 F hB (by decide) dX0_counts_9 ?_
    refine lv_icmp_ge (tgt := 43) hx hb dX0_counts_12 (by decide) (fun q => ?_) (fun q => ?_)
    · replace hw := hw.1 q
      refine lv_iload_n hx hb dX0_counts_43 rfl (lv_at hl 2 rfl) ?_
      exact W.iret hx hb F.1.r (fun t ht hW => ⟨⟨_, _, rfl, hw, x_B (Bw := cB D A ad) ht hB⟩, hS.F ht⟩) hS.2.2 dX0_counts_44 (hlocks := F.1.k)
    · replace hw := hw.2 q
      refine lv_aload_n hx hb dX0_counts_15 rfl (lv_at hl 0 rfl) ?_
      refine cg_X0_46 F hB dX0_counts_16 ?_
      refine cg_X0_245 F hB (by decide) dX0_counts_19 ?_
      refine lv_iload_n hx hb dX0_counts_22 rfl (lv_at hl 3 rfl) ?_
      obtain ⟨hin1, hw⟩ := hw
      refine cl_Tx F hB (by decide) hin1 dX0_counts_23 ?_
      obtain ⟨y2, e3, hw⟩ := hw
      refine W.eq (g2 := F0 m 24 ls [.ref y2]) (congrArg (fun z => F0 m 24 ls [va_rf z]) e3) ?_
      obtain ⟨f4, f5, f6, hm7, hw⟩ := hw
      refine cg_X0_249 F hB hm7 dX0_counts_24 ?_
      refine lv_iload_n hx hb dX0_counts_27 rfl (lv_at hl 1 rfl) ?_
      refine lv_icmp_ne (tgt := 35) hx hb dX0_counts_28 (by decide) (fun q => ?_) (fun q => ?_)
      · replace hw := hw.2 q
        refine lv_iload_n hx hb dX0_counts_35 rfl (lv_at hl 2 rfl) ?_
        exact bX0_counts_36 F ih hB hS hw (lv_sub hl [0, 1, 3] rfl)
      · replace hw := hw.1 q
        refine lv_iload_n hx hb dX0_counts_31 rfl (lv_at hl 3 rfl) ?_
        refine lv_goto (tgt := 36) hx hb dX0_counts_32 (by decide) ?_
        exact bX0_counts_36 F ih hB hS hw (lv_sub hl [0, 1, 3] rfl)
set_option maxHeartbeats 4000000 in
theorem bX0_counts_0 {p : Program} {l : Launch} {e : Env} {s : State} {m : MethodId} {args : Array Value} {below : List Frame} {meth : Method} {c : Code} {D : DD} {A : Nat → Prop} {s0 : State} {ad : AD} {Q : Int32 → CV → Prop} {a1 : Int32} {V : CV} {H : Heap} {locs : List Loc} {ls : Array Slot} (F : FX p l c cX0_counts s args m RX0 D A s0 4 meth (some .int)) (hB : cB D A ad V H) (hS : va_S A s.heap H locs) (hw : wX0_counts a1 V Q) (hl : lv_has ls 4 [(0, .ref (ad 0 0 0)), (1, .int a1)]) : W p l e rX0_counts s m args below meth c H locs 0 0 (MQ below (va_Qi Q (fun u t => cB D A ad u t.heap) A) args s 0 0 A) (F0 m 0 ls []) := by
  have hx := F.1.x
  have hb := F.1.b
  unfold wX0_counts at hw
  refine lv_iconst (v := -1) hx hb dX0_counts_0 (by decide) ?_
  refine lv_istore_n (lv' := [(2, .int (-1 : Int32)), (0, .ref (ad 0 0 0)), (1, .int a1)]) hx hb dX0_counts_1 rfl hl (by decide) rfl (fun ls hl => ?_)
  refine lv_iconst (v := 0) hx hb dX0_counts_2 (by decide) ?_
  refine lv_istore_n (lv' := [(3, .int (0 : Int32)), (2, .int (-1 : Int32)), (0, .ref (ad 0 0 0)), (1, .int a1)]) hx hb dX0_counts_3 rfl hl (by decide) rfl (fun ls hl => ?_)
  obtain ⟨f_4, hw⟩ := hw
  exact bX0_counts_4 F f_4 _ _ _ _ hw _ _ _ hB hS (lv_sub hl [2, 3, 1, 0] rfl)
set_option maxHeartbeats 4000000 in
theorem mX0_counts {l : Launch} {D : DD} {A : Nat → Prop} {s0 : State} {ad : AD} {V : CV} {a1 : Int32} {Q : Int32 → CV → Prop} (hw : wX0_counts a1 V Q) : Met l yX0_counts (ws_ yX0_counts cX0_counts 4 (some .int)) rX0_counts (va_Pc [.ref (ad 0 0 0), .int a1] (fun U => cB D A ad V U.heap ∧ CX l D A s0 U)) (va_Qi Q (fun u t => cB D A ad u t.heap) A) 0 0 A := by
  refine Met.ofW (cc := cX0_counts) (maxL := 4) (ret := some .int) (by decide) rfl ?_
  intro p e s m args below meth c s₁ B hml hv
  obtain ⟨rfl, hB, hC⟩ := hv
  have F : FX p l c cX0_counts s _ m RX0 D A s0 4 meth (some .int) := ⟨mk_FP B hml rfl, hC⟩
  have hS : va_S A s.heap s.heap [] := va_S.rf
  have hl := lv_entry ([.ref (ad 0 0 0), .int a1]) (n := 4) (Nat.le_of_ble_eq_true rfl)
  rw [lg_entry_eq]
  generalize (lg_sl ([.ref (ad 0 0 0), .int a1]) ++ List.replicate (4 - (lg_sl ([.ref (ad 0 0 0), .int a1])).length) Slot.unset).toArray = ls at hl ⊢
  exact bX0_counts_0 F hB hS hw hl
theorem kX0_X0_counts {p : Program} {l : Launch} {e : Env} {R : Room} {s : State} {m : MethodId} {args : Array Value} {below : List Frame} {meth : Method} {c : Code} {H : Heap} {locs : List Loc} {cells slots : Nat} {Q0 : State → Prop} {cc : ByteArray} {pc nL : Nat} {ls : Array Slot} {rest : List Value} {ret : Option FieldType} {D : DD} {A : Nat → Prop} {s0 : State} {ad : AD} {V : CV} {a1 : Int32} {Q : Int32 → CV → Prop} (F : FX p l c cc s args m RX0 D A s0 nL meth ret) (hB : cB D A ad V H) (hS : va_S A s.heap H locs) (hw : wX0_counts a1 V Q) (hR : rX0_counts.frames + 1 ≤ R.frames ∧ 8 + (4 + 11) + rX0_counts.locals ≤ R.locals) (hc : cells + 0 ≤ R.cells ∧ slots + 0 ≤ R.slots) (hsz : ls.size = nL) (hW : (rest.map fun v => v.category).sum ≤ 8) (hdg : decode cc pc = .ok (.invokevirtual 252, 3)) (kk : ∀ (r : Int32) (u : CV) (H1 : Heap) (locs1 : List Loc), Q r u → cB D A ad u H1 → va_S A s.heap H1 locs1 → W p l e R s m args below meth c H1 locs1 cells slots Q0 (F0 m (pc + 3) ls (.int r :: rest))) : W p l e R s m args below meth c H locs cells slots Q0 (F0 m pc ls (.int a1 :: .ref (ad 0 0 0) :: rest)) :=
  k_i (Bw := cB D A ad) (k_runV (Bw := cB D A ad) (n := 1) (As := [.int a1]) F hB hS (c_at F (hB.pic cpic0) rfl) (mX0_counts hw) q564 q566 qs17 q83 q567 (by decide +kernel) hR ⟨rfl, rfl⟩ hc rfl hsz rfl hW hdg) hS kk
def rX0_both : Room := { frames := 0, cells := 0, slots := 0, locals := 0 }
set_option maxHeartbeats 4000000 in
theorem bX0_both_0 {p : Program} {l : Launch} {e : Env} {s : State} {m : MethodId} {args : Array Value} {below : List Frame} {meth : Method} {c : Code} {Q : Int32 → Prop} {a0 : Int32} {a1 : Int32} {a2 : Int32} {ls : Array Slot} (F : FP p c cX0_both s args m RX0 3 meth (some .int)) (hw : wX0_both a0 a1 a2 Q) (hl : lv_has ls 3 [(0, .int a0), (1, .int a1), (2, .int a2)]) : W p l e rX0_both s m args below meth c s.heap [] 0 0 (MQ below (vp_Si Q) args s 0 0 (fun _ => False)) (F0 m 0 ls []) := by
  have hx := F.x
  have hb := F.b
  unfold wX0_both at hw
  refine lv_iload_n hx hb dX0_both_0 rfl (lv_at hl 0 rfl) ?_
  by_cases q4 : a0 = 4
  · replace hw := hw.1 q4
    refine lv_tableIn (off := 51) (tgt := 52) hx hb dX0_both_1 (by rw [q4]; decide) (by rw [q4]; decide) (by rw [q4]; rfl) (by decide) ?_
    refine lv_iload_n hx hb dX0_both_52 rfl (lv_at hl 1 rfl) ?_
    refine lv_iload_n hx hb dX0_both_53 rfl (lv_at hl 2 rfl) ?_
    refine lv_imul hx hb dX0_both_54 ?_
    exact W.iret hx hb F.r (fun t ht hW => ⟨_, rfl, hw, ht⟩) (fun _ h => absurd h List.not_mem_nil) dX0_both_55 (hlocks := F.k)
  replace hw := hw.2 q4
  by_cases q5 : a0 = 5
  · replace hw := hw.1 q5
    refine lv_tableIn (off := 67) (tgt := 68) hx hb dX0_both_1 (by rw [q5]; decide) (by rw [q5]; decide) (by rw [q5]; rfl) (by decide) ?_
    refine lv_iload_n hx hb dX0_both_68 rfl (lv_at hl 1 rfl) ?_
    refine lv_iload_n hx hb dX0_both_69 rfl (lv_at hl 2 rfl) ?_
    refine lv_iadd hx hb dX0_both_70 ?_
    exact W.iret hx hb F.r (fun t ht hW => ⟨_, rfl, hw, ht⟩) (fun _ h => absurd h List.not_mem_nil) dX0_both_71 (hlocks := F.k)
  replace hw := hw.2 q5
  by_cases q6 : a0 = 6
  · replace hw := hw.1 q6
    refine lv_tableIn (off := 71) (tgt := 72) hx hb dX0_both_1 (by rw [q6]; decide) (by rw [q6]; decide) (by rw [q6]; rfl) (by decide) ?_
    refine lv_iload_n hx hb dX0_both_72 rfl (lv_at hl 1 rfl) ?_
    refine lv_iload_n hx hb dX0_both_73 rfl (lv_at hl 2 rfl) ?_
    refine lv_isub hx hb dX0_both_74 ?_
    exact W.iret hx hb F.r (fun t ht hW => ⟨_, rfl, hw, ht⟩) (fun _ h => absurd h List.not_mem_nil) dX0_both_75 (hlocks := F.k)
  replace hw := hw.2 q6
  by_cases q7 : a0 = 7
  · replace hw := hw.1 q7
    refine lv_tableIn (off := 75) (tgt := 76) hx hb dX0_both_1 (by rw [q7]; decide) (by rw [q7]; decide) (by rw [q7]; rfl) (by decide) ?_
    refine lv_iload_n hx hb dX0_both_76 rfl (lv_at hl 1 rfl) ?_
    refine lv_iload_n hx hb dX0_both_77 rfl (lv_at hl 2 rfl) ?_
    refine lv_icmp_ge (tgt := 85) hx hb dX0_both_78 (by decide) (fun q => ?_) (fun q => ?_)
    · replace hw := hw.1 q
      refine lv_iconst (v := 0) hx hb dX0_both_85 (by decide) ?_
      exact W.iret hx hb F.r (fun t ht hW => ⟨_, rfl, hw, ht⟩) (fun _ h => absurd h List.not_mem_nil) dX0_both_86 (hlocks := F.k)
    · replace hw := hw.2 q
      refine lv_iconst (v := 1) hx hb dX0_both_81 (by decide) ?_
      refine lv_goto (tgt := 86) hx hb dX0_both_82 (by decide) ?_
      exact W.iret hx hb F.r (fun t ht hW => ⟨_, rfl, hw, ht⟩) (fun _ h => absurd h List.not_mem_nil) dX0_both_86 (hlocks := F.k)
  replace hw := hw.2 q7
  by_cases q8 : a0 = 8
  · replace hw := hw.1 q8
    refine lv_tableIn (off := 86) (tgt := 87) hx hb dX0_both_1 (by rw [q8]; decide) (by rw [q8]; decide) (by rw [q8]; rfl) (by decide) ?_
    refine lv_iload_n hx hb dX0_both_87 rfl (lv_at hl 1 rfl) ?_
    refine lv_iload_n hx hb dX0_both_88 rfl (lv_at hl 2 rfl) ?_
    refine lv_icmp_ne (tgt := 96) hx hb dX0_both_89 (by decide) (fun q => ?_) (fun q => ?_)
    · replace hw := hw.2 q
      refine lv_iconst (v := 0) hx hb dX0_both_96 (by decide) ?_
      exact W.iret hx hb F.r (fun t ht hW => ⟨_, rfl, hw, ht⟩) (fun _ h => absurd h List.not_mem_nil) dX0_both_97 (hlocks := F.k)
    · replace hw := hw.1 q
      refine lv_iconst (v := 1) hx hb dX0_both_92 (by decide) ?_
      refine lv_goto (tgt := 97) hx hb dX0_both_93 (by decide) ?_
      exact W.iret hx hb F.r (fun t ht hW => ⟨_, rfl, hw, ht⟩) (fun _ h => absurd h List.not_mem_nil) dX0_both_97 (hlocks := F.k)
  replace hw := hw.2 q8
  by_cases q9 : a0 = 9
  · replace hw := hw.1 q9
    refine lv_tableIn (off := 97) (tgt := 98) hx hb dX0_both_1 (by rw [q9]; decide) (by rw [q9]; decide) (by rw [q9]; rfl) (by decide) ?_
    refine lv_iload_n hx hb dX0_both_98 rfl (lv_at hl 1 rfl) ?_
    refine lv_iload_n hx hb dX0_both_99 rfl (lv_at hl 2 rfl) ?_
    refine lv_icmp_le (tgt := 107) hx hb dX0_both_100 (by decide) (fun q => ?_) (fun q => ?_)
    · replace hw := hw.1 q
      refine lv_iconst (v := 0) hx hb dX0_both_107 (by decide) ?_
      exact W.iret hx hb F.r (fun t ht hW => ⟨_, rfl, hw, ht⟩) (fun _ h => absurd h List.not_mem_nil) dX0_both_108 (hlocks := F.k)
    · replace hw := hw.2 q
      refine lv_iconst (v := 1) hx hb dX0_both_103 (by decide) ?_
      refine lv_goto (tgt := 108) hx hb dX0_both_104 (by decide) ?_
      exact W.iret hx hb F.r (fun t ht hW => ⟨_, rfl, hw, ht⟩) (fun _ h => absurd h List.not_mem_nil) dX0_both_108 (hlocks := F.k)
  replace hw := hw.2 q9
  by_cases q10 : a0 = 10
  · replace hw := hw.1 q10
    refine lv_tableIn (off := 108) (tgt := 109) hx hb dX0_both_1 (by rw [q10]; decide) (by rw [q10]; decide) (by rw [q10]; rfl) (by decide) ?_
    refine lv_iload_n hx hb dX0_both_109 rfl (lv_at hl 1 rfl) ?_
    refine lv_if_eq (tgt := 121) hx hb dX0_both_110 (by decide) (fun q => ?_) (fun q => ?_)
    · replace hw := hw.1 q
      refine lv_iconst (v := 0) hx hb dX0_both_121 (by decide) ?_
      exact W.iret hx hb F.r (fun t ht hW => ⟨_, rfl, hw, ht⟩) (fun _ h => absurd h List.not_mem_nil) dX0_both_122 (hlocks := F.k)
    · replace hw := hw.2 q
      refine lv_iload_n hx hb dX0_both_113 rfl (lv_at hl 2 rfl) ?_
      refine lv_if_eq (tgt := 121) hx hb dX0_both_114 (by decide) (fun q => ?_) (fun q => ?_)
      · replace hw := hw.1 q
        refine lv_iconst (v := 0) hx hb dX0_both_121 (by decide) ?_
        exact W.iret hx hb F.r (fun t ht hW => ⟨_, rfl, hw, ht⟩) (fun _ h => absurd h List.not_mem_nil) dX0_both_122 (hlocks := F.k)
      · replace hw := hw.2 q
        refine lv_iconst (v := 1) hx hb dX0_both_117 (by decide) ?_
        refine lv_goto (tgt := 122) hx hb dX0_both_118 (by decide) ?_
        exact W.iret hx hb F.r (fun t ht hW => ⟨_, rfl, hw, ht⟩) (fun _ h => absurd h List.not_mem_nil) dX0_both_122 (hlocks := F.k)
  replace hw := hw.2 q10
  by_cases q11 : a0 = 11
  · replace hw := hw.1 q11
    refine lv_tableIn (off := 122) (tgt := 123) hx hb dX0_both_1 (by rw [q11]; decide) (by rw [q11]; decide) (by rw [q11]; rfl) (by decide) ?_
    refine lv_iload_n hx hb dX0_both_123 rfl (lv_at hl 1 rfl) ?_
    refine lv_if_ne (tgt := 131) hx hb dX0_both_124 (by decide) (fun q => ?_) (fun q => ?_)
    · replace hw := hw.2 q
      refine lv_iconst (v := 1) hx hb dX0_both_131 (by decide) ?_
      refine lv_goto (tgt := 136) hx hb dX0_both_132 (by decide) ?_
      exact W.iret hx hb F.r (fun t ht hW => ⟨_, rfl, hw, ht⟩) (fun _ h => absurd h List.not_mem_nil) dX0_both_136 (hlocks := F.k)
    · replace hw := hw.1 q
      refine lv_iload_n hx hb dX0_both_127 rfl (lv_at hl 2 rfl) ?_
      refine lv_if_eq (tgt := 135) hx hb dX0_both_128 (by decide) (fun q => ?_) (fun q => ?_)
      · replace hw := hw.1 q
        refine lv_iconst (v := 0) hx hb dX0_both_135 (by decide) ?_
        exact W.iret hx hb F.r (fun t ht hW => ⟨_, rfl, hw, ht⟩) (fun _ h => absurd h List.not_mem_nil) dX0_both_136 (hlocks := F.k)
      · replace hw := hw.2 q
        refine lv_iconst (v := 1) hx hb dX0_both_131 (by decide) ?_
        refine lv_goto (tgt := 136) hx hb dX0_both_132 (by decide) ?_
        exact W.iret hx hb F.r (fun t ht hW => ⟨_, rfl, hw, ht⟩) (fun _ h => absurd h List.not_mem_nil) dX0_both_136 (hlocks := F.k)
  replace hw := hw.2 q11
  by_cases q12 : a0 = 12
  · replace hw := hw.1 q12
    refine lv_tableIn (off := 55) (tgt := 56) hx hb dX0_both_1 (by rw [q12]; decide) (by rw [q12]; decide) (by rw [q12]; rfl) (by decide) ?_
    refine lv_iload_n hx hb dX0_both_56 rfl (lv_at hl 2 rfl) ?_
    refine lv_if_ne (tgt := 64) hx hb dX0_both_57 (by decide) (fun q => ?_) (fun q => ?_)
    · replace hw := hw.2 q
      refine lv_iload_n hx hb dX0_both_64 rfl (lv_at hl 1 rfl) ?_
      refine lv_iload_n hx hb dX0_both_65 rfl (lv_at hl 2 rfl) ?_
      obtain ⟨hne, hw⟩ := hw
      refine lv_idiv hx hb dX0_both_66 hne ?_
      exact W.iret hx hb F.r (fun t ht hW => ⟨_, rfl, hw, ht⟩) (fun _ h => absurd h List.not_mem_nil) dX0_both_67 (hlocks := F.k)
    · replace hw := hw.1 q
      refine lv_iconst (v := 0) hx hb dX0_both_60 (by decide) ?_
      refine lv_goto (tgt := 67) hx hb dX0_both_61 (by decide) ?_
      exact W.iret hx hb F.r (fun t ht hW => ⟨_, rfl, hw, ht⟩) (fun _ h => absurd h List.not_mem_nil) dX0_both_67 (hlocks := F.k)
  replace hw := hw.2 q12
  refine lv_tableOut (tgt := 123) hx hb dX0_both_1 (by have n4 := x_ne q4 (a := 4) (by decide); have n5 := x_ne q5 (a := 5) (by decide); have n6 := x_ne q6 (a := 6) (by decide); have n7 := x_ne q7 (a := 7) (by decide); have n8 := x_ne q8 (a := 8) (by decide); have n9 := x_ne q9 (a := 9) (by decide); have n10 := x_ne q10 (a := 10) (by decide); have n11 := x_ne q11 (a := 11) (by decide); have n12 := x_ne q12 (a := 12) (by decide); omega) (by decide) ?_
  refine lv_iload_n hx hb dX0_both_123 rfl (lv_at hl 1 rfl) ?_
  refine lv_if_ne (tgt := 131) hx hb dX0_both_124 (by decide) (fun q => ?_) (fun q => ?_)
  · replace hw := hw.2 q
    refine lv_iconst (v := 1) hx hb dX0_both_131 (by decide) ?_
    refine lv_goto (tgt := 136) hx hb dX0_both_132 (by decide) ?_
    exact W.iret hx hb F.r (fun t ht hW => ⟨_, rfl, hw, ht⟩) (fun _ h => absurd h List.not_mem_nil) dX0_both_136 (hlocks := F.k)
  · replace hw := hw.1 q
    refine lv_iload_n hx hb dX0_both_127 rfl (lv_at hl 2 rfl) ?_
    refine lv_if_eq (tgt := 135) hx hb dX0_both_128 (by decide) (fun q => ?_) (fun q => ?_)
    · replace hw := hw.1 q
      refine lv_iconst (v := 0) hx hb dX0_both_135 (by decide) ?_
      exact W.iret hx hb F.r (fun t ht hW => ⟨_, rfl, hw, ht⟩) (fun _ h => absurd h List.not_mem_nil) dX0_both_136 (hlocks := F.k)
    · replace hw := hw.2 q
      refine lv_iconst (v := 1) hx hb dX0_both_131 (by decide) ?_
      refine lv_goto (tgt := 136) hx hb dX0_both_132 (by decide) ?_
      exact W.iret hx hb F.r (fun t ht hW => ⟨_, rfl, hw, ht⟩) (fun _ h => absurd h List.not_mem_nil) dX0_both_136 (hlocks := F.k)
set_option maxHeartbeats 4000000 in
theorem mX0_both {l : Launch}  {a0 : Int32} {a1 : Int32} {a2 : Int32} {Q : Int32 → Prop} (hw : wX0_both a0 a1 a2 Q) : Met l yX0_both (ws_ yX0_both cX0_both 3 (some .int)) rX0_both (va_Pc [.int a0, .int a1, .int a2] (fun _ => True)) (vp_Si Q) 0 0 (fun _ => False) := by
  refine Met.ofW (cc := cX0_both) (maxL := 3) (ret := some .int) (by decide) rfl ?_
  intro p e s m args below meth c s₁ B hml hv
  obtain ⟨rfl, -⟩ := hv
  have F : FP p c cX0_both s _ m RX0 3 meth (some .int) := mk_FP B hml rfl
  have hl := lv_entry ([.int a0, .int a1, .int a2]) (n := 3) (Nat.le_of_ble_eq_true rfl)
  rw [lg_entry_eq]
  generalize (lg_sl ([.int a0, .int a1, .int a2]) ++ List.replicate (3 - (lg_sl ([.int a0, .int a1, .int a2])).length) Slot.unset).toArray = ls at hl ⊢
  exact bX0_both_0 F hw hl
theorem kX0_X0_both {p : Program} {l : Launch} {e : Env} {R : Room} {s : State} {m : MethodId} {args : Array Value} {below : List Frame} {meth : Method} {c : Code} {H : Heap} {locs : List Loc} {cells slots : Nat} {Q0 : State → Prop} {cc : ByteArray} {pc nL : Nat} {ls : Array Slot} {rest : List Value} {ret : Option FieldType} {a0 : Int32} {a1 : Int32} {a2 : Int32} {Q : Int32 → Prop} (F : FP p c cc s args m RX0 nL meth ret) (hw : wX0_both a0 a1 a2 Q) (hR : rX0_both.frames + 1 ≤ R.frames ∧ 8 + (3 + 11) + rX0_both.locals ≤ R.locals) (hc : cells ≤ R.cells ∧ slots ≤ R.slots) (hsz : ls.size = nL) (hW : (rest.map fun v => v.category).sum ≤ 8) (hdg : decode cc pc = .ok (.invokestatic 123, 3)) (kk : ∀ r : Int32, Q r → W p l e R s m args below meth c H locs cells slots Q0 (F0 m (pc + 3) ls (.int r :: rest))) : W p l e R s m args below meth c H locs cells slots Q0 (F0 m pc ls (.int a2 :: .int a1 :: .int a0 :: rest)) :=
  k_csi (k_runP (n := 3) (As := [.int a0, .int a1, .int a2]) F (mX0_both hw) q827 q828 q83 q829 (by decide +kernel) hR ⟨rfl, rfl⟩ hc rfl hsz rfl hW hdg) kk
def rX0_reckon : Room := { frames := 1, cells := 0, slots := 0, locals := 22 }
set_option maxHeartbeats 4000000 in
theorem bX0_reckon_133 {p : Program} {l : Launch} {e : Env} {s : State} {m : MethodId} {args : Array Value} {below : List Frame} {meth : Method} {c : Code} {D : DD} {A : Nat → Prop} {s0 : State} {ad : AD} {Q : Int32 → CV → Prop} {k_4 : Nat → Int32 → Int32 → CV → Prop} {l1 : Nat} {l2 : Int32} {l3 : Int32} {V : CV} {H : Heap} {locs : List Loc} {ls : Array Slot} (F : FX p l c cX0_reckon s args m RX0 D A s0 5 meth (some .int)) (h_4 : ∀ (l1 : Nat) (l2 : Int32) (l3 : Int32) (V : CV), k_4 l1 l2 l3 V → ∀ (H : Heap) (locs : List Loc) (ls : Array Slot), cB D A ad V H → va_S A s.heap H locs → lv_has ls 5 [(0, .ref (ad 0 0 0)), (1, .ref l1), (2, .int l2), (3, .int l3)] → W p l e rX0_reckon s m args below meth c H locs 0 0 (MQ below (va_Qi Q (fun u t => cB D A ad u t.heap) A) args s 0 0 A) (F0 m 4 ls [])) (hB : cB D A ad V H) (hS : va_S A s.heap H locs) (hw : wX0_reckon_133 k_4 l1 l2 l3 V Q) (hl : lv_has ls 5 [(0, .ref (ad 0 0 0)), (1, .ref l1), (2, .int l2), (3, .int l3)]) : W p l e rX0_reckon s m args below meth c H locs 0 0 (MQ below (va_Qi Q (fun u t => cB D A ad u t.heap) A) args s 0 0 A) (F0 m 133 ls []) := by
  have hx := F.1.x
  have hb := F.1.b
  unfold wX0_reckon_133 at hw
  refine lv_iinc (v := l3 + (1 : Int32)) (lv' := [(3, .int (l3 + (1 : Int32))), (0, .ref (ad 0 0 0)), (1, .ref l1), (2, .int l2)]) hx hb dX0_reckon_133 hl (k := 3) rfl (x_inc (by decide)) (by decide) rfl (fun ls hl => ?_)
  refine lv_goto (tgt := 4) hx hb dX0_reckon_136 (by decide) ?_
  exact h_4 _ _ _ _ hw _ _ _ hB hS (lv_sub hl [1, 2, 3, 0] rfl)
set_option maxHeartbeats 4000000 in
theorem bX0_reckon_63 {p : Program} {l : Launch} {e : Env} {s : State} {m : MethodId} {args : Array Value} {below : List Frame} {meth : Method} {c : Code} {D : DD} {A : Nat → Prop} {s0 : State} {ad : AD} {Q : Int32 → CV → Prop} {k_4 : Nat → Int32 → Int32 → CV → Prop} {l1 : Nat} {l2 : Int32} {l3 : Int32} {k0 : Int32} {k1 : Int32} {V : CV} {H : Heap} {locs : List Loc} {ls : Array Slot} (F : FX p l c cX0_reckon s args m RX0 D A s0 5 meth (some .int)) (h_4 : ∀ (l1 : Nat) (l2 : Int32) (l3 : Int32) (V : CV), k_4 l1 l2 l3 V → ∀ (H : Heap) (locs : List Loc) (ls : Array Slot), cB D A ad V H → va_S A s.heap H locs → lv_has ls 5 [(0, .ref (ad 0 0 0)), (1, .ref l1), (2, .int l2), (3, .int l3)] → W p l e rX0_reckon s m args below meth c H locs 0 0 (MQ below (va_Qi Q (fun u t => cB D A ad u t.heap) A) args s 0 0 A) (F0 m 4 ls [])) (hB : cB D A ad V H) (hS : va_S A s.heap H locs) (hw : wX0_reckon_63 k_4 l1 l2 l3 k0 k1 V Q) (hl : lv_has ls 5 [(0, .ref (ad 0 0 0)), (1, .ref l1), (2, .int l2), (3, .int l3)]) : W p l e rX0_reckon s m args below meth c H locs 0 0 (MQ below (va_Qi Q (fun u t => cB D A ad u t.heap) A) args s 0 0 A) (F0 m 63 ls [.int k0, .int k1, .ref (ad 2 4 0)]) := by
  have hx := F.1.x
  have hb := F.1.b
  unfold wX0_reckon_63 at hw
  obtain ⟨hin1, hw⟩ := hw
  refine ct_4 F hB hS hin1 dX0_reckon_63 (fun H locs hB hS => ?_)
  refine lv_iinc (v := l2 + (1 : Int32)) (lv' := [(2, .int (l2 + (1 : Int32))), (0, .ref (ad 0 0 0)), (1, .ref l1), (3, .int l3)]) hx hb dX0_reckon_64 hl (k := 2) rfl (x_inc (by decide)) (by decide) rfl (fun ls hl => ?_)
  refine lv_goto (tgt := 133) hx hb dX0_reckon_67 (by decide) ?_
  exact bX0_reckon_133 F h_4 hB hS hw (lv_sub hl [1, 2, 0, 3] rfl)
set_option maxHeartbeats 4000000 in
theorem bX0_reckon_32 {p : Program} {l : Launch} {e : Env} {s : State} {m : MethodId} {args : Array Value} {below : List Frame} {meth : Method} {c : Code} {D : DD} {A : Nat → Prop} {s0 : State} {ad : AD} {Q : Int32 → CV → Prop} {k_4 : Nat → Int32 → Int32 → CV → Prop} {l1 : Nat} {l2 : Int32} {l3 : Int32} {l4 : Int32} {V : CV} {H : Heap} {locs : List Loc} {ls : Array Slot} (F : FX p l c cX0_reckon s args m RX0 D A s0 5 meth (some .int)) (h_4 : ∀ (l1 : Nat) (l2 : Int32) (l3 : Int32) (V : CV), k_4 l1 l2 l3 V → ∀ (H : Heap) (locs : List Loc) (ls : Array Slot), cB D A ad V H → va_S A s.heap H locs → lv_has ls 5 [(0, .ref (ad 0 0 0)), (1, .ref l1), (2, .int l2), (3, .int l3)] → W p l e rX0_reckon s m args below meth c H locs 0 0 (MQ below (va_Qi Q (fun u t => cB D A ad u t.heap) A) args s 0 0 A) (F0 m 4 ls [])) (hB : cB D A ad V H) (hS : va_S A s.heap H locs) (hw : wX0_reckon_32 k_4 l1 l2 l3 l4 V Q) (hl : lv_has ls 5 [(0, .ref (ad 0 0 0)), (1, .ref l1), (2, .int l2), (3, .int l3), (4, .int l4)]) : W p l e rX0_reckon s m args below meth c H locs 0 0 (MQ below (va_Qi Q (fun u t => cB D A ad u t.heap) A) args s 0 0 A) (F0 m 32 ls []) := by
  have hx := F.1.x
  have hb := F.1.b
  unfold wX0_reckon_32 at hw
  refine lv_aload_n hx hb dX0_reckon_32 rfl (lv_at hl 0 rfl) ?_
  refine cg_X0_56 F hB dX0_reckon_33 ?_
  refine lv_iload_n hx hb dX0_reckon_36 rfl (lv_at hl 2 rfl) ?_
  refine lv_iload hx hb dX0_reckon_37 (lv_at hl 4 rfl) ?_
  refine lv_iconst (v := 1) hx hb dX0_reckon_39 (by decide) ?_
  refine lv_icmp_ne (tgt := 52) hx hb dX0_reckon_40 (by decide) (fun q => ?_) (fun q => ?_)
  · replace hw := hw.2 q
    refine lv_aload_n hx hb dX0_reckon_52 rfl (lv_at hl 0 rfl) ?_
    refine cg_X0_71 F hB dX0_reckon_53 ?_
    refine lv_aload_n hx hb dX0_reckon_56 rfl (lv_at hl 1 rfl) ?_
    obtain ⟨f1, f2, f3, hm4, hw⟩ := hw
    refine cg_X0_120 F hB hm4 dX0_reckon_57 ?_
    refine lv_iload_n hx hb dX0_reckon_60 rfl (lv_at hl 3 rfl) ?_
    obtain ⟨n6, f7, hm8, hw⟩ := hw
    obtain ⟨hin5, hw⟩ := hw
    refine dl_I F hB hm8 hin5 dX0_reckon_61 ?_
    obtain ⟨hin9, hw⟩ := hw
    refine cl_15 F hB hin9 dX0_reckon_62 ?_
    exact bX0_reckon_63 F h_4 hB hS hw (lv_sub hl [0, 1, 2, 3] rfl)
  · replace hw := hw.1 q
    refine lv_aload_n hx hb dX0_reckon_43 rfl (lv_at hl 1 rfl) ?_
    obtain ⟨f10, f11, f12, hm13, hw⟩ := hw
    refine cg_X0_120 F hB hm13 dX0_reckon_44 ?_
    refine lv_iload_n hx hb dX0_reckon_47 rfl (lv_at hl 3 rfl) ?_
    obtain ⟨n15, f16, hm17, hw⟩ := hw
    obtain ⟨hin14, hw⟩ := hw
    refine dl_I F hB hm17 hin14 dX0_reckon_48 ?_
    refine lv_goto (tgt := 63) hx hb dX0_reckon_49 (by decide) ?_
    exact bX0_reckon_63 F h_4 hB hS hw (lv_sub hl [0, 1, 2, 3] rfl)
set_option maxHeartbeats 4000000 in
theorem bX0_reckon_99 {p : Program} {l : Launch} {e : Env} {s : State} {m : MethodId} {args : Array Value} {below : List Frame} {meth : Method} {c : Code} {D : DD} {A : Nat → Prop} {s0 : State} {ad : AD} {Q : Int32 → CV → Prop} {k_4 : Nat → Int32 → Int32 → CV → Prop} {l1 : Nat} {l2 : Int32} {l3 : Int32} {k0 : Int32} {k1 : Int32} {V : CV} {H : Heap} {locs : List Loc} {ls : Array Slot} (F : FX p l c cX0_reckon s args m RX0 D A s0 5 meth (some .int)) (h_4 : ∀ (l1 : Nat) (l2 : Int32) (l3 : Int32) (V : CV), k_4 l1 l2 l3 V → ∀ (H : Heap) (locs : List Loc) (ls : Array Slot), cB D A ad V H → va_S A s.heap H locs → lv_has ls 5 [(0, .ref (ad 0 0 0)), (1, .ref l1), (2, .int l2), (3, .int l3)] → W p l e rX0_reckon s m args below meth c H locs 0 0 (MQ below (va_Qi Q (fun u t => cB D A ad u t.heap) A) args s 0 0 A) (F0 m 4 ls [])) (hB : cB D A ad V H) (hS : va_S A s.heap H locs) (hw : wX0_reckon_99 k_4 l1 l2 l3 k0 k1 V Q) (hl : lv_has ls 5 [(0, .ref (ad 0 0 0)), (1, .ref l1), (2, .int l2), (3, .int l3)]) : W p l e rX0_reckon s m args below meth c H locs 0 0 (MQ below (va_Qi Q (fun u t => cB D A ad u t.heap) A) args s 0 0 A) (F0 m 99 ls [.int k0, .int k1, .ref (ad 2 4 0)]) := by
  have hx := F.1.x
  have hb := F.1.b
  unfold wX0_reckon_99 at hw
  obtain ⟨hin1, hw⟩ := hw
  refine ct_4 F hB hS hin1 dX0_reckon_99 (fun H locs hB hS => ?_)
  refine lv_goto (tgt := 133) hx hb dX0_reckon_100 (by decide) ?_
  exact bX0_reckon_133 F h_4 hB hS hw hl
set_option maxHeartbeats 4000000 in
theorem bX0_reckon_4 {p : Program} {l : Launch} {e : Env} {s : State} {m : MethodId} {args : Array Value} {below : List Frame} {meth : Method} {c : Code} {D : DD} {A : Nat → Prop} {s0 : State} {ad : AD} {Q : Int32 → CV → Prop} (F : FX p l c cX0_reckon s args m RX0 D A s0 5 meth (some .int)) : ∀ (n : Nat) (l1 : Nat) (l2 : Int32) (l3 : Int32) (V : CV), wX0_reckon_4 Q n l1 l2 l3 V → ∀ (H : Heap) (locs : List Loc) (ls : Array Slot), cB D A ad V H → va_S A s.heap H locs → lv_has ls 5 [(0, .ref (ad 0 0 0)), (1, .ref l1), (2, .int l2), (3, .int l3)] → W p l e rX0_reckon s m args below meth c H locs 0 0 (MQ below (va_Qi Q (fun u t => cB D A ad u t.heap) A) args s 0 0 A) (F0 m 4 ls []) := by
  have hx := F.1.x
  have hb := F.1.b
  intro n
  induction n with
  | zero => intro l1 l2 l3 V hw; exact hw.elim
  | succ n ih =>
    intro l1 l2 l3 V hw H locs ls hB hS hl
    unfold wX0_reckon_4 at hw
    refine lv_iload_n hx hb dX0_reckon_4 rfl (lv_at hl 3 rfl) ?_
    refine lv_aload_n hx hb dX0_reckon_5 rfl (lv_at hl 1 rfl) ?_
    obtain ⟨f1, f2, f3, hm4, hw⟩ := hw
    refine cg_X0_112 F hB hm4 dX0_reckon_6 ?_
    refine lv_icmp_ge (tgt := 139) hx hb dX0_reckon_9 (by decide) (fun q => ?_) (fun q => ?_)
    · replace hw := hw.1 q
      refine lv_aload_n hx hb dX0_reckon_139 rfl (lv_at hl 0 rfl) ?_
      refine cg_X0_56 F hB dX0_reckon_140 ?_
      refine lv_iconst (v := 0) hx hb dX0_reckon_143 (by decide) ?_
      obtain ⟨hin5, hw⟩ := hw
      refine cl_4 F hB hin5 dX0_reckon_144 ?_
      exact W.iret hx hb F.1.r (fun t ht hW => ⟨⟨_, _, rfl, hw, x_B (Bw := cB D A ad) ht hB⟩, hS.F ht⟩) hS.2.2 dX0_reckon_145 (hlocks := F.1.k)
    · replace hw := hw.2 q
      refine lv_aload_n hx hb dX0_reckon_12 rfl (lv_at hl 1 rfl) ?_
      refine cg_X0_117 F hB hm4 dX0_reckon_13 ?_
      refine lv_iload_n hx hb dX0_reckon_16 rfl (lv_at hl 3 rfl) ?_
      obtain ⟨n7, f8, hm9, hw⟩ := hw
      obtain ⟨hin6, hw⟩ := hw
      refine dl_I F hB hm9 hin6 dX0_reckon_17 ?_
      refine lv_istore (lv' := [(4, .int (f8 l3.toNatClampNeg)), (0, .ref (ad 0 0 0)), (1, .ref l1), (2, .int l2), (3, .int l3)]) hx hb dX0_reckon_18 hl (by decide) rfl (fun ls hl => ?_)
      refine lv_iload hx hb dX0_reckon_20 (lv_at hl 0 rfl) ?_
      refine lv_iconst (v := 1) hx hb dX0_reckon_22 (by decide) ?_
      refine lv_icmp_eq (tgt := 32) hx hb dX0_reckon_23 (by decide) (fun q => ?_) (fun q => ?_)
      · replace hw := hw.1 q
        exact bX0_reckon_32 F ih hB hS hw (lv_sub hl [1, 2, 3, 4, 0] rfl)
      · replace hw := hw.2 q
        refine lv_iload hx hb dX0_reckon_26 (lv_at hl 0 rfl) ?_
        refine lv_iconst (v := 2) hx hb dX0_reckon_28 (by decide) ?_
        refine lv_icmp_ne (tgt := 70) hx hb dX0_reckon_29 (by decide) (fun q => ?_) (fun q => ?_)
        · replace hw := hw.2 q
          refine lv_iload hx hb dX0_reckon_70 (lv_at hl 0 rfl) ?_
          refine lv_iconst (v := 3) hx hb dX0_reckon_72 (by decide) ?_
          refine lv_icmp_ne (tgt := 103) hx hb dX0_reckon_73 (by decide) (fun q => ?_) (fun q => ?_)
          · replace hw := hw.2 q
            refine lv_iinc (v := l2 + (-1 : Int32)) (lv' := [(2, .int (l2 + (-1 : Int32))), (4, .int (f8 l3.toNatClampNeg)), (0, .ref (ad 0 0 0)), (1, .ref l1), (3, .int l3)]) hx hb dX0_reckon_103 hl (k := 3) rfl (x_inc (by decide)) (by decide) rfl (fun ls hl => ?_)
            refine lv_aload_n hx hb dX0_reckon_106 rfl (lv_at hl 2 rfl) ?_
            refine cg_X0_56 F hB dX0_reckon_107 ?_
            refine lv_iload_n hx hb dX0_reckon_110 rfl (lv_at hl 0 rfl) ?_
            refine lv_iconst (v := 1) hx hb dX0_reckon_111 (by decide) ?_
            refine lv_isub hx hb dX0_reckon_112 ?_
            refine lv_iload hx hb dX0_reckon_113 (lv_at hl 1 rfl) ?_
            refine lv_aload_n hx hb dX0_reckon_115 rfl (lv_at hl 2 rfl) ?_
            refine cg_X0_56 F hB dX0_reckon_116 ?_
            refine lv_iload_n hx hb dX0_reckon_119 rfl (lv_at hl 0 rfl) ?_
            refine lv_iconst (v := 1) hx hb dX0_reckon_120 (by decide) ?_
            refine lv_isub hx hb dX0_reckon_121 ?_
            obtain ⟨hin10, hw⟩ := hw
            refine cl_4 F hB hin10 dX0_reckon_122 ?_
            refine lv_aload_n hx hb dX0_reckon_123 rfl (lv_at hl 2 rfl) ?_
            refine cg_X0_56 F hB dX0_reckon_124 ?_
            refine lv_iload_n hx hb dX0_reckon_127 rfl (lv_at hl 0 rfl) ?_
            obtain ⟨hin11, hw⟩ := hw
            refine cl_4 F hB hin11 dX0_reckon_128 ?_
            refine kX0_X0_both F.1 hw ⟨Nat.le_of_ble_eq_true rfl, Nat.le_of_ble_eq_true rfl⟩ ⟨Nat.zero_le _, Nat.zero_le _⟩ hl.1 (Nat.le_of_ble_eq_true rfl) dX0_reckon_129 (fun r12 hw => ?_)
            obtain ⟨hin13, hw⟩ := hw
            refine ct_4 F hB hS hin13 dX0_reckon_132 (fun H locs hB hS => ?_)
            exact bX0_reckon_133 F ih hB hS hw (lv_sub hl [2, 3, 0, 4] rfl)
          · replace hw := hw.1 q
            refine lv_aload_n hx hb dX0_reckon_76 rfl (lv_at hl 1 rfl) ?_
            refine cg_X0_56 F hB dX0_reckon_77 ?_
            refine lv_iload_n hx hb dX0_reckon_80 rfl (lv_at hl 3 rfl) ?_
            refine lv_iconst (v := 1) hx hb dX0_reckon_81 (by decide) ?_
            refine lv_isub hx hb dX0_reckon_82 ?_
            refine lv_aload_n hx hb dX0_reckon_83 rfl (lv_at hl 1 rfl) ?_
            refine cg_X0_56 F hB dX0_reckon_84 ?_
            refine lv_iload_n hx hb dX0_reckon_87 rfl (lv_at hl 3 rfl) ?_
            refine lv_iconst (v := 1) hx hb dX0_reckon_88 (by decide) ?_
            refine lv_isub hx hb dX0_reckon_89 ?_
            obtain ⟨hin14, hw⟩ := hw
            refine cl_4 F hB hin14 dX0_reckon_90 ?_
            refine lv_if_ne (tgt := 98) hx hb dX0_reckon_91 (by decide) (fun q => ?_) (fun q => ?_)
            · replace hw := hw.2 q
              refine lv_iconst (v := 0) hx hb dX0_reckon_98 (by decide) ?_
              exact bX0_reckon_99 F ih hB hS hw (lv_sub hl [1, 2, 3, 4] rfl)
            · replace hw := hw.1 q
              refine lv_iconst (v := 1) hx hb dX0_reckon_94 (by decide) ?_
              refine lv_goto (tgt := 99) hx hb dX0_reckon_95 (by decide) ?_
              exact bX0_reckon_99 F ih hB hS hw (lv_sub hl [1, 2, 3, 4] rfl)
        · replace hw := hw.1 q
          exact bX0_reckon_32 F ih hB hS hw (lv_sub hl [1, 2, 3, 4, 0] rfl)
set_option maxHeartbeats 4000000 in
theorem bX0_reckon_0 {p : Program} {l : Launch} {e : Env} {s : State} {m : MethodId} {args : Array Value} {below : List Frame} {meth : Method} {c : Code} {D : DD} {A : Nat → Prop} {s0 : State} {ad : AD} {Q : Int32 → CV → Prop} {a1 : Nat} {V : CV} {H : Heap} {locs : List Loc} {ls : Array Slot} (F : FX p l c cX0_reckon s args m RX0 D A s0 5 meth (some .int)) (hB : cB D A ad V H) (hS : va_S A s.heap H locs) (hw : wX0_reckon a1 V Q) (hl : lv_has ls 5 [(0, .ref (ad 0 0 0)), (1, .ref a1)]) : W p l e rX0_reckon s m args below meth c H locs 0 0 (MQ below (va_Qi Q (fun u t => cB D A ad u t.heap) A) args s 0 0 A) (F0 m 0 ls []) := by
  have hx := F.1.x
  have hb := F.1.b
  unfold wX0_reckon at hw
  refine lv_iconst (v := 0) hx hb dX0_reckon_0 (by decide) ?_
  refine lv_istore_n (lv' := [(2, .int (0 : Int32)), (0, .ref (ad 0 0 0)), (1, .ref a1)]) hx hb dX0_reckon_1 rfl hl (by decide) rfl (fun ls hl => ?_)
  refine lv_iconst (v := 0) hx hb dX0_reckon_2 (by decide) ?_
  refine lv_istore_n (lv' := [(3, .int (0 : Int32)), (2, .int (0 : Int32)), (0, .ref (ad 0 0 0)), (1, .ref a1)]) hx hb dX0_reckon_3 rfl hl (by decide) rfl (fun ls hl => ?_)
  obtain ⟨f_4, hw⟩ := hw
  exact bX0_reckon_4 F f_4 _ _ _ _ hw _ _ _ hB hS (lv_sub hl [2, 3, 1, 0] rfl)
set_option maxHeartbeats 4000000 in
theorem mX0_reckon {l : Launch} {D : DD} {A : Nat → Prop} {s0 : State} {ad : AD} {V : CV} {a1 : Nat} {Q : Int32 → CV → Prop} (hw : wX0_reckon a1 V Q) : Met l yX0_reckon (ws_ yX0_reckon cX0_reckon 5 (some .int)) rX0_reckon (va_Pc [.ref (ad 0 0 0), .ref a1] (fun U => cB D A ad V U.heap ∧ CX l D A s0 U)) (va_Qi Q (fun u t => cB D A ad u t.heap) A) 0 0 A := by
  refine Met.ofW (cc := cX0_reckon) (maxL := 5) (ret := some .int) (by decide) rfl ?_
  intro p e s m args below meth c s₁ B hml hv
  obtain ⟨rfl, hB, hC⟩ := hv
  have F : FX p l c cX0_reckon s _ m RX0 D A s0 5 meth (some .int) := ⟨mk_FP B hml rfl, hC⟩
  have hS : va_S A s.heap s.heap [] := va_S.rf
  have hl := lv_entry ([.ref (ad 0 0 0), .ref a1]) (n := 5) (Nat.le_of_ble_eq_true rfl)
  rw [lg_entry_eq]
  generalize (lg_sl ([.ref (ad 0 0 0), .ref a1]) ++ List.replicate (5 - (lg_sl ([.ref (ad 0 0 0), .ref a1])).length) Slot.unset).toArray = ls at hl ⊢
  exact bX0_reckon_0 F hB hS hw hl
theorem kX0_X0_reckon {p : Program} {l : Launch} {e : Env} {R : Room} {s : State} {m : MethodId} {args : Array Value} {below : List Frame} {meth : Method} {c : Code} {H : Heap} {locs : List Loc} {cells slots : Nat} {Q0 : State → Prop} {cc : ByteArray} {pc nL : Nat} {ls : Array Slot} {rest : List Value} {ret : Option FieldType} {D : DD} {A : Nat → Prop} {s0 : State} {ad : AD} {V : CV} {a1 : Nat} {Q : Int32 → CV → Prop} (F : FX p l c cc s args m RX0 D A s0 nL meth ret) (hB : cB D A ad V H) (hS : va_S A s.heap H locs) (hw : wX0_reckon a1 V Q) (hR : rX0_reckon.frames + 1 ≤ R.frames ∧ 8 + (5 + 11) + rX0_reckon.locals ≤ R.locals) (hc : cells + 0 ≤ R.cells ∧ slots + 0 ≤ R.slots) (hsz : ls.size = nL) (hW : (rest.map fun v => v.category).sum ≤ 8) (hdg : decode cc pc = .ok (.invokevirtual 369, 3)) (kk : ∀ (r : Int32) (u : CV) (H1 : Heap) (locs1 : List Loc), Q r u → cB D A ad u H1 → va_S A s.heap H1 locs1 → W p l e R s m args below meth c H1 locs1 cells slots Q0 (F0 m (pc + 3) ls (.int r :: rest))) : W p l e R s m args below meth c H locs cells slots Q0 (F0 m pc ls (.ref a1 :: .ref (ad 0 0 0) :: rest)) :=
  k_i (Bw := cB D A ad) (k_runV (Bw := cB D A ad) (n := 1) (As := [.ref a1]) F hB hS (c_at F (hB.pic cpic0) rfl) (mX0_reckon hw) q823 q825 qs27 q83 q826 (by decide +kernel) hR ⟨rfl, rfl⟩ hc rfl hsz rfl hW hdg) hS kk
def rX0_within : Room := { frames := 1, cells := 0, slots := 0, locals := 40 }
set_option maxHeartbeats 4000000 in
theorem bX0_within_0 {p : Program} {l : Launch} {e : Env} {s : State} {m : MethodId} {args : Array Value} {below : List Frame} {meth : Method} {c : Code} {Q : Int32 → Prop} {a0 : Int32} {a1 : Int32} {a2 : Int32} {ls : Array Slot} (F : FP p c cX0_within s args m RX0 3 meth (some .int)) (hw : wX0_within a0 a1 a2 Q) (hl : lv_has ls 3 [(0, .int a0), (1, .int a1), (2, .int a2)]) : W p l e rX0_within s m args below meth c s.heap [] 0 0 (MQ below (vp_Si Q) args s 0 0 (fun _ => False)) (F0 m 0 ls []) := by
  have hx := F.x
  have hb := F.b
  unfold wX0_within at hw
  refine lv_iload_n hx hb dX0_within_0 rfl (lv_at hl 1 rfl) ?_
  refine lv_iload_n hx hb dX0_within_1 rfl (lv_at hl 2 rfl) ?_
  refine lv_iload_n hx hb dX0_within_2 rfl (lv_at hl 0 rfl) ?_
  refine va_mmin hx hb (by rw [F.ml]; exact hl.1.symm) F.o (F.t _ q834) (F.t _ q835) (F.t _ q103) (F.t _ q836) (Nat.le_of_ble_eq_true rfl) (Nat.le_of_ble_eq_true rfl) (Nat.zero_le _) (Nat.zero_le _) dX0_within_3 ?_
  refine va_mmax hx hb (by rw [F.ml]; exact hl.1.symm) F.o (F.t _ q837) (F.t _ q838) (F.t _ q103) (F.t _ q839) (Nat.le_of_ble_eq_true rfl) (Nat.le_of_ble_eq_true rfl) (Nat.zero_le _) (Nat.zero_le _) dX0_within_6 ?_
  exact W.iret hx hb F.r (fun t ht hW => ⟨_, rfl, hw, ht⟩) (fun _ h => absurd h List.not_mem_nil) dX0_within_9 (hlocks := F.k)
set_option maxHeartbeats 4000000 in
theorem mX0_within {l : Launch}  {a0 : Int32} {a1 : Int32} {a2 : Int32} {Q : Int32 → Prop} (hw : wX0_within a0 a1 a2 Q) : Met l yX0_within (ws_ yX0_within cX0_within 3 (some .int)) rX0_within (va_Pc [.int a0, .int a1, .int a2] (fun _ => True)) (vp_Si Q) 0 0 (fun _ => False) := by
  refine Met.ofW (cc := cX0_within) (maxL := 3) (ret := some .int) (by decide) rfl ?_
  intro p e s m args below meth c s₁ B hml hv
  obtain ⟨rfl, -⟩ := hv
  have F : FP p c cX0_within s _ m RX0 3 meth (some .int) := mk_FP B hml rfl
  have hl := lv_entry ([.int a0, .int a1, .int a2]) (n := 3) (Nat.le_of_ble_eq_true rfl)
  rw [lg_entry_eq]
  generalize (lg_sl ([.int a0, .int a1, .int a2]) ++ List.replicate (3 - (lg_sl ([.int a0, .int a1, .int a2])).length) Slot.unset).toArray = ls at hl ⊢
  exact bX0_within_0 F hw hl
theorem kX0_X0_within {p : Program} {l : Launch} {e : Env} {R : Room} {s : State} {m : MethodId} {args : Array Value} {below : List Frame} {meth : Method} {c : Code} {H : Heap} {locs : List Loc} {cells slots : Nat} {Q0 : State → Prop} {cc : ByteArray} {pc nL : Nat} {ls : Array Slot} {rest : List Value} {ret : Option FieldType} {a0 : Int32} {a1 : Int32} {a2 : Int32} {Q : Int32 → Prop} (F : FP p c cc s args m RX0 nL meth ret) (hw : wX0_within a0 a1 a2 Q) (hR : rX0_within.frames + 1 ≤ R.frames ∧ 8 + (3 + 11) + rX0_within.locals ≤ R.locals) (hc : cells ≤ R.cells ∧ slots ≤ R.slots) (hsz : ls.size = nL) (hW : (rest.map fun v => v.category).sum ≤ 8) (hdg : decode cc pc = .ok (.invokestatic 374, 3)) (kk : ∀ r : Int32, Q r → W p l e R s m args below meth c H locs cells slots Q0 (F0 m (pc + 3) ls (.int r :: rest))) : W p l e R s m args below meth c H locs cells slots Q0 (F0 m pc ls (.int a2 :: .int a1 :: .int a0 :: rest)) :=
  k_csi (k_runP (n := 3) (As := [.int a0, .int a1, .int a2]) F (mX0_within hw) q831 q832 q83 q833 (by decide +kernel) hR ⟨rfl, rfl⟩ hc rfl hsz rfl hW hdg) kk
def rX0_boldOf : Room := { frames := 2, cells := 0, slots := 0, locals := 62 }
set_option maxHeartbeats 4000000 in
theorem bX0_boldOf_0 {p : Program} {l : Launch} {e : Env} {s : State} {m : MethodId} {args : Array Value} {below : List Frame} {meth : Method} {c : Code} {D : DD} {A : Nat → Prop} {s0 : State} {ad : AD} {Q : Int32 → CV → Prop} {a1 : Int32} {a2 : Nat} {a2' : Nat} {V : CV} {H : Heap} {locs : List Loc} {ls : Array Slot} (F : FX p l c cX0_boldOf s args m RX0 D A s0 5 meth (some .int)) (hB : cB D A ad V H) (hS : va_S A s.heap H locs) (hw : wX0_boldOf a1 a2 a2' V Q) (hl : lv_has ls 5 [(0, .ref (ad 0 0 0)), (1, .int a1), (2, .ref (ad 4 a2 a2'))]) : W p l e rX0_boldOf s m args below meth c H locs 0 0 (MQ below (va_Qi Q (fun u t => cB D A ad u t.heap) A) args s 0 0 A) (F0 m 0 ls []) := by
  have hx := F.1.x
  have hb := F.1.b
  unfold wX0_boldOf at hw
  obtain ⟨g_a2, hw⟩ := hw
  obtain ⟨g_a2p, hw⟩ := hw
  refine lv_aload_n hx hb dX0_boldOf_0 rfl (lv_at hl 0 rfl) ?_
  refine cg_X0_46 F hB dX0_boldOf_1 ?_
  refine cg_X0_259 F hB (by decide) dX0_boldOf_4 ?_
  refine lv_iload_n hx hb dX0_boldOf_7 rfl (lv_at hl 1 rfl) ?_
  obtain ⟨hin1, hw⟩ := hw
  refine cl_Sp F hB (by decide) hin1 dX0_boldOf_8 ?_
  obtain ⟨y2, e3, hw⟩ := hw
  refine W.eq (g2 := F0 m 9 ls [.ref y2]) (congrArg (fun z => F0 m 9 ls [va_rf z]) e3) ?_
  obtain ⟨c4, b5, hk6, hm7, hw⟩ := hw
  refine cg_X0_267 F hB hk6 hm7 dX0_boldOf_9 ?_
  refine lv_istore_n (lv' := [(3, .int b5), (0, .ref (ad 0 0 0)), (1, .int a1), (2, .ref (ad 4 a2 a2'))]) hx hb dX0_boldOf_12 rfl hl (by decide) rfl (fun ls hl => ?_)
  refine lv_aload_n hx hb dX0_boldOf_13 rfl (lv_at hl 1 rfl) ?_
  refine lv_iconst (v := 2) hx hb dX0_boldOf_14 (by decide) ?_
  refine kX0_X0_counts F hB hS hw ⟨Nat.le_of_ble_eq_true rfl, Nat.le_of_ble_eq_true rfl⟩ ⟨Nat.zero_le _, Nat.zero_le _⟩ hl.1 (Nat.le_of_ble_eq_true rfl) dX0_boldOf_15 (fun r8 V9 H locs hw hB hS => ?_)
  refine lv_istore (lv' := [(4, .int r8), (3, .int b5), (0, .ref (ad 0 0 0)), (1, .int a1), (2, .ref (ad 4 a2 a2'))]) hx hb dX0_boldOf_18 hl (by decide) rfl (fun ls hl => ?_)
  refine lv_iload hx hb dX0_boldOf_20 (lv_at hl 0 rfl) ?_
  refine lv_iconst (v := -1) hx hb dX0_boldOf_22 (by decide) ?_
  refine lv_icmp_ne (tgt := 28) hx hb dX0_boldOf_23 (by decide) (fun q => ?_) (fun q => ?_)
  · replace hw := hw.2 q
    refine lv_aload_n hx hb dX0_boldOf_28 rfl (lv_at hl 2 rfl) ?_
    refine cg_X0_71 F hB dX0_boldOf_29 ?_
    refine lv_bipush (v := 98) hx hb dX0_boldOf_32 (by decide) ?_
    refine lv_iload_n hx hb dX0_boldOf_34 rfl (lv_at hl 1 rfl) ?_
    obtain ⟨hin10, hw⟩ := hw
    refine ct_15 F hB hS hin10 dX0_boldOf_35 (fun H locs hB hS => ?_)
    refine lv_aload_n hx hb dX0_boldOf_36 rfl (lv_at hl 2 rfl) ?_
    refine cg_X0_71 F hB dX0_boldOf_37 ?_
    refine lv_bipush (v := 115) hx hb dX0_boldOf_40 (by decide) ?_
    refine lv_iload_n hx hb dX0_boldOf_42 rfl (lv_at hl 3 rfl) ?_
    obtain ⟨hin11, hw⟩ := hw
    refine ct_15 F hB hS hin11 dX0_boldOf_43 (fun H locs hB hS => ?_)
    refine lv_aload_n hx hb dX0_boldOf_44 rfl (lv_at hl 2 rfl) ?_
    refine cg_X0_71 F hB dX0_boldOf_45 ?_
    refine lv_bipush (v := 110) hx hb dX0_boldOf_48 (by decide) ?_
    refine lv_aload_n hx hb dX0_boldOf_50 rfl (lv_at hl 4 rfl) ?_
    refine kX0_X2_leftMany F hB hS hw ⟨Nat.le_of_ble_eq_true rfl, Nat.le_of_ble_eq_true rfl⟩ ⟨Nat.zero_le _, Nat.zero_le _⟩ hl.1 (Nat.le_of_ble_eq_true rfl) dX0_boldOf_51 (fun r12 V13 H locs hw hB hS => ?_)
    obtain ⟨hin14, hw⟩ := hw
    refine ct_15 F hB hS hin14 dX0_boldOf_54 (fun H locs hB hS => ?_)
    refine lv_aload_n hx hb dX0_boldOf_55 rfl (lv_at hl 2 rfl) ?_
    refine lv_aload_n hx hb dX0_boldOf_56 rfl (lv_at hl 2 rfl) ?_
    refine cg_X0_46 F hB dX0_boldOf_57 ?_
    refine cg_X0_245 F hB (by decide) dX0_boldOf_60 ?_
    refine lv_iload hx hb dX0_boldOf_63 (lv_at hl 0 rfl) ?_
    obtain ⟨hin15, hw⟩ := hw
    refine cl_Tx F hB (by decide) hin15 dX0_boldOf_65 ?_
    obtain ⟨y16, e17, hw⟩ := hw
    refine W.eq (g2 := F0 m 66 ls [.ref y16, .ref (ad 0 0 0)]) (congrArg (fun z => F0 m 66 ls [va_rf z, .ref (ad 0 0 0)]) e17) ?_
    obtain ⟨f18, f19, f20, hm21, hw⟩ := hw
    refine cg_X0_365 F hB hm21 dX0_boldOf_66 ?_
    refine kX0_X0_reckon F hB hS hw ⟨Nat.le_of_ble_eq_true rfl, Nat.le_of_ble_eq_true rfl⟩ ⟨Nat.zero_le _, Nat.zero_le _⟩ hl.1 (Nat.le_of_ble_eq_true rfl) dX0_boldOf_69 (fun r22 V23 H locs hw hB hS => ?_)
    refine lv_iconst (v := 0) hx hb dX0_boldOf_72 (by decide) ?_
    refine lv_bipush (v := 100) hx hb dX0_boldOf_73 (by decide) ?_
    refine kX0_X0_within F.1 hw ⟨Nat.le_of_ble_eq_true rfl, Nat.le_of_ble_eq_true rfl⟩ ⟨Nat.zero_le _, Nat.zero_le _⟩ hl.1 (Nat.le_of_ble_eq_true rfl) dX0_boldOf_75 (fun r24 hw => ?_)
    exact W.iret hx hb F.1.r (fun t ht hW => ⟨⟨_, _, rfl, hw, x_B (Bw := cB D A ad) ht hB⟩, hS.F ht⟩) hS.2.2 dX0_boldOf_78 (hlocks := F.1.k)
  · replace hw := hw.1 q
    refine lv_iload_n hx hb dX0_boldOf_26 rfl (lv_at hl 1 rfl) ?_
    exact W.iret hx hb F.1.r (fun t ht hW => ⟨⟨_, _, rfl, hw, x_B (Bw := cB D A ad) ht hB⟩, hS.F ht⟩) hS.2.2 dX0_boldOf_27 (hlocks := F.1.k)
set_option maxHeartbeats 4000000 in
theorem mX0_boldOf {l : Launch} {D : DD} {A : Nat → Prop} {s0 : State} {ad : AD} {V : CV} {a1 : Int32} {a2 : Nat} {a2' : Nat} {Q : Int32 → CV → Prop} (hw : wX0_boldOf a1 a2 a2' V Q) : Met l yX0_boldOf (ws_ yX0_boldOf cX0_boldOf 5 (some .int)) rX0_boldOf (va_Pc [.ref (ad 0 0 0), .int a1, .ref (ad 4 a2 a2')] (fun U => cB D A ad V U.heap ∧ CX l D A s0 U)) (va_Qi Q (fun u t => cB D A ad u t.heap) A) 0 0 A := by
  refine Met.ofW (cc := cX0_boldOf) (maxL := 5) (ret := some .int) (by decide) rfl ?_
  intro p e s m args below meth c s₁ B hml hv
  obtain ⟨rfl, hB, hC⟩ := hv
  have F : FX p l c cX0_boldOf s _ m RX0 D A s0 5 meth (some .int) := ⟨mk_FP B hml rfl, hC⟩
  have hS : va_S A s.heap s.heap [] := va_S.rf
  have hl := lv_entry ([.ref (ad 0 0 0), .int a1, .ref (ad 4 a2 a2')]) (n := 5) (Nat.le_of_ble_eq_true rfl)
  rw [lg_entry_eq]
  generalize (lg_sl ([.ref (ad 0 0 0), .int a1, .ref (ad 4 a2 a2')]) ++ List.replicate (5 - (lg_sl ([.ref (ad 0 0 0), .int a1, .ref (ad 4 a2 a2')])).length) Slot.unset).toArray = ls at hl ⊢
  exact bX0_boldOf_0 F hB hS hw hl
theorem kX0_X0_boldOf {p : Program} {l : Launch} {e : Env} {R : Room} {s : State} {m : MethodId} {args : Array Value} {below : List Frame} {meth : Method} {c : Code} {H : Heap} {locs : List Loc} {cells slots : Nat} {Q0 : State → Prop} {cc : ByteArray} {pc nL : Nat} {ls : Array Slot} {rest : List Value} {ret : Option FieldType} {D : DD} {A : Nat → Prop} {s0 : State} {ad : AD} {V : CV} {a1 : Int32} {a2 : Nat} {a2' : Nat} {Q : Int32 → CV → Prop} (F : FX p l c cc s args m RX0 D A s0 nL meth ret) (hB : cB D A ad V H) (hS : va_S A s.heap H locs) (hw : wX0_boldOf a1 a2 a2' V Q) (hR : rX0_boldOf.frames + 1 ≤ R.frames ∧ 8 + (5 + 11) + rX0_boldOf.locals ≤ R.locals) (hc : cells + 0 ≤ R.cells ∧ slots + 0 ≤ R.slots) (hsz : ls.size = nL) (hW : (rest.map fun v => v.category).sum ≤ 8) (hdg : decode cc pc = .ok (.invokevirtual 409, 3)) (kk : ∀ (r : Int32) (u : CV) (H1 : Heap) (locs1 : List Loc), Q r u → cB D A ad u H1 → va_S A s.heap H1 locs1 → W p l e R s m args below meth c H1 locs1 cells slots Q0 (F0 m (pc + 3) ls (.int r :: rest))) : W p l e R s m args below meth c H locs cells slots Q0 (F0 m pc ls (.ref (ad 4 a2 a2') :: .int a1 :: .ref (ad 0 0 0) :: rest)) :=
  k_i (Bw := cB D A ad) (k_runV (Bw := cB D A ad) (n := 2) (As := [.int a1, .ref (ad 4 a2 a2')]) F hB hS (c_at F (hB.pic cpic0) rfl) (mX0_boldOf hw) q944 q946 qs33 q83 q947 (by decide +kernel) hR ⟨rfl, rfl⟩ hc rfl hsz rfl hW hdg) hS kk
def rX0_isBold : Room := { frames := 1, cells := 0, slots := 0, locals := 22 }
set_option maxHeartbeats 4000000 in
theorem bX0_isBold_0 {p : Program} {l : Launch} {e : Env} {s : State} {m : MethodId} {args : Array Value} {below : List Frame} {meth : Method} {c : Code} {Q : Int32 → Prop} {a0 : Int32} {ls : Array Slot} (F : FP p c cX0_isBold s args m RX0 1 meth (some .boolean)) (hw : wX0_isBold a0 Q) (hl : lv_has ls 1 [(0, .int a0)]) : W p l e rX0_isBold s m args below meth c s.heap [] 0 0 (MQ below (vp_Si Q) args s 0 0 (fun _ => False)) (F0 m 0 ls []) := by
  have hx := F.x
  have hb := F.b
  unfold wX0_isBold at hw
  refine lv_iload_n hx hb dX0_isBold_0 rfl (lv_at hl 0 rfl) ?_
  refine lv_iconst (v := 0) hx hb dX0_isBold_1 (by decide) ?_
  refine lv_bipush (v := 100) hx hb dX0_isBold_2 (by decide) ?_
  refine kX0_X0_isIn F hw ⟨Nat.le_of_ble_eq_true rfl, Nat.le_of_ble_eq_true rfl⟩ ⟨Nat.zero_le _, Nat.zero_le _⟩ hl.1 (Nat.le_of_ble_eq_true rfl) dX0_isBold_4 (fun r1 hw => ?_)
  obtain ⟨hn, hw⟩ := hw
  exact W.zret hx hb F.r hn (fun t ht hW => ⟨_, rfl, hw, ht⟩) (fun _ h => absurd h List.not_mem_nil) dX0_isBold_7 (hlocks := F.k)
set_option maxHeartbeats 4000000 in
theorem mX0_isBold {l : Launch}  {a0 : Int32} {Q : Int32 → Prop} (hw : wX0_isBold a0 Q) : Met l yX0_isBold (ws_ yX0_isBold cX0_isBold 1 (some .boolean)) rX0_isBold (va_Pc [.int a0] (fun _ => True)) (vp_Si Q) 0 0 (fun _ => False) := by
  refine Met.ofW (cc := cX0_isBold) (maxL := 1) (ret := some .boolean) (by decide) rfl ?_
  intro p e s m args below meth c s₁ B hml hv
  obtain ⟨rfl, -⟩ := hv
  have F : FP p c cX0_isBold s _ m RX0 1 meth (some .boolean) := mk_FP B hml rfl
  have hl := lv_entry ([.int a0]) (n := 1) (Nat.le_of_ble_eq_true rfl)
  rw [lg_entry_eq]
  generalize (lg_sl ([.int a0]) ++ List.replicate (1 - (lg_sl ([.int a0])).length) Slot.unset).toArray = ls at hl ⊢
  exact bX0_isBold_0 F hw hl
theorem kX0_X0_isBold {p : Program} {l : Launch} {e : Env} {R : Room} {s : State} {m : MethodId} {args : Array Value} {below : List Frame} {meth : Method} {c : Code} {H : Heap} {locs : List Loc} {cells slots : Nat} {Q0 : State → Prop} {cc : ByteArray} {pc nL : Nat} {ls : Array Slot} {rest : List Value} {ret : Option FieldType} {a0 : Int32} {Q : Int32 → Prop} (F : FP p c cc s args m RX0 nL meth ret) (hw : wX0_isBold a0 Q) (hR : rX0_isBold.frames + 1 ≤ R.frames ∧ 8 + (1 + 11) + rX0_isBold.locals ≤ R.locals) (hc : cells ≤ R.cells ∧ slots ≤ R.slots) (hsz : ls.size = nL) (hW : (rest.map fun v => v.category).sum ≤ 8) (hdg : decode cc pc = .ok (.invokestatic 287, 3)) (kk : ∀ r : Int32, Q r → W p l e R s m args below meth c H locs cells slots Q0 (F0 m (pc + 3) ls (.int r :: rest))) : W p l e R s m args below meth c H locs cells slots Q0 (F0 m pc ls (.int a0 :: rest)) :=
  k_csi (k_runP (n := 1) (As := [.int a0]) F (mX0_isBold hw) q576 q577 q83 q578 (by decide +kernel) hR ⟨rfl, rfl⟩ hc rfl hsz rfl hW hdg) kk
def rX0_bolder : Room := { frames := 2, cells := 0, slots := 0, locals := 43 }
set_option maxHeartbeats 4000000 in
theorem bX0_bolder_0 {p : Program} {l : Launch} {e : Env} {s : State} {m : MethodId} {args : Array Value} {below : List Frame} {meth : Method} {c : Code} {D : DD} {A : Nat → Prop} {s0 : State} {ad : AD} {Q : Int32 → CV → Prop} {a1 : Int32} {a2 : Int32} {V : CV} {H : Heap} {locs : List Loc} {ls : Array Slot} (F : FX p l c cX0_bolder s args m RX0 D A s0 4 meth (some .int)) (hB : cB D A ad V H) (hS : va_S A s.heap H locs) (hw : wX0_bolder a1 a2 V Q) (hl : lv_has ls 4 [(0, .ref (ad 0 0 0)), (1, .int a1), (2, .int a2)]) : W p l e rX0_bolder s m args below meth c H locs 0 0 (MQ below (va_Qi Q (fun u t => cB D A ad u t.heap) A) args s 0 0 A) (F0 m 0 ls []) := by
  have hx := F.1.x
  have hb := F.1.b
  unfold wX0_bolder at hw
  refine lv_aload_n hx hb dX0_bolder_0 rfl (lv_at hl 0 rfl) ?_
  refine lv_iload_n hx hb dX0_bolder_1 rfl (lv_at hl 1 rfl) ?_
  refine kX0_X0_isPerson F hB hS hw ⟨Nat.le_of_ble_eq_true rfl, Nat.le_of_ble_eq_true rfl⟩ ⟨Nat.zero_le _, Nat.zero_le _⟩ hl.1 (Nat.le_of_ble_eq_true rfl) dX0_bolder_2 (fun r1 V2 H locs hw hB hS => ?_)
  refine lv_if_eq (tgt := 15) hx hb dX0_bolder_5 (by decide) (fun q => ?_) (fun q => ?_)
  · replace hw := hw.1 q
    refine lv_ldc hx hb F.1.o (F.1.t _ q392) dX0_bolder_15 ?_
    exact W.iret hx hb F.1.r (fun t ht hW => ⟨⟨_, _, rfl, hw, x_B (Bw := cB D A ad) ht hB⟩, hS.F ht⟩) hS.2.2 dX0_bolder_17 (hlocks := F.1.k)
  · replace hw := hw.2 q
    refine lv_iload_n hx hb dX0_bolder_8 rfl (lv_at hl 2 rfl) ?_
    refine kX0_X0_isBold F.1 hw ⟨Nat.le_of_ble_eq_true rfl, Nat.le_of_ble_eq_true rfl⟩ ⟨Nat.zero_le _, Nat.zero_le _⟩ hl.1 (Nat.le_of_ble_eq_true rfl) dX0_bolder_9 (fun r3 hw => ?_)
    refine lv_if_ne (tgt := 18) hx hb dX0_bolder_12 (by decide) (fun q => ?_) (fun q => ?_)
    · replace hw := hw.2 q
      refine lv_aload_n hx hb dX0_bolder_18 rfl (lv_at hl 0 rfl) ?_
      refine cg_X0_46 F hB dX0_bolder_19 ?_
      refine cg_X0_259 F hB (by decide) dX0_bolder_22 ?_
      refine lv_iload_n hx hb dX0_bolder_25 rfl (lv_at hl 1 rfl) ?_
      obtain ⟨hin4, hw⟩ := hw
      refine cl_Sp F hB (by decide) hin4 dX0_bolder_26 ?_
      obtain ⟨y5, e6, hw⟩ := hw
      refine W.eq (g2 := F0 m 27 ls [.ref y5]) (congrArg (fun z => F0 m 27 ls [va_rf z]) e6) ?_
      obtain ⟨c7, b8, hk9, hm10, hw⟩ := hw
      refine cg_X0_267 F hB hk9 hm10 dX0_bolder_27 ?_
      refine lv_istore_n (lv' := [(3, .int b8), (0, .ref (ad 0 0 0)), (1, .int a1), (2, .int a2)]) hx hb dX0_bolder_30 rfl hl (by decide) rfl (fun ls hl => ?_)
      refine lv_aload_n hx hb dX0_bolder_31 rfl (lv_at hl 1 rfl) ?_
      refine cg_X0_46 F hB dX0_bolder_32 ?_
      refine cg_X0_259 F hB (by decide) dX0_bolder_35 ?_
      refine lv_iload_n hx hb dX0_bolder_38 rfl (lv_at hl 2 rfl) ?_
      obtain ⟨hin11, hw⟩ := hw
      refine cl_Sp F hB (by decide) hin11 dX0_bolder_39 ?_
      refine lv_iload_n hx hb dX0_bolder_40 rfl (lv_at hl 3 rfl) ?_
      obtain ⟨y12, e13, hw⟩ := hw
      refine W.eq (g2 := F0 m 41 ls [.int a2, .ref y12]) (congrArg (fun z => F0 m 41 ls [.int a2, va_rf z]) e13) ?_
      obtain ⟨c14, b15, hk16, hm17, hw⟩ := hw
      refine cp_X0_267 F hB hS hk16 hm17 dX0_bolder_41 (fun H locs hB hS => ?_)
      refine lv_iload_n hx hb dX0_bolder_44 rfl (lv_at hl 0 rfl) ?_
      exact W.iret hx hb F.1.r (fun t ht hW => ⟨⟨_, _, rfl, hw, x_B (Bw := cB D A ad) ht hB⟩, hS.F ht⟩) hS.2.2 dX0_bolder_45 (hlocks := F.1.k)
    · replace hw := hw.1 q
      refine lv_ldc hx hb F.1.o (F.1.t _ q392) dX0_bolder_15 ?_
      exact W.iret hx hb F.1.r (fun t ht hW => ⟨⟨_, _, rfl, hw, x_B (Bw := cB D A ad) ht hB⟩, hS.F ht⟩) hS.2.2 dX0_bolder_17 (hlocks := F.1.k)
set_option maxHeartbeats 4000000 in
theorem mX0_bolder {l : Launch} {D : DD} {A : Nat → Prop} {s0 : State} {ad : AD} {V : CV} {a1 : Int32} {a2 : Int32} {Q : Int32 → CV → Prop} (hw : wX0_bolder a1 a2 V Q) : Met l yX0_bolder (ws_ yX0_bolder cX0_bolder 4 (some .int)) rX0_bolder (va_Pc [.ref (ad 0 0 0), .int a1, .int a2] (fun U => cB D A ad V U.heap ∧ CX l D A s0 U)) (va_Qi Q (fun u t => cB D A ad u t.heap) A) 0 0 A := by
  refine Met.ofW (cc := cX0_bolder) (maxL := 4) (ret := some .int) (by decide) rfl ?_
  intro p e s m args below meth c s₁ B hml hv
  obtain ⟨rfl, hB, hC⟩ := hv
  have F : FX p l c cX0_bolder s _ m RX0 D A s0 4 meth (some .int) := ⟨mk_FP B hml rfl, hC⟩
  have hS : va_S A s.heap s.heap [] := va_S.rf
  have hl := lv_entry ([.ref (ad 0 0 0), .int a1, .int a2]) (n := 4) (Nat.le_of_ble_eq_true rfl)
  rw [lg_entry_eq]
  generalize (lg_sl ([.ref (ad 0 0 0), .int a1, .int a2]) ++ List.replicate (4 - (lg_sl ([.ref (ad 0 0 0), .int a1, .int a2])).length) Slot.unset).toArray = ls at hl ⊢
  exact bX0_bolder_0 F hB hS hw hl
def rX4_isFloats : Room := { frames := 0, cells := 0, slots := 0, locals := 0 }
set_option maxHeartbeats 4000000 in
theorem bX4_isFloats_0 {p : Program} {l : Launch} {e : Env} {s : State} {m : MethodId} {args : Array Value} {below : List Frame} {meth : Method} {c : Code} {D : DD} {A : Nat → Prop} {s0 : State} {ad : AD} {Q : Int32 → CV → Prop} {a0 : Nat} {V : CV} {H : Heap} {locs : List Loc} {ls : Array Slot} (F : FX p l c cX4_isFloats s args m RX4 D A s0 1 meth (some .boolean)) (hB : cB D A ad V H) (hS : va_S A s.heap H locs) (hw : wX4_isFloats a0 V Q) (hl : lv_has ls 1 [(0, .ref a0)]) : W p l e rX4_isFloats s m args below meth c H locs 0 0 (MQ below (va_Qi Q (fun u t => cB D A ad u t.heap) A) args s 0 0 A) (F0 m 0 ls []) := by
  have hx := F.1.x
  have hb := F.1.b
  unfold wX4_isFloats at hw
  refine lv_aload_n hx hb dX4_isFloats_0 rfl (lv_at hl 0 rfl) ?_
  obtain ⟨f1, hm2, hw⟩ := hw
  refine cg_X4_7 F hB hm2 dX4_isFloats_1 ?_
  rcases hw with hw | hw | hw
  · obtain ⟨e3, hw⟩ := hw
    refine W.eq (g2 := F0 m 4 ls [.null]) (congrArg (fun z => F0 m 4 ls [va_rf z]) e3) ?_
    refine lv_instN hx hb dX4_isFloats_4 ?_
    exact W.zret hx hb F.1.r rfl (fun t ht hW => ⟨⟨_, _, rfl, hw, x_B (Bw := cB D A ad) ht hB⟩, hS.F ht⟩) hS.2.2 dX4_isFloats_7 (hlocks := F.1.k)
  · obtain ⟨y8, n4, f5, e9, hm6, hw⟩ := hw
    refine W.eq (g2 := F0 m 4 ls [.ref y8]) (congrArg (fun z => F0 m 4 ls [va_rf z]) e9) ?_
    refine di_FF F hB hm6 q1028 dX4_isFloats_4 ?_
    exact W.zret hx hb F.1.r rfl (fun t ht hW => ⟨⟨_, _, rfl, hw, x_B (Bw := cB D A ad) ht hB⟩, hS.F ht⟩) hS.2.2 dX4_isFloats_7 (hlocks := F.1.k)
  · obtain ⟨y14, n10, f11, e15, hm12, hw⟩ := hw
    refine W.eq (g2 := F0 m 4 ls [.ref y14]) (congrArg (fun z => F0 m 4 ls [va_rf z]) e15) ?_
    refine di_FH F hB hm12 q1028 dX4_isFloats_4 ?_
    exact W.zret hx hb F.1.r rfl (fun t ht hW => ⟨⟨_, _, rfl, hw, x_B (Bw := cB D A ad) ht hB⟩, hS.F ht⟩) hS.2.2 dX4_isFloats_7 (hlocks := F.1.k)
set_option maxHeartbeats 4000000 in
theorem mX4_isFloats {l : Launch} {D : DD} {A : Nat → Prop} {s0 : State} {ad : AD} {V : CV} {a0 : Nat} {Q : Int32 → CV → Prop} (hw : wX4_isFloats a0 V Q) : Met l yX4_isFloats (ws_ yX4_isFloats cX4_isFloats 1 (some .boolean)) rX4_isFloats (va_Pc [.ref a0] (fun U => cB D A ad V U.heap ∧ CX l D A s0 U)) (va_Qi Q (fun u t => cB D A ad u t.heap) A) 0 0 A := by
  refine Met.ofW (cc := cX4_isFloats) (maxL := 1) (ret := some .boolean) (by decide) rfl ?_
  intro p e s m args below meth c s₁ B hml hv
  obtain ⟨rfl, hB, hC⟩ := hv
  have F : FX p l c cX4_isFloats s _ m RX4 D A s0 1 meth (some .boolean) := ⟨mk_FP B hml rfl, hC⟩
  have hS : va_S A s.heap s.heap [] := va_S.rf
  have hl := lv_entry ([.ref a0]) (n := 1) (Nat.le_of_ble_eq_true rfl)
  rw [lg_entry_eq]
  generalize (lg_sl ([.ref a0]) ++ List.replicate (1 - (lg_sl ([.ref a0])).length) Slot.unset).toArray = ls at hl ⊢
  exact bX4_isFloats_0 F hB hS hw hl
theorem kX0_X4_isFloats {p : Program} {l : Launch} {e : Env} {R : Room} {s : State} {m : MethodId} {args : Array Value} {below : List Frame} {meth : Method} {c : Code} {H : Heap} {locs : List Loc} {cells slots : Nat} {Q0 : State → Prop} {cc : ByteArray} {pc nL : Nat} {ls : Array Slot} {rest : List Value} {ret : Option FieldType} {D : DD} {A : Nat → Prop} {s0 : State} {ad : AD} {V : CV} {a0 : Nat} {Q : Int32 → CV → Prop} (F : FX p l c cc s args m RX0 D A s0 nL meth ret) (hB : cB D A ad V H) (hS : va_S A s.heap H locs) {fs : List Value} (hm : vM V a0 = some (.inr (4, fs))) (hw : wX4_isFloats a0 V Q) (hR : rX4_isFloats.frames + 1 ≤ R.frames ∧ 8 + (1 + 11) + rX4_isFloats.locals ≤ R.locals) (hc : cells + 0 ≤ R.cells ∧ slots + 0 ≤ R.slots) (hsz : ls.size = nL) (hW : (rest.map fun v => v.category).sum ≤ 8) (hdg : decode cc pc = .ok (.invokevirtual 451, 3)) (kk : ∀ (r : Int32) (u : CV) (H1 : Heap) (locs1 : List Loc), Q r u → cB D A ad u H1 → va_S A s.heap H1 locs1 → W p l e R s m args below meth c H1 locs1 cells slots Q0 (F0 m (pc + 3) ls (.int r :: rest))) : W p l e R s m args below meth c H locs cells slots Q0 (F0 m pc ls (.ref a0 :: rest)) :=
  k_i (Bw := cB D A ad) (k_runV (Bw := cB D A ad) (n := 0) (As := []) F hB hS (c_at F (hB.dyn hm) rfl) (mX4_isFloats hw) q1033 q1025 q1026 q90 q1027 (by decide +kernel) hR ⟨rfl, rfl⟩ hc rfl hsz rfl hW hdg) hS kk
theorem kX4_X4_isFloats {p : Program} {l : Launch} {e : Env} {R : Room} {s : State} {m : MethodId} {args : Array Value} {below : List Frame} {meth : Method} {c : Code} {H : Heap} {locs : List Loc} {cells slots : Nat} {Q0 : State → Prop} {cc : ByteArray} {pc nL : Nat} {ls : Array Slot} {rest : List Value} {ret : Option FieldType} {D : DD} {A : Nat → Prop} {s0 : State} {ad : AD} {V : CV} {a0 : Nat} {Q : Int32 → CV → Prop} (F : FX p l c cc s args m RX4 D A s0 nL meth ret) (hB : cB D A ad V H) (hS : va_S A s.heap H locs) {fs : List Value} (hm : vM V a0 = some (.inr (4, fs))) (hw : wX4_isFloats a0 V Q) (hR : rX4_isFloats.frames + 1 ≤ R.frames ∧ 8 + (1 + 11) + rX4_isFloats.locals ≤ R.locals) (hc : cells + 0 ≤ R.cells ∧ slots + 0 ≤ R.slots) (hsz : ls.size = nL) (hW : (rest.map fun v => v.category).sum ≤ 8) (hdg : decode cc pc = .ok (.invokevirtual 15, 3)) (kk : ∀ (r : Int32) (u : CV) (H1 : Heap) (locs1 : List Loc), Q r u → cB D A ad u H1 → va_S A s.heap H1 locs1 → W p l e R s m args below meth c H1 locs1 cells slots Q0 (F0 m (pc + 3) ls (.int r :: rest))) : W p l e R s m args below meth c H locs cells slots Q0 (F0 m pc ls (.ref a0 :: rest)) :=
  k_i (Bw := cB D A ad) (k_runV (Bw := cB D A ad) (n := 0) (As := []) F hB hS (c_at F (hB.dyn hm) rfl) (mX4_isFloats hw) q1024 q1025 q1026 q90 q1027 (by decide +kernel) hR ⟨rfl, rfl⟩ hc rfl hsz rfl hW hdg) hS kk
def rX0_carries : Room := { frames := 1, cells := 0, slots := 0, locals := 60 }
set_option maxHeartbeats 4000000 in
theorem bX0_carries_81 {p : Program} {l : Launch} {e : Env} {s : State} {m : MethodId} {args : Array Value} {below : List Frame} {meth : Method} {c : Code} {D : DD} {A : Nat → Prop} {s0 : State} {ad : AD} {Q : CV → Prop} (F : FX p l c cX0_carries s args m RX0 D A s0 9 meth (none)) : ∀ (n : Nat) (l4 : Int32) (l5 : Int32) (l7 : Nat) (l8 : Int32) (V : CV), wX0_carries_81 Q n l4 l5 l7 l8 V → ∀ (H : Heap) (locs : List Loc) (ls : Array Slot), cB D A ad V H → va_S A s.heap H locs → lv_has ls 9 [(0, .ref (ad 0 0 0)), (4, .int l4), (5, .int l5), (7, .ref l7), (8, .int l8)] → W p l e rX0_carries s m args below meth c H locs 0 0 (MQ below (va_Qv Q (fun u t => cB D A ad u t.heap) A) args s 0 0 A) (F0 m 81 ls []) := by
  have hx := F.1.x
  have hb := F.1.b
  intro n
  induction n with
  | zero => intro l4 l5 l7 l8 V hw; exact hw.elim
  | succ n ih =>
    intro l4 l5 l7 l8 V hw H locs ls hB hS hl
    unfold wX0_carries_81 at hw
    refine lv_iload hx hb dX0_carries_81 (lv_at hl 4 rfl) ?_
    refine lv_iload hx hb dX0_carries_83 (lv_at hl 2 rfl) ?_
    refine lv_icmp_ge (tgt := 109) hx hb dX0_carries_85 (by decide) (fun q => ?_) (fun q => ?_)
    · replace hw := hw.1 q
      exact W.vret hx hb F.1.r (fun t ht hW => ⟨⟨_, rfl, hw, x_B (Bw := cB D A ad) ht hB⟩, hS.F ht⟩) hS.2.2 dX0_carries_109 (hlocks := F.1.k)
    · replace hw := hw.2 q
      refine lv_aload hx hb dX0_carries_88 (lv_at hl 3 rfl) ?_
      refine lv_iload hx hb dX0_carries_90 (lv_at hl 1 rfl) ?_
      refine lv_iload hx hb dX0_carries_92 (lv_at hl 4 rfl) ?_
      refine lv_iadd hx hb dX0_carries_94 ?_
      refine lv_aload_n hx hb dX0_carries_95 rfl (lv_at hl 0 rfl) ?_
      refine cg_X0_91 F hB dX0_carries_96 ?_
      refine lv_iload hx hb dX0_carries_99 (lv_at hl 4 rfl) ?_
      obtain ⟨hin1, hw⟩ := hw
      refine cl_21 F hB hin1 dX0_carries_101 ?_
      obtain ⟨n3, f4, hm5, hw⟩ := hw
      obtain ⟨hin2, hw⟩ := hw
      refine dt_F F hB hS hm5 hin2 dX0_carries_102 (fun H locs hB hS => ?_)
      refine lv_iinc (v := l8 + (1 : Int32)) (lv' := [(8, .int (l8 + (1 : Int32))), (0, .ref (ad 0 0 0)), (4, .int l4), (5, .int l5), (7, .ref l7)]) hx hb dX0_carries_103 hl (k := 4) rfl (x_inc (by decide)) (by decide) rfl (fun ls hl => ?_)
      refine lv_goto (tgt := 81) hx hb dX0_carries_106 (by decide) ?_
      exact ih _ _ _ _ _ hw _ _ _ hB hS (lv_sub hl [1, 2, 3, 4, 0] rfl)
set_option maxHeartbeats 4000000 in
theorem bX0_carries_51 {p : Program} {l : Launch} {e : Env} {s : State} {m : MethodId} {args : Array Value} {below : List Frame} {meth : Method} {c : Code} {D : DD} {A : Nat → Prop} {s0 : State} {ad : AD} {Q : CV → Prop} (F : FX p l c cX0_carries s args m RX0 D A s0 9 meth (none)) : ∀ (n : Nat) (l2 : Int32) (l4 : Int32) (l5 : Int32) (l6 : Nat) (l7 : Nat) (l8 : Int32) (V : CV), wX0_carries_51 Q n l2 l4 l5 l6 l7 l8 V → ∀ (H : Heap) (locs : List Loc) (ls : Array Slot), cB D A ad V H → va_S A s.heap H locs → lv_has ls 9 [(0, .ref (ad 0 0 0)), (2, .int l2), (4, .int l4), (5, .int l5), (6, .ref l6), (7, .ref l7), (8, .int l8)] → W p l e rX0_carries s m args below meth c H locs 0 0 (MQ below (va_Qv Q (fun u t => cB D A ad u t.heap) A) args s 0 0 A) (F0 m 51 ls []) := by
  have hx := F.1.x
  have hb := F.1.b
  intro n
  induction n with
  | zero => intro l2 l4 l5 l6 l7 l8 V hw; exact hw.elim
  | succ n ih =>
    intro l2 l4 l5 l6 l7 l8 V hw H locs ls hB hS hl
    unfold wX0_carries_51 at hw
    refine lv_iload hx hb dX0_carries_51 (lv_at hl 6 rfl) ?_
    refine lv_iload hx hb dX0_carries_53 (lv_at hl 3 rfl) ?_
    refine lv_icmp_ge (tgt := 78) hx hb dX0_carries_55 (by decide) (fun q => ?_) (fun q => ?_)
    · replace hw := hw.1 q
      refine lv_iconst (v := 0) hx hb dX0_carries_78 (by decide) ?_
      refine lv_istore (lv' := [(8, .int (0 : Int32)), (0, .ref (ad 0 0 0)), (2, .int l2), (4, .int l4), (5, .int l5), (6, .ref l6), (7, .ref l7)]) hx hb dX0_carries_79 hl (by decide) rfl (fun ls hl => ?_)
      obtain ⟨f_81, hw⟩ := hw
      exact bX0_carries_81 F f_81 _ _ _ _ _ hw _ _ _ hB hS (lv_sub hl [1, 3, 4, 6, 0] rfl)
    · replace hw := hw.2 q
      refine lv_aload_n hx hb dX0_carries_58 rfl (lv_at hl 0 rfl) ?_
      refine cg_X0_91 F hB dX0_carries_59 ?_
      refine lv_iload hx hb dX0_carries_62 (lv_at hl 6 rfl) ?_
      refine lv_aload hx hb dX0_carries_64 (lv_at hl 4 rfl) ?_
      refine lv_iload_n hx hb dX0_carries_66 rfl (lv_at hl 1 rfl) ?_
      refine lv_iload hx hb dX0_carries_67 (lv_at hl 6 rfl) ?_
      refine lv_iadd hx hb dX0_carries_69 ?_
      obtain ⟨n2, f3, hm4, hw⟩ := hw
      obtain ⟨hin1, hw⟩ := hw
      refine dl_F F hB hm4 hin1 dX0_carries_70 ?_
      obtain ⟨hin5, hw⟩ := hw
      refine ct_21 F hB hS hin5 dX0_carries_71 (fun H locs hB hS => ?_)
      refine lv_iinc (v := l8 + (1 : Int32)) (lv' := [(8, .int (l8 + (1 : Int32))), (0, .ref (ad 0 0 0)), (2, .int l2), (4, .int l4), (5, .int l5), (6, .ref l6), (7, .ref l7)]) hx hb dX0_carries_72 hl (k := 6) rfl (x_inc (by decide)) (by decide) rfl (fun ls hl => ?_)
      refine lv_goto (tgt := 51) hx hb dX0_carries_75 (by decide) ?_
      exact ih _ _ _ _ _ _ _ hw _ _ _ hB hS (lv_sub hl [1, 2, 3, 4, 5, 6, 0] rfl)
set_option maxHeartbeats 4000000 in
theorem bX0_carries_0 {p : Program} {l : Launch} {e : Env} {s : State} {m : MethodId} {args : Array Value} {below : List Frame} {meth : Method} {c : Code} {D : DD} {A : Nat → Prop} {s0 : State} {ad : AD} {Q : CV → Prop} {a1 : Nat} {a2 : Int32} {a3 : Nat} {a4 : Int32} {a5 : Int32} {V : CV} {H : Heap} {locs : List Loc} {ls : Array Slot} (F : FX p l c cX0_carries s args m RX0 D A s0 9 meth (none)) (hB : cB D A ad V H) (hS : va_S A s.heap H locs) (hw : wX0_carries a1 a2 a3 a4 a5 V Q) (hl : lv_has ls 9 [(0, .ref (ad 0 0 0)), (1, .ref a1), (2, .int a2), (3, .ref a3), (4, .int a4), (5, .int a5)]) : W p l e rX0_carries s m args below meth c H locs 0 0 (MQ below (va_Qv Q (fun u t => cB D A ad u t.heap) A) args s 0 0 A) (F0 m 0 ls []) := by
  have hx := F.1.x
  have hb := F.1.b
  unfold wX0_carries at hw
  refine lv_aload_n hx hb dX0_carries_0 rfl (lv_at hl 1 rfl) ?_
  obtain ⟨f2, hm3, hw⟩ := hw
  refine kX0_X4_isFloats F hB hS hm3 hw ⟨Nat.le_of_ble_eq_true rfl, Nat.le_of_ble_eq_true rfl⟩ ⟨Nat.zero_le _, Nat.zero_le _⟩ hl.1 (Nat.le_of_ble_eq_true rfl) dX0_carries_1 (fun r1 V4 H locs hw hB hS => ?_)
  refine lv_if_ne (tgt := 30) hx hb dX0_carries_4 (by decide) (fun q => ?_) (fun q => ?_)
  · replace hw := hw.2 q
    refine lv_aload_n hx hb dX0_carries_30 rfl (lv_at hl 1 rfl) ?_
    obtain ⟨f5, hm6, hw⟩ := hw
    refine cg_X0_440 F hB hm6 dX0_carries_31 ?_
    obtain ⟨y7, e8, hw⟩ := hw
    refine W.eq (g2 := F0 m 34 ls [.ref y7]) (congrArg (fun z => F0 m 34 ls [va_rf z]) e8) ?_
    obtain ⟨n9, f10, hm11, hw⟩ := hw
    refine dc_F F hB hm11 q1034 dX0_carries_34 ?_
    refine lv_astore (lv' := [(6, .ref y7), (0, .ref (ad 0 0 0)), (1, .ref a1), (2, .int a2), (3, .ref a3), (4, .int a4), (5, .int a5)]) hx hb dX0_carries_37 hl (by decide) rfl (fun ls hl => ?_)
    refine lv_aload_n hx hb dX0_carries_39 rfl (lv_at hl 4 rfl) ?_
    obtain ⟨f12, hm13, hw⟩ := hw
    refine cg_X0_440 F hB hm13 dX0_carries_40 ?_
    obtain ⟨y14, e15, hw⟩ := hw
    refine W.eq (g2 := F0 m 43 ls [.ref y14]) (congrArg (fun z => F0 m 43 ls [va_rf z]) e15) ?_
    obtain ⟨n16, f17, hm18, hw⟩ := hw
    refine dc_F F hB hm18 q1034 dX0_carries_43 ?_
    refine lv_astore (lv' := [(7, .ref y14), (6, .ref y7), (0, .ref (ad 0 0 0)), (1, .ref a1), (2, .int a2), (3, .ref a3), (4, .int a4), (5, .int a5)]) hx hb dX0_carries_46 hl (by decide) rfl (fun ls hl => ?_)
    refine lv_iconst (v := 0) hx hb dX0_carries_48 (by decide) ?_
    refine lv_istore (lv' := [(8, .int (0 : Int32)), (7, .ref y14), (6, .ref y7), (0, .ref (ad 0 0 0)), (1, .ref a1), (2, .int a2), (3, .ref a3), (4, .int a4), (5, .int a5)]) hx hb dX0_carries_49 hl (by decide) rfl (fun ls hl => ?_)
    obtain ⟨f_51, hw⟩ := hw
    exact bX0_carries_51 F f_51 _ _ _ _ _ _ _ hw _ _ _ hB hS (lv_sub hl [3, 5, 7, 8, 2, 1, 0] rfl)
  · replace hw := hw.1 q
    refine lv_aload_n hx hb dX0_carries_7 rfl (lv_at hl 1 rfl) ?_
    obtain ⟨f19, hm20, hw⟩ := hw
    refine cg_X0_440 F hB hm20 dX0_carries_8 ?_
    obtain ⟨y21, e22, hw⟩ := hw
    refine W.eq (g2 := F0 m 11 ls [.ref y21]) (congrArg (fun z => F0 m 11 ls [va_rf z]) e22) ?_
    obtain ⟨n23, f24, hm25, hw⟩ := hw
    refine dc_H F hB hm25 q1066 dX0_carries_11 ?_
    refine lv_iload_n hx hb dX0_carries_14 rfl (lv_at hl 2 rfl) ?_
    refine lv_aload_n hx hb dX0_carries_15 rfl (lv_at hl 3 rfl) ?_
    obtain ⟨f26, hm27, hw⟩ := hw
    refine cg_X0_440 F hB hm27 dX0_carries_16 ?_
    obtain ⟨y28, e29, hw⟩ := hw
    refine W.eq (g2 := F0 m 19 ls [.ref y28, .int a2, .ref y21]) (congrArg (fun z => F0 m 19 ls [va_rf z, .int a2, .ref y21]) e29) ?_
    obtain ⟨n30, f31, hm32, hw⟩ := hw
    refine dc_H F hB hm32 q1066 dX0_carries_19 ?_
    refine lv_iload hx hb dX0_carries_22 (lv_at hl 4 rfl) ?_
    refine lv_iload hx hb dX0_carries_24 (lv_at hl 5 rfl) ?_
    obtain ⟨h33, h34, h35, h36, h37, h38, hw⟩ := hw
    refine cy_H F hB hS hl.1 q674 hm25 hm32 h33 h34 h35 h36 h37 h38 (Nat.le_of_ble_eq_true rfl) (Nat.le_of_ble_eq_true rfl) dX0_carries_26 (fun H locs hB hS => ?_)
    exact W.vret hx hb F.1.r (fun t ht hW => ⟨⟨_, rfl, hw, x_B (Bw := cB D A ad) ht hB⟩, hS.F ht⟩) hS.2.2 dX0_carries_29 (hlocks := F.1.k)
set_option maxHeartbeats 4000000 in
theorem mX0_carries {l : Launch} {D : DD} {A : Nat → Prop} {s0 : State} {ad : AD} {V : CV} {a1 : Nat} {a2 : Int32} {a3 : Nat} {a4 : Int32} {a5 : Int32} {Q : CV → Prop} (hw : wX0_carries a1 a2 a3 a4 a5 V Q) : Met l yX0_carries (ws_ yX0_carries cX0_carries 9 (none)) rX0_carries (va_Pc [.ref (ad 0 0 0), .ref a1, .int a2, .ref a3, .int a4, .int a5] (fun U => cB D A ad V U.heap ∧ CX l D A s0 U)) (va_Qv Q (fun u t => cB D A ad u t.heap) A) 0 0 A := by
  refine Met.ofW (cc := cX0_carries) (maxL := 9) (ret := none) (by decide) rfl ?_
  intro p e s m args below meth c s₁ B hml hv
  obtain ⟨rfl, hB, hC⟩ := hv
  have F : FX p l c cX0_carries s _ m RX0 D A s0 9 meth (none) := ⟨mk_FP B hml rfl, hC⟩
  have hS : va_S A s.heap s.heap [] := va_S.rf
  have hl := lv_entry ([.ref (ad 0 0 0), .ref a1, .int a2, .ref a3, .int a4, .int a5]) (n := 9) (Nat.le_of_ble_eq_true rfl)
  rw [lg_entry_eq]
  generalize (lg_sl ([.ref (ad 0 0 0), .ref a1, .int a2, .ref a3, .int a4, .int a5]) ++ List.replicate (9 - (lg_sl ([.ref (ad 0 0 0), .ref a1, .int a2, .ref a3, .int a4, .int a5])).length) Slot.unset).toArray = ls at hl ⊢
  exact bX0_carries_0 F hB hS hw hl
theorem kX0_X0_carries {p : Program} {l : Launch} {e : Env} {R : Room} {s : State} {m : MethodId} {args : Array Value} {below : List Frame} {meth : Method} {c : Code} {H : Heap} {locs : List Loc} {cells slots : Nat} {Q0 : State → Prop} {cc : ByteArray} {pc nL : Nat} {ls : Array Slot} {rest : List Value} {ret : Option FieldType} {D : DD} {A : Nat → Prop} {s0 : State} {ad : AD} {V : CV} {a1 : Nat} {a2 : Int32} {a3 : Nat} {a4 : Int32} {a5 : Int32} {Q : CV → Prop} (F : FX p l c cc s args m RX0 D A s0 nL meth ret) (hB : cB D A ad V H) (hS : va_S A s.heap H locs) (hw : wX0_carries a1 a2 a3 a4 a5 V Q) (hR : rX0_carries.frames + 1 ≤ R.frames ∧ 8 + (9 + 11) + rX0_carries.locals ≤ R.locals) (hc : cells + 0 ≤ R.cells ∧ slots + 0 ≤ R.slots) (hsz : ls.size = nL) (hW : (rest.map fun v => v.category).sum ≤ 8) (hdg : decode cc pc = .ok (.invokevirtual 483, 3)) (kk : ∀ (u : CV) (H1 : Heap) (locs1 : List Loc), Q u → cB D A ad u H1 → va_S A s.heap H1 locs1 → W p l e R s m args below meth c H1 locs1 cells slots Q0 (F0 m (pc + 3) ls (rest))) : W p l e R s m args below meth c H locs cells slots Q0 (F0 m pc ls (.int a5 :: .int a4 :: .ref a3 :: .int a2 :: .ref a1 :: .ref (ad 0 0 0) :: rest)) :=
  k_v (Bw := cB D A ad) (k_runV (Bw := cB D A ad) (n := 5) (As := [.ref a1, .int a2, .ref a3, .int a4, .int a5]) F hB hS (c_at F (hB.pic cpic0) rfl) (mX0_carries hw) q1062 q1064 qs36 q83 q1065 (by decide +kernel) hR ⟨rfl, rfl⟩ hc rfl hsz rfl hW hdg) hS kk
def rX0_findFollowers : Room := { frames := 1, cells := 0, slots := 0, locals := 60 }
set_option maxHeartbeats 4000000 in
theorem bX0_findFollowers_109 {p : Program} {l : Launch} {e : Env} {s : State} {m : MethodId} {args : Array Value} {below : List Frame} {meth : Method} {c : Code} {D : DD} {A : Nat → Prop} {s0 : State} {ad : AD} {Q : CV → Prop} {k_20 : Int32 → CV → Prop} {k_28 : Int32 → Int32 → CV → Prop} {l2 : Int32} {l3 : Int32} {k0 : Int32} {V : CV} {H : Heap} {locs : List Loc} {ls : Array Slot} (F : FX p l c cX0_findFollowers s args m RX0 D A s0 5 meth (none)) (h_20 : ∀ (l1 : Int32) (V : CV), k_20 l1 V → ∀ (H : Heap) (locs : List Loc) (ls : Array Slot), cB D A ad V H → va_S A s.heap H locs → lv_has ls 5 [(0, .ref (ad 0 0 0)), (1, .int l1)] → W p l e rX0_findFollowers s m args below meth c H locs 0 0 (MQ below (va_Qv Q (fun u t => cB D A ad u t.heap) A) args s 0 0 A) (F0 m 20 ls [])) (h_28 : ∀ (l1 : Int32) (l2 : Int32) (V : CV), k_28 l1 l2 V → ∀ (H : Heap) (locs : List Loc) (ls : Array Slot), cB D A ad V H → va_S A s.heap H locs → lv_has ls 5 [(0, .ref (ad 0 0 0)), (1, .int l1), (2, .int l2)] → W p l e rX0_findFollowers s m args below meth c H locs 0 0 (MQ below (va_Qv Q (fun u t => cB D A ad u t.heap) A) args s 0 0 A) (F0 m 28 ls [])) (hB : cB D A ad V H) (hS : va_S A s.heap H locs) (hw : wX0_findFollowers_109 k_20 k_28 l2 l3 k0 V Q) (hl : lv_has ls 5 [(0, .ref (ad 0 0 0)), (2, .int l2), (3, .int l3)]) : W p l e rX0_findFollowers s m args below meth c H locs 0 0 (MQ below (va_Qv Q (fun u t => cB D A ad u t.heap) A) args s 0 0 A) (F0 m 109 ls [.int k0]) := by
  have hx := F.1.x
  have hb := F.1.b
  unfold wX0_findFollowers_109 at hw
  refine lv_istore_n (lv' := [(1, .int k0), (0, .ref (ad 0 0 0)), (2, .int l2), (3, .int l3)]) hx hb dX0_findFollowers_109 rfl hl (by decide) rfl (fun ls hl => ?_)
  refine lv_aload_n hx hb dX0_findFollowers_110 rfl (lv_at hl 1 rfl) ?_
  refine cg_X0_74 F hB dX0_findFollowers_111 ?_
  refine lv_iload_n hx hb dX0_findFollowers_114 rfl (lv_at hl 2 rfl) ?_
  refine lv_iload_n hx hb dX0_findFollowers_115 rfl (lv_at hl 3 rfl) ?_
  obtain ⟨hin1, hw⟩ := hw
  refine ct_16 F hB hS hin1 dX0_findFollowers_116 (fun H locs hB hS => ?_)
  refine lv_iinc (v := l2 + (1 : Int32)) (lv' := [(2, .int (l2 + (1 : Int32))), (1, .int k0), (0, .ref (ad 0 0 0)), (3, .int l3)]) hx hb dX0_findFollowers_117 hl (k := 2) rfl (x_inc (by decide)) (by decide) rfl (fun ls hl => ?_)
  refine lv_goto (tgt := 28) hx hb dX0_findFollowers_120 (by decide) ?_
  exact h_28 _ _ _ hw _ _ _ hB hS (lv_sub hl [2, 1, 0] rfl)
set_option maxHeartbeats 4000000 in
theorem bX0_findFollowers_104 {p : Program} {l : Launch} {e : Env} {s : State} {m : MethodId} {args : Array Value} {below : List Frame} {meth : Method} {c : Code} {D : DD} {A : Nat → Prop} {s0 : State} {ad : AD} {Q : CV → Prop} {k_20 : Int32 → CV → Prop} {k_28 : Int32 → Int32 → CV → Prop} {l2 : Int32} {l3 : Int32} {V : CV} {H : Heap} {locs : List Loc} {ls : Array Slot} (F : FX p l c cX0_findFollowers s args m RX0 D A s0 5 meth (none)) (h_20 : ∀ (l1 : Int32) (V : CV), k_20 l1 V → ∀ (H : Heap) (locs : List Loc) (ls : Array Slot), cB D A ad V H → va_S A s.heap H locs → lv_has ls 5 [(0, .ref (ad 0 0 0)), (1, .int l1)] → W p l e rX0_findFollowers s m args below meth c H locs 0 0 (MQ below (va_Qv Q (fun u t => cB D A ad u t.heap) A) args s 0 0 A) (F0 m 20 ls [])) (h_28 : ∀ (l1 : Int32) (l2 : Int32) (V : CV), k_28 l1 l2 V → ∀ (H : Heap) (locs : List Loc) (ls : Array Slot), cB D A ad V H → va_S A s.heap H locs → lv_has ls 5 [(0, .ref (ad 0 0 0)), (1, .int l1), (2, .int l2)] → W p l e rX0_findFollowers s m args below meth c H locs 0 0 (MQ below (va_Qv Q (fun u t => cB D A ad u t.heap) A) args s 0 0 A) (F0 m 28 ls [])) (hB : cB D A ad V H) (hS : va_S A s.heap H locs) (hw : wX0_findFollowers_104 k_20 k_28 l2 l3 V Q) (hl : lv_has ls 5 [(0, .ref (ad 0 0 0)), (2, .int l2), (3, .int l3)]) : W p l e rX0_findFollowers s m args below meth c H locs 0 0 (MQ below (va_Qv Q (fun u t => cB D A ad u t.heap) A) args s 0 0 A) (F0 m 104 ls []) := by
  have hx := F.1.x
  have hb := F.1.b
  unfold wX0_findFollowers_104 at hw
  refine lv_iconst (v := 1) hx hb dX0_findFollowers_104 (by decide) ?_
  refine lv_goto (tgt := 109) hx hb dX0_findFollowers_105 (by decide) ?_
  exact bX0_findFollowers_109 F h_20 h_28 hB hS hw hl
set_option maxHeartbeats 4000000 in
theorem bX0_findFollowers_82 {p : Program} {l : Launch} {e : Env} {s : State} {m : MethodId} {args : Array Value} {below : List Frame} {meth : Method} {c : Code} {D : DD} {A : Nat → Prop} {s0 : State} {ad : AD} {Q : CV → Prop} {k_20 : Int32 → CV → Prop} {k_28 : Int32 → Int32 → CV → Prop} {k_49 : Int32 → Int32 → Int32 → Int32 → CV → Prop} {l1 : Int32} {l2 : Int32} {l4 : Int32} {k0 : Int32} {k1 : Int32} {V : CV} {H : Heap} {locs : List Loc} {ls : Array Slot} (F : FX p l c cX0_findFollowers s args m RX0 D A s0 5 meth (none)) (h_20 : ∀ (l1 : Int32) (V : CV), k_20 l1 V → ∀ (H : Heap) (locs : List Loc) (ls : Array Slot), cB D A ad V H → va_S A s.heap H locs → lv_has ls 5 [(0, .ref (ad 0 0 0)), (1, .int l1)] → W p l e rX0_findFollowers s m args below meth c H locs 0 0 (MQ below (va_Qv Q (fun u t => cB D A ad u t.heap) A) args s 0 0 A) (F0 m 20 ls [])) (h_28 : ∀ (l1 : Int32) (l2 : Int32) (V : CV), k_28 l1 l2 V → ∀ (H : Heap) (locs : List Loc) (ls : Array Slot), cB D A ad V H → va_S A s.heap H locs → lv_has ls 5 [(0, .ref (ad 0 0 0)), (1, .int l1), (2, .int l2)] → W p l e rX0_findFollowers s m args below meth c H locs 0 0 (MQ below (va_Qv Q (fun u t => cB D A ad u t.heap) A) args s 0 0 A) (F0 m 28 ls [])) (h_49 : ∀ (l1 : Int32) (l2 : Int32) (l3 : Int32) (l4 : Int32) (V : CV), k_49 l1 l2 l3 l4 V → ∀ (H : Heap) (locs : List Loc) (ls : Array Slot), cB D A ad V H → va_S A s.heap H locs → lv_has ls 5 [(0, .ref (ad 0 0 0)), (1, .int l1), (2, .int l2), (3, .int l3), (4, .int l4)] → W p l e rX0_findFollowers s m args below meth c H locs 0 0 (MQ below (va_Qv Q (fun u t => cB D A ad u t.heap) A) args s 0 0 A) (F0 m 49 ls [])) (hB : cB D A ad V H) (hS : va_S A s.heap H locs) (hw : wX0_findFollowers_82 k_20 k_28 k_49 l1 l2 l4 k0 k1 V Q) (hl : lv_has ls 5 [(0, .ref (ad 0 0 0)), (1, .int l1), (2, .int l2), (4, .int l4)]) : W p l e rX0_findFollowers s m args below meth c H locs 0 0 (MQ below (va_Qv Q (fun u t => cB D A ad u t.heap) A) args s 0 0 A) (F0 m 82 ls [.int k0, .int k1]) := by
  have hx := F.1.x
  have hb := F.1.b
  unfold wX0_findFollowers_82 at hw
  refine lv_ior hx hb dX0_findFollowers_82 ?_
  refine lv_istore_n (lv' := [(3, .int (k1 ||| k0)), (0, .ref (ad 0 0 0)), (1, .int l1), (2, .int l2), (4, .int l4)]) hx hb dX0_findFollowers_83 rfl hl (by decide) rfl (fun ls hl => ?_)
  refine lv_iinc (v := l4 + (1 : Int32)) (lv' := [(4, .int (l4 + (1 : Int32))), (3, .int (k1 ||| k0)), (0, .ref (ad 0 0 0)), (1, .int l1), (2, .int l2)]) hx hb dX0_findFollowers_84 hl (k := 4) rfl (x_inc (by decide)) (by decide) rfl (fun ls hl => ?_)
  refine lv_goto (tgt := 49) hx hb dX0_findFollowers_87 (by decide) ?_
  exact h_49 _ _ _ _ _ hw _ _ _ hB hS (lv_sub hl [2, 3, 4, 1, 0] rfl)
set_option maxHeartbeats 4000000 in
theorem bX0_findFollowers_49 {p : Program} {l : Launch} {e : Env} {s : State} {m : MethodId} {args : Array Value} {below : List Frame} {meth : Method} {c : Code} {D : DD} {A : Nat → Prop} {s0 : State} {ad : AD} {Q : CV → Prop} {k_20 : Int32 → CV → Prop} {k_28 : Int32 → Int32 → CV → Prop} (F : FX p l c cX0_findFollowers s args m RX0 D A s0 5 meth (none)) (h_20 : ∀ (l1 : Int32) (V : CV), k_20 l1 V → ∀ (H : Heap) (locs : List Loc) (ls : Array Slot), cB D A ad V H → va_S A s.heap H locs → lv_has ls 5 [(0, .ref (ad 0 0 0)), (1, .int l1)] → W p l e rX0_findFollowers s m args below meth c H locs 0 0 (MQ below (va_Qv Q (fun u t => cB D A ad u t.heap) A) args s 0 0 A) (F0 m 20 ls [])) (h_28 : ∀ (l1 : Int32) (l2 : Int32) (V : CV), k_28 l1 l2 V → ∀ (H : Heap) (locs : List Loc) (ls : Array Slot), cB D A ad V H → va_S A s.heap H locs → lv_has ls 5 [(0, .ref (ad 0 0 0)), (1, .int l1), (2, .int l2)] → W p l e rX0_findFollowers s m args below meth c H locs 0 0 (MQ below (va_Qv Q (fun u t => cB D A ad u t.heap) A) args s 0 0 A) (F0 m 28 ls [])) : ∀ (n : Nat) (l1 : Int32) (l2 : Int32) (l3 : Int32) (l4 : Int32) (V : CV), wX0_findFollowers_49 k_20 k_28 Q n l1 l2 l3 l4 V → ∀ (H : Heap) (locs : List Loc) (ls : Array Slot), cB D A ad V H → va_S A s.heap H locs → lv_has ls 5 [(0, .ref (ad 0 0 0)), (1, .int l1), (2, .int l2), (3, .int l3), (4, .int l4)] → W p l e rX0_findFollowers s m args below meth c H locs 0 0 (MQ below (va_Qv Q (fun u t => cB D A ad u t.heap) A) args s 0 0 A) (F0 m 49 ls []) := by
  have hx := F.1.x
  have hb := F.1.b
  intro n
  induction n with
  | zero => intro l1 l2 l3 l4 V hw; exact hw.elim
  | succ n ih =>
    intro l1 l2 l3 l4 V hw H locs ls hB hS hl
    unfold wX0_findFollowers_49 at hw
    refine lv_iload hx hb dX0_findFollowers_49 (lv_at hl 4 rfl) ?_
    refine lv_aload_n hx hb dX0_findFollowers_51 rfl (lv_at hl 0 rfl) ?_
    refine cg_X0_46 F hB dX0_findFollowers_52 ?_
    refine cg_X0_101 F hB (by decide) dX0_findFollowers_55 ?_
    refine lv_icmp_ge (tgt := 90) hx hb dX0_findFollowers_58 (by decide) (fun q => ?_) (fun q => ?_)
    · replace hw := hw.1 q
      refine lv_iload_n hx hb dX0_findFollowers_90 rfl (lv_at hl 1 rfl) ?_
      refine lv_if_ne (tgt := 104) hx hb dX0_findFollowers_91 (by decide) (fun q => ?_) (fun q => ?_)
      · replace hw := hw.2 q
        exact bX0_findFollowers_104 F h_20 h_28 hB hS hw (lv_sub hl [0, 2, 3] rfl)
      · replace hw := hw.1 q
        refine lv_iload_n hx hb dX0_findFollowers_94 rfl (lv_at hl 3 rfl) ?_
        refine lv_aload_n hx hb dX0_findFollowers_95 rfl (lv_at hl 0 rfl) ?_
        refine cg_X0_74 F hB dX0_findFollowers_96 ?_
        refine lv_iload_n hx hb dX0_findFollowers_99 rfl (lv_at hl 2 rfl) ?_
        obtain ⟨hin1, hw⟩ := hw
        refine cl_16 F hB hin1 dX0_findFollowers_100 ?_
        refine lv_icmp_eq (tgt := 108) hx hb dX0_findFollowers_101 (by decide) (fun q => ?_) (fun q => ?_)
        · replace hw := hw.1 q
          refine lv_iconst (v := 0) hx hb dX0_findFollowers_108 (by decide) ?_
          exact bX0_findFollowers_109 F h_20 h_28 hB hS hw (lv_sub hl [0, 2, 3] rfl)
        · replace hw := hw.2 q
          exact bX0_findFollowers_104 F h_20 h_28 hB hS hw (lv_sub hl [0, 2, 3] rfl)
    · replace hw := hw.2 q
      refine lv_iload_n hx hb dX0_findFollowers_61 rfl (lv_at hl 3 rfl) ?_
      refine lv_iload_n hx hb dX0_findFollowers_62 rfl (lv_at hl 3 rfl) ?_
      refine lv_iload hx hb dX0_findFollowers_63 (lv_at hl 4 rfl) ?_
      refine kX0_X0_has F.1 hw ⟨Nat.le_of_ble_eq_true rfl, Nat.le_of_ble_eq_true rfl⟩ ⟨Nat.zero_le _, Nat.zero_le _⟩ hl.1 (Nat.le_of_ble_eq_true rfl) dX0_findFollowers_65 (fun r2 hw => ?_)
      refine lv_if_eq (tgt := 81) hx hb dX0_findFollowers_68 (by decide) (fun q => ?_) (fun q => ?_)
      · replace hw := hw.1 q
        refine lv_iconst (v := 0) hx hb dX0_findFollowers_81 (by decide) ?_
        exact bX0_findFollowers_82 F h_20 h_28 ih hB hS hw (lv_sub hl [0, 1, 2, 4] rfl)
      · replace hw := hw.2 q
        refine lv_aload_n hx hb dX0_findFollowers_71 rfl (lv_at hl 0 rfl) ?_
        refine cg_X0_74 F hB dX0_findFollowers_72 ?_
        refine lv_iload hx hb dX0_findFollowers_75 (lv_at hl 4 rfl) ?_
        obtain ⟨hin3, hw⟩ := hw
        refine cl_16 F hB hin3 dX0_findFollowers_77 ?_
        refine lv_goto (tgt := 82) hx hb dX0_findFollowers_78 (by decide) ?_
        exact bX0_findFollowers_82 F h_20 h_28 ih hB hS hw (lv_sub hl [0, 1, 2, 4] rfl)
set_option maxHeartbeats 4000000 in
theorem bX0_findFollowers_28 {p : Program} {l : Launch} {e : Env} {s : State} {m : MethodId} {args : Array Value} {below : List Frame} {meth : Method} {c : Code} {D : DD} {A : Nat → Prop} {s0 : State} {ad : AD} {Q : CV → Prop} {k_20 : Int32 → CV → Prop} (F : FX p l c cX0_findFollowers s args m RX0 D A s0 5 meth (none)) (h_20 : ∀ (l1 : Int32) (V : CV), k_20 l1 V → ∀ (H : Heap) (locs : List Loc) (ls : Array Slot), cB D A ad V H → va_S A s.heap H locs → lv_has ls 5 [(0, .ref (ad 0 0 0)), (1, .int l1)] → W p l e rX0_findFollowers s m args below meth c H locs 0 0 (MQ below (va_Qv Q (fun u t => cB D A ad u t.heap) A) args s 0 0 A) (F0 m 20 ls [])) : ∀ (n : Nat) (l1 : Int32) (l2 : Int32) (V : CV), wX0_findFollowers_28 k_20 Q n l1 l2 V → ∀ (H : Heap) (locs : List Loc) (ls : Array Slot), cB D A ad V H → va_S A s.heap H locs → lv_has ls 5 [(0, .ref (ad 0 0 0)), (1, .int l1), (2, .int l2)] → W p l e rX0_findFollowers s m args below meth c H locs 0 0 (MQ below (va_Qv Q (fun u t => cB D A ad u t.heap) A) args s 0 0 A) (F0 m 28 ls []) := by
  have hx := F.1.x
  have hb := F.1.b
  intro n
  induction n with
  | zero => intro l1 l2 V hw; exact hw.elim
  | succ n ih =>
    intro l1 l2 V hw H locs ls hB hS hl
    unfold wX0_findFollowers_28 at hw
    refine lv_iload_n hx hb dX0_findFollowers_28 rfl (lv_at hl 2 rfl) ?_
    refine lv_aload_n hx hb dX0_findFollowers_29 rfl (lv_at hl 0 rfl) ?_
    refine cg_X0_46 F hB dX0_findFollowers_30 ?_
    refine cg_X0_101 F hB (by decide) dX0_findFollowers_33 ?_
    refine lv_icmp_ge (tgt := 123) hx hb dX0_findFollowers_36 (by decide) (fun q => ?_) (fun q => ?_)
    · replace hw := hw.1 q
      refine lv_goto (tgt := 20) hx hb dX0_findFollowers_123 (by decide) ?_
      exact h_20 _ _ hw _ _ _ hB hS (lv_sub hl [0, 1] rfl)
    · replace hw := hw.2 q
      refine lv_aload_n hx hb dX0_findFollowers_39 rfl (lv_at hl 0 rfl) ?_
      refine cg_X0_74 F hB dX0_findFollowers_40 ?_
      refine lv_iload_n hx hb dX0_findFollowers_43 rfl (lv_at hl 2 rfl) ?_
      obtain ⟨hin1, hw⟩ := hw
      refine cl_16 F hB hin1 dX0_findFollowers_44 ?_
      refine lv_istore_n (lv' := [(3, .int (vA V 16 l2.toNatClampNeg)), (0, .ref (ad 0 0 0)), (1, .int l1), (2, .int l2)]) hx hb dX0_findFollowers_45 rfl hl (by decide) rfl (fun ls hl => ?_)
      refine lv_iconst (v := 0) hx hb dX0_findFollowers_46 (by decide) ?_
      refine lv_istore (lv' := [(4, .int (0 : Int32)), (3, .int (vA V 16 l2.toNatClampNeg)), (0, .ref (ad 0 0 0)), (1, .int l1), (2, .int l2)]) hx hb dX0_findFollowers_47 hl (by decide) rfl (fun ls hl => ?_)
      obtain ⟨f_49, hw⟩ := hw
      exact bX0_findFollowers_49 F h_20 ih f_49 _ _ _ _ _ hw _ _ _ hB hS (lv_sub hl [2, 3, 4, 1, 0] rfl)
set_option maxHeartbeats 4000000 in
theorem bX0_findFollowers_20 {p : Program} {l : Launch} {e : Env} {s : State} {m : MethodId} {args : Array Value} {below : List Frame} {meth : Method} {c : Code} {D : DD} {A : Nat → Prop} {s0 : State} {ad : AD} {Q : CV → Prop} (F : FX p l c cX0_findFollowers s args m RX0 D A s0 5 meth (none)) : ∀ (n : Nat) (l1 : Int32) (V : CV), wX0_findFollowers_20 Q n l1 V → ∀ (H : Heap) (locs : List Loc) (ls : Array Slot), cB D A ad V H → va_S A s.heap H locs → lv_has ls 5 [(0, .ref (ad 0 0 0)), (1, .int l1)] → W p l e rX0_findFollowers s m args below meth c H locs 0 0 (MQ below (va_Qv Q (fun u t => cB D A ad u t.heap) A) args s 0 0 A) (F0 m 20 ls []) := by
  have hx := F.1.x
  have hb := F.1.b
  intro n
  induction n with
  | zero => intro l1 V hw; exact hw.elim
  | succ n ih =>
    intro l1 V hw H locs ls hB hS hl
    unfold wX0_findFollowers_20 at hw
    refine lv_iload_n hx hb dX0_findFollowers_20 rfl (lv_at hl 1 rfl) ?_
    refine lv_if_eq (tgt := 126) hx hb dX0_findFollowers_21 (by decide) (fun q => ?_) (fun q => ?_)
    · replace hw := hw.1 q
      exact W.vret hx hb F.1.r (fun t ht hW => ⟨⟨_, rfl, hw, x_B (Bw := cB D A ad) ht hB⟩, hS.F ht⟩) hS.2.2 dX0_findFollowers_126 (hlocks := F.1.k)
    · replace hw := hw.2 q
      refine lv_iconst (v := 0) hx hb dX0_findFollowers_24 (by decide) ?_
      refine lv_istore_n (lv' := [(1, .int (0 : Int32)), (0, .ref (ad 0 0 0))]) hx hb dX0_findFollowers_25 rfl hl (by decide) rfl (fun ls hl => ?_)
      refine lv_iconst (v := 0) hx hb dX0_findFollowers_26 (by decide) ?_
      refine lv_istore_n (lv' := [(2, .int (0 : Int32)), (1, .int (0 : Int32)), (0, .ref (ad 0 0 0))]) hx hb dX0_findFollowers_27 rfl hl (by decide) rfl (fun ls hl => ?_)
      obtain ⟨f_28, hw⟩ := hw
      exact bX0_findFollowers_28 F ih f_28 _ _ _ hw _ _ _ hB hS (lv_sub hl [2, 1, 0] rfl)
set_option maxHeartbeats 4000000 in
theorem bX0_findFollowers_0 {p : Program} {l : Launch} {e : Env} {s : State} {m : MethodId} {args : Array Value} {below : List Frame} {meth : Method} {c : Code} {D : DD} {A : Nat → Prop} {s0 : State} {ad : AD} {Q : CV → Prop} {V : CV} {H : Heap} {locs : List Loc} {ls : Array Slot} (F : FX p l c cX0_findFollowers s args m RX0 D A s0 5 meth (none)) (hB : cB D A ad V H) (hS : va_S A s.heap H locs) (hw : wX0_findFollowers V Q) (hl : lv_has ls 5 [(0, .ref (ad 0 0 0))]) : W p l e rX0_findFollowers s m args below meth c H locs 0 0 (MQ below (va_Qv Q (fun u t => cB D A ad u t.heap) A) args s 0 0 A) (F0 m 0 ls []) := by
  have hx := F.1.x
  have hb := F.1.b
  unfold wX0_findFollowers at hw
  refine lv_aload_n hx hb dX0_findFollowers_0 rfl (lv_at hl 0 rfl) ?_
  refine cg_X0_46 F hB dX0_findFollowers_1 ?_
  refine cg_X0_275 F hB (by decide) dX0_findFollowers_4 ?_
  refine lv_iconst (v := 0) hx hb dX0_findFollowers_7 (by decide) ?_
  refine lv_aload_n hx hb dX0_findFollowers_8 rfl (lv_at hl 0 rfl) ?_
  refine cg_X0_74 F hB dX0_findFollowers_9 ?_
  refine lv_iconst (v := 0) hx hb dX0_findFollowers_12 (by decide) ?_
  refine lv_bipush (v := 12) hx hb dX0_findFollowers_13 (by decide) ?_
  refine cy_16 F hB hS hl.1 q674 (by decide) (by decide) (Nat.le_of_ble_eq_true rfl) (Nat.le_of_ble_eq_true rfl) dX0_findFollowers_15 (fun H locs hB hS => ?_)
  refine lv_iconst (v := 1) hx hb dX0_findFollowers_18 (by decide) ?_
  refine lv_istore_n (lv' := [(1, .int (1 : Int32)), (0, .ref (ad 0 0 0))]) hx hb dX0_findFollowers_19 rfl hl (by decide) rfl (fun ls hl => ?_)
  obtain ⟨f_20, hw⟩ := hw
  exact bX0_findFollowers_20 F f_20 _ _ hw _ _ _ hB hS (lv_sub hl [1, 0] rfl)
set_option maxHeartbeats 4000000 in
theorem mX0_findFollowers {l : Launch} {D : DD} {A : Nat → Prop} {s0 : State} {ad : AD} {V : CV}  {Q : CV → Prop} (hw : wX0_findFollowers V Q) : Met l yX0_findFollowers (ws_ yX0_findFollowers cX0_findFollowers 5 (none)) rX0_findFollowers (va_Pc [.ref (ad 0 0 0)] (fun U => cB D A ad V U.heap ∧ CX l D A s0 U)) (va_Qv Q (fun u t => cB D A ad u t.heap) A) 0 0 A := by
  refine Met.ofW (cc := cX0_findFollowers) (maxL := 5) (ret := none) (by decide) rfl ?_
  intro p e s m args below meth c s₁ B hml hv
  obtain ⟨rfl, hB, hC⟩ := hv
  have F : FX p l c cX0_findFollowers s _ m RX0 D A s0 5 meth (none) := ⟨mk_FP B hml rfl, hC⟩
  have hS : va_S A s.heap s.heap [] := va_S.rf
  have hl := lv_entry ([.ref (ad 0 0 0)]) (n := 5) (Nat.le_of_ble_eq_true rfl)
  rw [lg_entry_eq]
  generalize (lg_sl ([.ref (ad 0 0 0)]) ++ List.replicate (5 - (lg_sl ([.ref (ad 0 0 0)])).length) Slot.unset).toArray = ls at hl ⊢
  exact bX0_findFollowers_0 F hB hS hw hl
theorem kX0_X0_findFollowers {p : Program} {l : Launch} {e : Env} {R : Room} {s : State} {m : MethodId} {args : Array Value} {below : List Frame} {meth : Method} {c : Code} {H : Heap} {locs : List Loc} {cells slots : Nat} {Q0 : State → Prop} {cc : ByteArray} {pc nL : Nat} {ls : Array Slot} {rest : List Value} {ret : Option FieldType} {D : DD} {A : Nat → Prop} {s0 : State} {ad : AD} {V : CV} {Q : CV → Prop} (F : FX p l c cc s args m RX0 D A s0 nL meth ret) (hB : cB D A ad V H) (hS : va_S A s.heap H locs) (hw : wX0_findFollowers V Q) (hR : rX0_findFollowers.frames + 1 ≤ R.frames ∧ 8 + (5 + 11) + rX0_findFollowers.locals ≤ R.locals) (hc : cells + 0 ≤ R.cells ∧ slots + 0 ≤ R.slots) (hsz : ls.size = nL) (hW : (rest.map fun v => v.category).sum ≤ 8) (hdg : decode cc pc = .ok (.invokevirtual 303, 3)) (kk : ∀ (u : CV) (H1 : Heap) (locs1 : List Loc), Q u → cB D A ad u H1 → va_S A s.heap H1 locs1 → W p l e R s m args below meth c H1 locs1 cells slots Q0 (F0 m (pc + 3) ls (rest))) : W p l e R s m args below meth c H locs cells slots Q0 (F0 m pc ls (.ref (ad 0 0 0) :: rest)) :=
  k_v (Bw := cB D A ad) (k_runV (Bw := cB D A ad) (n := 0) (As := []) F hB hS (c_at F (hB.pic cpic0) rfl) (mX0_findFollowers hw) q670 q672 qs20 q83 q673 (by decide +kernel) hR ⟨rfl, rfl⟩ hc rfl hsz rfl hW hdg) hS kk
def rX1_draw : Room := { frames := 0, cells := 0, slots := 0, locals := 0 }
set_option maxHeartbeats 4000000 in
theorem bX1_draw_0 {p : Program} {l : Launch} {e : Env} {s : State} {m : MethodId} {args : Array Value} {below : List Frame} {meth : Method} {c : Code} {D : DD} {A : Nat → Prop} {s0 : State} {ad : AD} {Q : Int32 → CV → Prop} {a0 : Nat} {V : CV} {H : Heap} {locs : List Loc} {ls : Array Slot} (F : FX p l c cX1_draw s args m RX1 D A s0 1 meth (some .int)) (hB : cB D A ad V H) (hS : va_S A s.heap H locs) (hw : wX1_draw a0 V Q) (hl : lv_has ls 1 [(0, .ref (ad 1 a0 0))]) : W p l e rX1_draw s m args below meth c H locs 0 0 (MQ below (va_Qi Q (fun u t => cB D A ad u t.heap) A) args s 0 0 A) (F0 m 0 ls []) := by
  have hx := F.1.x
  have hb := F.1.b
  unfold wX1_draw at hw
  obtain ⟨g_a0, hw⟩ := hw
  refine lv_aload_n hx hb dX1_draw_0 rfl (lv_at hl 0 rfl) ?_
  refine lv_aload_n hx hb dX1_draw_1 rfl (lv_at hl 0 rfl) ?_
  refine cg_X1_9 F hB g_a0 dX1_draw_2 ?_
  refine lv_ldc hx hb F.1.o (F.1.t _ q779) dX1_draw_5 ?_
  refine lv_imul hx hb dX1_draw_7 ?_
  refine lv_sipush (v := 12345) hx hb dX1_draw_8 (by decide) ?_
  refine lv_iadd hx hb dX1_draw_11 ?_
  refine cp_X1_9 F hB hS g_a0 dX1_draw_12 (fun H locs hB hS => ?_)
  refine lv_aload_n hx hb dX1_draw_15 rfl (lv_at hl 0 rfl) ?_
  refine cg_X1_9 F hB g_a0 dX1_draw_16 ?_
  refine lv_bipush (v := 8) hx hb dX1_draw_19 (by decide) ?_
  refine lv_iushr hx hb dX1_draw_21 rfl ?_
  exact W.iret hx hb F.1.r (fun t ht hW => ⟨⟨_, _, rfl, hw, x_B (Bw := cB D A ad) ht hB⟩, hS.F ht⟩) hS.2.2 dX1_draw_22 (hlocks := F.1.k)
set_option maxHeartbeats 4000000 in
theorem mX1_draw {l : Launch} {D : DD} {A : Nat → Prop} {s0 : State} {ad : AD} {V : CV} {a0 : Nat} {Q : Int32 → CV → Prop} (hw : wX1_draw a0 V Q) : Met l yX1_draw (ws_ yX1_draw cX1_draw 1 (some .int)) rX1_draw (va_Pc [.ref (ad 1 a0 0)] (fun U => cB D A ad V U.heap ∧ CX l D A s0 U)) (va_Qi Q (fun u t => cB D A ad u t.heap) A) 0 0 A := by
  refine Met.ofW (cc := cX1_draw) (maxL := 1) (ret := some .int) (by decide) rfl ?_
  intro p e s m args below meth c s₁ B hml hv
  obtain ⟨rfl, hB, hC⟩ := hv
  have F : FX p l c cX1_draw s _ m RX1 D A s0 1 meth (some .int) := ⟨mk_FP B hml rfl, hC⟩
  have hS : va_S A s.heap s.heap [] := va_S.rf
  have hl := lv_entry ([.ref (ad 1 a0 0)]) (n := 1) (Nat.le_of_ble_eq_true rfl)
  rw [lg_entry_eq]
  generalize (lg_sl ([.ref (ad 1 a0 0)]) ++ List.replicate (1 - (lg_sl ([.ref (ad 1 a0 0)])).length) Slot.unset).toArray = ls at hl ⊢
  exact bX1_draw_0 F hB hS hw hl
theorem kX0_X1_draw {p : Program} {l : Launch} {e : Env} {R : Room} {s : State} {m : MethodId} {args : Array Value} {below : List Frame} {meth : Method} {c : Code} {H : Heap} {locs : List Loc} {cells slots : Nat} {Q0 : State → Prop} {cc : ByteArray} {pc nL : Nat} {ls : Array Slot} {rest : List Value} {ret : Option FieldType} {D : DD} {A : Nat → Prop} {s0 : State} {ad : AD} {V : CV} {a0 : Nat} {Q : Int32 → CV → Prop} (F : FX p l c cc s args m RX0 D A s0 nL meth ret) (hB : cB D A ad V H) (hS : va_S A s.heap H locs) (hw : wX1_draw a0 V Q) (hR : rX1_draw.frames + 1 ≤ R.frames ∧ 8 + (1 + 11) + rX1_draw.locals ≤ R.locals) (hc : cells + 0 ≤ R.cells ∧ slots + 0 ≤ R.slots) (hsz : ls.size = nL) (hW : (rest.map fun v => v.category).sum ≤ 8) (hdg : decode cc pc = .ok (.invokevirtual 326, 3)) (kk : ∀ (r : Int32) (u : CV) (H1 : Heap) (locs1 : List Loc), Q r u → cB D A ad u H1 → va_S A s.heap H1 locs1 → W p l e R s m args below meth c H1 locs1 cells slots Q0 (F0 m (pc + 3) ls (.int r :: rest))) : W p l e R s m args below meth c H locs cells slots Q0 (F0 m pc ls (.ref (ad 1 a0 0) :: rest)) :=
  k_i (Bw := cB D A ad) (k_runV (Bw := cB D A ad) (n := 0) (As := []) F hB hS (c_at F (hB.pic (cpic1 hw.1)) rfl) (mX1_draw hw) q775 q776 q777 q84 q778 (by decide +kernel) hR ⟨rfl, rfl⟩ hc rfl hsz rfl hW hdg) hS kk
def rX0_goBy : Room := { frames := 0, cells := 0, slots := 0, locals := 0 }
set_option maxHeartbeats 4000000 in
theorem bX0_goBy_0 {p : Program} {l : Launch} {e : Env} {s : State} {m : MethodId} {args : Array Value} {below : List Frame} {meth : Method} {c : Code} {D : DD} {A : Nat → Prop} {s0 : State} {ad : AD} {Q : Int32 → CV → Prop} {a1 : Int32} {V : CV} {H : Heap} {locs : List Loc} {ls : Array Slot} (F : FX p l c cX0_goBy s args m RX0 D A s0 2 meth (some .int)) (hB : cB D A ad V H) (hS : va_S A s.heap H locs) (hw : wX0_goBy a1 V Q) (hl : lv_has ls 2 [(0, .ref (ad 0 0 0)), (1, .int a1)]) : W p l e rX0_goBy s m args below meth c H locs 0 0 (MQ below (va_Qi Q (fun u t => cB D A ad u t.heap) A) args s 0 0 A) (F0 m 0 ls []) := by
  have hx := F.1.x
  have hb := F.1.b
  unfold wX0_goBy at hw
  refine lv_aload_n hx hb dX0_goBy_0 rfl (lv_at hl 0 rfl) ?_
  refine cg_X0_74 F hB dX0_goBy_1 ?_
  refine lv_iload_n hx hb dX0_goBy_4 rfl (lv_at hl 1 rfl) ?_
  obtain ⟨hin1, hw⟩ := hw
  refine cl_16 F hB hin1 dX0_goBy_5 ?_
  refine lv_iconst (v := 1) hx hb dX0_goBy_6 (by decide) ?_
  refine lv_iload_n hx hb dX0_goBy_7 rfl (lv_at hl 1 rfl) ?_
  refine lv_ishl hx hb dX0_goBy_8 ?_
  refine lv_ior hx hb dX0_goBy_9 ?_
  exact W.iret hx hb F.1.r (fun t ht hW => ⟨⟨_, _, rfl, hw, x_B (Bw := cB D A ad) ht hB⟩, hS.F ht⟩) hS.2.2 dX0_goBy_10 (hlocks := F.1.k)
set_option maxHeartbeats 4000000 in
theorem mX0_goBy {l : Launch} {D : DD} {A : Nat → Prop} {s0 : State} {ad : AD} {V : CV} {a1 : Int32} {Q : Int32 → CV → Prop} (hw : wX0_goBy a1 V Q) : Met l yX0_goBy (ws_ yX0_goBy cX0_goBy 2 (some .int)) rX0_goBy (va_Pc [.ref (ad 0 0 0), .int a1] (fun U => cB D A ad V U.heap ∧ CX l D A s0 U)) (va_Qi Q (fun u t => cB D A ad u t.heap) A) 0 0 A := by
  refine Met.ofW (cc := cX0_goBy) (maxL := 2) (ret := some .int) (by decide) rfl ?_
  intro p e s m args below meth c s₁ B hml hv
  obtain ⟨rfl, hB, hC⟩ := hv
  have F : FX p l c cX0_goBy s _ m RX0 D A s0 2 meth (some .int) := ⟨mk_FP B hml rfl, hC⟩
  have hS : va_S A s.heap s.heap [] := va_S.rf
  have hl := lv_entry ([.ref (ad 0 0 0), .int a1]) (n := 2) (Nat.le_of_ble_eq_true rfl)
  rw [lg_entry_eq]
  generalize (lg_sl ([.ref (ad 0 0 0), .int a1]) ++ List.replicate (2 - (lg_sl ([.ref (ad 0 0 0), .int a1])).length) Slot.unset).toArray = ls at hl ⊢
  exact bX0_goBy_0 F hB hS hw hl
theorem kX0_X0_goBy {p : Program} {l : Launch} {e : Env} {R : Room} {s : State} {m : MethodId} {args : Array Value} {below : List Frame} {meth : Method} {c : Code} {H : Heap} {locs : List Loc} {cells slots : Nat} {Q0 : State → Prop} {cc : ByteArray} {pc nL : Nat} {ls : Array Slot} {rest : List Value} {ret : Option FieldType} {D : DD} {A : Nat → Prop} {s0 : State} {ad : AD} {V : CV} {a1 : Int32} {Q : Int32 → CV → Prop} (F : FX p l c cc s args m RX0 D A s0 nL meth ret) (hB : cB D A ad V H) (hS : va_S A s.heap H locs) (hw : wX0_goBy a1 V Q) (hR : rX0_goBy.frames + 1 ≤ R.frames ∧ 8 + (2 + 11) + rX0_goBy.locals ≤ R.locals) (hc : cells + 0 ≤ R.cells ∧ slots + 0 ≤ R.slots) (hsz : ls.size = nL) (hW : (rest.map fun v => v.category).sum ≤ 8) (hdg : decode cc pc = .ok (.invokevirtual 387, 3)) (kk : ∀ (r : Int32) (u : CV) (H1 : Heap) (locs1 : List Loc), Q r u → cB D A ad u H1 → va_S A s.heap H1 locs1 → W p l e R s m args below meth c H1 locs1 cells slots Q0 (F0 m (pc + 3) ls (.int r :: rest))) : W p l e R s m args below meth c H locs cells slots Q0 (F0 m pc ls (.int a1 :: .ref (ad 0 0 0) :: rest)) :=
  k_i (Bw := cB D A ad) (k_runV (Bw := cB D A ad) (n := 1) (As := [.int a1]) F hB hS (c_at F (hB.pic cpic0) rfl) (mX0_goBy hw) q856 q858 qs29 q83 q859 (by decide +kernel) hR ⟨rfl, rfl⟩ hc rfl hsz rfl hW hdg) hS kk
def rX0_mayBe : Room := { frames := 2, cells := 0, slots := 0, locals := 46 }
set_option maxHeartbeats 4000000 in
theorem bX0_mayBe_0 {p : Program} {l : Launch} {e : Env} {s : State} {m : MethodId} {args : Array Value} {below : List Frame} {meth : Method} {c : Code} {D : DD} {A : Nat → Prop} {s0 : State} {ad : AD} {Q : Int32 → CV → Prop} {a1 : Int32} {a2 : Nat} {a2' : Nat} {a3 : Int32} {V : CV} {H : Heap} {locs : List Loc} {ls : Array Slot} (F : FX p l c cX0_mayBe s args m RX0 D A s0 5 meth (some .boolean)) (hB : cB D A ad V H) (hS : va_S A s.heap H locs) (hw : wX0_mayBe a1 a2 a2' a3 V Q) (hl : lv_has ls 5 [(0, .ref (ad 0 0 0)), (1, .int a1), (2, .ref (ad 4 a2 a2')), (3, .int a3)]) : W p l e rX0_mayBe s m args below meth c H locs 0 0 (MQ below (va_Qi Q (fun u t => cB D A ad u t.heap) A) args s 0 0 A) (F0 m 0 ls []) := by
  have hx := F.1.x
  have hb := F.1.b
  unfold wX0_mayBe at hw
  obtain ⟨g_a2, hw⟩ := hw
  obtain ⟨g_a2p, hw⟩ := hw
  refine lv_aload_n hx hb dX0_mayBe_0 rfl (lv_at hl 2 rfl) ?_
  refine cg_X0_282 F hB g_a2 g_a2p dX0_mayBe_1 ?_
  refine lv_iload_n hx hb dX0_mayBe_4 rfl (lv_at hl 3 rfl) ?_
  refine kX0_X0_has F.1 hw ⟨Nat.le_of_ble_eq_true rfl, Nat.le_of_ble_eq_true rfl⟩ ⟨Nat.zero_le _, Nat.zero_le _⟩ hl.1 (Nat.le_of_ble_eq_true rfl) dX0_mayBe_5 (fun r1 hw => ?_)
  refine lv_if_eq (tgt := 36) hx hb dX0_mayBe_8 (by decide) (fun q => ?_) (fun q => ?_)
  · replace hw := hw.1 q
    refine lv_iconst (v := 0) hx hb dX0_mayBe_36 (by decide) ?_
    exact W.zret hx hb F.1.r rfl (fun t ht hW => ⟨⟨_, _, rfl, hw, x_B (Bw := cB D A ad) ht hB⟩, hS.F ht⟩) hS.2.2 dX0_mayBe_37 (hlocks := F.1.k)
  · replace hw := hw.2 q
    refine lv_aload_n hx hb dX0_mayBe_11 rfl (lv_at hl 2 rfl) ?_
    refine cg_X0_282 F hB g_a2 g_a2p dX0_mayBe_12 ?_
    refine lv_aload_n hx hb dX0_mayBe_15 rfl (lv_at hl 0 rfl) ?_
    refine lv_iload_n hx hb dX0_mayBe_16 rfl (lv_at hl 3 rfl) ?_
    refine kX0_X0_goBy F hB hS hw ⟨Nat.le_of_ble_eq_true rfl, Nat.le_of_ble_eq_true rfl⟩ ⟨Nat.zero_le _, Nat.zero_le _⟩ hl.1 (Nat.le_of_ble_eq_true rfl) dX0_mayBe_17 (fun r2 V3 H locs hw hB hS => ?_)
    refine lv_iconst (v := -1) hx hb dX0_mayBe_20 (by decide) ?_
    refine lv_ixor hx hb dX0_mayBe_21 ?_
    refine lv_iand hx hb dX0_mayBe_22 ?_
    refine kX0_J5_bitCount F.1 hw ⟨Nat.le_of_ble_eq_true rfl, Nat.le_of_ble_eq_true rfl⟩ ⟨Nat.zero_le _, Nat.zero_le _⟩ hl.1 (Nat.le_of_ble_eq_true rfl) dX0_mayBe_23 (fun r4 hw => ?_)
    refine lv_aload_n hx hb dX0_mayBe_26 rfl (lv_at hl 0 rfl) ?_
    refine cg_X0_46 F hB dX0_mayBe_27 ?_
    refine cg_X0_384 F hB (by decide) dX0_mayBe_30 ?_
    refine lv_icmp_ge (tgt := 38) hx hb dX0_mayBe_33 (by decide) (fun q => ?_) (fun q => ?_)
    · replace hw := hw.1 q
      refine lv_aload_n hx hb dX0_mayBe_38 rfl (lv_at hl 0 rfl) ?_
      refine lv_iconst (v := 0) hx hb dX0_mayBe_39 (by decide) ?_
      refine kX0_X0_counts F hB hS hw ⟨Nat.le_of_ble_eq_true rfl, Nat.le_of_ble_eq_true rfl⟩ ⟨Nat.zero_le _, Nat.zero_le _⟩ hl.1 (Nat.le_of_ble_eq_true rfl) dX0_mayBe_40 (fun r5 V6 H locs hw hB hS => ?_)
      refine lv_istore (lv' := [(4, .int r5), (0, .ref (ad 0 0 0)), (1, .int a1), (2, .ref (ad 4 a2 a2')), (3, .int a3)]) hx hb dX0_mayBe_43 hl (by decide) rfl (fun ls hl => ?_)
      refine lv_iload hx hb dX0_mayBe_45 (lv_at hl 0 rfl) ?_
      refine lv_iconst (v := -1) hx hb dX0_mayBe_47 (by decide) ?_
      refine lv_icmp_ne (tgt := 53) hx hb dX0_mayBe_48 (by decide) (fun q => ?_) (fun q => ?_)
      · replace hw := hw.2 q
        refine lv_aload_n hx hb dX0_mayBe_53 rfl (lv_at hl 1 rfl) ?_
        refine cg_X0_71 F hB dX0_mayBe_54 ?_
        refine lv_bipush (v := 115) hx hb dX0_mayBe_57 (by decide) ?_
        refine lv_iload_n hx hb dX0_mayBe_59 rfl (lv_at hl 2 rfl) ?_
        obtain ⟨hin7, hw⟩ := hw
        refine ct_15 F hB hS hin7 dX0_mayBe_60 (fun H locs hB hS => ?_)
        refine lv_aload_n hx hb dX0_mayBe_61 rfl (lv_at hl 1 rfl) ?_
        refine cg_X0_71 F hB dX0_mayBe_62 ?_
        refine lv_bipush (v := 112) hx hb dX0_mayBe_65 (by decide) ?_
        refine lv_iload_n hx hb dX0_mayBe_67 rfl (lv_at hl 4 rfl) ?_
        obtain ⟨hin8, hw⟩ := hw
        refine ct_15 F hB hS hin8 dX0_mayBe_68 (fun H locs hB hS => ?_)
        refine lv_aload_n hx hb dX0_mayBe_69 rfl (lv_at hl 1 rfl) ?_
        refine cg_X0_71 F hB dX0_mayBe_70 ?_
        refine lv_bipush (v := 119) hx hb dX0_mayBe_73 (by decide) ?_
        refine lv_aload_n hx hb dX0_mayBe_75 rfl (lv_at hl 3 rfl) ?_
        refine cg_X0_346 F hB g_a2 g_a2p dX0_mayBe_76 ?_
        obtain ⟨hin9, hw⟩ := hw
        refine ct_15 F hB hS hin9 dX0_mayBe_79 (fun H locs hB hS => ?_)
        refine lv_aload_n hx hb dX0_mayBe_80 rfl (lv_at hl 1 rfl) ?_
        refine lv_aload_n hx hb dX0_mayBe_81 rfl (lv_at hl 1 rfl) ?_
        refine cg_X0_46 F hB dX0_mayBe_82 ?_
        refine cg_X0_245 F hB (by decide) dX0_mayBe_85 ?_
        refine lv_iload hx hb dX0_mayBe_88 (lv_at hl 0 rfl) ?_
        obtain ⟨hin10, hw⟩ := hw
        refine cl_Tx F hB (by decide) hin10 dX0_mayBe_90 ?_
        obtain ⟨y11, e12, hw⟩ := hw
        refine W.eq (g2 := F0 m 91 ls [.ref y11, .ref (ad 0 0 0)]) (congrArg (fun z => F0 m 91 ls [va_rf z, .ref (ad 0 0 0)]) e12) ?_
        obtain ⟨f13, f14, f15, hm16, hw⟩ := hw
        refine cg_X0_365 F hB hm16 dX0_mayBe_91 ?_
        refine kX0_X0_reckon F hB hS hw ⟨Nat.le_of_ble_eq_true rfl, Nat.le_of_ble_eq_true rfl⟩ ⟨Nat.zero_le _, Nat.zero_le _⟩ hl.1 (Nat.le_of_ble_eq_true rfl) dX0_mayBe_94 (fun r17 V18 H locs hw hB hS => ?_)
        refine lv_if_eq (tgt := 104) hx hb dX0_mayBe_97 (by decide) (fun q => ?_) (fun q => ?_)
        · replace hw := hw.1 q
          refine lv_iconst (v := 0) hx hb dX0_mayBe_104 (by decide) ?_
          exact W.zret hx hb F.1.r rfl (fun t ht hW => ⟨⟨_, _, rfl, hw, x_B (Bw := cB D A ad) ht hB⟩, hS.F ht⟩) hS.2.2 dX0_mayBe_105 (hlocks := F.1.k)
        · replace hw := hw.2 q
          refine lv_iconst (v := 1) hx hb dX0_mayBe_100 (by decide) ?_
          refine lv_goto (tgt := 105) hx hb dX0_mayBe_101 (by decide) ?_
          exact W.zret hx hb F.1.r rfl (fun t ht hW => ⟨⟨_, _, rfl, hw, x_B (Bw := cB D A ad) ht hB⟩, hS.F ht⟩) hS.2.2 dX0_mayBe_105 (hlocks := F.1.k)
      · replace hw := hw.1 q
        refine lv_iconst (v := 1) hx hb dX0_mayBe_51 (by decide) ?_
        exact W.zret hx hb F.1.r rfl (fun t ht hW => ⟨⟨_, _, rfl, hw, x_B (Bw := cB D A ad) ht hB⟩, hS.F ht⟩) hS.2.2 dX0_mayBe_52 (hlocks := F.1.k)
    · replace hw := hw.2 q
      refine lv_iconst (v := 0) hx hb dX0_mayBe_36 (by decide) ?_
      exact W.zret hx hb F.1.r rfl (fun t ht hW => ⟨⟨_, _, rfl, hw, x_B (Bw := cB D A ad) ht hB⟩, hS.F ht⟩) hS.2.2 dX0_mayBe_37 (hlocks := F.1.k)
set_option maxHeartbeats 4000000 in
theorem mX0_mayBe {l : Launch} {D : DD} {A : Nat → Prop} {s0 : State} {ad : AD} {V : CV} {a1 : Int32} {a2 : Nat} {a2' : Nat} {a3 : Int32} {Q : Int32 → CV → Prop} (hw : wX0_mayBe a1 a2 a2' a3 V Q) : Met l yX0_mayBe (ws_ yX0_mayBe cX0_mayBe 5 (some .boolean)) rX0_mayBe (va_Pc [.ref (ad 0 0 0), .int a1, .ref (ad 4 a2 a2'), .int a3] (fun U => cB D A ad V U.heap ∧ CX l D A s0 U)) (va_Qi Q (fun u t => cB D A ad u t.heap) A) 0 0 A := by
  refine Met.ofW (cc := cX0_mayBe) (maxL := 5) (ret := some .boolean) (by decide) rfl ?_
  intro p e s m args below meth c s₁ B hml hv
  obtain ⟨rfl, hB, hC⟩ := hv
  have F : FX p l c cX0_mayBe s _ m RX0 D A s0 5 meth (some .boolean) := ⟨mk_FP B hml rfl, hC⟩
  have hS : va_S A s.heap s.heap [] := va_S.rf
  have hl := lv_entry ([.ref (ad 0 0 0), .int a1, .ref (ad 4 a2 a2'), .int a3]) (n := 5) (Nat.le_of_ble_eq_true rfl)
  rw [lg_entry_eq]
  generalize (lg_sl ([.ref (ad 0 0 0), .int a1, .ref (ad 4 a2 a2'), .int a3]) ++ List.replicate (5 - (lg_sl ([.ref (ad 0 0 0), .int a1, .ref (ad 4 a2 a2'), .int a3])).length) Slot.unset).toArray = ls at hl ⊢
  exact bX0_mayBe_0 F hB hS hw hl
theorem kX0_X0_mayBe {p : Program} {l : Launch} {e : Env} {R : Room} {s : State} {m : MethodId} {args : Array Value} {below : List Frame} {meth : Method} {c : Code} {H : Heap} {locs : List Loc} {cells slots : Nat} {Q0 : State → Prop} {cc : ByteArray} {pc nL : Nat} {ls : Array Slot} {rest : List Value} {ret : Option FieldType} {D : DD} {A : Nat → Prop} {s0 : State} {ad : AD} {V : CV} {a1 : Int32} {a2 : Nat} {a2' : Nat} {a3 : Int32} {Q : Int32 → CV → Prop} (F : FX p l c cc s args m RX0 D A s0 nL meth ret) (hB : cB D A ad V H) (hS : va_S A s.heap H locs) (hw : wX0_mayBe a1 a2 a2' a3 V Q) (hR : rX0_mayBe.frames + 1 ≤ R.frames ∧ 8 + (5 + 11) + rX0_mayBe.locals ≤ R.locals) (hc : cells + 0 ≤ R.cells ∧ slots + 0 ≤ R.slots) (hsz : ls.size = nL) (hW : (rest.map fun v => v.category).sum ≤ 8) (hdg : decode cc pc = .ok (.invokevirtual 390, 3)) (kk : ∀ (r : Int32) (u : CV) (H1 : Heap) (locs1 : List Loc), Q r u → cB D A ad u H1 → va_S A s.heap H1 locs1 → W p l e R s m args below meth c H1 locs1 cells slots Q0 (F0 m (pc + 3) ls (.int r :: rest))) : W p l e R s m args below meth c H locs cells slots Q0 (F0 m pc ls (.int a3 :: .ref (ad 4 a2 a2') :: .int a1 :: .ref (ad 0 0 0) :: rest)) :=
  k_i (Bw := cB D A ad) (k_runV (Bw := cB D A ad) (n := 3) (As := [.int a1, .ref (ad 4 a2 a2'), .int a3]) F hB hS (c_at F (hB.pic cpic0) rfl) (mX0_mayBe hw) q852 q854 qs28 q83 q855 (by decide +kernel) hR ⟨rfl, rfl⟩ hc rfl hsz rfl hW hdg) hS kk
def rX0_choiceOf : Room := { frames := 6, cells := 0, slots := 0, locals := 205 }
set_option maxHeartbeats 4000000 in
theorem bX0_choiceOf_66 {p : Program} {l : Launch} {e : Env} {s : State} {m : MethodId} {args : Array Value} {below : List Frame} {meth : Method} {c : Code} {D : DD} {A : Nat → Prop} {s0 : State} {ad : AD} {Q : Int32 → CV → Prop} {k_8 : Int32 → Nat → Nat → Int32 → Int32 → Int32 → CV → Prop} {l1 : Int32} {l2 : Nat} {l2' : Nat} {l3 : Int32} {l5 : Int32} {k0 : Int32} {k1 : Int32} {V : CV} {H : Heap} {locs : List Loc} {ls : Array Slot} (F : FX p l c cX0_choiceOf s args m RX0 D A s0 6 meth (some .int)) (h_8 : ∀ (l1 : Int32) (l2 : Nat) (l2' : Nat) (l3 : Int32) (l4 : Int32) (l5 : Int32) (V : CV), l2 < 3 → l2' < 8 → k_8 l1 l2 l2' l3 l4 l5 V → ∀ (H : Heap) (locs : List Loc) (ls : Array Slot), cB D A ad V H → va_S A s.heap H locs → lv_has ls 6 [(0, .ref (ad 0 0 0)), (1, .int l1), (2, .ref (ad 4 l2 l2')), (3, .int l3), (4, .int l4), (5, .int l5)] → W p l e rX0_choiceOf s m args below meth c H locs 0 0 (MQ below (va_Qi Q (fun u t => cB D A ad u t.heap) A) args s 0 0 A) (F0 m 8 ls [])) (g_l2 : l2 < 3) (g_l2p : l2' < 8) (hB : cB D A ad V H) (hS : va_S A s.heap H locs) (hw : wX0_choiceOf_66 k_8 l1 l2 l2' l3 l5 k0 k1 V Q) (hl : lv_has ls 6 [(0, .ref (ad 0 0 0)), (1, .int l1), (2, .ref (ad 4 l2 l2')), (3, .int l3), (5, .int l5)]) : W p l e rX0_choiceOf s m args below meth c H locs 0 0 (MQ below (va_Qi Q (fun u t => cB D A ad u t.heap) A) args s 0 0 A) (F0 m 66 ls [.int k0, .int k1]) := by
  have hx := F.1.x
  have hb := F.1.b
  unfold wX0_choiceOf_66 at hw
  refine lv_ior hx hb dX0_choiceOf_66 ?_
  refine lv_istore (lv' := [(4, .int (k1 ||| k0)), (0, .ref (ad 0 0 0)), (1, .int l1), (2, .ref (ad 4 l2 l2')), (3, .int l3), (5, .int l5)]) hx hb dX0_choiceOf_67 hl (by decide) rfl (fun ls hl => ?_)
  refine lv_iinc (v := l5 + (1 : Int32)) (lv' := [(5, .int (l5 + (1 : Int32))), (4, .int (k1 ||| k0)), (0, .ref (ad 0 0 0)), (1, .int l1), (2, .ref (ad 4 l2 l2')), (3, .int l3)]) hx hb dX0_choiceOf_69 hl (k := 5) rfl (x_inc (by decide)) (by decide) rfl (fun ls hl => ?_)
  refine lv_goto (tgt := 8) hx hb dX0_choiceOf_72 (by decide) ?_
  exact h_8 _ _ _ _ _ _ _ g_l2 g_l2p hw _ _ _ hB hS (lv_sub hl [2, 3, 4, 5, 1, 0] rfl)
set_option maxHeartbeats 4000000 in
theorem bX0_choiceOf_40 {p : Program} {l : Launch} {e : Env} {s : State} {m : MethodId} {args : Array Value} {below : List Frame} {meth : Method} {c : Code} {D : DD} {A : Nat → Prop} {s0 : State} {ad : AD} {Q : Int32 → CV → Prop} {k_8 : Int32 → Nat → Nat → Int32 → Int32 → Int32 → CV → Prop} {l1 : Int32} {l2 : Nat} {l2' : Nat} {l4 : Int32} {l5 : Int32} {k0 : Int32} {k1 : Int32} {V : CV} {H : Heap} {locs : List Loc} {ls : Array Slot} (F : FX p l c cX0_choiceOf s args m RX0 D A s0 6 meth (some .int)) (h_8 : ∀ (l1 : Int32) (l2 : Nat) (l2' : Nat) (l3 : Int32) (l4 : Int32) (l5 : Int32) (V : CV), l2 < 3 → l2' < 8 → k_8 l1 l2 l2' l3 l4 l5 V → ∀ (H : Heap) (locs : List Loc) (ls : Array Slot), cB D A ad V H → va_S A s.heap H locs → lv_has ls 6 [(0, .ref (ad 0 0 0)), (1, .int l1), (2, .ref (ad 4 l2 l2')), (3, .int l3), (4, .int l4), (5, .int l5)] → W p l e rX0_choiceOf s m args below meth c H locs 0 0 (MQ below (va_Qi Q (fun u t => cB D A ad u t.heap) A) args s 0 0 A) (F0 m 8 ls [])) (g_l2 : l2 < 3) (g_l2p : l2' < 8) (hB : cB D A ad V H) (hS : va_S A s.heap H locs) (hw : wX0_choiceOf_40 k_8 l1 l2 l2' l4 l5 k0 k1 V Q) (hl : lv_has ls 6 [(0, .ref (ad 0 0 0)), (1, .int l1), (2, .ref (ad 4 l2 l2')), (4, .int l4), (5, .int l5)]) : W p l e rX0_choiceOf s m args below meth c H locs 0 0 (MQ below (va_Qi Q (fun u t => cB D A ad u t.heap) A) args s 0 0 A) (F0 m 40 ls [.int k0, .int k1]) := by
  have hx := F.1.x
  have hb := F.1.b
  unfold wX0_choiceOf_40 at hw
  refine lv_ior hx hb dX0_choiceOf_40 ?_
  refine lv_istore_n (lv' := [(3, .int (k1 ||| k0)), (0, .ref (ad 0 0 0)), (1, .int l1), (2, .ref (ad 4 l2 l2')), (4, .int l4), (5, .int l5)]) hx hb dX0_choiceOf_41 rfl hl (by decide) rfl (fun ls hl => ?_)
  refine lv_iload hx hb dX0_choiceOf_42 (lv_at hl 4 rfl) ?_
  refine lv_aload_n hx hb dX0_choiceOf_44 rfl (lv_at hl 1 rfl) ?_
  refine lv_iload hx hb dX0_choiceOf_45 (lv_at hl 5 rfl) ?_
  refine kX0_X0_goBy F hB hS hw ⟨Nat.le_of_ble_eq_true rfl, Nat.le_of_ble_eq_true rfl⟩ ⟨Nat.zero_le _, Nat.zero_le _⟩ hl.1 (Nat.le_of_ble_eq_true rfl) dX0_choiceOf_47 (fun r1 V2 H locs hw hB hS => ?_)
  refine lv_aload_n hx hb dX0_choiceOf_50 rfl (lv_at hl 3 rfl) ?_
  refine cg_X0_340 F hB g_l2 g_l2p dX0_choiceOf_51 ?_
  refine lv_iand hx hb dX0_choiceOf_54 ?_
  refine lv_if_eq (tgt := 65) hx hb dX0_choiceOf_55 (by decide) (fun q => ?_) (fun q => ?_)
  · replace hw := hw.1 q
    refine lv_iconst (v := 0) hx hb dX0_choiceOf_65 (by decide) ?_
    exact bX0_choiceOf_66 F h_8 g_l2 g_l2p hB hS hw (lv_sub hl [1, 2, 3, 0, 5] rfl)
  · replace hw := hw.2 q
    refine lv_iconst (v := 1) hx hb dX0_choiceOf_58 (by decide) ?_
    refine lv_iload hx hb dX0_choiceOf_59 (lv_at hl 5 rfl) ?_
    refine lv_ishl hx hb dX0_choiceOf_61 ?_
    refine lv_goto (tgt := 66) hx hb dX0_choiceOf_62 (by decide) ?_
    exact bX0_choiceOf_66 F h_8 g_l2 g_l2p hB hS hw (lv_sub hl [1, 2, 3, 0, 5] rfl)
set_option maxHeartbeats 4000000 in
theorem bX0_choiceOf_8 {p : Program} {l : Launch} {e : Env} {s : State} {m : MethodId} {args : Array Value} {below : List Frame} {meth : Method} {c : Code} {D : DD} {A : Nat → Prop} {s0 : State} {ad : AD} {Q : Int32 → CV → Prop} (F : FX p l c cX0_choiceOf s args m RX0 D A s0 6 meth (some .int)) : ∀ (n : Nat) (l1 : Int32) (l2 : Nat) (l2' : Nat) (l3 : Int32) (l4 : Int32) (l5 : Int32) (V : CV), l2 < 3 → l2' < 8 → wX0_choiceOf_8 Q n l1 l2 l2' l3 l4 l5 V → ∀ (H : Heap) (locs : List Loc) (ls : Array Slot), cB D A ad V H → va_S A s.heap H locs → lv_has ls 6 [(0, .ref (ad 0 0 0)), (1, .int l1), (2, .ref (ad 4 l2 l2')), (3, .int l3), (4, .int l4), (5, .int l5)] → W p l e rX0_choiceOf s m args below meth c H locs 0 0 (MQ below (va_Qi Q (fun u t => cB D A ad u t.heap) A) args s 0 0 A) (F0 m 8 ls []) := by
  have hx := F.1.x
  have hb := F.1.b
  intro n
  induction n with
  | zero => intro l1 l2 l2' l3 l4 l5 V g_l2 g_l2p hw; exact hw.elim
  | succ n ih =>
    intro l1 l2 l2' l3 l4 l5 V g_l2 g_l2p hw H locs ls hB hS hl
    unfold wX0_choiceOf_8 at hw
    refine lv_iload hx hb dX0_choiceOf_8 (lv_at hl 5 rfl) ?_
    refine lv_aload_n hx hb dX0_choiceOf_10 rfl (lv_at hl 0 rfl) ?_
    refine cg_X0_46 F hB dX0_choiceOf_11 ?_
    refine cg_X0_101 F hB (by decide) dX0_choiceOf_14 ?_
    refine lv_icmp_ge (tgt := 75) hx hb dX0_choiceOf_17 (by decide) (fun q => ?_) (fun q => ?_)
    · replace hw := hw.1 q
      refine lv_aload_n hx hb dX0_choiceOf_75 rfl (lv_at hl 0 rfl) ?_
      refine cg_X0_46 F hB dX0_choiceOf_76 ?_
      refine cg_X0_259 F hB (by decide) dX0_choiceOf_79 ?_
      refine lv_iload_n hx hb dX0_choiceOf_82 rfl (lv_at hl 1 rfl) ?_
      obtain ⟨hin1, hw⟩ := hw
      refine cl_Sp F hB (by decide) hin1 dX0_choiceOf_83 ?_
      refine x_astore (lv' := [(5, va_rf (vSp V 0 l1.toNatClampNeg)), (0, .ref (ad 0 0 0)), (1, .int l1), (2, .ref (ad 4 l2 l2')), (3, .int l3), (4, .int l4)]) hx hb dX0_choiceOf_84 hl (by decide) rfl (fun ls hl => ?_)
      refine x_aload hx hb dX0_choiceOf_86 (lv_at hl 0 rfl) ?_
      refine lv_iload_n hx hb dX0_choiceOf_88 rfl (lv_at hl 4 rfl) ?_
      refine lv_iload hx hb dX0_choiceOf_89 (lv_at hl 5 rfl) ?_
      refine lv_aload_n hx hb dX0_choiceOf_91 rfl (lv_at hl 1 rfl) ?_
      refine cg_X0_46 F hB dX0_choiceOf_92 ?_
      refine cg_X0_272 F hB (by decide) dX0_choiceOf_95 ?_
      refine lv_iload_n hx hb dX0_choiceOf_98 rfl (lv_at hl 2 rfl) ?_
      obtain ⟨hin2, hw⟩ := hw
      refine cl_S F hB (by decide) (by decide) hin2 dX0_choiceOf_99 ?_
      refine lv_aload_n hx hb dX0_choiceOf_100 rfl (lv_at hl 3 rfl) ?_
      refine cg_X0_346 F hB g_l2 g_l2p dX0_choiceOf_101 ?_
      obtain ⟨y3, e4, hw⟩ := hw
      refine W.eq (g2 := F0 m 104 ls [.int (vD V l2 l2' 2), .int (vSA V 0 5 l1.toNatClampNeg), .int l4, .int l3, .ref y3]) (congrArg (fun z => F0 m 104 ls [.int (vD V l2 l2' 2), .int (vSA V 0 5 l1.toNatClampNeg), .int l4, .int l3, va_rf z]) e4) ?_
      refine kX0_Sp_choice F hB hS hw ⟨Nat.le_of_ble_eq_true rfl, Nat.le_of_ble_eq_true rfl⟩ ⟨by show _ ≤ 0; omega, by show _ ≤ 0; omega⟩ hl.1 (Nat.le_of_ble_eq_true rfl) dX0_choiceOf_104 (fun r5 V6 H locs hw hB hS => ?_)
      exact W.iret hx hb F.1.r (fun t ht hW => ⟨⟨_, _, rfl, hw, x_B (Bw := cB D A ad) ht hB⟩, hS.F ht⟩) hS.2.2 dX0_choiceOf_109 (hlocks := F.1.k)
    · replace hw := hw.2 q
      refine lv_iload_n hx hb dX0_choiceOf_20 rfl (lv_at hl 3 rfl) ?_
      refine lv_aload_n hx hb dX0_choiceOf_21 rfl (lv_at hl 0 rfl) ?_
      refine lv_iload_n hx hb dX0_choiceOf_22 rfl (lv_at hl 1 rfl) ?_
      refine lv_aload_n hx hb dX0_choiceOf_23 rfl (lv_at hl 2 rfl) ?_
      refine lv_iload hx hb dX0_choiceOf_24 (lv_at hl 5 rfl) ?_
      refine kX0_X0_mayBe F hB hS hw ⟨Nat.le_of_ble_eq_true rfl, Nat.le_of_ble_eq_true rfl⟩ ⟨Nat.zero_le _, Nat.zero_le _⟩ hl.1 (Nat.le_of_ble_eq_true rfl) dX0_choiceOf_26 (fun r7 V8 H locs hw hB hS => ?_)
      refine lv_if_eq (tgt := 39) hx hb dX0_choiceOf_29 (by decide) (fun q => ?_) (fun q => ?_)
      · replace hw := hw.1 q
        refine lv_iconst (v := 0) hx hb dX0_choiceOf_39 (by decide) ?_
        exact bX0_choiceOf_40 F ih g_l2 g_l2p hB hS hw (lv_sub hl [0, 1, 2, 4, 5] rfl)
      · replace hw := hw.2 q
        refine lv_iconst (v := 1) hx hb dX0_choiceOf_32 (by decide) ?_
        refine lv_iload hx hb dX0_choiceOf_33 (lv_at hl 5 rfl) ?_
        refine lv_ishl hx hb dX0_choiceOf_35 ?_
        refine lv_goto (tgt := 40) hx hb dX0_choiceOf_36 (by decide) ?_
        exact bX0_choiceOf_40 F ih g_l2 g_l2p hB hS hw (lv_sub hl [0, 1, 2, 4, 5] rfl)
set_option maxHeartbeats 4000000 in
theorem bX0_choiceOf_0 {p : Program} {l : Launch} {e : Env} {s : State} {m : MethodId} {args : Array Value} {below : List Frame} {meth : Method} {c : Code} {D : DD} {A : Nat → Prop} {s0 : State} {ad : AD} {Q : Int32 → CV → Prop} {a1 : Int32} {a2 : Nat} {a2' : Nat} {V : CV} {H : Heap} {locs : List Loc} {ls : Array Slot} (F : FX p l c cX0_choiceOf s args m RX0 D A s0 6 meth (some .int)) (hB : cB D A ad V H) (hS : va_S A s.heap H locs) (hw : wX0_choiceOf a1 a2 a2' V Q) (hl : lv_has ls 6 [(0, .ref (ad 0 0 0)), (1, .int a1), (2, .ref (ad 4 a2 a2'))]) : W p l e rX0_choiceOf s m args below meth c H locs 0 0 (MQ below (va_Qi Q (fun u t => cB D A ad u t.heap) A) args s 0 0 A) (F0 m 0 ls []) := by
  have hx := F.1.x
  have hb := F.1.b
  unfold wX0_choiceOf at hw
  obtain ⟨g_a2, hw⟩ := hw
  obtain ⟨g_a2p, hw⟩ := hw
  refine lv_iconst (v := 0) hx hb dX0_choiceOf_0 (by decide) ?_
  refine lv_istore_n (lv' := [(3, .int (0 : Int32)), (0, .ref (ad 0 0 0)), (1, .int a1), (2, .ref (ad 4 a2 a2'))]) hx hb dX0_choiceOf_1 rfl hl (by decide) rfl (fun ls hl => ?_)
  refine lv_iconst (v := 0) hx hb dX0_choiceOf_2 (by decide) ?_
  refine lv_istore (lv' := [(4, .int (0 : Int32)), (3, .int (0 : Int32)), (0, .ref (ad 0 0 0)), (1, .int a1), (2, .ref (ad 4 a2 a2'))]) hx hb dX0_choiceOf_3 hl (by decide) rfl (fun ls hl => ?_)
  refine lv_iconst (v := 0) hx hb dX0_choiceOf_5 (by decide) ?_
  refine lv_istore (lv' := [(5, .int (0 : Int32)), (4, .int (0 : Int32)), (3, .int (0 : Int32)), (0, .ref (ad 0 0 0)), (1, .int a1), (2, .ref (ad 4 a2 a2'))]) hx hb dX0_choiceOf_6 hl (by decide) rfl (fun ls hl => ?_)
  obtain ⟨f_8, hw⟩ := hw
  exact bX0_choiceOf_8 F f_8 _ _ _ _ _ _ _ g_a2 g_a2p hw _ _ _ hB hS (lv_sub hl [3, 4, 5, 2, 1, 0] rfl)
set_option maxHeartbeats 4000000 in
theorem mX0_choiceOf {l : Launch} {D : DD} {A : Nat → Prop} {s0 : State} {ad : AD} {V : CV} {a1 : Int32} {a2 : Nat} {a2' : Nat} {Q : Int32 → CV → Prop} (hw : wX0_choiceOf a1 a2 a2' V Q) : Met l yX0_choiceOf (ws_ yX0_choiceOf cX0_choiceOf 6 (some .int)) rX0_choiceOf (va_Pc [.ref (ad 0 0 0), .int a1, .ref (ad 4 a2 a2')] (fun U => cB D A ad V U.heap ∧ CX l D A s0 U)) (va_Qi Q (fun u t => cB D A ad u t.heap) A) 0 0 A := by
  refine Met.ofW (cc := cX0_choiceOf) (maxL := 6) (ret := some .int) (by decide) rfl ?_
  intro p e s m args below meth c s₁ B hml hv
  obtain ⟨rfl, hB, hC⟩ := hv
  have F : FX p l c cX0_choiceOf s _ m RX0 D A s0 6 meth (some .int) := ⟨mk_FP B hml rfl, hC⟩
  have hS : va_S A s.heap s.heap [] := va_S.rf
  have hl := lv_entry ([.ref (ad 0 0 0), .int a1, .ref (ad 4 a2 a2')]) (n := 6) (Nat.le_of_ble_eq_true rfl)
  rw [lg_entry_eq]
  generalize (lg_sl ([.ref (ad 0 0 0), .int a1, .ref (ad 4 a2 a2')]) ++ List.replicate (6 - (lg_sl ([.ref (ad 0 0 0), .int a1, .ref (ad 4 a2 a2')])).length) Slot.unset).toArray = ls at hl ⊢
  exact bX0_choiceOf_0 F hB hS hw hl
theorem kX0_X0_choiceOf {p : Program} {l : Launch} {e : Env} {R : Room} {s : State} {m : MethodId} {args : Array Value} {below : List Frame} {meth : Method} {c : Code} {H : Heap} {locs : List Loc} {cells slots : Nat} {Q0 : State → Prop} {cc : ByteArray} {pc nL : Nat} {ls : Array Slot} {rest : List Value} {ret : Option FieldType} {D : DD} {A : Nat → Prop} {s0 : State} {ad : AD} {V : CV} {a1 : Int32} {a2 : Nat} {a2' : Nat} {Q : Int32 → CV → Prop} (F : FX p l c cc s args m RX0 D A s0 nL meth ret) (hB : cB D A ad V H) (hS : va_S A s.heap H locs) (hw : wX0_choiceOf a1 a2 a2' V Q) (hR : rX0_choiceOf.frames + 1 ≤ R.frames ∧ 8 + (6 + 11) + rX0_choiceOf.locals ≤ R.locals) (hc : cells + 0 ≤ R.cells ∧ slots + 0 ≤ R.slots) (hsz : ls.size = nL) (hW : (rest.map fun v => v.category).sum ≤ 8) (hdg : decode cc pc = .ok (.invokevirtual 405, 3)) (kk : ∀ (r : Int32) (u : CV) (H1 : Heap) (locs1 : List Loc), Q r u → cB D A ad u H1 → va_S A s.heap H1 locs1 → W p l e R s m args below meth c H1 locs1 cells slots Q0 (F0 m (pc + 3) ls (.int r :: rest))) : W p l e R s m args below meth c H locs cells slots Q0 (F0 m pc ls (.ref (ad 4 a2 a2') :: .int a1 :: .ref (ad 0 0 0) :: rest)) :=
  k_i (Bw := cB D A ad) (k_runV (Bw := cB D A ad) (n := 2) (As := [.int a1, .ref (ad 4 a2 a2')]) F hB hS (c_at F (hB.pic cpic0) rfl) (mX0_choiceOf hw) q869 q871 qs31 q83 q872 (by decide +kernel) hR ⟨rfl, rfl⟩ hc rfl hsz rfl hW hdg) hS kk
def rX0_saysOf : Room := { frames := 1, cells := 0, slots := 0, locals := 21 }
set_option maxHeartbeats 4000000 in
theorem bX0_saysOf_25 {p : Program} {l : Launch} {e : Env} {s : State} {m : MethodId} {args : Array Value} {below : List Frame} {meth : Method} {c : Code} {D : DD} {A : Nat → Prop} {s0 : State} {ad : AD} {Q : CV → Prop} {l1 : Nat} {l1' : Nat} {l3 : Int32} {k0 : Int32} {k1 : Int32} {k2 : Nat} {k2' : Nat} {V : CV} {H : Heap} {locs : List Loc} {ls : Array Slot} (F : FX p l c cX0_saysOf s args m RX0 D A s0 4 meth (none)) (g_l1 : l1 < 3) (g_l1p : l1' < 8) (g_k2 : k2 < 3) (g_k2p : k2' < 8) (hB : cB D A ad V H) (hS : va_S A s.heap H locs) (hw : wX0_saysOf_25 l1 l1' l3 k0 k1 k2 k2' V Q) (hl : lv_has ls 4 [(1, .ref (ad 4 l1 l1')), (3, .int l3)]) : W p l e rX0_saysOf s m args below meth c H locs 0 0 (MQ below (va_Qv Q (fun u t => cB D A ad u t.heap) A) args s 0 0 A) (F0 m 25 ls [.int k0, .int k1, .ref (ad 4 k2 k2')]) := by
  have hx := F.1.x
  have hb := F.1.b
  unfold wX0_saysOf_25 at hw
  refine lv_iadd hx hb dX0_saysOf_25 ?_
  refine cp_X0_359 F hB hS g_k2 g_k2p dX0_saysOf_26 (fun H locs hB hS => ?_)
  refine lv_aload_n hx hb dX0_saysOf_29 rfl (lv_at hl 0 rfl) ?_
  refine lv_dup hx hb dX0_saysOf_30 rfl ?_
  refine cg_X0_282 F hB g_l1 g_l1p dX0_saysOf_31 ?_
  refine lv_iload_n hx hb dX0_saysOf_34 rfl (lv_at hl 1 rfl) ?_
  refine lv_iconst (v := -1) hx hb dX0_saysOf_35 (by decide) ?_
  refine lv_ixor hx hb dX0_saysOf_36 ?_
  refine lv_iand hx hb dX0_saysOf_37 ?_
  refine cp_X0_282 F hB hS g_l1 g_l1p dX0_saysOf_38 (fun H locs hB hS => ?_)
  refine lv_aload_n hx hb dX0_saysOf_41 rfl (lv_at hl 0 rfl) ?_
  refine lv_dup hx hb dX0_saysOf_42 rfl ?_
  refine cg_X0_356 F hB g_l1 g_l1p dX0_saysOf_43 ?_
  refine lv_iconst (v := 1) hx hb dX0_saysOf_46 (by decide) ?_
  refine lv_iadd hx hb dX0_saysOf_47 ?_
  refine cp_X0_356 F hB hS g_l1 g_l1p dX0_saysOf_48 (fun H locs hB hS => ?_)
  exact W.vret hx hb F.1.r (fun t ht hW => ⟨⟨_, rfl, hw, x_B (Bw := cB D A ad) ht hB⟩, hS.F ht⟩) hS.2.2 dX0_saysOf_51 (hlocks := F.1.k)
set_option maxHeartbeats 4000000 in
theorem bX0_saysOf_0 {p : Program} {l : Launch} {e : Env} {s : State} {m : MethodId} {args : Array Value} {below : List Frame} {meth : Method} {c : Code} {D : DD} {A : Nat → Prop} {s0 : State} {ad : AD} {Q : CV → Prop} {a1 : Nat} {a1' : Nat} {a2 : Int32} {V : CV} {H : Heap} {locs : List Loc} {ls : Array Slot} (F : FX p l c cX0_saysOf s args m RX0 D A s0 4 meth (none)) (hB : cB D A ad V H) (hS : va_S A s.heap H locs) (hw : wX0_saysOf a1 a1' a2 V Q) (hl : lv_has ls 4 [(0, .ref (ad 0 0 0)), (1, .ref (ad 4 a1 a1')), (2, .int a2)]) : W p l e rX0_saysOf s m args below meth c H locs 0 0 (MQ below (va_Qv Q (fun u t => cB D A ad u t.heap) A) args s 0 0 A) (F0 m 0 ls []) := by
  have hx := F.1.x
  have hb := F.1.b
  unfold wX0_saysOf at hw
  obtain ⟨g_a1, hw⟩ := hw
  obtain ⟨g_a1p, hw⟩ := hw
  refine lv_aload_n hx hb dX0_saysOf_0 rfl (lv_at hl 0 rfl) ?_
  refine lv_iload_n hx hb dX0_saysOf_1 rfl (lv_at hl 2 rfl) ?_
  refine kX0_X0_goBy F hB hS hw ⟨Nat.le_of_ble_eq_true rfl, Nat.le_of_ble_eq_true rfl⟩ ⟨Nat.zero_le _, Nat.zero_le _⟩ hl.1 (Nat.le_of_ble_eq_true rfl) dX0_saysOf_2 (fun r1 V2 H locs hw hB hS => ?_)
  refine lv_istore_n (lv' := [(3, .int r1), (0, .ref (ad 0 0 0)), (1, .ref (ad 4 a1 a1')), (2, .int a2)]) hx hb dX0_saysOf_5 rfl hl (by decide) rfl (fun ls hl => ?_)
  refine lv_aload_n hx hb dX0_saysOf_6 rfl (lv_at hl 2 rfl) ?_
  refine lv_dup hx hb dX0_saysOf_7 rfl ?_
  refine cg_X0_359 F hB g_a1 g_a1p dX0_saysOf_8 ?_
  refine lv_iload_n hx hb dX0_saysOf_11 rfl (lv_at hl 0 rfl) ?_
  refine lv_aload_n hx hb dX0_saysOf_12 rfl (lv_at hl 2 rfl) ?_
  refine cg_X0_340 F hB g_a1 g_a1p dX0_saysOf_13 ?_
  refine lv_iand hx hb dX0_saysOf_16 ?_
  refine lv_if_eq (tgt := 24) hx hb dX0_saysOf_17 (by decide) (fun q => ?_) (fun q => ?_)
  · replace hw := hw.1 q
    refine lv_iconst (v := 0) hx hb dX0_saysOf_24 (by decide) ?_
    exact bX0_saysOf_25 F g_a1 g_a1p g_a1 g_a1p hB hS hw (lv_sub hl [2, 0] rfl)
  · replace hw := hw.2 q
    refine lv_iconst (v := 1) hx hb dX0_saysOf_20 (by decide) ?_
    refine lv_goto (tgt := 25) hx hb dX0_saysOf_21 (by decide) ?_
    exact bX0_saysOf_25 F g_a1 g_a1p g_a1 g_a1p hB hS hw (lv_sub hl [2, 0] rfl)
set_option maxHeartbeats 4000000 in
theorem mX0_saysOf {l : Launch} {D : DD} {A : Nat → Prop} {s0 : State} {ad : AD} {V : CV} {a1 : Nat} {a1' : Nat} {a2 : Int32} {Q : CV → Prop} (hw : wX0_saysOf a1 a1' a2 V Q) : Met l yX0_saysOf (ws_ yX0_saysOf cX0_saysOf 4 (none)) rX0_saysOf (va_Pc [.ref (ad 0 0 0), .ref (ad 4 a1 a1'), .int a2] (fun U => cB D A ad V U.heap ∧ CX l D A s0 U)) (va_Qv Q (fun u t => cB D A ad u t.heap) A) 0 0 A := by
  refine Met.ofW (cc := cX0_saysOf) (maxL := 4) (ret := none) (by decide) rfl ?_
  intro p e s m args below meth c s₁ B hml hv
  obtain ⟨rfl, hB, hC⟩ := hv
  have F : FX p l c cX0_saysOf s _ m RX0 D A s0 4 meth (none) := ⟨mk_FP B hml rfl, hC⟩
  have hS : va_S A s.heap s.heap [] := va_S.rf
  have hl := lv_entry ([.ref (ad 0 0 0), .ref (ad 4 a1 a1'), .int a2]) (n := 4) (Nat.le_of_ble_eq_true rfl)
  rw [lg_entry_eq]
  generalize (lg_sl ([.ref (ad 0 0 0), .ref (ad 4 a1 a1'), .int a2]) ++ List.replicate (4 - (lg_sl ([.ref (ad 0 0 0), .ref (ad 4 a1 a1'), .int a2])).length) Slot.unset).toArray = ls at hl ⊢
  exact bX0_saysOf_0 F hB hS hw hl
theorem kX0_X0_saysOf {p : Program} {l : Launch} {e : Env} {R : Room} {s : State} {m : MethodId} {args : Array Value} {below : List Frame} {meth : Method} {c : Code} {H : Heap} {locs : List Loc} {cells slots : Nat} {Q0 : State → Prop} {cc : ByteArray} {pc nL : Nat} {ls : Array Slot} {rest : List Value} {ret : Option FieldType} {D : DD} {A : Nat → Prop} {s0 : State} {ad : AD} {V : CV} {a1 : Nat} {a1' : Nat} {a2 : Int32} {Q : CV → Prop} (F : FX p l c cc s args m RX0 D A s0 nL meth ret) (hB : cB D A ad V H) (hS : va_S A s.heap H locs) (hw : wX0_saysOf a1 a1' a2 V Q) (hR : rX0_saysOf.frames + 1 ≤ R.frames ∧ 8 + (4 + 11) + rX0_saysOf.locals ≤ R.locals) (hc : cells + 0 ≤ R.cells ∧ slots + 0 ≤ R.slots) (hsz : ls.size = nL) (hW : (rest.map fun v => v.category).sum ≤ 8) (hdg : decode cc pc = .ok (.invokevirtual 395, 3)) (kk : ∀ (u : CV) (H1 : Heap) (locs1 : List Loc), Q u → cB D A ad u H1 → va_S A s.heap H1 locs1 → W p l e R s m args below meth c H1 locs1 cells slots Q0 (F0 m (pc + 3) ls (rest))) : W p l e R s m args below meth c H locs cells slots Q0 (F0 m pc ls (.int a2 :: .ref (ad 4 a1 a1') :: .ref (ad 0 0 0) :: rest)) :=
  k_v (Bw := cB D A ad) (k_runV (Bw := cB D A ad) (n := 2) (As := [.ref (ad 4 a1 a1'), .int a2]) F hB hS (c_at F (hB.pic cpic0) rfl) (mX0_saysOf hw) q861 q863 qs30 q83 q864 (by decide +kernel) hR ⟨rfl, rfl⟩ hc rfl hsz rfl hW hdg) hS kk
def rX0_round : Room := { frames := 7, cells := 0, slots := 0, locals := 230 }
set_option maxHeartbeats 4000000 in
theorem bX0_round_68 {p : Program} {l : Launch} {e : Env} {s : State} {m : MethodId} {args : Array Value} {below : List Frame} {meth : Method} {c : Code} {D : DD} {A : Nat → Prop} {s0 : State} {ad : AD} {Q : Int32 → CV → Prop} {k_8 : Nat → Nat → Int32 → Int32 → CV → Prop} {l1 : Nat} {l1' : Nat} {l2 : Int32} {l3 : Int32} {V : CV} {H : Heap} {locs : List Loc} {ls : Array Slot} (F : FX p l c cX0_round s args m RX0 D A s0 5 meth (some .int)) (h_8 : ∀ (l1 : Nat) (l1' : Nat) (l2 : Int32) (l3 : Int32) (V : CV), l1 < 3 → l1' < 8 → k_8 l1 l1' l2 l3 V → ∀ (H : Heap) (locs : List Loc) (ls : Array Slot), cB D A ad V H → va_S A s.heap H locs → lv_has ls 5 [(0, .ref (ad 0 0 0)), (1, .ref (ad 4 l1 l1')), (2, .int l2), (3, .int l3)] → W p l e rX0_round s m args below meth c H locs 0 0 (MQ below (va_Qi Q (fun u t => cB D A ad u t.heap) A) args s 0 0 A) (F0 m 8 ls [])) (g_l1 : l1 < 3) (g_l1p : l1' < 8) (hB : cB D A ad V H) (hS : va_S A s.heap H locs) (hw : wX0_round_68 k_8 l1 l1' l2 l3 V Q) (hl : lv_has ls 5 [(0, .ref (ad 0 0 0)), (1, .ref (ad 4 l1 l1')), (2, .int l2), (3, .int l3)]) : W p l e rX0_round s m args below meth c H locs 0 0 (MQ below (va_Qi Q (fun u t => cB D A ad u t.heap) A) args s 0 0 A) (F0 m 68 ls []) := by
  have hx := F.1.x
  have hb := F.1.b
  unfold wX0_round_68 at hw
  refine lv_iinc (v := l3 + (1 : Int32)) (lv' := [(3, .int (l3 + (1 : Int32))), (0, .ref (ad 0 0 0)), (1, .ref (ad 4 l1 l1')), (2, .int l2)]) hx hb dX0_round_68 hl (k := 3) rfl (x_inc (by decide)) (by decide) rfl (fun ls hl => ?_)
  refine lv_goto (tgt := 8) hx hb dX0_round_71 (by decide) ?_
  exact h_8 _ _ _ _ _ g_l1 g_l1p hw _ _ _ hB hS (lv_sub hl [1, 2, 3, 0] rfl)
set_option maxHeartbeats 4000000 in
theorem bX0_round_8 {p : Program} {l : Launch} {e : Env} {s : State} {m : MethodId} {args : Array Value} {below : List Frame} {meth : Method} {c : Code} {D : DD} {A : Nat → Prop} {s0 : State} {ad : AD} {Q : Int32 → CV → Prop} (F : FX p l c cX0_round s args m RX0 D A s0 5 meth (some .int)) : ∀ (n : Nat) (l1 : Nat) (l1' : Nat) (l2 : Int32) (l3 : Int32) (V : CV), l1 < 3 → l1' < 8 → wX0_round_8 Q n l1 l1' l2 l3 V → ∀ (H : Heap) (locs : List Loc) (ls : Array Slot), cB D A ad V H → va_S A s.heap H locs → lv_has ls 5 [(0, .ref (ad 0 0 0)), (1, .ref (ad 4 l1 l1')), (2, .int l2), (3, .int l3)] → W p l e rX0_round s m args below meth c H locs 0 0 (MQ below (va_Qi Q (fun u t => cB D A ad u t.heap) A) args s 0 0 A) (F0 m 8 ls []) := by
  have hx := F.1.x
  have hb := F.1.b
  intro n
  induction n with
  | zero => intro l1 l1' l2 l3 V g_l1 g_l1p hw; exact hw.elim
  | succ n ih =>
    intro l1 l1' l2 l3 V g_l1 g_l1p hw H locs ls hB hS hl
    unfold wX0_round_8 at hw
    refine lv_iload_n hx hb dX0_round_8 rfl (lv_at hl 3 rfl) ?_
    refine lv_aload_n hx hb dX0_round_9 rfl (lv_at hl 0 rfl) ?_
    refine cg_X0_46 F hB dX0_round_10 ?_
    refine cg_X0_101 F hB (by decide) dX0_round_13 ?_
    refine lv_icmp_ge (tgt := 74) hx hb dX0_round_16 (by decide) (fun q => ?_) (fun q => ?_)
    · replace hw := hw.1 q
      refine lv_iload_n hx hb dX0_round_74 rfl (lv_at hl 2 rfl) ?_
      exact W.iret hx hb F.1.r (fun t ht hW => ⟨⟨_, _, rfl, hw, x_B (Bw := cB D A ad) ht hB⟩, hS.F ht⟩) hS.2.2 dX0_round_75 (hlocks := F.1.k)
    · replace hw := hw.2 q
      refine lv_aload_n hx hb dX0_round_19 rfl (lv_at hl 0 rfl) ?_
      refine cg_X0_46 F hB dX0_round_20 ?_
      refine kX0_X1_draw F hB hS hw ⟨Nat.le_of_ble_eq_true rfl, Nat.le_of_ble_eq_true rfl⟩ ⟨Nat.zero_le _, Nat.zero_le _⟩ hl.1 (Nat.le_of_ble_eq_true rfl) dX0_round_23 (fun r1 V2 H locs hw hB hS => ?_)
      refine lv_bipush (v := 100) hx hb dX0_round_26 (by decide) ?_
      refine lv_irem hx hb dX0_round_28 (by decide) ?_
      refine lv_aload_n hx hb dX0_round_29 rfl (lv_at hl 0 rfl) ?_
      refine lv_iload_n hx hb dX0_round_30 rfl (lv_at hl 3 rfl) ?_
      refine lv_aload_n hx hb dX0_round_31 rfl (lv_at hl 1 rfl) ?_
      refine kX0_X0_boldOf F hB hS hw ⟨Nat.le_of_ble_eq_true rfl, Nat.le_of_ble_eq_true rfl⟩ ⟨Nat.zero_le _, Nat.zero_le _⟩ hl.1 (Nat.le_of_ble_eq_true rfl) dX0_round_32 (fun r3 V4 H locs hw hB hS => ?_)
      refine lv_icmp_lt (tgt := 41) hx hb dX0_round_35 (by decide) (fun q => ?_) (fun q => ?_)
      · replace hw := hw.1 q
        refine lv_aload_n hx hb dX0_round_41 rfl (lv_at hl 0 rfl) ?_
        refine lv_iload_n hx hb dX0_round_42 rfl (lv_at hl 3 rfl) ?_
        refine lv_aload_n hx hb dX0_round_43 rfl (lv_at hl 1 rfl) ?_
        refine kX0_X0_choiceOf F hB hS hw ⟨Nat.le_of_ble_eq_true rfl, Nat.le_of_ble_eq_true rfl⟩ ⟨Nat.zero_le _, Nat.zero_le _⟩ hl.1 (Nat.le_of_ble_eq_true rfl) dX0_round_44 (fun r5 V6 H locs hw hB hS => ?_)
        refine lv_istore (lv' := [(4, .int r5), (0, .ref (ad 0 0 0)), (1, .ref (ad 4 l1 l1')), (2, .int l2), (3, .int l3)]) hx hb dX0_round_47 hl (by decide) rfl (fun ls hl => ?_)
        refine lv_iload hx hb dX0_round_49 (lv_at hl 0 rfl) ?_
        refine lv_iconst (v := -1) hx hb dX0_round_51 (by decide) ?_
        refine lv_icmp_ne (tgt := 58) hx hb dX0_round_52 (by decide) (fun q => ?_) (fun q => ?_)
        · replace hw := hw.2 q
          refine lv_aload_n hx hb dX0_round_58 rfl (lv_at hl 1 rfl) ?_
          refine lv_aload_n hx hb dX0_round_59 rfl (lv_at hl 2 rfl) ?_
          refine lv_iload hx hb dX0_round_60 (lv_at hl 0 rfl) ?_
          refine kX0_X0_saysOf F hB hS hw ⟨Nat.le_of_ble_eq_true rfl, Nat.le_of_ble_eq_true rfl⟩ ⟨Nat.zero_le _, Nat.zero_le _⟩ hl.1 (Nat.le_of_ble_eq_true rfl) dX0_round_62 (fun V8 H locs hw hB hS => ?_)
          refine lv_iinc (v := l2 + (1 : Int32)) (lv' := [(2, .int (l2 + (1 : Int32))), (4, .int r5), (0, .ref (ad 0 0 0)), (1, .ref (ad 4 l1 l1')), (3, .int l3)]) hx hb dX0_round_65 hl (k := 3) rfl (x_inc (by decide)) (by decide) rfl (fun ls hl => ?_)
          exact bX0_round_68 F ih g_l1 g_l1p hB hS hw (lv_sub hl [2, 3, 0, 4] rfl)
        · replace hw := hw.1 q
          refine lv_goto (tgt := 68) hx hb dX0_round_55 (by decide) ?_
          exact bX0_round_68 F ih g_l1 g_l1p hB hS hw (lv_sub hl [1, 2, 3, 4] rfl)
      · replace hw := hw.2 q
        refine lv_goto (tgt := 68) hx hb dX0_round_38 (by decide) ?_
        exact bX0_round_68 F ih g_l1 g_l1p hB hS hw hl
set_option maxHeartbeats 4000000 in
theorem bX0_round_0 {p : Program} {l : Launch} {e : Env} {s : State} {m : MethodId} {args : Array Value} {below : List Frame} {meth : Method} {c : Code} {D : DD} {A : Nat → Prop} {s0 : State} {ad : AD} {Q : Int32 → CV → Prop} {a1 : Nat} {a1' : Nat} {V : CV} {H : Heap} {locs : List Loc} {ls : Array Slot} (F : FX p l c cX0_round s args m RX0 D A s0 5 meth (some .int)) (hB : cB D A ad V H) (hS : va_S A s.heap H locs) (hw : wX0_round a1 a1' V Q) (hl : lv_has ls 5 [(0, .ref (ad 0 0 0)), (1, .ref (ad 4 a1 a1'))]) : W p l e rX0_round s m args below meth c H locs 0 0 (MQ below (va_Qi Q (fun u t => cB D A ad u t.heap) A) args s 0 0 A) (F0 m 0 ls []) := by
  have hx := F.1.x
  have hb := F.1.b
  unfold wX0_round at hw
  obtain ⟨g_a1, hw⟩ := hw
  obtain ⟨g_a1p, hw⟩ := hw
  refine lv_aload_n hx hb dX0_round_0 rfl (lv_at hl 0 rfl) ?_
  refine kX0_X0_findFollowers F hB hS hw ⟨Nat.le_of_ble_eq_true rfl, Nat.le_of_ble_eq_true rfl⟩ ⟨Nat.zero_le _, Nat.zero_le _⟩ hl.1 (Nat.le_of_ble_eq_true rfl) dX0_round_1 (fun V2 H locs hw hB hS => ?_)
  refine lv_iconst (v := 0) hx hb dX0_round_4 (by decide) ?_
  refine lv_istore_n (lv' := [(2, .int (0 : Int32)), (0, .ref (ad 0 0 0)), (1, .ref (ad 4 a1 a1'))]) hx hb dX0_round_5 rfl hl (by decide) rfl (fun ls hl => ?_)
  refine lv_iconst (v := 0) hx hb dX0_round_6 (by decide) ?_
  refine lv_istore_n (lv' := [(3, .int (0 : Int32)), (2, .int (0 : Int32)), (0, .ref (ad 0 0 0)), (1, .ref (ad 4 a1 a1'))]) hx hb dX0_round_7 rfl hl (by decide) rfl (fun ls hl => ?_)
  obtain ⟨f_8, hw⟩ := hw
  exact bX0_round_8 F f_8 _ _ _ _ _ g_a1 g_a1p hw _ _ _ hB hS (lv_sub hl [2, 3, 1, 0] rfl)
set_option maxHeartbeats 4000000 in
theorem mX0_round {l : Launch} {D : DD} {A : Nat → Prop} {s0 : State} {ad : AD} {V : CV} {a1 : Nat} {a1' : Nat} {Q : Int32 → CV → Prop} (hw : wX0_round a1 a1' V Q) : Met l yX0_round (ws_ yX0_round cX0_round 5 (some .int)) rX0_round (va_Pc [.ref (ad 0 0 0), .ref (ad 4 a1 a1')] (fun U => cB D A ad V U.heap ∧ CX l D A s0 U)) (va_Qi Q (fun u t => cB D A ad u t.heap) A) 0 0 A := by
  refine Met.ofW (cc := cX0_round) (maxL := 5) (ret := some .int) (by decide) rfl ?_
  intro p e s m args below meth c s₁ B hml hv
  obtain ⟨rfl, hB, hC⟩ := hv
  have F : FX p l c cX0_round s _ m RX0 D A s0 5 meth (some .int) := ⟨mk_FP B hml rfl, hC⟩
  have hS : va_S A s.heap s.heap [] := va_S.rf
  have hl := lv_entry ([.ref (ad 0 0 0), .ref (ad 4 a1 a1')]) (n := 5) (Nat.le_of_ble_eq_true rfl)
  rw [lg_entry_eq]
  generalize (lg_sl ([.ref (ad 0 0 0), .ref (ad 4 a1 a1')]) ++ List.replicate (5 - (lg_sl ([.ref (ad 0 0 0), .ref (ad 4 a1 a1')])).length) Slot.unset).toArray = ls at hl ⊢
  exact bX0_round_0 F hB hS hw hl
theorem kX0_X0_round {p : Program} {l : Launch} {e : Env} {R : Room} {s : State} {m : MethodId} {args : Array Value} {below : List Frame} {meth : Method} {c : Code} {H : Heap} {locs : List Loc} {cells slots : Nat} {Q0 : State → Prop} {cc : ByteArray} {pc nL : Nat} {ls : Array Slot} {rest : List Value} {ret : Option FieldType} {D : DD} {A : Nat → Prop} {s0 : State} {ad : AD} {V : CV} {a1 : Nat} {a1' : Nat} {Q : Int32 → CV → Prop} (F : FX p l c cc s args m RX0 D A s0 nL meth ret) (hB : cB D A ad V H) (hS : va_S A s.heap H locs) (hw : wX0_round a1 a1' V Q) (hR : rX0_round.frames + 1 ≤ R.frames ∧ 8 + (5 + 11) + rX0_round.locals ≤ R.locals) (hc : cells + 0 ≤ R.cells ∧ slots + 0 ≤ R.slots) (hsz : ls.size = nL) (hW : (rest.map fun v => v.category).sum ≤ 8) (hdg : decode cc pc = .ok (.invokevirtual 412, 3)) (kk : ∀ (r : Int32) (u : CV) (H1 : Heap) (locs1 : List Loc), Q r u → cB D A ad u H1 → va_S A s.heap H1 locs1 → W p l e R s m args below meth c H1 locs1 cells slots Q0 (F0 m (pc + 3) ls (.int r :: rest))) : W p l e R s m args below meth c H locs cells slots Q0 (F0 m pc ls (.ref (ad 4 a1 a1') :: .ref (ad 0 0 0) :: rest)) :=
  k_i (Bw := cB D A ad) (k_runV (Bw := cB D A ad) (n := 1) (As := [.ref (ad 4 a1 a1')]) F hB hS (c_at F (hB.pic cpic0) rfl) (mX0_round hw) q940 q942 qs32 q83 q943 (by decide +kernel) hR ⟨rfl, rfl⟩ hc rfl hsz rfl hW hdg) hS kk
def rX0_rowsOfRounds : Room := { frames := 8, cells := 39, slots := 39, locals := 284 }
set_option maxHeartbeats 4000000 in
theorem bX0_rowsOfRounds_35 {p : Program} {l : Launch} {e : Env} {s : State} {m : MethodId} {args : Array Value} {below : List Frame} {meth : Method} {c : Code} {D : DD} {A : Nat → Prop} {s0 : State} {ad : AD} {Q : Int32 → CV → Prop} (F : FX p l c cX0_rowsOfRounds s args m RX0 D A s0 6 meth (some .int)) : ∀ (n : Nat) (l2 : Int32) (l3' : Nat) (l4 : Int32) (V : CV), l3' < 8 → wX0_rowsOfRounds_35 Q n l2 l3' l4 V → ∀ (H : Heap) (locs : List Loc) (ls : Array Slot), cB D A ad V H → va_S A s.heap H locs → lv_has ls 6 [(0, .ref (ad 0 0 0)), (2, .int l2), (3, .ref (ad 4 0 l3')), (4, .int l4)] → W p l e rX0_rowsOfRounds s m args below meth c H locs 26 26 (MQ below (va_Qi Q (fun u t => cB D A ad u t.heap) A) args s 39 39 A) (F0 m 35 ls []) := by
  have hx := F.1.x
  have hb := F.1.b
  intro n
  induction n with
  | zero => intro l2 l3' l4 V g_l3p hw; exact hw.elim
  | succ n ih =>
    intro l2 l3' l4 V g_l3p hw H locs ls hB hS hl
    unfold wX0_rowsOfRounds_35 at hw
    refine lv_iload hx hb dX0_rowsOfRounds_35 (lv_at hl 3 rfl) ?_
    refine lv_iload_n hx hb dX0_rowsOfRounds_37 rfl (lv_at hl 1 rfl) ?_
    refine lv_icmp_ge (tgt := 82) hx hb dX0_rowsOfRounds_38 (by decide) (fun q => ?_) (fun q => ?_)
    · replace hw := hw.1 q
      refine lv_aload_n hx hb dX0_rowsOfRounds_82 rfl (lv_at hl 0 rfl) ?_
      refine cg_X0_46 F hB dX0_rowsOfRounds_83 ?_
      refine lv_aload_n hx hb dX0_rowsOfRounds_86 rfl (lv_at hl 0 rfl) ?_
      refine cg_X0_53 F hB dX0_rowsOfRounds_87 ?_
      refine kX0_X1_copyOf F hB hS hw ⟨Nat.le_of_ble_eq_true rfl, Nat.le_of_ble_eq_true rfl⟩ ⟨by show _ ≤ 39; omega, by show _ ≤ 39; omega⟩ hl.1 (Nat.le_of_ble_eq_true rfl) dX0_rowsOfRounds_90 (fun V2 H locs hw hB hS => ?_)
      refine lv_iconst (v := 2) hx hb dX0_rowsOfRounds_93 (by decide) ?_
      refine lv_iload_n hx hb dX0_rowsOfRounds_94 rfl (lv_at hl 1 rfl) ?_
      refine lv_imul hx hb dX0_rowsOfRounds_95 ?_
      exact W.iret hx hb F.1.r (fun t ht hW => ⟨⟨_, _, rfl, hw, x_B (Bw := cB D A ad) ht hB⟩, hS.F ht⟩) hS.2.2 dX0_rowsOfRounds_96 (hlocks := F.1.k)
    · replace hw := hw.2 q
      refine lv_aload_n hx hb dX0_rowsOfRounds_41 rfl (lv_at hl 0 rfl) ?_
      refine lv_aload_n hx hb dX0_rowsOfRounds_42 rfl (lv_at hl 2 rfl) ?_
      refine kX0_X0_round F hB hS hw ⟨Nat.le_of_ble_eq_true rfl, Nat.le_of_ble_eq_true rfl⟩ ⟨by show _ ≤ 39; omega, by show _ ≤ 39; omega⟩ hl.1 (Nat.le_of_ble_eq_true rfl) dX0_rowsOfRounds_43 (fun r3 V4 H locs hw hB hS => ?_)
      refine lv_istore (lv' := [(5, .int r3), (0, .ref (ad 0 0 0)), (2, .int l2), (3, .ref (ad 4 0 l3')), (4, .int l4)]) hx hb dX0_rowsOfRounds_46 hl (by decide) rfl (fun ls hl => ?_)
      refine lv_aload_n hx hb dX0_rowsOfRounds_48 rfl (lv_at hl 1 rfl) ?_
      refine cg_X0_98 F hB dX0_rowsOfRounds_49 ?_
      refine lv_iconst (v := 2) hx hb dX0_rowsOfRounds_52 (by decide) ?_
      refine lv_iload hx hb dX0_rowsOfRounds_53 (lv_at hl 4 rfl) ?_
      refine lv_imul hx hb dX0_rowsOfRounds_55 ?_
      refine lv_aload_n hx hb dX0_rowsOfRounds_56 rfl (lv_at hl 3 rfl) ?_
      refine kX0_X2_leftMany F hB hS hw ⟨Nat.le_of_ble_eq_true rfl, Nat.le_of_ble_eq_true rfl⟩ ⟨by show _ ≤ 39; omega, by show _ ≤ 39; omega⟩ hl.1 (Nat.le_of_ble_eq_true rfl) dX0_rowsOfRounds_57 (fun r5 V6 H locs hw hB hS => ?_)
      obtain ⟨hin7, hw⟩ := hw
      refine ct_24 F hB hS hin7 dX0_rowsOfRounds_60 (fun H locs hB hS => ?_)
      refine lv_aload_n hx hb dX0_rowsOfRounds_61 rfl (lv_at hl 1 rfl) ?_
      refine cg_X0_98 F hB dX0_rowsOfRounds_62 ?_
      refine lv_iconst (v := 2) hx hb dX0_rowsOfRounds_65 (by decide) ?_
      refine lv_iload hx hb dX0_rowsOfRounds_66 (lv_at hl 4 rfl) ?_
      refine lv_imul hx hb dX0_rowsOfRounds_68 ?_
      refine lv_iconst (v := 1) hx hb dX0_rowsOfRounds_69 (by decide) ?_
      refine lv_iadd hx hb dX0_rowsOfRounds_70 ?_
      refine lv_aload_n hx hb dX0_rowsOfRounds_71 rfl (lv_at hl 3 rfl) ?_
      refine cg_X0_359 F hB (by decide) g_l3p dX0_rowsOfRounds_72 ?_
      obtain ⟨hin8, hw⟩ := hw
      refine ct_24 F hB hS hin8 dX0_rowsOfRounds_75 (fun H locs hB hS => ?_)
      refine lv_iinc (v := l4 + (1 : Int32)) (lv' := [(4, .int (l4 + (1 : Int32))), (5, .int r3), (0, .ref (ad 0 0 0)), (2, .int l2), (3, .ref (ad 4 0 l3'))]) hx hb dX0_rowsOfRounds_76 hl (k := 4) rfl (x_inc (by decide)) (by decide) rfl (fun ls hl => ?_)
      refine lv_goto (tgt := 35) hx hb dX0_rowsOfRounds_79 (by decide) ?_
      exact ih _ _ _ _ g_l3p hw _ _ _ hB hS (lv_sub hl [2, 3, 4, 0] rfl)
set_option maxHeartbeats 4000000 in
theorem bX0_rowsOfRounds_0 {p : Program} {l : Launch} {e : Env} {s : State} {m : MethodId} {args : Array Value} {below : List Frame} {meth : Method} {c : Code} {D : DD} {A : Nat → Prop} {s0 : State} {ad : AD} {Q : Int32 → CV → Prop} {a1 : Int32} {a2 : Int32} {V : CV} {H : Heap} {locs : List Loc} {ls : Array Slot} (F : FX p l c cX0_rowsOfRounds s args m RX0 D A s0 6 meth (some .int)) (hB : cB D A ad V H) (hS : va_S A s.heap H locs) (hw : wX0_rowsOfRounds a1 a2 V Q) (hl : lv_has ls 6 [(0, .ref (ad 0 0 0)), (1, .int a1), (2, .int a2)]) : W p l e rX0_rowsOfRounds s m args below meth c H locs 0 0 (MQ below (va_Qi Q (fun u t => cB D A ad u t.heap) A) args s 39 39 A) (F0 m 0 ls []) := by
  have hx := F.1.x
  have hb := F.1.b
  unfold wX0_rowsOfRounds at hw
  refine lv_aload_n hx hb dX0_rowsOfRounds_0 rfl (lv_at hl 0 rfl) ?_
  refine cg_X0_53 F hB dX0_rowsOfRounds_1 ?_
  refine lv_aload_n hx hb dX0_rowsOfRounds_4 rfl (lv_at hl 0 rfl) ?_
  refine cg_X0_46 F hB dX0_rowsOfRounds_5 ?_
  refine kX0_X1_copyOf F hB hS hw ⟨Nat.le_of_ble_eq_true rfl, Nat.le_of_ble_eq_true rfl⟩ ⟨by show _ ≤ 39; omega, by show _ ≤ 39; omega⟩ hl.1 (Nat.le_of_ble_eq_true rfl) dX0_rowsOfRounds_8 (fun V2 H locs hw hB hS => ?_)
  refine lv_aload_n hx hb dX0_rowsOfRounds_11 rfl (lv_at hl 0 rfl) ?_
  refine cg_X0_46 F hB dX0_rowsOfRounds_12 ?_
  refine lv_aload_n hx hb dX0_rowsOfRounds_15 rfl (lv_at hl 0 rfl) ?_
  refine cg_X0_50 F hB dX0_rowsOfRounds_16 ?_
  refine kX0_X1_copyOf F hB hS hw ⟨Nat.le_of_ble_eq_true rfl, Nat.le_of_ble_eq_true rfl⟩ ⟨by show _ ≤ 39; omega, by show _ ≤ 39; omega⟩ hl.1 (Nat.le_of_ble_eq_true rfl) dX0_rowsOfRounds_19 (fun V4 H locs hw hB hS => ?_)
  refine lv_aload_n hx hb dX0_rowsOfRounds_22 rfl (lv_at hl 0 rfl) ?_
  refine cg_X0_46 F hB dX0_rowsOfRounds_23 ?_
  refine cg_X0_278 F hB (by decide) dX0_rowsOfRounds_26 ?_
  refine lv_iload_n hx hb dX0_rowsOfRounds_29 rfl (lv_at hl 1 rfl) ?_
  obtain ⟨hin5, hw⟩ := hw
  refine cl_De F hB (by decide) hin5 dX0_rowsOfRounds_30 ?_
  refine lv_astore_n (lv' := [(3, .ref (ad 4 0 a1.toNatClampNeg)), (0, .ref (ad 0 0 0)), (1, .int a1), (2, .int a2)]) hx hb dX0_rowsOfRounds_31 rfl hl (by decide) rfl (fun ls hl => ?_)
  refine lv_iconst (v := 0) hx hb dX0_rowsOfRounds_32 (by decide) ?_
  refine lv_istore (lv' := [(4, .int (0 : Int32)), (3, .ref (ad 4 0 a1.toNatClampNeg)), (0, .ref (ad 0 0 0)), (1, .int a1), (2, .int a2)]) hx hb dX0_rowsOfRounds_33 hl (by decide) rfl (fun ls hl => ?_)
  obtain ⟨f_35, hw⟩ := hw
  exact bX0_rowsOfRounds_35 F f_35 _ _ _ _ (x_lt hin5) hw _ _ _ hB hS (lv_sub hl [2, 4, 1, 0] rfl)
set_option maxHeartbeats 4000000 in
theorem mX0_rowsOfRounds {l : Launch} {D : DD} {A : Nat → Prop} {s0 : State} {ad : AD} {V : CV} {a1 : Int32} {a2 : Int32} {Q : Int32 → CV → Prop} (hw : wX0_rowsOfRounds a1 a2 V Q) : Met l yX0_rowsOfRounds (ws_ yX0_rowsOfRounds cX0_rowsOfRounds 6 (some .int)) rX0_rowsOfRounds (va_Pc [.ref (ad 0 0 0), .int a1, .int a2] (fun U => cB D A ad V U.heap ∧ CX l D A s0 U)) (va_Qi Q (fun u t => cB D A ad u t.heap) A) 39 39 A := by
  refine Met.ofW (cc := cX0_rowsOfRounds) (maxL := 6) (ret := some .int) (by decide) rfl ?_
  intro p e s m args below meth c s₁ B hml hv
  obtain ⟨rfl, hB, hC⟩ := hv
  have F : FX p l c cX0_rowsOfRounds s _ m RX0 D A s0 6 meth (some .int) := ⟨mk_FP B hml rfl, hC⟩
  have hS : va_S A s.heap s.heap [] := va_S.rf
  have hl := lv_entry ([.ref (ad 0 0 0), .int a1, .int a2]) (n := 6) (Nat.le_of_ble_eq_true rfl)
  rw [lg_entry_eq]
  generalize (lg_sl ([.ref (ad 0 0 0), .int a1, .int a2]) ++ List.replicate (6 - (lg_sl ([.ref (ad 0 0 0), .int a1, .int a2])).length) Slot.unset).toArray = ls at hl ⊢
  exact bX0_rowsOfRounds_0 F hB hS hw hl
theorem kX0_X0_rowsOfRounds {p : Program} {l : Launch} {e : Env} {R : Room} {s : State} {m : MethodId} {args : Array Value} {below : List Frame} {meth : Method} {c : Code} {H : Heap} {locs : List Loc} {cells slots : Nat} {Q0 : State → Prop} {cc : ByteArray} {pc nL : Nat} {ls : Array Slot} {rest : List Value} {ret : Option FieldType} {D : DD} {A : Nat → Prop} {s0 : State} {ad : AD} {V : CV} {a1 : Int32} {a2 : Int32} {Q : Int32 → CV → Prop} (F : FX p l c cc s args m RX0 D A s0 nL meth ret) (hB : cB D A ad V H) (hS : va_S A s.heap H locs) (hw : wX0_rowsOfRounds a1 a2 V Q) (hR : rX0_rowsOfRounds.frames + 1 ≤ R.frames ∧ 8 + (6 + 11) + rX0_rowsOfRounds.locals ≤ R.locals) (hc : cells + 39 ≤ R.cells ∧ slots + 39 ≤ R.slots) (hsz : ls.size = nL) (hW : (rest.map fun v => v.category).sum ≤ 8) (hdg : decode cc pc = .ok (.invokevirtual 523, 3)) (kk : ∀ (r : Int32) (u : CV) (H1 : Heap) (locs1 : List Loc), Q r u → cB D A ad u H1 → va_S A s.heap H1 locs1 → W p l e R s m args below meth c H1 locs1 (cells + 39) (slots + 39) Q0 (F0 m (pc + 3) ls (.int r :: rest))) : W p l e R s m args below meth c H locs cells slots Q0 (F0 m pc ls (.int a2 :: .int a1 :: .ref (ad 0 0 0) :: rest)) :=
  k_i (Bw := cB D A ad) (k_runV (Bw := cB D A ad) (n := 2) (As := [.int a1, .int a2]) F hB hS (c_at F (hB.pic cpic0) rfl) (mX0_rowsOfRounds hw) q1179 q1181 qs38 q83 q1182 (by decide +kernel) hR ⟨rfl, rfl⟩ hc rfl hsz rfl hW hdg) hS kk
def rX0_check : Room := { frames := 9, cells := 39, slots := 39, locals := 309 }
set_option maxHeartbeats 4000000 in
theorem bX0_check_65 {p : Program} {l : Launch} {e : Env} {s : State} {m : MethodId} {args : Array Value} {below : List Frame} {meth : Method} {c : Code} {D : DD} {A : Nat → Prop} {s0 : State} {ad : AD} {Q : Int32 → CV → Prop} (F : FX p l c cX0_check s args m RX0 D A s0 6 meth (some .int)) : ∀ (n : Nat) (l3 : Int32) (l4 : Int32) (l5 : Int32) (V : CV), wX0_check_65 Q n l3 l4 l5 V → ∀ (H : Heap) (locs : List Loc) (ls : Array Slot), cB D A ad V H → va_S A s.heap H locs → lv_has ls 6 [(0, .ref (ad 0 0 0)), (3, .int l3), (4, .int l4), (5, .int l5)] → W p l e rX0_check s m args below meth c H locs 39 39 (MQ below (va_Qi Q (fun u t => cB D A ad u t.heap) A) args s 39 39 A) (F0 m 65 ls []) := by
  have hx := F.1.x
  have hb := F.1.b
  intro n
  induction n with
  | zero => intro l3 l4 l5 V hw; exact hw.elim
  | succ n ih =>
    intro l3 l4 l5 V hw H locs ls hB hS hl
    unfold wX0_check_65 at hw
    refine lv_iload hx hb dX0_check_65 (lv_at hl 3 rfl) ?_
    refine lv_iload_n hx hb dX0_check_67 rfl (lv_at hl 1 rfl) ?_
    refine lv_icmp_ge (tgt := 109) hx hb dX0_check_68 (by decide) (fun q => ?_) (fun q => ?_)
    · replace hw := hw.1 q
      refine lv_iload_n hx hb dX0_check_109 rfl (lv_at hl 1 rfl) ?_
      refine lv_iload hx hb dX0_check_110 (lv_at hl 2 rfl) ?_
      refine lv_icmp_ge (tgt := 121) hx hb dX0_check_112 (by decide) (fun q => ?_) (fun q => ?_)
      · replace hw := hw.1 q
        refine lv_iconst (v := 0) hx hb dX0_check_121 (by decide) ?_
        exact W.iret hx hb F.1.r (fun t ht hW => ⟨⟨_, _, rfl, hw, x_B (Bw := cB D A ad) ht hB⟩, hS.F ht⟩) hS.2.2 dX0_check_122 (hlocks := F.1.k)
      · replace hw := hw.2 q
        refine lv_iconst (v := 1) hx hb dX0_check_115 (by decide) ?_
        refine lv_iload_n hx hb dX0_check_116 rfl (lv_at hl 1 rfl) ?_
        refine lv_iadd hx hb dX0_check_117 ?_
        refine lv_goto (tgt := 122) hx hb dX0_check_118 (by decide) ?_
        exact W.iret hx hb F.1.r (fun t ht hW => ⟨⟨_, _, rfl, hw, x_B (Bw := cB D A ad) ht hB⟩, hS.F ht⟩) hS.2.2 dX0_check_122 (hlocks := F.1.k)
    · replace hw := hw.2 q
      refine lv_iload hx hb dX0_check_71 (lv_at hl 3 rfl) ?_
      refine lv_iload hx hb dX0_check_73 (lv_at hl 2 rfl) ?_
      refine lv_icmp_ge (tgt := 98) hx hb dX0_check_75 (by decide) (fun q => ?_) (fun q => ?_)
      · replace hw := hw.1 q
        refine lv_iconst (v := 1) hx hb dX0_check_98 (by decide) ?_
        refine lv_iload hx hb dX0_check_99 (lv_at hl 3 rfl) ?_
        refine lv_iadd hx hb dX0_check_101 ?_
        exact W.iret hx hb F.1.r (fun t ht hW => ⟨⟨_, _, rfl, hw, x_B (Bw := cB D A ad) ht hB⟩, hS.F ht⟩) hS.2.2 dX0_check_102 (hlocks := F.1.k)
      · replace hw := hw.2 q
        refine lv_aload_n hx hb dX0_check_78 rfl (lv_at hl 0 rfl) ?_
        refine cg_X0_95 F hB dX0_check_79 ?_
        refine lv_iload hx hb dX0_check_82 (lv_at hl 3 rfl) ?_
        obtain ⟨hin1, hw⟩ := hw
        refine cl_22 F hB hin1 dX0_check_84 ?_
        refine lv_aload_n hx hb dX0_check_85 rfl (lv_at hl 0 rfl) ?_
        refine cg_X0_98 F hB dX0_check_86 ?_
        refine lv_iload hx hb dX0_check_89 (lv_at hl 3 rfl) ?_
        obtain ⟨hin2, hw⟩ := hw
        refine cl_24 F hB hin2 dX0_check_91 ?_
        refine lv_icmp_ne (tgt := 98) hx hb dX0_check_92 (by decide) (fun q => ?_) (fun q => ?_)
        · replace hw := hw.2 q
          refine lv_iconst (v := 1) hx hb dX0_check_98 (by decide) ?_
          refine lv_iload hx hb dX0_check_99 (lv_at hl 3 rfl) ?_
          refine lv_iadd hx hb dX0_check_101 ?_
          exact W.iret hx hb F.1.r (fun t ht hW => ⟨⟨_, _, rfl, hw, x_B (Bw := cB D A ad) ht hB⟩, hS.F ht⟩) hS.2.2 dX0_check_102 (hlocks := F.1.k)
        · replace hw := hw.1 q
          refine lv_goto (tgt := 103) hx hb dX0_check_95 (by decide) ?_
          refine lv_iinc (v := l5 + (1 : Int32)) (lv' := [(5, .int (l5 + (1 : Int32))), (0, .ref (ad 0 0 0)), (3, .int l3), (4, .int l4)]) hx hb dX0_check_103 hl (k := 3) rfl (x_inc (by decide)) (by decide) rfl (fun ls hl => ?_)
          refine lv_goto (tgt := 65) hx hb dX0_check_106 (by decide) ?_
          exact ih _ _ _ _ hw _ _ _ hB hS (lv_sub hl [1, 2, 3, 0] rfl)
set_option maxHeartbeats 4000000 in
theorem bX0_check_0 {p : Program} {l : Launch} {e : Env} {s : State} {m : MethodId} {args : Array Value} {below : List Frame} {meth : Method} {c : Code} {D : DD} {A : Nat → Prop} {s0 : State} {ad : AD} {Q : Int32 → CV → Prop} {a1 : Int32} {a2 : Int32} {V : CV} {H : Heap} {locs : List Loc} {ls : Array Slot} (F : FX p l c cX0_check s args m RX0 D A s0 6 meth (some .int)) (hB : cB D A ad V H) (hS : va_S A s.heap H locs) (hw : wX0_check a1 a2 V Q) (hl : lv_has ls 6 [(0, .ref (ad 0 0 0)), (1, .int a1), (2, .int a2)]) : W p l e rX0_check s m args below meth c H locs 0 0 (MQ below (va_Qi Q (fun u t => cB D A ad u t.heap) A) args s 39 39 A) (F0 m 0 ls []) := by
  have hx := F.1.x
  have hb := F.1.b
  unfold wX0_check at hw
  refine lv_aload_n hx hb dX0_check_0 rfl (lv_at hl 0 rfl) ?_
  refine cg_X0_512 F hB dX0_check_1 ?_
  refine lv_istore_n (lv' := [(3, .int (vI V 23)), (0, .ref (ad 0 0 0)), (1, .int a1), (2, .int a2)]) hx hb dX0_check_4 rfl hl (by decide) rfl (fun ls hl => ?_)
  refine lv_aload_n hx hb dX0_check_5 rfl (lv_at hl 1 rfl) ?_
  refine lv_iconst (v := 0) hx hb dX0_check_6 (by decide) ?_
  refine cp_X0_512 F hB hS dX0_check_7 (fun H locs hB hS => ?_)
  refine lv_iload_n hx hb dX0_check_10 rfl (lv_at hl 3 rfl) ?_
  refine lv_iconst (v := 1) hx hb dX0_check_11 (by decide) ?_
  refine lv_bipush (v := 30) hx hb dX0_check_12 (by decide) ?_
  refine kX0_X0_isIn F.1 hw ⟨Nat.le_of_ble_eq_true rfl, Nat.le_of_ble_eq_true rfl⟩ ⟨by show _ ≤ 39; omega, by show _ ≤ 39; omega⟩ hl.1 (Nat.le_of_ble_eq_true rfl) dX0_check_14 (fun r1 hw => ?_)
  refine lv_if_ne (tgt := 23) hx hb dX0_check_17 (by decide) (fun q => ?_) (fun q => ?_)
  · replace hw := hw.2 q
    refine lv_aload_n hx hb dX0_check_23 rfl (lv_at hl 1 rfl) ?_
    refine cg_X0_519 F hB dX0_check_24 ?_
    refine lv_if_ne (tgt := 34) hx hb dX0_check_27 (by decide) (fun q => ?_) (fun q => ?_)
    · replace hw := hw.2 q
      refine lv_iload_n hx hb dX0_check_34 rfl (lv_at hl 2 rfl) ?_
      refine lv_iconst (v := 0) hx hb dX0_check_35 (by decide) ?_
      refine lv_aload_n hx hb dX0_check_36 rfl (lv_at hl 1 rfl) ?_
      refine cg_X0_50 F hB dX0_check_37 ?_
      refine cg_X0_109 F hB (by decide) dX0_check_40 ?_
      refine lv_iconst (v := 1) hx hb dX0_check_43 (by decide) ?_
      refine lv_isub hx hb dX0_check_44 ?_
      refine kX0_X0_isIn F.1 hw ⟨Nat.le_of_ble_eq_true rfl, Nat.le_of_ble_eq_true rfl⟩ ⟨by show _ ≤ 39; omega, by show _ ≤ 39; omega⟩ hl.1 (Nat.le_of_ble_eq_true rfl) dX0_check_45 (fun r2 hw => ?_)
      refine lv_if_ne (tgt := 54) hx hb dX0_check_48 (by decide) (fun q => ?_) (fun q => ?_)
      · replace hw := hw.2 q
        refine lv_aload_n hx hb dX0_check_54 rfl (lv_at hl 1 rfl) ?_
        refine lv_iload_n hx hb dX0_check_55 rfl (lv_at hl 2 rfl) ?_
        refine lv_iload_n hx hb dX0_check_56 rfl (lv_at hl 3 rfl) ?_
        refine kX0_X0_rowsOfRounds F hB hS hw ⟨Nat.le_of_ble_eq_true rfl, Nat.le_of_ble_eq_true rfl⟩ ⟨by show _ ≤ 39; omega, by show _ ≤ 39; omega⟩ hl.1 (Nat.le_of_ble_eq_true rfl) dX0_check_57 (fun r3 V4 H locs hw hB hS => ?_)
        refine lv_istore (lv' := [(4, .int r3), (3, .int (vI V 23)), (0, .ref (ad 0 0 0)), (1, .int a1), (2, .int a2)]) hx hb dX0_check_60 hl (by decide) rfl (fun ls hl => ?_)
        refine lv_iconst (v := 0) hx hb dX0_check_62 (by decide) ?_
        refine lv_istore (lv' := [(5, .int (0 : Int32)), (4, .int r3), (3, .int (vI V 23)), (0, .ref (ad 0 0 0)), (1, .int a1), (2, .int a2)]) hx hb dX0_check_63 hl (by decide) rfl (fun ls hl => ?_)
        obtain ⟨f_65, hw⟩ := hw
        exact bX0_check_65 F f_65 _ _ _ _ hw _ _ _ hB hS (lv_sub hl [3, 2, 1, 0] rfl)
      · replace hw := hw.1 q
        refine lv_ldc hx hb F.1.o (F.1.t _ q392) dX0_check_51 ?_
        refine W.widen (k := 39) (n := 39) (by omega) (by omega) ?_
        exact W.iret hx hb F.1.r (fun t ht hW => ⟨⟨_, _, rfl, hw, x_B (Bw := cB D A ad) ht hB⟩, hS.F ht⟩) hS.2.2 dX0_check_53 (hlocks := F.1.k)
    · replace hw := hw.1 q
      refine lv_ldcw hx hb F.1.o (F.1.t _ q860) dX0_check_30 ?_
      refine W.widen (k := 39) (n := 39) (by omega) (by omega) ?_
      exact W.iret hx hb F.1.r (fun t ht hW => ⟨⟨_, _, rfl, hw, x_B (Bw := cB D A ad) ht hB⟩, hS.F ht⟩) hS.2.2 dX0_check_33 (hlocks := F.1.k)
  · replace hw := hw.1 q
    refine lv_ldc hx hb F.1.o (F.1.t _ q392) dX0_check_20 ?_
    refine W.widen (k := 39) (n := 39) (by omega) (by omega) ?_
    exact W.iret hx hb F.1.r (fun t ht hW => ⟨⟨_, _, rfl, hw, x_B (Bw := cB D A ad) ht hB⟩, hS.F ht⟩) hS.2.2 dX0_check_22 (hlocks := F.1.k)
set_option maxHeartbeats 4000000 in
theorem mX0_check {l : Launch} {D : DD} {A : Nat → Prop} {s0 : State} {ad : AD} {V : CV} {a1 : Int32} {a2 : Int32} {Q : Int32 → CV → Prop} (hw : wX0_check a1 a2 V Q) : Met l yX0_check (ws_ yX0_check cX0_check 6 (some .int)) rX0_check (va_Pc [.ref (ad 0 0 0), .int a1, .int a2] (fun U => cB D A ad V U.heap ∧ CX l D A s0 U)) (va_Qi Q (fun u t => cB D A ad u t.heap) A) 39 39 A := by
  refine Met.ofW (cc := cX0_check) (maxL := 6) (ret := some .int) (by decide) rfl ?_
  intro p e s m args below meth c s₁ B hml hv
  obtain ⟨rfl, hB, hC⟩ := hv
  have F : FX p l c cX0_check s _ m RX0 D A s0 6 meth (some .int) := ⟨mk_FP B hml rfl, hC⟩
  have hS : va_S A s.heap s.heap [] := va_S.rf
  have hl := lv_entry ([.ref (ad 0 0 0), .int a1, .int a2]) (n := 6) (Nat.le_of_ble_eq_true rfl)
  rw [lg_entry_eq]
  generalize (lg_sl ([.ref (ad 0 0 0), .int a1, .int a2]) ++ List.replicate (6 - (lg_sl ([.ref (ad 0 0 0), .int a1, .int a2])).length) Slot.unset).toArray = ls at hl ⊢
  exact bX0_check_0 F hB hS hw hl
def rX0_orNone : Room := { frames := 0, cells := 0, slots := 0, locals := 0 }
set_option maxHeartbeats 4000000 in
theorem bX0_orNone_0 {p : Program} {l : Launch} {e : Env} {s : State} {m : MethodId} {args : Array Value} {below : List Frame} {meth : Method} {c : Code} {Q : Int32 → Prop} {a0 : Int32} {ls : Array Slot} (F : FP p c cX0_orNone s args m RX0 1 meth (some .int)) (hw : wX0_orNone a0 Q) (hl : lv_has ls 1 [(0, .int a0)]) : W p l e rX0_orNone s m args below meth c s.heap [] 0 0 (MQ below (vp_Si Q) args s 0 0 (fun _ => False)) (F0 m 0 ls []) := by
  have hx := F.x
  have hb := F.b
  unfold wX0_orNone at hw
  refine lv_iload_n hx hb dX0_orNone_0 rfl (lv_at hl 0 rfl) ?_
  refine lv_iconst (v := -1) hx hb dX0_orNone_1 (by decide) ?_
  refine lv_icmp_ne (tgt := 10) hx hb dX0_orNone_2 (by decide) (fun q => ?_) (fun q => ?_)
  · replace hw := hw.2 q
    refine lv_iload_n hx hb dX0_orNone_10 rfl (lv_at hl 0 rfl) ?_
    exact W.iret hx hb F.r (fun t ht hW => ⟨_, rfl, hw, ht⟩) (fun _ h => absurd h List.not_mem_nil) dX0_orNone_11 (hlocks := F.k)
  · replace hw := hw.1 q
    refine lv_ldc hx hb F.o (F.t _ q571) dX0_orNone_5 ?_
    refine lv_goto (tgt := 11) hx hb dX0_orNone_7 (by decide) ?_
    exact W.iret hx hb F.r (fun t ht hW => ⟨_, rfl, hw, ht⟩) (fun _ h => absurd h List.not_mem_nil) dX0_orNone_11 (hlocks := F.k)
set_option maxHeartbeats 4000000 in
theorem mX0_orNone {l : Launch}  {a0 : Int32} {Q : Int32 → Prop} (hw : wX0_orNone a0 Q) : Met l yX0_orNone (ws_ yX0_orNone cX0_orNone 1 (some .int)) rX0_orNone (va_Pc [.int a0] (fun _ => True)) (vp_Si Q) 0 0 (fun _ => False) := by
  refine Met.ofW (cc := cX0_orNone) (maxL := 1) (ret := some .int) (by decide) rfl ?_
  intro p e s m args below meth c s₁ B hml hv
  obtain ⟨rfl, -⟩ := hv
  have F : FP p c cX0_orNone s _ m RX0 1 meth (some .int) := mk_FP B hml rfl
  have hl := lv_entry ([.int a0]) (n := 1) (Nat.le_of_ble_eq_true rfl)
  rw [lg_entry_eq]
  generalize (lg_sl ([.int a0]) ++ List.replicate (1 - (lg_sl ([.int a0])).length) Slot.unset).toArray = ls at hl ⊢
  exact bX0_orNone_0 F hw hl
theorem kX0_X0_orNone {p : Program} {l : Launch} {e : Env} {R : Room} {s : State} {m : MethodId} {args : Array Value} {below : List Frame} {meth : Method} {c : Code} {H : Heap} {locs : List Loc} {cells slots : Nat} {Q0 : State → Prop} {cc : ByteArray} {pc nL : Nat} {ls : Array Slot} {rest : List Value} {ret : Option FieldType} {a0 : Int32} {Q : Int32 → Prop} (F : FP p c cc s args m RX0 nL meth ret) (hw : wX0_orNone a0 Q) (hR : rX0_orNone.frames + 1 ≤ R.frames ∧ 8 + (1 + 11) + rX0_orNone.locals ≤ R.locals) (hc : cells ≤ R.cells ∧ slots ≤ R.slots) (hsz : ls.size = nL) (hW : (rest.map fun v => v.category).sum ≤ 8) (hdg : decode cc pc = .ok (.invokestatic 256, 3)) (kk : ∀ r : Int32, Q r → W p l e R s m args below meth c H locs cells slots Q0 (F0 m (pc + 3) ls (.int r :: rest))) : W p l e R s m args below meth c H locs cells slots Q0 (F0 m pc ls (.int a0 :: rest)) :=
  k_csi (k_runP (n := 1) (As := [.int a0]) F (mX0_orNone hw) q568 q569 q83 q570 (by decide +kernel) hR ⟨rfl, rfl⟩ hc rfl hsz rfl hW hdg) kk
def rX0_choice : Room := { frames := 7, cells := 0, slots := 0, locals := 230 }
set_option maxHeartbeats 4000000 in
theorem bX0_choice_0 {p : Program} {l : Launch} {e : Env} {s : State} {m : MethodId} {args : Array Value} {below : List Frame} {meth : Method} {c : Code} {D : DD} {A : Nat → Prop} {s0 : State} {ad : AD} {Q : Int32 → CV → Prop} {a1 : Int32} {a2 : Int32} {V : CV} {H : Heap} {locs : List Loc} {ls : Array Slot} (F : FX p l c cX0_choice s args m RX0 D A s0 3 meth (some .int)) (hB : cB D A ad V H) (hS : va_S A s.heap H locs) (hw : wX0_choice a1 a2 V Q) (hl : lv_has ls 3 [(0, .ref (ad 0 0 0)), (1, .int a1), (2, .int a2)]) : W p l e rX0_choice s m args below meth c H locs 0 0 (MQ below (va_Qi Q (fun u t => cB D A ad u t.heap) A) args s 0 0 A) (F0 m 0 ls []) := by
  have hx := F.1.x
  have hb := F.1.b
  unfold wX0_choice at hw
  refine lv_aload_n hx hb dX0_choice_0 rfl (lv_at hl 0 rfl) ?_
  refine lv_iload_n hx hb dX0_choice_1 rfl (lv_at hl 1 rfl) ?_
  refine kX0_X0_isPerson F hB hS hw ⟨Nat.le_of_ble_eq_true rfl, Nat.le_of_ble_eq_true rfl⟩ ⟨Nat.zero_le _, Nat.zero_le _⟩ hl.1 (Nat.le_of_ble_eq_true rfl) dX0_choice_2 (fun r1 V2 H locs hw hB hS => ?_)
  refine lv_if_eq (tgt := 16) hx hb dX0_choice_5 (by decide) (fun q => ?_) (fun q => ?_)
  · replace hw := hw.1 q
    refine lv_ldc hx hb F.1.o (F.1.t _ q392) dX0_choice_16 ?_
    exact W.iret hx hb F.1.r (fun t ht hW => ⟨⟨_, _, rfl, hw, x_B (Bw := cB D A ad) ht hB⟩, hS.F ht⟩) hS.2.2 dX0_choice_18 (hlocks := F.1.k)
  · replace hw := hw.2 q
    refine lv_aload_n hx hb dX0_choice_8 rfl (lv_at hl 0 rfl) ?_
    refine lv_iload_n hx hb dX0_choice_9 rfl (lv_at hl 2 rfl) ?_
    refine kX0_X0_isDeed F hB hS hw ⟨Nat.le_of_ble_eq_true rfl, Nat.le_of_ble_eq_true rfl⟩ ⟨Nat.zero_le _, Nat.zero_le _⟩ hl.1 (Nat.le_of_ble_eq_true rfl) dX0_choice_10 (fun r3 V4 H locs hw hB hS => ?_)
    refine lv_if_ne (tgt := 19) hx hb dX0_choice_13 (by decide) (fun q => ?_) (fun q => ?_)
    · replace hw := hw.2 q
      refine lv_aload_n hx hb dX0_choice_19 rfl (lv_at hl 0 rfl) ?_
      refine kX0_X0_findFollowers F hB hS hw ⟨Nat.le_of_ble_eq_true rfl, Nat.le_of_ble_eq_true rfl⟩ ⟨Nat.zero_le _, Nat.zero_le _⟩ hl.1 (Nat.le_of_ble_eq_true rfl) dX0_choice_20 (fun V6 H locs hw hB hS => ?_)
      refine lv_aload_n hx hb dX0_choice_23 rfl (lv_at hl 0 rfl) ?_
      refine lv_iload_n hx hb dX0_choice_24 rfl (lv_at hl 1 rfl) ?_
      refine lv_aload_n hx hb dX0_choice_25 rfl (lv_at hl 0 rfl) ?_
      refine cg_X0_46 F hB dX0_choice_26 ?_
      refine cg_X0_278 F hB (by decide) dX0_choice_29 ?_
      refine lv_iload_n hx hb dX0_choice_32 rfl (lv_at hl 2 rfl) ?_
      obtain ⟨hin7, hw⟩ := hw
      refine cl_De F hB (by decide) hin7 dX0_choice_33 ?_
      refine kX0_X0_choiceOf F hB hS hw ⟨Nat.le_of_ble_eq_true rfl, Nat.le_of_ble_eq_true rfl⟩ ⟨Nat.zero_le _, Nat.zero_le _⟩ hl.1 (Nat.le_of_ble_eq_true rfl) dX0_choice_34 (fun r8 V9 H locs hw hB hS => ?_)
      refine kX0_X0_orNone F.1 hw ⟨Nat.le_of_ble_eq_true rfl, Nat.le_of_ble_eq_true rfl⟩ ⟨Nat.zero_le _, Nat.zero_le _⟩ hl.1 (Nat.le_of_ble_eq_true rfl) dX0_choice_37 (fun r10 hw => ?_)
      exact W.iret hx hb F.1.r (fun t ht hW => ⟨⟨_, _, rfl, hw, x_B (Bw := cB D A ad) ht hB⟩, hS.F ht⟩) hS.2.2 dX0_choice_40 (hlocks := F.1.k)
    · replace hw := hw.1 q
      refine lv_ldc hx hb F.1.o (F.1.t _ q392) dX0_choice_16 ?_
      exact W.iret hx hb F.1.r (fun t ht hW => ⟨⟨_, _, rfl, hw, x_B (Bw := cB D A ad) ht hB⟩, hS.F ht⟩) hS.2.2 dX0_choice_18 (hlocks := F.1.k)
set_option maxHeartbeats 4000000 in
theorem mX0_choice {l : Launch} {D : DD} {A : Nat → Prop} {s0 : State} {ad : AD} {V : CV} {a1 : Int32} {a2 : Int32} {Q : Int32 → CV → Prop} (hw : wX0_choice a1 a2 V Q) : Met l yX0_choice (ws_ yX0_choice cX0_choice 3 (some .int)) rX0_choice (va_Pc [.ref (ad 0 0 0), .int a1, .int a2] (fun U => cB D A ad V U.heap ∧ CX l D A s0 U)) (va_Qi Q (fun u t => cB D A ad u t.heap) A) 0 0 A := by
  refine Met.ofW (cc := cX0_choice) (maxL := 3) (ret := some .int) (by decide) rfl ?_
  intro p e s m args below meth c s₁ B hml hv
  obtain ⟨rfl, hB, hC⟩ := hv
  have F : FX p l c cX0_choice s _ m RX0 D A s0 3 meth (some .int) := ⟨mk_FP B hml rfl, hC⟩
  have hS : va_S A s.heap s.heap [] := va_S.rf
  have hl := lv_entry ([.ref (ad 0 0 0), .int a1, .int a2]) (n := 3) (Nat.le_of_ble_eq_true rfl)
  rw [lg_entry_eq]
  generalize (lg_sl ([.ref (ad 0 0 0), .int a1, .int a2]) ++ List.replicate (3 - (lg_sl ([.ref (ad 0 0 0), .int a1, .int a2])).length) Slot.unset).toArray = ls at hl ⊢
  exact bX0_choice_0 F hB hS hw hl
def rX0_speakerOf : Room := { frames := 4, cells := 1, slots := 1, locals := 100 }
set_option maxHeartbeats 4000000 in
theorem bX0_speakerOf_0 {p : Program} {l : Launch} {e : Env} {s : State} {m : MethodId} {args : Array Value} {below : List Frame} {meth : Method} {c : Code} {D : DD} {A : Nat → Prop} {s0 : State} {ad : AD} {Q : Nat → CV → Prop} {a0 : Int32} {V : CV} {H : Heap} {locs : List Loc} {ls : Array Slot} (F : FX p l c cX0_speakerOf s args m RX0 D A s0 1 meth (some (.object "NeverSaid$Speaker"))) (hB : cB D A ad V H) (hS : va_S A s.heap H locs) (hw : wX0_speakerOf a0 V Q) (hl : lv_has ls 1 [(0, .int a0)]) : W p l e rX0_speakerOf s m args below meth c H locs 0 0 (MQ below (xa_Qn Q (fun u t => cB D A ad u t.heap) A) args s 1 1 A) (F0 m 0 ls []) := by
  have hx := F.1.x
  have hb := F.1.b
  unfold wX0_speakerOf at hw
  refine lv_iload_n hx hb dX0_speakerOf_0 rfl (lv_at hl 0 rfl) ?_
  by_cases q1 : a0 = 1
  · replace hw := hw.1 q1
    refine lv_tableIn (off := 35) (tgt := 36) hx hb dX0_speakerOf_1 (by rw [q1]; decide) (by rw [q1]; decide) (by rw [q1]; rfl) (by decide) ?_
    refine nX0_13 F hB hS (by show 0 + 1 ≤ 1; omega) (by show 0 + 1 ≤ 1; omega) dX0_speakerOf_36 (fun q1 H hq2 hB hS => ?_)
    replace hw := hw q1 hq2
    refine lv_dup hx hb dX0_speakerOf_39 rfl ?_
    refine kX0_X8_init F hB hS hw ⟨Nat.le_of_ble_eq_true rfl, Nat.le_of_ble_eq_true rfl⟩ ⟨by show _ ≤ 1; omega, by show _ ≤ 1; omega⟩ hl.1 (Nat.le_of_ble_eq_true rfl) dX0_speakerOf_40 (fun V4 H locs hw hB hS => ?_)
    exact W.aret hx hb F.1.r (Or.inl ⟨_, rfl⟩) (Or.inr ⟨_, rfl⟩) (fun t ht hW => xa_mk hw (x_B (Bw := cB D A ad) ht hB) (hS.F ht)) hS.2.2 dX0_speakerOf_43 (hlocks := F.1.k)
  replace hw := hw.2 q1
  by_cases q2 : a0 = 2
  · replace hw := hw.1 q2
    refine lv_tableIn (off := 43) (tgt := 44) hx hb dX0_speakerOf_1 (by rw [q2]; decide) (by rw [q2]; decide) (by rw [q2]; rfl) (by decide) ?_
    refine nX0_19 F hB hS (by show 0 + 1 ≤ 1; omega) (by show 0 + 1 ≤ 1; omega) dX0_speakerOf_44 (fun q5 H hq6 hB hS => ?_)
    replace hw := hw q5 hq6
    refine lv_dup hx hb dX0_speakerOf_47 rfl ?_
    refine kX0_X9_init F hB hS hw ⟨Nat.le_of_ble_eq_true rfl, Nat.le_of_ble_eq_true rfl⟩ ⟨by show _ ≤ 1; omega, by show _ ≤ 1; omega⟩ hl.1 (Nat.le_of_ble_eq_true rfl) dX0_speakerOf_48 (fun V8 H locs hw hB hS => ?_)
    exact W.aret hx hb F.1.r (Or.inl ⟨_, rfl⟩) (Or.inr ⟨_, rfl⟩) (fun t ht hW => xa_mk hw (x_B (Bw := cB D A ad) ht hB) (hS.F ht)) hS.2.2 dX0_speakerOf_51 (hlocks := F.1.k)
  replace hw := hw.2 q2
  by_cases q3 : a0 = 3
  · replace hw := hw.1 q3
    refine lv_tableIn (off := 51) (tgt := 52) hx hb dX0_speakerOf_1 (by rw [q3]; decide) (by rw [q3]; decide) (by rw [q3]; rfl) (by decide) ?_
    refine nX0_22 F hB hS (by show 0 + 1 ≤ 1; omega) (by show 0 + 1 ≤ 1; omega) dX0_speakerOf_52 (fun q9 H hq10 hB hS => ?_)
    replace hw := hw q9 hq10
    refine lv_dup hx hb dX0_speakerOf_55 rfl ?_
    refine kX0_X10_init F hB hS hw ⟨Nat.le_of_ble_eq_true rfl, Nat.le_of_ble_eq_true rfl⟩ ⟨by show _ ≤ 1; omega, by show _ ≤ 1; omega⟩ hl.1 (Nat.le_of_ble_eq_true rfl) dX0_speakerOf_56 (fun V12 H locs hw hB hS => ?_)
    exact W.aret hx hb F.1.r (Or.inl ⟨_, rfl⟩) (Or.inr ⟨_, rfl⟩) (fun t ht hW => xa_mk hw (x_B (Bw := cB D A ad) ht hB) (hS.F ht)) hS.2.2 dX0_speakerOf_59 (hlocks := F.1.k)
  replace hw := hw.2 q3
  by_cases q4 : a0 = 4
  · replace hw := hw.1 q4
    refine lv_tableIn (off := 59) (tgt := 60) hx hb dX0_speakerOf_1 (by rw [q4]; decide) (by rw [q4]; decide) (by rw [q4]; rfl) (by decide) ?_
    refine nX0_25 F hB hS (by show 0 + 1 ≤ 1; omega) (by show 0 + 1 ≤ 1; omega) dX0_speakerOf_60 (fun q13 H hq14 hB hS => ?_)
    replace hw := hw q13 hq14
    refine lv_dup hx hb dX0_speakerOf_63 rfl ?_
    refine kX0_X11_init F hB hS hw ⟨Nat.le_of_ble_eq_true rfl, Nat.le_of_ble_eq_true rfl⟩ ⟨by show _ ≤ 1; omega, by show _ ≤ 1; omega⟩ hl.1 (Nat.le_of_ble_eq_true rfl) dX0_speakerOf_64 (fun V16 H locs hw hB hS => ?_)
    exact W.aret hx hb F.1.r (Or.inl ⟨_, rfl⟩) (Or.inr ⟨_, rfl⟩) (fun t ht hW => xa_mk hw (x_B (Bw := cB D A ad) ht hB) (hS.F ht)) hS.2.2 dX0_speakerOf_67 (hlocks := F.1.k)
  replace hw := hw.2 q4
  by_cases q5 : a0 = 5
  · replace hw := hw.1 q5
    refine lv_tableIn (off := 67) (tgt := 68) hx hb dX0_speakerOf_1 (by rw [q5]; decide) (by rw [q5]; decide) (by rw [q5]; rfl) (by decide) ?_
    refine nX0_28 F hB hS (by show 0 + 1 ≤ 1; omega) (by show 0 + 1 ≤ 1; omega) dX0_speakerOf_68 (fun q17 H hq18 hB hS => ?_)
    replace hw := hw q17 hq18
    refine lv_dup hx hb dX0_speakerOf_71 rfl ?_
    refine kX0_X12_init F hB hS hw ⟨Nat.le_of_ble_eq_true rfl, Nat.le_of_ble_eq_true rfl⟩ ⟨by show _ ≤ 1; omega, by show _ ≤ 1; omega⟩ hl.1 (Nat.le_of_ble_eq_true rfl) dX0_speakerOf_72 (fun V20 H locs hw hB hS => ?_)
    exact W.aret hx hb F.1.r (Or.inl ⟨_, rfl⟩) (Or.inr ⟨_, rfl⟩) (fun t ht hW => xa_mk hw (x_B (Bw := cB D A ad) ht hB) (hS.F ht)) hS.2.2 dX0_speakerOf_75 (hlocks := F.1.k)
  replace hw := hw.2 q5
  refine lv_tableOut (tgt := 76) hx hb dX0_speakerOf_1 (by have n1 := x_ne q1 (a := 1) (by decide); have n2 := x_ne q2 (a := 2) (by decide); have n3 := x_ne q3 (a := 3) (by decide); have n4 := x_ne q4 (a := 4) (by decide); have n5 := x_ne q5 (a := 5) (by decide); omega) (by decide) ?_
  refine nX0_31 F hB hS (by show 0 + 1 ≤ 1; omega) (by show 0 + 1 ≤ 1; omega) dX0_speakerOf_76 (fun q21 H hq22 hB hS => ?_)
  replace hw := hw q21 hq22
  refine lv_dup hx hb dX0_speakerOf_79 rfl ?_
  refine kX0_X7_init F hB hS hw ⟨Nat.le_of_ble_eq_true rfl, Nat.le_of_ble_eq_true rfl⟩ ⟨by show _ ≤ 1; omega, by show _ ≤ 1; omega⟩ hl.1 (Nat.le_of_ble_eq_true rfl) dX0_speakerOf_80 (fun V24 H locs hw hB hS => ?_)
  exact W.aret hx hb F.1.r (Or.inl ⟨_, rfl⟩) (Or.inr ⟨_, rfl⟩) (fun t ht hW => xa_mk hw (x_B (Bw := cB D A ad) ht hB) (hS.F ht)) hS.2.2 dX0_speakerOf_83 (hlocks := F.1.k)
set_option maxHeartbeats 4000000 in
theorem mX0_speakerOf {l : Launch} {D : DD} {A : Nat → Prop} {s0 : State} {ad : AD} {V : CV} {a0 : Int32} {Q : Nat → CV → Prop} (hw : wX0_speakerOf a0 V Q) : Met l yX0_speakerOf (ws_ yX0_speakerOf cX0_speakerOf 1 (some (.object "NeverSaid$Speaker"))) rX0_speakerOf (va_Pc [.int a0] (fun U => cB D A ad V U.heap ∧ CX l D A s0 U)) (xa_Qn Q (fun u t => cB D A ad u t.heap) A) 1 1 A := by
  refine Met.ofW (cc := cX0_speakerOf) (maxL := 1) (ret := some (.object "NeverSaid$Speaker")) (by decide) rfl ?_
  intro p e s m args below meth c s₁ B hml hv
  obtain ⟨rfl, hB, hC⟩ := hv
  have F : FX p l c cX0_speakerOf s _ m RX0 D A s0 1 meth (some (.object "NeverSaid$Speaker")) := ⟨mk_FP B hml rfl, hC⟩
  have hS : va_S A s.heap s.heap [] := va_S.rf
  have hl := lv_entry ([.int a0]) (n := 1) (Nat.le_of_ble_eq_true rfl)
  rw [lg_entry_eq]
  generalize (lg_sl ([.int a0]) ++ List.replicate (1 - (lg_sl ([.int a0])).length) Slot.unset).toArray = ls at hl ⊢
  exact bX0_speakerOf_0 F hB hS hw hl
theorem kX0_X0_speakerOf {p : Program} {l : Launch} {e : Env} {R : Room} {s : State} {m : MethodId} {args : Array Value} {below : List Frame} {meth : Method} {c : Code} {H : Heap} {locs : List Loc} {cells slots : Nat} {Q0 : State → Prop} {cc : ByteArray} {pc nL : Nat} {ls : Array Slot} {rest : List Value} {ret : Option FieldType} {D : DD} {A : Nat → Prop} {s0 : State} {ad : AD} {V : CV} {a0 : Int32} {Q : Nat → CV → Prop} (F : FX p l c cc s args m RX0 D A s0 nL meth ret) (hB : cB D A ad V H) (hS : va_S A s.heap H locs) (hw : wX0_speakerOf a0 V Q) (hR : rX0_speakerOf.frames + 1 ≤ R.frames ∧ 8 + (1 + 11) + rX0_speakerOf.locals ≤ R.locals) (hc : cells + 1 ≤ R.cells ∧ slots + 1 ≤ R.slots) (hsz : ls.size = nL) (hW : (rest.map fun v => v.category).sum ≤ 8) (hdg : decode cc pc = .ok (.invokestatic 263, 3)) (kk : ∀ (r : Nat) (u : CV) (H1 : Heap) (locs1 : List Loc), Q r u → cB D A ad u H1 → va_S A s.heap H1 locs1 → W p l e R s m args below meth c H1 locs1 (cells + 1) (slots + 1) Q0 (F0 m (pc + 3) ls (.ref r :: rest))) : W p l e R s m args below meth c H locs cells slots Q0 (F0 m pc ls (.int a0 :: rest)) :=
  k_n (Bw := cB D A ad) (k_runS (Bw := cB D A ad) (n := 1) (As := [.int a0]) F hB hS (mX0_speakerOf hw) q583 q584 q83 q585 (by decide +kernel) hR ⟨rfl, rfl⟩ hc rfl hsz rfl hW hdg) hS kk
def rX0_comes : Room := { frames := 5, cells := 1, slots := 1, locals := 120 }
set_option maxHeartbeats 4000000 in
theorem bX0_comes_86 {p : Program} {l : Launch} {e : Env} {s : State} {m : MethodId} {args : Array Value} {below : List Frame} {meth : Method} {c : Code} {D : DD} {A : Nat → Prop} {s0 : State} {ad : AD} {Q : Int32 → CV → Prop} (F : FX p l c cX0_comes s args m RX0 D A s0 6 meth (some .int)) : ∀ (n : Nat) (l4 : Int32) (l5 : Int32) (V : CV), wX0_comes_86 Q n l4 l5 V → ∀ (H : Heap) (locs : List Loc) (ls : Array Slot), cB D A ad V H → va_S A s.heap H locs → lv_has ls 6 [(0, .ref (ad 0 0 0)), (4, .int l4), (5, .int l5)] → W p l e rX0_comes s m args below meth c H locs 1 1 (MQ below (va_Qi Q (fun u t => cB D A ad u t.heap) A) args s 1 1 A) (F0 m 86 ls []) := by
  have hx := F.1.x
  have hb := F.1.b
  intro n
  induction n with
  | zero => intro l4 l5 V hw; exact hw.elim
  | succ n ih =>
    intro l4 l5 V hw H locs ls hB hS hl
    unfold wX0_comes_86 at hw
    refine lv_iload hx hb dX0_comes_86 (lv_at hl 2 rfl) ?_
    refine lv_aload_n hx hb dX0_comes_88 rfl (lv_at hl 0 rfl) ?_
    refine cg_X0_46 F hB dX0_comes_89 ?_
    refine cg_X0_109 F hB (by decide) dX0_comes_92 ?_
    refine lv_icmp_ge (tgt := 126) hx hb dX0_comes_95 (by decide) (fun q => ?_) (fun q => ?_)
    · replace hw := hw.1 q
      refine lv_iload hx hb dX0_comes_126 (lv_at hl 1 rfl) ?_
      exact W.iret hx hb F.1.r (fun t ht hW => ⟨⟨_, _, rfl, hw, x_B (Bw := cB D A ad) ht hB⟩, hS.F ht⟩) hS.2.2 dX0_comes_128 (hlocks := F.1.k)
    · replace hw := hw.2 q
      refine lv_aload_n hx hb dX0_comes_98 rfl (lv_at hl 0 rfl) ?_
      refine cg_X0_46 F hB dX0_comes_99 ?_
      refine cg_X0_278 F hB (by decide) dX0_comes_102 ?_
      refine lv_iload hx hb dX0_comes_105 (lv_at hl 2 rfl) ?_
      obtain ⟨hin1, hw⟩ := hw
      refine cl_De F hB (by decide) hin1 dX0_comes_107 ?_
      refine lv_dup hx hb dX0_comes_108 rfl ?_
      refine cg_X0_282 F hB (by decide) (x_lt hin1) dX0_comes_109 ?_
      refine lv_iconst (v := 1) hx hb dX0_comes_112 (by decide) ?_
      refine lv_iload hx hb dX0_comes_113 (lv_at hl 1 rfl) ?_
      refine lv_ishl hx hb dX0_comes_115 ?_
      refine lv_ior hx hb dX0_comes_116 ?_
      refine cp_X0_282 F hB hS (by decide) (x_lt hin1) dX0_comes_117 (fun H locs hB hS => ?_)
      refine lv_iinc (v := l5 + (1 : Int32)) (lv' := [(5, .int (l5 + (1 : Int32))), (0, .ref (ad 0 0 0)), (4, .int l4)]) hx hb dX0_comes_120 hl (k := 2) rfl (x_inc (by decide)) (by decide) rfl (fun ls hl => ?_)
      refine lv_goto (tgt := 86) hx hb dX0_comes_123 (by decide) ?_
      exact ih _ _ _ hw _ _ _ hB hS (lv_sub hl [1, 2, 0] rfl)
set_option maxHeartbeats 4000000 in
theorem bX0_comes_0 {p : Program} {l : Launch} {e : Env} {s : State} {m : MethodId} {args : Array Value} {below : List Frame} {meth : Method} {c : Code} {D : DD} {A : Nat → Prop} {s0 : State} {ad : AD} {Q : Int32 → CV → Prop} {a1 : Int32} {a2 : Int32} {a3 : Int32} {V : CV} {H : Heap} {locs : List Loc} {ls : Array Slot} (F : FX p l c cX0_comes s args m RX0 D A s0 6 meth (some .int)) (hB : cB D A ad V H) (hS : va_S A s.heap H locs) (hw : wX0_comes a1 a2 a3 V Q) (hl : lv_has ls 6 [(0, .ref (ad 0 0 0)), (1, .int a1), (2, .int a2), (3, .int a3)]) : W p l e rX0_comes s m args below meth c H locs 0 0 (MQ below (va_Qi Q (fun u t => cB D A ad u t.heap) A) args s 1 1 A) (F0 m 0 ls []) := by
  have hx := F.1.x
  have hb := F.1.b
  unfold wX0_comes at hw
  refine lv_aload_n hx hb dX0_comes_0 rfl (lv_at hl 0 rfl) ?_
  refine cg_X0_46 F hB dX0_comes_1 ?_
  refine cg_X0_101 F hB (by decide) dX0_comes_4 ?_
  refine lv_istore (lv' := [(4, .int (vS V 0 2)), (0, .ref (ad 0 0 0)), (1, .int a1), (2, .int a2), (3, .int a3)]) hx hb dX0_comes_7 hl (by decide) rfl (fun ls hl => ?_)
  refine lv_aload_n hx hb dX0_comes_9 rfl (lv_at hl 1 rfl) ?_
  refine cg_X0_46 F hB dX0_comes_10 ?_
  refine cg_X0_259 F hB (by decide) dX0_comes_13 ?_
  refine lv_iload hx hb dX0_comes_16 (lv_at hl 0 rfl) ?_
  refine lv_iload_n hx hb dX0_comes_18 rfl (lv_at hl 2 rfl) ?_
  refine kX0_X0_speakerOf F hB hS hw ⟨Nat.le_of_ble_eq_true rfl, Nat.le_of_ble_eq_true rfl⟩ ⟨by show _ ≤ 1; omega, by show _ ≤ 1; omega⟩ hl.1 (Nat.le_of_ble_eq_true rfl) dX0_comes_19 (fun r1 V2 H locs hw hB hS => ?_)
  obtain ⟨c4, b5, hk6, hm7, hw⟩ := hw
  obtain ⟨hin3, hw⟩ := hw
  refine ct_Sp F hB hS (by decide) hk6 hm7 hin3 dX0_comes_22 (fun H locs hB hS => ?_)
  refine lv_aload_n hx hb dX0_comes_23 rfl (lv_at hl 1 rfl) ?_
  refine cg_X0_46 F hB dX0_comes_24 ?_
  refine cg_X0_259 F hB (by decide) dX0_comes_27 ?_
  refine lv_iload hx hb dX0_comes_30 (lv_at hl 0 rfl) ?_
  obtain ⟨hin8, hw⟩ := hw
  refine cl_Sp F hB (by decide) hin8 dX0_comes_32 ?_
  refine lv_iload_n hx hb dX0_comes_33 rfl (lv_at hl 3 rfl) ?_
  obtain ⟨y9, e10, hw⟩ := hw
  refine W.eq (g2 := F0 m 34 ls [.int a2, .ref y9]) (congrArg (fun z => F0 m 34 ls [.int a2, va_rf z]) e10) ?_
  obtain ⟨c11, b12, hk13, hm14, hw⟩ := hw
  refine cp_X0_267 F hB hS hk13 hm14 dX0_comes_34 (fun H locs hB hS => ?_)
  refine lv_aload_n hx hb dX0_comes_37 rfl (lv_at hl 1 rfl) ?_
  refine cg_X0_46 F hB dX0_comes_38 ?_
  refine cg_X0_269 F hB (by decide) dX0_comes_41 ?_
  refine lv_iload hx hb dX0_comes_44 (lv_at hl 0 rfl) ?_
  refine lv_iload_n hx hb dX0_comes_46 rfl (lv_at hl 4 rfl) ?_
  obtain ⟨hin15, hw⟩ := hw
  refine ct_S F hB hS (by decide) (by decide) hin15 dX0_comes_47 (fun H locs hB hS => ?_)
  refine lv_aload_n hx hb dX0_comes_48 rfl (lv_at hl 1 rfl) ?_
  refine cg_X0_46 F hB dX0_comes_49 ?_
  refine cg_X0_272 F hB (by decide) dX0_comes_52 ?_
  refine lv_iload hx hb dX0_comes_55 (lv_at hl 0 rfl) ?_
  refine lv_iconst (v := 0) hx hb dX0_comes_57 (by decide) ?_
  obtain ⟨hin16, hw⟩ := hw
  refine ct_S F hB hS (by decide) (by decide) hin16 dX0_comes_58 (fun H locs hB hS => ?_)
  refine lv_aload_n hx hb dX0_comes_59 rfl (lv_at hl 1 rfl) ?_
  refine cg_X0_46 F hB dX0_comes_60 ?_
  refine cg_X0_275 F hB (by decide) dX0_comes_63 ?_
  refine lv_iload hx hb dX0_comes_66 (lv_at hl 0 rfl) ?_
  refine lv_iconst (v := 0) hx hb dX0_comes_68 (by decide) ?_
  obtain ⟨hin17, hw⟩ := hw
  refine ct_S F hB hS (by decide) (by decide) hin17 dX0_comes_69 (fun H locs hB hS => ?_)
  refine lv_aload_n hx hb dX0_comes_70 rfl (lv_at hl 1 rfl) ?_
  refine cg_X0_46 F hB dX0_comes_71 ?_
  refine lv_dup hx hb dX0_comes_74 rfl ?_
  refine cg_X0_101 F hB (by decide) dX0_comes_75 ?_
  refine lv_iconst (v := 1) hx hb dX0_comes_78 (by decide) ?_
  refine lv_iadd hx hb dX0_comes_79 ?_
  refine cp_X0_101 F hB hS (by decide) dX0_comes_80 (fun H locs hB hS => ?_)
  refine lv_iconst (v := 0) hx hb dX0_comes_83 (by decide) ?_
  refine lv_istore (lv' := [(5, .int (0 : Int32)), (4, .int (vS V 0 2)), (0, .ref (ad 0 0 0)), (1, .int a1), (2, .int a2), (3, .int a3)]) hx hb dX0_comes_84 hl (by decide) rfl (fun ls hl => ?_)
  obtain ⟨f_86, hw⟩ := hw
  exact bX0_comes_86 F f_86 _ _ _ hw _ _ _ hB hS (lv_sub hl [2, 1, 0] rfl)
set_option maxHeartbeats 4000000 in
theorem mX0_comes {l : Launch} {D : DD} {A : Nat → Prop} {s0 : State} {ad : AD} {V : CV} {a1 : Int32} {a2 : Int32} {a3 : Int32} {Q : Int32 → CV → Prop} (hw : wX0_comes a1 a2 a3 V Q) : Met l yX0_comes (ws_ yX0_comes cX0_comes 6 (some .int)) rX0_comes (va_Pc [.ref (ad 0 0 0), .int a1, .int a2, .int a3] (fun U => cB D A ad V U.heap ∧ CX l D A s0 U)) (va_Qi Q (fun u t => cB D A ad u t.heap) A) 1 1 A := by
  refine Met.ofW (cc := cX0_comes) (maxL := 6) (ret := some .int) (by decide) rfl ?_
  intro p e s m args below meth c s₁ B hml hv
  obtain ⟨rfl, hB, hC⟩ := hv
  have F : FX p l c cX0_comes s _ m RX0 D A s0 6 meth (some .int) := ⟨mk_FP B hml rfl, hC⟩
  have hS : va_S A s.heap s.heap [] := va_S.rf
  have hl := lv_entry ([.ref (ad 0 0 0), .int a1, .int a2, .int a3]) (n := 6) (Nat.le_of_ble_eq_true rfl)
  rw [lg_entry_eq]
  generalize (lg_sl ([.ref (ad 0 0 0), .int a1, .int a2, .int a3]) ++ List.replicate (6 - (lg_sl ([.ref (ad 0 0 0), .int a1, .int a2, .int a3])).length) Slot.unset).toArray = ls at hl ⊢
  exact bX0_comes_0 F hB hS hw hl
theorem kX0_X0_comes {p : Program} {l : Launch} {e : Env} {R : Room} {s : State} {m : MethodId} {args : Array Value} {below : List Frame} {meth : Method} {c : Code} {H : Heap} {locs : List Loc} {cells slots : Nat} {Q0 : State → Prop} {cc : ByteArray} {pc nL : Nat} {ls : Array Slot} {rest : List Value} {ret : Option FieldType} {D : DD} {A : Nat → Prop} {s0 : State} {ad : AD} {V : CV} {a1 : Int32} {a2 : Int32} {a3 : Int32} {Q : Int32 → CV → Prop} (F : FX p l c cc s args m RX0 D A s0 nL meth ret) (hB : cB D A ad V H) (hS : va_S A s.heap H locs) (hw : wX0_comes a1 a2 a3 V Q) (hR : rX0_comes.frames + 1 ≤ R.frames ∧ 8 + (6 + 11) + rX0_comes.locals ≤ R.locals) (hc : cells + 1 ≤ R.cells ∧ slots + 1 ≤ R.slots) (hsz : ls.size = nL) (hW : (rest.map fun v => v.category).sum ≤ 8) (hdg : decode cc pc = .ok (.invokevirtual 290, 3)) (kk : ∀ (r : Int32) (u : CV) (H1 : Heap) (locs1 : List Loc), Q r u → cB D A ad u H1 → va_S A s.heap H1 locs1 → W p l e R s m args below meth c H1 locs1 (cells + 1) (slots + 1) Q0 (F0 m (pc + 3) ls (.int r :: rest))) : W p l e R s m args below meth c H locs cells slots Q0 (F0 m pc ls (.int a3 :: .int a2 :: .int a1 :: .ref (ad 0 0 0) :: rest)) :=
  k_i (Bw := cB D A ad) (k_runV (Bw := cB D A ad) (n := 3) (As := [.int a1, .int a2, .int a3]) F hB hS (c_at F (hB.pic cpic0) rfl) (mX0_comes hw) q579 q581 qs18 q83 q582 (by decide +kernel) hR ⟨rfl, rfl⟩ hc rfl hsz rfl hW hdg) hS kk
def rX0_isSheet : Room := { frames := 1, cells := 0, slots := 0, locals := 22 }
set_option maxHeartbeats 4000000 in
theorem bX0_isSheet_0 {p : Program} {l : Launch} {e : Env} {s : State} {m : MethodId} {args : Array Value} {below : List Frame} {meth : Method} {c : Code} {Q : Int32 → Prop} {a0 : Int32} {ls : Array Slot} (F : FP p c cX0_isSheet s args m RX0 1 meth (some .boolean)) (hw : wX0_isSheet a0 Q) (hl : lv_has ls 1 [(0, .int a0)]) : W p l e rX0_isSheet s m args below meth c s.heap [] 0 0 (MQ below (vp_Si Q) args s 0 0 (fun _ => False)) (F0 m 0 ls []) := by
  have hx := F.x
  have hb := F.b
  unfold wX0_isSheet at hw
  refine lv_iload_n hx hb dX0_isSheet_0 rfl (lv_at hl 0 rfl) ?_
  refine lv_iconst (v := 0) hx hb dX0_isSheet_1 (by decide) ?_
  refine lv_iconst (v := 3) hx hb dX0_isSheet_2 (by decide) ?_
  refine kX0_X0_isIn F hw ⟨Nat.le_of_ble_eq_true rfl, Nat.le_of_ble_eq_true rfl⟩ ⟨Nat.zero_le _, Nat.zero_le _⟩ hl.1 (Nat.le_of_ble_eq_true rfl) dX0_isSheet_3 (fun r1 hw => ?_)
  obtain ⟨hn, hw⟩ := hw
  exact W.zret hx hb F.r hn (fun t ht hW => ⟨_, rfl, hw, ht⟩) (fun _ h => absurd h List.not_mem_nil) dX0_isSheet_6 (hlocks := F.k)
set_option maxHeartbeats 4000000 in
theorem mX0_isSheet {l : Launch}  {a0 : Int32} {Q : Int32 → Prop} (hw : wX0_isSheet a0 Q) : Met l yX0_isSheet (ws_ yX0_isSheet cX0_isSheet 1 (some .boolean)) rX0_isSheet (va_Pc [.int a0] (fun _ => True)) (vp_Si Q) 0 0 (fun _ => False) := by
  refine Met.ofW (cc := cX0_isSheet) (maxL := 1) (ret := some .boolean) (by decide) rfl ?_
  intro p e s m args below meth c s₁ B hml hv
  obtain ⟨rfl, -⟩ := hv
  have F : FP p c cX0_isSheet s _ m RX0 1 meth (some .boolean) := mk_FP B hml rfl
  have hl := lv_entry ([.int a0]) (n := 1) (Nat.le_of_ble_eq_true rfl)
  rw [lg_entry_eq]
  generalize (lg_sl ([.int a0]) ++ List.replicate (1 - (lg_sl ([.int a0])).length) Slot.unset).toArray = ls at hl ⊢
  exact bX0_isSheet_0 F hw hl
theorem kX0_X0_isSheet {p : Program} {l : Launch} {e : Env} {R : Room} {s : State} {m : MethodId} {args : Array Value} {below : List Frame} {meth : Method} {c : Code} {H : Heap} {locs : List Loc} {cells slots : Nat} {Q0 : State → Prop} {cc : ByteArray} {pc nL : Nat} {ls : Array Slot} {rest : List Value} {ret : Option FieldType} {a0 : Int32} {Q : Int32 → Prop} (F : FP p c cc s args m RX0 nL meth ret) (hw : wX0_isSheet a0 Q) (hR : rX0_isSheet.frames + 1 ≤ R.frames ∧ 8 + (1 + 11) + rX0_isSheet.locals ≤ R.locals) (hc : cells ≤ R.cells ∧ slots ≤ R.slots) (hsz : ls.size = nL) (hW : (rest.map fun v => v.category).sum ≤ 8) (hdg : decode cc pc = .ok (.invokestatic 437, 3)) (kk : ∀ r : Int32, Q r → W p l e R s m args below meth c H locs cells slots Q0 (F0 m (pc + 3) ls (.int r :: rest))) : W p l e R s m args below meth c H locs cells slots Q0 (F0 m pc ls (.int a0 :: rest)) :=
  k_csi (k_runP (n := 1) (As := [.int a0]) F (mX0_isSheet hw) q1003 q1004 q83 q1005 (by decide +kernel) hR ⟨rfl, rfl⟩ hc rfl hsz rfl hW hdg) kk
def rX4_isThere : Room := { frames := 0, cells := 0, slots := 0, locals := 0 }
set_option maxHeartbeats 4000000 in
theorem bX4_isThere_0 {p : Program} {l : Launch} {e : Env} {s : State} {m : MethodId} {args : Array Value} {below : List Frame} {meth : Method} {c : Code} {D : DD} {A : Nat → Prop} {s0 : State} {ad : AD} {Q : Int32 → CV → Prop} {a0 : Nat} {V : CV} {H : Heap} {locs : List Loc} {ls : Array Slot} (F : FX p l c cX4_isThere s args m RX4 D A s0 1 meth (some .boolean)) (hB : cB D A ad V H) (hS : va_S A s.heap H locs) (hw : wX4_isThere a0 V Q) (hl : lv_has ls 1 [(0, .ref a0)]) : W p l e rX4_isThere s m args below meth c H locs 0 0 (MQ below (va_Qi Q (fun u t => cB D A ad u t.heap) A) args s 0 0 A) (F0 m 0 ls []) := by
  have hx := F.1.x
  have hb := F.1.b
  unfold wX4_isThere at hw
  refine lv_aload_n hx hb dX4_isThere_0 rfl (lv_at hl 0 rfl) ?_
  obtain ⟨f1, hm2, hw⟩ := hw
  refine cg_X4_7 F hB hm2 dX4_isThere_1 ?_
  refine x_ifnull (tgt := 11) hx hb dX4_isThere_4 (by decide) (fun q => ?_) (fun q => ?_)
  · replace hw := hw.1 q
    refine lv_iconst (v := 0) hx hb dX4_isThere_11 (by decide) ?_
    exact W.zret hx hb F.1.r rfl (fun t ht hW => ⟨⟨_, _, rfl, hw, x_B (Bw := cB D A ad) ht hB⟩, hS.F ht⟩) hS.2.2 dX4_isThere_12 (hlocks := F.1.k)
  · replace hw := hw.2 q
    refine lv_iconst (v := 1) hx hb dX4_isThere_7 (by decide) ?_
    refine lv_goto (tgt := 12) hx hb dX4_isThere_8 (by decide) ?_
    exact W.zret hx hb F.1.r rfl (fun t ht hW => ⟨⟨_, _, rfl, hw, x_B (Bw := cB D A ad) ht hB⟩, hS.F ht⟩) hS.2.2 dX4_isThere_12 (hlocks := F.1.k)
set_option maxHeartbeats 4000000 in
theorem mX4_isThere {l : Launch} {D : DD} {A : Nat → Prop} {s0 : State} {ad : AD} {V : CV} {a0 : Nat} {Q : Int32 → CV → Prop} (hw : wX4_isThere a0 V Q) : Met l yX4_isThere (ws_ yX4_isThere cX4_isThere 1 (some .boolean)) rX4_isThere (va_Pc [.ref a0] (fun U => cB D A ad V U.heap ∧ CX l D A s0 U)) (va_Qi Q (fun u t => cB D A ad u t.heap) A) 0 0 A := by
  refine Met.ofW (cc := cX4_isThere) (maxL := 1) (ret := some .boolean) (by decide) rfl ?_
  intro p e s m args below meth c s₁ B hml hv
  obtain ⟨rfl, hB, hC⟩ := hv
  have F : FX p l c cX4_isThere s _ m RX4 D A s0 1 meth (some .boolean) := ⟨mk_FP B hml rfl, hC⟩
  have hS : va_S A s.heap s.heap [] := va_S.rf
  have hl := lv_entry ([.ref a0]) (n := 1) (Nat.le_of_ble_eq_true rfl)
  rw [lg_entry_eq]
  generalize (lg_sl ([.ref a0]) ++ List.replicate (1 - (lg_sl ([.ref a0])).length) Slot.unset).toArray = ls at hl ⊢
  exact bX4_isThere_0 F hB hS hw hl
theorem kX0_X4_isThere {p : Program} {l : Launch} {e : Env} {R : Room} {s : State} {m : MethodId} {args : Array Value} {below : List Frame} {meth : Method} {c : Code} {H : Heap} {locs : List Loc} {cells slots : Nat} {Q0 : State → Prop} {cc : ByteArray} {pc nL : Nat} {ls : Array Slot} {rest : List Value} {ret : Option FieldType} {D : DD} {A : Nat → Prop} {s0 : State} {ad : AD} {V : CV} {a0 : Nat} {Q : Int32 → CV → Prop} (F : FX p l c cc s args m RX0 D A s0 nL meth ret) (hB : cB D A ad V H) (hS : va_S A s.heap H locs) {fs : List Value} (hm : vM V a0 = some (.inr (4, fs))) (hw : wX4_isThere a0 V Q) (hR : rX4_isThere.frames + 1 ≤ R.frames ∧ 8 + (1 + 11) + rX4_isThere.locals ≤ R.locals) (hc : cells + 0 ≤ R.cells ∧ slots + 0 ≤ R.slots) (hsz : ls.size = nL) (hW : (rest.map fun v => v.category).sum ≤ 8) (hdg : decode cc pc = .ok (.invokevirtual 463, 3)) (kk : ∀ (r : Int32) (u : CV) (H1 : Heap) (locs1 : List Loc), Q r u → cB D A ad u H1 → va_S A s.heap H1 locs1 → W p l e R s m args below meth c H1 locs1 cells slots Q0 (F0 m (pc + 3) ls (.int r :: rest))) : W p l e R s m args below meth c H locs cells slots Q0 (F0 m pc ls (.ref a0 :: rest)) :=
  k_i (Bw := cB D A ad) (k_runV (Bw := cB D A ad) (n := 0) (As := []) F hB hS (c_at F (hB.dyn hm) rfl) (mX4_isThere hw) q1015 q1016 q1017 q90 q1018 (by decide +kernel) hR ⟨rfl, rfl⟩ hc rfl hsz rfl hW hdg) hS kk
def rX4_size : Room := { frames := 1, cells := 0, slots := 0, locals := 20 }
set_option maxHeartbeats 4000000 in
theorem bX4_size_0 {p : Program} {l : Launch} {e : Env} {s : State} {m : MethodId} {args : Array Value} {below : List Frame} {meth : Method} {c : Code} {D : DD} {A : Nat → Prop} {s0 : State} {ad : AD} {Q : Int32 → CV → Prop} {a0 : Nat} {V : CV} {H : Heap} {locs : List Loc} {ls : Array Slot} (F : FX p l c cX4_size s args m RX4 D A s0 1 meth (some .int)) (hB : cB D A ad V H) (hS : va_S A s.heap H locs) (hw : wX4_size a0 V Q) (hl : lv_has ls 1 [(0, .ref a0)]) : W p l e rX4_size s m args below meth c H locs 0 0 (MQ below (va_Qi Q (fun u t => cB D A ad u t.heap) A) args s 0 0 A) (F0 m 0 ls []) := by
  have hx := F.1.x
  have hb := F.1.b
  unfold wX4_size at hw
  refine lv_aload_n hx hb dX4_size_0 rfl (lv_at hl 0 rfl) ?_
  obtain ⟨f2, hm3, hw⟩ := hw
  refine kX4_X4_isFloats F hB hS hm3 hw ⟨Nat.le_of_ble_eq_true rfl, Nat.le_of_ble_eq_true rfl⟩ ⟨Nat.zero_le _, Nat.zero_le _⟩ hl.1 (Nat.le_of_ble_eq_true rfl) dX4_size_1 (fun r1 V4 H locs hw hB hS => ?_)
  refine lv_if_eq (tgt := 18) hx hb dX4_size_4 (by decide) (fun q => ?_) (fun q => ?_)
  · replace hw := hw.1 q
    refine lv_aload_n hx hb dX4_size_18 rfl (lv_at hl 0 rfl) ?_
    obtain ⟨f5, hm6, hw⟩ := hw
    refine cg_X4_7 F hB hm6 dX4_size_19 ?_
    obtain ⟨y7, e8, hw⟩ := hw
    refine W.eq (g2 := F0 m 22 ls [.ref y7]) (congrArg (fun z => F0 m 22 ls [va_rf z]) e8) ?_
    obtain ⟨n9, f10, hm11, hw⟩ := hw
    refine dc_H F hB hm11 q1029 dX4_size_22 ?_
    refine dn_H F hB hm11 dX4_size_25 ?_
    exact W.iret hx hb F.1.r (fun t ht hW => ⟨⟨_, _, rfl, hw, x_B (Bw := cB D A ad) ht hB⟩, hS.F ht⟩) hS.2.2 dX4_size_26 (hlocks := F.1.k)
  · replace hw := hw.2 q
    refine lv_aload_n hx hb dX4_size_7 rfl (lv_at hl 0 rfl) ?_
    obtain ⟨f12, hm13, hw⟩ := hw
    refine cg_X4_7 F hB hm13 dX4_size_8 ?_
    obtain ⟨y14, e15, hw⟩ := hw
    refine W.eq (g2 := F0 m 11 ls [.ref y14]) (congrArg (fun z => F0 m 11 ls [va_rf z]) e15) ?_
    obtain ⟨n16, f17, hm18, hw⟩ := hw
    refine dc_F F hB hm18 q1028 dX4_size_11 ?_
    refine dn_F F hB hm18 dX4_size_14 ?_
    refine lv_goto (tgt := 26) hx hb dX4_size_15 (by decide) ?_
    exact W.iret hx hb F.1.r (fun t ht hW => ⟨⟨_, _, rfl, hw, x_B (Bw := cB D A ad) ht hB⟩, hS.F ht⟩) hS.2.2 dX4_size_26 (hlocks := F.1.k)
set_option maxHeartbeats 4000000 in
theorem mX4_size {l : Launch} {D : DD} {A : Nat → Prop} {s0 : State} {ad : AD} {V : CV} {a0 : Nat} {Q : Int32 → CV → Prop} (hw : wX4_size a0 V Q) : Met l yX4_size (ws_ yX4_size cX4_size 1 (some .int)) rX4_size (va_Pc [.ref a0] (fun U => cB D A ad V U.heap ∧ CX l D A s0 U)) (va_Qi Q (fun u t => cB D A ad u t.heap) A) 0 0 A := by
  refine Met.ofW (cc := cX4_size) (maxL := 1) (ret := some .int) (by decide) rfl ?_
  intro p e s m args below meth c s₁ B hml hv
  obtain ⟨rfl, hB, hC⟩ := hv
  have F : FX p l c cX4_size s _ m RX4 D A s0 1 meth (some .int) := ⟨mk_FP B hml rfl, hC⟩
  have hS : va_S A s.heap s.heap [] := va_S.rf
  have hl := lv_entry ([.ref a0]) (n := 1) (Nat.le_of_ble_eq_true rfl)
  rw [lg_entry_eq]
  generalize (lg_sl ([.ref a0]) ++ List.replicate (1 - (lg_sl ([.ref a0])).length) Slot.unset).toArray = ls at hl ⊢
  exact bX4_size_0 F hB hS hw hl
theorem kX0_X4_size {p : Program} {l : Launch} {e : Env} {R : Room} {s : State} {m : MethodId} {args : Array Value} {below : List Frame} {meth : Method} {c : Code} {H : Heap} {locs : List Loc} {cells slots : Nat} {Q0 : State → Prop} {cc : ByteArray} {pc nL : Nat} {ls : Array Slot} {rest : List Value} {ret : Option FieldType} {D : DD} {A : Nat → Prop} {s0 : State} {ad : AD} {V : CV} {a0 : Nat} {Q : Int32 → CV → Prop} (F : FX p l c cc s args m RX0 D A s0 nL meth ret) (hB : cB D A ad V H) (hS : va_S A s.heap H locs) {fs : List Value} (hm : vM V a0 = some (.inr (4, fs))) (hw : wX4_size a0 V Q) (hR : rX4_size.frames + 1 ≤ R.frames ∧ 8 + (1 + 11) + rX4_size.locals ≤ R.locals) (hc : cells + 0 ≤ R.cells ∧ slots + 0 ≤ R.slots) (hsz : ls.size = nL) (hW : (rest.map fun v => v.category).sum ≤ 8) (hdg : decode cc pc = .ok (.invokevirtual 467, 3)) (kk : ∀ (r : Int32) (u : CV) (H1 : Heap) (locs1 : List Loc), Q r u → cB D A ad u H1 → va_S A s.heap H1 locs1 → W p l e R s m args below meth c H1 locs1 cells slots Q0 (F0 m (pc + 3) ls (.int r :: rest))) : W p l e R s m args below meth c H locs cells slots Q0 (F0 m pc ls (.ref a0 :: rest)) :=
  k_i (Bw := cB D A ad) (k_runV (Bw := cB D A ad) (n := 0) (As := []) F hB hS (c_at F (hB.dyn hm) rfl) (mX4_size hw) q1020 q1021 q1022 q90 q1023 (by decide +kernel) hR ⟨rfl, rfl⟩ hc rfl hsz rfl hW hdg) hS kk
def rX0_copy : Room := { frames := 2, cells := 0, slots := 0, locals := 88 }
set_option maxHeartbeats 4000000 in
theorem bX0_copy_0 {p : Program} {l : Launch} {e : Env} {s : State} {m : MethodId} {args : Array Value} {below : List Frame} {meth : Method} {c : Code} {D : DD} {A : Nat → Prop} {s0 : State} {ad : AD} {Q : Int32 → CV → Prop} {a1 : Int32} {a2 : Int32} {a3 : Int32} {a4 : Int32} {a5 : Int32} {V : CV} {H : Heap} {locs : List Loc} {ls : Array Slot} (F : FX p l c cX0_copy s args m RX0 D A s0 8 meth (some .int)) (hB : cB D A ad V H) (hS : va_S A s.heap H locs) (hw : wX0_copy a1 a2 a3 a4 a5 V Q) (hl : lv_has ls 8 [(0, .ref (ad 0 0 0)), (1, .int a1), (2, .int a2), (3, .int a3), (4, .int a4), (5, .int a5)]) : W p l e rX0_copy s m args below meth c H locs 0 0 (MQ below (va_Qi Q (fun u t => cB D A ad u t.heap) A) args s 0 0 A) (F0 m 0 ls []) := by
  have hx := F.1.x
  have hb := F.1.b
  unfold wX0_copy at hw
  refine lv_iload_n hx hb dX0_copy_0 rfl (lv_at hl 1 rfl) ?_
  refine kX0_X0_isSheet F.1 hw ⟨Nat.le_of_ble_eq_true rfl, Nat.le_of_ble_eq_true rfl⟩ ⟨Nat.zero_le _, Nat.zero_le _⟩ hl.1 (Nat.le_of_ble_eq_true rfl) dX0_copy_1 (fun r1 hw => ?_)
  refine lv_if_eq (tgt := 14) hx hb dX0_copy_4 (by decide) (fun q => ?_) (fun q => ?_)
  · replace hw := hw.1 q
    refine lv_ldc hx hb F.1.o (F.1.t _ q392) dX0_copy_14 ?_
    exact W.iret hx hb F.1.r (fun t ht hW => ⟨⟨_, _, rfl, hw, x_B (Bw := cB D A ad) ht hB⟩, hS.F ht⟩) hS.2.2 dX0_copy_16 (hlocks := F.1.k)
  · replace hw := hw.2 q
    refine lv_iload_n hx hb dX0_copy_7 rfl (lv_at hl 3 rfl) ?_
    refine kX0_X0_isSheet F.1 hw ⟨Nat.le_of_ble_eq_true rfl, Nat.le_of_ble_eq_true rfl⟩ ⟨Nat.zero_le _, Nat.zero_le _⟩ hl.1 (Nat.le_of_ble_eq_true rfl) dX0_copy_8 (fun r2 hw => ?_)
    refine lv_if_ne (tgt := 17) hx hb dX0_copy_11 (by decide) (fun q => ?_) (fun q => ?_)
    · replace hw := hw.2 q
      refine lv_aload_n hx hb dX0_copy_17 rfl (lv_at hl 0 rfl) ?_
      refine cg_X0_80 F hB dX0_copy_18 ?_
      refine lv_iload_n hx hb dX0_copy_21 rfl (lv_at hl 1 rfl) ?_
      obtain ⟨hin3, hw⟩ := hw
      refine cl_Sh F hB hin3 dX0_copy_22 ?_
      refine x_astore (lv' := [(6, va_rf (vSh V a1.toNatClampNeg)), (0, .ref (ad 0 0 0)), (1, .int a1), (2, .int a2), (3, .int a3), (4, .int a4), (5, .int a5)]) hx hb dX0_copy_23 hl (by decide) rfl (fun ls hl => ?_)
      refine lv_aload_n hx hb dX0_copy_25 rfl (lv_at hl 1 rfl) ?_
      refine cg_X0_80 F hB dX0_copy_26 ?_
      refine lv_iload_n hx hb dX0_copy_29 rfl (lv_at hl 4 rfl) ?_
      obtain ⟨hin4, hw⟩ := hw
      refine cl_Sh F hB hin4 dX0_copy_30 ?_
      refine x_astore (lv' := [(7, va_rf (vSh V a3.toNatClampNeg)), (6, va_rf (vSh V a1.toNatClampNeg)), (0, .ref (ad 0 0 0)), (1, .int a1), (2, .int a2), (3, .int a3), (4, .int a4), (5, .int a5)]) hx hb dX0_copy_31 hl (by decide) (by simp only [List.filter_cons, x_cat]; rfl) (fun ls hl => ?_)
      refine x_aload hx hb dX0_copy_33 (lv_at hl 1 rfl) ?_
      obtain ⟨y5, e6, hw⟩ := hw
      refine W.eq (g2 := F0 m 35 ls [.ref y5]) (congrArg (fun z => F0 m 35 ls [va_rf z]) e6) ?_
      obtain ⟨f8, hm9, hw⟩ := hw
      refine kX0_X4_isThere F hB hS hm9 hw ⟨Nat.le_of_ble_eq_true rfl, Nat.le_of_ble_eq_true rfl⟩ ⟨Nat.zero_le _, Nat.zero_le _⟩ hl.1 (Nat.le_of_ble_eq_true rfl) dX0_copy_35 (fun r7 V10 H locs hw hB hS => ?_)
      refine lv_if_eq (tgt := 49) hx hb dX0_copy_38 (by decide) (fun q => ?_) (fun q => ?_)
      · replace hw := hw.1 q
        refine lv_ldcw hx hb F.1.o (F.1.t _ q1019) dX0_copy_49 ?_
        exact W.iret hx hb F.1.r (fun t ht hW => ⟨⟨_, _, rfl, hw, x_B (Bw := cB D A ad) ht hB⟩, hS.F ht⟩) hS.2.2 dX0_copy_52 (hlocks := F.1.k)
      · replace hw := hw.2 q
        refine x_aload hx hb dX0_copy_41 (lv_at hl 0 rfl) ?_
        obtain ⟨y11, e12, hw⟩ := hw
        refine W.eq (g2 := F0 m 43 ls [.ref y11]) (congrArg (fun z => F0 m 43 ls [va_rf z]) e12) ?_
        obtain ⟨f14, hm15, hw⟩ := hw
        refine kX0_X4_isThere F hB hS hm15 hw ⟨Nat.le_of_ble_eq_true rfl, Nat.le_of_ble_eq_true rfl⟩ ⟨Nat.zero_le _, Nat.zero_le _⟩ hl.1 (Nat.le_of_ble_eq_true rfl) dX0_copy_43 (fun r13 V16 H locs hw hB hS => ?_)
        refine lv_if_ne (tgt := 53) hx hb dX0_copy_46 (by decide) (fun q => ?_) (fun q => ?_)
        · replace hw := hw.2 q
          refine x_aload hx hb dX0_copy_53 (lv_at hl 1 rfl) ?_
          obtain ⟨y17, e18, hw⟩ := hw
          refine W.eq (g2 := F0 m 55 ls [.ref y17]) (congrArg (fun z => F0 m 55 ls [va_rf z]) e18) ?_
          obtain ⟨f20, hm21, hw⟩ := hw
          refine kX0_X4_isFloats F hB hS hm21 hw ⟨Nat.le_of_ble_eq_true rfl, Nat.le_of_ble_eq_true rfl⟩ ⟨Nat.zero_le _, Nat.zero_le _⟩ hl.1 (Nat.le_of_ble_eq_true rfl) dX0_copy_55 (fun r19 V22 H locs hw hB hS => ?_)
          refine x_aload hx hb dX0_copy_58 (lv_at hl 0 rfl) ?_
          obtain ⟨y23, e24, hw⟩ := hw
          refine W.eq (g2 := F0 m 60 ls [.ref y23, .int r19]) (congrArg (fun z => F0 m 60 ls [va_rf z, .int r19]) e24) ?_
          obtain ⟨f26, hm27, hw⟩ := hw
          refine kX0_X4_isFloats F hB hS hm27 hw ⟨Nat.le_of_ble_eq_true rfl, Nat.le_of_ble_eq_true rfl⟩ ⟨Nat.zero_le _, Nat.zero_le _⟩ hl.1 (Nat.le_of_ble_eq_true rfl) dX0_copy_60 (fun r25 V28 H locs hw hB hS => ?_)
          refine lv_icmp_eq (tgt := 70) hx hb dX0_copy_63 (by decide) (fun q => ?_) (fun q => ?_)
          · replace hw := hw.1 q
            refine lv_iload_n hx hb dX0_copy_70 rfl (lv_at hl 4 rfl) ?_
            refine lv_if_lt (tgt := 109) hx hb dX0_copy_71 (by decide) (fun q => ?_) (fun q => ?_)
            · replace hw := hw.1 q
              refine lv_ldcw hx hb F.1.o (F.1.t _ q1041) dX0_copy_109 ?_
              exact W.iret hx hb F.1.r (fun t ht hW => ⟨⟨_, _, rfl, hw, x_B (Bw := cB D A ad) ht hB⟩, hS.F ht⟩) hS.2.2 dX0_copy_112 (hlocks := F.1.k)
            · replace hw := hw.2 q
              refine lv_iload hx hb dX0_copy_74 (lv_at hl 6 rfl) ?_
              refine lv_if_lt (tgt := 109) hx hb dX0_copy_76 (by decide) (fun q => ?_) (fun q => ?_)
              · replace hw := hw.1 q
                refine lv_ldcw hx hb F.1.o (F.1.t _ q1041) dX0_copy_109 ?_
                exact W.iret hx hb F.1.r (fun t ht hW => ⟨⟨_, _, rfl, hw, x_B (Bw := cB D A ad) ht hB⟩, hS.F ht⟩) hS.2.2 dX0_copy_112 (hlocks := F.1.k)
              · replace hw := hw.2 q
                refine lv_iload hx hb dX0_copy_79 (lv_at hl 7 rfl) ?_
                refine lv_if_lt (tgt := 109) hx hb dX0_copy_81 (by decide) (fun q => ?_) (fun q => ?_)
                · replace hw := hw.1 q
                  refine lv_ldcw hx hb F.1.o (F.1.t _ q1041) dX0_copy_109 ?_
                  exact W.iret hx hb F.1.r (fun t ht hW => ⟨⟨_, _, rfl, hw, x_B (Bw := cB D A ad) ht hB⟩, hS.F ht⟩) hS.2.2 dX0_copy_112 (hlocks := F.1.k)
                · replace hw := hw.2 q
                  refine lv_iload_n hx hb dX0_copy_84 rfl (lv_at hl 4 rfl) ?_
                  refine x_aload hx hb dX0_copy_85 (lv_at hl 1 rfl) ?_
                  obtain ⟨y29, e30, hw⟩ := hw
                  refine W.eq (g2 := F0 m 87 ls [.ref y29, .int a2]) (congrArg (fun z => F0 m 87 ls [va_rf z, .int a2]) e30) ?_
                  obtain ⟨f32, hm33, hw⟩ := hw
                  refine kX0_X4_size F hB hS hm33 hw ⟨Nat.le_of_ble_eq_true rfl, Nat.le_of_ble_eq_true rfl⟩ ⟨Nat.zero_le _, Nat.zero_le _⟩ hl.1 (Nat.le_of_ble_eq_true rfl) dX0_copy_87 (fun r31 V34 H locs hw hB hS => ?_)
                  refine lv_iload hx hb dX0_copy_90 (lv_at hl 7 rfl) ?_
                  refine lv_isub hx hb dX0_copy_92 ?_
                  refine lv_icmp_gt (tgt := 109) hx hb dX0_copy_93 (by decide) (fun q => ?_) (fun q => ?_)
                  · replace hw := hw.1 q
                    refine lv_ldcw hx hb F.1.o (F.1.t _ q1041) dX0_copy_109 ?_
                    exact W.iret hx hb F.1.r (fun t ht hW => ⟨⟨_, _, rfl, hw, x_B (Bw := cB D A ad) ht hB⟩, hS.F ht⟩) hS.2.2 dX0_copy_112 (hlocks := F.1.k)
                  · replace hw := hw.2 q
                    refine lv_iload hx hb dX0_copy_96 (lv_at hl 6 rfl) ?_
                    refine x_aload hx hb dX0_copy_98 (lv_at hl 0 rfl) ?_
                    obtain ⟨y35, e36, hw⟩ := hw
                    refine W.eq (g2 := F0 m 100 ls [.ref y35, .int a4]) (congrArg (fun z => F0 m 100 ls [va_rf z, .int a4]) e36) ?_
                    obtain ⟨f38, hm39, hw⟩ := hw
                    refine kX0_X4_size F hB hS hm39 hw ⟨Nat.le_of_ble_eq_true rfl, Nat.le_of_ble_eq_true rfl⟩ ⟨Nat.zero_le _, Nat.zero_le _⟩ hl.1 (Nat.le_of_ble_eq_true rfl) dX0_copy_100 (fun r37 V40 H locs hw hB hS => ?_)
                    refine lv_iload hx hb dX0_copy_103 (lv_at hl 7 rfl) ?_
                    refine lv_isub hx hb dX0_copy_105 ?_
                    refine lv_icmp_le (tgt := 113) hx hb dX0_copy_106 (by decide) (fun q => ?_) (fun q => ?_)
                    · replace hw := hw.1 q
                      refine lv_aload_n hx hb dX0_copy_113 rfl (lv_at hl 2 rfl) ?_
                      refine x_aload hx hb dX0_copy_114 (lv_at hl 1 rfl) ?_
                      refine lv_iload_n hx hb dX0_copy_116 rfl (lv_at hl 4 rfl) ?_
                      refine x_aload hx hb dX0_copy_117 (lv_at hl 0 rfl) ?_
                      refine lv_iload hx hb dX0_copy_119 (lv_at hl 6 rfl) ?_
                      refine lv_iload hx hb dX0_copy_121 (lv_at hl 7 rfl) ?_
                      obtain ⟨y41, e42, hw⟩ := hw
                      refine W.eq (g2 := F0 m 123 ls [.int a5, .int a4, va_rf (vSh V a3.toNatClampNeg), .int a2, .ref y41, .ref (ad 0 0 0)]) (congrArg (fun z => F0 m 123 ls [.int a5, .int a4, va_rf (vSh V a3.toNatClampNeg), .int a2, va_rf z, .ref (ad 0 0 0)]) e42) ?_
                      obtain ⟨y43, e44, hw⟩ := hw
                      refine W.eq (g2 := F0 m 123 ls [.int a5, .int a4, .ref y43, .int a2, .ref y41, .ref (ad 0 0 0)]) (congrArg (fun z => F0 m 123 ls [.int a5, .int a4, va_rf z, .int a2, .ref y41, .ref (ad 0 0 0)]) e44) ?_
                      refine kX0_X0_carries F hB hS hw ⟨Nat.le_of_ble_eq_true rfl, Nat.le_of_ble_eq_true rfl⟩ ⟨Nat.zero_le _, Nat.zero_le _⟩ hl.1 (Nat.le_of_ble_eq_true rfl) dX0_copy_123 (fun V46 H locs hw hB hS => ?_)
                      refine lv_iload hx hb dX0_copy_126 (lv_at hl 7 rfl) ?_
                      exact W.iret hx hb F.1.r (fun t ht hW => ⟨⟨_, _, rfl, hw, x_B (Bw := cB D A ad) ht hB⟩, hS.F ht⟩) hS.2.2 dX0_copy_128 (hlocks := F.1.k)
                    · replace hw := hw.2 q
                      refine lv_ldcw hx hb F.1.o (F.1.t _ q1041) dX0_copy_109 ?_
                      exact W.iret hx hb F.1.r (fun t ht hW => ⟨⟨_, _, rfl, hw, x_B (Bw := cB D A ad) ht hB⟩, hS.F ht⟩) hS.2.2 dX0_copy_112 (hlocks := F.1.k)
          · replace hw := hw.2 q
            refine lv_ldcw hx hb F.1.o (F.1.t _ q743) dX0_copy_66 ?_
            exact W.iret hx hb F.1.r (fun t ht hW => ⟨⟨_, _, rfl, hw, x_B (Bw := cB D A ad) ht hB⟩, hS.F ht⟩) hS.2.2 dX0_copy_69 (hlocks := F.1.k)
        · replace hw := hw.1 q
          refine lv_ldcw hx hb F.1.o (F.1.t _ q1019) dX0_copy_49 ?_
          exact W.iret hx hb F.1.r (fun t ht hW => ⟨⟨_, _, rfl, hw, x_B (Bw := cB D A ad) ht hB⟩, hS.F ht⟩) hS.2.2 dX0_copy_52 (hlocks := F.1.k)
    · replace hw := hw.1 q
      refine lv_ldc hx hb F.1.o (F.1.t _ q392) dX0_copy_14 ?_
      exact W.iret hx hb F.1.r (fun t ht hW => ⟨⟨_, _, rfl, hw, x_B (Bw := cB D A ad) ht hB⟩, hS.F ht⟩) hS.2.2 dX0_copy_16 (hlocks := F.1.k)
set_option maxHeartbeats 4000000 in
theorem mX0_copy {l : Launch} {D : DD} {A : Nat → Prop} {s0 : State} {ad : AD} {V : CV} {a1 : Int32} {a2 : Int32} {a3 : Int32} {a4 : Int32} {a5 : Int32} {Q : Int32 → CV → Prop} (hw : wX0_copy a1 a2 a3 a4 a5 V Q) : Met l yX0_copy (ws_ yX0_copy cX0_copy 8 (some .int)) rX0_copy (va_Pc [.ref (ad 0 0 0), .int a1, .int a2, .int a3, .int a4, .int a5] (fun U => cB D A ad V U.heap ∧ CX l D A s0 U)) (va_Qi Q (fun u t => cB D A ad u t.heap) A) 0 0 A := by
  refine Met.ofW (cc := cX0_copy) (maxL := 8) (ret := some .int) (by decide) rfl ?_
  intro p e s m args below meth c s₁ B hml hv
  obtain ⟨rfl, hB, hC⟩ := hv
  have F : FX p l c cX0_copy s _ m RX0 D A s0 8 meth (some .int) := ⟨mk_FP B hml rfl, hC⟩
  have hS : va_S A s.heap s.heap [] := va_S.rf
  have hl := lv_entry ([.ref (ad 0 0 0), .int a1, .int a2, .int a3, .int a4, .int a5]) (n := 8) (Nat.le_of_ble_eq_true rfl)
  rw [lg_entry_eq]
  generalize (lg_sl ([.ref (ad 0 0 0), .int a1, .int a2, .int a3, .int a4, .int a5]) ++ List.replicate (8 - (lg_sl ([.ref (ad 0 0 0), .int a1, .int a2, .int a3, .int a4, .int a5])).length) Slot.unset).toArray = ls at hl ⊢
  exact bX0_copy_0 F hB hS hw hl
def rX0_costOf : Room := { frames := 2, cells := 0, slots := 0, locals := 62 }
set_option maxHeartbeats 4000000 in
theorem bX0_costOf_0 {p : Program} {l : Launch} {e : Env} {s : State} {m : MethodId} {args : Array Value} {below : List Frame} {meth : Method} {c : Code} {D : DD} {A : Nat → Prop} {s0 : State} {ad : AD} {Q : Int32 → CV → Prop} {a1 : Nat} {a1' : Nat} {V : CV} {H : Heap} {locs : List Loc} {ls : Array Slot} (F : FX p l c cX0_costOf s args m RX0 D A s0 3 meth (some .int)) (hB : cB D A ad V H) (hS : va_S A s.heap H locs) (hw : wX0_costOf a1 a1' V Q) (hl : lv_has ls 3 [(0, .ref (ad 0 0 0)), (1, .ref (ad 4 a1 a1'))]) : W p l e rX0_costOf s m args below meth c H locs 0 0 (MQ below (va_Qi Q (fun u t => cB D A ad u t.heap) A) args s 0 0 A) (F0 m 0 ls []) := by
  have hx := F.1.x
  have hb := F.1.b
  unfold wX0_costOf at hw
  obtain ⟨g_a1, hw⟩ := hw
  obtain ⟨g_a1p, hw⟩ := hw
  refine lv_aload_n hx hb dX0_costOf_0 rfl (lv_at hl 0 rfl) ?_
  refine lv_iconst (v := 1) hx hb dX0_costOf_1 (by decide) ?_
  refine kX0_X0_counts F hB hS hw ⟨Nat.le_of_ble_eq_true rfl, Nat.le_of_ble_eq_true rfl⟩ ⟨Nat.zero_le _, Nat.zero_le _⟩ hl.1 (Nat.le_of_ble_eq_true rfl) dX0_costOf_2 (fun r1 V2 H locs hw hB hS => ?_)
  refine lv_istore_n (lv' := [(2, .int r1), (0, .ref (ad 0 0 0)), (1, .ref (ad 4 a1 a1'))]) hx hb dX0_costOf_5 rfl hl (by decide) rfl (fun ls hl => ?_)
  refine lv_iload_n hx hb dX0_costOf_6 rfl (lv_at hl 0 rfl) ?_
  refine lv_iconst (v := -1) hx hb dX0_costOf_7 (by decide) ?_
  refine lv_icmp_ne (tgt := 21) hx hb dX0_costOf_8 (by decide) (fun q => ?_) (fun q => ?_)
  · replace hw := hw.2 q
    refine lv_aload_n hx hb dX0_costOf_21 rfl (lv_at hl 1 rfl) ?_
    refine cg_X0_71 F hB dX0_costOf_22 ?_
    refine lv_bipush (v := 108) hx hb dX0_costOf_25 (by decide) ?_
    refine lv_aload_n hx hb dX0_costOf_27 rfl (lv_at hl 2 rfl) ?_
    refine cg_X0_359 F hB g_a1 g_a1p dX0_costOf_28 ?_
    obtain ⟨hin3, hw⟩ := hw
    refine ct_15 F hB hS hin3 dX0_costOf_31 (fun H locs hB hS => ?_)
    refine lv_aload_n hx hb dX0_costOf_32 rfl (lv_at hl 1 rfl) ?_
    refine cg_X0_71 F hB dX0_costOf_33 ?_
    refine lv_bipush (v := 119) hx hb dX0_costOf_36 (by decide) ?_
    refine lv_aload_n hx hb dX0_costOf_38 rfl (lv_at hl 2 rfl) ?_
    refine cg_X0_346 F hB g_a1 g_a1p dX0_costOf_39 ?_
    obtain ⟨hin4, hw⟩ := hw
    refine ct_15 F hB hS hin4 dX0_costOf_42 (fun H locs hB hS => ?_)
    refine lv_aload_n hx hb dX0_costOf_43 rfl (lv_at hl 1 rfl) ?_
    refine cg_X0_71 F hB dX0_costOf_44 ?_
    refine lv_bipush (v := 110) hx hb dX0_costOf_47 (by decide) ?_
    refine lv_aload_n hx hb dX0_costOf_49 rfl (lv_at hl 2 rfl) ?_
    refine kX0_X2_leftMany F hB hS hw ⟨Nat.le_of_ble_eq_true rfl, Nat.le_of_ble_eq_true rfl⟩ ⟨Nat.zero_le _, Nat.zero_le _⟩ hl.1 (Nat.le_of_ble_eq_true rfl) dX0_costOf_50 (fun r5 V6 H locs hw hB hS => ?_)
    obtain ⟨hin7, hw⟩ := hw
    refine ct_15 F hB hS hin7 dX0_costOf_53 (fun H locs hB hS => ?_)
    refine lv_aload_n hx hb dX0_costOf_54 rfl (lv_at hl 1 rfl) ?_
    refine lv_aload_n hx hb dX0_costOf_55 rfl (lv_at hl 1 rfl) ?_
    refine cg_X0_46 F hB dX0_costOf_56 ?_
    refine cg_X0_245 F hB (by decide) dX0_costOf_59 ?_
    refine lv_iload_n hx hb dX0_costOf_62 rfl (lv_at hl 0 rfl) ?_
    obtain ⟨hin8, hw⟩ := hw
    refine cl_Tx F hB (by decide) hin8 dX0_costOf_63 ?_
    obtain ⟨y9, e10, hw⟩ := hw
    refine W.eq (g2 := F0 m 64 ls [.ref y9, .ref (ad 0 0 0)]) (congrArg (fun z => F0 m 64 ls [va_rf z, .ref (ad 0 0 0)]) e10) ?_
    obtain ⟨f11, f12, f13, hm14, hw⟩ := hw
    refine cg_X0_365 F hB hm14 dX0_costOf_64 ?_
    refine kX0_X0_reckon F hB hS hw ⟨Nat.le_of_ble_eq_true rfl, Nat.le_of_ble_eq_true rfl⟩ ⟨Nat.zero_le _, Nat.zero_le _⟩ hl.1 (Nat.le_of_ble_eq_true rfl) dX0_costOf_67 (fun r15 V16 H locs hw hB hS => ?_)
    refine lv_iconst (v := 0) hx hb dX0_costOf_70 (by decide) ?_
    refine lv_ldcw hx hb F.1.o (F.1.t _ q830) dX0_costOf_71 ?_
    refine kX0_X0_within F.1 hw ⟨Nat.le_of_ble_eq_true rfl, Nat.le_of_ble_eq_true rfl⟩ ⟨Nat.zero_le _, Nat.zero_le _⟩ hl.1 (Nat.le_of_ble_eq_true rfl) dX0_costOf_74 (fun r17 hw => ?_)
    exact W.iret hx hb F.1.r (fun t ht hW => ⟨⟨_, _, rfl, hw, x_B (Bw := cB D A ad) ht hB⟩, hS.F ht⟩) hS.2.2 dX0_costOf_77 (hlocks := F.1.k)
  · replace hw := hw.1 q
    refine lv_aload_n hx hb dX0_costOf_11 rfl (lv_at hl 2 rfl) ?_
    refine cg_X0_359 F hB g_a1 g_a1p dX0_costOf_12 ?_
    refine lv_aload_n hx hb dX0_costOf_15 rfl (lv_at hl 2 rfl) ?_
    refine cg_X0_346 F hB g_a1 g_a1p dX0_costOf_16 ?_
    refine lv_imul hx hb dX0_costOf_19 ?_
    exact W.iret hx hb F.1.r (fun t ht hW => ⟨⟨_, _, rfl, hw, x_B (Bw := cB D A ad) ht hB⟩, hS.F ht⟩) hS.2.2 dX0_costOf_20 (hlocks := F.1.k)
set_option maxHeartbeats 4000000 in
theorem mX0_costOf {l : Launch} {D : DD} {A : Nat → Prop} {s0 : State} {ad : AD} {V : CV} {a1 : Nat} {a1' : Nat} {Q : Int32 → CV → Prop} (hw : wX0_costOf a1 a1' V Q) : Met l yX0_costOf (ws_ yX0_costOf cX0_costOf 3 (some .int)) rX0_costOf (va_Pc [.ref (ad 0 0 0), .ref (ad 4 a1 a1')] (fun U => cB D A ad V U.heap ∧ CX l D A s0 U)) (va_Qi Q (fun u t => cB D A ad u t.heap) A) 0 0 A := by
  refine Met.ofW (cc := cX0_costOf) (maxL := 3) (ret := some .int) (by decide) rfl ?_
  intro p e s m args below meth c s₁ B hml hv
  obtain ⟨rfl, hB, hC⟩ := hv
  have F : FX p l c cX0_costOf s _ m RX0 D A s0 3 meth (some .int) := ⟨mk_FP B hml rfl, hC⟩
  have hS : va_S A s.heap s.heap [] := va_S.rf
  have hl := lv_entry ([.ref (ad 0 0 0), .ref (ad 4 a1 a1')]) (n := 3) (Nat.le_of_ble_eq_true rfl)
  rw [lg_entry_eq]
  generalize (lg_sl ([.ref (ad 0 0 0), .ref (ad 4 a1 a1')]) ++ List.replicate (3 - (lg_sl ([.ref (ad 0 0 0), .ref (ad 4 a1 a1')])).length) Slot.unset).toArray = ls at hl ⊢
  exact bX0_costOf_0 F hB hS hw hl
theorem kX0_X0_costOf {p : Program} {l : Launch} {e : Env} {R : Room} {s : State} {m : MethodId} {args : Array Value} {below : List Frame} {meth : Method} {c : Code} {H : Heap} {locs : List Loc} {cells slots : Nat} {Q0 : State → Prop} {cc : ByteArray} {pc nL : Nat} {ls : Array Slot} {rest : List Value} {ret : Option FieldType} {D : DD} {A : Nat → Prop} {s0 : State} {ad : AD} {V : CV} {a1 : Nat} {a1' : Nat} {Q : Int32 → CV → Prop} (F : FX p l c cc s args m RX0 D A s0 nL meth ret) (hB : cB D A ad V H) (hS : va_S A s.heap H locs) (hw : wX0_costOf a1 a1' V Q) (hR : rX0_costOf.frames + 1 ≤ R.frames ∧ 8 + (3 + 11) + rX0_costOf.locals ≤ R.locals) (hc : cells + 0 ≤ R.cells ∧ slots + 0 ≤ R.slots) (hsz : ls.size = nL) (hW : (rest.map fun v => v.category).sum ≤ 8) (hdg : decode cc pc = .ok (.invokevirtual 380, 3)) (kk : ∀ (r : Int32) (u : CV) (H1 : Heap) (locs1 : List Loc), Q r u → cB D A ad u H1 → va_S A s.heap H1 locs1 → W p l e R s m args below meth c H1 locs1 cells slots Q0 (F0 m (pc + 3) ls (.int r :: rest))) : W p l e R s m args below meth c H locs cells slots Q0 (F0 m pc ls (.ref (ad 4 a1 a1') :: .ref (ad 0 0 0) :: rest)) :=
  k_i (Bw := cB D A ad) (k_runV (Bw := cB D A ad) (n := 1) (As := [.ref (ad 4 a1 a1')]) F hB hS (c_at F (hB.pic cpic0) rfl) (mX0_costOf hw) q814 q816 qs26 q83 q817 (by decide +kernel) hR ⟨rfl, rfl⟩ hc rfl hsz rfl hW hdg) hS kk
def rX0_sumOf : Room := { frames := 0, cells := 0, slots := 0, locals := 0 }
set_option maxHeartbeats 4000000 in
theorem bX0_sumOf_47 {p : Program} {l : Launch} {e : Env} {s : State} {m : MethodId} {args : Array Value} {below : List Frame} {meth : Method} {c : Code} {D : DD} {A : Nat → Prop} {s0 : State} {ad : AD} {Q : Int32 → CV → Prop} {k_4 : Int32 → Int32 → Int32 → CV → Prop} {l1 : Int32} {l3 : Int32} {k0 : Int32} {k1 : Int32} {V : CV} {H : Heap} {locs : List Loc} {ls : Array Slot} (F : FX p l c cX0_sumOf s args m RX0 D A s0 4 meth (some .int)) (h_4 : ∀ (l1 : Int32) (l2 : Int32) (l3 : Int32) (V : CV), k_4 l1 l2 l3 V → ∀ (H : Heap) (locs : List Loc) (ls : Array Slot), cB D A ad V H → va_S A s.heap H locs → lv_has ls 4 [(0, .ref (ad 0 0 0)), (1, .int l1), (2, .int l2), (3, .int l3)] → W p l e rX0_sumOf s m args below meth c H locs 0 0 (MQ below (va_Qi Q (fun u t => cB D A ad u t.heap) A) args s 0 0 A) (F0 m 4 ls [])) (hB : cB D A ad V H) (hS : va_S A s.heap H locs) (hw : wX0_sumOf_47 k_4 l1 l3 k0 k1 V Q) (hl : lv_has ls 4 [(0, .ref (ad 0 0 0)), (1, .int l1), (3, .int l3)]) : W p l e rX0_sumOf s m args below meth c H locs 0 0 (MQ below (va_Qi Q (fun u t => cB D A ad u t.heap) A) args s 0 0 A) (F0 m 47 ls [.int k0, .int k1]) := by
  have hx := F.1.x
  have hb := F.1.b
  unfold wX0_sumOf_47 at hw
  refine lv_iadd hx hb dX0_sumOf_47 ?_
  refine lv_istore_n (lv' := [(2, .int (k1 + k0)), (0, .ref (ad 0 0 0)), (1, .int l1), (3, .int l3)]) hx hb dX0_sumOf_48 rfl hl (by decide) rfl (fun ls hl => ?_)
  refine lv_iinc (v := l3 + (1 : Int32)) (lv' := [(3, .int (l3 + (1 : Int32))), (2, .int (k1 + k0)), (0, .ref (ad 0 0 0)), (1, .int l1)]) hx hb dX0_sumOf_49 hl (k := 3) rfl (x_inc (by decide)) (by decide) rfl (fun ls hl => ?_)
  refine lv_goto (tgt := 4) hx hb dX0_sumOf_52 (by decide) ?_
  exact h_4 _ _ _ _ hw _ _ _ hB hS (lv_sub hl [2, 3, 1, 0] rfl)
set_option maxHeartbeats 4000000 in
theorem bX0_sumOf_4 {p : Program} {l : Launch} {e : Env} {s : State} {m : MethodId} {args : Array Value} {below : List Frame} {meth : Method} {c : Code} {D : DD} {A : Nat → Prop} {s0 : State} {ad : AD} {Q : Int32 → CV → Prop} (F : FX p l c cX0_sumOf s args m RX0 D A s0 4 meth (some .int)) : ∀ (n : Nat) (l1 : Int32) (l2 : Int32) (l3 : Int32) (V : CV), wX0_sumOf_4 Q n l1 l2 l3 V → ∀ (H : Heap) (locs : List Loc) (ls : Array Slot), cB D A ad V H → va_S A s.heap H locs → lv_has ls 4 [(0, .ref (ad 0 0 0)), (1, .int l1), (2, .int l2), (3, .int l3)] → W p l e rX0_sumOf s m args below meth c H locs 0 0 (MQ below (va_Qi Q (fun u t => cB D A ad u t.heap) A) args s 0 0 A) (F0 m 4 ls []) := by
  have hx := F.1.x
  have hb := F.1.b
  intro n
  induction n with
  | zero => intro l1 l2 l3 V hw; exact hw.elim
  | succ n ih =>
    intro l1 l2 l3 V hw H locs ls hB hS hl
    unfold wX0_sumOf_4 at hw
    refine lv_iload_n hx hb dX0_sumOf_4 rfl (lv_at hl 3 rfl) ?_
    refine lv_aload_n hx hb dX0_sumOf_5 rfl (lv_at hl 0 rfl) ?_
    refine cg_X0_46 F hB dX0_sumOf_6 ?_
    refine cg_X0_109 F hB (by decide) dX0_sumOf_9 ?_
    refine lv_icmp_ge (tgt := 55) hx hb dX0_sumOf_12 (by decide) (fun q => ?_) (fun q => ?_)
    · replace hw := hw.1 q
      refine lv_iload_n hx hb dX0_sumOf_55 rfl (lv_at hl 2 rfl) ?_
      exact W.iret hx hb F.1.r (fun t ht hW => ⟨⟨_, _, rfl, hw, x_B (Bw := cB D A ad) ht hB⟩, hS.F ht⟩) hS.2.2 dX0_sumOf_56 (hlocks := F.1.k)
    · replace hw := hw.2 q
      refine lv_iload_n hx hb dX0_sumOf_15 rfl (lv_at hl 2 rfl) ?_
      refine lv_iload_n hx hb dX0_sumOf_16 rfl (lv_at hl 1 rfl) ?_
      refine lv_if_eq (tgt := 35) hx hb dX0_sumOf_17 (by decide) (fun q => ?_) (fun q => ?_)
      · replace hw := hw.1 q
        refine lv_aload_n hx hb dX0_sumOf_35 rfl (lv_at hl 0 rfl) ?_
        refine cg_X0_46 F hB dX0_sumOf_36 ?_
        refine cg_X0_278 F hB (by decide) dX0_sumOf_39 ?_
        refine lv_iload_n hx hb dX0_sumOf_42 rfl (lv_at hl 3 rfl) ?_
        obtain ⟨hin1, hw⟩ := hw
        refine cl_De F hB (by decide) hin1 dX0_sumOf_43 ?_
        refine cg_X0_356 F hB (by decide) (x_lt hin1) dX0_sumOf_44 ?_
        exact bX0_sumOf_47 F ih hB hS hw (lv_sub hl [0, 1, 3] rfl)
      · replace hw := hw.2 q
        refine lv_aload_n hx hb dX0_sumOf_20 rfl (lv_at hl 0 rfl) ?_
        refine cg_X0_46 F hB dX0_sumOf_21 ?_
        refine cg_X0_278 F hB (by decide) dX0_sumOf_24 ?_
        refine lv_iload_n hx hb dX0_sumOf_27 rfl (lv_at hl 3 rfl) ?_
        obtain ⟨hin2, hw⟩ := hw
        refine cl_De F hB (by decide) hin2 dX0_sumOf_28 ?_
        refine cg_X0_359 F hB (by decide) (x_lt hin2) dX0_sumOf_29 ?_
        refine lv_goto (tgt := 47) hx hb dX0_sumOf_32 (by decide) ?_
        exact bX0_sumOf_47 F ih hB hS hw (lv_sub hl [0, 1, 3] rfl)
set_option maxHeartbeats 4000000 in
theorem bX0_sumOf_0 {p : Program} {l : Launch} {e : Env} {s : State} {m : MethodId} {args : Array Value} {below : List Frame} {meth : Method} {c : Code} {D : DD} {A : Nat → Prop} {s0 : State} {ad : AD} {Q : Int32 → CV → Prop} {a1 : Int32} {V : CV} {H : Heap} {locs : List Loc} {ls : Array Slot} (F : FX p l c cX0_sumOf s args m RX0 D A s0 4 meth (some .int)) (hB : cB D A ad V H) (hS : va_S A s.heap H locs) (hw : wX0_sumOf a1 V Q) (hl : lv_has ls 4 [(0, .ref (ad 0 0 0)), (1, .int a1)]) : W p l e rX0_sumOf s m args below meth c H locs 0 0 (MQ below (va_Qi Q (fun u t => cB D A ad u t.heap) A) args s 0 0 A) (F0 m 0 ls []) := by
  have hx := F.1.x
  have hb := F.1.b
  unfold wX0_sumOf at hw
  refine lv_iconst (v := 0) hx hb dX0_sumOf_0 (by decide) ?_
  refine lv_istore_n (lv' := [(2, .int (0 : Int32)), (0, .ref (ad 0 0 0)), (1, .int a1)]) hx hb dX0_sumOf_1 rfl hl (by decide) rfl (fun ls hl => ?_)
  refine lv_iconst (v := 0) hx hb dX0_sumOf_2 (by decide) ?_
  refine lv_istore_n (lv' := [(3, .int (0 : Int32)), (2, .int (0 : Int32)), (0, .ref (ad 0 0 0)), (1, .int a1)]) hx hb dX0_sumOf_3 rfl hl (by decide) rfl (fun ls hl => ?_)
  obtain ⟨f_4, hw⟩ := hw
  exact bX0_sumOf_4 F f_4 _ _ _ _ hw _ _ _ hB hS (lv_sub hl [2, 3, 1, 0] rfl)
set_option maxHeartbeats 4000000 in
theorem mX0_sumOf {l : Launch} {D : DD} {A : Nat → Prop} {s0 : State} {ad : AD} {V : CV} {a1 : Int32} {Q : Int32 → CV → Prop} (hw : wX0_sumOf a1 V Q) : Met l yX0_sumOf (ws_ yX0_sumOf cX0_sumOf 4 (some .int)) rX0_sumOf (va_Pc [.ref (ad 0 0 0), .int a1] (fun U => cB D A ad V U.heap ∧ CX l D A s0 U)) (va_Qi Q (fun u t => cB D A ad u t.heap) A) 0 0 A := by
  refine Met.ofW (cc := cX0_sumOf) (maxL := 4) (ret := some .int) (by decide) rfl ?_
  intro p e s m args below meth c s₁ B hml hv
  obtain ⟨rfl, hB, hC⟩ := hv
  have F : FX p l c cX0_sumOf s _ m RX0 D A s0 4 meth (some .int) := ⟨mk_FP B hml rfl, hC⟩
  have hS : va_S A s.heap s.heap [] := va_S.rf
  have hl := lv_entry ([.ref (ad 0 0 0), .int a1]) (n := 4) (Nat.le_of_ble_eq_true rfl)
  rw [lg_entry_eq]
  generalize (lg_sl ([.ref (ad 0 0 0), .int a1]) ++ List.replicate (4 - (lg_sl ([.ref (ad 0 0 0), .int a1])).length) Slot.unset).toArray = ls at hl ⊢
  exact bX0_sumOf_0 F hB hS hw hl
theorem kX0_X0_sumOf {p : Program} {l : Launch} {e : Env} {R : Room} {s : State} {m : MethodId} {args : Array Value} {below : List Frame} {meth : Method} {c : Code} {H : Heap} {locs : List Loc} {cells slots : Nat} {Q0 : State → Prop} {cc : ByteArray} {pc nL : Nat} {ls : Array Slot} {rest : List Value} {ret : Option FieldType} {D : DD} {A : Nat → Prop} {s0 : State} {ad : AD} {V : CV} {a1 : Int32} {Q : Int32 → CV → Prop} (F : FX p l c cc s args m RX0 D A s0 nL meth ret) (hB : cB D A ad V H) (hS : va_S A s.heap H locs) (hw : wX0_sumOf a1 V Q) (hR : rX0_sumOf.frames + 1 ≤ R.frames ∧ 8 + (4 + 11) + rX0_sumOf.locals ≤ R.locals) (hc : cells + 0 ≤ R.cells ∧ slots + 0 ≤ R.slots) (hsz : ls.size = nL) (hW : (rest.map fun v => v.category).sum ≤ 8) (hdg : decode cc pc = .ok (.invokevirtual 526, 3)) (kk : ∀ (r : Int32) (u : CV) (H1 : Heap) (locs1 : List Loc), Q r u → cB D A ad u H1 → va_S A s.heap H1 locs1 → W p l e R s m args below meth c H1 locs1 cells slots Q0 (F0 m (pc + 3) ls (.int r :: rest))) : W p l e R s m args below meth c H locs cells slots Q0 (F0 m pc ls (.int a1 :: .ref (ad 0 0 0) :: rest)) :=
  k_i (Bw := cB D A ad) (k_runV (Bw := cB D A ad) (n := 1) (As := [.int a1]) F hB hS (c_at F (hB.pic cpic0) rfl) (mX0_sumOf hw) q1213 q1215 qs40 q83 q1216 (by decide +kernel) hR ⟨rfl, rfl⟩ hc rfl hsz rfl hW hdg) hS kk
def rX0_count : Room := { frames := 1, cells := 0, slots := 0, locals := 23 }
set_option maxHeartbeats 4000000 in
theorem bX0_count_0 {p : Program} {l : Launch} {e : Env} {s : State} {m : MethodId} {args : Array Value} {below : List Frame} {meth : Method} {c : Code} {D : DD} {A : Nat → Prop} {s0 : State} {ad : AD} {Q : Int32 → CV → Prop} {a1 : Int32} {V : CV} {H : Heap} {locs : List Loc} {ls : Array Slot} (F : FX p l c cX0_count s args m RX0 D A s0 2 meth (some .int)) (hB : cB D A ad V H) (hS : va_S A s.heap H locs) (hw : wX0_count a1 V Q) (hl : lv_has ls 2 [(0, .ref (ad 0 0 0)), (1, .int a1)]) : W p l e rX0_count s m args below meth c H locs 0 0 (MQ below (va_Qi Q (fun u t => cB D A ad u t.heap) A) args s 0 0 A) (F0 m 0 ls []) := by
  have hx := F.1.x
  have hb := F.1.b
  unfold wX0_count at hw
  refine lv_iload_n hx hb dX0_count_0 rfl (lv_at hl 1 rfl) ?_
  by_cases q0 : a1 = 0
  · replace hw := hw.1 q0
    refine lv_tableIn (off := 51) (tgt := 52) hx hb dX0_count_1 (by rw [q0]; decide) (by rw [q0]; decide) (by rw [q0]; rfl) (by decide) ?_
    refine lv_aload_n hx hb dX0_count_52 rfl (lv_at hl 0 rfl) ?_
    refine cg_X0_46 F hB dX0_count_53 ?_
    refine cg_X0_101 F hB (by decide) dX0_count_56 ?_
    exact W.iret hx hb F.1.r (fun t ht hW => ⟨⟨_, _, rfl, hw, x_B (Bw := cB D A ad) ht hB⟩, hS.F ht⟩) hS.2.2 dX0_count_59 (hlocks := F.1.k)
  replace hw := hw.2 q0
  by_cases q1 : a1 = 1
  · replace hw := hw.1 q1
    refine lv_tableIn (off := 59) (tgt := 60) hx hb dX0_count_1 (by rw [q1]; decide) (by rw [q1]; decide) (by rw [q1]; rfl) (by decide) ?_
    refine lv_aload_n hx hb dX0_count_60 rfl (lv_at hl 0 rfl) ?_
    refine cg_X0_46 F hB dX0_count_61 ?_
    refine cg_X0_109 F hB (by decide) dX0_count_64 ?_
    exact W.iret hx hb F.1.r (fun t ht hW => ⟨⟨_, _, rfl, hw, x_B (Bw := cB D A ad) ht hB⟩, hS.F ht⟩) hS.2.2 dX0_count_67 (hlocks := F.1.k)
  replace hw := hw.2 q1
  by_cases q2 : a1 = 2
  · replace hw := hw.1 q2
    refine lv_tableIn (off := 67) (tgt := 68) hx hb dX0_count_1 (by rw [q2]; decide) (by rw [q2]; decide) (by rw [q2]; rfl) (by decide) ?_
    refine lv_aload_n hx hb dX0_count_68 rfl (lv_at hl 0 rfl) ?_
    refine cg_X0_46 F hB dX0_count_69 ?_
    refine cg_X0_384 F hB (by decide) dX0_count_72 ?_
    exact W.iret hx hb F.1.r (fun t ht hW => ⟨⟨_, _, rfl, hw, x_B (Bw := cB D A ad) ht hB⟩, hS.F ht⟩) hS.2.2 dX0_count_75 (hlocks := F.1.k)
  replace hw := hw.2 q2
  by_cases q3 : a1 = 3
  · replace hw := hw.1 q3
    refine lv_tableIn (off := 75) (tgt := 76) hx hb dX0_count_1 (by rw [q3]; decide) (by rw [q3]; decide) (by rw [q3]; rfl) (by decide) ?_
    refine lv_aload_n hx hb dX0_count_76 rfl (lv_at hl 0 rfl) ?_
    refine lv_iconst (v := 0) hx hb dX0_count_77 (by decide) ?_
    refine kX0_X0_sumOf F hB hS hw ⟨Nat.le_of_ble_eq_true rfl, Nat.le_of_ble_eq_true rfl⟩ ⟨Nat.zero_le _, Nat.zero_le _⟩ hl.1 (Nat.le_of_ble_eq_true rfl) dX0_count_78 (fun r1 V2 H locs hw hB hS => ?_)
    exact W.iret hx hb F.1.r (fun t ht hW => ⟨⟨_, _, rfl, hw, x_B (Bw := cB D A ad) ht hB⟩, hS.F ht⟩) hS.2.2 dX0_count_81 (hlocks := F.1.k)
  replace hw := hw.2 q3
  by_cases q4 : a1 = 4
  · replace hw := hw.1 q4
    refine lv_tableIn (off := 81) (tgt := 82) hx hb dX0_count_1 (by rw [q4]; decide) (by rw [q4]; decide) (by rw [q4]; rfl) (by decide) ?_
    refine lv_aload_n hx hb dX0_count_82 rfl (lv_at hl 0 rfl) ?_
    refine lv_iconst (v := 1) hx hb dX0_count_83 (by decide) ?_
    refine kX0_X0_sumOf F hB hS hw ⟨Nat.le_of_ble_eq_true rfl, Nat.le_of_ble_eq_true rfl⟩ ⟨Nat.zero_le _, Nat.zero_le _⟩ hl.1 (Nat.le_of_ble_eq_true rfl) dX0_count_84 (fun r3 V4 H locs hw hB hS => ?_)
    exact W.iret hx hb F.1.r (fun t ht hW => ⟨⟨_, _, rfl, hw, x_B (Bw := cB D A ad) ht hB⟩, hS.F ht⟩) hS.2.2 dX0_count_87 (hlocks := F.1.k)
  replace hw := hw.2 q4
  by_cases q5 : a1 = 5
  · replace hw := hw.1 q5
    refine lv_tableIn (off := 87) (tgt := 88) hx hb dX0_count_1 (by rw [q5]; decide) (by rw [q5]; decide) (by rw [q5]; rfl) (by decide) ?_
    refine lv_aload_n hx hb dX0_count_88 rfl (lv_at hl 0 rfl) ?_
    refine cg_X0_46 F hB dX0_count_89 ?_
    refine cg_X0_242 F hB (by decide) dX0_count_92 ?_
    exact W.iret hx hb F.1.r (fun t ht hW => ⟨⟨_, _, rfl, hw, x_B (Bw := cB D A ad) ht hB⟩, hS.F ht⟩) hS.2.2 dX0_count_95 (hlocks := F.1.k)
  replace hw := hw.2 q5
  by_cases q6 : a1 = 6
  · replace hw := hw.1 q6
    refine lv_tableIn (off := 95) (tgt := 96) hx hb dX0_count_1 (by rw [q6]; decide) (by rw [q6]; decide) (by rw [q6]; rfl) (by decide) ?_
    refine lv_aload_n hx hb dX0_count_96 rfl (lv_at hl 0 rfl) ?_
    refine cg_X0_512 F hB dX0_count_97 ?_
    exact W.iret hx hb F.1.r (fun t ht hW => ⟨⟨_, _, rfl, hw, x_B (Bw := cB D A ad) ht hB⟩, hS.F ht⟩) hS.2.2 dX0_count_100 (hlocks := F.1.k)
  replace hw := hw.2 q6
  by_cases q7 : a1 = 7
  · replace hw := hw.1 q7
    refine lv_tableIn (off := 100) (tgt := 101) hx hb dX0_count_1 (by rw [q7]; decide) (by rw [q7]; decide) (by rw [q7]; rfl) (by decide) ?_
    refine lv_aload_n hx hb dX0_count_101 rfl (lv_at hl 0 rfl) ?_
    refine cg_X0_127 F hB dX0_count_102 ?_
    exact W.iret hx hb F.1.r (fun t ht hW => ⟨⟨_, _, rfl, hw, x_B (Bw := cB D A ad) ht hB⟩, hS.F ht⟩) hS.2.2 dX0_count_105 (hlocks := F.1.k)
  replace hw := hw.2 q7
  by_cases q8 : a1 = 8
  · replace hw := hw.1 q8
    refine lv_tableIn (off := 105) (tgt := 106) hx hb dX0_count_1 (by rw [q8]; decide) (by rw [q8]; decide) (by rw [q8]; rfl) (by decide) ?_
    refine lv_aload_n hx hb dX0_count_106 rfl (lv_at hl 0 rfl) ?_
    refine cg_X0_46 F hB dX0_count_107 ?_
    refine cg_X0_329 F hB (by decide) dX0_count_110 ?_
    exact W.iret hx hb F.1.r (fun t ht hW => ⟨⟨_, _, rfl, hw, x_B (Bw := cB D A ad) ht hB⟩, hS.F ht⟩) hS.2.2 dX0_count_113 (hlocks := F.1.k)
  replace hw := hw.2 q8
  refine lv_tableOut (tgt := 114) hx hb dX0_count_1 (by have n0 := x_ne q0 (a := 0) (by decide); have n1 := x_ne q1 (a := 1) (by decide); have n2 := x_ne q2 (a := 2) (by decide); have n3 := x_ne q3 (a := 3) (by decide); have n4 := x_ne q4 (a := 4) (by decide); have n5 := x_ne q5 (a := 5) (by decide); have n6 := x_ne q6 (a := 6) (by decide); have n7 := x_ne q7 (a := 7) (by decide); have n8 := x_ne q8 (a := 8) (by decide); omega) (by decide) ?_
  refine lv_ldc hx hb F.1.o (F.1.t _ q392) dX0_count_114 ?_
  exact W.iret hx hb F.1.r (fun t ht hW => ⟨⟨_, _, rfl, hw, x_B (Bw := cB D A ad) ht hB⟩, hS.F ht⟩) hS.2.2 dX0_count_116 (hlocks := F.1.k)
set_option maxHeartbeats 4000000 in
theorem mX0_count {l : Launch} {D : DD} {A : Nat → Prop} {s0 : State} {ad : AD} {V : CV} {a1 : Int32} {Q : Int32 → CV → Prop} (hw : wX0_count a1 V Q) : Met l yX0_count (ws_ yX0_count cX0_count 2 (some .int)) rX0_count (va_Pc [.ref (ad 0 0 0), .int a1] (fun U => cB D A ad V U.heap ∧ CX l D A s0 U)) (va_Qi Q (fun u t => cB D A ad u t.heap) A) 0 0 A := by
  refine Met.ofW (cc := cX0_count) (maxL := 2) (ret := some .int) (by decide) rfl ?_
  intro p e s m args below meth c s₁ B hml hv
  obtain ⟨rfl, hB, hC⟩ := hv
  have F : FX p l c cX0_count s _ m RX0 D A s0 2 meth (some .int) := ⟨mk_FP B hml rfl, hC⟩
  have hS : va_S A s.heap s.heap [] := va_S.rf
  have hl := lv_entry ([.ref (ad 0 0 0), .int a1]) (n := 2) (Nat.le_of_ble_eq_true rfl)
  rw [lg_entry_eq]
  generalize (lg_sl ([.ref (ad 0 0 0), .int a1]) ++ List.replicate (2 - (lg_sl ([.ref (ad 0 0 0), .int a1])).length) Slot.unset).toArray = ls at hl ⊢
  exact bX0_count_0 F hB hS hw hl
def rX0_deal : Room := { frames := 6, cells := 13, slots := 13, locals := 145 }
set_option maxHeartbeats 4000000 in
theorem bX0_deal_15 {p : Program} {l : Launch} {e : Env} {s : State} {m : MethodId} {args : Array Value} {below : List Frame} {meth : Method} {c : Code} {D : DD} {A : Nat → Prop} {s0 : State} {ad : AD} {Q : Int32 → CV → Prop} (F : FX p l c cX0_deal s args m RX0 D A s0 7 meth (some .int)) : ∀ (n : Nat) (l1 : Int32) (l2 : Int32) (V : CV), ∀ (ce sl : Nat), ce + n * 1 ≤ 13 → sl + n * 1 ≤ 13 → wX0_deal_15 Q n l1 l2 V → ∀ (H : Heap) (locs : List Loc) (ls : Array Slot), cB D A ad V H → va_S A s.heap H locs → lv_has ls 7 [(0, .ref (ad 0 0 0)), (1, .int l1), (2, .int l2)] → W p l e rX0_deal s m args below meth c H locs ce sl (MQ below (va_Qi Q (fun u t => cB D A ad u t.heap) A) args s 13 13 A) (F0 m 15 ls []) := by
  have hx := F.1.x
  have hb := F.1.b
  intro n
  induction n with
  | zero => intro l1 l2 V ce sl hce hsl hw; exact hw.elim
  | succ n ih =>
    intro l1 l2 V ce sl hce hsl hw H locs ls hB hS hl
    unfold wX0_deal_15 at hw
    refine lv_iload_n hx hb dX0_deal_15 rfl (lv_at hl 2 rfl) ?_
    refine lv_iload_n hx hb dX0_deal_16 rfl (lv_at hl 1 rfl) ?_
    refine lv_icmp_ge (tgt := 89) hx hb dX0_deal_17 (by decide) (fun q => ?_) (fun q => ?_)
    · replace hw := hw.1 q
      refine lv_iload_n hx hb dX0_deal_89 rfl (lv_at hl 2 rfl) ?_
      refine W.widen (k := 13) (n := 13) (by omega) (by omega) ?_
      exact W.iret hx hb F.1.r (fun t ht hW => ⟨⟨_, _, rfl, hw, x_B (Bw := cB D A ad) ht hB⟩, hS.F ht⟩) hS.2.2 dX0_deal_90 (hlocks := F.1.k)
    · replace hw := hw.2 q
      refine lv_aload_n hx hb dX0_deal_20 rfl (lv_at hl 0 rfl) ?_
      refine cg_X0_46 F hB dX0_deal_21 ?_
      refine cg_X0_101 F hB (by decide) dX0_deal_24 ?_
      refine lv_bipush (v := 12) hx hb dX0_deal_27 (by decide) ?_
      refine lv_icmp_ge (tgt := 89) hx hb dX0_deal_29 (by decide) (fun q => ?_) (fun q => ?_)
      · replace hw := hw.1 q
        refine lv_iload_n hx hb dX0_deal_89 rfl (lv_at hl 2 rfl) ?_
        refine W.widen (k := 13) (n := 13) (by omega) (by omega) ?_
        exact W.iret hx hb F.1.r (fun t ht hW => ⟨⟨_, _, rfl, hw, x_B (Bw := cB D A ad) ht hB⟩, hS.F ht⟩) hS.2.2 dX0_deal_90 (hlocks := F.1.k)
      · replace hw := hw.2 q
        refine lv_aload_n hx hb dX0_deal_32 rfl (lv_at hl 0 rfl) ?_
        refine cg_X0_46 F hB dX0_deal_33 ?_
        refine kX0_X1_draw F hB hS hw ⟨Nat.le_of_ble_eq_true rfl, Nat.le_of_ble_eq_true rfl⟩ ⟨by show _ ≤ 13; omega, by show _ ≤ 13; omega⟩ hl.1 (Nat.le_of_ble_eq_true rfl) dX0_deal_36 (fun r1 V2 H locs hw hB hS => ?_)
        refine lv_bipush (v := 6) hx hb dX0_deal_39 (by decide) ?_
        refine lv_irem hx hb dX0_deal_41 (by decide) ?_
        refine lv_istore_n (lv' := [(3, .int (r1 - r1 / (6 : Int32) * (6 : Int32))), (0, .ref (ad 0 0 0)), (1, .int l1), (2, .int l2)]) hx hb dX0_deal_42 rfl hl (by decide) rfl (fun ls hl => ?_)
        refine lv_aload_n hx hb dX0_deal_43 rfl (lv_at hl 1 rfl) ?_
        refine cg_X0_46 F hB dX0_deal_44 ?_
        refine kX0_X1_draw F hB hS hw ⟨Nat.le_of_ble_eq_true rfl, Nat.le_of_ble_eq_true rfl⟩ ⟨by show _ ≤ 13; omega, by show _ ≤ 13; omega⟩ hl.1 (Nat.le_of_ble_eq_true rfl) dX0_deal_47 (fun r3 V4 H locs hw hB hS => ?_)
        refine lv_bipush (v := 101) hx hb dX0_deal_50 (by decide) ?_
        refine lv_irem hx hb dX0_deal_52 (by decide) ?_
        refine lv_istore (lv' := [(4, .int (r3 - r3 / (101 : Int32) * (101 : Int32))), (3, .int (r1 - r1 / (6 : Int32) * (6 : Int32))), (0, .ref (ad 0 0 0)), (1, .int l1), (2, .int l2)]) hx hb dX0_deal_53 hl (by decide) rfl (fun ls hl => ?_)
        refine lv_aload_n hx hb dX0_deal_55 rfl (lv_at hl 2 rfl) ?_
        refine cg_X0_46 F hB dX0_deal_56 ?_
        refine kX0_X1_draw F hB hS hw ⟨Nat.le_of_ble_eq_true rfl, Nat.le_of_ble_eq_true rfl⟩ ⟨by show _ ≤ 13; omega, by show _ ≤ 13; omega⟩ hl.1 (Nat.le_of_ble_eq_true rfl) dX0_deal_59 (fun r5 V6 H locs hw hB hS => ?_)
        refine lv_istore (lv' := [(5, .int r5), (4, .int (r3 - r3 / (101 : Int32) * (101 : Int32))), (3, .int (r1 - r1 / (6 : Int32) * (6 : Int32))), (0, .ref (ad 0 0 0)), (1, .int l1), (2, .int l2)]) hx hb dX0_deal_62 hl (by decide) rfl (fun ls hl => ?_)
        refine lv_aload_n hx hb dX0_deal_64 rfl (lv_at hl 3 rfl) ?_
        refine lv_iload_n hx hb dX0_deal_65 rfl (lv_at hl 2 rfl) ?_
        refine lv_iload hx hb dX0_deal_66 (lv_at hl 1 rfl) ?_
        refine lv_iload hx hb dX0_deal_68 (lv_at hl 0 rfl) ?_
        refine lv_aload_n hx hb dX0_deal_70 rfl (lv_at hl 3 rfl) ?_
        refine cg_X0_46 F hB dX0_deal_71 ?_
        refine kX0_X1_draw F hB hS hw ⟨Nat.le_of_ble_eq_true rfl, Nat.le_of_ble_eq_true rfl⟩ ⟨by show _ ≤ 13; omega, by show _ ≤ 13; omega⟩ hl.1 (Nat.le_of_ble_eq_true rfl) dX0_deal_74 (fun r7 V8 H locs hw hB hS => ?_)
        refine lv_iand hx hb dX0_deal_77 ?_
        refine kX0_X0_comes F hB hS hw ⟨Nat.le_of_ble_eq_true rfl, Nat.le_of_ble_eq_true rfl⟩ ⟨by show _ ≤ 13; omega, by show _ ≤ 13; omega⟩ hl.1 (Nat.le_of_ble_eq_true rfl) dX0_deal_78 (fun r9 V10 H locs hw hB hS => ?_)
        refine lv_istore (lv' := [(6, .int r9), (5, .int r5), (4, .int (r3 - r3 / (101 : Int32) * (101 : Int32))), (3, .int (r1 - r1 / (6 : Int32) * (6 : Int32))), (0, .ref (ad 0 0 0)), (1, .int l1), (2, .int l2)]) hx hb dX0_deal_81 hl (by decide) rfl (fun ls hl => ?_)
        refine lv_iinc (v := l2 + (1 : Int32)) (lv' := [(2, .int (l2 + (1 : Int32))), (6, .int r9), (5, .int r5), (4, .int (r3 - r3 / (101 : Int32) * (101 : Int32))), (3, .int (r1 - r1 / (6 : Int32) * (6 : Int32))), (0, .ref (ad 0 0 0)), (1, .int l1)]) hx hb dX0_deal_83 hl (k := 6) rfl (x_inc (by decide)) (by decide) rfl (fun ls hl => ?_)
        refine lv_goto (tgt := 15) hx hb dX0_deal_86 (by decide) ?_
        exact ih _ _ _ _ _ (by omega) (by omega) hw _ _ _ hB hS (lv_sub hl [5, 6, 0] rfl)
set_option maxHeartbeats 4000000 in
theorem bX0_deal_0 {p : Program} {l : Launch} {e : Env} {s : State} {m : MethodId} {args : Array Value} {below : List Frame} {meth : Method} {c : Code} {D : DD} {A : Nat → Prop} {s0 : State} {ad : AD} {Q : Int32 → CV → Prop} {a1 : Int32} {V : CV} {H : Heap} {locs : List Loc} {ls : Array Slot} (F : FX p l c cX0_deal s args m RX0 D A s0 7 meth (some .int)) (hB : cB D A ad V H) (hS : va_S A s.heap H locs) (hw : wX0_deal a1 V Q) (hl : lv_has ls 7 [(0, .ref (ad 0 0 0)), (1, .int a1)]) : W p l e rX0_deal s m args below meth c H locs 0 0 (MQ below (va_Qi Q (fun u t => cB D A ad u t.heap) A) args s 13 13 A) (F0 m 0 ls []) := by
  have hx := F.1.x
  have hb := F.1.b
  unfold wX0_deal at hw
  refine lv_iload_n hx hb dX0_deal_0 rfl (lv_at hl 1 rfl) ?_
  refine lv_iconst (v := 1) hx hb dX0_deal_1 (by decide) ?_
  refine lv_bipush (v := 12) hx hb dX0_deal_2 (by decide) ?_
  refine kX0_X0_isIn F.1 hw ⟨Nat.le_of_ble_eq_true rfl, Nat.le_of_ble_eq_true rfl⟩ ⟨by show _ ≤ 13; omega, by show _ ≤ 13; omega⟩ hl.1 (Nat.le_of_ble_eq_true rfl) dX0_deal_4 (fun r1 hw => ?_)
  refine lv_if_ne (tgt := 13) hx hb dX0_deal_7 (by decide) (fun q => ?_) (fun q => ?_)
  · replace hw := hw.2 q
    refine lv_iconst (v := 0) hx hb dX0_deal_13 (by decide) ?_
    refine lv_istore_n (lv' := [(2, .int (0 : Int32)), (0, .ref (ad 0 0 0)), (1, .int a1)]) hx hb dX0_deal_14 rfl hl (by decide) rfl (fun ls hl => ?_)
    skip
    exact bX0_deal_15 F 13 _ _ _ _ _ (by omega) (by omega) hw _ _ _ hB hS (lv_sub hl [1, 2, 0] rfl)
  · replace hw := hw.1 q
    refine lv_ldc hx hb F.1.o (F.1.t _ q392) dX0_deal_10 ?_
    refine W.widen (k := 13) (n := 13) (by omega) (by omega) ?_
    exact W.iret hx hb F.1.r (fun t ht hW => ⟨⟨_, _, rfl, hw, x_B (Bw := cB D A ad) ht hB⟩, hS.F ht⟩) hS.2.2 dX0_deal_12 (hlocks := F.1.k)
set_option maxHeartbeats 4000000 in
theorem mX0_deal {l : Launch} {D : DD} {A : Nat → Prop} {s0 : State} {ad : AD} {V : CV} {a1 : Int32} {Q : Int32 → CV → Prop} (hw : wX0_deal a1 V Q) : Met l yX0_deal (ws_ yX0_deal cX0_deal 7 (some .int)) rX0_deal (va_Pc [.ref (ad 0 0 0), .int a1] (fun U => cB D A ad V U.heap ∧ CX l D A s0 U)) (va_Qi Q (fun u t => cB D A ad u t.heap) A) 13 13 A := by
  refine Met.ofW (cc := cX0_deal) (maxL := 7) (ret := some .int) (by decide) rfl ?_
  intro p e s m args below meth c s₁ B hml hv
  obtain ⟨rfl, hB, hC⟩ := hv
  have F : FX p l c cX0_deal s _ m RX0 D A s0 7 meth (some .int) := ⟨mk_FP B hml rfl, hC⟩
  have hS : va_S A s.heap s.heap [] := va_S.rf
  have hl := lv_entry ([.ref (ad 0 0 0), .int a1]) (n := 7) (Nat.le_of_ble_eq_true rfl)
  rw [lg_entry_eq]
  generalize (lg_sl ([.ref (ad 0 0 0), .int a1]) ++ List.replicate (7 - (lg_sl ([.ref (ad 0 0 0), .int a1])).length) Slot.unset).toArray = ls at hl ⊢
  exact bX0_deal_0 F hB hS hw hl
def rX0_isSet : Room := { frames := 0, cells := 0, slots := 0, locals := 0 }
set_option maxHeartbeats 4000000 in
theorem bX0_isSet_0 {p : Program} {l : Launch} {e : Env} {s : State} {m : MethodId} {args : Array Value} {below : List Frame} {meth : Method} {c : Code} {D : DD} {A : Nat → Prop} {s0 : State} {ad : AD} {Q : Int32 → CV → Prop} {a1 : Int32} {V : CV} {H : Heap} {locs : List Loc} {ls : Array Slot} (F : FX p l c cX0_isSet s args m RX0 D A s0 2 meth (some .boolean)) (hB : cB D A ad V H) (hS : va_S A s.heap H locs) (hw : wX0_isSet a1 V Q) (hl : lv_has ls 2 [(0, .ref (ad 0 0 0)), (1, .int a1)]) : W p l e rX0_isSet s m args below meth c H locs 0 0 (MQ below (va_Qi Q (fun u t => cB D A ad u t.heap) A) args s 0 0 A) (F0 m 0 ls []) := by
  have hx := F.1.x
  have hb := F.1.b
  unfold wX0_isSet at hw
  refine lv_iload_n hx hb dX0_isSet_0 rfl (lv_at hl 1 rfl) ?_
  refine lv_if_lt (tgt := 20) hx hb dX0_isSet_1 (by decide) (fun q => ?_) (fun q => ?_)
  · replace hw := hw.1 q
    refine lv_iconst (v := 0) hx hb dX0_isSet_20 (by decide) ?_
    exact W.zret hx hb F.1.r rfl (fun t ht hW => ⟨⟨_, _, rfl, hw, x_B (Bw := cB D A ad) ht hB⟩, hS.F ht⟩) hS.2.2 dX0_isSet_21 (hlocks := F.1.k)
  · replace hw := hw.2 q
    refine lv_iload_n hx hb dX0_isSet_4 rfl (lv_at hl 1 rfl) ?_
    refine lv_aload_n hx hb dX0_isSet_5 rfl (lv_at hl 0 rfl) ?_
    refine cg_X0_46 F hB dX0_isSet_6 ?_
    refine cg_X0_101 F hB (by decide) dX0_isSet_9 ?_
    refine lv_ishr hx hb dX0_isSet_12 ?_
    refine lv_if_ne (tgt := 20) hx hb dX0_isSet_13 (by decide) (fun q => ?_) (fun q => ?_)
    · replace hw := hw.2 q
      refine lv_iconst (v := 0) hx hb dX0_isSet_20 (by decide) ?_
      exact W.zret hx hb F.1.r rfl (fun t ht hW => ⟨⟨_, _, rfl, hw, x_B (Bw := cB D A ad) ht hB⟩, hS.F ht⟩) hS.2.2 dX0_isSet_21 (hlocks := F.1.k)
    · replace hw := hw.1 q
      refine lv_iconst (v := 1) hx hb dX0_isSet_16 (by decide) ?_
      refine lv_goto (tgt := 21) hx hb dX0_isSet_17 (by decide) ?_
      exact W.zret hx hb F.1.r rfl (fun t ht hW => ⟨⟨_, _, rfl, hw, x_B (Bw := cB D A ad) ht hB⟩, hS.F ht⟩) hS.2.2 dX0_isSet_21 (hlocks := F.1.k)
set_option maxHeartbeats 4000000 in
theorem mX0_isSet {l : Launch} {D : DD} {A : Nat → Prop} {s0 : State} {ad : AD} {V : CV} {a1 : Int32} {Q : Int32 → CV → Prop} (hw : wX0_isSet a1 V Q) : Met l yX0_isSet (ws_ yX0_isSet cX0_isSet 2 (some .boolean)) rX0_isSet (va_Pc [.ref (ad 0 0 0), .int a1] (fun U => cB D A ad V U.heap ∧ CX l D A s0 U)) (va_Qi Q (fun u t => cB D A ad u t.heap) A) 0 0 A := by
  refine Met.ofW (cc := cX0_isSet) (maxL := 2) (ret := some .boolean) (by decide) rfl ?_
  intro p e s m args below meth c s₁ B hml hv
  obtain ⟨rfl, hB, hC⟩ := hv
  have F : FX p l c cX0_isSet s _ m RX0 D A s0 2 meth (some .boolean) := ⟨mk_FP B hml rfl, hC⟩
  have hS : va_S A s.heap s.heap [] := va_S.rf
  have hl := lv_entry ([.ref (ad 0 0 0), .int a1]) (n := 2) (Nat.le_of_ble_eq_true rfl)
  rw [lg_entry_eq]
  generalize (lg_sl ([.ref (ad 0 0 0), .int a1]) ++ List.replicate (2 - (lg_sl ([.ref (ad 0 0 0), .int a1])).length) Slot.unset).toArray = ls at hl ⊢
  exact bX0_isSet_0 F hB hS hw hl
theorem kX0_X0_isSet {p : Program} {l : Launch} {e : Env} {R : Room} {s : State} {m : MethodId} {args : Array Value} {below : List Frame} {meth : Method} {c : Code} {H : Heap} {locs : List Loc} {cells slots : Nat} {Q0 : State → Prop} {cc : ByteArray} {pc nL : Nat} {ls : Array Slot} {rest : List Value} {ret : Option FieldType} {D : DD} {A : Nat → Prop} {s0 : State} {ad : AD} {V : CV} {a1 : Int32} {Q : Int32 → CV → Prop} (F : FX p l c cc s args m RX0 D A s0 nL meth ret) (hB : cB D A ad V H) (hS : va_S A s.heap H locs) (hw : wX0_isSet a1 V Q) (hR : rX0_isSet.frames + 1 ≤ R.frames ∧ 8 + (2 + 11) + rX0_isSet.locals ≤ R.locals) (hc : cells + 0 ≤ R.cells ∧ slots + 0 ≤ R.slots) (hsz : ls.size = nL) (hW : (rest.map fun v => v.category).sum ≤ 8) (hdg : decode cc pc = .ok (.invokevirtual 332, 3)) (kk : ∀ (r : Int32) (u : CV) (H1 : Heap) (locs1 : List Loc), Q r u → cB D A ad u H1 → va_S A s.heap H1 locs1 → W p l e R s m args below meth c H1 locs1 cells slots Q0 (F0 m (pc + 3) ls (.int r :: rest))) : W p l e R s m args below meth c H locs cells slots Q0 (F0 m pc ls (.int a1 :: .ref (ad 0 0 0) :: rest)) :=
  k_i (Bw := cB D A ad) (k_runV (Bw := cB D A ad) (n := 1) (As := [.int a1]) F hB hS (c_at F (hB.pic cpic0) rfl) (mX0_isSet hw) q788 q790 qs23 q83 q791 (by decide +kernel) hR ⟨rfl, rfl⟩ hc rfl hsz rfl hW hdg) hS kk
def rX0_deed : Room := { frames := 2, cells := 0, slots := 0, locals := 41 }
set_option maxHeartbeats 4000000 in
theorem bX0_deed_0 {p : Program} {l : Launch} {e : Env} {s : State} {m : MethodId} {args : Array Value} {below : List Frame} {meth : Method} {c : Code} {D : DD} {A : Nat → Prop} {s0 : State} {ad : AD} {Q : Int32 → CV → Prop} {a1 : Int32} {a2 : Int32} {a3 : Int32} {V : CV} {H : Heap} {locs : List Loc} {ls : Array Slot} (F : FX p l c cX0_deed s args m RX0 D A s0 5 meth (some .int)) (hB : cB D A ad V H) (hS : va_S A s.heap H locs) (hw : wX0_deed a1 a2 a3 V Q) (hl : lv_has ls 5 [(0, .ref (ad 0 0 0)), (1, .int a1), (2, .int a2), (3, .int a3)]) : W p l e rX0_deed s m args below meth c H locs 0 0 (MQ below (va_Qi Q (fun u t => cB D A ad u t.heap) A) args s 0 0 A) (F0 m 0 ls []) := by
  have hx := F.1.x
  have hb := F.1.b
  unfold wX0_deed at hw
  refine lv_aload_n hx hb dX0_deed_0 rfl (lv_at hl 0 rfl) ?_
  refine lv_iload_n hx hb dX0_deed_1 rfl (lv_at hl 1 rfl) ?_
  refine kX0_X0_isSet F hB hS hw ⟨Nat.le_of_ble_eq_true rfl, Nat.le_of_ble_eq_true rfl⟩ ⟨Nat.zero_le _, Nat.zero_le _⟩ hl.1 (Nat.le_of_ble_eq_true rfl) dX0_deed_2 (fun r1 V2 H locs hw hB hS => ?_)
  refine lv_if_eq (tgt := 40) hx hb dX0_deed_5 (by decide) (fun q => ?_) (fun q => ?_)
  · replace hw := hw.1 q
    refine lv_ldc hx hb F.1.o (F.1.t _ q392) dX0_deed_40 ?_
    exact W.iret hx hb F.1.r (fun t ht hW => ⟨⟨_, _, rfl, hw, x_B (Bw := cB D A ad) ht hB⟩, hS.F ht⟩) hS.2.2 dX0_deed_42 (hlocks := F.1.k)
  · replace hw := hw.2 q
    refine lv_iload_n hx hb dX0_deed_8 rfl (lv_at hl 1 rfl) ?_
    refine kX0_J5_bitCount F.1 hw ⟨Nat.le_of_ble_eq_true rfl, Nat.le_of_ble_eq_true rfl⟩ ⟨Nat.zero_le _, Nat.zero_le _⟩ hl.1 (Nat.le_of_ble_eq_true rfl) dX0_deed_9 (fun r3 hw => ?_)
    refine lv_iconst (v := 1) hx hb dX0_deed_12 (by decide) ?_
    refine lv_iconst (v := 2) hx hb dX0_deed_13 (by decide) ?_
    refine kX0_X0_isIn F.1 hw ⟨Nat.le_of_ble_eq_true rfl, Nat.le_of_ble_eq_true rfl⟩ ⟨Nat.zero_le _, Nat.zero_le _⟩ hl.1 (Nat.le_of_ble_eq_true rfl) dX0_deed_14 (fun r4 hw => ?_)
    refine lv_if_eq (tgt := 40) hx hb dX0_deed_17 (by decide) (fun q => ?_) (fun q => ?_)
    · replace hw := hw.1 q
      refine lv_ldc hx hb F.1.o (F.1.t _ q392) dX0_deed_40 ?_
      exact W.iret hx hb F.1.r (fun t ht hW => ⟨⟨_, _, rfl, hw, x_B (Bw := cB D A ad) ht hB⟩, hS.F ht⟩) hS.2.2 dX0_deed_42 (hlocks := F.1.k)
    · replace hw := hw.2 q
      refine lv_iload_n hx hb dX0_deed_20 rfl (lv_at hl 2 rfl) ?_
      refine lv_iconst (v := 0) hx hb dX0_deed_21 (by decide) ?_
      refine lv_bipush (v := 23) hx hb dX0_deed_22 (by decide) ?_
      refine kX0_X0_isIn F.1 hw ⟨Nat.le_of_ble_eq_true rfl, Nat.le_of_ble_eq_true rfl⟩ ⟨Nat.zero_le _, Nat.zero_le _⟩ hl.1 (Nat.le_of_ble_eq_true rfl) dX0_deed_24 (fun r5 hw => ?_)
      refine lv_if_eq (tgt := 40) hx hb dX0_deed_27 (by decide) (fun q => ?_) (fun q => ?_)
      · replace hw := hw.1 q
        refine lv_ldc hx hb F.1.o (F.1.t _ q392) dX0_deed_40 ?_
        exact W.iret hx hb F.1.r (fun t ht hW => ⟨⟨_, _, rfl, hw, x_B (Bw := cB D A ad) ht hB⟩, hS.F ht⟩) hS.2.2 dX0_deed_42 (hlocks := F.1.k)
      · replace hw := hw.2 q
        refine lv_iload_n hx hb dX0_deed_30 rfl (lv_at hl 3 rfl) ?_
        refine lv_iconst (v := 0) hx hb dX0_deed_31 (by decide) ?_
        refine lv_bipush (v := 99) hx hb dX0_deed_32 (by decide) ?_
        refine kX0_X0_isIn F.1 hw ⟨Nat.le_of_ble_eq_true rfl, Nat.le_of_ble_eq_true rfl⟩ ⟨Nat.zero_le _, Nat.zero_le _⟩ hl.1 (Nat.le_of_ble_eq_true rfl) dX0_deed_34 (fun r6 hw => ?_)
        refine lv_if_ne (tgt := 43) hx hb dX0_deed_37 (by decide) (fun q => ?_) (fun q => ?_)
        · replace hw := hw.2 q
          refine lv_aload_n hx hb dX0_deed_43 rfl (lv_at hl 0 rfl) ?_
          refine cg_X0_46 F hB dX0_deed_44 ?_
          refine cg_X0_109 F hB (by decide) dX0_deed_47 ?_
          refine lv_bipush (v := 8) hx hb dX0_deed_50 (by decide) ?_
          refine lv_icmp_ne (tgt := 58) hx hb dX0_deed_52 (by decide) (fun q => ?_) (fun q => ?_)
          · replace hw := hw.2 q
            refine lv_aload_n hx hb dX0_deed_58 rfl (lv_at hl 0 rfl) ?_
            refine cg_X0_46 F hB dX0_deed_59 ?_
            refine cg_X0_278 F hB (by decide) dX0_deed_62 ?_
            refine lv_aload_n hx hb dX0_deed_65 rfl (lv_at hl 0 rfl) ?_
            refine cg_X0_46 F hB dX0_deed_66 ?_
            refine cg_X0_109 F hB (by decide) dX0_deed_69 ?_
            obtain ⟨hin7, hw⟩ := hw
            refine cl_De F hB (by decide) hin7 dX0_deed_72 ?_
            refine lv_astore (lv' := [(4, .ref (ad 4 0 ((vS V2 0 7).toNatClampNeg))), (0, .ref (ad 0 0 0)), (1, .int a1), (2, .int a2), (3, .int a3)]) hx hb dX0_deed_73 hl (by decide) rfl (fun ls hl => ?_)
            refine lv_aload hx hb dX0_deed_75 (lv_at hl 0 rfl) ?_
            refine lv_iload_n hx hb dX0_deed_77 rfl (lv_at hl 2 rfl) ?_
            refine cp_X0_340 F hB hS (by decide) (x_lt hin7) dX0_deed_78 (fun H locs hB hS => ?_)
            refine lv_aload hx hb dX0_deed_81 (lv_at hl 0 rfl) ?_
            refine lv_iload_n hx hb dX0_deed_83 rfl (lv_at hl 3 rfl) ?_
            refine cp_X0_343 F hB hS (by decide) (x_lt hin7) dX0_deed_84 (fun H locs hB hS => ?_)
            refine lv_aload hx hb dX0_deed_87 (lv_at hl 0 rfl) ?_
            refine lv_iload_n hx hb dX0_deed_89 rfl (lv_at hl 4 rfl) ?_
            refine cp_X0_346 F hB hS (by decide) (x_lt hin7) dX0_deed_90 (fun H locs hB hS => ?_)
            refine lv_aload_n hx hb dX0_deed_93 rfl (lv_at hl 1 rfl) ?_
            refine lv_aload hx hb dX0_deed_94 (lv_at hl 0 rfl) ?_
            refine kX0_X0_begins F hB hS hw ⟨Nat.le_of_ble_eq_true rfl, Nat.le_of_ble_eq_true rfl⟩ ⟨Nat.zero_le _, Nat.zero_le _⟩ hl.1 (Nat.le_of_ble_eq_true rfl) dX0_deed_96 (fun V9 H locs hw hB hS => ?_)
            refine lv_aload_n hx hb dX0_deed_99 rfl (lv_at hl 1 rfl) ?_
            refine cg_X0_46 F hB dX0_deed_100 ?_
            refine lv_dup hx hb dX0_deed_103 rfl ?_
            refine cg_X0_109 F hB (by decide) dX0_deed_104 ?_
            refine lv_iconst (v := 1) hx hb dX0_deed_107 (by decide) ?_
            refine lv_iadd hx hb dX0_deed_108 ?_
            refine cp_X0_109 F hB hS (by decide) dX0_deed_109 (fun H locs hB hS => ?_)
            refine lv_aload_n hx hb dX0_deed_112 rfl (lv_at hl 1 rfl) ?_
            refine cg_X0_46 F hB dX0_deed_113 ?_
            refine cg_X0_109 F hB (by decide) dX0_deed_116 ?_
            refine lv_iconst (v := 1) hx hb dX0_deed_119 (by decide) ?_
            refine lv_isub hx hb dX0_deed_120 ?_
            exact W.iret hx hb F.1.r (fun t ht hW => ⟨⟨_, _, rfl, hw, x_B (Bw := cB D A ad) ht hB⟩, hS.F ht⟩) hS.2.2 dX0_deed_121 (hlocks := F.1.k)
          · replace hw := hw.1 q
            refine lv_ldc hx hb F.1.o (F.1.t _ q380) dX0_deed_55 ?_
            exact W.iret hx hb F.1.r (fun t ht hW => ⟨⟨_, _, rfl, hw, x_B (Bw := cB D A ad) ht hB⟩, hS.F ht⟩) hS.2.2 dX0_deed_57 (hlocks := F.1.k)
        · replace hw := hw.1 q
          refine lv_ldc hx hb F.1.o (F.1.t _ q392) dX0_deed_40 ?_
          exact W.iret hx hb F.1.r (fun t ht hW => ⟨⟨_, _, rfl, hw, x_B (Bw := cB D A ad) ht hB⟩, hS.F ht⟩) hS.2.2 dX0_deed_42 (hlocks := F.1.k)
set_option maxHeartbeats 4000000 in
theorem mX0_deed {l : Launch} {D : DD} {A : Nat → Prop} {s0 : State} {ad : AD} {V : CV} {a1 : Int32} {a2 : Int32} {a3 : Int32} {Q : Int32 → CV → Prop} (hw : wX0_deed a1 a2 a3 V Q) : Met l yX0_deed (ws_ yX0_deed cX0_deed 5 (some .int)) rX0_deed (va_Pc [.ref (ad 0 0 0), .int a1, .int a2, .int a3] (fun U => cB D A ad V U.heap ∧ CX l D A s0 U)) (va_Qi Q (fun u t => cB D A ad u t.heap) A) 0 0 A := by
  refine Met.ofW (cc := cX0_deed) (maxL := 5) (ret := some .int) (by decide) rfl ?_
  intro p e s m args below meth c s₁ B hml hv
  obtain ⟨rfl, hB, hC⟩ := hv
  have F : FX p l c cX0_deed s _ m RX0 D A s0 5 meth (some .int) := ⟨mk_FP B hml rfl, hC⟩
  have hS : va_S A s.heap s.heap [] := va_S.rf
  have hl := lv_entry ([.ref (ad 0 0 0), .int a1, .int a2, .int a3]) (n := 5) (Nat.le_of_ble_eq_true rfl)
  rw [lg_entry_eq]
  generalize (lg_sl ([.ref (ad 0 0 0), .int a1, .int a2, .int a3]) ++ List.replicate (5 - (lg_sl ([.ref (ad 0 0 0), .int a1, .int a2, .int a3])).length) Slot.unset).toArray = ls at hl ⊢
  exact bX0_deed_0 F hB hS hw hl
def rX0_deedTold : Room := { frames := 3, cells := 0, slots := 0, locals := 84 }
set_option maxHeartbeats 4000000 in
theorem bX0_deedTold_0 {p : Program} {l : Launch} {e : Env} {s : State} {m : MethodId} {args : Array Value} {below : List Frame} {meth : Method} {c : Code} {D : DD} {A : Nat → Prop} {s0 : State} {ad : AD} {Q : Int32 → CV → Prop} {a1 : Int32} {a2 : Int32} {V : CV} {H : Heap} {locs : List Loc} {ls : Array Slot} (F : FX p l c cX0_deedTold s args m RX0 D A s0 4 meth (some .int)) (hB : cB D A ad V H) (hS : va_S A s.heap H locs) (hw : wX0_deedTold a1 a2 V Q) (hl : lv_has ls 4 [(0, .ref (ad 0 0 0)), (1, .int a1), (2, .int a2)]) : W p l e rX0_deedTold s m args below meth c H locs 0 0 (MQ below (va_Qi Q (fun u t => cB D A ad u t.heap) A) args s 0 0 A) (F0 m 0 ls []) := by
  have hx := F.1.x
  have hb := F.1.b
  unfold wX0_deedTold at hw
  refine lv_aload_n hx hb dX0_deedTold_0 rfl (lv_at hl 0 rfl) ?_
  refine lv_iload_n hx hb dX0_deedTold_1 rfl (lv_at hl 1 rfl) ?_
  refine kX0_X0_isDeed F hB hS hw ⟨Nat.le_of_ble_eq_true rfl, Nat.le_of_ble_eq_true rfl⟩ ⟨Nat.zero_le _, Nat.zero_le _⟩ hl.1 (Nat.le_of_ble_eq_true rfl) dX0_deedTold_2 (fun r1 V2 H locs hw hB hS => ?_)
  refine lv_if_ne (tgt := 11) hx hb dX0_deedTold_5 (by decide) (fun q => ?_) (fun q => ?_)
  · replace hw := hw.2 q
    refine lv_aload_n hx hb dX0_deedTold_11 rfl (lv_at hl 0 rfl) ?_
    refine cg_X0_46 F hB dX0_deedTold_12 ?_
    refine cg_X0_278 F hB (by decide) dX0_deedTold_15 ?_
    refine lv_iload_n hx hb dX0_deedTold_18 rfl (lv_at hl 1 rfl) ?_
    obtain ⟨hin3, hw⟩ := hw
    refine cl_De F hB (by decide) hin3 dX0_deedTold_19 ?_
    refine lv_astore_n (lv' := [(3, .ref (ad 4 0 a1.toNatClampNeg)), (0, .ref (ad 0 0 0)), (1, .int a1), (2, .int a2)]) hx hb dX0_deedTold_20 rfl hl (by decide) rfl (fun ls hl => ?_)
    refine lv_iload_n hx hb dX0_deedTold_21 rfl (lv_at hl 3 rfl) ?_
    by_cases q0 : a2 = 0
    · replace hw := hw.1 q0
      refine lv_tableIn (off := 46) (tgt := 68) hx hb dX0_deedTold_22 (by rw [q0]; decide) (by rw [q0]; decide) (by rw [q0]; rfl) (by decide) ?_
      refine lv_aload_n hx hb dX0_deedTold_68 rfl (lv_at hl 0 rfl) ?_
      refine cg_X0_340 F hB (by decide) (x_lt hin3) dX0_deedTold_69 ?_
      exact W.iret hx hb F.1.r (fun t ht hW => ⟨⟨_, _, rfl, hw, x_B (Bw := cB D A ad) ht hB⟩, hS.F ht⟩) hS.2.2 dX0_deedTold_72 (hlocks := F.1.k)
    replace hw := hw.2 q0
    by_cases q1 : a2 = 1
    · replace hw := hw.1 q1
      refine lv_tableIn (off := 51) (tgt := 73) hx hb dX0_deedTold_22 (by rw [q1]; decide) (by rw [q1]; decide) (by rw [q1]; rfl) (by decide) ?_
      refine lv_aload_n hx hb dX0_deedTold_73 rfl (lv_at hl 0 rfl) ?_
      refine cg_X0_343 F hB (by decide) (x_lt hin3) dX0_deedTold_74 ?_
      exact W.iret hx hb F.1.r (fun t ht hW => ⟨⟨_, _, rfl, hw, x_B (Bw := cB D A ad) ht hB⟩, hS.F ht⟩) hS.2.2 dX0_deedTold_77 (hlocks := F.1.k)
    replace hw := hw.2 q1
    by_cases q2 : a2 = 2
    · replace hw := hw.1 q2
      refine lv_tableIn (off := 56) (tgt := 78) hx hb dX0_deedTold_22 (by rw [q2]; decide) (by rw [q2]; decide) (by rw [q2]; rfl) (by decide) ?_
      refine lv_aload_n hx hb dX0_deedTold_78 rfl (lv_at hl 0 rfl) ?_
      refine cg_X0_346 F hB (by decide) (x_lt hin3) dX0_deedTold_79 ?_
      exact W.iret hx hb F.1.r (fun t ht hW => ⟨⟨_, _, rfl, hw, x_B (Bw := cB D A ad) ht hB⟩, hS.F ht⟩) hS.2.2 dX0_deedTold_82 (hlocks := F.1.k)
    replace hw := hw.2 q2
    by_cases q3 : a2 = 3
    · replace hw := hw.1 q3
      refine lv_tableIn (off := 61) (tgt := 83) hx hb dX0_deedTold_22 (by rw [q3]; decide) (by rw [q3]; decide) (by rw [q3]; rfl) (by decide) ?_
      refine lv_aload_n hx hb dX0_deedTold_83 rfl (lv_at hl 0 rfl) ?_
      refine cg_X0_282 F hB (by decide) (x_lt hin3) dX0_deedTold_84 ?_
      exact W.iret hx hb F.1.r (fun t ht hW => ⟨⟨_, _, rfl, hw, x_B (Bw := cB D A ad) ht hB⟩, hS.F ht⟩) hS.2.2 dX0_deedTold_87 (hlocks := F.1.k)
    replace hw := hw.2 q3
    by_cases q4 : a2 = 4
    · replace hw := hw.1 q4
      refine lv_tableIn (off := 66) (tgt := 88) hx hb dX0_deedTold_22 (by rw [q4]; decide) (by rw [q4]; decide) (by rw [q4]; rfl) (by decide) ?_
      refine lv_aload_n hx hb dX0_deedTold_88 rfl (lv_at hl 0 rfl) ?_
      refine cg_X0_356 F hB (by decide) (x_lt hin3) dX0_deedTold_89 ?_
      exact W.iret hx hb F.1.r (fun t ht hW => ⟨⟨_, _, rfl, hw, x_B (Bw := cB D A ad) ht hB⟩, hS.F ht⟩) hS.2.2 dX0_deedTold_92 (hlocks := F.1.k)
    replace hw := hw.2 q4
    by_cases q5 : a2 = 5
    · replace hw := hw.1 q5
      refine lv_tableIn (off := 71) (tgt := 93) hx hb dX0_deedTold_22 (by rw [q5]; decide) (by rw [q5]; decide) (by rw [q5]; rfl) (by decide) ?_
      refine lv_aload_n hx hb dX0_deedTold_93 rfl (lv_at hl 0 rfl) ?_
      refine cg_X0_359 F hB (by decide) (x_lt hin3) dX0_deedTold_94 ?_
      exact W.iret hx hb F.1.r (fun t ht hW => ⟨⟨_, _, rfl, hw, x_B (Bw := cB D A ad) ht hB⟩, hS.F ht⟩) hS.2.2 dX0_deedTold_97 (hlocks := F.1.k)
    replace hw := hw.2 q5
    by_cases q6 : a2 = 6
    · replace hw := hw.1 q6
      refine lv_tableIn (off := 76) (tgt := 98) hx hb dX0_deedTold_22 (by rw [q6]; decide) (by rw [q6]; decide) (by rw [q6]; rfl) (by decide) ?_
      refine lv_aload_n hx hb dX0_deedTold_98 rfl (lv_at hl 1 rfl) ?_
      refine lv_aload_n hx hb dX0_deedTold_99 rfl (lv_at hl 0 rfl) ?_
      refine kX0_X0_costOf F hB hS hw ⟨Nat.le_of_ble_eq_true rfl, Nat.le_of_ble_eq_true rfl⟩ ⟨Nat.zero_le _, Nat.zero_le _⟩ hl.1 (Nat.le_of_ble_eq_true rfl) dX0_deedTold_100 (fun r4 V5 H locs hw hB hS => ?_)
      exact W.iret hx hb F.1.r (fun t ht hW => ⟨⟨_, _, rfl, hw, x_B (Bw := cB D A ad) ht hB⟩, hS.F ht⟩) hS.2.2 dX0_deedTold_103 (hlocks := F.1.k)
    replace hw := hw.2 q6
    by_cases q7 : a2 = 7
    · replace hw := hw.1 q7
      refine lv_tableIn (off := 82) (tgt := 104) hx hb dX0_deedTold_22 (by rw [q7]; decide) (by rw [q7]; decide) (by rw [q7]; rfl) (by decide) ?_
      refine lv_aload_n hx hb dX0_deedTold_104 rfl (lv_at hl 0 rfl) ?_
      refine cg_X0_282 F hB (by decide) (x_lt hin3) dX0_deedTold_105 ?_
      refine lv_aload_n hx hb dX0_deedTold_108 rfl (lv_at hl 0 rfl) ?_
      refine cg_X0_340 F hB (by decide) (x_lt hin3) dX0_deedTold_109 ?_
      refine lv_icmp_ne (tgt := 119) hx hb dX0_deedTold_112 (by decide) (fun q => ?_) (fun q => ?_)
      · replace hw := hw.2 q
        refine lv_iconst (v := 0) hx hb dX0_deedTold_119 (by decide) ?_
        exact W.iret hx hb F.1.r (fun t ht hW => ⟨⟨_, _, rfl, hw, x_B (Bw := cB D A ad) ht hB⟩, hS.F ht⟩) hS.2.2 dX0_deedTold_120 (hlocks := F.1.k)
      · replace hw := hw.1 q
        refine lv_iconst (v := 1) hx hb dX0_deedTold_115 (by decide) ?_
        refine lv_goto (tgt := 120) hx hb dX0_deedTold_116 (by decide) ?_
        exact W.iret hx hb F.1.r (fun t ht hW => ⟨⟨_, _, rfl, hw, x_B (Bw := cB D A ad) ht hB⟩, hS.F ht⟩) hS.2.2 dX0_deedTold_120 (hlocks := F.1.k)
    replace hw := hw.2 q7
    refine lv_tableOut (tgt := 121) hx hb dX0_deedTold_22 (by have n0 := x_ne q0 (a := 0) (by decide); have n1 := x_ne q1 (a := 1) (by decide); have n2 := x_ne q2 (a := 2) (by decide); have n3 := x_ne q3 (a := 3) (by decide); have n4 := x_ne q4 (a := 4) (by decide); have n5 := x_ne q5 (a := 5) (by decide); have n6 := x_ne q6 (a := 6) (by decide); have n7 := x_ne q7 (a := 7) (by decide); omega) (by decide) ?_
    refine lv_ldc hx hb F.1.o (F.1.t _ q392) dX0_deedTold_121 ?_
    exact W.iret hx hb F.1.r (fun t ht hW => ⟨⟨_, _, rfl, hw, x_B (Bw := cB D A ad) ht hB⟩, hS.F ht⟩) hS.2.2 dX0_deedTold_123 (hlocks := F.1.k)
  · replace hw := hw.1 q
    refine lv_ldc hx hb F.1.o (F.1.t _ q392) dX0_deedTold_8 ?_
    exact W.iret hx hb F.1.r (fun t ht hW => ⟨⟨_, _, rfl, hw, x_B (Bw := cB D A ad) ht hB⟩, hS.F ht⟩) hS.2.2 dX0_deedTold_10 (hlocks := F.1.k)
set_option maxHeartbeats 4000000 in
theorem mX0_deedTold {l : Launch} {D : DD} {A : Nat → Prop} {s0 : State} {ad : AD} {V : CV} {a1 : Int32} {a2 : Int32} {Q : Int32 → CV → Prop} (hw : wX0_deedTold a1 a2 V Q) : Met l yX0_deedTold (ws_ yX0_deedTold cX0_deedTold 4 (some .int)) rX0_deedTold (va_Pc [.ref (ad 0 0 0), .int a1, .int a2] (fun U => cB D A ad V U.heap ∧ CX l D A s0 U)) (va_Qi Q (fun u t => cB D A ad u t.heap) A) 0 0 A := by
  refine Met.ofW (cc := cX0_deedTold) (maxL := 4) (ret := some .int) (by decide) rfl ?_
  intro p e s m args below meth c s₁ B hml hv
  obtain ⟨rfl, hB, hC⟩ := hv
  have F : FX p l c cX0_deedTold s _ m RX0 D A s0 4 meth (some .int) := ⟨mk_FP B hml rfl, hC⟩
  have hS : va_S A s.heap s.heap [] := va_S.rf
  have hl := lv_entry ([.ref (ad 0 0 0), .int a1, .int a2]) (n := 4) (Nat.le_of_ble_eq_true rfl)
  rw [lg_entry_eq]
  generalize (lg_sl ([.ref (ad 0 0 0), .int a1, .int a2]) ++ List.replicate (4 - (lg_sl ([.ref (ad 0 0 0), .int a1, .int a2])).length) Slot.unset).toArray = ls at hl ⊢
  exact bX0_deedTold_0 F hB hS hw hl
def rX13_init : Room := { frames := 1, cells := 2, slots := 192, locals := 40 }
set_option maxHeartbeats 4000000 in
theorem bX13_init_0 {p : Program} {l : Launch} {e : Env} {s : State} {m : MethodId} {args : Array Value} {below : List Frame} {meth : Method} {c : Code} {D : DD} {A : Nat → Prop} {s0 : State} {ad : AD} {Q : CV → Prop} {a0 : Nat} {V : CV} {H : Heap} {locs : List Loc} {ls : Array Slot} (F : FX p l c cX13_init s args m RX13 D A s0 1 meth (none)) (hin : meth.name = "<init>") (hB : cB D A ad V H) (hS : va_S A s.heap H locs) (hw : wX13_init a0 V Q) (hl : lv_has ls 1 [(0, .ref a0)]) : W p l e rX13_init s m args below meth c H locs 0 0 (MQ below (va_Qv Q (fun u t => cB D A ad u t.heap) A) args s 2 192 A) (F0 m 0 ls []) := by
  have hx := F.1.x
  have hb := F.1.b
  unfold wX13_init at hw
  refine lv_aload_n hx hb dX13_init_0 rfl (lv_at hl 0 rfl) ?_
  refine W.objInit hx hb F.1.o (F.1.t _ q483) (F.1.t _ q117) (F.1.t _ q118) rfl (by rw [F.1.ml]; exact hl.1) rfl dX13_init_1 (Nat.le_of_ble_eq_true rfl) (Nat.le_of_ble_eq_true rfl) ?_
  refine W.eq (g2 := F0 m 4 ls []) rfl ?_
  refine lv_aload_n hx hb dX13_init_4 rfl (lv_at hl 0 rfl) ?_
  refine lv_bipush (v := 96) hx hb dX13_init_5 (by decide) ?_
  refine na_int (n := 96) (N' := 96) F hB hS (by decide) (by decide) (by decide) (by show 0 + 1 ≤ 2; omega) (by show 0 + 96 ≤ 192; omega) dX13_init_7 (fun q1 H hq2 hB hS => ?_)
  replace hw := hw q1 hq2
  obtain ⟨fs3, hm4, hl5, hw⟩ := hw
  refine cf_X13_9 F hB hS hin hm4 hl5 dX13_init_9 (fun H locs hB hS => ?_)
  refine lv_aload_n hx hb dX13_init_12 rfl (lv_at hl 0 rfl) ?_
  refine lv_bipush (v := 96) hx hb dX13_init_13 (by decide) ?_
  refine na_int (n := 96) (N' := 96) F hB hS (by decide) (by decide) (by decide) (by show 1 + 1 ≤ 2; omega) (by show 96 + 96 ≤ 192; omega) dX13_init_15 (fun q6 H hq7 hB hS => ?_)
  replace hw := hw q6 hq7
  obtain ⟨fs8, hm9, hl10, hw⟩ := hw
  refine cf_X13_15 F hB hS hin hm9 hl10 dX13_init_17 (fun H locs hB hS => ?_)
  exact W.vret hx hb F.1.r (fun t ht hW => ⟨⟨_, rfl, hw, x_B (Bw := cB D A ad) ht hB⟩, hS.F ht⟩) hS.2.2 dX13_init_20 (hlocks := F.1.k)
set_option maxHeartbeats 4000000 in
theorem mX13_init {l : Launch} {D : DD} {A : Nat → Prop} {s0 : State} {ad : AD} {V : CV} {a0 : Nat} {Q : CV → Prop} (hw : wX13_init a0 V Q) : Met l yX13_init (ws_ yX13_init cX13_init 1 (none)) rX13_init (va_Pc [.ref a0] (fun U => cB D A ad V U.heap ∧ CX l D A s0 U)) (va_Qv Q (fun u t => cB D A ad u t.heap) A) 2 192 A := by
  refine Met.ofW (cc := cX13_init) (maxL := 1) (ret := none) (by decide) rfl ?_
  intro p e s m args below meth c s₁ B hml hv
  obtain ⟨rfl, hB, hC⟩ := hv
  have F : FX p l c cX13_init s _ m RX13 D A s0 1 meth (none) := ⟨mk_FP B hml rfl, hC⟩
  have hS : va_S A s.heap s.heap [] := va_S.rf
  have hin : meth.name = "<init>" := (name_of_methodNamed B.named B.method).1
  have hl := lv_entry ([.ref a0]) (n := 1) (Nat.le_of_ble_eq_true rfl)
  rw [lg_entry_eq]
  generalize (lg_sl ([.ref a0]) ++ List.replicate (1 - (lg_sl ([.ref a0])).length) Slot.unset).toArray = ls at hl ⊢
  exact bX13_init_0 F hin hB hS hw hl
theorem kX0_X13_init {p : Program} {l : Launch} {e : Env} {R : Room} {s : State} {m : MethodId} {args : Array Value} {below : List Frame} {meth : Method} {c : Code} {H : Heap} {locs : List Loc} {cells slots : Nat} {Q0 : State → Prop} {cc : ByteArray} {pc nL : Nat} {ls : Array Slot} {rest : List Value} {ret : Option FieldType} {D : DD} {A : Nat → Prop} {s0 : State} {ad : AD} {V : CV} {a0 : Nat} {Q : CV → Prop} (F : FX p l c cc s args m RX0 D A s0 nL meth ret) (hB : cB D A ad V H) (hS : va_S A s.heap H locs) (hw : wX13_init a0 V Q) (hR : rX13_init.frames + 1 ≤ R.frames ∧ 8 + (1 + 11) + rX13_init.locals ≤ R.locals) (hc : cells + 2 ≤ R.cells ∧ slots + 192 ≤ R.slots) (hsz : ls.size = nL) (hW : (rest.map fun v => v.category).sum ≤ 8) (hdg : decode cc pc = .ok (.invokespecial 171, 3)) (kk : ∀ (u : CV) (H1 : Heap) (locs1 : List Loc), Q u → cB D A ad u H1 → va_S A s.heap H1 locs1 → W p l e R s m args below meth c H1 locs1 (cells + 2) (slots + 192) Q0 (F0 m (pc + 3) ls (rest))) : W p l e R s m args below meth c H locs cells slots Q0 (F0 m pc ls (.ref a0 :: rest)) :=
  k_v (Bw := cB D A ad) (k_runIN (Bw := cB D A ad) (n := 0) (As := []) F hB hS (mX13_init hw) q480 q481 q107 q482 rfl (by decide +kernel) hR ⟨rfl, rfl⟩ hc rfl hsz rfl hW hdg) hS kk
def rX0_findFalls : Room := { frames := 65, cells := 0, slots := 0, locals := 1943 }
set_option maxHeartbeats 4000000 in
theorem bX0_findFalls_117 {p : Program} {l : Launch} {e : Env} {s : State} {m : MethodId} {args : Array Value} {below : List Frame} {meth : Method} {c : Code} {D : DD} {A : Nat → Prop} {s0 : State} {ad : AD} {Q : CV → Prop} {k_12 : Int32 → Int32 → CV → Prop} {l1 : Int32} {l2 : Int32} {V : CV} {H : Heap} {locs : List Loc} {ls : Array Slot} (F : FX p l c cX0_findFalls s args m RX0 D A s0 7 meth (none)) (h_12 : ∀ (l1 : Int32) (l2 : Int32) (V : CV), k_12 l1 l2 V → ∀ (H : Heap) (locs : List Loc) (ls : Array Slot), cB D A ad V H → va_S A s.heap H locs → lv_has ls 7 [(0, .ref (ad 0 0 0)), (1, .int l1), (2, .int l2)] → W p l e rX0_findFalls s m args below meth c H locs 0 0 (MQ below (va_Qv Q (fun u t => cB D A ad u t.heap) A) args s 0 0 A) (F0 m 12 ls [])) (hB : cB D A ad V H) (hS : va_S A s.heap H locs) (hw : wX0_findFalls_117 k_12 l1 l2 V Q) (hl : lv_has ls 7 [(0, .ref (ad 0 0 0)), (1, .int l1), (2, .int l2)]) : W p l e rX0_findFalls s m args below meth c H locs 0 0 (MQ below (va_Qv Q (fun u t => cB D A ad u t.heap) A) args s 0 0 A) (F0 m 117 ls []) := by
  have hx := F.1.x
  have hb := F.1.b
  unfold wX0_findFalls_117 at hw
  refine lv_iinc (v := l2 + (1 : Int32)) (lv' := [(2, .int (l2 + (1 : Int32))), (0, .ref (ad 0 0 0)), (1, .int l1)]) hx hb dX0_findFalls_117 hl (k := 2) rfl (x_inc (by decide)) (by decide) rfl (fun ls hl => ?_)
  refine lv_goto (tgt := 12) hx hb dX0_findFalls_120 (by decide) ?_
  exact h_12 _ _ _ hw _ _ _ hB hS (lv_sub hl [1, 2, 0] rfl)
set_option maxHeartbeats 4000000 in
theorem bX0_findFalls_12 {p : Program} {l : Launch} {e : Env} {s : State} {m : MethodId} {args : Array Value} {below : List Frame} {meth : Method} {c : Code} {D : DD} {A : Nat → Prop} {s0 : State} {ad : AD} {Q : CV → Prop} (F : FX p l c cX0_findFalls s args m RX0 D A s0 7 meth (none)) : ∀ (n : Nat) (l1 : Int32) (l2 : Int32) (V : CV), wX0_findFalls_12 Q n l1 l2 V → ∀ (H : Heap) (locs : List Loc) (ls : Array Slot), cB D A ad V H → va_S A s.heap H locs → lv_has ls 7 [(0, .ref (ad 0 0 0)), (1, .int l1), (2, .int l2)] → W p l e rX0_findFalls s m args below meth c H locs 0 0 (MQ below (va_Qv Q (fun u t => cB D A ad u t.heap) A) args s 0 0 A) (F0 m 12 ls []) := by
  have hx := F.1.x
  have hb := F.1.b
  intro n
  induction n with
  | zero => intro l1 l2 V hw; exact hw.elim
  | succ n ih =>
    intro l1 l2 V hw H locs ls hB hS hl
    unfold wX0_findFalls_12 at hw
    refine lv_iload_n hx hb dX0_findFalls_12 rfl (lv_at hl 2 rfl) ?_
    refine lv_aload_n hx hb dX0_findFalls_13 rfl (lv_at hl 0 rfl) ?_
    refine cg_X0_46 F hB dX0_findFalls_14 ?_
    refine cg_X0_109 F hB (by decide) dX0_findFalls_17 ?_
    refine lv_icmp_ge (tgt := 123) hx hb dX0_findFalls_20 (by decide) (fun q => ?_) (fun q => ?_)
    · replace hw := hw.1 q
      exact W.vret hx hb F.1.r (fun t ht hW => ⟨⟨_, rfl, hw, x_B (Bw := cB D A ad) ht hB⟩, hS.F ht⟩) hS.2.2 dX0_findFalls_123 (hlocks := F.1.k)
    · replace hw := hw.2 q
      refine lv_aload_n hx hb dX0_findFalls_23 rfl (lv_at hl 0 rfl) ?_
      refine cg_X0_46 F hB dX0_findFalls_24 ?_
      refine cg_X0_278 F hB (by decide) dX0_findFalls_27 ?_
      refine lv_iload_n hx hb dX0_findFalls_30 rfl (lv_at hl 2 rfl) ?_
      obtain ⟨hin1, hw⟩ := hw
      refine cl_De F hB (by decide) hin1 dX0_findFalls_31 ?_
      refine lv_astore_n (lv' := [(3, .ref (ad 4 0 l2.toNatClampNeg)), (0, .ref (ad 0 0 0)), (1, .int l1), (2, .int l2)]) hx hb dX0_findFalls_32 rfl hl (by decide) rfl (fun ls hl => ?_)
      refine lv_aload_n hx hb dX0_findFalls_33 rfl (lv_at hl 0 rfl) ?_
      refine cg_X0_282 F hB (by decide) (x_lt hin1) dX0_findFalls_34 ?_
      refine lv_iload_n hx hb dX0_findFalls_37 rfl (lv_at hl 2 rfl) ?_
      refine kX0_X0_has F.1 hw ⟨Nat.le_of_ble_eq_true rfl, Nat.le_of_ble_eq_true rfl⟩ ⟨Nat.zero_le _, Nat.zero_le _⟩ hl.1 (Nat.le_of_ble_eq_true rfl) dX0_findFalls_38 (fun r2 hw => ?_)
      refine lv_if_ne (tgt := 47) hx hb dX0_findFalls_41 (by decide) (fun q => ?_) (fun q => ?_)
      · replace hw := hw.2 q
        refine lv_aload_n hx hb dX0_findFalls_47 rfl (lv_at hl 0 rfl) ?_
        refine kX0_X2_leftMany F hB hS hw ⟨Nat.le_of_ble_eq_true rfl, Nat.le_of_ble_eq_true rfl⟩ ⟨Nat.zero_le _, Nat.zero_le _⟩ hl.1 (Nat.le_of_ble_eq_true rfl) dX0_findFalls_48 (fun r3 V4 H locs hw hB hS => ?_)
        refine lv_istore (lv' := [(4, .int r3), (3, .ref (ad 4 0 l2.toNatClampNeg)), (0, .ref (ad 0 0 0)), (1, .int l1), (2, .int l2)]) hx hb dX0_findFalls_51 hl (by decide) rfl (fun ls hl => ?_)
        refine lv_aload_n hx hb dX0_findFalls_53 rfl (lv_at hl 2 rfl) ?_
        refine lv_aload_n hx hb dX0_findFalls_54 rfl (lv_at hl 2 rfl) ?_
        refine cg_X0_425 F hB dX0_findFalls_55 ?_
        refine lv_iload hx hb dX0_findFalls_58 (lv_at hl 0 rfl) ?_
        refine lv_i2l hx hb dX0_findFalls_60 rfl ?_
        refine lv_lmul hx hb dX0_findFalls_61 ?_
        refine lv_aload_n hx hb dX0_findFalls_62 rfl (lv_at hl 2 rfl) ?_
        refine cg_X0_429 F hB dX0_findFalls_63 ?_
        refine lv_ladd hx hb dX0_findFalls_66 ?_
        refine cp_X0_425 F hB hS dX0_findFalls_67 (fun H locs hB hS => ?_)
        refine lv_aload_n hx hb dX0_findFalls_70 rfl (lv_at hl 2 rfl) ?_
        refine lv_dup hx hb dX0_findFalls_71 rfl ?_
        refine cg_X0_429 F hB dX0_findFalls_72 ?_
        refine lv_iload hx hb dX0_findFalls_75 (lv_at hl 0 rfl) ?_
        refine lv_i2l hx hb dX0_findFalls_77 rfl ?_
        refine lv_lmul hx hb dX0_findFalls_78 ?_
        refine cp_X0_429 F hB hS dX0_findFalls_79 (fun H locs hB hS => ?_)
        refine lv_aload_n hx hb dX0_findFalls_82 rfl (lv_at hl 2 rfl) ?_
        refine cg_X0_425 F hB dX0_findFalls_83 ?_
        refine lv_aload_n hx hb dX0_findFalls_86 rfl (lv_at hl 2 rfl) ?_
        refine cg_X0_429 F hB dX0_findFalls_87 ?_
        refine kX0_X0_divisorC F.1 hw ⟨Nat.le_of_ble_eq_true rfl, Nat.le_of_ble_eq_true rfl⟩ ⟨Nat.zero_le _, Nat.zero_le _⟩ hl.1 (Nat.le_of_ble_eq_true rfl) dX0_findFalls_90 (fun r5 hw => ?_)
        refine lv_lstore (lv' := [(5, .long r5), (4, .int r3), (3, .ref (ad 4 0 l2.toNatClampNeg)), (0, .ref (ad 0 0 0)), (1, .int l1), (2, .int l2)]) hx hb dX0_findFalls_93 hl (by decide) rfl (fun ls hl => ?_)
        refine lv_aload_n hx hb dX0_findFalls_95 rfl (lv_at hl 3 rfl) ?_
        refine lv_dup hx hb dX0_findFalls_96 rfl ?_
        refine cg_X0_425 F hB dX0_findFalls_97 ?_
        refine lv_lload hx hb dX0_findFalls_100 (lv_at hl 0 rfl) ?_
        obtain ⟨hne, hw⟩ := hw
        refine lv_ldiv hx hb dX0_findFalls_102 hne ?_
        refine cp_X0_425 F hB hS dX0_findFalls_103 (fun H locs hB hS => ?_)
        refine lv_aload_n hx hb dX0_findFalls_106 rfl (lv_at hl 3 rfl) ?_
        refine lv_dup hx hb dX0_findFalls_107 rfl ?_
        refine cg_X0_429 F hB dX0_findFalls_108 ?_
        refine lv_lload hx hb dX0_findFalls_111 (lv_at hl 0 rfl) ?_
        obtain ⟨hne, hw⟩ := hw
        refine lv_ldiv hx hb dX0_findFalls_113 hne ?_
        refine cp_X0_429 F hB hS dX0_findFalls_114 (fun H locs hB hS => ?_)
        exact bX0_findFalls_117 F ih hB hS hw (lv_sub hl [3, 4, 5] rfl)
      · replace hw := hw.1 q
        refine lv_goto (tgt := 117) hx hb dX0_findFalls_44 (by decide) ?_
        exact bX0_findFalls_117 F ih hB hS hw (lv_sub hl [1, 2, 3] rfl)
set_option maxHeartbeats 4000000 in
theorem bX0_findFalls_0 {p : Program} {l : Launch} {e : Env} {s : State} {m : MethodId} {args : Array Value} {below : List Frame} {meth : Method} {c : Code} {D : DD} {A : Nat → Prop} {s0 : State} {ad : AD} {Q : CV → Prop} {a1 : Int32} {V : CV} {H : Heap} {locs : List Loc} {ls : Array Slot} (F : FX p l c cX0_findFalls s args m RX0 D A s0 7 meth (none)) (hB : cB D A ad V H) (hS : va_S A s.heap H locs) (hw : wX0_findFalls a1 V Q) (hl : lv_has ls 7 [(0, .ref (ad 0 0 0)), (1, .int a1)]) : W p l e rX0_findFalls s m args below meth c H locs 0 0 (MQ below (va_Qv Q (fun u t => cB D A ad u t.heap) A) args s 0 0 A) (F0 m 0 ls []) := by
  have hx := F.1.x
  have hb := F.1.b
  unfold wX0_findFalls at hw
  refine lv_aload_n hx hb dX0_findFalls_0 rfl (lv_at hl 0 rfl) ?_
  refine lv_lconst (v := 0) hx hb dX0_findFalls_1 (by decide) ?_
  refine cp_X0_425 F hB hS dX0_findFalls_2 (fun H locs hB hS => ?_)
  refine lv_aload_n hx hb dX0_findFalls_5 rfl (lv_at hl 0 rfl) ?_
  refine lv_lconst (v := 1) hx hb dX0_findFalls_6 (by decide) ?_
  refine cp_X0_429 F hB hS dX0_findFalls_7 (fun H locs hB hS => ?_)
  refine lv_iconst (v := 0) hx hb dX0_findFalls_10 (by decide) ?_
  refine lv_istore_n (lv' := [(2, .int (0 : Int32)), (0, .ref (ad 0 0 0)), (1, .int a1)]) hx hb dX0_findFalls_11 rfl hl (by decide) rfl (fun ls hl => ?_)
  obtain ⟨f_12, hw⟩ := hw
  exact bX0_findFalls_12 F f_12 _ _ _ hw _ _ _ hB hS (lv_sub hl [1, 2, 0] rfl)
set_option maxHeartbeats 4000000 in
theorem mX0_findFalls {l : Launch} {D : DD} {A : Nat → Prop} {s0 : State} {ad : AD} {V : CV} {a1 : Int32} {Q : CV → Prop} (hw : wX0_findFalls a1 V Q) : Met l yX0_findFalls (ws_ yX0_findFalls cX0_findFalls 7 (none)) rX0_findFalls (va_Pc [.ref (ad 0 0 0), .int a1] (fun U => cB D A ad V U.heap ∧ CX l D A s0 U)) (va_Qv Q (fun u t => cB D A ad u t.heap) A) 0 0 A := by
  refine Met.ofW (cc := cX0_findFalls) (maxL := 7) (ret := none) (by decide) rfl ?_
  intro p e s m args below meth c s₁ B hml hv
  obtain ⟨rfl, hB, hC⟩ := hv
  have F : FX p l c cX0_findFalls s _ m RX0 D A s0 7 meth (none) := ⟨mk_FP B hml rfl, hC⟩
  have hS : va_S A s.heap s.heap [] := va_S.rf
  have hl := lv_entry ([.ref (ad 0 0 0), .int a1]) (n := 7) (Nat.le_of_ble_eq_true rfl)
  rw [lg_entry_eq]
  generalize (lg_sl ([.ref (ad 0 0 0), .int a1]) ++ List.replicate (7 - (lg_sl ([.ref (ad 0 0 0), .int a1])).length) Slot.unset).toArray = ls at hl ⊢
  exact bX0_findFalls_0 F hB hS hw hl
theorem kX0_X0_findFalls {p : Program} {l : Launch} {e : Env} {R : Room} {s : State} {m : MethodId} {args : Array Value} {below : List Frame} {meth : Method} {c : Code} {H : Heap} {locs : List Loc} {cells slots : Nat} {Q0 : State → Prop} {cc : ByteArray} {pc nL : Nat} {ls : Array Slot} {rest : List Value} {ret : Option FieldType} {D : DD} {A : Nat → Prop} {s0 : State} {ad : AD} {V : CV} {a1 : Int32} {Q : CV → Prop} (F : FX p l c cc s args m RX0 D A s0 nL meth ret) (hB : cB D A ad V H) (hS : va_S A s.heap H locs) (hw : wX0_findFalls a1 V Q) (hR : rX0_findFalls.frames + 1 ≤ R.frames ∧ 8 + (7 + 11) + rX0_findFalls.locals ≤ R.locals) (hc : cells + 0 ≤ R.cells ∧ slots + 0 ≤ R.slots) (hsz : ls.size = nL) (hW : (rest.map fun v => v.category).sum ≤ 8) (hdg : decode cc pc = .ok (.invokevirtual 434, 3)) (kk : ∀ (u : CV) (H1 : Heap) (locs1 : List Loc), Q u → cB D A ad u H1 → va_S A s.heap H1 locs1 → W p l e R s m args below meth c H1 locs1 cells slots Q0 (F0 m (pc + 3) ls (rest))) : W p l e R s m args below meth c H locs cells slots Q0 (F0 m pc ls (.int a1 :: .ref (ad 0 0 0) :: rest)) :=
  k_v (Bw := cB D A ad) (k_runV (Bw := cB D A ad) (n := 1) (As := [.int a1]) F hB hS (c_at F (hB.pic cpic0) rfl) (mX0_findFalls hw) q974 q976 qs35 q83 q977 (by decide +kernel) hR ⟨rfl, rfl⟩ hc rfl hsz rfl hW hdg) hS kk
def rX0_falls : Room := { frames := 66, cells := 0, slots := 0, locals := 1969 }
set_option maxHeartbeats 4000000 in
theorem bX0_falls_0 {p : Program} {l : Launch} {e : Env} {s : State} {m : MethodId} {args : Array Value} {below : List Frame} {meth : Method} {c : Code} {D : DD} {A : Nat → Prop} {s0 : State} {ad : AD} {Q : Int64 → CV → Prop} {a1 : Int32} {a2 : Int32} {V : CV} {H : Heap} {locs : List Loc} {ls : Array Slot} (F : FX p l c cX0_falls s args m RX0 D A s0 3 meth (some .long)) (hB : cB D A ad V H) (hS : va_S A s.heap H locs) (hw : wX0_falls a1 a2 V Q) (hl : lv_has ls 3 [(0, .ref (ad 0 0 0)), (1, .int a1), (2, .int a2)]) : W p l e rX0_falls s m args below meth c H locs 0 0 (MQ below (va_Ql Q (fun u t => cB D A ad u t.heap) A) args s 0 0 A) (F0 m 0 ls []) := by
  have hx := F.1.x
  have hb := F.1.b
  unfold wX0_falls at hw
  refine lv_aload_n hx hb dX0_falls_0 rfl (lv_at hl 0 rfl) ?_
  refine lv_iload_n hx hb dX0_falls_1 rfl (lv_at hl 1 rfl) ?_
  refine kX0_X0_isPerson F hB hS hw ⟨Nat.le_of_ble_eq_true rfl, Nat.le_of_ble_eq_true rfl⟩ ⟨Nat.zero_le _, Nat.zero_le _⟩ hl.1 (Nat.le_of_ble_eq_true rfl) dX0_falls_2 (fun r1 V2 H locs hw hB hS => ?_)
  refine lv_if_eq (tgt := 17) hx hb dX0_falls_5 (by decide) (fun q => ?_) (fun q => ?_)
  · replace hw := hw.1 q
    refine lv_ldc2 hx hb F.1.o (F.1.t _ q973) dX0_falls_17 ?_
    exact W.lret hx hb F.1.r (fun t ht hW => ⟨⟨_, _, rfl, hw, x_B (Bw := cB D A ad) ht hB⟩, hS.F ht⟩) hS.2.2 dX0_falls_20 (hlocks := F.1.k)
  · replace hw := hw.2 q
    refine lv_iload_n hx hb dX0_falls_8 rfl (lv_at hl 2 rfl) ?_
    refine lv_iconst (v := 0) hx hb dX0_falls_9 (by decide) ?_
    refine lv_iconst (v := 1) hx hb dX0_falls_10 (by decide) ?_
    refine kX0_X0_isIn F.1 hw ⟨Nat.le_of_ble_eq_true rfl, Nat.le_of_ble_eq_true rfl⟩ ⟨Nat.zero_le _, Nat.zero_le _⟩ hl.1 (Nat.le_of_ble_eq_true rfl) dX0_falls_11 (fun r3 hw => ?_)
    refine lv_if_ne (tgt := 21) hx hb dX0_falls_14 (by decide) (fun q => ?_) (fun q => ?_)
    · replace hw := hw.2 q
      refine lv_aload_n hx hb dX0_falls_21 rfl (lv_at hl 0 rfl) ?_
      refine lv_iload_n hx hb dX0_falls_22 rfl (lv_at hl 1 rfl) ?_
      refine kX0_X0_findFalls F hB hS hw ⟨Nat.le_of_ble_eq_true rfl, Nat.le_of_ble_eq_true rfl⟩ ⟨Nat.zero_le _, Nat.zero_le _⟩ hl.1 (Nat.le_of_ble_eq_true rfl) dX0_falls_23 (fun V5 H locs hw hB hS => ?_)
      refine lv_iload_n hx hb dX0_falls_26 rfl (lv_at hl 2 rfl) ?_
      refine lv_if_ne (tgt := 37) hx hb dX0_falls_27 (by decide) (fun q => ?_) (fun q => ?_)
      · replace hw := hw.2 q
        refine lv_aload_n hx hb dX0_falls_37 rfl (lv_at hl 0 rfl) ?_
        refine cg_X0_429 F hB dX0_falls_38 ?_
        exact W.lret hx hb F.1.r (fun t ht hW => ⟨⟨_, _, rfl, hw, x_B (Bw := cB D A ad) ht hB⟩, hS.F ht⟩) hS.2.2 dX0_falls_41 (hlocks := F.1.k)
      · replace hw := hw.1 q
        refine lv_aload_n hx hb dX0_falls_30 rfl (lv_at hl 0 rfl) ?_
        refine cg_X0_425 F hB dX0_falls_31 ?_
        refine lv_goto (tgt := 41) hx hb dX0_falls_34 (by decide) ?_
        exact W.lret hx hb F.1.r (fun t ht hW => ⟨⟨_, _, rfl, hw, x_B (Bw := cB D A ad) ht hB⟩, hS.F ht⟩) hS.2.2 dX0_falls_41 (hlocks := F.1.k)
    · replace hw := hw.1 q
      refine lv_ldc2 hx hb F.1.o (F.1.t _ q973) dX0_falls_17 ?_
      exact W.lret hx hb F.1.r (fun t ht hW => ⟨⟨_, _, rfl, hw, x_B (Bw := cB D A ad) ht hB⟩, hS.F ht⟩) hS.2.2 dX0_falls_20 (hlocks := F.1.k)
set_option maxHeartbeats 4000000 in
theorem mX0_falls {l : Launch} {D : DD} {A : Nat → Prop} {s0 : State} {ad : AD} {V : CV} {a1 : Int32} {a2 : Int32} {Q : Int64 → CV → Prop} (hw : wX0_falls a1 a2 V Q) : Met l yX0_falls (ws_ yX0_falls cX0_falls 3 (some .long)) rX0_falls (va_Pc [.ref (ad 0 0 0), .int a1, .int a2] (fun U => cB D A ad V U.heap ∧ CX l D A s0 U)) (va_Ql Q (fun u t => cB D A ad u t.heap) A) 0 0 A := by
  refine Met.ofW (cc := cX0_falls) (maxL := 3) (ret := some .long) (by decide) rfl ?_
  intro p e s m args below meth c s₁ B hml hv
  obtain ⟨rfl, hB, hC⟩ := hv
  have F : FX p l c cX0_falls s _ m RX0 D A s0 3 meth (some .long) := ⟨mk_FP B hml rfl, hC⟩
  have hS : va_S A s.heap s.heap [] := va_S.rf
  have hl := lv_entry ([.ref (ad 0 0 0), .int a1, .int a2]) (n := 3) (Nat.le_of_ble_eq_true rfl)
  rw [lg_entry_eq]
  generalize (lg_sl ([.ref (ad 0 0 0), .int a1, .int a2]) ++ List.replicate (3 - (lg_sl ([.ref (ad 0 0 0), .int a1, .int a2])).length) Slot.unset).toArray = ls at hl ⊢
  exact bX0_falls_0 F hB hS hw hl
def rX0_four : Room := { frames := 0, cells := 0, slots := 0, locals := 0 }
set_option maxHeartbeats 4000000 in
theorem bX0_four_3 {p : Program} {l : Launch} {e : Env} {s : State} {m : MethodId} {args : Array Value} {below : List Frame} {meth : Method} {c : Code} {D : DD} {A : Nat → Prop} {s0 : State} {ad : AD} {Q : CV → Prop} (F : FX p l c cX0_four s args m RX0 D A s0 3 meth (none)) : ∀ (n : Nat) (l1 : Int32) (l2 : Int32) (V : CV), wX0_four_3 Q n l1 l2 V → ∀ (H : Heap) (locs : List Loc) (ls : Array Slot), cB D A ad V H → va_S A s.heap H locs → lv_has ls 3 [(0, .ref (ad 0 0 0)), (1, .int l1), (2, .int l2)] → W p l e rX0_four s m args below meth c H locs 0 0 (MQ below (va_Qv Q (fun u t => cB D A ad u t.heap) A) args s 0 0 A) (F0 m 3 ls []) := by
  have hx := F.1.x
  have hb := F.1.b
  intro n
  induction n with
  | zero => intro l1 l2 V hw; exact hw.elim
  | succ n ih =>
    intro l1 l2 V hw H locs ls hB hS hl
    unfold wX0_four_3 at hw
    refine lv_iload_n hx hb dX0_four_3 rfl (lv_at hl 2 rfl) ?_
    refine lv_if_lt (tgt := 36) hx hb dX0_four_4 (by decide) (fun q => ?_) (fun q => ?_)
    · replace hw := hw.1 q
      exact W.vret hx hb F.1.r (fun t ht hW => ⟨⟨_, rfl, hw, x_B (Bw := cB D A ad) ht hB⟩, hS.F ht⟩) hS.2.2 dX0_four_36 (hlocks := F.1.k)
    · replace hw := hw.2 q
      refine lv_aload_n hx hb dX0_four_7 rfl (lv_at hl 0 rfl) ?_
      refine cg_X0_60 F hB dX0_four_8 ?_
      refine lv_aload_n hx hb dX0_four_11 rfl (lv_at hl 0 rfl) ?_
      refine cg_X0_127 F hB dX0_four_12 ?_
      refine lv_iload_n hx hb dX0_four_15 rfl (lv_at hl 1 rfl) ?_
      refine lv_iload_n hx hb dX0_four_16 rfl (lv_at hl 2 rfl) ?_
      refine lv_ishr hx hb dX0_four_17 ?_
      refine lv_i2b hx hb dX0_four_18 rfl ?_
      obtain ⟨hin1, hw⟩ := hw
      refine ct_5 F hB hS hin1 dX0_four_19 (fun H locs hB hS => ?_)
      refine lv_aload_n hx hb dX0_four_20 rfl (lv_at hl 0 rfl) ?_
      refine lv_dup hx hb dX0_four_21 rfl ?_
      refine cg_X0_127 F hB dX0_four_22 ?_
      refine lv_iconst (v := 1) hx hb dX0_four_25 (by decide) ?_
      refine lv_iadd hx hb dX0_four_26 ?_
      refine cp_X0_127 F hB hS dX0_four_27 (fun H locs hB hS => ?_)
      refine lv_iinc (v := l2 + (-8 : Int32)) (lv' := [(2, .int (l2 + (-8 : Int32))), (0, .ref (ad 0 0 0)), (1, .int l1)]) hx hb dX0_four_30 hl (k := 2) rfl (x_inc (by decide)) (by decide) rfl (fun ls hl => ?_)
      refine lv_goto (tgt := 3) hx hb dX0_four_33 (by decide) ?_
      exact ih _ _ _ hw _ _ _ hB hS (lv_sub hl [1, 2, 0] rfl)
set_option maxHeartbeats 4000000 in
theorem bX0_four_0 {p : Program} {l : Launch} {e : Env} {s : State} {m : MethodId} {args : Array Value} {below : List Frame} {meth : Method} {c : Code} {D : DD} {A : Nat → Prop} {s0 : State} {ad : AD} {Q : CV → Prop} {a1 : Int32} {V : CV} {H : Heap} {locs : List Loc} {ls : Array Slot} (F : FX p l c cX0_four s args m RX0 D A s0 3 meth (none)) (hB : cB D A ad V H) (hS : va_S A s.heap H locs) (hw : wX0_four a1 V Q) (hl : lv_has ls 3 [(0, .ref (ad 0 0 0)), (1, .int a1)]) : W p l e rX0_four s m args below meth c H locs 0 0 (MQ below (va_Qv Q (fun u t => cB D A ad u t.heap) A) args s 0 0 A) (F0 m 0 ls []) := by
  have hx := F.1.x
  have hb := F.1.b
  unfold wX0_four at hw
  refine lv_bipush (v := 24) hx hb dX0_four_0 (by decide) ?_
  refine lv_istore_n (lv' := [(2, .int (24 : Int32)), (0, .ref (ad 0 0 0)), (1, .int a1)]) hx hb dX0_four_2 rfl hl (by decide) rfl (fun ls hl => ?_)
  obtain ⟨f_3, hw⟩ := hw
  exact bX0_four_3 F f_3 _ _ _ hw _ _ _ hB hS (lv_sub hl [1, 2, 0] rfl)
set_option maxHeartbeats 4000000 in
theorem mX0_four {l : Launch} {D : DD} {A : Nat → Prop} {s0 : State} {ad : AD} {V : CV} {a1 : Int32} {Q : CV → Prop} (hw : wX0_four a1 V Q) : Met l yX0_four (ws_ yX0_four cX0_four 3 (none)) rX0_four (va_Pc [.ref (ad 0 0 0), .int a1] (fun U => cB D A ad V U.heap ∧ CX l D A s0 U)) (va_Qv Q (fun u t => cB D A ad u t.heap) A) 0 0 A := by
  refine Met.ofW (cc := cX0_four) (maxL := 3) (ret := none) (by decide) rfl ?_
  intro p e s m args below meth c s₁ B hml hv
  obtain ⟨rfl, hB, hC⟩ := hv
  have F : FX p l c cX0_four s _ m RX0 D A s0 3 meth (none) := ⟨mk_FP B hml rfl, hC⟩
  have hS : va_S A s.heap s.heap [] := va_S.rf
  have hl := lv_entry ([.ref (ad 0 0 0), .int a1]) (n := 3) (Nat.le_of_ble_eq_true rfl)
  rw [lg_entry_eq]
  generalize (lg_sl ([.ref (ad 0 0 0), .int a1]) ++ List.replicate (3 - (lg_sl ([.ref (ad 0 0 0), .int a1])).length) Slot.unset).toArray = ls at hl ⊢
  exact bX0_four_0 F hB hS hw hl
theorem kX0_X0_four {p : Program} {l : Launch} {e : Env} {R : Room} {s : State} {m : MethodId} {args : Array Value} {below : List Frame} {meth : Method} {c : Code} {H : Heap} {locs : List Loc} {cells slots : Nat} {Q0 : State → Prop} {cc : ByteArray} {pc nL : Nat} {ls : Array Slot} {rest : List Value} {ret : Option FieldType} {D : DD} {A : Nat → Prop} {s0 : State} {ad : AD} {V : CV} {a1 : Int32} {Q : CV → Prop} (F : FX p l c cc s args m RX0 D A s0 nL meth ret) (hB : cB D A ad V H) (hS : va_S A s.heap H locs) (hw : wX0_four a1 V Q) (hR : rX0_four.frames + 1 ≤ R.frames ∧ 8 + (3 + 11) + rX0_four.locals ≤ R.locals) (hc : cells + 0 ≤ R.cells ∧ slots + 0 ≤ R.slots) (hsz : ls.size = nL) (hW : (rest.map fun v => v.category).sum ≤ 8) (hdg : decode cc pc = .ok (.invokevirtual 131, 3)) (kk : ∀ (u : CV) (H1 : Heap) (locs1 : List Loc), Q u → cB D A ad u H1 → va_S A s.heap H1 locs1 → W p l e R s m args below meth c H1 locs1 cells slots Q0 (F0 m (pc + 3) ls (rest))) : W p l e R s m args below meth c H locs cells slots Q0 (F0 m pc ls (.int a1 :: .ref (ad 0 0 0) :: rest)) :=
  k_v (Bw := cB D A ad) (k_runV (Bw := cB D A ad) (n := 1) (As := [.int a1]) F hB hS (c_at F (hB.pic cpic0) rfl) (mX0_four hw) q381 q383 qs1 q83 q384 (by decide +kernel) hR ⟨rfl, rfl⟩ hc rfl hsz rfl hW hdg) hS kk
def rX0_feed : Room := { frames := 1, cells := 0, slots := 0, locals := 22 }
set_option maxHeartbeats 4000000 in
theorem bX0_feed_0 {p : Program} {l : Launch} {e : Env} {s : State} {m : MethodId} {args : Array Value} {below : List Frame} {meth : Method} {c : Code} {D : DD} {A : Nat → Prop} {s0 : State} {ad : AD} {Q : Int32 → CV → Prop} {a1 : Int32} {a2 : Int32} {a3 : Int32} {V : CV} {H : Heap} {locs : List Loc} {ls : Array Slot} (F : FX p l c cX0_feed s args m RX0 D A s0 4 meth (some .int)) (hB : cB D A ad V H) (hS : va_S A s.heap H locs) (hw : wX0_feed a1 a2 a3 V Q) (hl : lv_has ls 4 [(0, .ref (ad 0 0 0)), (1, .int a1), (2, .int a2), (3, .int a3)]) : W p l e rX0_feed s m args below meth c H locs 0 0 (MQ below (va_Qi Q (fun u t => cB D A ad u t.heap) A) args s 0 0 A) (F0 m 0 ls []) := by
  have hx := F.1.x
  have hb := F.1.b
  unfold wX0_feed at hw
  refine lv_aload_n hx hb dX0_feed_0 rfl (lv_at hl 0 rfl) ?_
  refine cg_X0_127 F hB dX0_feed_1 ?_
  refine lv_bipush (v := 12) hx hb dX0_feed_4 (by decide) ?_
  refine lv_iadd hx hb dX0_feed_6 ?_
  refine lv_bipush (v := 96) hx hb dX0_feed_7 (by decide) ?_
  refine lv_icmp_le (tgt := 15) hx hb dX0_feed_9 (by decide) (fun q => ?_) (fun q => ?_)
  · replace hw := hw.1 q
    refine lv_aload_n hx hb dX0_feed_15 rfl (lv_at hl 0 rfl) ?_
    refine lv_iload_n hx hb dX0_feed_16 rfl (lv_at hl 1 rfl) ?_
    refine kX0_X0_four F hB hS hw ⟨Nat.le_of_ble_eq_true rfl, Nat.le_of_ble_eq_true rfl⟩ ⟨Nat.zero_le _, Nat.zero_le _⟩ hl.1 (Nat.le_of_ble_eq_true rfl) dX0_feed_17 (fun V2 H locs hw hB hS => ?_)
    refine lv_aload_n hx hb dX0_feed_20 rfl (lv_at hl 0 rfl) ?_
    refine lv_iload_n hx hb dX0_feed_21 rfl (lv_at hl 2 rfl) ?_
    refine kX0_X0_four F hB hS hw ⟨Nat.le_of_ble_eq_true rfl, Nat.le_of_ble_eq_true rfl⟩ ⟨Nat.zero_le _, Nat.zero_le _⟩ hl.1 (Nat.le_of_ble_eq_true rfl) dX0_feed_22 (fun V4 H locs hw hB hS => ?_)
    refine lv_aload_n hx hb dX0_feed_25 rfl (lv_at hl 0 rfl) ?_
    refine lv_iload_n hx hb dX0_feed_26 rfl (lv_at hl 3 rfl) ?_
    refine kX0_X0_four F hB hS hw ⟨Nat.le_of_ble_eq_true rfl, Nat.le_of_ble_eq_true rfl⟩ ⟨Nat.zero_le _, Nat.zero_le _⟩ hl.1 (Nat.le_of_ble_eq_true rfl) dX0_feed_27 (fun V6 H locs hw hB hS => ?_)
    refine lv_aload_n hx hb dX0_feed_30 rfl (lv_at hl 0 rfl) ?_
    refine cg_X0_127 F hB dX0_feed_31 ?_
    exact W.iret hx hb F.1.r (fun t ht hW => ⟨⟨_, _, rfl, hw, x_B (Bw := cB D A ad) ht hB⟩, hS.F ht⟩) hS.2.2 dX0_feed_34 (hlocks := F.1.k)
  · replace hw := hw.2 q
    refine lv_ldc hx hb F.1.o (F.1.t _ q380) dX0_feed_12 ?_
    exact W.iret hx hb F.1.r (fun t ht hW => ⟨⟨_, _, rfl, hw, x_B (Bw := cB D A ad) ht hB⟩, hS.F ht⟩) hS.2.2 dX0_feed_14 (hlocks := F.1.k)
set_option maxHeartbeats 4000000 in
theorem mX0_feed {l : Launch} {D : DD} {A : Nat → Prop} {s0 : State} {ad : AD} {V : CV} {a1 : Int32} {a2 : Int32} {a3 : Int32} {Q : Int32 → CV → Prop} (hw : wX0_feed a1 a2 a3 V Q) : Met l yX0_feed (ws_ yX0_feed cX0_feed 4 (some .int)) rX0_feed (va_Pc [.ref (ad 0 0 0), .int a1, .int a2, .int a3] (fun U => cB D A ad V U.heap ∧ CX l D A s0 U)) (va_Qi Q (fun u t => cB D A ad u t.heap) A) 0 0 A := by
  refine Met.ofW (cc := cX0_feed) (maxL := 4) (ret := some .int) (by decide) rfl ?_
  intro p e s m args below meth c s₁ B hml hv
  obtain ⟨rfl, hB, hC⟩ := hv
  have F : FX p l c cX0_feed s _ m RX0 D A s0 4 meth (some .int) := ⟨mk_FP B hml rfl, hC⟩
  have hS : va_S A s.heap s.heap [] := va_S.rf
  have hl := lv_entry ([.ref (ad 0 0 0), .int a1, .int a2, .int a3]) (n := 4) (Nat.le_of_ble_eq_true rfl)
  rw [lg_entry_eq]
  generalize (lg_sl ([.ref (ad 0 0 0), .int a1, .int a2, .int a3]) ++ List.replicate (4 - (lg_sl ([.ref (ad 0 0 0), .int a1, .int a2, .int a3])).length) Slot.unset).toArray = ls at hl ⊢
  exact bX0_feed_0 F hB hS hw hl
def rX0_fewestOf : Room := { frames := 2, cells := 0, slots := 0, locals := 84 }
set_option maxHeartbeats 4000000 in
theorem bX0_fewestOf_135 {p : Program} {l : Launch} {e : Env} {s : State} {m : MethodId} {args : Array Value} {below : List Frame} {meth : Method} {c : Code} {D : DD} {A : Nat → Prop} {s0 : State} {ad : AD} {Q : Int32 → CV → Prop} {k_24 : Nat → Nat → Int32 → Int32 → Int32 → CV → Prop} {l1 : Nat} {l1' : Nat} {l2 : Int32} {l3 : Int32} {l4 : Int32} {V : CV} {H : Heap} {locs : List Loc} {ls : Array Slot} (F : FX p l c cX0_fewestOf s args m RX0 D A s0 7 meth (some .int)) (h_24 : ∀ (l1 : Nat) (l1' : Nat) (l2 : Int32) (l3 : Int32) (l4 : Int32) (V : CV), l1 < 3 → l1' < 8 → k_24 l1 l1' l2 l3 l4 V → ∀ (H : Heap) (locs : List Loc) (ls : Array Slot), cB D A ad V H → va_S A s.heap H locs → lv_has ls 7 [(0, .ref (ad 0 0 0)), (1, .ref (ad 4 l1 l1')), (2, .int l2), (3, .int l3), (4, .int l4)] → W p l e rX0_fewestOf s m args below meth c H locs 0 0 (MQ below (va_Qi Q (fun u t => cB D A ad u t.heap) A) args s 0 0 A) (F0 m 24 ls [])) (g_l1 : l1 < 3) (g_l1p : l1' < 8) (hB : cB D A ad V H) (hS : va_S A s.heap H locs) (hw : wX0_fewestOf_135 k_24 l1 l1' l2 l3 l4 V Q) (hl : lv_has ls 7 [(0, .ref (ad 0 0 0)), (1, .ref (ad 4 l1 l1')), (2, .int l2), (3, .int l3), (4, .int l4)]) : W p l e rX0_fewestOf s m args below meth c H locs 0 0 (MQ below (va_Qi Q (fun u t => cB D A ad u t.heap) A) args s 0 0 A) (F0 m 135 ls []) := by
  have hx := F.1.x
  have hb := F.1.b
  unfold wX0_fewestOf_135 at hw
  refine lv_iinc (v := l4 + (1 : Int32)) (lv' := [(4, .int (l4 + (1 : Int32))), (0, .ref (ad 0 0 0)), (1, .ref (ad 4 l1 l1')), (2, .int l2), (3, .int l3)]) hx hb dX0_fewestOf_135 hl (k := 4) rfl (x_inc (by decide)) (by decide) rfl (fun ls hl => ?_)
  refine lv_goto (tgt := 24) hx hb dX0_fewestOf_138 (by decide) ?_
  exact h_24 _ _ _ _ _ _ g_l1 g_l1p hw _ _ _ hB hS (lv_sub hl [1, 2, 3, 4, 0] rfl)
set_option maxHeartbeats 4000000 in
theorem bX0_fewestOf_134 {p : Program} {l : Launch} {e : Env} {s : State} {m : MethodId} {args : Array Value} {below : List Frame} {meth : Method} {c : Code} {D : DD} {A : Nat → Prop} {s0 : State} {ad : AD} {Q : Int32 → CV → Prop} {k_24 : Nat → Nat → Int32 → Int32 → Int32 → CV → Prop} {l1 : Nat} {l1' : Nat} {l2 : Int32} {l4 : Int32} {k0 : Int32} {V : CV} {H : Heap} {locs : List Loc} {ls : Array Slot} (F : FX p l c cX0_fewestOf s args m RX0 D A s0 7 meth (some .int)) (h_24 : ∀ (l1 : Nat) (l1' : Nat) (l2 : Int32) (l3 : Int32) (l4 : Int32) (V : CV), l1 < 3 → l1' < 8 → k_24 l1 l1' l2 l3 l4 V → ∀ (H : Heap) (locs : List Loc) (ls : Array Slot), cB D A ad V H → va_S A s.heap H locs → lv_has ls 7 [(0, .ref (ad 0 0 0)), (1, .ref (ad 4 l1 l1')), (2, .int l2), (3, .int l3), (4, .int l4)] → W p l e rX0_fewestOf s m args below meth c H locs 0 0 (MQ below (va_Qi Q (fun u t => cB D A ad u t.heap) A) args s 0 0 A) (F0 m 24 ls [])) (g_l1 : l1 < 3) (g_l1p : l1' < 8) (hB : cB D A ad V H) (hS : va_S A s.heap H locs) (hw : wX0_fewestOf_134 k_24 l1 l1' l2 l4 k0 V Q) (hl : lv_has ls 7 [(0, .ref (ad 0 0 0)), (1, .ref (ad 4 l1 l1')), (2, .int l2), (4, .int l4)]) : W p l e rX0_fewestOf s m args below meth c H locs 0 0 (MQ below (va_Qi Q (fun u t => cB D A ad u t.heap) A) args s 0 0 A) (F0 m 134 ls [.int k0]) := by
  have hx := F.1.x
  have hb := F.1.b
  unfold wX0_fewestOf_134 at hw
  refine lv_istore_n (lv' := [(3, .int k0), (0, .ref (ad 0 0 0)), (1, .ref (ad 4 l1 l1')), (2, .int l2), (4, .int l4)]) hx hb dX0_fewestOf_134 rfl hl (by decide) rfl (fun ls hl => ?_)
  exact bX0_fewestOf_135 F h_24 g_l1 g_l1p hB hS hw (lv_sub hl [1, 2, 3, 0, 4] rfl)
set_option maxHeartbeats 4000000 in
theorem bX0_fewestOf_100 {p : Program} {l : Launch} {e : Env} {s : State} {m : MethodId} {args : Array Value} {below : List Frame} {meth : Method} {c : Code} {D : DD} {A : Nat → Prop} {s0 : State} {ad : AD} {Q : Int32 → CV → Prop} {k_24 : Nat → Nat → Int32 → Int32 → Int32 → CV → Prop} {k_66 : Nat → Nat → Int32 → Int32 → Int32 → Int32 → Int32 → CV → Prop} {l1 : Nat} {l1' : Nat} {l2 : Int32} {l3 : Int32} {l4 : Int32} {l6 : Int32} {k0 : Int32} {k1 : Int32} {V : CV} {H : Heap} {locs : List Loc} {ls : Array Slot} (F : FX p l c cX0_fewestOf s args m RX0 D A s0 7 meth (some .int)) (h_24 : ∀ (l1 : Nat) (l1' : Nat) (l2 : Int32) (l3 : Int32) (l4 : Int32) (V : CV), l1 < 3 → l1' < 8 → k_24 l1 l1' l2 l3 l4 V → ∀ (H : Heap) (locs : List Loc) (ls : Array Slot), cB D A ad V H → va_S A s.heap H locs → lv_has ls 7 [(0, .ref (ad 0 0 0)), (1, .ref (ad 4 l1 l1')), (2, .int l2), (3, .int l3), (4, .int l4)] → W p l e rX0_fewestOf s m args below meth c H locs 0 0 (MQ below (va_Qi Q (fun u t => cB D A ad u t.heap) A) args s 0 0 A) (F0 m 24 ls [])) (h_66 : ∀ (l1 : Nat) (l1' : Nat) (l2 : Int32) (l3 : Int32) (l4 : Int32) (l5 : Int32) (l6 : Int32) (V : CV), l1 < 3 → l1' < 8 → k_66 l1 l1' l2 l3 l4 l5 l6 V → ∀ (H : Heap) (locs : List Loc) (ls : Array Slot), cB D A ad V H → va_S A s.heap H locs → lv_has ls 7 [(0, .ref (ad 0 0 0)), (1, .ref (ad 4 l1 l1')), (2, .int l2), (3, .int l3), (4, .int l4), (5, .int l5), (6, .int l6)] → W p l e rX0_fewestOf s m args below meth c H locs 0 0 (MQ below (va_Qi Q (fun u t => cB D A ad u t.heap) A) args s 0 0 A) (F0 m 66 ls [])) (g_l1 : l1 < 3) (g_l1p : l1' < 8) (hB : cB D A ad V H) (hS : va_S A s.heap H locs) (hw : wX0_fewestOf_100 k_24 k_66 l1 l1' l2 l3 l4 l6 k0 k1 V Q) (hl : lv_has ls 7 [(0, .ref (ad 0 0 0)), (1, .ref (ad 4 l1 l1')), (2, .int l2), (3, .int l3), (4, .int l4), (6, .int l6)]) : W p l e rX0_fewestOf s m args below meth c H locs 0 0 (MQ below (va_Qi Q (fun u t => cB D A ad u t.heap) A) args s 0 0 A) (F0 m 100 ls [.int k0, .int k1]) := by
  have hx := F.1.x
  have hb := F.1.b
  unfold wX0_fewestOf_100 at hw
  refine lv_ior hx hb dX0_fewestOf_100 ?_
  refine lv_istore (lv' := [(5, .int (k1 ||| k0)), (0, .ref (ad 0 0 0)), (1, .ref (ad 4 l1 l1')), (2, .int l2), (3, .int l3), (4, .int l4), (6, .int l6)]) hx hb dX0_fewestOf_101 hl (by decide) rfl (fun ls hl => ?_)
  refine lv_iload hx hb dX0_fewestOf_103 (lv_at hl 0 rfl) ?_
  refine lv_aload_n hx hb dX0_fewestOf_105 rfl (lv_at hl 2 rfl) ?_
  refine cg_X0_340 F hB g_l1 g_l1p dX0_fewestOf_106 ?_
  refine lv_iand hx hb dX0_fewestOf_109 ?_
  refine lv_if_eq (tgt := 116) hx hb dX0_fewestOf_110 (by decide) (fun q => ?_) (fun q => ?_)
  · replace hw := hw.1 q
    refine lv_iinc (v := l6 + (1 : Int32)) (lv' := [(6, .int (l6 + (1 : Int32))), (5, .int (k1 ||| k0)), (0, .ref (ad 0 0 0)), (1, .ref (ad 4 l1 l1')), (2, .int l2), (3, .int l3), (4, .int l4)]) hx hb dX0_fewestOf_116 hl (k := 6) rfl (x_inc (by decide)) (by decide) rfl (fun ls hl => ?_)
    refine lv_goto (tgt := 66) hx hb dX0_fewestOf_119 (by decide) ?_
    exact h_66 _ _ _ _ _ _ _ _ g_l1 g_l1p hw _ _ _ hB hS (lv_sub hl [2, 3, 4, 5, 6, 1, 0] rfl)
  · replace hw := hw.2 q
    refine lv_goto (tgt := 135) hx hb dX0_fewestOf_113 (by decide) ?_
    exact bX0_fewestOf_135 F h_24 g_l1 g_l1p hB hS hw (lv_sub hl [1, 2, 3, 4, 5] rfl)
set_option maxHeartbeats 4000000 in
theorem bX0_fewestOf_66 {p : Program} {l : Launch} {e : Env} {s : State} {m : MethodId} {args : Array Value} {below : List Frame} {meth : Method} {c : Code} {D : DD} {A : Nat → Prop} {s0 : State} {ad : AD} {Q : Int32 → CV → Prop} {k_24 : Nat → Nat → Int32 → Int32 → Int32 → CV → Prop} (F : FX p l c cX0_fewestOf s args m RX0 D A s0 7 meth (some .int)) (h_24 : ∀ (l1 : Nat) (l1' : Nat) (l2 : Int32) (l3 : Int32) (l4 : Int32) (V : CV), l1 < 3 → l1' < 8 → k_24 l1 l1' l2 l3 l4 V → ∀ (H : Heap) (locs : List Loc) (ls : Array Slot), cB D A ad V H → va_S A s.heap H locs → lv_has ls 7 [(0, .ref (ad 0 0 0)), (1, .ref (ad 4 l1 l1')), (2, .int l2), (3, .int l3), (4, .int l4)] → W p l e rX0_fewestOf s m args below meth c H locs 0 0 (MQ below (va_Qi Q (fun u t => cB D A ad u t.heap) A) args s 0 0 A) (F0 m 24 ls [])) : ∀ (n : Nat) (l1 : Nat) (l1' : Nat) (l2 : Int32) (l3 : Int32) (l4 : Int32) (l5 : Int32) (l6 : Int32) (V : CV), l1 < 3 → l1' < 8 → wX0_fewestOf_66 k_24 Q n l1 l1' l2 l3 l4 l5 l6 V → ∀ (H : Heap) (locs : List Loc) (ls : Array Slot), cB D A ad V H → va_S A s.heap H locs → lv_has ls 7 [(0, .ref (ad 0 0 0)), (1, .ref (ad 4 l1 l1')), (2, .int l2), (3, .int l3), (4, .int l4), (5, .int l5), (6, .int l6)] → W p l e rX0_fewestOf s m args below meth c H locs 0 0 (MQ below (va_Qi Q (fun u t => cB D A ad u t.heap) A) args s 0 0 A) (F0 m 66 ls []) := by
  have hx := F.1.x
  have hb := F.1.b
  intro n
  induction n with
  | zero => intro l1 l1' l2 l3 l4 l5 l6 V g_l1 g_l1p hw; exact hw.elim
  | succ n ih =>
    intro l1 l1' l2 l3 l4 l5 l6 V g_l1 g_l1p hw H locs ls hB hS hl
    unfold wX0_fewestOf_66 at hw
    refine lv_iload hx hb dX0_fewestOf_66 (lv_at hl 6 rfl) ?_
    refine lv_aload_n hx hb dX0_fewestOf_68 rfl (lv_at hl 0 rfl) ?_
    refine cg_X0_46 F hB dX0_fewestOf_69 ?_
    refine cg_X0_101 F hB (by decide) dX0_fewestOf_72 ?_
    refine lv_icmp_ge (tgt := 122) hx hb dX0_fewestOf_75 (by decide) (fun q => ?_) (fun q => ?_)
    · replace hw := hw.1 q
      refine lv_iload hx hb dX0_fewestOf_122 (lv_at hl 5 rfl) ?_
      refine lv_iload_n hx hb dX0_fewestOf_124 rfl (lv_at hl 2 rfl) ?_
      refine lv_icmp_ne (tgt := 133) hx hb dX0_fewestOf_125 (by decide) (fun q => ?_) (fun q => ?_)
      · replace hw := hw.2 q
        refine lv_iload_n hx hb dX0_fewestOf_133 rfl (lv_at hl 3 rfl) ?_
        exact bX0_fewestOf_134 F h_24 g_l1 g_l1p hB hS hw (lv_sub hl [0, 1, 2, 4] rfl)
      · replace hw := hw.1 q
        refine lv_iload hx hb dX0_fewestOf_128 (lv_at hl 4 rfl) ?_
        refine lv_goto (tgt := 134) hx hb dX0_fewestOf_130 (by decide) ?_
        exact bX0_fewestOf_134 F h_24 g_l1 g_l1p hB hS hw (lv_sub hl [0, 1, 2, 4] rfl)
    · replace hw := hw.2 q
      refine lv_iload hx hb dX0_fewestOf_78 (lv_at hl 5 rfl) ?_
      refine lv_iload hx hb dX0_fewestOf_80 (lv_at hl 4 rfl) ?_
      refine lv_iload hx hb dX0_fewestOf_82 (lv_at hl 6 rfl) ?_
      refine kX0_X0_has F.1 hw ⟨Nat.le_of_ble_eq_true rfl, Nat.le_of_ble_eq_true rfl⟩ ⟨Nat.zero_le _, Nat.zero_le _⟩ hl.1 (Nat.le_of_ble_eq_true rfl) dX0_fewestOf_84 (fun r1 hw => ?_)
      refine lv_if_eq (tgt := 99) hx hb dX0_fewestOf_87 (by decide) (fun q => ?_) (fun q => ?_)
      · replace hw := hw.1 q
        refine lv_iconst (v := 0) hx hb dX0_fewestOf_99 (by decide) ?_
        exact bX0_fewestOf_100 F h_24 ih g_l1 g_l1p hB hS hw (lv_sub hl [0, 1, 2, 3, 4, 6] rfl)
      · replace hw := hw.2 q
        refine lv_aload_n hx hb dX0_fewestOf_90 rfl (lv_at hl 0 rfl) ?_
        refine lv_iload hx hb dX0_fewestOf_91 (lv_at hl 6 rfl) ?_
        refine kX0_X0_goBy F hB hS hw ⟨Nat.le_of_ble_eq_true rfl, Nat.le_of_ble_eq_true rfl⟩ ⟨Nat.zero_le _, Nat.zero_le _⟩ hl.1 (Nat.le_of_ble_eq_true rfl) dX0_fewestOf_93 (fun r2 V3 H locs hw hB hS => ?_)
        refine lv_goto (tgt := 100) hx hb dX0_fewestOf_96 (by decide) ?_
        exact bX0_fewestOf_100 F h_24 ih g_l1 g_l1p hB hS hw (lv_sub hl [0, 1, 2, 3, 4, 6] rfl)
set_option maxHeartbeats 4000000 in
theorem bX0_fewestOf_60 {p : Program} {l : Launch} {e : Env} {s : State} {m : MethodId} {args : Array Value} {below : List Frame} {meth : Method} {c : Code} {D : DD} {A : Nat → Prop} {s0 : State} {ad : AD} {Q : Int32 → CV → Prop} {k_24 : Nat → Nat → Int32 → Int32 → Int32 → CV → Prop} {l1 : Nat} {l1' : Nat} {l2 : Int32} {l3 : Int32} {l4 : Int32} {V : CV} {H : Heap} {locs : List Loc} {ls : Array Slot} (F : FX p l c cX0_fewestOf s args m RX0 D A s0 7 meth (some .int)) (h_24 : ∀ (l1 : Nat) (l1' : Nat) (l2 : Int32) (l3 : Int32) (l4 : Int32) (V : CV), l1 < 3 → l1' < 8 → k_24 l1 l1' l2 l3 l4 V → ∀ (H : Heap) (locs : List Loc) (ls : Array Slot), cB D A ad V H → va_S A s.heap H locs → lv_has ls 7 [(0, .ref (ad 0 0 0)), (1, .ref (ad 4 l1 l1')), (2, .int l2), (3, .int l3), (4, .int l4)] → W p l e rX0_fewestOf s m args below meth c H locs 0 0 (MQ below (va_Qi Q (fun u t => cB D A ad u t.heap) A) args s 0 0 A) (F0 m 24 ls [])) (g_l1 : l1 < 3) (g_l1p : l1' < 8) (hB : cB D A ad V H) (hS : va_S A s.heap H locs) (hw : wX0_fewestOf_60 k_24 l1 l1' l2 l3 l4 V Q) (hl : lv_has ls 7 [(0, .ref (ad 0 0 0)), (1, .ref (ad 4 l1 l1')), (2, .int l2), (3, .int l3), (4, .int l4)]) : W p l e rX0_fewestOf s m args below meth c H locs 0 0 (MQ below (va_Qi Q (fun u t => cB D A ad u t.heap) A) args s 0 0 A) (F0 m 60 ls []) := by
  have hx := F.1.x
  have hb := F.1.b
  unfold wX0_fewestOf_60 at hw
  refine lv_iconst (v := 0) hx hb dX0_fewestOf_60 (by decide) ?_
  refine lv_istore (lv' := [(5, .int (0 : Int32)), (0, .ref (ad 0 0 0)), (1, .ref (ad 4 l1 l1')), (2, .int l2), (3, .int l3), (4, .int l4)]) hx hb dX0_fewestOf_61 hl (by decide) rfl (fun ls hl => ?_)
  refine lv_iconst (v := 0) hx hb dX0_fewestOf_63 (by decide) ?_
  refine lv_istore (lv' := [(6, .int (0 : Int32)), (5, .int (0 : Int32)), (0, .ref (ad 0 0 0)), (1, .ref (ad 4 l1 l1')), (2, .int l2), (3, .int l3), (4, .int l4)]) hx hb dX0_fewestOf_64 hl (by decide) rfl (fun ls hl => ?_)
  obtain ⟨f_66, hw⟩ := hw
  exact bX0_fewestOf_66 F h_24 f_66 _ _ _ _ _ _ _ _ g_l1 g_l1p hw _ _ _ hB hS (lv_sub hl [2, 3, 4, 5, 6, 1, 0] rfl)
set_option maxHeartbeats 4000000 in
theorem bX0_fewestOf_24 {p : Program} {l : Launch} {e : Env} {s : State} {m : MethodId} {args : Array Value} {below : List Frame} {meth : Method} {c : Code} {D : DD} {A : Nat → Prop} {s0 : State} {ad : AD} {Q : Int32 → CV → Prop} (F : FX p l c cX0_fewestOf s args m RX0 D A s0 7 meth (some .int)) : ∀ (n : Nat) (l1 : Nat) (l1' : Nat) (l2 : Int32) (l3 : Int32) (l4 : Int32) (V : CV), l1 < 3 → l1' < 8 → wX0_fewestOf_24 Q n l1 l1' l2 l3 l4 V → ∀ (H : Heap) (locs : List Loc) (ls : Array Slot), cB D A ad V H → va_S A s.heap H locs → lv_has ls 7 [(0, .ref (ad 0 0 0)), (1, .ref (ad 4 l1 l1')), (2, .int l2), (3, .int l3), (4, .int l4)] → W p l e rX0_fewestOf s m args below meth c H locs 0 0 (MQ below (va_Qi Q (fun u t => cB D A ad u t.heap) A) args s 0 0 A) (F0 m 24 ls []) := by
  have hx := F.1.x
  have hb := F.1.b
  intro n
  induction n with
  | zero => intro l1 l1' l2 l3 l4 V g_l1 g_l1p hw; exact hw.elim
  | succ n ih =>
    intro l1 l1' l2 l3 l4 V g_l1 g_l1p hw H locs ls hB hS hl
    unfold wX0_fewestOf_24 at hw
    refine lv_iload hx hb dX0_fewestOf_24 (lv_at hl 4 rfl) ?_
    refine lv_iload_n hx hb dX0_fewestOf_26 rfl (lv_at hl 2 rfl) ?_
    refine lv_icmp_gt (tgt := 141) hx hb dX0_fewestOf_27 (by decide) (fun q => ?_) (fun q => ?_)
    · replace hw := hw.1 q
      refine lv_iload_n hx hb dX0_fewestOf_141 rfl (lv_at hl 3 rfl) ?_
      exact W.iret hx hb F.1.r (fun t ht hW => ⟨⟨_, _, rfl, hw, x_B (Bw := cB D A ad) ht hB⟩, hS.F ht⟩) hS.2.2 dX0_fewestOf_142 (hlocks := F.1.k)
    · replace hw := hw.2 q
      refine lv_iload hx hb dX0_fewestOf_30 (lv_at hl 4 rfl) ?_
      refine lv_aload_n hx hb dX0_fewestOf_32 rfl (lv_at hl 1 rfl) ?_
      refine cg_X0_340 F hB g_l1 g_l1p dX0_fewestOf_33 ?_
      refine lv_iand hx hb dX0_fewestOf_36 ?_
      refine lv_if_ne (tgt := 135) hx hb dX0_fewestOf_37 (by decide) (fun q => ?_) (fun q => ?_)
      · replace hw := hw.2 q
        exact bX0_fewestOf_135 F ih g_l1 g_l1p hB hS hw hl
      · replace hw := hw.1 q
        refine lv_iload_n hx hb dX0_fewestOf_40 rfl (lv_at hl 3 rfl) ?_
        refine lv_iconst (v := -1) hx hb dX0_fewestOf_41 (by decide) ?_
        refine lv_icmp_eq (tgt := 60) hx hb dX0_fewestOf_42 (by decide) (fun q => ?_) (fun q => ?_)
        · replace hw := hw.1 q
          exact bX0_fewestOf_60 F ih g_l1 g_l1p hB hS hw hl
        · replace hw := hw.2 q
          refine lv_iload hx hb dX0_fewestOf_45 (lv_at hl 4 rfl) ?_
          refine kX0_J5_bitCount F.1 hw ⟨Nat.le_of_ble_eq_true rfl, Nat.le_of_ble_eq_true rfl⟩ ⟨Nat.zero_le _, Nat.zero_le _⟩ hl.1 (Nat.le_of_ble_eq_true rfl) dX0_fewestOf_47 (fun r1 hw => ?_)
          refine lv_iload_n hx hb dX0_fewestOf_50 rfl (lv_at hl 3 rfl) ?_
          refine kX0_J5_bitCount F.1 hw ⟨Nat.le_of_ble_eq_true rfl, Nat.le_of_ble_eq_true rfl⟩ ⟨Nat.zero_le _, Nat.zero_le _⟩ hl.1 (Nat.le_of_ble_eq_true rfl) dX0_fewestOf_51 (fun r2 hw => ?_)
          refine lv_icmp_lt (tgt := 60) hx hb dX0_fewestOf_54 (by decide) (fun q => ?_) (fun q => ?_)
          · replace hw := hw.1 q
            exact bX0_fewestOf_60 F ih g_l1 g_l1p hB hS hw hl
          · replace hw := hw.2 q
            refine lv_goto (tgt := 135) hx hb dX0_fewestOf_57 (by decide) ?_
            exact bX0_fewestOf_135 F ih g_l1 g_l1p hB hS hw hl
set_option maxHeartbeats 4000000 in
theorem bX0_fewestOf_0 {p : Program} {l : Launch} {e : Env} {s : State} {m : MethodId} {args : Array Value} {below : List Frame} {meth : Method} {c : Code} {D : DD} {A : Nat → Prop} {s0 : State} {ad : AD} {Q : Int32 → CV → Prop} {a1 : Nat} {a1' : Nat} {V : CV} {H : Heap} {locs : List Loc} {ls : Array Slot} (F : FX p l c cX0_fewestOf s args m RX0 D A s0 7 meth (some .int)) (hB : cB D A ad V H) (hS : va_S A s.heap H locs) (hw : wX0_fewestOf a1 a1' V Q) (hl : lv_has ls 7 [(0, .ref (ad 0 0 0)), (1, .ref (ad 4 a1 a1'))]) : W p l e rX0_fewestOf s m args below meth c H locs 0 0 (MQ below (va_Qi Q (fun u t => cB D A ad u t.heap) A) args s 0 0 A) (F0 m 0 ls []) := by
  have hx := F.1.x
  have hb := F.1.b
  unfold wX0_fewestOf at hw
  obtain ⟨g_a1, hw⟩ := hw
  obtain ⟨g_a1p, hw⟩ := hw
  refine lv_aload_n hx hb dX0_fewestOf_0 rfl (lv_at hl 0 rfl) ?_
  refine kX0_X0_findFollowers F hB hS hw ⟨Nat.le_of_ble_eq_true rfl, Nat.le_of_ble_eq_true rfl⟩ ⟨Nat.zero_le _, Nat.zero_le _⟩ hl.1 (Nat.le_of_ble_eq_true rfl) dX0_fewestOf_1 (fun V2 H locs hw hB hS => ?_)
  refine lv_aload_n hx hb dX0_fewestOf_4 rfl (lv_at hl 0 rfl) ?_
  refine cg_X0_46 F hB dX0_fewestOf_5 ?_
  refine kX0_X1_all F hB hS hw ⟨Nat.le_of_ble_eq_true rfl, Nat.le_of_ble_eq_true rfl⟩ ⟨Nat.zero_le _, Nat.zero_le _⟩ hl.1 (Nat.le_of_ble_eq_true rfl) dX0_fewestOf_8 (fun r3 V4 H locs hw hB hS => ?_)
  refine lv_aload_n hx hb dX0_fewestOf_11 rfl (lv_at hl 1 rfl) ?_
  refine cg_X0_340 F hB g_a1 g_a1p dX0_fewestOf_12 ?_
  refine lv_iconst (v := -1) hx hb dX0_fewestOf_15 (by decide) ?_
  refine lv_ixor hx hb dX0_fewestOf_16 ?_
  refine lv_iand hx hb dX0_fewestOf_17 ?_
  refine lv_istore_n (lv' := [(2, .int (r3 &&& ((vD V4 a1 a1' 0) ^^^ (-1 : Int32)))), (0, .ref (ad 0 0 0)), (1, .ref (ad 4 a1 a1'))]) hx hb dX0_fewestOf_18 rfl hl (by decide) rfl (fun ls hl => ?_)
  refine lv_iconst (v := -1) hx hb dX0_fewestOf_19 (by decide) ?_
  refine lv_istore_n (lv' := [(3, .int (-1 : Int32)), (2, .int (r3 &&& ((vD V4 a1 a1' 0) ^^^ (-1 : Int32)))), (0, .ref (ad 0 0 0)), (1, .ref (ad 4 a1 a1'))]) hx hb dX0_fewestOf_20 rfl hl (by decide) rfl (fun ls hl => ?_)
  refine lv_iconst (v := 0) hx hb dX0_fewestOf_21 (by decide) ?_
  refine lv_istore (lv' := [(4, .int (0 : Int32)), (3, .int (-1 : Int32)), (2, .int (r3 &&& ((vD V4 a1 a1' 0) ^^^ (-1 : Int32)))), (0, .ref (ad 0 0 0)), (1, .ref (ad 4 a1 a1'))]) hx hb dX0_fewestOf_22 hl (by decide) rfl (fun ls hl => ?_)
  obtain ⟨f_24, hw⟩ := hw
  exact bX0_fewestOf_24 F f_24 _ _ _ _ _ _ g_a1 g_a1p hw _ _ _ hB hS (lv_sub hl [3, 4, 2, 1, 0] rfl)
set_option maxHeartbeats 4000000 in
theorem mX0_fewestOf {l : Launch} {D : DD} {A : Nat → Prop} {s0 : State} {ad : AD} {V : CV} {a1 : Nat} {a1' : Nat} {Q : Int32 → CV → Prop} (hw : wX0_fewestOf a1 a1' V Q) : Met l yX0_fewestOf (ws_ yX0_fewestOf cX0_fewestOf 7 (some .int)) rX0_fewestOf (va_Pc [.ref (ad 0 0 0), .ref (ad 4 a1 a1')] (fun U => cB D A ad V U.heap ∧ CX l D A s0 U)) (va_Qi Q (fun u t => cB D A ad u t.heap) A) 0 0 A := by
  refine Met.ofW (cc := cX0_fewestOf) (maxL := 7) (ret := some .int) (by decide) rfl ?_
  intro p e s m args below meth c s₁ B hml hv
  obtain ⟨rfl, hB, hC⟩ := hv
  have F : FX p l c cX0_fewestOf s _ m RX0 D A s0 7 meth (some .int) := ⟨mk_FP B hml rfl, hC⟩
  have hS : va_S A s.heap s.heap [] := va_S.rf
  have hl := lv_entry ([.ref (ad 0 0 0), .ref (ad 4 a1 a1')]) (n := 7) (Nat.le_of_ble_eq_true rfl)
  rw [lg_entry_eq]
  generalize (lg_sl ([.ref (ad 0 0 0), .ref (ad 4 a1 a1')]) ++ List.replicate (7 - (lg_sl ([.ref (ad 0 0 0), .ref (ad 4 a1 a1')])).length) Slot.unset).toArray = ls at hl ⊢
  exact bX0_fewestOf_0 F hB hS hw hl
theorem kX0_X0_fewestOf {p : Program} {l : Launch} {e : Env} {R : Room} {s : State} {m : MethodId} {args : Array Value} {below : List Frame} {meth : Method} {c : Code} {H : Heap} {locs : List Loc} {cells slots : Nat} {Q0 : State → Prop} {cc : ByteArray} {pc nL : Nat} {ls : Array Slot} {rest : List Value} {ret : Option FieldType} {D : DD} {A : Nat → Prop} {s0 : State} {ad : AD} {V : CV} {a1 : Nat} {a1' : Nat} {Q : Int32 → CV → Prop} (F : FX p l c cc s args m RX0 D A s0 nL meth ret) (hB : cB D A ad V H) (hS : va_S A s.heap H locs) (hw : wX0_fewestOf a1 a1' V Q) (hR : rX0_fewestOf.frames + 1 ≤ R.frames ∧ 8 + (7 + 11) + rX0_fewestOf.locals ≤ R.locals) (hc : cells + 0 ≤ R.cells ∧ slots + 0 ≤ R.slots) (hsz : ls.size = nL) (hW : (rest.map fun v => v.category).sum ≤ 8) (hdg : decode cc pc = .ok (.invokevirtual 415, 3)) (kk : ∀ (r : Int32) (u : CV) (H1 : Heap) (locs1 : List Loc), Q r u → cB D A ad u H1 → va_S A s.heap H1 locs1 → W p l e R s m args below meth c H1 locs1 cells slots Q0 (F0 m (pc + 3) ls (.int r :: rest))) : W p l e R s m args below meth c H locs cells slots Q0 (F0 m pc ls (.ref (ad 4 a1 a1') :: .ref (ad 0 0 0) :: rest)) :=
  k_i (Bw := cB D A ad) (k_runV (Bw := cB D A ad) (n := 1) (As := [.ref (ad 4 a1 a1')]) F hB hS (c_at F (hB.pic cpic0) rfl) (mX0_fewestOf hw) q952 q954 qs34 q83 q955 (by decide +kernel) hR ⟨rfl, rfl⟩ hc rfl hsz rfl hW hdg) hS kk
def rX0_fewest : Room := { frames := 3, cells := 0, slots := 0, locals := 110 }
set_option maxHeartbeats 4000000 in
theorem bX0_fewest_0 {p : Program} {l : Launch} {e : Env} {s : State} {m : MethodId} {args : Array Value} {below : List Frame} {meth : Method} {c : Code} {D : DD} {A : Nat → Prop} {s0 : State} {ad : AD} {Q : Int32 → CV → Prop} {a1 : Int32} {a2 : Int32} {V : CV} {H : Heap} {locs : List Loc} {ls : Array Slot} (F : FX p l c cX0_fewest s args m RX0 D A s0 4 meth (some .int)) (hB : cB D A ad V H) (hS : va_S A s.heap H locs) (hw : wX0_fewest a1 a2 V Q) (hl : lv_has ls 4 [(0, .ref (ad 0 0 0)), (1, .int a1), (2, .int a2)]) : W p l e rX0_fewest s m args below meth c H locs 0 0 (MQ below (va_Qi Q (fun u t => cB D A ad u t.heap) A) args s 0 0 A) (F0 m 0 ls []) := by
  have hx := F.1.x
  have hb := F.1.b
  unfold wX0_fewest at hw
  refine lv_aload_n hx hb dX0_fewest_0 rfl (lv_at hl 0 rfl) ?_
  refine lv_iload_n hx hb dX0_fewest_1 rfl (lv_at hl 1 rfl) ?_
  refine kX0_X0_isDeed F hB hS hw ⟨Nat.le_of_ble_eq_true rfl, Nat.le_of_ble_eq_true rfl⟩ ⟨Nat.zero_le _, Nat.zero_le _⟩ hl.1 (Nat.le_of_ble_eq_true rfl) dX0_fewest_2 (fun r1 V2 H locs hw hB hS => ?_)
  refine lv_if_eq (tgt := 17) hx hb dX0_fewest_5 (by decide) (fun q => ?_) (fun q => ?_)
  · replace hw := hw.1 q
    refine lv_ldc hx hb F.1.o (F.1.t _ q392) dX0_fewest_17 ?_
    exact W.iret hx hb F.1.r (fun t ht hW => ⟨⟨_, _, rfl, hw, x_B (Bw := cB D A ad) ht hB⟩, hS.F ht⟩) hS.2.2 dX0_fewest_19 (hlocks := F.1.k)
  · replace hw := hw.2 q
    refine lv_iload_n hx hb dX0_fewest_8 rfl (lv_at hl 2 rfl) ?_
    refine lv_iconst (v := 0) hx hb dX0_fewest_9 (by decide) ?_
    refine lv_iconst (v := 1) hx hb dX0_fewest_10 (by decide) ?_
    refine kX0_X0_isIn F.1 hw ⟨Nat.le_of_ble_eq_true rfl, Nat.le_of_ble_eq_true rfl⟩ ⟨Nat.zero_le _, Nat.zero_le _⟩ hl.1 (Nat.le_of_ble_eq_true rfl) dX0_fewest_11 (fun r3 hw => ?_)
    refine lv_if_ne (tgt := 20) hx hb dX0_fewest_14 (by decide) (fun q => ?_) (fun q => ?_)
    · replace hw := hw.2 q
      refine lv_aload_n hx hb dX0_fewest_20 rfl (lv_at hl 0 rfl) ?_
      refine lv_aload_n hx hb dX0_fewest_21 rfl (lv_at hl 0 rfl) ?_
      refine cg_X0_46 F hB dX0_fewest_22 ?_
      refine cg_X0_278 F hB (by decide) dX0_fewest_25 ?_
      refine lv_iload_n hx hb dX0_fewest_28 rfl (lv_at hl 1 rfl) ?_
      obtain ⟨hin4, hw⟩ := hw
      refine cl_De F hB (by decide) hin4 dX0_fewest_29 ?_
      refine kX0_X0_fewestOf F hB hS hw ⟨Nat.le_of_ble_eq_true rfl, Nat.le_of_ble_eq_true rfl⟩ ⟨Nat.zero_le _, Nat.zero_le _⟩ hl.1 (Nat.le_of_ble_eq_true rfl) dX0_fewest_30 (fun r5 V6 H locs hw hB hS => ?_)
      refine lv_istore_n (lv' := [(3, .int r5), (0, .ref (ad 0 0 0)), (1, .int a1), (2, .int a2)]) hx hb dX0_fewest_33 rfl hl (by decide) rfl (fun ls hl => ?_)
      refine lv_iload_n hx hb dX0_fewest_34 rfl (lv_at hl 0 rfl) ?_
      refine lv_iconst (v := -1) hx hb dX0_fewest_35 (by decide) ?_
      refine lv_icmp_ne (tgt := 44) hx hb dX0_fewest_36 (by decide) (fun q => ?_) (fun q => ?_)
      · replace hw := hw.2 q
        refine lv_iload_n hx hb dX0_fewest_44 rfl (lv_at hl 3 rfl) ?_
        refine lv_if_ne (tgt := 55) hx hb dX0_fewest_45 (by decide) (fun q => ?_) (fun q => ?_)
        · replace hw := hw.2 q
          refine lv_iload_n hx hb dX0_fewest_55 rfl (lv_at hl 0 rfl) ?_
          exact W.iret hx hb F.1.r (fun t ht hW => ⟨⟨_, _, rfl, hw, x_B (Bw := cB D A ad) ht hB⟩, hS.F ht⟩) hS.2.2 dX0_fewest_56 (hlocks := F.1.k)
        · replace hw := hw.1 q
          refine lv_iload_n hx hb dX0_fewest_48 rfl (lv_at hl 0 rfl) ?_
          refine kX0_J5_bitCount F.1 hw ⟨Nat.le_of_ble_eq_true rfl, Nat.le_of_ble_eq_true rfl⟩ ⟨Nat.zero_le _, Nat.zero_le _⟩ hl.1 (Nat.le_of_ble_eq_true rfl) dX0_fewest_49 (fun r7 hw => ?_)
          refine lv_goto (tgt := 56) hx hb dX0_fewest_52 (by decide) ?_
          exact W.iret hx hb F.1.r (fun t ht hW => ⟨⟨_, _, rfl, hw, x_B (Bw := cB D A ad) ht hB⟩, hS.F ht⟩) hS.2.2 dX0_fewest_56 (hlocks := F.1.k)
      · replace hw := hw.1 q
        refine lv_ldc hx hb F.1.o (F.1.t _ q571) dX0_fewest_39 ?_
        refine lv_goto (tgt := 56) hx hb dX0_fewest_41 (by decide) ?_
        exact W.iret hx hb F.1.r (fun t ht hW => ⟨⟨_, _, rfl, hw, x_B (Bw := cB D A ad) ht hB⟩, hS.F ht⟩) hS.2.2 dX0_fewest_56 (hlocks := F.1.k)
    · replace hw := hw.1 q
      refine lv_ldc hx hb F.1.o (F.1.t _ q392) dX0_fewest_17 ?_
      exact W.iret hx hb F.1.r (fun t ht hW => ⟨⟨_, _, rfl, hw, x_B (Bw := cB D A ad) ht hB⟩, hS.F ht⟩) hS.2.2 dX0_fewest_19 (hlocks := F.1.k)
set_option maxHeartbeats 4000000 in
theorem mX0_fewest {l : Launch} {D : DD} {A : Nat → Prop} {s0 : State} {ad : AD} {V : CV} {a1 : Int32} {a2 : Int32} {Q : Int32 → CV → Prop} (hw : wX0_fewest a1 a2 V Q) : Met l yX0_fewest (ws_ yX0_fewest cX0_fewest 4 (some .int)) rX0_fewest (va_Pc [.ref (ad 0 0 0), .int a1, .int a2] (fun U => cB D A ad V U.heap ∧ CX l D A s0 U)) (va_Qi Q (fun u t => cB D A ad u t.heap) A) 0 0 A := by
  refine Met.ofW (cc := cX0_fewest) (maxL := 4) (ret := some .int) (by decide) rfl ?_
  intro p e s m args below meth c s₁ B hml hv
  obtain ⟨rfl, hB, hC⟩ := hv
  have F : FX p l c cX0_fewest s _ m RX0 D A s0 4 meth (some .int) := ⟨mk_FP B hml rfl, hC⟩
  have hS : va_S A s.heap s.heap [] := va_S.rf
  have hl := lv_entry ([.ref (ad 0 0 0), .int a1, .int a2]) (n := 4) (Nat.le_of_ble_eq_true rfl)
  rw [lg_entry_eq]
  generalize (lg_sl ([.ref (ad 0 0 0), .int a1, .int a2]) ++ List.replicate (4 - (lg_sl ([.ref (ad 0 0 0), .int a1, .int a2])).length) Slot.unset).toArray = ls at hl ⊢
  exact bX0_fewest_0 F hB hS hw hl
def rX0_follow : Room := { frames := 3, cells := 0, slots := 0, locals := 66 }
set_option maxHeartbeats 4000000 in
theorem bX0_follow_0 {p : Program} {l : Launch} {e : Env} {s : State} {m : MethodId} {args : Array Value} {below : List Frame} {meth : Method} {c : Code} {D : DD} {A : Nat → Prop} {s0 : State} {ad : AD} {Q : Int32 → CV → Prop} {a1 : Int32} {a2 : Int32} {a3 : Int32} {V : CV} {H : Heap} {locs : List Loc} {ls : Array Slot} (F : FX p l c cX0_follow s args m RX0 D A s0 4 meth (some .int)) (hB : cB D A ad V H) (hS : va_S A s.heap H locs) (hw : wX0_follow a1 a2 a3 V Q) (hl : lv_has ls 4 [(0, .ref (ad 0 0 0)), (1, .int a1), (2, .int a2), (3, .int a3)]) : W p l e rX0_follow s m args below meth c H locs 0 0 (MQ below (va_Qi Q (fun u t => cB D A ad u t.heap) A) args s 0 0 A) (F0 m 0 ls []) := by
  have hx := F.1.x
  have hb := F.1.b
  unfold wX0_follow at hw
  refine lv_aload_n hx hb dX0_follow_0 rfl (lv_at hl 0 rfl) ?_
  refine lv_iload_n hx hb dX0_follow_1 rfl (lv_at hl 1 rfl) ?_
  refine lv_iload_n hx hb dX0_follow_2 rfl (lv_at hl 2 rfl) ?_
  refine lv_iload_n hx hb dX0_follow_3 rfl (lv_at hl 3 rfl) ?_
  refine kX0_X0_areTwo F hB hS hw ⟨Nat.le_of_ble_eq_true rfl, Nat.le_of_ble_eq_true rfl⟩ ⟨Nat.zero_le _, Nat.zero_le _⟩ hl.1 (Nat.le_of_ble_eq_true rfl) dX0_follow_4 (fun r1 V2 H locs hw hB hS => ?_)
  refine lv_if_eq (tgt := 26) hx hb dX0_follow_7 (by decide) (fun q => ?_) (fun q => ?_)
  · replace hw := hw.1 q
    refine lv_ldc hx hb F.1.o (F.1.t _ q392) dX0_follow_26 ?_
    exact W.iret hx hb F.1.r (fun t ht hW => ⟨⟨_, _, rfl, hw, x_B (Bw := cB D A ad) ht hB⟩, hS.F ht⟩) hS.2.2 dX0_follow_28 (hlocks := F.1.k)
  · replace hw := hw.2 q
    refine lv_aload_n hx hb dX0_follow_10 rfl (lv_at hl 0 rfl) ?_
    refine cg_X0_46 F hB dX0_follow_11 ?_
    refine cg_X0_275 F hB (by decide) dX0_follow_14 ?_
    refine lv_iload_n hx hb dX0_follow_17 rfl (lv_at hl 1 rfl) ?_
    refine lv_iload_n hx hb dX0_follow_18 rfl (lv_at hl 2 rfl) ?_
    refine lv_iload_n hx hb dX0_follow_19 rfl (lv_at hl 3 rfl) ?_
    refine kX0_X0_becomes F hB hS hw ⟨Nat.le_of_ble_eq_true rfl, Nat.le_of_ble_eq_true rfl⟩ ⟨Nat.zero_le _, Nat.zero_le _⟩ hl.1 (Nat.le_of_ble_eq_true rfl) dX0_follow_20 (fun r3 V4 H locs hw hB hS => ?_)
    refine lv_goto (tgt := 28) hx hb dX0_follow_23 (by decide) ?_
    exact W.iret hx hb F.1.r (fun t ht hW => ⟨⟨_, _, rfl, hw, x_B (Bw := cB D A ad) ht hB⟩, hS.F ht⟩) hS.2.2 dX0_follow_28 (hlocks := F.1.k)
set_option maxHeartbeats 4000000 in
theorem mX0_follow {l : Launch} {D : DD} {A : Nat → Prop} {s0 : State} {ad : AD} {V : CV} {a1 : Int32} {a2 : Int32} {a3 : Int32} {Q : Int32 → CV → Prop} (hw : wX0_follow a1 a2 a3 V Q) : Met l yX0_follow (ws_ yX0_follow cX0_follow 4 (some .int)) rX0_follow (va_Pc [.ref (ad 0 0 0), .int a1, .int a2, .int a3] (fun U => cB D A ad V U.heap ∧ CX l D A s0 U)) (va_Qi Q (fun u t => cB D A ad u t.heap) A) 0 0 A := by
  refine Met.ofW (cc := cX0_follow) (maxL := 4) (ret := some .int) (by decide) rfl ?_
  intro p e s m args below meth c s₁ B hml hv
  obtain ⟨rfl, hB, hC⟩ := hv
  have F : FX p l c cX0_follow s _ m RX0 D A s0 4 meth (some .int) := ⟨mk_FP B hml rfl, hC⟩
  have hS : va_S A s.heap s.heap [] := va_S.rf
  have hl := lv_entry ([.ref (ad 0 0 0), .int a1, .int a2, .int a3]) (n := 4) (Nat.le_of_ble_eq_true rfl)
  rw [lg_entry_eq]
  generalize (lg_sl ([.ref (ad 0 0 0), .int a1, .int a2, .int a3]) ++ List.replicate (4 - (lg_sl ([.ref (ad 0 0 0), .int a1, .int a2, .int a3])).length) Slot.unset).toArray = ls at hl ⊢
  exact bX0_follow_0 F hB hS hw hl
def rX0_friend : Room := { frames := 3, cells := 0, slots := 0, locals := 66 }
set_option maxHeartbeats 4000000 in
theorem bX0_friend_0 {p : Program} {l : Launch} {e : Env} {s : State} {m : MethodId} {args : Array Value} {below : List Frame} {meth : Method} {c : Code} {D : DD} {A : Nat → Prop} {s0 : State} {ad : AD} {Q : Int32 → CV → Prop} {a1 : Int32} {a2 : Int32} {a3 : Int32} {V : CV} {H : Heap} {locs : List Loc} {ls : Array Slot} (F : FX p l c cX0_friend s args m RX0 D A s0 5 meth (some .int)) (hB : cB D A ad V H) (hS : va_S A s.heap H locs) (hw : wX0_friend a1 a2 a3 V Q) (hl : lv_has ls 5 [(0, .ref (ad 0 0 0)), (1, .int a1), (2, .int a2), (3, .int a3)]) : W p l e rX0_friend s m args below meth c H locs 0 0 (MQ below (va_Qi Q (fun u t => cB D A ad u t.heap) A) args s 0 0 A) (F0 m 0 ls []) := by
  have hx := F.1.x
  have hb := F.1.b
  unfold wX0_friend at hw
  refine lv_aload_n hx hb dX0_friend_0 rfl (lv_at hl 0 rfl) ?_
  refine lv_iload_n hx hb dX0_friend_1 rfl (lv_at hl 1 rfl) ?_
  refine lv_iload_n hx hb dX0_friend_2 rfl (lv_at hl 2 rfl) ?_
  refine lv_iload_n hx hb dX0_friend_3 rfl (lv_at hl 3 rfl) ?_
  refine kX0_X0_areTwo F hB hS hw ⟨Nat.le_of_ble_eq_true rfl, Nat.le_of_ble_eq_true rfl⟩ ⟨Nat.zero_le _, Nat.zero_le _⟩ hl.1 (Nat.le_of_ble_eq_true rfl) dX0_friend_4 (fun r1 V2 H locs hw hB hS => ?_)
  refine lv_if_ne (tgt := 13) hx hb dX0_friend_7 (by decide) (fun q => ?_) (fun q => ?_)
  · replace hw := hw.2 q
    refine lv_aload_n hx hb dX0_friend_13 rfl (lv_at hl 0 rfl) ?_
    refine cg_X0_46 F hB dX0_friend_14 ?_
    refine cg_X0_272 F hB (by decide) dX0_friend_17 ?_
    refine lv_iload_n hx hb dX0_friend_20 rfl (lv_at hl 1 rfl) ?_
    refine lv_iload_n hx hb dX0_friend_21 rfl (lv_at hl 2 rfl) ?_
    refine lv_iload_n hx hb dX0_friend_22 rfl (lv_at hl 3 rfl) ?_
    refine kX0_X0_becomes F hB hS hw ⟨Nat.le_of_ble_eq_true rfl, Nat.le_of_ble_eq_true rfl⟩ ⟨Nat.zero_le _, Nat.zero_le _⟩ hl.1 (Nat.le_of_ble_eq_true rfl) dX0_friend_23 (fun r3 V4 H locs hw hB hS => ?_)
    refine lv_istore (lv' := [(4, .int r3), (0, .ref (ad 0 0 0)), (1, .int a1), (2, .int a2), (3, .int a3)]) hx hb dX0_friend_26 hl (by decide) rfl (fun ls hl => ?_)
    refine lv_aload_n hx hb dX0_friend_28 rfl (lv_at hl 1 rfl) ?_
    refine cg_X0_46 F hB dX0_friend_29 ?_
    refine cg_X0_272 F hB (by decide) dX0_friend_32 ?_
    refine lv_iload_n hx hb dX0_friend_35 rfl (lv_at hl 3 rfl) ?_
    refine lv_iload_n hx hb dX0_friend_36 rfl (lv_at hl 2 rfl) ?_
    refine lv_iload_n hx hb dX0_friend_37 rfl (lv_at hl 4 rfl) ?_
    refine kX0_X0_becomes F hB hS hw ⟨Nat.le_of_ble_eq_true rfl, Nat.le_of_ble_eq_true rfl⟩ ⟨Nat.zero_le _, Nat.zero_le _⟩ hl.1 (Nat.le_of_ble_eq_true rfl) dX0_friend_38 (fun r5 V6 H locs hw hB hS => ?_)
    refine lv_iload hx hb dX0_friend_41 (lv_at hl 0 rfl) ?_
    refine lv_iand hx hb dX0_friend_43 ?_
    exact W.iret hx hb F.1.r (fun t ht hW => ⟨⟨_, _, rfl, hw, x_B (Bw := cB D A ad) ht hB⟩, hS.F ht⟩) hS.2.2 dX0_friend_44 (hlocks := F.1.k)
  · replace hw := hw.1 q
    refine lv_ldc hx hb F.1.o (F.1.t _ q392) dX0_friend_10 ?_
    exact W.iret hx hb F.1.r (fun t ht hW => ⟨⟨_, _, rfl, hw, x_B (Bw := cB D A ad) ht hB⟩, hS.F ht⟩) hS.2.2 dX0_friend_12 (hlocks := F.1.k)
set_option maxHeartbeats 4000000 in
theorem mX0_friend {l : Launch} {D : DD} {A : Nat → Prop} {s0 : State} {ad : AD} {V : CV} {a1 : Int32} {a2 : Int32} {a3 : Int32} {Q : Int32 → CV → Prop} (hw : wX0_friend a1 a2 a3 V Q) : Met l yX0_friend (ws_ yX0_friend cX0_friend 5 (some .int)) rX0_friend (va_Pc [.ref (ad 0 0 0), .int a1, .int a2, .int a3] (fun U => cB D A ad V U.heap ∧ CX l D A s0 U)) (va_Qi Q (fun u t => cB D A ad u t.heap) A) 0 0 A := by
  refine Met.ofW (cc := cX0_friend) (maxL := 5) (ret := some .int) (by decide) rfl ?_
  intro p e s m args below meth c s₁ B hml hv
  obtain ⟨rfl, hB, hC⟩ := hv
  have F : FX p l c cX0_friend s _ m RX0 D A s0 5 meth (some .int) := ⟨mk_FP B hml rfl, hC⟩
  have hS : va_S A s.heap s.heap [] := va_S.rf
  have hl := lv_entry ([.ref (ad 0 0 0), .int a1, .int a2, .int a3]) (n := 5) (Nat.le_of_ble_eq_true rfl)
  rw [lg_entry_eq]
  generalize (lg_sl ([.ref (ad 0 0 0), .int a1, .int a2, .int a3]) ++ List.replicate (5 - (lg_sl ([.ref (ad 0 0 0), .int a1, .int a2, .int a3])).length) Slot.unset).toArray = ls at hl ⊢
  exact bX0_friend_0 F hB hS hw hl
def rX0_goneOn : Room := { frames := 1, cells := 0, slots := 0, locals := 21 }
set_option maxHeartbeats 4000000 in
theorem bX0_goneOn_40 {p : Program} {l : Launch} {e : Env} {s : State} {m : MethodId} {args : Array Value} {below : List Frame} {meth : Method} {c : Code} {D : DD} {A : Nat → Prop} {s0 : State} {ad : AD} {Q : Int32 → CV → Prop} {k_4 : Int32 → Int32 → Int32 → CV → Prop} {l1 : Int32} {l3 : Int32} {k0 : Int32} {k1 : Int32} {V : CV} {H : Heap} {locs : List Loc} {ls : Array Slot} (F : FX p l c cX0_goneOn s args m RX0 D A s0 4 meth (some .int)) (h_4 : ∀ (l1 : Int32) (l2 : Int32) (l3 : Int32) (V : CV), k_4 l1 l2 l3 V → ∀ (H : Heap) (locs : List Loc) (ls : Array Slot), cB D A ad V H → va_S A s.heap H locs → lv_has ls 4 [(0, .ref (ad 0 0 0)), (1, .int l1), (2, .int l2), (3, .int l3)] → W p l e rX0_goneOn s m args below meth c H locs 0 0 (MQ below (va_Qi Q (fun u t => cB D A ad u t.heap) A) args s 0 0 A) (F0 m 4 ls [])) (hB : cB D A ad V H) (hS : va_S A s.heap H locs) (hw : wX0_goneOn_40 k_4 l1 l3 k0 k1 V Q) (hl : lv_has ls 4 [(0, .ref (ad 0 0 0)), (1, .int l1), (3, .int l3)]) : W p l e rX0_goneOn s m args below meth c H locs 0 0 (MQ below (va_Qi Q (fun u t => cB D A ad u t.heap) A) args s 0 0 A) (F0 m 40 ls [.int k0, .int k1]) := by
  have hx := F.1.x
  have hb := F.1.b
  unfold wX0_goneOn_40 at hw
  refine lv_iadd hx hb dX0_goneOn_40 ?_
  refine lv_istore_n (lv' := [(2, .int (k1 + k0)), (0, .ref (ad 0 0 0)), (1, .int l1), (3, .int l3)]) hx hb dX0_goneOn_41 rfl hl (by decide) rfl (fun ls hl => ?_)
  refine lv_iinc (v := l3 + (1 : Int32)) (lv' := [(3, .int (l3 + (1 : Int32))), (2, .int (k1 + k0)), (0, .ref (ad 0 0 0)), (1, .int l1)]) hx hb dX0_goneOn_42 hl (k := 3) rfl (x_inc (by decide)) (by decide) rfl (fun ls hl => ?_)
  refine lv_goto (tgt := 4) hx hb dX0_goneOn_45 (by decide) ?_
  exact h_4 _ _ _ _ hw _ _ _ hB hS (lv_sub hl [2, 3, 1, 0] rfl)
set_option maxHeartbeats 4000000 in
theorem bX0_goneOn_4 {p : Program} {l : Launch} {e : Env} {s : State} {m : MethodId} {args : Array Value} {below : List Frame} {meth : Method} {c : Code} {D : DD} {A : Nat → Prop} {s0 : State} {ad : AD} {Q : Int32 → CV → Prop} (F : FX p l c cX0_goneOn s args m RX0 D A s0 4 meth (some .int)) : ∀ (n : Nat) (l1 : Int32) (l2 : Int32) (l3 : Int32) (V : CV), wX0_goneOn_4 Q n l1 l2 l3 V → ∀ (H : Heap) (locs : List Loc) (ls : Array Slot), cB D A ad V H → va_S A s.heap H locs → lv_has ls 4 [(0, .ref (ad 0 0 0)), (1, .int l1), (2, .int l2), (3, .int l3)] → W p l e rX0_goneOn s m args below meth c H locs 0 0 (MQ below (va_Qi Q (fun u t => cB D A ad u t.heap) A) args s 0 0 A) (F0 m 4 ls []) := by
  have hx := F.1.x
  have hb := F.1.b
  intro n
  induction n with
  | zero => intro l1 l2 l3 V hw; exact hw.elim
  | succ n ih =>
    intro l1 l2 l3 V hw H locs ls hB hS hl
    unfold wX0_goneOn_4 at hw
    refine lv_iload_n hx hb dX0_goneOn_4 rfl (lv_at hl 3 rfl) ?_
    refine lv_aload_n hx hb dX0_goneOn_5 rfl (lv_at hl 0 rfl) ?_
    refine cg_X0_46 F hB dX0_goneOn_6 ?_
    refine cg_X0_109 F hB (by decide) dX0_goneOn_9 ?_
    refine lv_icmp_ge (tgt := 48) hx hb dX0_goneOn_12 (by decide) (fun q => ?_) (fun q => ?_)
    · replace hw := hw.1 q
      refine lv_iload_n hx hb dX0_goneOn_48 rfl (lv_at hl 2 rfl) ?_
      exact W.iret hx hb F.1.r (fun t ht hW => ⟨⟨_, _, rfl, hw, x_B (Bw := cB D A ad) ht hB⟩, hS.F ht⟩) hS.2.2 dX0_goneOn_49 (hlocks := F.1.k)
    · replace hw := hw.2 q
      refine lv_iload_n hx hb dX0_goneOn_15 rfl (lv_at hl 2 rfl) ?_
      refine lv_aload_n hx hb dX0_goneOn_16 rfl (lv_at hl 0 rfl) ?_
      refine cg_X0_46 F hB dX0_goneOn_17 ?_
      refine cg_X0_278 F hB (by decide) dX0_goneOn_20 ?_
      refine lv_iload_n hx hb dX0_goneOn_23 rfl (lv_at hl 3 rfl) ?_
      obtain ⟨hin1, hw⟩ := hw
      refine cl_De F hB (by decide) hin1 dX0_goneOn_24 ?_
      refine cg_X0_282 F hB (by decide) (x_lt hin1) dX0_goneOn_25 ?_
      refine lv_iload_n hx hb dX0_goneOn_28 rfl (lv_at hl 1 rfl) ?_
      refine kX0_X0_has F.1 hw ⟨Nat.le_of_ble_eq_true rfl, Nat.le_of_ble_eq_true rfl⟩ ⟨Nat.zero_le _, Nat.zero_le _⟩ hl.1 (Nat.le_of_ble_eq_true rfl) dX0_goneOn_29 (fun r2 hw => ?_)
      refine lv_if_eq (tgt := 39) hx hb dX0_goneOn_32 (by decide) (fun q => ?_) (fun q => ?_)
      · replace hw := hw.1 q
        refine lv_iconst (v := 1) hx hb dX0_goneOn_39 (by decide) ?_
        exact bX0_goneOn_40 F ih hB hS hw (lv_sub hl [0, 1, 3] rfl)
      · replace hw := hw.2 q
        refine lv_iconst (v := 0) hx hb dX0_goneOn_35 (by decide) ?_
        refine lv_goto (tgt := 40) hx hb dX0_goneOn_36 (by decide) ?_
        exact bX0_goneOn_40 F ih hB hS hw (lv_sub hl [0, 1, 3] rfl)
set_option maxHeartbeats 4000000 in
theorem bX0_goneOn_0 {p : Program} {l : Launch} {e : Env} {s : State} {m : MethodId} {args : Array Value} {below : List Frame} {meth : Method} {c : Code} {D : DD} {A : Nat → Prop} {s0 : State} {ad : AD} {Q : Int32 → CV → Prop} {a1 : Int32} {V : CV} {H : Heap} {locs : List Loc} {ls : Array Slot} (F : FX p l c cX0_goneOn s args m RX0 D A s0 4 meth (some .int)) (hB : cB D A ad V H) (hS : va_S A s.heap H locs) (hw : wX0_goneOn a1 V Q) (hl : lv_has ls 4 [(0, .ref (ad 0 0 0)), (1, .int a1)]) : W p l e rX0_goneOn s m args below meth c H locs 0 0 (MQ below (va_Qi Q (fun u t => cB D A ad u t.heap) A) args s 0 0 A) (F0 m 0 ls []) := by
  have hx := F.1.x
  have hb := F.1.b
  unfold wX0_goneOn at hw
  refine lv_iconst (v := 0) hx hb dX0_goneOn_0 (by decide) ?_
  refine lv_istore_n (lv' := [(2, .int (0 : Int32)), (0, .ref (ad 0 0 0)), (1, .int a1)]) hx hb dX0_goneOn_1 rfl hl (by decide) rfl (fun ls hl => ?_)
  refine lv_iconst (v := 0) hx hb dX0_goneOn_2 (by decide) ?_
  refine lv_istore_n (lv' := [(3, .int (0 : Int32)), (2, .int (0 : Int32)), (0, .ref (ad 0 0 0)), (1, .int a1)]) hx hb dX0_goneOn_3 rfl hl (by decide) rfl (fun ls hl => ?_)
  obtain ⟨f_4, hw⟩ := hw
  exact bX0_goneOn_4 F f_4 _ _ _ _ hw _ _ _ hB hS (lv_sub hl [2, 3, 1, 0] rfl)
set_option maxHeartbeats 4000000 in
theorem mX0_goneOn {l : Launch} {D : DD} {A : Nat → Prop} {s0 : State} {ad : AD} {V : CV} {a1 : Int32} {Q : Int32 → CV → Prop} (hw : wX0_goneOn a1 V Q) : Met l yX0_goneOn (ws_ yX0_goneOn cX0_goneOn 4 (some .int)) rX0_goneOn (va_Pc [.ref (ad 0 0 0), .int a1] (fun U => cB D A ad V U.heap ∧ CX l D A s0 U)) (va_Qi Q (fun u t => cB D A ad u t.heap) A) 0 0 A := by
  refine Met.ofW (cc := cX0_goneOn) (maxL := 4) (ret := some .int) (by decide) rfl ?_
  intro p e s m args below meth c s₁ B hml hv
  obtain ⟨rfl, hB, hC⟩ := hv
  have F : FX p l c cX0_goneOn s _ m RX0 D A s0 4 meth (some .int) := ⟨mk_FP B hml rfl, hC⟩
  have hS : va_S A s.heap s.heap [] := va_S.rf
  have hl := lv_entry ([.ref (ad 0 0 0), .int a1]) (n := 4) (Nat.le_of_ble_eq_true rfl)
  rw [lg_entry_eq]
  generalize (lg_sl ([.ref (ad 0 0 0), .int a1]) ++ List.replicate (4 - (lg_sl ([.ref (ad 0 0 0), .int a1])).length) Slot.unset).toArray = ls at hl ⊢
  exact bX0_goneOn_0 F hB hS hw hl
theorem kX0_X0_goneOn {p : Program} {l : Launch} {e : Env} {R : Room} {s : State} {m : MethodId} {args : Array Value} {below : List Frame} {meth : Method} {c : Code} {H : Heap} {locs : List Loc} {cells slots : Nat} {Q0 : State → Prop} {cc : ByteArray} {pc nL : Nat} {ls : Array Slot} {rest : List Value} {ret : Option FieldType} {D : DD} {A : Nat → Prop} {s0 : State} {ad : AD} {V : CV} {a1 : Int32} {Q : Int32 → CV → Prop} (F : FX p l c cc s args m RX0 D A s0 nL meth ret) (hB : cB D A ad V H) (hS : va_S A s.heap H locs) (hw : wX0_goneOn a1 V Q) (hR : rX0_goneOn.frames + 1 ≤ R.frames ∧ 8 + (4 + 11) + rX0_goneOn.locals ≤ R.locals) (hc : cells + 0 ≤ R.cells ∧ slots + 0 ≤ R.slots) (hsz : ls.size = nL) (hW : (rest.map fun v => v.category).sum ≤ 8) (hdg : decode cc pc = .ok (.invokevirtual 309, 3)) (kk : ∀ (r : Int32) (u : CV) (H1 : Heap) (locs1 : List Loc), Q r u → cB D A ad u H1 → va_S A s.heap H1 locs1 → W p l e R s m args below meth c H1 locs1 cells slots Q0 (F0 m (pc + 3) ls (.int r :: rest))) : W p l e R s m args below meth c H locs cells slots Q0 (F0 m pc ls (.int a1 :: .ref (ad 0 0 0) :: rest)) :=
  k_i (Bw := cB D A ad) (k_runV (Bw := cB D A ad) (n := 1) (As := [.int a1]) F hB hS (c_at F (hB.pic cpic0) rfl) (mX0_goneOn hw) q705 q707 qs21 q83 q708 (by decide +kernel) hR ⟨rfl, rfl⟩ hc rfl hsz rfl hW hdg) hS kk
def rX4_init : Room := { frames := 1, cells := 0, slots := 0, locals := 40 }
set_option maxHeartbeats 4000000 in
theorem bX4_init_0 {p : Program} {l : Launch} {e : Env} {s : State} {m : MethodId} {args : Array Value} {below : List Frame} {meth : Method} {c : Code} {D : DD} {A : Nat → Prop} {s0 : State} {ad : AD} {Q : CV → Prop} {a0 : Nat} {V : CV} {H : Heap} {locs : List Loc} {ls : Array Slot} (F : FX p l c cX4_init s args m RX4 D A s0 1 meth (none)) (hin : meth.name = "<init>") (hB : cB D A ad V H) (hS : va_S A s.heap H locs) (hw : wX4_init a0 V Q) (hl : lv_has ls 1 [(0, .ref a0)]) : W p l e rX4_init s m args below meth c H locs 0 0 (MQ below (va_Qv Q (fun u t => cB D A ad u t.heap) A) args s 0 0 A) (F0 m 0 ls []) := by
  have hx := F.1.x
  have hb := F.1.b
  unfold wX4_init at hw
  refine lv_aload_n hx hb dX4_init_0 rfl (lv_at hl 0 rfl) ?_
  refine W.objInit hx hb F.1.o (F.1.t _ q281) (F.1.t _ q117) (F.1.t _ q118) rfl (by rw [F.1.ml]; exact hl.1) rfl dX4_init_1 (Nat.le_of_ble_eq_true rfl) (Nat.le_of_ble_eq_true rfl) ?_
  refine W.eq (g2 := F0 m 4 ls []) rfl ?_
  exact W.vret hx hb F.1.r (fun t ht hW => ⟨⟨_, rfl, hw, x_B (Bw := cB D A ad) ht hB⟩, hS.F ht⟩) hS.2.2 dX4_init_4 (hlocks := F.1.k)
set_option maxHeartbeats 4000000 in
theorem mX4_init {l : Launch} {D : DD} {A : Nat → Prop} {s0 : State} {ad : AD} {V : CV} {a0 : Nat} {Q : CV → Prop} (hw : wX4_init a0 V Q) : Met l yX4_init (ws_ yX4_init cX4_init 1 (none)) rX4_init (va_Pc [.ref a0] (fun U => cB D A ad V U.heap ∧ CX l D A s0 U)) (va_Qv Q (fun u t => cB D A ad u t.heap) A) 0 0 A := by
  refine Met.ofW (cc := cX4_init) (maxL := 1) (ret := none) (by decide) rfl ?_
  intro p e s m args below meth c s₁ B hml hv
  obtain ⟨rfl, hB, hC⟩ := hv
  have F : FX p l c cX4_init s _ m RX4 D A s0 1 meth (none) := ⟨mk_FP B hml rfl, hC⟩
  have hS : va_S A s.heap s.heap [] := va_S.rf
  have hin : meth.name = "<init>" := (name_of_methodNamed B.named B.method).1
  have hl := lv_entry ([.ref a0]) (n := 1) (Nat.le_of_ble_eq_true rfl)
  rw [lg_entry_eq]
  generalize (lg_sl ([.ref a0]) ++ List.replicate (1 - (lg_sl ([.ref a0])).length) Slot.unset).toArray = ls at hl ⊢
  exact bX4_init_0 F hin hB hS hw hl
theorem kX0_X4_init {p : Program} {l : Launch} {e : Env} {R : Room} {s : State} {m : MethodId} {args : Array Value} {below : List Frame} {meth : Method} {c : Code} {H : Heap} {locs : List Loc} {cells slots : Nat} {Q0 : State → Prop} {cc : ByteArray} {pc nL : Nat} {ls : Array Slot} {rest : List Value} {ret : Option FieldType} {D : DD} {A : Nat → Prop} {s0 : State} {ad : AD} {V : CV} {a0 : Nat} {Q : CV → Prop} (F : FX p l c cc s args m RX0 D A s0 nL meth ret) (hB : cB D A ad V H) (hS : va_S A s.heap H locs) (hw : wX4_init a0 V Q) (hR : rX4_init.frames + 1 ≤ R.frames ∧ 8 + (1 + 11) + rX4_init.locals ≤ R.locals) (hc : cells + 0 ≤ R.cells ∧ slots + 0 ≤ R.slots) (hsz : ls.size = nL) (hW : (rest.map fun v => v.category).sum ≤ 8) (hdg : decode cc pc = .ok (.invokespecial 79, 3)) (kk : ∀ (u : CV) (H1 : Heap) (locs1 : List Loc), Q u → cB D A ad u H1 → va_S A s.heap H1 locs1 → W p l e R s m args below meth c H1 locs1 cells slots Q0 (F0 m (pc + 3) ls (rest))) : W p l e R s m args below meth c H locs cells slots Q0 (F0 m pc ls (.ref a0 :: rest)) :=
  k_v (Bw := cB D A ad) (k_runIN (Bw := cB D A ad) (n := 0) (As := []) F hB hS (mX4_init hw) q278 q279 q90 q280 rfl (by decide +kernel) hR ⟨rfl, rfl⟩ hc rfl hsz rfl hW hdg) hS kk
def rX0_isWord : Room := { frames := 4, cells := 0, slots := 0, locals := 85 }
set_option maxHeartbeats 4000000 in
theorem bX0_isWord_60 {p : Program} {l : Launch} {e : Env} {s : State} {m : MethodId} {args : Array Value} {below : List Frame} {meth : Method} {c : Code} {D : DD} {A : Nat → Prop} {s0 : State} {ad : AD} {Q : Int32 → CV → Prop} {k_24 : Nat → Int32 → Int32 → CV → Prop} {l1 : Nat} {l3 : Int32} {k0 : Int32} {V : CV} {H : Heap} {locs : List Loc} {ls : Array Slot} (F : FX p l c cX0_isWord s args m RX0 D A s0 4 meth (some .boolean)) (h_24 : ∀ (l1 : Nat) (l2 : Int32) (l3 : Int32) (V : CV), l1 < 3 → k_24 l1 l2 l3 V → ∀ (H : Heap) (locs : List Loc) (ls : Array Slot), cB D A ad V H → va_S A s.heap H locs → lv_has ls 4 [(0, .ref (ad 0 0 0)), (1, .ref (sK s0 l1)), (2, .int l2), (3, .int l3)] → W p l e rX0_isWord s m args below meth c H locs 0 0 (MQ below (va_Qi Q (fun u t => cB D A ad u t.heap) A) args s 0 0 A) (F0 m 24 ls [])) (g_l1 : l1 < 3) (hB : cB D A ad V H) (hS : va_S A s.heap H locs) (hw : wX0_isWord_60 k_24 l1 l3 k0 V Q) (hl : lv_has ls 4 [(0, .ref (ad 0 0 0)), (1, .ref (sK s0 l1)), (3, .int l3)]) : W p l e rX0_isWord s m args below meth c H locs 0 0 (MQ below (va_Qi Q (fun u t => cB D A ad u t.heap) A) args s 0 0 A) (F0 m 60 ls [.int k0]) := by
  have hx := F.1.x
  have hb := F.1.b
  unfold wX0_isWord_60 at hw
  refine lv_istore_n (lv' := [(2, .int k0), (0, .ref (ad 0 0 0)), (1, .ref (sK s0 l1)), (3, .int l3)]) hx hb dX0_isWord_60 rfl hl (by decide) rfl (fun ls hl => ?_)
  refine lv_iinc (v := l3 + (1 : Int32)) (lv' := [(3, .int (l3 + (1 : Int32))), (2, .int k0), (0, .ref (ad 0 0 0)), (1, .ref (sK s0 l1))]) hx hb dX0_isWord_61 hl (k := 3) rfl (x_inc (by decide)) (by decide) rfl (fun ls hl => ?_)
  refine lv_goto (tgt := 24) hx hb dX0_isWord_64 (by decide) ?_
  exact h_24 _ _ _ _ g_l1 hw _ _ _ hB hS (lv_sub hl [2, 3, 1, 0] rfl)
set_option maxHeartbeats 4000000 in
theorem bX0_isWord_24 {p : Program} {l : Launch} {e : Env} {s : State} {m : MethodId} {args : Array Value} {below : List Frame} {meth : Method} {c : Code} {D : DD} {A : Nat → Prop} {s0 : State} {ad : AD} {Q : Int32 → CV → Prop} (F : FX p l c cX0_isWord s args m RX0 D A s0 4 meth (some .boolean)) : ∀ (n : Nat) (l1 : Nat) (l2 : Int32) (l3 : Int32) (V : CV), l1 < 3 → wX0_isWord_24 Q n l1 l2 l3 V → ∀ (H : Heap) (locs : List Loc) (ls : Array Slot), cB D A ad V H → va_S A s.heap H locs → lv_has ls 4 [(0, .ref (ad 0 0 0)), (1, .ref (sK s0 l1)), (2, .int l2), (3, .int l3)] → W p l e rX0_isWord s m args below meth c H locs 0 0 (MQ below (va_Qi Q (fun u t => cB D A ad u t.heap) A) args s 0 0 A) (F0 m 24 ls []) := by
  have hx := F.1.x
  have hb := F.1.b
  intro n
  induction n with
  | zero => intro l1 l2 l3 V g_l1 hw; exact hw.elim
  | succ n ih =>
    intro l1 l2 l3 V g_l1 hw H locs ls hB hS hl
    unfold wX0_isWord_24 at hw
    refine lv_iload_n hx hb dX0_isWord_24 rfl (lv_at hl 3 rfl) ?_
    refine lv_aload_n hx hb dX0_isWord_25 rfl (lv_at hl 1 rfl) ?_
    refine kX0_J4_length F hB hS hw ⟨Nat.le_of_ble_eq_true rfl, Nat.le_of_ble_eq_true rfl⟩ ⟨Nat.zero_le _, Nat.zero_le _⟩ hl.1 (Nat.le_of_ble_eq_true rfl) dX0_isWord_26 (fun r1 V2 H locs hw hB hS => ?_)
    refine lv_icmp_ge (tgt := 67) hx hb dX0_isWord_29 (by decide) (fun q => ?_) (fun q => ?_)
    · replace hw := hw.1 q
      refine lv_iload_n hx hb dX0_isWord_67 rfl (lv_at hl 2 rfl) ?_
      obtain ⟨hn, hw⟩ := hw
      exact W.zret hx hb F.1.r hn (fun t ht hW => ⟨⟨_, _, rfl, hw, x_B (Bw := cB D A ad) ht hB⟩, hS.F ht⟩) hS.2.2 dX0_isWord_68 (hlocks := F.1.k)
    · replace hw := hw.2 q
      refine lv_iload_n hx hb dX0_isWord_32 rfl (lv_at hl 2 rfl) ?_
      refine lv_if_eq (tgt := 67) hx hb dX0_isWord_33 (by decide) (fun q => ?_) (fun q => ?_)
      · replace hw := hw.1 q
        refine lv_iload_n hx hb dX0_isWord_67 rfl (lv_at hl 2 rfl) ?_
        obtain ⟨hn, hw⟩ := hw
        exact W.zret hx hb F.1.r hn (fun t ht hW => ⟨⟨_, _, rfl, hw, x_B (Bw := cB D A ad) ht hB⟩, hS.F ht⟩) hS.2.2 dX0_isWord_68 (hlocks := F.1.k)
      · replace hw := hw.2 q
        refine lv_aload_n hx hb dX0_isWord_36 rfl (lv_at hl 0 rfl) ?_
        refine cg_X0_60 F hB dX0_isWord_37 ?_
        refine lv_aload_n hx hb dX0_isWord_40 rfl (lv_at hl 0 rfl) ?_
        refine cg_X0_136 F hB dX0_isWord_41 ?_
        refine lv_iload_n hx hb dX0_isWord_44 rfl (lv_at hl 3 rfl) ?_
        refine lv_iadd hx hb dX0_isWord_45 ?_
        obtain ⟨hin3, hw⟩ := hw
        refine cl_5 F hB hin3 dX0_isWord_46 ?_
        refine lv_aload_n hx hb dX0_isWord_47 rfl (lv_at hl 1 rfl) ?_
        refine lv_iload_n hx hb dX0_isWord_48 rfl (lv_at hl 3 rfl) ?_
        refine kX0_J4_charAt F hB hS hw ⟨Nat.le_of_ble_eq_true rfl, Nat.le_of_ble_eq_true rfl⟩ ⟨Nat.zero_le _, Nat.zero_le _⟩ hl.1 (Nat.le_of_ble_eq_true rfl) dX0_isWord_49 (fun r4 V5 H locs hw hB hS => ?_)
        refine lv_icmp_ne (tgt := 59) hx hb dX0_isWord_52 (by decide) (fun q => ?_) (fun q => ?_)
        · replace hw := hw.2 q
          refine lv_iconst (v := 0) hx hb dX0_isWord_59 (by decide) ?_
          exact bX0_isWord_60 F ih g_l1 hB hS hw (lv_sub hl [0, 1, 3] rfl)
        · replace hw := hw.1 q
          refine lv_iconst (v := 1) hx hb dX0_isWord_55 (by decide) ?_
          refine lv_goto (tgt := 60) hx hb dX0_isWord_56 (by decide) ?_
          exact bX0_isWord_60 F ih g_l1 hB hS hw (lv_sub hl [0, 1, 3] rfl)
set_option maxHeartbeats 4000000 in
theorem bX0_isWord_21 {p : Program} {l : Launch} {e : Env} {s : State} {m : MethodId} {args : Array Value} {below : List Frame} {meth : Method} {c : Code} {D : DD} {A : Nat → Prop} {s0 : State} {ad : AD} {Q : Int32 → CV → Prop} {l1 : Nat} {k0 : Int32} {V : CV} {H : Heap} {locs : List Loc} {ls : Array Slot} (F : FX p l c cX0_isWord s args m RX0 D A s0 4 meth (some .boolean)) (g_l1 : l1 < 3) (hB : cB D A ad V H) (hS : va_S A s.heap H locs) (hw : wX0_isWord_21 l1 k0 V Q) (hl : lv_has ls 4 [(0, .ref (ad 0 0 0)), (1, .ref (sK s0 l1))]) : W p l e rX0_isWord s m args below meth c H locs 0 0 (MQ below (va_Qi Q (fun u t => cB D A ad u t.heap) A) args s 0 0 A) (F0 m 21 ls [.int k0]) := by
  have hx := F.1.x
  have hb := F.1.b
  unfold wX0_isWord_21 at hw
  refine lv_istore_n (lv' := [(2, .int k0), (0, .ref (ad 0 0 0)), (1, .ref (sK s0 l1))]) hx hb dX0_isWord_21 rfl hl (by decide) rfl (fun ls hl => ?_)
  refine lv_iconst (v := 0) hx hb dX0_isWord_22 (by decide) ?_
  refine lv_istore_n (lv' := [(3, .int (0 : Int32)), (2, .int k0), (0, .ref (ad 0 0 0)), (1, .ref (sK s0 l1))]) hx hb dX0_isWord_23 rfl hl (by decide) rfl (fun ls hl => ?_)
  obtain ⟨f_24, hw⟩ := hw
  exact bX0_isWord_24 F f_24 _ _ _ _ g_l1 hw _ _ _ hB hS (lv_sub hl [2, 3, 1, 0] rfl)
set_option maxHeartbeats 4000000 in
theorem bX0_isWord_0 {p : Program} {l : Launch} {e : Env} {s : State} {m : MethodId} {args : Array Value} {below : List Frame} {meth : Method} {c : Code} {D : DD} {A : Nat → Prop} {s0 : State} {ad : AD} {Q : Int32 → CV → Prop} {a1 : Nat} {V : CV} {H : Heap} {locs : List Loc} {ls : Array Slot} (F : FX p l c cX0_isWord s args m RX0 D A s0 4 meth (some .boolean)) (hB : cB D A ad V H) (hS : va_S A s.heap H locs) (hw : wX0_isWord a1 V Q) (hl : lv_has ls 4 [(0, .ref (ad 0 0 0)), (1, .ref (sK s0 a1))]) : W p l e rX0_isWord s m args below meth c H locs 0 0 (MQ below (va_Qi Q (fun u t => cB D A ad u t.heap) A) args s 0 0 A) (F0 m 0 ls []) := by
  have hx := F.1.x
  have hb := F.1.b
  unfold wX0_isWord at hw
  obtain ⟨g_a1, hw⟩ := hw
  refine lv_aload_n hx hb dX0_isWord_0 rfl (lv_at hl 0 rfl) ?_
  refine cg_X0_142 F hB dX0_isWord_1 ?_
  refine lv_aload_n hx hb dX0_isWord_4 rfl (lv_at hl 0 rfl) ?_
  refine cg_X0_136 F hB dX0_isWord_5 ?_
  refine lv_isub hx hb dX0_isWord_8 ?_
  refine lv_aload_n hx hb dX0_isWord_9 rfl (lv_at hl 1 rfl) ?_
  refine kX0_J4_length F hB hS hw ⟨Nat.le_of_ble_eq_true rfl, Nat.le_of_ble_eq_true rfl⟩ ⟨Nat.zero_le _, Nat.zero_le _⟩ hl.1 (Nat.le_of_ble_eq_true rfl) dX0_isWord_10 (fun r1 V2 H locs hw hB hS => ?_)
  refine lv_icmp_ne (tgt := 20) hx hb dX0_isWord_13 (by decide) (fun q => ?_) (fun q => ?_)
  · replace hw := hw.2 q
    refine lv_iconst (v := 0) hx hb dX0_isWord_20 (by decide) ?_
    exact bX0_isWord_21 F g_a1 hB hS hw hl
  · replace hw := hw.1 q
    refine lv_iconst (v := 1) hx hb dX0_isWord_16 (by decide) ?_
    refine lv_goto (tgt := 21) hx hb dX0_isWord_17 (by decide) ?_
    exact bX0_isWord_21 F g_a1 hB hS hw hl
set_option maxHeartbeats 4000000 in
theorem mX0_isWord {l : Launch} {D : DD} {A : Nat → Prop} {s0 : State} {ad : AD} {V : CV} {a1 : Nat} {Q : Int32 → CV → Prop} (hw : wX0_isWord a1 V Q) : Met l yX0_isWord (ws_ yX0_isWord cX0_isWord 4 (some .boolean)) rX0_isWord (va_Pc [.ref (ad 0 0 0), .ref (sK s0 a1)] (fun U => cB D A ad V U.heap ∧ CX l D A s0 U)) (va_Qi Q (fun u t => cB D A ad u t.heap) A) 0 0 A := by
  refine Met.ofW (cc := cX0_isWord) (maxL := 4) (ret := some .boolean) (by decide) rfl ?_
  intro p e s m args below meth c s₁ B hml hv
  obtain ⟨rfl, hB, hC⟩ := hv
  have F : FX p l c cX0_isWord s _ m RX0 D A s0 4 meth (some .boolean) := ⟨mk_FP B hml rfl, hC⟩
  have hS : va_S A s.heap s.heap [] := va_S.rf
  have hl := lv_entry ([.ref (ad 0 0 0), .ref (sK s0 a1)]) (n := 4) (Nat.le_of_ble_eq_true rfl)
  rw [lg_entry_eq]
  generalize (lg_sl ([.ref (ad 0 0 0), .ref (sK s0 a1)]) ++ List.replicate (4 - (lg_sl ([.ref (ad 0 0 0), .ref (sK s0 a1)])).length) Slot.unset).toArray = ls at hl ⊢
  exact bX0_isWord_0 F hB hS hw hl
theorem kX0_X0_isWord {p : Program} {l : Launch} {e : Env} {R : Room} {s : State} {m : MethodId} {args : Array Value} {below : List Frame} {meth : Method} {c : Code} {H : Heap} {locs : List Loc} {cells slots : Nat} {Q0 : State → Prop} {cc : ByteArray} {pc nL : Nat} {ls : Array Slot} {rest : List Value} {ret : Option FieldType} {D : DD} {A : Nat → Prop} {s0 : State} {ad : AD} {V : CV} {a1 : Nat} {Q : Int32 → CV → Prop} (F : FX p l c cc s args m RX0 D A s0 nL meth ret) (hB : cB D A ad V H) (hS : va_S A s.heap H locs) (hw : wX0_isWord a1 V Q) (hR : rX0_isWord.frames + 1 ≤ R.frames ∧ 8 + (4 + 11) + rX0_isWord.locals ≤ R.locals) (hc : cells + 0 ≤ R.cells ∧ slots + 0 ≤ R.slots) (hsz : ls.size = nL) (hW : (rest.map fun v => v.category).sum ≤ 8) (hdg : decode cc pc = .ok (.invokevirtual 218, 3)) (kk : ∀ (r : Int32) (u : CV) (H1 : Heap) (locs1 : List Loc), Q r u → cB D A ad u H1 → va_S A s.heap H1 locs1 → W p l e R s m args below meth c H1 locs1 cells slots Q0 (F0 m (pc + 3) ls (.int r :: rest))) : W p l e R s m args below meth c H locs cells slots Q0 (F0 m pc ls (.ref (sK s0 a1) :: .ref (ad 0 0 0) :: rest)) :=
  k_i (Bw := cB D A ad) (k_runV (Bw := cB D A ad) (n := 1) (As := [.ref (sK s0 a1)]) F hB hS (c_at F (hB.pic cpic0) rfl) (mX0_isWord hw) q420 q422 qs6 q83 q423 (by decide +kernel) hR ⟨rfl, rfl⟩ hc rfl hsz rfl hW hdg) hS kk
def rX4_isNumber : Room := { frames := 1, cells := 0, slots := 0, locals := 20 }
set_option maxHeartbeats 4000000 in
theorem bX4_isNumber_0 {p : Program} {l : Launch} {e : Env} {s : State} {m : MethodId} {args : Array Value} {below : List Frame} {meth : Method} {c : Code} {D : DD} {A : Nat → Prop} {s0 : State} {ad : AD} {Q : Int32 → CV → Prop} {a0 : Nat} {a1 : Int32} {V : CV} {H : Heap} {locs : List Loc} {ls : Array Slot} (F : FX p l c cX4_isNumber s args m RX4 D A s0 2 meth (some .boolean)) (hB : cB D A ad V H) (hS : va_S A s.heap H locs) (hw : wX4_isNumber a0 a1 V Q) (hl : lv_has ls 2 [(0, .ref a0), (1, .int a1)]) : W p l e rX4_isNumber s m args below meth c H locs 0 0 (MQ below (va_Qi Q (fun u t => cB D A ad u t.heap) A) args s 0 0 A) (F0 m 0 ls []) := by
  have hx := F.1.x
  have hb := F.1.b
  unfold wX4_isNumber at hw
  refine lv_aload_n hx hb dX4_isNumber_0 rfl (lv_at hl 0 rfl) ?_
  obtain ⟨f2, hm3, hw⟩ := hw
  refine kX4_X4_isFloats F hB hS hm3 hw ⟨Nat.le_of_ble_eq_true rfl, Nat.le_of_ble_eq_true rfl⟩ ⟨Nat.zero_le _, Nat.zero_le _⟩ hl.1 (Nat.le_of_ble_eq_true rfl) dX4_isNumber_1 (fun r1 V4 H locs hw hB hS => ?_)
  refine lv_if_eq (tgt := 29) hx hb dX4_isNumber_4 (by decide) (fun q => ?_) (fun q => ?_)
  · replace hw := hw.1 q
    refine lv_iconst (v := 1) hx hb dX4_isNumber_29 (by decide) ?_
    refine lv_goto (tgt := 34) hx hb dX4_isNumber_30 (by decide) ?_
    exact W.zret hx hb F.1.r rfl (fun t ht hW => ⟨⟨_, _, rfl, hw, x_B (Bw := cB D A ad) ht hB⟩, hS.F ht⟩) hS.2.2 dX4_isNumber_34 (hlocks := F.1.k)
  · replace hw := hw.2 q
    refine lv_aload_n hx hb dX4_isNumber_7 rfl (lv_at hl 0 rfl) ?_
    obtain ⟨f5, hm6, hw⟩ := hw
    refine cg_X4_7 F hB hm6 dX4_isNumber_8 ?_
    obtain ⟨y7, e8, hw⟩ := hw
    refine W.eq (g2 := F0 m 11 ls [.ref y7]) (congrArg (fun z => F0 m 11 ls [va_rf z]) e8) ?_
    obtain ⟨n9, f10, hm11, hw⟩ := hw
    refine dc_F F hB hm11 q1028 dX4_isNumber_11 ?_
    refine lv_iload_n hx hb dX4_isNumber_14 rfl (lv_at hl 1 rfl) ?_
    obtain ⟨hin12, hw⟩ := hw
    refine dl_F F hB hm11 hin12 dX4_isNumber_15 ?_
    refine lv_aload_n hx hb dX4_isNumber_16 rfl (lv_at hl 0 rfl) ?_
    refine cg_X4_7 F hB hm6 dX4_isNumber_17 ?_
    obtain ⟨y13, e14, hw⟩ := hw
    refine W.eq (g2 := F0 m 20 ls [.ref y13, .float (f10 a1.toNatClampNeg)]) (congrArg (fun z => F0 m 20 ls [va_rf z, .float (f10 a1.toNatClampNeg)]) e14) ?_
    obtain ⟨n15, f16, hm17, hw⟩ := hw
    refine dc_F F hB hm17 q1028 dX4_isNumber_20 ?_
    refine lv_iload_n hx hb dX4_isNumber_23 rfl (lv_at hl 1 rfl) ?_
    obtain ⟨hin18, hw⟩ := hw
    refine dl_F F hB hm17 hin18 dX4_isNumber_24 ?_
    refine lv_fcmp hx hb dX4_isNumber_25 ?_
    refine lv_if_ne (tgt := 33) hx hb dX4_isNumber_26 (by decide) (fun q => ?_) (fun q => ?_)
    · replace hw := hw.2 q
      refine lv_iconst (v := 0) hx hb dX4_isNumber_33 (by decide) ?_
      exact W.zret hx hb F.1.r rfl (fun t ht hW => ⟨⟨_, _, rfl, hw, x_B (Bw := cB D A ad) ht hB⟩, hS.F ht⟩) hS.2.2 dX4_isNumber_34 (hlocks := F.1.k)
    · replace hw := hw.1 q
      refine lv_iconst (v := 1) hx hb dX4_isNumber_29 (by decide) ?_
      refine lv_goto (tgt := 34) hx hb dX4_isNumber_30 (by decide) ?_
      exact W.zret hx hb F.1.r rfl (fun t ht hW => ⟨⟨_, _, rfl, hw, x_B (Bw := cB D A ad) ht hB⟩, hS.F ht⟩) hS.2.2 dX4_isNumber_34 (hlocks := F.1.k)
set_option maxHeartbeats 4000000 in
theorem mX4_isNumber {l : Launch} {D : DD} {A : Nat → Prop} {s0 : State} {ad : AD} {V : CV} {a0 : Nat} {a1 : Int32} {Q : Int32 → CV → Prop} (hw : wX4_isNumber a0 a1 V Q) : Met l yX4_isNumber (ws_ yX4_isNumber cX4_isNumber 2 (some .boolean)) rX4_isNumber (va_Pc [.ref a0, .int a1] (fun U => cB D A ad V U.heap ∧ CX l D A s0 U)) (va_Qi Q (fun u t => cB D A ad u t.heap) A) 0 0 A := by
  refine Met.ofW (cc := cX4_isNumber) (maxL := 2) (ret := some .boolean) (by decide) rfl ?_
  intro p e s m args below meth c s₁ B hml hv
  obtain ⟨rfl, hB, hC⟩ := hv
  have F : FX p l c cX4_isNumber s _ m RX4 D A s0 2 meth (some .boolean) := ⟨mk_FP B hml rfl, hC⟩
  have hS : va_S A s.heap s.heap [] := va_S.rf
  have hl := lv_entry ([.ref a0, .int a1]) (n := 2) (Nat.le_of_ble_eq_true rfl)
  rw [lg_entry_eq]
  generalize (lg_sl ([.ref a0, .int a1]) ++ List.replicate (2 - (lg_sl ([.ref a0, .int a1])).length) Slot.unset).toArray = ls at hl ⊢
  exact bX4_isNumber_0 F hB hS hw hl
theorem kX0_X4_isNumber {p : Program} {l : Launch} {e : Env} {R : Room} {s : State} {m : MethodId} {args : Array Value} {below : List Frame} {meth : Method} {c : Code} {H : Heap} {locs : List Loc} {cells slots : Nat} {Q0 : State → Prop} {cc : ByteArray} {pc nL : Nat} {ls : Array Slot} {rest : List Value} {ret : Option FieldType} {D : DD} {A : Nat → Prop} {s0 : State} {ad : AD} {V : CV} {a0 : Nat} {a1 : Int32} {Q : Int32 → CV → Prop} (F : FX p l c cc s args m RX0 D A s0 nL meth ret) (hB : cB D A ad V H) (hS : va_S A s.heap H locs) {fs : List Value} (hm : vM V a0 = some (.inr (4, fs))) (hw : wX4_isNumber a0 a1 V Q) (hR : rX4_isNumber.frames + 1 ≤ R.frames ∧ 8 + (2 + 11) + rX4_isNumber.locals ≤ R.locals) (hc : cells + 0 ≤ R.cells ∧ slots + 0 ≤ R.slots) (hsz : ls.size = nL) (hW : (rest.map fun v => v.category).sum ≤ 8) (hdg : decode cc pc = .ok (.invokevirtual 475, 3)) (kk : ∀ (r : Int32) (u : CV) (H1 : Heap) (locs1 : List Loc), Q r u → cB D A ad u H1 → va_S A s.heap H1 locs1 → W p l e R s m args below meth c H1 locs1 cells slots Q0 (F0 m (pc + 3) ls (.int r :: rest))) : W p l e R s m args below meth c H locs cells slots Q0 (F0 m pc ls (.int a1 :: .ref a0 :: rest)) :=
  k_i (Bw := cB D A ad) (k_runV (Bw := cB D A ad) (n := 1) (As := [.int a1]) F hB hS (c_at F (hB.dyn hm) rfl) (mX4_isNumber hw) q1046 q1047 q1048 q90 q1049 (by decide +kernel) hR ⟨rfl, rfl⟩ hc rfl hsz rfl hW hdg) hS kk
def rX4_at : Room := { frames := 1, cells := 0, slots := 0, locals := 20 }
set_option maxHeartbeats 4000000 in
theorem bX4_at_0 {p : Program} {l : Launch} {e : Env} {s : State} {m : MethodId} {args : Array Value} {below : List Frame} {meth : Method} {c : Code} {D : DD} {A : Nat → Prop} {s0 : State} {ad : AD} {Q : Int32 → CV → Prop} {a0 : Nat} {a1 : Int32} {V : CV} {H : Heap} {locs : List Loc} {ls : Array Slot} (F : FX p l c cX4_at s args m RX4 D A s0 2 meth (some .int)) (hB : cB D A ad V H) (hS : va_S A s.heap H locs) (hw : wX4_at a0 a1 V Q) (hl : lv_has ls 2 [(0, .ref a0), (1, .int a1)]) : W p l e rX4_at s m args below meth c H locs 0 0 (MQ below (va_Qi Q (fun u t => cB D A ad u t.heap) A) args s 0 0 A) (F0 m 0 ls []) := by
  have hx := F.1.x
  have hb := F.1.b
  unfold wX4_at at hw
  refine lv_aload_n hx hb dX4_at_0 rfl (lv_at hl 0 rfl) ?_
  obtain ⟨f2, hm3, hw⟩ := hw
  refine kX4_X4_isFloats F hB hS hm3 hw ⟨Nat.le_of_ble_eq_true rfl, Nat.le_of_ble_eq_true rfl⟩ ⟨Nat.zero_le _, Nat.zero_le _⟩ hl.1 (Nat.le_of_ble_eq_true rfl) dX4_at_1 (fun r1 V4 H locs hw hB hS => ?_)
  refine lv_if_eq (tgt := 20) hx hb dX4_at_4 (by decide) (fun q => ?_) (fun q => ?_)
  · replace hw := hw.1 q
    refine lv_aload_n hx hb dX4_at_20 rfl (lv_at hl 0 rfl) ?_
    obtain ⟨f5, hm6, hw⟩ := hw
    refine cg_X4_7 F hB hm6 dX4_at_21 ?_
    obtain ⟨y7, e8, hw⟩ := hw
    refine W.eq (g2 := F0 m 24 ls [.ref y7]) (congrArg (fun z => F0 m 24 ls [va_rf z]) e8) ?_
    obtain ⟨n9, f10, hm11, hw⟩ := hw
    refine dc_H F hB hm11 q1029 dX4_at_24 ?_
    refine lv_iload_n hx hb dX4_at_27 rfl (lv_at hl 1 rfl) ?_
    obtain ⟨hin12, hw⟩ := hw
    refine dl_H F hB hm11 hin12 dX4_at_28 ?_
    exact W.iret hx hb F.1.r (fun t ht hW => ⟨⟨_, _, rfl, hw, x_B (Bw := cB D A ad) ht hB⟩, hS.F ht⟩) hS.2.2 dX4_at_29 (hlocks := F.1.k)
  · replace hw := hw.2 q
    refine lv_aload_n hx hb dX4_at_7 rfl (lv_at hl 0 rfl) ?_
    obtain ⟨f13, hm14, hw⟩ := hw
    refine cg_X4_7 F hB hm14 dX4_at_8 ?_
    obtain ⟨y15, e16, hw⟩ := hw
    refine W.eq (g2 := F0 m 11 ls [.ref y15]) (congrArg (fun z => F0 m 11 ls [va_rf z]) e16) ?_
    obtain ⟨n17, f18, hm19, hw⟩ := hw
    refine dc_F F hB hm19 q1028 dX4_at_11 ?_
    refine lv_iload_n hx hb dX4_at_14 rfl (lv_at hl 1 rfl) ?_
    obtain ⟨hin20, hw⟩ := hw
    refine dl_F F hB hm19 hin20 dX4_at_15 ?_
    refine lv_f2i hx hb dX4_at_16 ?_
    refine lv_goto (tgt := 29) hx hb dX4_at_17 (by decide) ?_
    exact W.iret hx hb F.1.r (fun t ht hW => ⟨⟨_, _, rfl, hw, x_B (Bw := cB D A ad) ht hB⟩, hS.F ht⟩) hS.2.2 dX4_at_29 (hlocks := F.1.k)
set_option maxHeartbeats 4000000 in
theorem mX4_at {l : Launch} {D : DD} {A : Nat → Prop} {s0 : State} {ad : AD} {V : CV} {a0 : Nat} {a1 : Int32} {Q : Int32 → CV → Prop} (hw : wX4_at a0 a1 V Q) : Met l yX4_at (ws_ yX4_at cX4_at 2 (some .int)) rX4_at (va_Pc [.ref a0, .int a1] (fun U => cB D A ad V U.heap ∧ CX l D A s0 U)) (va_Qi Q (fun u t => cB D A ad u t.heap) A) 0 0 A := by
  refine Met.ofW (cc := cX4_at) (maxL := 2) (ret := some .int) (by decide) rfl ?_
  intro p e s m args below meth c s₁ B hml hv
  obtain ⟨rfl, hB, hC⟩ := hv
  have F : FX p l c cX4_at s _ m RX4 D A s0 2 meth (some .int) := ⟨mk_FP B hml rfl, hC⟩
  have hS : va_S A s.heap s.heap [] := va_S.rf
  have hl := lv_entry ([.ref a0, .int a1]) (n := 2) (Nat.le_of_ble_eq_true rfl)
  rw [lg_entry_eq]
  generalize (lg_sl ([.ref a0, .int a1]) ++ List.replicate (2 - (lg_sl ([.ref a0, .int a1])).length) Slot.unset).toArray = ls at hl ⊢
  exact bX4_at_0 F hB hS hw hl
theorem kX0_X4_at {p : Program} {l : Launch} {e : Env} {R : Room} {s : State} {m : MethodId} {args : Array Value} {below : List Frame} {meth : Method} {c : Code} {H : Heap} {locs : List Loc} {cells slots : Nat} {Q0 : State → Prop} {cc : ByteArray} {pc nL : Nat} {ls : Array Slot} {rest : List Value} {ret : Option FieldType} {D : DD} {A : Nat → Prop} {s0 : State} {ad : AD} {V : CV} {a0 : Nat} {a1 : Int32} {Q : Int32 → CV → Prop} (F : FX p l c cc s args m RX0 D A s0 nL meth ret) (hB : cB D A ad V H) (hS : va_S A s.heap H locs) {fs : List Value} (hm : vM V a0 = some (.inr (4, fs))) (hw : wX4_at a0 a1 V Q) (hR : rX4_at.frames + 1 ≤ R.frames ∧ 8 + (2 + 11) + rX4_at.locals ≤ R.locals) (hc : cells + 0 ≤ R.cells ∧ slots + 0 ≤ R.slots) (hsz : ls.size = nL) (hW : (rest.map fun v => v.category).sum ≤ 8) (hdg : decode cc pc = .ok (.invokevirtual 478, 3)) (kk : ∀ (r : Int32) (u : CV) (H1 : Heap) (locs1 : List Loc), Q r u → cB D A ad u H1 → va_S A s.heap H1 locs1 → W p l e R s m args below meth c H1 locs1 cells slots Q0 (F0 m (pc + 3) ls (.int r :: rest))) : W p l e R s m args below meth c H locs cells slots Q0 (F0 m pc ls (.int a1 :: .ref a0 :: rest)) :=
  k_i (Bw := cB D A ad) (k_runV (Bw := cB D A ad) (n := 1) (As := [.int a1]) F hB hS (c_at F (hB.dyn hm) rfl) (mX4_at hw) q1050 q1051 q1052 q90 q1053 (by decide +kernel) hR ⟨rfl, rfl⟩ hc rfl hsz rfl hW hdg) hS kk
def rX0_item : Room := { frames := 7, cells := 3, slots := 900, locals := 10300 }
set_option maxHeartbeats 4000000 in
theorem bX0_item_0 {p : Program} {l : Launch} {e : Env} {s : State} {m : MethodId} {args : Array Value} {below : List Frame} {meth : Method} {c : Code} {D : DD} {A : Nat → Prop} {s0 : State} {ad : AD} {Q : Int32 → CV → Prop} {a1 : Int32} {a2 : Int32} {V : CV} {ls : Array Slot} (F : FX p l c cX0_item s args m RX0 D A s0 5 meth (some .int)) (hnm : s.methodNamed? yX0_item = some m) (hB : cB D A ad V s.heap) (hS : va_S A s.heap s.heap []) (hw : wX0_item a1 a2 V Q) (hl : lv_has ls 5 [(0, .ref (ad 0 0 0)), (1, .int a1), (2, .int a2)]) : W p l e rX0_item s m args below meth c s.heap [] 0 0 (XMQ below (va_Qi Q (fun u t => cB D A ad u t.heap) A) args s 3 900 A) (F0 m 0 ls []) := by
  have hx := F.1.x
  have hb := F.1.b
  unfold wX0_item at hw
  refine lv_iload_n hx hb dX0_item_0 rfl (lv_at hl 1 rfl) ?_
  refine kX0_X0_isSlot F.1 hw ⟨Nat.le_of_ble_eq_true rfl, Nat.le_of_ble_eq_true rfl⟩ ⟨by show _ ≤ 3; omega, by show _ ≤ 900; omega⟩ hl.1 (Nat.le_of_ble_eq_true rfl) dX0_item_1 (fun r1 hw => ?_)
  refine lv_if_ne (tgt := 10) hx hb dX0_item_4 (by decide) (fun q => ?_) (fun q => ?_)
  · replace hw := hw.2 q
    refine lv_aload_n hx hb dX0_item_10 rfl (lv_at hl 0 rfl) ?_
    refine cg_X0_87 F hB dX0_item_11 ?_
    refine lv_iload_n hx hb dX0_item_14 rfl (lv_at hl 1 rfl) ?_
    obtain ⟨hin2, hw⟩ := hw
    refine cl_Sl F hB hin2 dX0_item_15 ?_
    refine cg_X0_505 F hB (x_lt hin2) dX0_item_16 ?_
    refine x_astore_n (lv' := [(3, va_rf (vHe V a1.toNatClampNeg)), (0, .ref (ad 0 0 0)), (1, .int a1), (2, .int a2)]) hx hb dX0_item_19 rfl hl (by decide) rfl (fun ls hl => ?_)
    refine x_aload_n hx hb dX0_item_20 rfl (lv_at hl 0 rfl) ?_
    refine x_ifnonnull (tgt := 28) hx hb dX0_item_21 (by decide) (fun q => ?_) (fun q => ?_)
    · replace hw := hw.2 q
      refine x_aload_n hx hb dX0_item_28 rfl (lv_at hl 0 rfl) ?_
      obtain ⟨y3, e4, hw⟩ := hw
      refine W.eq (g2 := F0 m 29 ls [.ref y3]) (congrArg (fun z => F0 m 29 ls [va_rf z]) e4) ?_
      rcases hw with ⟨c5, b6, hk7, hm8, hw⟩ | ⟨r9, hm8, hw⟩ | ⟨v10, hm8, hw⟩
      · refine dn_X4_spk F hB hk7 hm8 q275 hl.1 (Nat.le_of_ble_eq_true rfl) (Nat.le_of_ble_eq_true rfl) (Nat.le_of_ble_eq_true rfl) ⟨Nat.le_of_ble_eq_true rfl, Nat.le_of_ble_eq_true rfl⟩ dX0_item_29 (fun x H locs hB hS hK => ?_)
        refine wt_catch (C := "java/lang/ClassCastException") F.1 hnm (hs := [(28, 52, 75, 316), (53, 74, 75, 316)]) (pre := []) (rst := [(53, 74, 75, 316)]) (s1 := 28) (s2 := 52) (hpc := 75) (ct := 316) q1166 rfl (by decide) (by decide) (by decide) q713 hK ?_
        refine lv_astore (lv' := [(4, .ref x), (3, va_rf (vHe V a1.toNatClampNeg)), (0, .ref (ad 0 0 0)), (1, .int a1), (2, .int a2)]) hx hb dX0_item_75 hl (by decide) (by simp only [List.filter_cons, x_cat]; rfl) (fun ls hl => ?_)
        refine lv_ldcw hx hb F.1.o (F.1.t _ q743) dX0_item_77 ?_
        refine W.retX ?_
        exact W.iret hx hb F.1.r (fun t ht hW => ⟨⟨_, _, rfl, hw, x_B (Bw := cB D A ad) ht hB⟩, hS.F ht⟩) hS.2.2 dX0_item_80 (hlocks := F.1.k)
      · refine dc_X4 F hB hm8 q275 dX0_item_29 ?_
        refine lv_astore (lv' := [(4, .ref y3), (3, va_rf (vHe V a1.toNatClampNeg)), (0, .ref (ad 0 0 0)), (1, .int a1), (2, .int a2)]) hx hb dX0_item_32 hl (by decide) (by simp only [List.filter_cons, x_cat]; rfl) (fun ls hl => ?_)
        refine lv_iload_n hx hb dX0_item_34 rfl (lv_at hl 4 rfl) ?_
        refine lv_iconst (v := 0) hx hb dX0_item_35 (by decide) ?_
        refine lv_aload hx hb dX0_item_36 (lv_at hl 0 rfl) ?_
        refine kX0_X4_size F hB hS hm8 hw ⟨Nat.le_of_ble_eq_true rfl, Nat.le_of_ble_eq_true rfl⟩ ⟨by show _ ≤ 3; omega, by show _ ≤ 900; omega⟩ hl.1 (Nat.le_of_ble_eq_true rfl) dX0_item_38 (fun r11 V12 H locs hw hB hS => ?_)
        refine lv_iconst (v := 1) hx hb dX0_item_41 (by decide) ?_
        refine lv_isub hx hb dX0_item_42 ?_
        refine kX0_X0_isIn F.1 hw ⟨Nat.le_of_ble_eq_true rfl, Nat.le_of_ble_eq_true rfl⟩ ⟨by show _ ≤ 3; omega, by show _ ≤ 900; omega⟩ hl.1 (Nat.le_of_ble_eq_true rfl) dX0_item_43 (fun r13 hw => ?_)
        refine lv_if_ne (tgt := 53) hx hb dX0_item_46 (by decide) (fun q => ?_) (fun q => ?_)
        · replace hw := hw.2 q
          refine lv_aload hx hb dX0_item_53 (lv_at hl 0 rfl) ?_
          refine lv_iload_n hx hb dX0_item_55 rfl (lv_at hl 4 rfl) ?_
          obtain ⟨f15, hm16, hw⟩ := hw
          refine kX0_X4_isNumber F hB hS hm16 hw ⟨Nat.le_of_ble_eq_true rfl, Nat.le_of_ble_eq_true rfl⟩ ⟨by show _ ≤ 3; omega, by show _ ≤ 900; omega⟩ hl.1 (Nat.le_of_ble_eq_true rfl) dX0_item_56 (fun r14 V17 H locs hw hB hS => ?_)
          refine lv_if_eq (tgt := 71) hx hb dX0_item_59 (by decide) (fun q => ?_) (fun q => ?_)
          · replace hw := hw.1 q
            refine lv_ldcw hx hb F.1.o (F.1.t _ q743) dX0_item_71 ?_
            refine W.widen (k := 3) (n := 900) (by omega) (by omega) ?_
            refine W.retX ?_
            exact W.iret hx hb F.1.r (fun t ht hW => ⟨⟨_, _, rfl, hw, x_B (Bw := cB D A ad) ht hB⟩, hS.F ht⟩) hS.2.2 dX0_item_74 (hlocks := F.1.k)
          · replace hw := hw.2 q
            refine lv_aload hx hb dX0_item_62 (lv_at hl 0 rfl) ?_
            refine lv_iload_n hx hb dX0_item_64 rfl (lv_at hl 4 rfl) ?_
            obtain ⟨f19, hm20, hw⟩ := hw
            refine kX0_X4_at F hB hS hm20 hw ⟨Nat.le_of_ble_eq_true rfl, Nat.le_of_ble_eq_true rfl⟩ ⟨by show _ ≤ 3; omega, by show _ ≤ 900; omega⟩ hl.1 (Nat.le_of_ble_eq_true rfl) dX0_item_65 (fun r18 V21 H locs hw hB hS => ?_)
            refine lv_goto (tgt := 74) hx hb dX0_item_68 (by decide) ?_
            refine W.widen (k := 3) (n := 900) (by omega) (by omega) ?_
            refine W.retX ?_
            exact W.iret hx hb F.1.r (fun t ht hW => ⟨⟨_, _, rfl, hw, x_B (Bw := cB D A ad) ht hB⟩, hS.F ht⟩) hS.2.2 dX0_item_74 (hlocks := F.1.k)
        · replace hw := hw.1 q
          refine lv_ldcw hx hb F.1.o (F.1.t _ q1041) dX0_item_49 ?_
          refine W.widen (k := 3) (n := 900) (by omega) (by omega) ?_
          refine W.retX ?_
          exact W.iret hx hb F.1.r (fun t ht hW => ⟨⟨_, _, rfl, hw, x_B (Bw := cB D A ad) ht hB⟩, hS.F ht⟩) hS.2.2 dX0_item_52 (hlocks := F.1.k)
      · refine dn_X4_X15 F hB hm8 q275 hl.1 (Nat.le_of_ble_eq_true rfl) (Nat.le_of_ble_eq_true rfl) (Nat.le_of_ble_eq_true rfl) ⟨Nat.le_of_ble_eq_true rfl, Nat.le_of_ble_eq_true rfl⟩ dX0_item_29 (fun x H locs hB hS hK => ?_)
        refine wt_catch (C := "java/lang/ClassCastException") F.1 hnm (hs := [(28, 52, 75, 316), (53, 74, 75, 316)]) (pre := []) (rst := [(53, 74, 75, 316)]) (s1 := 28) (s2 := 52) (hpc := 75) (ct := 316) q1166 rfl (by decide) (by decide) (by decide) q713 hK ?_
        refine lv_astore (lv' := [(4, .ref x), (3, va_rf (vHe V a1.toNatClampNeg)), (0, .ref (ad 0 0 0)), (1, .int a1), (2, .int a2)]) hx hb dX0_item_75 hl (by decide) (by simp only [List.filter_cons, x_cat]; rfl) (fun ls hl => ?_)
        refine lv_ldcw hx hb F.1.o (F.1.t _ q743) dX0_item_77 ?_
        refine W.retX ?_
        exact W.iret hx hb F.1.r (fun t ht hW => ⟨⟨_, _, rfl, hw, x_B (Bw := cB D A ad) ht hB⟩, hS.F ht⟩) hS.2.2 dX0_item_80 (hlocks := F.1.k)
    · replace hw := hw.1 q
      refine lv_ldcw hx hb F.1.o (F.1.t _ q1019) dX0_item_24 ?_
      refine W.widen (k := 3) (n := 900) (by omega) (by omega) ?_
      refine W.retX ?_
      exact W.iret hx hb F.1.r (fun t ht hW => ⟨⟨_, _, rfl, hw, x_B (Bw := cB D A ad) ht hB⟩, hS.F ht⟩) hS.2.2 dX0_item_27 (hlocks := F.1.k)
  · replace hw := hw.1 q
    refine lv_ldc hx hb F.1.o (F.1.t _ q392) dX0_item_7 ?_
    refine W.widen (k := 3) (n := 900) (by omega) (by omega) ?_
    refine W.retX ?_
    exact W.iret hx hb F.1.r (fun t ht hW => ⟨⟨_, _, rfl, hw, x_B (Bw := cB D A ad) ht hB⟩, hS.F ht⟩) hS.2.2 dX0_item_9 (hlocks := F.1.k)
set_option maxHeartbeats 4000000 in
theorem mX0_item {l : Launch} {D : DD} {A : Nat → Prop} {s0 : State} {ad : AD} {V : CV} {a1 : Int32} {a2 : Int32} {Q : Int32 → CV → Prop} (hw : wX0_item a1 a2 V Q) : MetY l yX0_item (wsW_ yX0_item cX0_item 5 (some .int) [(28, 52, 75, 316), (53, 74, 75, 316)]) rX0_item (va_Pc [.ref (ad 0 0 0), .int a1, .int a2] (fun U => cB D A ad V U.heap ∧ CX l D A s0 U)) (va_Qi Q (fun u t => cB D A ad u t.heap) A) 3 900 A := by
  refine MetY.ofWW (cc := cX0_item) (maxL := 5) (ret := some .int) (by decide) ?_
  intro p e s m args below meth c F1 hnm _ hv
  obtain ⟨rfl, hB, hC⟩ := hv
  have F : FX p l c cX0_item s _ m RX0 D A s0 5 meth (some .int) := ⟨F1, hC⟩
  have hS : va_S A s.heap s.heap [] := va_S.rf
  have hl := lv_entry ([.ref (ad 0 0 0), .int a1, .int a2]) (n := 5) (Nat.le_of_ble_eq_true rfl)
  rw [lg_entry_eq]
  generalize (lg_sl ([.ref (ad 0 0 0), .int a1, .int a2]) ++ List.replicate (5 - (lg_sl ([.ref (ad 0 0 0), .int a1, .int a2])).length) Slot.unset).toArray = ls at hl ⊢
  exact bX0_item_0 F hnm hB hS hw hl
def rX0_keep : Room := { frames := 8, cells := 13, slots := 13, locals := 284 }
set_option maxHeartbeats 4000000 in
theorem bX0_keep_0 {p : Program} {l : Launch} {e : Env} {s : State} {m : MethodId} {args : Array Value} {below : List Frame} {meth : Method} {c : Code} {D : DD} {A : Nat → Prop} {s0 : State} {ad : AD} {Q : Int32 → CV → Prop} {V : CV} {H : Heap} {locs : List Loc} {ls : Array Slot} (F : FX p l c cX0_keep s args m RX0 D A s0 1 meth (some .int)) (hB : cB D A ad V H) (hS : va_S A s.heap H locs) (hw : wX0_keep V Q) (hl : lv_has ls 1 [(0, .ref (ad 0 0 0))]) : W p l e rX0_keep s m args below meth c H locs 0 0 (MQ below (va_Qi Q (fun u t => cB D A ad u t.heap) A) args s 13 13 A) (F0 m 0 ls []) := by
  have hx := F.1.x
  have hb := F.1.b
  unfold wX0_keep at hw
  refine lv_aload_n hx hb dX0_keep_0 rfl (lv_at hl 0 rfl) ?_
  refine cg_X0_50 F hB dX0_keep_1 ?_
  refine lv_aload_n hx hb dX0_keep_4 rfl (lv_at hl 0 rfl) ?_
  refine cg_X0_46 F hB dX0_keep_5 ?_
  refine kX0_X1_copyOf F hB hS hw ⟨Nat.le_of_ble_eq_true rfl, Nat.le_of_ble_eq_true rfl⟩ ⟨by show _ ≤ 13; omega, by show _ ≤ 13; omega⟩ hl.1 (Nat.le_of_ble_eq_true rfl) dX0_keep_8 (fun V2 H locs hw hB hS => ?_)
  refine lv_aload_n hx hb dX0_keep_11 rfl (lv_at hl 0 rfl) ?_
  refine lv_iconst (v := 1) hx hb dX0_keep_12 (by decide) ?_
  refine cp_X0_519 F hB hS rfl rfl dX0_keep_13 (fun H locs hB hS => ?_)
  refine lv_aload_n hx hb dX0_keep_16 rfl (lv_at hl 0 rfl) ?_
  refine cg_X0_46 F hB dX0_keep_17 ?_
  refine cg_X0_101 F hB (by decide) dX0_keep_20 ?_
  exact W.iret hx hb F.1.r (fun t ht hW => ⟨⟨_, _, rfl, hw, x_B (Bw := cB D A ad) ht hB⟩, hS.F ht⟩) hS.2.2 dX0_keep_23 (hlocks := F.1.k)
set_option maxHeartbeats 4000000 in
theorem mX0_keep {l : Launch} {D : DD} {A : Nat → Prop} {s0 : State} {ad : AD} {V : CV}  {Q : Int32 → CV → Prop} (hw : wX0_keep V Q) : Met l yX0_keep (ws_ yX0_keep cX0_keep 1 (some .int)) rX0_keep (va_Pc [.ref (ad 0 0 0)] (fun U => cB D A ad V U.heap ∧ CX l D A s0 U)) (va_Qi Q (fun u t => cB D A ad u t.heap) A) 13 13 A := by
  refine Met.ofW (cc := cX0_keep) (maxL := 1) (ret := some .int) (by decide) rfl ?_
  intro p e s m args below meth c s₁ B hml hv
  obtain ⟨rfl, hB, hC⟩ := hv
  have F : FX p l c cX0_keep s _ m RX0 D A s0 1 meth (some .int) := ⟨mk_FP B hml rfl, hC⟩
  have hS : va_S A s.heap s.heap [] := va_S.rf
  have hl := lv_entry ([.ref (ad 0 0 0)]) (n := 1) (Nat.le_of_ble_eq_true rfl)
  rw [lg_entry_eq]
  generalize (lg_sl ([.ref (ad 0 0 0)]) ++ List.replicate (1 - (lg_sl ([.ref (ad 0 0 0)])).length) Slot.unset).toArray = ls at hl ⊢
  exact bX0_keep_0 F hB hS hw hl
def rX0_key : Room := { frames := 5, cells := 0, slots := 0, locals := 108 }
set_option maxHeartbeats 4000000 in
theorem bX0_key_50 {p : Program} {l : Launch} {e : Env} {s : State} {m : MethodId} {args : Array Value} {below : List Frame} {meth : Method} {c : Code} {D : DD} {A : Nat → Prop} {s0 : State} {ad : AD} {Q : Int32 → CV → Prop} {E : CV → Prop} {l1 : Int32} {V : CV} {H : Heap} {locs : List Loc} {ls : Array Slot} (F : FX p l c cX0_key s args m RX0 D A s0 2 meth (some .int)) (hnm : s.methodNamed? yX0_key = some m) (hB : cB D A ad V H) (hS : va_S A s.heap H locs) (hw : wX0_key_50 l1 V Q E) (hl : lv_has ls 2 [(0, .ref (ad 0 0 0)), (1, .int l1)]) : W p l e rX0_key s m args below meth c H locs 0 0 (XMQ below (yQ (va_Qi Q (fun u t => cB D A ad u t.heap) A) E (fun x t => x = ad 6 0 0) (fun u t => cB D A ad u t.heap) A) args s 0 0 A) (F0 m 50 ls []) := by
  have hx := F.1.x
  have hb := F.1.b
  unfold wX0_key_50 at hw
  refine lv_aload_n hx hb dX0_key_50 rfl (lv_at hl 0 rfl) ?_
  refine kX0_X0_goes F hB hS hw ⟨Nat.le_of_ble_eq_true rfl, Nat.le_of_ble_eq_true rfl⟩ ⟨Nat.zero_le _, Nat.zero_le _⟩ hl.1 (Nat.le_of_ble_eq_true rfl) dX0_key_51 (fun V2 H locs hw hB hS => ?_) (fun V2 H locs hw hB hS => ?_)
  · skip
    refine lv_iload_n hx hb dX0_key_54 rfl (lv_at hl 1 rfl) ?_
    refine W.retY ?_
    exact W.iret hx hb F.1.r (fun t ht hW => ⟨⟨_, _, rfl, hw, x_B (Bw := cB D A ad) ht hB⟩, hS.F ht⟩) hS.2.2 dX0_key_55 (hlocks := F.1.k)
  · skip
    exact wt_out (Bw := cB D A ad) F.1 hnm q418 hw (fun t _ _ => rfl) hB hS
set_option maxHeartbeats 4000000 in
theorem bX0_key_40 {p : Program} {l : Launch} {e : Env} {s : State} {m : MethodId} {args : Array Value} {below : List Frame} {meth : Method} {c : Code} {D : DD} {A : Nat → Prop} {s0 : State} {ad : AD} {Q : Int32 → CV → Prop} {E : CV → Prop} {k0 : Int32} {V : CV} {H : Heap} {locs : List Loc} {ls : Array Slot} (F : FX p l c cX0_key s args m RX0 D A s0 2 meth (some .int)) (hnm : s.methodNamed? yX0_key = some m) (hB : cB D A ad V H) (hS : va_S A s.heap H locs) (hw : wX0_key_40 k0 V Q E) (hl : lv_has ls 2 [(0, .ref (ad 0 0 0))]) : W p l e rX0_key s m args below meth c H locs 0 0 (XMQ below (yQ (va_Qi Q (fun u t => cB D A ad u t.heap) A) E (fun x t => x = ad 6 0 0) (fun u t => cB D A ad u t.heap) A) args s 0 0 A) (F0 m 40 ls [.int k0]) := by
  have hx := F.1.x
  have hb := F.1.b
  unfold wX0_key_40 at hw
  refine lv_istore_n (lv' := [(1, .int k0), (0, .ref (ad 0 0 0))]) hx hb dX0_key_40 rfl hl (by decide) rfl (fun ls hl => ?_)
  refine lv_iload_n hx hb dX0_key_41 rfl (lv_at hl 0 rfl) ?_
  refine lv_iconst (v := -1) hx hb dX0_key_42 (by decide) ?_
  refine lv_icmp_ne (tgt := 50) hx hb dX0_key_43 (by decide) (fun q => ?_) (fun q => ?_)
  · replace hw := hw.2 q
    exact bX0_key_50 F hnm hB hS hw (lv_sub hl [1, 0] rfl)
  · replace hw := hw.1 q
    refine lv_aload_n hx hb dX0_key_46 rfl (lv_at hl 1 rfl) ?_
    refine kX0_X0_wrong F hB hS hw ⟨Nat.le_of_ble_eq_true rfl, Nat.le_of_ble_eq_true rfl⟩ ⟨Nat.zero_le _, Nat.zero_le _⟩ hl.1 (Nat.le_of_ble_eq_true rfl) dX0_key_47 (fun V2 H locs hw hB hS => ?_) (fun V2 H locs hw hB hS => ?_)
    · skip
      exact bX0_key_50 F hnm hB hS hw (lv_sub hl [1, 0] rfl)
    · skip
      exact wt_out (Bw := cB D A ad) F.1 hnm q418 hw (fun t _ _ => rfl) hB hS
set_option maxHeartbeats 4000000 in
theorem bX0_key_0 {p : Program} {l : Launch} {e : Env} {s : State} {m : MethodId} {args : Array Value} {below : List Frame} {meth : Method} {c : Code} {D : DD} {A : Nat → Prop} {s0 : State} {ad : AD} {Q : Int32 → CV → Prop} {E : CV → Prop} {V : CV} {H : Heap} {locs : List Loc} {ls : Array Slot} (F : FX p l c cX0_key s args m RX0 D A s0 2 meth (some .int)) (hnm : s.methodNamed? yX0_key = some m) (hB : cB D A ad V H) (hS : va_S A s.heap H locs) (hw : wX0_key V Q E) (hl : lv_has ls 2 [(0, .ref (ad 0 0 0))]) : W p l e rX0_key s m args below meth c H locs 0 0 (XMQ below (yQ (va_Qi Q (fun u t => cB D A ad u t.heap) A) E (fun x t => x = ad 6 0 0) (fun u t => cB D A ad u t.heap) A) args s 0 0 A) (F0 m 0 ls []) := by
  have hx := F.1.x
  have hb := F.1.b
  unfold wX0_key at hw
  refine lv_aload_n hx hb dX0_key_0 rfl (lv_at hl 0 rfl) ?_
  refine va_ldcS hx hb F.1.o (F.2.strR (i := 0) (by decide)) dX0_key_1 ?_
  refine kX0_X0_isWord F hB hS hw ⟨Nat.le_of_ble_eq_true rfl, Nat.le_of_ble_eq_true rfl⟩ ⟨Nat.zero_le _, Nat.zero_le _⟩ hl.1 (Nat.le_of_ble_eq_true rfl) dX0_key_3 (fun r1 V2 H locs hw hB hS => ?_)
  refine lv_if_eq (tgt := 13) hx hb dX0_key_6 (by decide) (fun q => ?_) (fun q => ?_)
  · replace hw := hw.1 q
    refine lv_aload_n hx hb dX0_key_13 rfl (lv_at hl 0 rfl) ?_
    refine va_ldcS hx hb F.1.o (F.2.strR (i := 1) (by decide)) dX0_key_14 ?_
    refine kX0_X0_isWord F hB hS hw ⟨Nat.le_of_ble_eq_true rfl, Nat.le_of_ble_eq_true rfl⟩ ⟨Nat.zero_le _, Nat.zero_le _⟩ hl.1 (Nat.le_of_ble_eq_true rfl) dX0_key_16 (fun r3 V4 H locs hw hB hS => ?_)
    refine lv_if_eq (tgt := 26) hx hb dX0_key_19 (by decide) (fun q => ?_) (fun q => ?_)
    · replace hw := hw.1 q
      refine lv_aload_n hx hb dX0_key_26 rfl (lv_at hl 0 rfl) ?_
      refine va_ldcS hx hb F.1.o (F.2.strR (i := 2) (by decide)) dX0_key_27 ?_
      refine kX0_X0_isWord F hB hS hw ⟨Nat.le_of_ble_eq_true rfl, Nat.le_of_ble_eq_true rfl⟩ ⟨Nat.zero_le _, Nat.zero_le _⟩ hl.1 (Nat.le_of_ble_eq_true rfl) dX0_key_29 (fun r5 V6 H locs hw hB hS => ?_)
      refine lv_if_eq (tgt := 39) hx hb dX0_key_32 (by decide) (fun q => ?_) (fun q => ?_)
      · replace hw := hw.1 q
        refine lv_iconst (v := -1) hx hb dX0_key_39 (by decide) ?_
        exact bX0_key_40 F hnm hB hS hw hl
      · replace hw := hw.2 q
        refine lv_iconst (v := 2) hx hb dX0_key_35 (by decide) ?_
        refine lv_goto (tgt := 40) hx hb dX0_key_36 (by decide) ?_
        exact bX0_key_40 F hnm hB hS hw hl
    · replace hw := hw.2 q
      refine lv_iconst (v := 1) hx hb dX0_key_22 (by decide) ?_
      refine lv_goto (tgt := 40) hx hb dX0_key_23 (by decide) ?_
      exact bX0_key_40 F hnm hB hS hw hl
  · replace hw := hw.2 q
    refine lv_iconst (v := 0) hx hb dX0_key_9 (by decide) ?_
    refine lv_goto (tgt := 40) hx hb dX0_key_10 (by decide) ?_
    exact bX0_key_40 F hnm hB hS hw hl
set_option maxHeartbeats 4000000 in
theorem mX0_key {l : Launch} {D : DD} {A : Nat → Prop} {s0 : State} {ad : AD} {V : CV}  {Q : Int32 → CV → Prop} {E : CV → Prop} (hw : wX0_key V Q E) : MetY l yX0_key (ws_ yX0_key cX0_key 2 (some .int)) rX0_key (va_Pc [.ref (ad 0 0 0)] (fun U => cB D A ad V U.heap ∧ CX l D A s0 U)) (yQ (va_Qi Q (fun u t => cB D A ad u t.heap) A) E (fun x t => x = ad 6 0 0) (fun u t => cB D A ad u t.heap) A) 0 0 A := by
  refine MetY.ofW (cc := cX0_key) (maxL := 2) (ret := some .int) (by decide) ?_
  intro p e s m args below meth c F1 hnm _ hv
  obtain ⟨rfl, hB, hC⟩ := hv
  have F : FX p l c cX0_key s _ m RX0 D A s0 2 meth (some .int) := ⟨F1, hC⟩
  have hS : va_S A s.heap s.heap [] := va_S.rf
  have hl := lv_entry ([.ref (ad 0 0 0)]) (n := 2) (Nat.le_of_ble_eq_true rfl)
  rw [lg_entry_eq]
  generalize (lg_sl ([.ref (ad 0 0 0)]) ++ List.replicate (2 - (lg_sl ([.ref (ad 0 0 0)])).length) Slot.unset).toArray = ls at hl ⊢
  exact bX0_key_0 F hnm hB hS hw hl
theorem kX0_X0_key {p : Program} {l : Launch} {e : Env} {R : Room} {s : State} {m : MethodId} {args : Array Value} {below : List Frame} {meth : Method} {c : Code} {H : Heap} {locs : List Loc} {cells slots : Nat} {Q0 : State → Prop} {cc : ByteArray} {pc nL : Nat} {ls : Array Slot} {rest : List Value} {ret : Option FieldType} {D : DD} {A : Nat → Prop} {s0 : State} {ad : AD} {V : CV} {Q : Int32 → CV → Prop} {E : CV → Prop} (F : FX p l c cc s args m RX0 D A s0 nL meth ret) (hB : cB D A ad V H) (hS : va_S A s.heap H locs) (hw : wX0_key V Q E) (hR : rX0_key.frames + 1 ≤ R.frames ∧ 8 + (2 + 11) + rX0_key.locals ≤ R.locals) (hc : cells + 0 ≤ R.cells ∧ slots + 0 ≤ R.slots) (hsz : ls.size = nL) (hW : (rest.map fun v => v.category).sum ≤ 8) (hdg : decode cc pc = .ok (.invokevirtual 226, 3)) (kk : ∀ (r : Int32) (u : CV) (H1 : Heap) (locs1 : List Loc), Q r u → cB D A ad u H1 → va_S A s.heap H1 locs1 → W p l e R s m args below meth c H1 locs1 cells slots Q0 (F0 m (pc + 3) ls (.int r :: rest))) (ke : ∀ (u : CV) (H1 : Heap) (locs1 : List Loc), E u → cB D A ad u H1 → va_S A s.heap H1 locs1 → WT p l e R s m args below meth c H1 locs1 cells slots Q0 (F0 m pc ls rest) (ad 6 0 0)) : W p l e R s m args below meth c H locs cells slots Q0 (F0 m pc ls (.ref (ad 0 0 0) :: rest)) :=
  k_iY (Bw := cB D A ad) (k_runVY (Bw := cB D A ad) (n := 0) (As := []) F hB hS (c_at F (hB.pic cpic0) rfl) (mX0_key hw) codeOf (lw_meth q418) q415 q417 qs5 (by decide +kernel) hR ⟨rfl, rfl⟩ hc rfl hsz rfl hW hdg) hS kk (fun x u H1 locs1 hE hK hB hS => by
    obtain ⟨t, h1, h2, h3⟩ := hK
    subst h3
    exact ke u H1 locs1 hE hB hS)
def rX5_thing : Room := { frames := 0, cells := 0, slots := 0, locals := 0 }
set_option maxHeartbeats 4000000 in
theorem bX5_thing_0 {p : Program} {l : Launch} {e : Env} {s : State} {m : MethodId} {args : Array Value} {below : List Frame} {meth : Method} {c : Code} {D : DD} {A : Nat → Prop} {s0 : State} {ad : AD} {Q : Int32 → CV → Prop} {a0 : Nat} {V : CV} {H : Heap} {locs : List Loc} {ls : Array Slot} (F : FX p l c cX5_thing s args m RX5 D A s0 1 meth (some .int)) (hB : cB D A ad V H) (hS : va_S A s.heap H locs) (hw : wX5_thing a0 V Q) (hl : lv_has ls 1 [(0, .ref (ad 5 a0 0))]) : W p l e rX5_thing s m args below meth c H locs 0 0 (MQ below (va_Qi Q (fun u t => cB D A ad u t.heap) A) args s 0 0 A) (F0 m 0 ls []) := by
  have hx := F.1.x
  have hb := F.1.b
  unfold wX5_thing at hw
  obtain ⟨g_a0, hw⟩ := hw
  refine lv_aload_n hx hb dX5_thing_0 rfl (lv_at hl 0 rfl) ?_
  refine cg_X5_7 F hB g_a0 dX5_thing_1 ?_
  refine x_ifnonnull (tgt := 11) hx hb dX5_thing_4 (by decide) (fun q => ?_) (fun q => ?_)
  · replace hw := hw.2 q
    refine lv_aload_n hx hb dX5_thing_11 rfl (lv_at hl 0 rfl) ?_
    refine cg_X5_7 F hB g_a0 dX5_thing_12 ?_
    rcases hw with hw | hw | hw | hw
    · obtain ⟨e1, hw⟩ := hw
      refine W.eq (g2 := F0 m 15 ls [.null]) (congrArg (fun z => F0 m 15 ls [va_rf z]) e1) ?_
      refine lv_instN hx hb dX5_thing_15 ?_
      refine lv_if_eq (tgt := 25) hx hb dX5_thing_18 (by decide) (fun q => ?_) (fun q => ?_)
      · replace hw := hw.1 q
        refine lv_aload_n hx hb dX5_thing_25 rfl (lv_at hl 0 rfl) ?_
        refine cg_X5_7 F hB g_a0 dX5_thing_26 ?_
        rcases hw with hw | hw | hw | hw
        · obtain ⟨e2, hw⟩ := hw
          refine W.eq (g2 := F0 m 29 ls [.null]) (congrArg (fun z => F0 m 29 ls [va_rf z]) e2) ?_
          refine lv_instN hx hb dX5_thing_29 ?_
          refine lv_if_eq (tgt := 39) hx hb dX5_thing_32 (by decide) (fun q => ?_) (fun q => ?_)
          · replace hw := hw.1 q
            refine lv_iconst (v := 3) hx hb dX5_thing_39 (by decide) ?_
            exact W.iret hx hb F.1.r (fun t ht hW => ⟨⟨_, _, rfl, hw, x_B (Bw := cB D A ad) ht hB⟩, hS.F ht⟩) hS.2.2 dX5_thing_40 (hlocks := F.1.k)
          · replace hw := hw.2 q
            refine lv_iconst (v := 2) hx hb dX5_thing_35 (by decide) ?_
            refine lv_goto (tgt := 40) hx hb dX5_thing_36 (by decide) ?_
            exact W.iret hx hb F.1.r (fun t ht hW => ⟨⟨_, _, rfl, hw, x_B (Bw := cB D A ad) ht hB⟩, hS.F ht⟩) hS.2.2 dX5_thing_40 (hlocks := F.1.k)
        · obtain ⟨y7, c3, b4, e8, hk6, hm5, hw⟩ := hw
          refine W.eq (g2 := F0 m 29 ls [.ref y7]) (congrArg (fun z => F0 m 29 ls [va_rf z]) e8) ?_
          refine di_X4_spk F hB hk6 hm5 q1079 dX5_thing_29 ?_
          refine lv_if_eq (tgt := 39) hx hb dX5_thing_32 (by decide) (fun q => ?_) (fun q => ?_)
          · replace hw := hw.1 q
            refine lv_iconst (v := 3) hx hb dX5_thing_39 (by decide) ?_
            exact W.iret hx hb F.1.r (fun t ht hW => ⟨⟨_, _, rfl, hw, x_B (Bw := cB D A ad) ht hB⟩, hS.F ht⟩) hS.2.2 dX5_thing_40 (hlocks := F.1.k)
          · replace hw := hw.2 q
            refine lv_iconst (v := 2) hx hb dX5_thing_35 (by decide) ?_
            refine lv_goto (tgt := 40) hx hb dX5_thing_36 (by decide) ?_
            exact W.iret hx hb F.1.r (fun t ht hW => ⟨⟨_, _, rfl, hw, x_B (Bw := cB D A ad) ht hB⟩, hS.F ht⟩) hS.2.2 dX5_thing_40 (hlocks := F.1.k)
        · obtain ⟨y12, r9, e13, hm10, hw⟩ := hw
          refine W.eq (g2 := F0 m 29 ls [.ref y12]) (congrArg (fun z => F0 m 29 ls [va_rf z]) e13) ?_
          refine di_X4_X4 F hB hm10 q1079 dX5_thing_29 ?_
          refine lv_if_eq (tgt := 39) hx hb dX5_thing_32 (by decide) (fun q => ?_) (fun q => ?_)
          · replace hw := hw.1 q
            refine lv_iconst (v := 3) hx hb dX5_thing_39 (by decide) ?_
            exact W.iret hx hb F.1.r (fun t ht hW => ⟨⟨_, _, rfl, hw, x_B (Bw := cB D A ad) ht hB⟩, hS.F ht⟩) hS.2.2 dX5_thing_40 (hlocks := F.1.k)
          · replace hw := hw.2 q
            refine lv_iconst (v := 2) hx hb dX5_thing_35 (by decide) ?_
            refine lv_goto (tgt := 40) hx hb dX5_thing_36 (by decide) ?_
            exact W.iret hx hb F.1.r (fun t ht hW => ⟨⟨_, _, rfl, hw, x_B (Bw := cB D A ad) ht hB⟩, hS.F ht⟩) hS.2.2 dX5_thing_40 (hlocks := F.1.k)
        · obtain ⟨y17, v14, e18, hm15, hw⟩ := hw
          refine W.eq (g2 := F0 m 29 ls [.ref y17]) (congrArg (fun z => F0 m 29 ls [va_rf z]) e18) ?_
          refine di_X4_X15 F hB hm15 q1079 dX5_thing_29 ?_
          refine lv_if_eq (tgt := 39) hx hb dX5_thing_32 (by decide) (fun q => ?_) (fun q => ?_)
          · replace hw := hw.1 q
            refine lv_iconst (v := 3) hx hb dX5_thing_39 (by decide) ?_
            exact W.iret hx hb F.1.r (fun t ht hW => ⟨⟨_, _, rfl, hw, x_B (Bw := cB D A ad) ht hB⟩, hS.F ht⟩) hS.2.2 dX5_thing_40 (hlocks := F.1.k)
          · replace hw := hw.2 q
            refine lv_iconst (v := 2) hx hb dX5_thing_35 (by decide) ?_
            refine lv_goto (tgt := 40) hx hb dX5_thing_36 (by decide) ?_
            exact W.iret hx hb F.1.r (fun t ht hW => ⟨⟨_, _, rfl, hw, x_B (Bw := cB D A ad) ht hB⟩, hS.F ht⟩) hS.2.2 dX5_thing_40 (hlocks := F.1.k)
      · replace hw := hw.2 q
        refine lv_iconst (v := 1) hx hb dX5_thing_21 (by decide) ?_
        refine lv_goto (tgt := 40) hx hb dX5_thing_22 (by decide) ?_
        exact W.iret hx hb F.1.r (fun t ht hW => ⟨⟨_, _, rfl, hw, x_B (Bw := cB D A ad) ht hB⟩, hS.F ht⟩) hS.2.2 dX5_thing_40 (hlocks := F.1.k)
    · obtain ⟨y23, c19, b20, e24, hk22, hm21, hw⟩ := hw
      refine W.eq (g2 := F0 m 15 ls [.ref y23]) (congrArg (fun z => F0 m 15 ls [va_rf z]) e24) ?_
      refine di_X7_spk F hB hk22 hm21 q1078 dX5_thing_15 ?_
      refine lv_if_eq (tgt := 25) hx hb dX5_thing_18 (by decide) (fun q => ?_) (fun q => ?_)
      · replace hw := hw.1 q
        refine lv_aload_n hx hb dX5_thing_25 rfl (lv_at hl 0 rfl) ?_
        refine cg_X5_7 F hB g_a0 dX5_thing_26 ?_
        rcases hw with hw | hw | hw | hw
        · obtain ⟨e25, hw⟩ := hw
          refine W.eq (g2 := F0 m 29 ls [.null]) (congrArg (fun z => F0 m 29 ls [va_rf z]) e25) ?_
          refine lv_instN hx hb dX5_thing_29 ?_
          refine lv_if_eq (tgt := 39) hx hb dX5_thing_32 (by decide) (fun q => ?_) (fun q => ?_)
          · replace hw := hw.1 q
            refine lv_iconst (v := 3) hx hb dX5_thing_39 (by decide) ?_
            exact W.iret hx hb F.1.r (fun t ht hW => ⟨⟨_, _, rfl, hw, x_B (Bw := cB D A ad) ht hB⟩, hS.F ht⟩) hS.2.2 dX5_thing_40 (hlocks := F.1.k)
          · replace hw := hw.2 q
            refine lv_iconst (v := 2) hx hb dX5_thing_35 (by decide) ?_
            refine lv_goto (tgt := 40) hx hb dX5_thing_36 (by decide) ?_
            exact W.iret hx hb F.1.r (fun t ht hW => ⟨⟨_, _, rfl, hw, x_B (Bw := cB D A ad) ht hB⟩, hS.F ht⟩) hS.2.2 dX5_thing_40 (hlocks := F.1.k)
        · obtain ⟨y30, c26, b27, e31, hk29, hm28, hw⟩ := hw
          refine W.eq (g2 := F0 m 29 ls [.ref y30]) (congrArg (fun z => F0 m 29 ls [va_rf z]) e31) ?_
          refine di_X4_spk F hB hk29 hm28 q1079 dX5_thing_29 ?_
          refine lv_if_eq (tgt := 39) hx hb dX5_thing_32 (by decide) (fun q => ?_) (fun q => ?_)
          · replace hw := hw.1 q
            refine lv_iconst (v := 3) hx hb dX5_thing_39 (by decide) ?_
            exact W.iret hx hb F.1.r (fun t ht hW => ⟨⟨_, _, rfl, hw, x_B (Bw := cB D A ad) ht hB⟩, hS.F ht⟩) hS.2.2 dX5_thing_40 (hlocks := F.1.k)
          · replace hw := hw.2 q
            refine lv_iconst (v := 2) hx hb dX5_thing_35 (by decide) ?_
            refine lv_goto (tgt := 40) hx hb dX5_thing_36 (by decide) ?_
            exact W.iret hx hb F.1.r (fun t ht hW => ⟨⟨_, _, rfl, hw, x_B (Bw := cB D A ad) ht hB⟩, hS.F ht⟩) hS.2.2 dX5_thing_40 (hlocks := F.1.k)
        · obtain ⟨y35, r32, e36, hm33, hw⟩ := hw
          refine W.eq (g2 := F0 m 29 ls [.ref y35]) (congrArg (fun z => F0 m 29 ls [va_rf z]) e36) ?_
          refine di_X4_X4 F hB hm33 q1079 dX5_thing_29 ?_
          refine lv_if_eq (tgt := 39) hx hb dX5_thing_32 (by decide) (fun q => ?_) (fun q => ?_)
          · replace hw := hw.1 q
            refine lv_iconst (v := 3) hx hb dX5_thing_39 (by decide) ?_
            exact W.iret hx hb F.1.r (fun t ht hW => ⟨⟨_, _, rfl, hw, x_B (Bw := cB D A ad) ht hB⟩, hS.F ht⟩) hS.2.2 dX5_thing_40 (hlocks := F.1.k)
          · replace hw := hw.2 q
            refine lv_iconst (v := 2) hx hb dX5_thing_35 (by decide) ?_
            refine lv_goto (tgt := 40) hx hb dX5_thing_36 (by decide) ?_
            exact W.iret hx hb F.1.r (fun t ht hW => ⟨⟨_, _, rfl, hw, x_B (Bw := cB D A ad) ht hB⟩, hS.F ht⟩) hS.2.2 dX5_thing_40 (hlocks := F.1.k)
        · obtain ⟨y40, v37, e41, hm38, hw⟩ := hw
          refine W.eq (g2 := F0 m 29 ls [.ref y40]) (congrArg (fun z => F0 m 29 ls [va_rf z]) e41) ?_
          refine di_X4_X15 F hB hm38 q1079 dX5_thing_29 ?_
          refine lv_if_eq (tgt := 39) hx hb dX5_thing_32 (by decide) (fun q => ?_) (fun q => ?_)
          · replace hw := hw.1 q
            refine lv_iconst (v := 3) hx hb dX5_thing_39 (by decide) ?_
            exact W.iret hx hb F.1.r (fun t ht hW => ⟨⟨_, _, rfl, hw, x_B (Bw := cB D A ad) ht hB⟩, hS.F ht⟩) hS.2.2 dX5_thing_40 (hlocks := F.1.k)
          · replace hw := hw.2 q
            refine lv_iconst (v := 2) hx hb dX5_thing_35 (by decide) ?_
            refine lv_goto (tgt := 40) hx hb dX5_thing_36 (by decide) ?_
            exact W.iret hx hb F.1.r (fun t ht hW => ⟨⟨_, _, rfl, hw, x_B (Bw := cB D A ad) ht hB⟩, hS.F ht⟩) hS.2.2 dX5_thing_40 (hlocks := F.1.k)
      · replace hw := hw.2 q
        refine lv_iconst (v := 1) hx hb dX5_thing_21 (by decide) ?_
        refine lv_goto (tgt := 40) hx hb dX5_thing_22 (by decide) ?_
        exact W.iret hx hb F.1.r (fun t ht hW => ⟨⟨_, _, rfl, hw, x_B (Bw := cB D A ad) ht hB⟩, hS.F ht⟩) hS.2.2 dX5_thing_40 (hlocks := F.1.k)
    · obtain ⟨y45, r42, e46, hm43, hw⟩ := hw
      refine W.eq (g2 := F0 m 15 ls [.ref y45]) (congrArg (fun z => F0 m 15 ls [va_rf z]) e46) ?_
      refine di_X7_X4 F hB hm43 q1078 dX5_thing_15 ?_
      refine lv_if_eq (tgt := 25) hx hb dX5_thing_18 (by decide) (fun q => ?_) (fun q => ?_)
      · replace hw := hw.1 q
        refine lv_aload_n hx hb dX5_thing_25 rfl (lv_at hl 0 rfl) ?_
        refine cg_X5_7 F hB g_a0 dX5_thing_26 ?_
        rcases hw with hw | hw | hw | hw
        · obtain ⟨e47, hw⟩ := hw
          refine W.eq (g2 := F0 m 29 ls [.null]) (congrArg (fun z => F0 m 29 ls [va_rf z]) e47) ?_
          refine lv_instN hx hb dX5_thing_29 ?_
          refine lv_if_eq (tgt := 39) hx hb dX5_thing_32 (by decide) (fun q => ?_) (fun q => ?_)
          · replace hw := hw.1 q
            refine lv_iconst (v := 3) hx hb dX5_thing_39 (by decide) ?_
            exact W.iret hx hb F.1.r (fun t ht hW => ⟨⟨_, _, rfl, hw, x_B (Bw := cB D A ad) ht hB⟩, hS.F ht⟩) hS.2.2 dX5_thing_40 (hlocks := F.1.k)
          · replace hw := hw.2 q
            refine lv_iconst (v := 2) hx hb dX5_thing_35 (by decide) ?_
            refine lv_goto (tgt := 40) hx hb dX5_thing_36 (by decide) ?_
            exact W.iret hx hb F.1.r (fun t ht hW => ⟨⟨_, _, rfl, hw, x_B (Bw := cB D A ad) ht hB⟩, hS.F ht⟩) hS.2.2 dX5_thing_40 (hlocks := F.1.k)
        · obtain ⟨y52, c48, b49, e53, hk51, hm50, hw⟩ := hw
          refine W.eq (g2 := F0 m 29 ls [.ref y52]) (congrArg (fun z => F0 m 29 ls [va_rf z]) e53) ?_
          refine di_X4_spk F hB hk51 hm50 q1079 dX5_thing_29 ?_
          refine lv_if_eq (tgt := 39) hx hb dX5_thing_32 (by decide) (fun q => ?_) (fun q => ?_)
          · replace hw := hw.1 q
            refine lv_iconst (v := 3) hx hb dX5_thing_39 (by decide) ?_
            exact W.iret hx hb F.1.r (fun t ht hW => ⟨⟨_, _, rfl, hw, x_B (Bw := cB D A ad) ht hB⟩, hS.F ht⟩) hS.2.2 dX5_thing_40 (hlocks := F.1.k)
          · replace hw := hw.2 q
            refine lv_iconst (v := 2) hx hb dX5_thing_35 (by decide) ?_
            refine lv_goto (tgt := 40) hx hb dX5_thing_36 (by decide) ?_
            exact W.iret hx hb F.1.r (fun t ht hW => ⟨⟨_, _, rfl, hw, x_B (Bw := cB D A ad) ht hB⟩, hS.F ht⟩) hS.2.2 dX5_thing_40 (hlocks := F.1.k)
        · obtain ⟨y57, r54, e58, hm55, hw⟩ := hw
          refine W.eq (g2 := F0 m 29 ls [.ref y57]) (congrArg (fun z => F0 m 29 ls [va_rf z]) e58) ?_
          refine di_X4_X4 F hB hm55 q1079 dX5_thing_29 ?_
          refine lv_if_eq (tgt := 39) hx hb dX5_thing_32 (by decide) (fun q => ?_) (fun q => ?_)
          · replace hw := hw.1 q
            refine lv_iconst (v := 3) hx hb dX5_thing_39 (by decide) ?_
            exact W.iret hx hb F.1.r (fun t ht hW => ⟨⟨_, _, rfl, hw, x_B (Bw := cB D A ad) ht hB⟩, hS.F ht⟩) hS.2.2 dX5_thing_40 (hlocks := F.1.k)
          · replace hw := hw.2 q
            refine lv_iconst (v := 2) hx hb dX5_thing_35 (by decide) ?_
            refine lv_goto (tgt := 40) hx hb dX5_thing_36 (by decide) ?_
            exact W.iret hx hb F.1.r (fun t ht hW => ⟨⟨_, _, rfl, hw, x_B (Bw := cB D A ad) ht hB⟩, hS.F ht⟩) hS.2.2 dX5_thing_40 (hlocks := F.1.k)
        · obtain ⟨y62, v59, e63, hm60, hw⟩ := hw
          refine W.eq (g2 := F0 m 29 ls [.ref y62]) (congrArg (fun z => F0 m 29 ls [va_rf z]) e63) ?_
          refine di_X4_X15 F hB hm60 q1079 dX5_thing_29 ?_
          refine lv_if_eq (tgt := 39) hx hb dX5_thing_32 (by decide) (fun q => ?_) (fun q => ?_)
          · replace hw := hw.1 q
            refine lv_iconst (v := 3) hx hb dX5_thing_39 (by decide) ?_
            exact W.iret hx hb F.1.r (fun t ht hW => ⟨⟨_, _, rfl, hw, x_B (Bw := cB D A ad) ht hB⟩, hS.F ht⟩) hS.2.2 dX5_thing_40 (hlocks := F.1.k)
          · replace hw := hw.2 q
            refine lv_iconst (v := 2) hx hb dX5_thing_35 (by decide) ?_
            refine lv_goto (tgt := 40) hx hb dX5_thing_36 (by decide) ?_
            exact W.iret hx hb F.1.r (fun t ht hW => ⟨⟨_, _, rfl, hw, x_B (Bw := cB D A ad) ht hB⟩, hS.F ht⟩) hS.2.2 dX5_thing_40 (hlocks := F.1.k)
      · replace hw := hw.2 q
        refine lv_iconst (v := 1) hx hb dX5_thing_21 (by decide) ?_
        refine lv_goto (tgt := 40) hx hb dX5_thing_22 (by decide) ?_
        exact W.iret hx hb F.1.r (fun t ht hW => ⟨⟨_, _, rfl, hw, x_B (Bw := cB D A ad) ht hB⟩, hS.F ht⟩) hS.2.2 dX5_thing_40 (hlocks := F.1.k)
    · obtain ⟨y67, v64, e68, hm65, hw⟩ := hw
      refine W.eq (g2 := F0 m 15 ls [.ref y67]) (congrArg (fun z => F0 m 15 ls [va_rf z]) e68) ?_
      refine di_X7_X15 F hB hm65 q1078 dX5_thing_15 ?_
      refine lv_if_eq (tgt := 25) hx hb dX5_thing_18 (by decide) (fun q => ?_) (fun q => ?_)
      · replace hw := hw.1 q
        refine lv_aload_n hx hb dX5_thing_25 rfl (lv_at hl 0 rfl) ?_
        refine cg_X5_7 F hB g_a0 dX5_thing_26 ?_
        rcases hw with hw | hw | hw | hw
        · obtain ⟨e69, hw⟩ := hw
          refine W.eq (g2 := F0 m 29 ls [.null]) (congrArg (fun z => F0 m 29 ls [va_rf z]) e69) ?_
          refine lv_instN hx hb dX5_thing_29 ?_
          refine lv_if_eq (tgt := 39) hx hb dX5_thing_32 (by decide) (fun q => ?_) (fun q => ?_)
          · replace hw := hw.1 q
            refine lv_iconst (v := 3) hx hb dX5_thing_39 (by decide) ?_
            exact W.iret hx hb F.1.r (fun t ht hW => ⟨⟨_, _, rfl, hw, x_B (Bw := cB D A ad) ht hB⟩, hS.F ht⟩) hS.2.2 dX5_thing_40 (hlocks := F.1.k)
          · replace hw := hw.2 q
            refine lv_iconst (v := 2) hx hb dX5_thing_35 (by decide) ?_
            refine lv_goto (tgt := 40) hx hb dX5_thing_36 (by decide) ?_
            exact W.iret hx hb F.1.r (fun t ht hW => ⟨⟨_, _, rfl, hw, x_B (Bw := cB D A ad) ht hB⟩, hS.F ht⟩) hS.2.2 dX5_thing_40 (hlocks := F.1.k)
        · obtain ⟨y74, c70, b71, e75, hk73, hm72, hw⟩ := hw
          refine W.eq (g2 := F0 m 29 ls [.ref y74]) (congrArg (fun z => F0 m 29 ls [va_rf z]) e75) ?_
          refine di_X4_spk F hB hk73 hm72 q1079 dX5_thing_29 ?_
          refine lv_if_eq (tgt := 39) hx hb dX5_thing_32 (by decide) (fun q => ?_) (fun q => ?_)
          · replace hw := hw.1 q
            refine lv_iconst (v := 3) hx hb dX5_thing_39 (by decide) ?_
            exact W.iret hx hb F.1.r (fun t ht hW => ⟨⟨_, _, rfl, hw, x_B (Bw := cB D A ad) ht hB⟩, hS.F ht⟩) hS.2.2 dX5_thing_40 (hlocks := F.1.k)
          · replace hw := hw.2 q
            refine lv_iconst (v := 2) hx hb dX5_thing_35 (by decide) ?_
            refine lv_goto (tgt := 40) hx hb dX5_thing_36 (by decide) ?_
            exact W.iret hx hb F.1.r (fun t ht hW => ⟨⟨_, _, rfl, hw, x_B (Bw := cB D A ad) ht hB⟩, hS.F ht⟩) hS.2.2 dX5_thing_40 (hlocks := F.1.k)
        · obtain ⟨y79, r76, e80, hm77, hw⟩ := hw
          refine W.eq (g2 := F0 m 29 ls [.ref y79]) (congrArg (fun z => F0 m 29 ls [va_rf z]) e80) ?_
          refine di_X4_X4 F hB hm77 q1079 dX5_thing_29 ?_
          refine lv_if_eq (tgt := 39) hx hb dX5_thing_32 (by decide) (fun q => ?_) (fun q => ?_)
          · replace hw := hw.1 q
            refine lv_iconst (v := 3) hx hb dX5_thing_39 (by decide) ?_
            exact W.iret hx hb F.1.r (fun t ht hW => ⟨⟨_, _, rfl, hw, x_B (Bw := cB D A ad) ht hB⟩, hS.F ht⟩) hS.2.2 dX5_thing_40 (hlocks := F.1.k)
          · replace hw := hw.2 q
            refine lv_iconst (v := 2) hx hb dX5_thing_35 (by decide) ?_
            refine lv_goto (tgt := 40) hx hb dX5_thing_36 (by decide) ?_
            exact W.iret hx hb F.1.r (fun t ht hW => ⟨⟨_, _, rfl, hw, x_B (Bw := cB D A ad) ht hB⟩, hS.F ht⟩) hS.2.2 dX5_thing_40 (hlocks := F.1.k)
        · obtain ⟨y84, v81, e85, hm82, hw⟩ := hw
          refine W.eq (g2 := F0 m 29 ls [.ref y84]) (congrArg (fun z => F0 m 29 ls [va_rf z]) e85) ?_
          refine di_X4_X15 F hB hm82 q1079 dX5_thing_29 ?_
          refine lv_if_eq (tgt := 39) hx hb dX5_thing_32 (by decide) (fun q => ?_) (fun q => ?_)
          · replace hw := hw.1 q
            refine lv_iconst (v := 3) hx hb dX5_thing_39 (by decide) ?_
            exact W.iret hx hb F.1.r (fun t ht hW => ⟨⟨_, _, rfl, hw, x_B (Bw := cB D A ad) ht hB⟩, hS.F ht⟩) hS.2.2 dX5_thing_40 (hlocks := F.1.k)
          · replace hw := hw.2 q
            refine lv_iconst (v := 2) hx hb dX5_thing_35 (by decide) ?_
            refine lv_goto (tgt := 40) hx hb dX5_thing_36 (by decide) ?_
            exact W.iret hx hb F.1.r (fun t ht hW => ⟨⟨_, _, rfl, hw, x_B (Bw := cB D A ad) ht hB⟩, hS.F ht⟩) hS.2.2 dX5_thing_40 (hlocks := F.1.k)
      · replace hw := hw.2 q
        refine lv_iconst (v := 1) hx hb dX5_thing_21 (by decide) ?_
        refine lv_goto (tgt := 40) hx hb dX5_thing_22 (by decide) ?_
        exact W.iret hx hb F.1.r (fun t ht hW => ⟨⟨_, _, rfl, hw, x_B (Bw := cB D A ad) ht hB⟩, hS.F ht⟩) hS.2.2 dX5_thing_40 (hlocks := F.1.k)
  · replace hw := hw.1 q
    refine lv_iconst (v := 0) hx hb dX5_thing_7 (by decide) ?_
    refine lv_goto (tgt := 40) hx hb dX5_thing_8 (by decide) ?_
    exact W.iret hx hb F.1.r (fun t ht hW => ⟨⟨_, _, rfl, hw, x_B (Bw := cB D A ad) ht hB⟩, hS.F ht⟩) hS.2.2 dX5_thing_40 (hlocks := F.1.k)
set_option maxHeartbeats 4000000 in
theorem mX5_thing {l : Launch} {D : DD} {A : Nat → Prop} {s0 : State} {ad : AD} {V : CV} {a0 : Nat} {Q : Int32 → CV → Prop} (hw : wX5_thing a0 V Q) : Met l yX5_thing (ws_ yX5_thing cX5_thing 1 (some .int)) rX5_thing (va_Pc [.ref (ad 5 a0 0)] (fun U => cB D A ad V U.heap ∧ CX l D A s0 U)) (va_Qi Q (fun u t => cB D A ad u t.heap) A) 0 0 A := by
  refine Met.ofW (cc := cX5_thing) (maxL := 1) (ret := some .int) (by decide) rfl ?_
  intro p e s m args below meth c s₁ B hml hv
  obtain ⟨rfl, hB, hC⟩ := hv
  have F : FX p l c cX5_thing s _ m RX5 D A s0 1 meth (some .int) := ⟨mk_FP B hml rfl, hC⟩
  have hS : va_S A s.heap s.heap [] := va_S.rf
  have hl := lv_entry ([.ref (ad 5 a0 0)]) (n := 1) (Nat.le_of_ble_eq_true rfl)
  rw [lg_entry_eq]
  generalize (lg_sl ([.ref (ad 5 a0 0)]) ++ List.replicate (1 - (lg_sl ([.ref (ad 5 a0 0)])).length) Slot.unset).toArray = ls at hl ⊢
  exact bX5_thing_0 F hB hS hw hl
theorem kX0_X5_thing {p : Program} {l : Launch} {e : Env} {R : Room} {s : State} {m : MethodId} {args : Array Value} {below : List Frame} {meth : Method} {c : Code} {H : Heap} {locs : List Loc} {cells slots : Nat} {Q0 : State → Prop} {cc : ByteArray} {pc nL : Nat} {ls : Array Slot} {rest : List Value} {ret : Option FieldType} {D : DD} {A : Nat → Prop} {s0 : State} {ad : AD} {V : CV} {a0 : Nat} {Q : Int32 → CV → Prop} (F : FX p l c cc s args m RX0 D A s0 nL meth ret) (hB : cB D A ad V H) (hS : va_S A s.heap H locs) (hw : wX5_thing a0 V Q) (hR : rX5_thing.frames + 1 ≤ R.frames ∧ 8 + (1 + 11) + rX5_thing.locals ≤ R.locals) (hc : cells + 0 ≤ R.cells ∧ slots + 0 ≤ R.slots) (hsz : ls.size = nL) (hW : (rest.map fun v => v.category).sum ≤ 8) (hdg : decode cc pc = .ok (.invokevirtual 490, 3)) (kk : ∀ (r : Int32) (u : CV) (H1 : Heap) (locs1 : List Loc), Q r u → cB D A ad u H1 → va_S A s.heap H1 locs1 → W p l e R s m args below meth c H1 locs1 cells slots Q0 (F0 m (pc + 3) ls (.int r :: rest))) : W p l e R s m args below meth c H locs cells slots Q0 (F0 m pc ls (.ref (ad 5 a0 0) :: rest)) :=
  k_i (Bw := cB D A ad) (k_runV (Bw := cB D A ad) (n := 0) (As := []) F hB hS (c_at F (hB.pic (cpic5 hw.1)) rfl) (mX5_thing hw) q1074 q1075 q1076 q91 q1077 (by decide +kernel) hR ⟨rfl, rfl⟩ hc rfl hsz rfl hW hdg) hS kk
def rX7_copy : Room := { frames := 6, cells := 1, slots := 1, locals := 240 }
set_option maxHeartbeats 4000000 in
theorem bX7_copy_0 {p : Program} {l : Launch} {e : Env} {s : State} {m : MethodId} {args : Array Value} {below : List Frame} {meth : Method} {c : Code} {D : DD} {A : Nat → Prop} {s0 : State} {ad : AD} {Q : Nat → CV → Prop} {a0 : Nat} {V : CV} {H : Heap} {locs : List Loc} {ls : Array Slot} (F : FX p l c cX7_copy s args m RX7 D A s0 2 meth (some (.object "NeverSaid$Speaker"))) (hB : cB D A ad V H) (hS : va_S A s.heap H locs) (hw : wX7_copy a0 V Q) (hl : lv_has ls 2 [(0, .ref a0)]) : W p l e rX7_copy s m args below meth c H locs 0 0 (MQ below (xa_Qn Q (fun u t => cB D A ad u t.heap) A) args s 1 1 A) (F0 m 0 ls []) := by
  have hx := F.1.x
  have hb := F.1.b
  unfold wX7_copy at hw
  refine lv_aload_n hx hb dX7_copy_0 rfl (lv_at hl 0 rfl) ?_
  refine kX7_Sp_another F hB hS hw ⟨Nat.le_of_ble_eq_true rfl, Nat.le_of_ble_eq_true rfl⟩ ⟨by show _ ≤ 1; omega, by show _ ≤ 1; omega⟩ hl.1 (Nat.le_of_ble_eq_true rfl) dX7_copy_1 (fun r1 V2 H locs hw hB hS => ?_)
  refine lv_astore_n (lv' := [(1, .ref r1), (0, .ref a0)]) hx hb dX7_copy_4 rfl hl (by decide) rfl (fun ls hl => ?_)
  refine lv_aload_n hx hb dX7_copy_5 rfl (lv_at hl 0 rfl) ?_
  refine lv_aload_n hx hb dX7_copy_6 rfl (lv_at hl 1 rfl) ?_
  obtain ⟨c3, b4, hk5, hm6, hw⟩ := hw
  refine cg_X7_7 F hB hk5 hm6 dX7_copy_7 ?_
  obtain ⟨c7, b8, hk9, hm10, hw⟩ := hw
  refine cp_X7_7 F hB hS hk9 hm10 dX7_copy_10 (fun H locs hB hS => ?_)
  refine lv_aload_n hx hb dX7_copy_13 rfl (lv_at hl 0 rfl) ?_
  exact W.aret hx hb F.1.r (Or.inl ⟨_, rfl⟩) (Or.inr ⟨_, rfl⟩) (fun t ht hW => xa_mk hw (x_B (Bw := cB D A ad) ht hB) (hS.F ht)) hS.2.2 dX7_copy_14 (hlocks := F.1.k)
set_option maxHeartbeats 4000000 in
theorem mX7_copy {l : Launch} {D : DD} {A : Nat → Prop} {s0 : State} {ad : AD} {V : CV} {a0 : Nat} {Q : Nat → CV → Prop} (hw : wX7_copy a0 V Q) : Met l yX7_copy (ws_ yX7_copy cX7_copy 2 (some (.object "NeverSaid$Speaker"))) rX7_copy (va_Pc [.ref a0] (fun U => cB D A ad V U.heap ∧ CX l D A s0 U)) (xa_Qn Q (fun u t => cB D A ad u t.heap) A) 1 1 A := by
  refine Met.ofW (cc := cX7_copy) (maxL := 2) (ret := some (.object "NeverSaid$Speaker")) (by decide) rfl ?_
  intro p e s m args below meth c s₁ B hml hv
  obtain ⟨rfl, hB, hC⟩ := hv
  have F : FX p l c cX7_copy s _ m RX7 D A s0 2 meth (some (.object "NeverSaid$Speaker")) := ⟨mk_FP B hml rfl, hC⟩
  have hS : va_S A s.heap s.heap [] := va_S.rf
  have hl := lv_entry ([.ref a0]) (n := 2) (Nat.le_of_ble_eq_true rfl)
  rw [lg_entry_eq]
  generalize (lg_sl ([.ref a0]) ++ List.replicate (2 - (lg_sl ([.ref a0])).length) Slot.unset).toArray = ls at hl ⊢
  exact bX7_copy_0 F hB hS hw hl
theorem kX0_X7_copy {p : Program} {l : Launch} {e : Env} {R : Room} {s : State} {m : MethodId} {args : Array Value} {below : List Frame} {meth : Method} {c : Code} {H : Heap} {locs : List Loc} {cells slots : Nat} {Q0 : State → Prop} {cc : ByteArray} {pc nL : Nat} {ls : Array Slot} {rest : List Value} {ret : Option FieldType} {D : DD} {A : Nat → Prop} {s0 : State} {ad : AD} {V : CV} {a0 : Nat} {Q : Nat → CV → Prop} (F : FX p l c cc s args m RX0 D A s0 nL meth ret) (hB : cB D A ad V H) (hS : va_S A s.heap H locs) {k0 : Nat} {b0 : Int32} (hk : isSpk k0) (hm : vM V a0 = some (eSp k0 b0)) (hw : wX7_copy a0 V Q) (hR : rX7_copy.frames + 1 ≤ R.frames ∧ 8 + (2 + 11) + rX7_copy.locals ≤ R.locals) (hc : cells + 1 ≤ R.cells ∧ slots + 1 ≤ R.slots) (hsz : ls.size = nL) (hW : (rest.map fun v => v.category).sum ≤ 8) (hdg : decode cc pc = .ok (.invokevirtual 493, 3)) (kk : ∀ (r : Nat) (u : CV) (H1 : Heap) (locs1 : List Loc), Q r u → cB D A ad u H1 → va_S A s.heap H1 locs1 → W p l e R s m args below meth c H1 locs1 (cells + 1) (slots + 1) Q0 (F0 m (pc + 3) ls (.ref r :: rest))) : W p l e R s m args below meth c H locs cells slots Q0 (F0 m pc ls (.ref a0 :: rest)) := by
  rcases hk.or with rfl | rfl | rfl | rfl | rfl | rfl
  · exact k_n (Bw := cB D A ad) (k_runV (Bw := cB D A ad) (C := RX7) (n := 0) (As := []) F hB hS (c_at F (hB.dyn hm) rfl) (mX7_copy hw) q1080 q1081 q1082 q93 q1089 (by decide +kernel) hR ⟨rfl, rfl⟩ hc rfl hsz rfl hW hdg) hS kk
  · exact k_n (Bw := cB D A ad) (k_runO (Bw := cB D A ad) (C := RX8) (owner := RX7) (x := yX7_copy) (n := 0) (As := []) F hB hS (c_at F (hB.dyn hm) rfl) (mX7_copy hw) q1080 q1083 q1081 q1088 q1081 q93 q1089 q1089 (by decide +kernel) hR ⟨rfl, rfl⟩ hc rfl hsz rfl hW hdg) hS kk
  · exact k_n (Bw := cB D A ad) (k_runO (Bw := cB D A ad) (C := RX9) (owner := RX7) (x := yX7_copy) (n := 0) (As := []) F hB hS (c_at F (hB.dyn hm) rfl) (mX7_copy hw) q1080 q1083 q1081 q1085 q1081 q93 q1089 q1089 (by decide +kernel) hR ⟨rfl, rfl⟩ hc rfl hsz rfl hW hdg) hS kk
  · exact k_n (Bw := cB D A ad) (k_runO (Bw := cB D A ad) (C := RX10) (owner := RX7) (x := yX7_copy) (n := 0) (As := []) F hB hS (c_at F (hB.dyn hm) rfl) (mX7_copy hw) q1080 q1083 q1081 q1087 q1081 q93 q1089 q1089 (by decide +kernel) hR ⟨rfl, rfl⟩ hc rfl hsz rfl hW hdg) hS kk
  · exact k_n (Bw := cB D A ad) (k_runO (Bw := cB D A ad) (C := RX11) (owner := RX7) (x := yX7_copy) (n := 0) (As := []) F hB hS (c_at F (hB.dyn hm) rfl) (mX7_copy hw) q1080 q1083 q1081 q1084 q1081 q93 q1089 q1089 (by decide +kernel) hR ⟨rfl, rfl⟩ hc rfl hsz rfl hW hdg) hS kk
  · exact k_n (Bw := cB D A ad) (k_runO (Bw := cB D A ad) (C := RX12) (owner := RX7) (x := yX7_copy) (n := 0) (As := []) F hB hS (c_at F (hB.dyn hm) rfl) (mX7_copy hw) q1080 q1083 q1081 q1086 q1081 q93 q1089 q1089 (by decide +kernel) hR ⟨rfl, rfl⟩ hc rfl hsz rfl hW hdg) hS kk
def rX0_rowOf : Room := { frames := 7, cells := 3, slots := 54, locals := 10300 }
set_option maxHeartbeats 4000000 in
theorem bX0_rowOf_0 {p : Program} {l : Launch} {e : Env} {s : State} {m : MethodId} {args : Array Value} {below : List Frame} {meth : Method} {c : Code} {D : DD} {A : Nat → Prop} {s0 : State} {ad : AD} {Q : Nat → CV → Prop} {E : CV → Prop} {a0 : Int32} {a1 : Int32} {V : CV} {ls : Array Slot} (F : FX p l c cX0_rowOf s args m RX0 D A s0 2 meth (some (.object "java/lang/Object"))) (hnm : s.methodNamed? yX0_rowOf = some m) (hB : cB D A ad V s.heap) (hS : va_S A s.heap s.heap []) (hw : wX0_rowOf a0 a1 V Q E) (hl : lv_has ls 2 [(0, .int a0), (1, .int a1)]) : W p l e rX0_rowOf s m args below meth c s.heap [] 0 0 (XMQ below (yQ (xa_Qn Q (fun u t => cB D A ad u t.heap) A) E (fun x t => va_Any "java/lang/NegativeArraySizeException" t t.heap x) (fun u t => cB D A ad u t.heap) A) args s 3 54 A) (F0 m 0 ls []) := by
  have hx := F.1.x
  have hb := F.1.b
  unfold wX0_rowOf at hw
  refine lv_iload_n hx hb dX0_rowOf_0 rfl (lv_at hl 0 rfl) ?_
  refine lv_if_eq (tgt := 8) hx hb dX0_rowOf_1 (by decide) (fun q => ?_) (fun q => ?_)
  · replace hw := hw.1 q
    refine lv_iload_n hx hb dX0_rowOf_8 rfl (lv_at hl 1 rfl) ?_
    by_cases hz : a1 < 0
    · replace hw := hw.1 hz
      refine w_newaNo F hz hB hl.1 (Nat.le_of_ble_eq_true rfl) (Nat.le_of_ble_eq_true rfl) (Nat.le_of_ble_eq_true rfl) ⟨Nat.le_of_ble_eq_true rfl, Nat.le_of_ble_eq_true rfl⟩ dX0_rowOf_9 (fun x H locs hB hS hK => ?_)
      exact wt_out (Bw := cB D A ad) F.1 hnm q1008 hw (fun t ht hA => by show va_Any _ t t.heap _; rw [ht]; exact hK.moved hA) hB hS
    · replace hw := hw.2 hz
      obtain ⟨hn5, hw⟩ := hw
      refine na_short (n := a1) (N' := a1.toNatClampNeg) F hB hS hz rfl (by simp only [componentBytes]; omega) (by show 0 + 1 ≤ 3; omega) (by show 0 + _ ≤ 54; omega) dX0_rowOf_9 (fun q3 H hq4 hB hS => ?_)
      replace hw := hw q3 hq4
      refine W.widen (k := 3) (n := 54) (by omega) (by omega) ?_
      refine W.retY ?_
      exact W.aret hx hb F.1.r (Or.inl ⟨_, rfl⟩) (Or.inr ⟨_, rfl⟩) (fun t ht hW => xa_mk hw (x_B (Bw := cB D A ad) ht hB) (hS.F ht)) hS.2.2 dX0_rowOf_11 (hlocks := F.1.k)
  · replace hw := hw.2 q
    refine lv_iload_n hx hb dX0_rowOf_4 rfl (lv_at hl 1 rfl) ?_
    by_cases hz : a1 < 0
    · replace hw := hw.1 hz
      refine w_newaNo F hz hB hl.1 (Nat.le_of_ble_eq_true rfl) (Nat.le_of_ble_eq_true rfl) (Nat.le_of_ble_eq_true rfl) ⟨Nat.le_of_ble_eq_true rfl, Nat.le_of_ble_eq_true rfl⟩ dX0_rowOf_5 (fun x H locs hB hS hK => ?_)
      exact wt_out (Bw := cB D A ad) F.1 hnm q1008 hw (fun t ht hA => by show va_Any _ t t.heap _; rw [ht]; exact hK.moved hA) hB hS
    · replace hw := hw.2 hz
      obtain ⟨hn10, hw⟩ := hw
      refine na_float (n := a1) (N' := a1.toNatClampNeg) F hB hS hz rfl (by simp only [componentBytes]; omega) (by show 0 + 1 ≤ 3; omega) (by show 0 + _ ≤ 54; omega) dX0_rowOf_5 (fun q8 H hq9 hB hS => ?_)
      replace hw := hw q8 hq9
      refine W.widen (k := 3) (n := 54) (by omega) (by omega) ?_
      refine W.retY ?_
      exact W.aret hx hb F.1.r (Or.inl ⟨_, rfl⟩) (Or.inr ⟨_, rfl⟩) (fun t ht hW => xa_mk hw (x_B (Bw := cB D A ad) ht hB) (hS.F ht)) hS.2.2 dX0_rowOf_7 (hlocks := F.1.k)
set_option maxHeartbeats 4000000 in
theorem mX0_rowOf {l : Launch} {D : DD} {A : Nat → Prop} {s0 : State} {ad : AD} {V : CV} {a0 : Int32} {a1 : Int32} {Q : Nat → CV → Prop} {E : CV → Prop} (hw : wX0_rowOf a0 a1 V Q E) : MetY l yX0_rowOf (ws_ yX0_rowOf cX0_rowOf 2 (some (.object "java/lang/Object"))) rX0_rowOf (va_Pc [.int a0, .int a1] (fun U => cB D A ad V U.heap ∧ CX l D A s0 U)) (yQ (xa_Qn Q (fun u t => cB D A ad u t.heap) A) E (fun x t => va_Any "java/lang/NegativeArraySizeException" t t.heap x) (fun u t => cB D A ad u t.heap) A) 3 54 A := by
  refine MetY.ofW (cc := cX0_rowOf) (maxL := 2) (ret := some (.object "java/lang/Object")) (by decide) ?_
  intro p e s m args below meth c F1 hnm _ hv
  obtain ⟨rfl, hB, hC⟩ := hv
  have F : FX p l c cX0_rowOf s _ m RX0 D A s0 2 meth (some (.object "java/lang/Object")) := ⟨F1, hC⟩
  have hS : va_S A s.heap s.heap [] := va_S.rf
  have hl := lv_entry ([.int a0, .int a1]) (n := 2) (Nat.le_of_ble_eq_true rfl)
  rw [lg_entry_eq]
  generalize (lg_sl ([.int a0, .int a1]) ++ List.replicate (2 - (lg_sl ([.int a0, .int a1])).length) Slot.unset).toArray = ls at hl ⊢
  exact bX0_rowOf_0 F hnm hB hS hw hl
theorem kX0_X0_rowOf {p : Program} {l : Launch} {e : Env} {R : Room} {s : State} {m : MethodId} {args : Array Value} {below : List Frame} {meth : Method} {c : Code} {H : Heap} {locs : List Loc} {cells slots : Nat} {Q0 : State → Prop} {cc : ByteArray} {pc nL : Nat} {ls : Array Slot} {rest : List Value} {ret : Option FieldType} {D : DD} {A : Nat → Prop} {s0 : State} {ad : AD} {V : CV} {a0 : Int32} {a1 : Int32} {Q : Nat → CV → Prop} {E : CV → Prop} (F : FX p l c cc s args m RX0 D A s0 nL meth ret) (hB : cB D A ad V H) (hS : va_S A s.heap H locs) (hw : wX0_rowOf a0 a1 V Q E) (hR : rX0_rowOf.frames + 1 ≤ R.frames ∧ 8 + (2 + 11) + rX0_rowOf.locals ≤ R.locals) (hc : cells + 3 ≤ R.cells ∧ slots + 54 ≤ R.slots) (hsz : ls.size = nL) (hW : (rest.map fun v => v.category).sum ≤ 8) (hdg : decode cc pc = .ok (.invokestatic 444, 3)) (kk : ∀ (r : Nat) (u : CV) (H1 : Heap) (locs1 : List Loc), Q r u → cB D A ad u H1 → va_S A s.heap H1 locs1 → W p l e R s m args below meth c H1 locs1 (cells + 3) (slots + 54) Q0 (F0 m (pc + 3) ls (.ref r :: rest))) (ke : ∀ (x : Nat) (u : CV) (H1 : Heap) (locs1 : List Loc), E u → va_Any "java/lang/NegativeArraySizeException" s H1 x → cB D A ad u H1 → va_S A s.heap H1 locs1 → WT p l e R s m args below meth c H1 locs1 (cells + 3) (slots + 54) Q0 (F0 m pc ls rest) x) : W p l e R s m args below meth c H locs cells slots Q0 (F0 m pc ls (.int a1 :: .int a0 :: rest)) :=
  k_nY (Bw := cB D A ad) (k_runSY (Bw := cB D A ad) (n := 2) (As := [.int a0, .int a1]) F hB hS (mX0_rowOf hw) codeOf (lw_meth q1008) q1006 q1007 q83 q1008 (by decide +kernel) hR ⟨rfl, rfl⟩ hc rfl hsz rfl hW hdg) hS kk (fun x u H1 locs1 hE hK hB hS => by
    obtain ⟨t, h1, h2, h3⟩ := hK
    rw [h1] at h3
    exact ke x u H1 locs1 hE (h3.moved h2.symm) hB hS)
def rX0_own : Room := { frames := 8, cells := 4, slots := 55, locals := 10321 }
set_option maxHeartbeats 4000000 in
theorem bX0_own_0 {p : Program} {l : Launch} {e : Env} {s : State} {m : MethodId} {args : Array Value} {below : List Frame} {meth : Method} {c : Code} {D : DD} {A : Nat → Prop} {s0 : State} {ad : AD} {Q : Nat → CV → Prop} {a1 : Nat} {V : CV} {H : Heap} {locs : List Loc} {ls : Array Slot} (F : FX p l c cX0_own s args m RX0 D A s0 3 meth (some (.object "NeverSaid$Sheet"))) (hB : cB D A ad V H) (hS : va_S A s.heap H locs) (hw : wX0_own a1 V Q) (hl : lv_has ls 3 [(0, .ref (ad 0 0 0)), (1, .ref a1)]) : W p l e rX0_own s m args below meth c H locs 0 0 (MQ below (xa_Qn Q (fun u t => cB D A ad u t.heap) A) args s 4 55 A) (F0 m 0 ls []) := by
  have hx := F.1.x
  have hb := F.1.b
  unfold wX0_own at hw
  refine nX0_77 F hB hS (by show 0 + 1 ≤ 4; omega) (by show 0 + 1 ≤ 55; omega) dX0_own_0 (fun q1 H hq2 hB hS => ?_)
  replace hw := hw q1 hq2
  refine lv_dup hx hb dX0_own_3 rfl ?_
  refine kX0_X4_init F hB hS hw ⟨Nat.le_of_ble_eq_true rfl, Nat.le_of_ble_eq_true rfl⟩ ⟨by show _ ≤ 4; omega, by show _ ≤ 55; omega⟩ hl.1 (Nat.le_of_ble_eq_true rfl) dX0_own_4 (fun V4 H locs hw hB hS => ?_)
  refine lv_astore_n (lv' := [(2, .ref q1), (0, .ref (ad 0 0 0)), (1, .ref a1)]) hx hb dX0_own_7 rfl hl (by decide) rfl (fun ls hl => ?_)
  refine lv_aload_n hx hb dX0_own_8 rfl (lv_at hl 0 rfl) ?_
  refine lv_aload_n hx hb dX0_own_9 rfl (lv_at hl 2 rfl) ?_
  obtain ⟨f6, hm7, hw⟩ := hw
  refine kX0_X4_isFloats F hB hS hm7 hw ⟨Nat.le_of_ble_eq_true rfl, Nat.le_of_ble_eq_true rfl⟩ ⟨by show _ ≤ 4; omega, by show _ ≤ 55; omega⟩ hl.1 (Nat.le_of_ble_eq_true rfl) dX0_own_10 (fun r5 V8 H locs hw hB hS => ?_)
  refine lv_aload_n hx hb dX0_own_13 rfl (lv_at hl 2 rfl) ?_
  obtain ⟨f10, hm11, hw⟩ := hw
  refine kX0_X4_size F hB hS hm11 hw ⟨Nat.le_of_ble_eq_true rfl, Nat.le_of_ble_eq_true rfl⟩ ⟨by show _ ≤ 4; omega, by show _ ≤ 55; omega⟩ hl.1 (Nat.le_of_ble_eq_true rfl) dX0_own_14 (fun r9 V12 H locs hw hB hS => ?_)
  refine kX0_X0_rowOf F hB hS hw ⟨Nat.le_of_ble_eq_true rfl, Nat.le_of_ble_eq_true rfl⟩ ⟨by show _ ≤ 4; omega, by show _ ≤ 55; omega⟩ hl.1 (Nat.le_of_ble_eq_true rfl) dX0_own_17 (fun r13 V14 H locs hw hB hS => ?_) (fun x V14 H locs hw hK hB hS => ?_)
  · skip
    obtain ⟨f15, hm16, hw⟩ := hw
    refine cp_X0_440 (v := some r13) F hB hS hm16 dX0_own_20 (fun H locs hB hS => ?_)
    refine lv_aload_n hx hb dX0_own_23 rfl (lv_at hl 1 rfl) ?_
    refine lv_aload_n hx hb dX0_own_24 rfl (lv_at hl 2 rfl) ?_
    refine lv_iconst (v := 0) hx hb dX0_own_25 (by decide) ?_
    refine lv_aload_n hx hb dX0_own_26 rfl (lv_at hl 0 rfl) ?_
    refine lv_iconst (v := 0) hx hb dX0_own_27 (by decide) ?_
    refine lv_aload_n hx hb dX0_own_28 rfl (lv_at hl 2 rfl) ?_
    obtain ⟨f18, hm19, hw⟩ := hw
    refine kX0_X4_size F hB hS hm19 hw ⟨Nat.le_of_ble_eq_true rfl, Nat.le_of_ble_eq_true rfl⟩ ⟨by show _ ≤ 4; omega, by show _ ≤ 55; omega⟩ hl.1 (Nat.le_of_ble_eq_true rfl) dX0_own_29 (fun r17 V20 H locs hw hB hS => ?_)
    refine kX0_X0_carries F hB hS hw ⟨Nat.le_of_ble_eq_true rfl, Nat.le_of_ble_eq_true rfl⟩ ⟨by show _ ≤ 4; omega, by show _ ≤ 55; omega⟩ hl.1 (Nat.le_of_ble_eq_true rfl) dX0_own_32 (fun V22 H locs hw hB hS => ?_)
    refine lv_aload_n hx hb dX0_own_35 rfl (lv_at hl 0 rfl) ?_
    exact W.aret hx hb F.1.r (Or.inl ⟨_, rfl⟩) (Or.inr ⟨_, rfl⟩) (fun t ht hW => xa_mk hw (x_B (Bw := cB D A ad) ht hB) (hS.F ht)) hS.2.2 dX0_own_36 (hlocks := F.1.k)
  · skip
    exact hw.elim
set_option maxHeartbeats 4000000 in
theorem mX0_own {l : Launch} {D : DD} {A : Nat → Prop} {s0 : State} {ad : AD} {V : CV} {a1 : Nat} {Q : Nat → CV → Prop} (hw : wX0_own a1 V Q) : Met l yX0_own (ws_ yX0_own cX0_own 3 (some (.object "NeverSaid$Sheet"))) rX0_own (va_Pc [.ref (ad 0 0 0), .ref a1] (fun U => cB D A ad V U.heap ∧ CX l D A s0 U)) (xa_Qn Q (fun u t => cB D A ad u t.heap) A) 4 55 A := by
  refine Met.ofW (cc := cX0_own) (maxL := 3) (ret := some (.object "NeverSaid$Sheet")) (by decide) rfl ?_
  intro p e s m args below meth c s₁ B hml hv
  obtain ⟨rfl, hB, hC⟩ := hv
  have F : FX p l c cX0_own s _ m RX0 D A s0 3 meth (some (.object "NeverSaid$Sheet")) := ⟨mk_FP B hml rfl, hC⟩
  have hS : va_S A s.heap s.heap [] := va_S.rf
  have hl := lv_entry ([.ref (ad 0 0 0), .ref a1]) (n := 3) (Nat.le_of_ble_eq_true rfl)
  rw [lg_entry_eq]
  generalize (lg_sl ([.ref (ad 0 0 0), .ref a1]) ++ List.replicate (3 - (lg_sl ([.ref (ad 0 0 0), .ref a1])).length) Slot.unset).toArray = ls at hl ⊢
  exact bX0_own_0 F hB hS hw hl
theorem kX0_X0_own {p : Program} {l : Launch} {e : Env} {R : Room} {s : State} {m : MethodId} {args : Array Value} {below : List Frame} {meth : Method} {c : Code} {H : Heap} {locs : List Loc} {cells slots : Nat} {Q0 : State → Prop} {cc : ByteArray} {pc nL : Nat} {ls : Array Slot} {rest : List Value} {ret : Option FieldType} {D : DD} {A : Nat → Prop} {s0 : State} {ad : AD} {V : CV} {a1 : Nat} {Q : Nat → CV → Prop} (F : FX p l c cc s args m RX0 D A s0 nL meth ret) (hB : cB D A ad V H) (hS : va_S A s.heap H locs) (hw : wX0_own a1 V Q) (hR : rX0_own.frames + 1 ≤ R.frames ∧ 8 + (3 + 11) + rX0_own.locals ≤ R.locals) (hc : cells + 4 ≤ R.cells ∧ slots + 55 ≤ R.slots) (hsz : ls.size = nL) (hW : (rest.map fun v => v.category).sum ≤ 8) (hdg : decode cc pc = .ok (.invokevirtual 497, 3)) (kk : ∀ (r : Nat) (u : CV) (H1 : Heap) (locs1 : List Loc), Q r u → cB D A ad u H1 → va_S A s.heap H1 locs1 → W p l e R s m args below meth c H1 locs1 (cells + 4) (slots + 55) Q0 (F0 m (pc + 3) ls (.ref r :: rest))) : W p l e R s m args below meth c H locs cells slots Q0 (F0 m pc ls (.ref a1 :: .ref (ad 0 0 0) :: rest)) :=
  k_n (Bw := cB D A ad) (k_runV (Bw := cB D A ad) (n := 1) (As := [.ref a1]) F hB hS (c_at F (hB.pic cpic0) rfl) (mX0_own hw) q1122 q1124 qs37 q83 q1125 (by decide +kernel) hR ⟨rfl, rfl⟩ hc rfl hsz rfl hW hdg) hS kk
def rX15_init : Room := { frames := 1, cells := 0, slots := 0, locals := 40 }
set_option maxHeartbeats 4000000 in
theorem bX15_init_0 {p : Program} {l : Launch} {e : Env} {s : State} {m : MethodId} {args : Array Value} {below : List Frame} {meth : Method} {c : Code} {D : DD} {A : Nat → Prop} {s0 : State} {ad : AD} {Q : CV → Prop} {a0 : Nat} {a1 : Int32} {V : CV} {H : Heap} {locs : List Loc} {ls : Array Slot} (F : FX p l c cX15_init s args m RX15 D A s0 2 meth (none)) (hin : meth.name = "<init>") (hB : cB D A ad V H) (hS : va_S A s.heap H locs) (hw : wX15_init a0 a1 V Q) (hl : lv_has ls 2 [(0, .ref a0), (1, .int a1)]) : W p l e rX15_init s m args below meth c H locs 0 0 (MQ below (va_Qv Q (fun u t => cB D A ad u t.heap) A) args s 0 0 A) (F0 m 0 ls []) := by
  have hx := F.1.x
  have hb := F.1.b
  unfold wX15_init at hw
  refine lv_aload_n hx hb dX15_init_0 rfl (lv_at hl 0 rfl) ?_
  refine W.objInit hx hb F.1.o (F.1.t _ q1131) (F.1.t _ q117) (F.1.t _ q118) rfl (by rw [F.1.ml]; exact hl.1) rfl dX15_init_1 (Nat.le_of_ble_eq_true rfl) (Nat.le_of_ble_eq_true rfl) ?_
  refine W.eq (g2 := F0 m 4 ls []) rfl ?_
  refine lv_aload_n hx hb dX15_init_4 rfl (lv_at hl 0 rfl) ?_
  refine lv_iload_n hx hb dX15_init_5 rfl (lv_at hl 1 rfl) ?_
  obtain ⟨fs1, hm2, hl3, hw⟩ := hw
  refine cf_X15_7 F hB hS hin hm2 hl3 dX15_init_6 (fun H locs hB hS => ?_)
  exact W.vret hx hb F.1.r (fun t ht hW => ⟨⟨_, rfl, hw, x_B (Bw := cB D A ad) ht hB⟩, hS.F ht⟩) hS.2.2 dX15_init_9 (hlocks := F.1.k)
set_option maxHeartbeats 4000000 in
theorem mX15_init {l : Launch} {D : DD} {A : Nat → Prop} {s0 : State} {ad : AD} {V : CV} {a0 : Nat} {a1 : Int32} {Q : CV → Prop} (hw : wX15_init a0 a1 V Q) : Met l yX15_init (ws_ yX15_init cX15_init 2 (none)) rX15_init (va_Pc [.ref a0, .int a1] (fun U => cB D A ad V U.heap ∧ CX l D A s0 U)) (va_Qv Q (fun u t => cB D A ad u t.heap) A) 0 0 A := by
  refine Met.ofW (cc := cX15_init) (maxL := 2) (ret := none) (by decide) rfl ?_
  intro p e s m args below meth c s₁ B hml hv
  obtain ⟨rfl, hB, hC⟩ := hv
  have F : FX p l c cX15_init s _ m RX15 D A s0 2 meth (none) := ⟨mk_FP B hml rfl, hC⟩
  have hS : va_S A s.heap s.heap [] := va_S.rf
  have hin : meth.name = "<init>" := (name_of_methodNamed B.named B.method).1
  have hl := lv_entry ([.ref a0, .int a1]) (n := 2) (Nat.le_of_ble_eq_true rfl)
  rw [lg_entry_eq]
  generalize (lg_sl ([.ref a0, .int a1]) ++ List.replicate (2 - (lg_sl ([.ref a0, .int a1])).length) Slot.unset).toArray = ls at hl ⊢
  exact bX15_init_0 F hin hB hS hw hl
theorem kX0_X15_init {p : Program} {l : Launch} {e : Env} {R : Room} {s : State} {m : MethodId} {args : Array Value} {below : List Frame} {meth : Method} {c : Code} {H : Heap} {locs : List Loc} {cells slots : Nat} {Q0 : State → Prop} {cc : ByteArray} {pc nL : Nat} {ls : Array Slot} {rest : List Value} {ret : Option FieldType} {D : DD} {A : Nat → Prop} {s0 : State} {ad : AD} {V : CV} {a0 : Nat} {a1 : Int32} {Q : CV → Prop} (F : FX p l c cc s args m RX0 D A s0 nL meth ret) (hB : cB D A ad V H) (hS : va_S A s.heap H locs) (hw : wX15_init a0 a1 V Q) (hR : rX15_init.frames + 1 ≤ R.frames ∧ 8 + (2 + 11) + rX15_init.locals ≤ R.locals) (hc : cells + 0 ≤ R.cells ∧ slots + 0 ≤ R.slots) (hsz : ls.size = nL) (hW : (rest.map fun v => v.category).sum ≤ 8) (hdg : decode cc pc = .ok (.invokespecial 503, 3)) (kk : ∀ (u : CV) (H1 : Heap) (locs1 : List Loc), Q u → cB D A ad u H1 → va_S A s.heap H1 locs1 → W p l e R s m args below meth c H1 locs1 cells slots Q0 (F0 m (pc + 3) ls (rest))) : W p l e R s m args below meth c H locs cells slots Q0 (F0 m pc ls (.int a1 :: .ref a0 :: rest)) :=
  k_v (Bw := cB D A ad) (k_runI (Bw := cB D A ad) (n := 1) (As := [.int a1]) F hB hS (mX15_init hw) q1128 q1129 q110 q1130 rfl (by decide +kernel) hR ⟨rfl, rfl⟩ hc rfl hsz rfl hW hdg) hS kk
def rX0_lay : Room := { frames := 9, cells := 4, slots := 55, locals := 10343 }
set_option maxHeartbeats 4000000 in
theorem bX0_lay_136 {p : Program} {l : Launch} {e : Env} {s : State} {m : MethodId} {args : Array Value} {below : List Frame} {meth : Method} {c : Code} {D : DD} {A : Nat → Prop} {s0 : State} {ad : AD} {Q : Int32 → CV → Prop} {l4 : Int32} {k0 : Option Nat} {k1 : Nat} {V : CV} {H : Heap} {locs : List Loc} {ls : Array Slot} (F : FX p l c cX0_lay s args m RX0 D A s0 5 meth (some .int)) (g_k1 : k1 < 5) (hB : cB D A ad V H) (hS : va_S A s.heap H locs) (hw : wX0_lay_136 l4 k0 k1 V Q) (hl : lv_has ls 5 [(4, .int l4)]) : W p l e rX0_lay s m args below meth c H locs 4 55 (MQ below (va_Qi Q (fun u t => cB D A ad u t.heap) A) args s 4 55 A) (F0 m 136 ls [va_rf k0, .ref (ad 5 k1 0)]) := by
  have hx := F.1.x
  have hb := F.1.b
  unfold wX0_lay_136 at hw
  refine cp_X0_505 (r := k0) F hB hS g_k1 dX0_lay_136 (fun H locs hB hS => ?_)
  refine lv_iload hx hb dX0_lay_139 (lv_at hl 0 rfl) ?_
  exact W.iret hx hb F.1.r (fun t ht hW => ⟨⟨_, _, rfl, hw, x_B (Bw := cB D A ad) ht hB⟩, hS.F ht⟩) hS.2.2 dX0_lay_141 (hlocks := F.1.k)
set_option maxHeartbeats 4000000 in
theorem bX0_lay_65 {p : Program} {l : Launch} {e : Env} {s : State} {m : MethodId} {args : Array Value} {below : List Frame} {meth : Method} {c : Code} {D : DD} {A : Nat → Prop} {s0 : State} {ad : AD} {Q : Int32 → CV → Prop} {l1 : Int32} {l2 : Int32} {l3 : Int32} {V : CV} {H : Heap} {locs : List Loc} {ls : Array Slot} (F : FX p l c cX0_lay s args m RX0 D A s0 5 meth (some .int)) (hB : cB D A ad V H) (hS : va_S A s.heap H locs) (hw : wX0_lay_65 l1 l2 l3 V Q) (hl : lv_has ls 5 [(0, .ref (ad 0 0 0)), (1, .int l1), (2, .int l2), (3, .int l3)]) : W p l e rX0_lay s m args below meth c H locs 0 0 (MQ below (va_Qi Q (fun u t => cB D A ad u t.heap) A) args s 4 55 A) (F0 m 65 ls []) := by
  have hx := F.1.x
  have hb := F.1.b
  unfold wX0_lay_65 at hw
  refine lv_aload_n hx hb dX0_lay_65 rfl (lv_at hl 0 rfl) ?_
  refine cg_X0_87 F hB dX0_lay_66 ?_
  refine lv_iload_n hx hb dX0_lay_69 rfl (lv_at hl 1 rfl) ?_
  obtain ⟨hin1, hw⟩ := hw
  refine cl_Sl F hB hin1 dX0_lay_70 ?_
  refine kX0_X5_thing F hB hS hw ⟨Nat.le_of_ble_eq_true rfl, Nat.le_of_ble_eq_true rfl⟩ ⟨by show _ ≤ 4; omega, by show _ ≤ 55; omega⟩ hl.1 (Nat.le_of_ble_eq_true rfl) dX0_lay_71 (fun r2 V3 H locs hw hB hS => ?_)
  refine lv_istore (lv' := [(4, .int r2), (0, .ref (ad 0 0 0)), (1, .int l1), (2, .int l2), (3, .int l3)]) hx hb dX0_lay_74 hl (by decide) rfl (fun ls hl => ?_)
  refine lv_aload_n hx hb dX0_lay_76 rfl (lv_at hl 1 rfl) ?_
  refine cg_X0_87 F hB dX0_lay_77 ?_
  refine lv_iload_n hx hb dX0_lay_80 rfl (lv_at hl 2 rfl) ?_
  obtain ⟨hin4, hw⟩ := hw
  refine cl_Sl F hB hin4 dX0_lay_81 ?_
  refine lv_iload_n hx hb dX0_lay_82 rfl (lv_at hl 3 rfl) ?_
  refine lv_if_ne (tgt := 90) hx hb dX0_lay_83 (by decide) (fun q => ?_) (fun q => ?_)
  · replace hw := hw.2 q
    refine lv_iload_n hx hb dX0_lay_90 rfl (lv_at hl 3 rfl) ?_
    refine lv_iconst (v := 1) hx hb dX0_lay_91 (by decide) ?_
    refine lv_icmp_ne (tgt := 110) hx hb dX0_lay_92 (by decide) (fun q => ?_) (fun q => ?_)
    · replace hw := hw.2 q
      refine lv_iload_n hx hb dX0_lay_110 rfl (lv_at hl 3 rfl) ?_
      refine lv_iconst (v := 2) hx hb dX0_lay_111 (by decide) ?_
      refine lv_icmp_ne (tgt := 128) hx hb dX0_lay_112 (by decide) (fun q => ?_) (fun q => ?_)
      · replace hw := hw.2 q
        refine nX0_501 F hB hS (by show 0 + 1 ≤ 4; omega) (by show 0 + 1 ≤ 55; omega) dX0_lay_128 (fun q5 H hq6 hB hS => ?_)
        replace hw := hw q5 hq6
        refine lv_dup hx hb dX0_lay_131 rfl ?_
        refine lv_iload_n hx hb dX0_lay_132 rfl (lv_at hl 4 rfl) ?_
        refine kX0_X15_init F hB hS hw ⟨Nat.le_of_ble_eq_true rfl, Nat.le_of_ble_eq_true rfl⟩ ⟨by show _ ≤ 4; omega, by show _ ≤ 55; omega⟩ hl.1 (Nat.le_of_ble_eq_true rfl) dX0_lay_133 (fun V8 H locs hw hB hS => ?_)
        refine W.widen (k := 4) (n := 55) (by omega) (by omega) ?_
        exact bX0_lay_136 F (x_lt hin4) hB hS hw (lv_sub hl [0] rfl)
      · replace hw := hw.1 q
        refine lv_aload_n hx hb dX0_lay_115 rfl (lv_at hl 1 rfl) ?_
        refine lv_aload_n hx hb dX0_lay_116 rfl (lv_at hl 1 rfl) ?_
        refine cg_X0_80 F hB dX0_lay_117 ?_
        refine lv_iload_n hx hb dX0_lay_120 rfl (lv_at hl 4 rfl) ?_
        obtain ⟨hin9, hw⟩ := hw
        refine cl_Sh F hB hin9 dX0_lay_121 ?_
        obtain ⟨y10, e11, hw⟩ := hw
        refine W.eq (g2 := F0 m 122 ls [.ref y10, .ref (ad 0 0 0), .ref (ad 5 l1.toNatClampNeg 0)]) (congrArg (fun z => F0 m 122 ls [va_rf z, .ref (ad 0 0 0), .ref (ad 5 l1.toNatClampNeg 0)]) e11) ?_
        refine kX0_X0_own F hB hS hw ⟨Nat.le_of_ble_eq_true rfl, Nat.le_of_ble_eq_true rfl⟩ ⟨by show _ ≤ 4; omega, by show _ ≤ 55; omega⟩ hl.1 (Nat.le_of_ble_eq_true rfl) dX0_lay_122 (fun r12 V13 H locs hw hB hS => ?_)
        refine lv_goto (tgt := 136) hx hb dX0_lay_125 (by decide) ?_
        exact bX0_lay_136 F (x_lt hin4) hB hS hw (lv_sub hl [0] rfl)
    · replace hw := hw.1 q
      refine lv_aload_n hx hb dX0_lay_95 rfl (lv_at hl 1 rfl) ?_
      refine cg_X0_46 F hB dX0_lay_96 ?_
      refine cg_X0_259 F hB (by decide) dX0_lay_99 ?_
      refine lv_iload_n hx hb dX0_lay_102 rfl (lv_at hl 4 rfl) ?_
      obtain ⟨hin14, hw⟩ := hw
      refine cl_Sp F hB (by decide) hin14 dX0_lay_103 ?_
      obtain ⟨y15, e16, hw⟩ := hw
      refine W.eq (g2 := F0 m 104 ls [.ref y15, .ref (ad 5 l1.toNatClampNeg 0)]) (congrArg (fun z => F0 m 104 ls [va_rf z, .ref (ad 5 l1.toNatClampNeg 0)]) e16) ?_
      obtain ⟨c18, b19, hk20, hm21, hw⟩ := hw
      refine kX0_X7_copy F hB hS hk20 hm21 hw ⟨Nat.le_of_ble_eq_true rfl, Nat.le_of_ble_eq_true rfl⟩ ⟨by show _ ≤ 4; omega, by show _ ≤ 55; omega⟩ hl.1 (Nat.le_of_ble_eq_true rfl) dX0_lay_104 (fun r17 V22 H locs hw hB hS => ?_)
      refine lv_goto (tgt := 136) hx hb dX0_lay_107 (by decide) ?_
      refine W.widen (k := 4) (n := 55) (by omega) (by omega) ?_
      exact bX0_lay_136 F (x_lt hin4) hB hS hw (lv_sub hl [0] rfl)
  · replace hw := hw.1 q
    refine lv_null hx hb dX0_lay_86 ?_
    refine lv_goto (tgt := 136) hx hb dX0_lay_87 (by decide) ?_
    refine W.widen (k := 4) (n := 55) (by omega) (by omega) ?_
    exact bX0_lay_136 F (x_lt hin4) hB hS hw (lv_sub hl [0] rfl)
set_option maxHeartbeats 4000000 in
theorem bX0_lay_44 {p : Program} {l : Launch} {e : Env} {s : State} {m : MethodId} {args : Array Value} {below : List Frame} {meth : Method} {c : Code} {D : DD} {A : Nat → Prop} {s0 : State} {ad : AD} {Q : Int32 → CV → Prop} {l1 : Int32} {l2 : Int32} {l3 : Int32} {V : CV} {H : Heap} {locs : List Loc} {ls : Array Slot} (F : FX p l c cX0_lay s args m RX0 D A s0 5 meth (some .int)) (hB : cB D A ad V H) (hS : va_S A s.heap H locs) (hw : wX0_lay_44 l1 l2 l3 V Q) (hl : lv_has ls 5 [(0, .ref (ad 0 0 0)), (1, .int l1), (2, .int l2), (3, .int l3)]) : W p l e rX0_lay s m args below meth c H locs 0 0 (MQ below (va_Qi Q (fun u t => cB D A ad u t.heap) A) args s 4 55 A) (F0 m 44 ls []) := by
  have hx := F.1.x
  have hb := F.1.b
  unfold wX0_lay_44 at hw
  refine lv_iload_n hx hb dX0_lay_44 rfl (lv_at hl 2 rfl) ?_
  refine lv_iconst (v := 2) hx hb dX0_lay_45 (by decide) ?_
  refine lv_icmp_ne (tgt := 65) hx hb dX0_lay_46 (by decide) (fun q => ?_) (fun q => ?_)
  · replace hw := hw.2 q
    exact bX0_lay_65 F hB hS hw hl
  · replace hw := hw.1 q
    refine lv_aload_n hx hb dX0_lay_49 rfl (lv_at hl 0 rfl) ?_
    refine cg_X0_80 F hB dX0_lay_50 ?_
    refine lv_iload_n hx hb dX0_lay_53 rfl (lv_at hl 3 rfl) ?_
    obtain ⟨hin1, hw⟩ := hw
    refine cl_Sh F hB hin1 dX0_lay_54 ?_
    obtain ⟨y2, e3, hw⟩ := hw
    refine W.eq (g2 := F0 m 55 ls [.ref y2]) (congrArg (fun z => F0 m 55 ls [va_rf z]) e3) ?_
    obtain ⟨f5, hm6, hw⟩ := hw
    refine kX0_X4_isThere F hB hS hm6 hw ⟨Nat.le_of_ble_eq_true rfl, Nat.le_of_ble_eq_true rfl⟩ ⟨by show _ ≤ 4; omega, by show _ ≤ 55; omega⟩ hl.1 (Nat.le_of_ble_eq_true rfl) dX0_lay_55 (fun r4 V7 H locs hw hB hS => ?_)
    refine lv_if_ne (tgt := 65) hx hb dX0_lay_58 (by decide) (fun q => ?_) (fun q => ?_)
    · replace hw := hw.2 q
      exact bX0_lay_65 F hB hS hw hl
    · replace hw := hw.1 q
      refine lv_ldcw hx hb F.1.o (F.1.t _ q1019) dX0_lay_61 ?_
      refine W.widen (k := 4) (n := 55) (by omega) (by omega) ?_
      exact W.iret hx hb F.1.r (fun t ht hW => ⟨⟨_, _, rfl, hw, x_B (Bw := cB D A ad) ht hB⟩, hS.F ht⟩) hS.2.2 dX0_lay_64 (hlocks := F.1.k)
set_option maxHeartbeats 4000000 in
theorem bX0_lay_29 {p : Program} {l : Launch} {e : Env} {s : State} {m : MethodId} {args : Array Value} {below : List Frame} {meth : Method} {c : Code} {D : DD} {A : Nat → Prop} {s0 : State} {ad : AD} {Q : Int32 → CV → Prop} {l1 : Int32} {l2 : Int32} {l3 : Int32} {V : CV} {H : Heap} {locs : List Loc} {ls : Array Slot} (F : FX p l c cX0_lay s args m RX0 D A s0 5 meth (some .int)) (hB : cB D A ad V H) (hS : va_S A s.heap H locs) (hw : wX0_lay_29 l1 l2 l3 V Q) (hl : lv_has ls 5 [(0, .ref (ad 0 0 0)), (1, .int l1), (2, .int l2), (3, .int l3)]) : W p l e rX0_lay s m args below meth c H locs 0 0 (MQ below (va_Qi Q (fun u t => cB D A ad u t.heap) A) args s 4 55 A) (F0 m 29 ls []) := by
  have hx := F.1.x
  have hb := F.1.b
  unfold wX0_lay_29 at hw
  refine lv_iload_n hx hb dX0_lay_29 rfl (lv_at hl 2 rfl) ?_
  refine lv_iconst (v := 2) hx hb dX0_lay_30 (by decide) ?_
  refine lv_icmp_ne (tgt := 44) hx hb dX0_lay_31 (by decide) (fun q => ?_) (fun q => ?_)
  · replace hw := hw.2 q
    exact bX0_lay_44 F hB hS hw hl
  · replace hw := hw.1 q
    refine lv_iload_n hx hb dX0_lay_34 rfl (lv_at hl 3 rfl) ?_
    refine kX0_X0_isSheet F.1 hw ⟨Nat.le_of_ble_eq_true rfl, Nat.le_of_ble_eq_true rfl⟩ ⟨by show _ ≤ 4; omega, by show _ ≤ 55; omega⟩ hl.1 (Nat.le_of_ble_eq_true rfl) dX0_lay_35 (fun r1 hw => ?_)
    refine lv_if_ne (tgt := 44) hx hb dX0_lay_38 (by decide) (fun q => ?_) (fun q => ?_)
    · replace hw := hw.2 q
      exact bX0_lay_44 F hB hS hw hl
    · replace hw := hw.1 q
      refine lv_ldc hx hb F.1.o (F.1.t _ q392) dX0_lay_41 ?_
      refine W.widen (k := 4) (n := 55) (by omega) (by omega) ?_
      exact W.iret hx hb F.1.r (fun t ht hW => ⟨⟨_, _, rfl, hw, x_B (Bw := cB D A ad) ht hB⟩, hS.F ht⟩) hS.2.2 dX0_lay_43 (hlocks := F.1.k)
set_option maxHeartbeats 4000000 in
theorem bX0_lay_0 {p : Program} {l : Launch} {e : Env} {s : State} {m : MethodId} {args : Array Value} {below : List Frame} {meth : Method} {c : Code} {D : DD} {A : Nat → Prop} {s0 : State} {ad : AD} {Q : Int32 → CV → Prop} {a1 : Int32} {a2 : Int32} {a3 : Int32} {V : CV} {H : Heap} {locs : List Loc} {ls : Array Slot} (F : FX p l c cX0_lay s args m RX0 D A s0 5 meth (some .int)) (hB : cB D A ad V H) (hS : va_S A s.heap H locs) (hw : wX0_lay a1 a2 a3 V Q) (hl : lv_has ls 5 [(0, .ref (ad 0 0 0)), (1, .int a1), (2, .int a2), (3, .int a3)]) : W p l e rX0_lay s m args below meth c H locs 0 0 (MQ below (va_Qi Q (fun u t => cB D A ad u t.heap) A) args s 4 55 A) (F0 m 0 ls []) := by
  have hx := F.1.x
  have hb := F.1.b
  unfold wX0_lay at hw
  refine lv_iload_n hx hb dX0_lay_0 rfl (lv_at hl 1 rfl) ?_
  refine kX0_X0_isSlot F.1 hw ⟨Nat.le_of_ble_eq_true rfl, Nat.le_of_ble_eq_true rfl⟩ ⟨by show _ ≤ 4; omega, by show _ ≤ 55; omega⟩ hl.1 (Nat.le_of_ble_eq_true rfl) dX0_lay_1 (fun r1 hw => ?_)
  refine lv_if_eq (tgt := 41) hx hb dX0_lay_4 (by decide) (fun q => ?_) (fun q => ?_)
  · replace hw := hw.1 q
    refine lv_ldc hx hb F.1.o (F.1.t _ q392) dX0_lay_41 ?_
    refine W.widen (k := 4) (n := 55) (by omega) (by omega) ?_
    exact W.iret hx hb F.1.r (fun t ht hW => ⟨⟨_, _, rfl, hw, x_B (Bw := cB D A ad) ht hB⟩, hS.F ht⟩) hS.2.2 dX0_lay_43 (hlocks := F.1.k)
  · replace hw := hw.2 q
    refine lv_iload_n hx hb dX0_lay_7 rfl (lv_at hl 2 rfl) ?_
    refine lv_iconst (v := 0) hx hb dX0_lay_8 (by decide) ?_
    refine lv_iconst (v := 3) hx hb dX0_lay_9 (by decide) ?_
    refine kX0_X0_isIn F.1 hw ⟨Nat.le_of_ble_eq_true rfl, Nat.le_of_ble_eq_true rfl⟩ ⟨by show _ ≤ 4; omega, by show _ ≤ 55; omega⟩ hl.1 (Nat.le_of_ble_eq_true rfl) dX0_lay_10 (fun r2 hw => ?_)
    refine lv_if_eq (tgt := 41) hx hb dX0_lay_13 (by decide) (fun q => ?_) (fun q => ?_)
    · replace hw := hw.1 q
      refine lv_ldc hx hb F.1.o (F.1.t _ q392) dX0_lay_41 ?_
      refine W.widen (k := 4) (n := 55) (by omega) (by omega) ?_
      exact W.iret hx hb F.1.r (fun t ht hW => ⟨⟨_, _, rfl, hw, x_B (Bw := cB D A ad) ht hB⟩, hS.F ht⟩) hS.2.2 dX0_lay_43 (hlocks := F.1.k)
    · replace hw := hw.2 q
      refine lv_iload_n hx hb dX0_lay_16 rfl (lv_at hl 2 rfl) ?_
      refine lv_iconst (v := 1) hx hb dX0_lay_17 (by decide) ?_
      refine lv_icmp_ne (tgt := 29) hx hb dX0_lay_18 (by decide) (fun q => ?_) (fun q => ?_)
      · replace hw := hw.2 q
        exact bX0_lay_29 F hB hS hw hl
      · replace hw := hw.1 q
        refine lv_aload_n hx hb dX0_lay_21 rfl (lv_at hl 0 rfl) ?_
        refine lv_iload_n hx hb dX0_lay_22 rfl (lv_at hl 3 rfl) ?_
        refine kX0_X0_isPerson F hB hS hw ⟨Nat.le_of_ble_eq_true rfl, Nat.le_of_ble_eq_true rfl⟩ ⟨by show _ ≤ 4; omega, by show _ ≤ 55; omega⟩ hl.1 (Nat.le_of_ble_eq_true rfl) dX0_lay_23 (fun r3 V4 H locs hw hB hS => ?_)
        refine lv_if_eq (tgt := 41) hx hb dX0_lay_26 (by decide) (fun q => ?_) (fun q => ?_)
        · replace hw := hw.1 q
          refine lv_ldc hx hb F.1.o (F.1.t _ q392) dX0_lay_41 ?_
          refine W.widen (k := 4) (n := 55) (by omega) (by omega) ?_
          exact W.iret hx hb F.1.r (fun t ht hW => ⟨⟨_, _, rfl, hw, x_B (Bw := cB D A ad) ht hB⟩, hS.F ht⟩) hS.2.2 dX0_lay_43 (hlocks := F.1.k)
        · replace hw := hw.2 q
          exact bX0_lay_29 F hB hS hw hl
set_option maxHeartbeats 4000000 in
theorem mX0_lay {l : Launch} {D : DD} {A : Nat → Prop} {s0 : State} {ad : AD} {V : CV} {a1 : Int32} {a2 : Int32} {a3 : Int32} {Q : Int32 → CV → Prop} (hw : wX0_lay a1 a2 a3 V Q) : Met l yX0_lay (ws_ yX0_lay cX0_lay 5 (some .int)) rX0_lay (va_Pc [.ref (ad 0 0 0), .int a1, .int a2, .int a3] (fun U => cB D A ad V U.heap ∧ CX l D A s0 U)) (va_Qi Q (fun u t => cB D A ad u t.heap) A) 4 55 A := by
  refine Met.ofW (cc := cX0_lay) (maxL := 5) (ret := some .int) (by decide) rfl ?_
  intro p e s m args below meth c s₁ B hml hv
  obtain ⟨rfl, hB, hC⟩ := hv
  have F : FX p l c cX0_lay s _ m RX0 D A s0 5 meth (some .int) := ⟨mk_FP B hml rfl, hC⟩
  have hS : va_S A s.heap s.heap [] := va_S.rf
  have hl := lv_entry ([.ref (ad 0 0 0), .int a1, .int a2, .int a3]) (n := 5) (Nat.le_of_ble_eq_true rfl)
  rw [lg_entry_eq]
  generalize (lg_sl ([.ref (ad 0 0 0), .int a1, .int a2, .int a3]) ++ List.replicate (5 - (lg_sl ([.ref (ad 0 0 0), .int a1, .int a2, .int a3])).length) Slot.unset).toArray = ls at hl ⊢
  exact bX0_lay_0 F hB hS hw hl
def rX4_put : Room := { frames := 1, cells := 0, slots := 0, locals := 20 }
set_option maxHeartbeats 4000000 in
theorem bX4_put_0 {p : Program} {l : Launch} {e : Env} {s : State} {m : MethodId} {args : Array Value} {below : List Frame} {meth : Method} {c : Code} {D : DD} {A : Nat → Prop} {s0 : State} {ad : AD} {Q : CV → Prop} {a0 : Nat} {a1 : Int32} {a2 : Int32} {V : CV} {H : Heap} {locs : List Loc} {ls : Array Slot} (F : FX p l c cX4_put s args m RX4 D A s0 3 meth (none)) (hB : cB D A ad V H) (hS : va_S A s.heap H locs) (hw : wX4_put a0 a1 a2 V Q) (hl : lv_has ls 3 [(0, .ref a0), (1, .int a1), (2, .int a2)]) : W p l e rX4_put s m args below meth c H locs 0 0 (MQ below (va_Qv Q (fun u t => cB D A ad u t.heap) A) args s 0 0 A) (F0 m 0 ls []) := by
  have hx := F.1.x
  have hb := F.1.b
  unfold wX4_put at hw
  refine lv_aload_n hx hb dX4_put_0 rfl (lv_at hl 0 rfl) ?_
  obtain ⟨f2, hm3, hw⟩ := hw
  refine kX4_X4_isFloats F hB hS hm3 hw ⟨Nat.le_of_ble_eq_true rfl, Nat.le_of_ble_eq_true rfl⟩ ⟨Nat.zero_le _, Nat.zero_le _⟩ hl.1 (Nat.le_of_ble_eq_true rfl) dX4_put_1 (fun r1 V4 H locs hw hB hS => ?_)
  refine lv_if_eq (tgt := 21) hx hb dX4_put_4 (by decide) (fun q => ?_) (fun q => ?_)
  · replace hw := hw.1 q
    refine lv_aload_n hx hb dX4_put_21 rfl (lv_at hl 0 rfl) ?_
    obtain ⟨f5, hm6, hw⟩ := hw
    refine cg_X4_7 F hB hm6 dX4_put_22 ?_
    obtain ⟨y7, e8, hw⟩ := hw
    refine W.eq (g2 := F0 m 25 ls [.ref y7]) (congrArg (fun z => F0 m 25 ls [va_rf z]) e8) ?_
    obtain ⟨n9, f10, hm11, hw⟩ := hw
    refine dc_H F hB hm11 q1029 dX4_put_25 ?_
    refine lv_iload_n hx hb dX4_put_28 rfl (lv_at hl 1 rfl) ?_
    refine lv_iload_n hx hb dX4_put_29 rfl (lv_at hl 2 rfl) ?_
    refine lv_i2s hx hb dX4_put_30 rfl ?_
    obtain ⟨hin12, hw⟩ := hw
    refine dt_H F hB hS hm11 hin12 dX4_put_31 (fun H locs hB hS => ?_)
    exact W.vret hx hb F.1.r (fun t ht hW => ⟨⟨_, rfl, hw, x_B (Bw := cB D A ad) ht hB⟩, hS.F ht⟩) hS.2.2 dX4_put_32 (hlocks := F.1.k)
  · replace hw := hw.2 q
    refine lv_aload_n hx hb dX4_put_7 rfl (lv_at hl 0 rfl) ?_
    obtain ⟨f13, hm14, hw⟩ := hw
    refine cg_X4_7 F hB hm14 dX4_put_8 ?_
    obtain ⟨y15, e16, hw⟩ := hw
    refine W.eq (g2 := F0 m 11 ls [.ref y15]) (congrArg (fun z => F0 m 11 ls [va_rf z]) e16) ?_
    obtain ⟨n17, f18, hm19, hw⟩ := hw
    refine dc_F F hB hm19 q1028 dX4_put_11 ?_
    refine lv_iload_n hx hb dX4_put_14 rfl (lv_at hl 1 rfl) ?_
    refine lv_iload_n hx hb dX4_put_15 rfl (lv_at hl 2 rfl) ?_
    refine lv_i2f hx hb dX4_put_16 ?_
    obtain ⟨hin20, hw⟩ := hw
    refine dt_F F hB hS hm19 hin20 dX4_put_17 (fun H locs hB hS => ?_)
    refine lv_goto (tgt := 32) hx hb dX4_put_18 (by decide) ?_
    exact W.vret hx hb F.1.r (fun t ht hW => ⟨⟨_, rfl, hw, x_B (Bw := cB D A ad) ht hB⟩, hS.F ht⟩) hS.2.2 dX4_put_32 (hlocks := F.1.k)
set_option maxHeartbeats 4000000 in
theorem mX4_put {l : Launch} {D : DD} {A : Nat → Prop} {s0 : State} {ad : AD} {V : CV} {a0 : Nat} {a1 : Int32} {a2 : Int32} {Q : CV → Prop} (hw : wX4_put a0 a1 a2 V Q) : Met l yX4_put (ws_ yX4_put cX4_put 3 (none)) rX4_put (va_Pc [.ref a0, .int a1, .int a2] (fun U => cB D A ad V U.heap ∧ CX l D A s0 U)) (va_Qv Q (fun u t => cB D A ad u t.heap) A) 0 0 A := by
  refine Met.ofW (cc := cX4_put) (maxL := 3) (ret := none) (by decide) rfl ?_
  intro p e s m args below meth c s₁ B hml hv
  obtain ⟨rfl, hB, hC⟩ := hv
  have F : FX p l c cX4_put s _ m RX4 D A s0 3 meth (none) := ⟨mk_FP B hml rfl, hC⟩
  have hS : va_S A s.heap s.heap [] := va_S.rf
  have hl := lv_entry ([.ref a0, .int a1, .int a2]) (n := 3) (Nat.le_of_ble_eq_true rfl)
  rw [lg_entry_eq]
  generalize (lg_sl ([.ref a0, .int a1, .int a2]) ++ List.replicate (3 - (lg_sl ([.ref a0, .int a1, .int a2])).length) Slot.unset).toArray = ls at hl ⊢
  exact bX4_put_0 F hB hS hw hl
theorem kX0_X4_put {p : Program} {l : Launch} {e : Env} {R : Room} {s : State} {m : MethodId} {args : Array Value} {below : List Frame} {meth : Method} {c : Code} {H : Heap} {locs : List Loc} {cells slots : Nat} {Q0 : State → Prop} {cc : ByteArray} {pc nL : Nat} {ls : Array Slot} {rest : List Value} {ret : Option FieldType} {D : DD} {A : Nat → Prop} {s0 : State} {ad : AD} {V : CV} {a0 : Nat} {a1 : Int32} {a2 : Int32} {Q : CV → Prop} (F : FX p l c cc s args m RX0 D A s0 nL meth ret) (hB : cB D A ad V H) (hS : va_S A s.heap H locs) {fs : List Value} (hm : vM V a0 = some (.inr (4, fs))) (hw : wX4_put a0 a1 a2 V Q) (hR : rX4_put.frames + 1 ≤ R.frames ∧ 8 + (3 + 11) + rX4_put.locals ≤ R.locals) (hc : cells + 0 ≤ R.cells ∧ slots + 0 ≤ R.slots) (hsz : ls.size = nL) (hW : (rest.map fun v => v.category).sum ≤ 8) (hdg : decode cc pc = .ok (.invokevirtual 460, 3)) (kk : ∀ (u : CV) (H1 : Heap) (locs1 : List Loc), Q u → cB D A ad u H1 → va_S A s.heap H1 locs1 → W p l e R s m args below meth c H1 locs1 cells slots Q0 (F0 m (pc + 3) ls (rest))) : W p l e R s m args below meth c H locs cells slots Q0 (F0 m pc ls (.int a2 :: .int a1 :: .ref a0 :: rest)) :=
  k_v (Bw := cB D A ad) (k_runV (Bw := cB D A ad) (n := 2) (As := [.int a1, .int a2]) F hB hS (c_at F (hB.dyn hm) rfl) (mX4_put hw) q1037 q1038 q1039 q90 q1040 (by decide +kernel) hR ⟨rfl, rfl⟩ hc rfl hsz rfl hW hdg) hS kk
def rX0_markIn : Room := { frames := 2, cells := 0, slots := 0, locals := 42 }
set_option maxHeartbeats 4000000 in
theorem bX0_markIn_54 {p : Program} {l : Launch} {e : Env} {s : State} {m : MethodId} {args : Array Value} {below : List Frame} {meth : Method} {c : Code} {D : DD} {A : Nat → Prop} {s0 : State} {ad : AD} {Q : Int32 → CV → Prop} {l0 : Nat} {l1 : Int32} {l2 : Int32} {V : CV} {H : Heap} {locs : List Loc} {ls : Array Slot} (F : FX p l c cX0_markIn s args m RX0 D A s0 3 meth (some .int)) (hB : cB D A ad V H) (hS : va_S A s.heap H locs) (hw : wX0_markIn_54 l0 l1 l2 V Q) (hl : lv_has ls 3 [(0, .ref l0), (1, .int l1), (2, .int l2)]) : W p l e rX0_markIn s m args below meth c H locs 0 0 (MQ below (va_Qi Q (fun u t => cB D A ad u t.heap) A) args s 0 0 A) (F0 m 54 ls []) := by
  have hx := F.1.x
  have hb := F.1.b
  unfold wX0_markIn_54 at hw
  refine lv_aload_n hx hb dX0_markIn_54 rfl (lv_at hl 0 rfl) ?_
  refine lv_iload_n hx hb dX0_markIn_55 rfl (lv_at hl 1 rfl) ?_
  refine lv_iload_n hx hb dX0_markIn_56 rfl (lv_at hl 2 rfl) ?_
  obtain ⟨f2, hm3, hw⟩ := hw
  refine kX0_X4_put F hB hS hm3 hw ⟨Nat.le_of_ble_eq_true rfl, Nat.le_of_ble_eq_true rfl⟩ ⟨Nat.zero_le _, Nat.zero_le _⟩ hl.1 (Nat.le_of_ble_eq_true rfl) dX0_markIn_57 (fun V4 H locs hw hB hS => ?_)
  refine lv_iconst (v := 1) hx hb dX0_markIn_60 (by decide) ?_
  exact W.iret hx hb F.1.r (fun t ht hW => ⟨⟨_, _, rfl, hw, x_B (Bw := cB D A ad) ht hB⟩, hS.F ht⟩) hS.2.2 dX0_markIn_61 (hlocks := F.1.k)
set_option maxHeartbeats 4000000 in
theorem bX0_markIn_0 {p : Program} {l : Launch} {e : Env} {s : State} {m : MethodId} {args : Array Value} {below : List Frame} {meth : Method} {c : Code} {D : DD} {A : Nat → Prop} {s0 : State} {ad : AD} {Q : Int32 → CV → Prop} {a0 : Nat} {a1 : Int32} {a2 : Int32} {V : CV} {H : Heap} {locs : List Loc} {ls : Array Slot} (F : FX p l c cX0_markIn s args m RX0 D A s0 3 meth (some .int)) (hB : cB D A ad V H) (hS : va_S A s.heap H locs) (hw : wX0_markIn a0 a1 a2 V Q) (hl : lv_has ls 3 [(0, .ref a0), (1, .int a1), (2, .int a2)]) : W p l e rX0_markIn s m args below meth c H locs 0 0 (MQ below (va_Qi Q (fun u t => cB D A ad u t.heap) A) args s 0 0 A) (F0 m 0 ls []) := by
  have hx := F.1.x
  have hb := F.1.b
  unfold wX0_markIn at hw
  refine lv_iload_n hx hb dX0_markIn_0 rfl (lv_at hl 2 rfl) ?_
  refine lv_ldc hx hb F.1.o (F.1.t _ q571) dX0_markIn_1 ?_
  refine lv_icmp_ne (tgt := 31) hx hb dX0_markIn_3 (by decide) (fun q => ?_) (fun q => ?_)
  · replace hw := hw.2 q
    refine lv_aload_n hx hb dX0_markIn_31 rfl (lv_at hl 0 rfl) ?_
    obtain ⟨f2, hm3, hw⟩ := hw
    refine kX0_X4_isFloats F hB hS hm3 hw ⟨Nat.le_of_ble_eq_true rfl, Nat.le_of_ble_eq_true rfl⟩ ⟨Nat.zero_le _, Nat.zero_le _⟩ hl.1 (Nat.le_of_ble_eq_true rfl) dX0_markIn_32 (fun r1 V4 H locs hw hB hS => ?_)
    refine lv_if_eq (tgt := 54) hx hb dX0_markIn_35 (by decide) (fun q => ?_) (fun q => ?_)
    · replace hw := hw.1 q
      exact bX0_markIn_54 F hB hS hw hl
    · replace hw := hw.2 q
      refine lv_iload_n hx hb dX0_markIn_38 rfl (lv_at hl 2 rfl) ?_
      refine lv_ldcw hx hb F.1.o (F.1.t _ q1036) dX0_markIn_39 ?_
      refine lv_ldcw hx hb F.1.o (F.1.t _ q830) dX0_markIn_42 ?_
      refine kX0_X0_isIn F.1 hw ⟨Nat.le_of_ble_eq_true rfl, Nat.le_of_ble_eq_true rfl⟩ ⟨Nat.zero_le _, Nat.zero_le _⟩ hl.1 (Nat.le_of_ble_eq_true rfl) dX0_markIn_45 (fun r5 hw => ?_)
      refine lv_if_ne (tgt := 54) hx hb dX0_markIn_48 (by decide) (fun q => ?_) (fun q => ?_)
      · replace hw := hw.2 q
        exact bX0_markIn_54 F hB hS hw hl
      · replace hw := hw.1 q
        refine lv_ldc hx hb F.1.o (F.1.t _ q392) dX0_markIn_51 ?_
        exact W.iret hx hb F.1.r (fun t ht hW => ⟨⟨_, _, rfl, hw, x_B (Bw := cB D A ad) ht hB⟩, hS.F ht⟩) hS.2.2 dX0_markIn_53 (hlocks := F.1.k)
  · replace hw := hw.1 q
    refine lv_aload_n hx hb dX0_markIn_6 rfl (lv_at hl 0 rfl) ?_
    obtain ⟨f7, hm8, hw⟩ := hw
    refine kX0_X4_isFloats F hB hS hm8 hw ⟨Nat.le_of_ble_eq_true rfl, Nat.le_of_ble_eq_true rfl⟩ ⟨Nat.zero_le _, Nat.zero_le _⟩ hl.1 (Nat.le_of_ble_eq_true rfl) dX0_markIn_7 (fun r6 V9 H locs hw hB hS => ?_)
    refine lv_if_ne (tgt := 17) hx hb dX0_markIn_10 (by decide) (fun q => ?_) (fun q => ?_)
    · replace hw := hw.2 q
      refine lv_aload_n hx hb dX0_markIn_17 rfl (lv_at hl 0 rfl) ?_
      obtain ⟨f10, hm11, hw⟩ := hw
      refine cg_X0_440 F hB hm11 dX0_markIn_18 ?_
      obtain ⟨y12, e13, hw⟩ := hw
      refine W.eq (g2 := F0 m 21 ls [.ref y12]) (congrArg (fun z => F0 m 21 ls [va_rf z]) e13) ?_
      obtain ⟨n14, f15, hm16, hw⟩ := hw
      refine dc_F F hB hm16 q1034 dX0_markIn_21 ?_
      refine lv_iload_n hx hb dX0_markIn_24 rfl (lv_at hl 1 rfl) ?_
      refine x_ldcwf hx hb F.1.o (F.1.t _ q1035) dX0_markIn_25 ?_
      obtain ⟨hin17, hw⟩ := hw
      refine dt_F F hB hS hm16 hin17 dX0_markIn_28 (fun H locs hB hS => ?_)
      refine lv_iconst (v := 1) hx hb dX0_markIn_29 (by decide) ?_
      exact W.iret hx hb F.1.r (fun t ht hW => ⟨⟨_, _, rfl, hw, x_B (Bw := cB D A ad) ht hB⟩, hS.F ht⟩) hS.2.2 dX0_markIn_30 (hlocks := F.1.k)
    · replace hw := hw.1 q
      refine lv_ldcw hx hb F.1.o (F.1.t _ q743) dX0_markIn_13 ?_
      exact W.iret hx hb F.1.r (fun t ht hW => ⟨⟨_, _, rfl, hw, x_B (Bw := cB D A ad) ht hB⟩, hS.F ht⟩) hS.2.2 dX0_markIn_16 (hlocks := F.1.k)
set_option maxHeartbeats 4000000 in
theorem mX0_markIn {l : Launch} {D : DD} {A : Nat → Prop} {s0 : State} {ad : AD} {V : CV} {a0 : Nat} {a1 : Int32} {a2 : Int32} {Q : Int32 → CV → Prop} (hw : wX0_markIn a0 a1 a2 V Q) : Met l yX0_markIn (ws_ yX0_markIn cX0_markIn 3 (some .int)) rX0_markIn (va_Pc [.ref a0, .int a1, .int a2] (fun U => cB D A ad V U.heap ∧ CX l D A s0 U)) (va_Qi Q (fun u t => cB D A ad u t.heap) A) 0 0 A := by
  refine Met.ofW (cc := cX0_markIn) (maxL := 3) (ret := some .int) (by decide) rfl ?_
  intro p e s m args below meth c s₁ B hml hv
  obtain ⟨rfl, hB, hC⟩ := hv
  have F : FX p l c cX0_markIn s _ m RX0 D A s0 3 meth (some .int) := ⟨mk_FP B hml rfl, hC⟩
  have hS : va_S A s.heap s.heap [] := va_S.rf
  have hl := lv_entry ([.ref a0, .int a1, .int a2]) (n := 3) (Nat.le_of_ble_eq_true rfl)
  rw [lg_entry_eq]
  generalize (lg_sl ([.ref a0, .int a1, .int a2]) ++ List.replicate (3 - (lg_sl ([.ref a0, .int a1, .int a2])).length) Slot.unset).toArray = ls at hl ⊢
  exact bX0_markIn_0 F hB hS hw hl
theorem kX0_X0_markIn {p : Program} {l : Launch} {e : Env} {R : Room} {s : State} {m : MethodId} {args : Array Value} {below : List Frame} {meth : Method} {c : Code} {H : Heap} {locs : List Loc} {cells slots : Nat} {Q0 : State → Prop} {cc : ByteArray} {pc nL : Nat} {ls : Array Slot} {rest : List Value} {ret : Option FieldType} {D : DD} {A : Nat → Prop} {s0 : State} {ad : AD} {V : CV} {a0 : Nat} {a1 : Int32} {a2 : Int32} {Q : Int32 → CV → Prop} (F : FX p l c cc s args m RX0 D A s0 nL meth ret) (hB : cB D A ad V H) (hS : va_S A s.heap H locs) (hw : wX0_markIn a0 a1 a2 V Q) (hR : rX0_markIn.frames + 1 ≤ R.frames ∧ 8 + (3 + 11) + rX0_markIn.locals ≤ R.locals) (hc : cells + 0 ≤ R.cells ∧ slots + 0 ≤ R.slots) (hsz : ls.size = nL) (hW : (rest.map fun v => v.category).sum ≤ 8) (hdg : decode cc pc = .ok (.invokestatic 470, 3)) (kk : ∀ (r : Int32) (u : CV) (H1 : Heap) (locs1 : List Loc), Q r u → cB D A ad u H1 → va_S A s.heap H1 locs1 → W p l e R s m args below meth c H1 locs1 cells slots Q0 (F0 m (pc + 3) ls (.int r :: rest))) : W p l e R s m args below meth c H locs cells slots Q0 (F0 m pc ls (.int a2 :: .int a1 :: .ref a0 :: rest)) :=
  k_i (Bw := cB D A ad) (k_runS (Bw := cB D A ad) (n := 3) (As := [.ref a0, .int a1, .int a2]) F hB hS (mX0_markIn hw) q1030 q1031 q83 q1032 (by decide +kernel) hR ⟨rfl, rfl⟩ hc rfl hsz rfl hW hdg) hS kk
def rX0_mark : Room := { frames := 3, cells := 0, slots := 0, locals := 64 }
set_option maxHeartbeats 4000000 in
theorem bX0_mark_0 {p : Program} {l : Launch} {e : Env} {s : State} {m : MethodId} {args : Array Value} {below : List Frame} {meth : Method} {c : Code} {D : DD} {A : Nat → Prop} {s0 : State} {ad : AD} {Q : Int32 → CV → Prop} {a1 : Int32} {a2 : Int32} {a3 : Int32} {V : CV} {H : Heap} {locs : List Loc} {ls : Array Slot} (F : FX p l c cX0_mark s args m RX0 D A s0 5 meth (some .int)) (hB : cB D A ad V H) (hS : va_S A s.heap H locs) (hw : wX0_mark a1 a2 a3 V Q) (hl : lv_has ls 5 [(0, .ref (ad 0 0 0)), (1, .int a1), (2, .int a2), (3, .int a3)]) : W p l e rX0_mark s m args below meth c H locs 0 0 (MQ below (va_Qi Q (fun u t => cB D A ad u t.heap) A) args s 0 0 A) (F0 m 0 ls []) := by
  have hx := F.1.x
  have hb := F.1.b
  unfold wX0_mark at hw
  refine lv_iload_n hx hb dX0_mark_0 rfl (lv_at hl 1 rfl) ?_
  refine kX0_X0_isSheet F.1 hw ⟨Nat.le_of_ble_eq_true rfl, Nat.le_of_ble_eq_true rfl⟩ ⟨Nat.zero_le _, Nat.zero_le _⟩ hl.1 (Nat.le_of_ble_eq_true rfl) dX0_mark_1 (fun r1 hw => ?_)
  refine lv_if_ne (tgt := 10) hx hb dX0_mark_4 (by decide) (fun q => ?_) (fun q => ?_)
  · replace hw := hw.2 q
    refine lv_aload_n hx hb dX0_mark_10 rfl (lv_at hl 0 rfl) ?_
    refine cg_X0_80 F hB dX0_mark_11 ?_
    refine lv_iload_n hx hb dX0_mark_14 rfl (lv_at hl 1 rfl) ?_
    obtain ⟨hin2, hw⟩ := hw
    refine cl_Sh F hB hin2 dX0_mark_15 ?_
    refine x_astore (lv' := [(4, va_rf (vSh V a1.toNatClampNeg)), (0, .ref (ad 0 0 0)), (1, .int a1), (2, .int a2), (3, .int a3)]) hx hb dX0_mark_16 hl (by decide) rfl (fun ls hl => ?_)
    refine x_aload hx hb dX0_mark_18 (lv_at hl 0 rfl) ?_
    obtain ⟨y3, e4, hw⟩ := hw
    refine W.eq (g2 := F0 m 20 ls [.ref y3]) (congrArg (fun z => F0 m 20 ls [va_rf z]) e4) ?_
    obtain ⟨f6, hm7, hw⟩ := hw
    refine kX0_X4_isThere F hB hS hm7 hw ⟨Nat.le_of_ble_eq_true rfl, Nat.le_of_ble_eq_true rfl⟩ ⟨Nat.zero_le _, Nat.zero_le _⟩ hl.1 (Nat.le_of_ble_eq_true rfl) dX0_mark_20 (fun r5 V8 H locs hw hB hS => ?_)
    refine lv_if_ne (tgt := 30) hx hb dX0_mark_23 (by decide) (fun q => ?_) (fun q => ?_)
    · replace hw := hw.2 q
      refine lv_iload_n hx hb dX0_mark_30 rfl (lv_at hl 3 rfl) ?_
      refine lv_iconst (v := 0) hx hb dX0_mark_31 (by decide) ?_
      refine x_aload hx hb dX0_mark_32 (lv_at hl 0 rfl) ?_
      obtain ⟨y9, e10, hw⟩ := hw
      refine W.eq (g2 := F0 m 34 ls [.ref y9, .int (0 : Int32), .int a2]) (congrArg (fun z => F0 m 34 ls [va_rf z, .int (0 : Int32), .int a2]) e10) ?_
      obtain ⟨f12, hm13, hw⟩ := hw
      refine kX0_X4_size F hB hS hm13 hw ⟨Nat.le_of_ble_eq_true rfl, Nat.le_of_ble_eq_true rfl⟩ ⟨Nat.zero_le _, Nat.zero_le _⟩ hl.1 (Nat.le_of_ble_eq_true rfl) dX0_mark_34 (fun r11 V14 H locs hw hB hS => ?_)
      refine lv_iconst (v := 1) hx hb dX0_mark_37 (by decide) ?_
      refine lv_isub hx hb dX0_mark_38 ?_
      refine kX0_X0_isIn F.1 hw ⟨Nat.le_of_ble_eq_true rfl, Nat.le_of_ble_eq_true rfl⟩ ⟨Nat.zero_le _, Nat.zero_le _⟩ hl.1 (Nat.le_of_ble_eq_true rfl) dX0_mark_39 (fun r15 hw => ?_)
      refine lv_if_eq (tgt := 55) hx hb dX0_mark_42 (by decide) (fun q => ?_) (fun q => ?_)
      · replace hw := hw.1 q
        refine lv_ldcw hx hb F.1.o (F.1.t _ q1041) dX0_mark_55 ?_
        exact W.iret hx hb F.1.r (fun t ht hW => ⟨⟨_, _, rfl, hw, x_B (Bw := cB D A ad) ht hB⟩, hS.F ht⟩) hS.2.2 dX0_mark_58 (hlocks := F.1.k)
      · replace hw := hw.2 q
        refine x_aload hx hb dX0_mark_45 (lv_at hl 0 rfl) ?_
        refine lv_iload_n hx hb dX0_mark_47 rfl (lv_at hl 3 rfl) ?_
        refine lv_iload_n hx hb dX0_mark_48 rfl (lv_at hl 4 rfl) ?_
        obtain ⟨y16, e17, hw⟩ := hw
        refine W.eq (g2 := F0 m 49 ls [.int a3, .int a2, .ref y16]) (congrArg (fun z => F0 m 49 ls [.int a3, .int a2, va_rf z]) e17) ?_
        refine kX0_X0_markIn F hB hS hw ⟨Nat.le_of_ble_eq_true rfl, Nat.le_of_ble_eq_true rfl⟩ ⟨Nat.zero_le _, Nat.zero_le _⟩ hl.1 (Nat.le_of_ble_eq_true rfl) dX0_mark_49 (fun r18 V19 H locs hw hB hS => ?_)
        refine lv_goto (tgt := 58) hx hb dX0_mark_52 (by decide) ?_
        exact W.iret hx hb F.1.r (fun t ht hW => ⟨⟨_, _, rfl, hw, x_B (Bw := cB D A ad) ht hB⟩, hS.F ht⟩) hS.2.2 dX0_mark_58 (hlocks := F.1.k)
    · replace hw := hw.1 q
      refine lv_ldcw hx hb F.1.o (F.1.t _ q1019) dX0_mark_26 ?_
      exact W.iret hx hb F.1.r (fun t ht hW => ⟨⟨_, _, rfl, hw, x_B (Bw := cB D A ad) ht hB⟩, hS.F ht⟩) hS.2.2 dX0_mark_29 (hlocks := F.1.k)
  · replace hw := hw.1 q
    refine lv_ldc hx hb F.1.o (F.1.t _ q392) dX0_mark_7 ?_
    exact W.iret hx hb F.1.r (fun t ht hW => ⟨⟨_, _, rfl, hw, x_B (Bw := cB D A ad) ht hB⟩, hS.F ht⟩) hS.2.2 dX0_mark_9 (hlocks := F.1.k)
set_option maxHeartbeats 4000000 in
theorem mX0_mark {l : Launch} {D : DD} {A : Nat → Prop} {s0 : State} {ad : AD} {V : CV} {a1 : Int32} {a2 : Int32} {a3 : Int32} {Q : Int32 → CV → Prop} (hw : wX0_mark a1 a2 a3 V Q) : Met l yX0_mark (ws_ yX0_mark cX0_mark 5 (some .int)) rX0_mark (va_Pc [.ref (ad 0 0 0), .int a1, .int a2, .int a3] (fun U => cB D A ad V U.heap ∧ CX l D A s0 U)) (va_Qi Q (fun u t => cB D A ad u t.heap) A) 0 0 A := by
  refine Met.ofW (cc := cX0_mark) (maxL := 5) (ret := some .int) (by decide) rfl ?_
  intro p e s m args below meth c s₁ B hml hv
  obtain ⟨rfl, hB, hC⟩ := hv
  have F : FX p l c cX0_mark s _ m RX0 D A s0 5 meth (some .int) := ⟨mk_FP B hml rfl, hC⟩
  have hS : va_S A s.heap s.heap [] := va_S.rf
  have hl := lv_entry ([.ref (ad 0 0 0), .int a1, .int a2, .int a3]) (n := 5) (Nat.le_of_ble_eq_true rfl)
  rw [lg_entry_eq]
  generalize (lg_sl ([.ref (ad 0 0 0), .int a1, .int a2, .int a3]) ++ List.replicate (5 - (lg_sl ([.ref (ad 0 0 0), .int a1, .int a2, .int a3])).length) Slot.unset).toArray = ls at hl ⊢
  exact bX0_mark_0 F hB hS hw hl
def rX0_meant : Room := { frames := 2, cells := 0, slots := 0, locals := 43 }
set_option maxHeartbeats 4000000 in
theorem bX0_meant_0 {p : Program} {l : Launch} {e : Env} {s : State} {m : MethodId} {args : Array Value} {below : List Frame} {meth : Method} {c : Code} {D : DD} {A : Nat → Prop} {s0 : State} {ad : AD} {Q : Int32 → CV → Prop} {a1 : Int32} {V : CV} {H : Heap} {locs : List Loc} {ls : Array Slot} (F : FX p l c cX0_meant s args m RX0 D A s0 4 meth (some .int)) (hB : cB D A ad V H) (hS : va_S A s.heap H locs) (hw : wX0_meant a1 V Q) (hl : lv_has ls 4 [(0, .ref (ad 0 0 0)), (1, .int a1)]) : W p l e rX0_meant s m args below meth c H locs 0 0 (MQ below (va_Qi Q (fun u t => cB D A ad u t.heap) A) args s 0 0 A) (F0 m 0 ls []) := by
  have hx := F.1.x
  have hb := F.1.b
  unfold wX0_meant at hw
  refine lv_aload_n hx hb dX0_meant_0 rfl (lv_at hl 0 rfl) ?_
  refine lv_iload_n hx hb dX0_meant_1 rfl (lv_at hl 1 rfl) ?_
  refine kX0_X0_isDeed F hB hS hw ⟨Nat.le_of_ble_eq_true rfl, Nat.le_of_ble_eq_true rfl⟩ ⟨Nat.zero_le _, Nat.zero_le _⟩ hl.1 (Nat.le_of_ble_eq_true rfl) dX0_meant_2 (fun r1 V2 H locs hw hB hS => ?_)
  refine lv_if_ne (tgt := 11) hx hb dX0_meant_5 (by decide) (fun q => ?_) (fun q => ?_)
  · replace hw := hw.2 q
    refine lv_aload_n hx hb dX0_meant_11 rfl (lv_at hl 0 rfl) ?_
    refine cg_X0_46 F hB dX0_meant_12 ?_
    refine cg_X0_278 F hB (by decide) dX0_meant_15 ?_
    refine lv_iload_n hx hb dX0_meant_18 rfl (lv_at hl 1 rfl) ?_
    obtain ⟨hin3, hw⟩ := hw
    refine cl_De F hB (by decide) hin3 dX0_meant_19 ?_
    refine cg_X0_282 F hB (by decide) (x_lt hin3) dX0_meant_20 ?_
    refine lv_istore_n (lv' := [(2, .int (vD V2 0 a1.toNatClampNeg 3)), (0, .ref (ad 0 0 0)), (1, .int a1)]) hx hb dX0_meant_23 rfl hl (by decide) rfl (fun ls hl => ?_)
    refine lv_aload_n hx hb dX0_meant_24 rfl (lv_at hl 1 rfl) ?_
    refine cg_X0_46 F hB dX0_meant_25 ?_
    refine kX0_X1_all F hB hS hw ⟨Nat.le_of_ble_eq_true rfl, Nat.le_of_ble_eq_true rfl⟩ ⟨Nat.zero_le _, Nat.zero_le _⟩ hl.1 (Nat.le_of_ble_eq_true rfl) dX0_meant_28 (fun r4 V5 H locs hw hB hS => ?_)
    refine lv_iload_n hx hb dX0_meant_31 rfl (lv_at hl 0 rfl) ?_
    refine lv_iconst (v := -1) hx hb dX0_meant_32 (by decide) ?_
    refine lv_ixor hx hb dX0_meant_33 ?_
    refine lv_iand hx hb dX0_meant_34 ?_
    refine kX0_J5_highestOneBit F.1 hw ⟨Nat.le_of_ble_eq_true rfl, Nat.le_of_ble_eq_true rfl⟩ ⟨Nat.zero_le _, Nat.zero_le _⟩ hl.1 (Nat.le_of_ble_eq_true rfl) dX0_meant_35 (fun r6 hw => ?_)
    refine lv_istore_n (lv' := [(3, .int r6), (2, .int (vD V2 0 a1.toNatClampNeg 3)), (0, .ref (ad 0 0 0)), (1, .int a1)]) hx hb dX0_meant_38 rfl hl (by decide) rfl (fun ls hl => ?_)
    refine lv_iload_n hx hb dX0_meant_39 rfl (lv_at hl 0 rfl) ?_
    refine lv_if_ne (tgt := 47) hx hb dX0_meant_40 (by decide) (fun q => ?_) (fun q => ?_)
    · replace hw := hw.2 q
      refine lv_iload_n hx hb dX0_meant_47 rfl (lv_at hl 1 rfl) ?_
      refine lv_iload_n hx hb dX0_meant_48 rfl (lv_at hl 0 rfl) ?_
      refine lv_iconst (v := 1) hx hb dX0_meant_49 (by decide) ?_
      refine lv_isub hx hb dX0_meant_50 ?_
      refine lv_iand hx hb dX0_meant_51 ?_
      exact W.iret hx hb F.1.r (fun t ht hW => ⟨⟨_, _, rfl, hw, x_B (Bw := cB D A ad) ht hB⟩, hS.F ht⟩) hS.2.2 dX0_meant_52 (hlocks := F.1.k)
    · replace hw := hw.1 q
      refine lv_iconst (v := 0) hx hb dX0_meant_43 (by decide) ?_
      refine lv_goto (tgt := 52) hx hb dX0_meant_44 (by decide) ?_
      exact W.iret hx hb F.1.r (fun t ht hW => ⟨⟨_, _, rfl, hw, x_B (Bw := cB D A ad) ht hB⟩, hS.F ht⟩) hS.2.2 dX0_meant_52 (hlocks := F.1.k)
  · replace hw := hw.1 q
    refine lv_ldc hx hb F.1.o (F.1.t _ q392) dX0_meant_8 ?_
    exact W.iret hx hb F.1.r (fun t ht hW => ⟨⟨_, _, rfl, hw, x_B (Bw := cB D A ad) ht hB⟩, hS.F ht⟩) hS.2.2 dX0_meant_10 (hlocks := F.1.k)
set_option maxHeartbeats 4000000 in
theorem mX0_meant {l : Launch} {D : DD} {A : Nat → Prop} {s0 : State} {ad : AD} {V : CV} {a1 : Int32} {Q : Int32 → CV → Prop} (hw : wX0_meant a1 V Q) : Met l yX0_meant (ws_ yX0_meant cX0_meant 4 (some .int)) rX0_meant (va_Pc [.ref (ad 0 0 0), .int a1] (fun U => cB D A ad V U.heap ∧ CX l D A s0 U)) (va_Qi Q (fun u t => cB D A ad u t.heap) A) 0 0 A := by
  refine Met.ofW (cc := cX0_meant) (maxL := 4) (ret := some .int) (by decide) rfl ?_
  intro p e s m args below meth c s₁ B hml hv
  obtain ⟨rfl, hB, hC⟩ := hv
  have F : FX p l c cX0_meant s _ m RX0 D A s0 4 meth (some .int) := ⟨mk_FP B hml rfl, hC⟩
  have hS : va_S A s.heap s.heap [] := va_S.rf
  have hl := lv_entry ([.ref (ad 0 0 0), .int a1]) (n := 4) (Nat.le_of_ble_eq_true rfl)
  rw [lg_entry_eq]
  generalize (lg_sl ([.ref (ad 0 0 0), .int a1]) ++ List.replicate (4 - (lg_sl ([.ref (ad 0 0 0), .int a1])).length) Slot.unset).toArray = ls at hl ⊢
  exact bX0_meant_0 F hB hS hw hl
def rX0_most : Room := { frames := 66, cells := 0, slots := 0, locals := 1969 }
set_option maxHeartbeats 4000000 in
theorem bX0_most_64 {p : Program} {l : Launch} {e : Env} {s : State} {m : MethodId} {args : Array Value} {below : List Frame} {meth : Method} {c : Code} {D : DD} {A : Nat → Prop} {s0 : State} {ad : AD} {Q : Int32 → CV → Prop} {k_10 : Int32 → Int64 → Int64 → Int32 → CV → Prop} {l1 : Int32} {l2 : Int64} {l4 : Int64} {l6 : Int32} {V : CV} {H : Heap} {locs : List Loc} {ls : Array Slot} (F : FX p l c cX0_most s args m RX0 D A s0 7 meth (some .int)) (h_10 : ∀ (l1 : Int32) (l2 : Int64) (l4 : Int64) (l6 : Int32) (V : CV), k_10 l1 l2 l4 l6 V → ∀ (H : Heap) (locs : List Loc) (ls : Array Slot), cB D A ad V H → va_S A s.heap H locs → lv_has ls 7 [(0, .ref (ad 0 0 0)), (1, .int l1), (2, .long l2), (4, .long l4), (6, .int l6)] → W p l e rX0_most s m args below meth c H locs 0 0 (MQ below (va_Qi Q (fun u t => cB D A ad u t.heap) A) args s 0 0 A) (F0 m 10 ls [])) (hB : cB D A ad V H) (hS : va_S A s.heap H locs) (hw : wX0_most_64 k_10 l1 l2 l4 l6 V Q) (hl : lv_has ls 7 [(0, .ref (ad 0 0 0)), (1, .int l1), (2, .long l2), (4, .long l4), (6, .int l6)]) : W p l e rX0_most s m args below meth c H locs 0 0 (MQ below (va_Qi Q (fun u t => cB D A ad u t.heap) A) args s 0 0 A) (F0 m 64 ls []) := by
  have hx := F.1.x
  have hb := F.1.b
  unfold wX0_most_64 at hw
  refine lv_iinc (v := l6 + (1 : Int32)) (lv' := [(6, .int (l6 + (1 : Int32))), (0, .ref (ad 0 0 0)), (1, .int l1), (2, .long l2), (4, .long l4)]) hx hb dX0_most_64 hl (k := 4) rfl (x_inc (by decide)) (by decide) rfl (fun ls hl => ?_)
  refine lv_goto (tgt := 10) hx hb dX0_most_67 (by decide) ?_
  exact h_10 _ _ _ _ _ hw _ _ _ hB hS (lv_sub hl [1, 2, 3, 4, 0] rfl)
set_option maxHeartbeats 4000000 in
theorem bX0_most_50 {p : Program} {l : Launch} {e : Env} {s : State} {m : MethodId} {args : Array Value} {below : List Frame} {meth : Method} {c : Code} {D : DD} {A : Nat → Prop} {s0 : State} {ad : AD} {Q : Int32 → CV → Prop} {k_10 : Int32 → Int64 → Int64 → Int32 → CV → Prop} {l6 : Int32} {V : CV} {H : Heap} {locs : List Loc} {ls : Array Slot} (F : FX p l c cX0_most s args m RX0 D A s0 7 meth (some .int)) (h_10 : ∀ (l1 : Int32) (l2 : Int64) (l4 : Int64) (l6 : Int32) (V : CV), k_10 l1 l2 l4 l6 V → ∀ (H : Heap) (locs : List Loc) (ls : Array Slot), cB D A ad V H → va_S A s.heap H locs → lv_has ls 7 [(0, .ref (ad 0 0 0)), (1, .int l1), (2, .long l2), (4, .long l4), (6, .int l6)] → W p l e rX0_most s m args below meth c H locs 0 0 (MQ below (va_Qi Q (fun u t => cB D A ad u t.heap) A) args s 0 0 A) (F0 m 10 ls [])) (hB : cB D A ad V H) (hS : va_S A s.heap H locs) (hw : wX0_most_50 k_10 l6 V Q) (hl : lv_has ls 7 [(0, .ref (ad 0 0 0)), (6, .int l6)]) : W p l e rX0_most s m args below meth c H locs 0 0 (MQ below (va_Qi Q (fun u t => cB D A ad u t.heap) A) args s 0 0 A) (F0 m 50 ls []) := by
  have hx := F.1.x
  have hb := F.1.b
  unfold wX0_most_50 at hw
  refine lv_iload hx hb dX0_most_50 (lv_at hl 1 rfl) ?_
  refine lv_istore_n (lv' := [(1, .int l6), (0, .ref (ad 0 0 0)), (6, .int l6)]) hx hb dX0_most_52 rfl hl (by decide) rfl (fun ls hl => ?_)
  refine lv_aload_n hx hb dX0_most_53 rfl (lv_at hl 1 rfl) ?_
  refine cg_X0_425 F hB dX0_most_54 ?_
  refine lv_lstore_n (lv' := [(2, .long (vJ V 17)), (1, .int l6), (0, .ref (ad 0 0 0)), (6, .int l6)]) hx hb dX0_most_57 rfl hl (by decide) rfl (fun ls hl => ?_)
  refine lv_aload_n hx hb dX0_most_58 rfl (lv_at hl 2 rfl) ?_
  refine cg_X0_429 F hB dX0_most_59 ?_
  refine lv_lstore (lv' := [(4, .long (vJ V 18)), (2, .long (vJ V 17)), (1, .int l6), (0, .ref (ad 0 0 0)), (6, .int l6)]) hx hb dX0_most_62 hl (by decide) rfl (fun ls hl => ?_)
  exact bX0_most_64 F h_10 hB hS hw (lv_sub hl [3, 2, 1, 0, 4] rfl)
set_option maxHeartbeats 4000000 in
theorem bX0_most_10 {p : Program} {l : Launch} {e : Env} {s : State} {m : MethodId} {args : Array Value} {below : List Frame} {meth : Method} {c : Code} {D : DD} {A : Nat → Prop} {s0 : State} {ad : AD} {Q : Int32 → CV → Prop} (F : FX p l c cX0_most s args m RX0 D A s0 7 meth (some .int)) : ∀ (n : Nat) (l1 : Int32) (l2 : Int64) (l4 : Int64) (l6 : Int32) (V : CV), wX0_most_10 Q n l1 l2 l4 l6 V → ∀ (H : Heap) (locs : List Loc) (ls : Array Slot), cB D A ad V H → va_S A s.heap H locs → lv_has ls 7 [(0, .ref (ad 0 0 0)), (1, .int l1), (2, .long l2), (4, .long l4), (6, .int l6)] → W p l e rX0_most s m args below meth c H locs 0 0 (MQ below (va_Qi Q (fun u t => cB D A ad u t.heap) A) args s 0 0 A) (F0 m 10 ls []) := by
  have hx := F.1.x
  have hb := F.1.b
  intro n
  induction n with
  | zero => intro l1 l2 l4 l6 V hw; exact hw.elim
  | succ n ih =>
    intro l1 l2 l4 l6 V hw H locs ls hB hS hl
    unfold wX0_most_10 at hw
    refine lv_iload hx hb dX0_most_10 (lv_at hl 4 rfl) ?_
    refine lv_aload_n hx hb dX0_most_12 rfl (lv_at hl 0 rfl) ?_
    refine cg_X0_46 F hB dX0_most_13 ?_
    refine cg_X0_101 F hB (by decide) dX0_most_16 ?_
    refine lv_icmp_ge (tgt := 70) hx hb dX0_most_19 (by decide) (fun q => ?_) (fun q => ?_)
    · replace hw := hw.1 q
      refine lv_iload_n hx hb dX0_most_70 rfl (lv_at hl 1 rfl) ?_
      refine kX0_X0_orNone F.1 hw ⟨Nat.le_of_ble_eq_true rfl, Nat.le_of_ble_eq_true rfl⟩ ⟨Nat.zero_le _, Nat.zero_le _⟩ hl.1 (Nat.le_of_ble_eq_true rfl) dX0_most_71 (fun r1 hw => ?_)
      exact W.iret hx hb F.1.r (fun t ht hW => ⟨⟨_, _, rfl, hw, x_B (Bw := cB D A ad) ht hB⟩, hS.F ht⟩) hS.2.2 dX0_most_74 (hlocks := F.1.k)
    · replace hw := hw.2 q
      refine lv_aload_n hx hb dX0_most_22 rfl (lv_at hl 0 rfl) ?_
      refine lv_iload hx hb dX0_most_23 (lv_at hl 4 rfl) ?_
      refine kX0_X0_findFalls F hB hS hw ⟨Nat.le_of_ble_eq_true rfl, Nat.le_of_ble_eq_true rfl⟩ ⟨Nat.zero_le _, Nat.zero_le _⟩ hl.1 (Nat.le_of_ble_eq_true rfl) dX0_most_25 (fun V3 H locs hw hB hS => ?_)
      refine lv_iload_n hx hb dX0_most_28 rfl (lv_at hl 1 rfl) ?_
      refine lv_iconst (v := -1) hx hb dX0_most_29 (by decide) ?_
      refine lv_icmp_eq (tgt := 50) hx hb dX0_most_30 (by decide) (fun q => ?_) (fun q => ?_)
      · replace hw := hw.1 q
        exact bX0_most_50 F ih hB hS hw (lv_sub hl [0, 4] rfl)
      · replace hw := hw.2 q
        refine lv_aload_n hx hb dX0_most_33 rfl (lv_at hl 0 rfl) ?_
        refine cg_X0_425 F hB dX0_most_34 ?_
        refine lv_lload hx hb dX0_most_37 (lv_at hl 3 rfl) ?_
        refine lv_lmul hx hb dX0_most_39 ?_
        refine lv_lload_n hx hb dX0_most_40 rfl (lv_at hl 2 rfl) ?_
        refine lv_aload_n hx hb dX0_most_41 rfl (lv_at hl 0 rfl) ?_
        refine cg_X0_429 F hB dX0_most_42 ?_
        refine lv_lmul hx hb dX0_most_45 ?_
        refine W.lcmp hx hb dX0_most_46 ?_
        refine lv_if_le (tgt := 64) hx hb dX0_most_47 (by decide) (fun q => ?_) (fun q => ?_)
        · replace hw := hw.1 q
          exact bX0_most_64 F ih hB hS hw hl
        · replace hw := hw.2 q
          exact bX0_most_50 F ih hB hS hw (lv_sub hl [0, 4] rfl)
set_option maxHeartbeats 4000000 in
theorem bX0_most_0 {p : Program} {l : Launch} {e : Env} {s : State} {m : MethodId} {args : Array Value} {below : List Frame} {meth : Method} {c : Code} {D : DD} {A : Nat → Prop} {s0 : State} {ad : AD} {Q : Int32 → CV → Prop} {V : CV} {H : Heap} {locs : List Loc} {ls : Array Slot} (F : FX p l c cX0_most s args m RX0 D A s0 7 meth (some .int)) (hB : cB D A ad V H) (hS : va_S A s.heap H locs) (hw : wX0_most V Q) (hl : lv_has ls 7 [(0, .ref (ad 0 0 0))]) : W p l e rX0_most s m args below meth c H locs 0 0 (MQ below (va_Qi Q (fun u t => cB D A ad u t.heap) A) args s 0 0 A) (F0 m 0 ls []) := by
  have hx := F.1.x
  have hb := F.1.b
  unfold wX0_most at hw
  refine lv_iconst (v := -1) hx hb dX0_most_0 (by decide) ?_
  refine lv_istore_n (lv' := [(1, .int (-1 : Int32)), (0, .ref (ad 0 0 0))]) hx hb dX0_most_1 rfl hl (by decide) rfl (fun ls hl => ?_)
  refine lv_lconst (v := 0) hx hb dX0_most_2 (by decide) ?_
  refine lv_lstore_n (lv' := [(2, .long (0 : Int64)), (1, .int (-1 : Int32)), (0, .ref (ad 0 0 0))]) hx hb dX0_most_3 rfl hl (by decide) rfl (fun ls hl => ?_)
  refine lv_lconst (v := 1) hx hb dX0_most_4 (by decide) ?_
  refine lv_lstore (lv' := [(4, .long (1 : Int64)), (2, .long (0 : Int64)), (1, .int (-1 : Int32)), (0, .ref (ad 0 0 0))]) hx hb dX0_most_5 hl (by decide) rfl (fun ls hl => ?_)
  refine lv_iconst (v := 0) hx hb dX0_most_7 (by decide) ?_
  refine lv_istore (lv' := [(6, .int (0 : Int32)), (4, .long (1 : Int64)), (2, .long (0 : Int64)), (1, .int (-1 : Int32)), (0, .ref (ad 0 0 0))]) hx hb dX0_most_8 hl (by decide) rfl (fun ls hl => ?_)
  obtain ⟨f_10, hw⟩ := hw
  exact bX0_most_10 F f_10 _ _ _ _ _ hw _ _ _ hB hS (lv_sub hl [4, 3, 2, 1, 0] rfl)
set_option maxHeartbeats 4000000 in
theorem mX0_most {l : Launch} {D : DD} {A : Nat → Prop} {s0 : State} {ad : AD} {V : CV}  {Q : Int32 → CV → Prop} (hw : wX0_most V Q) : Met l yX0_most (ws_ yX0_most cX0_most 7 (some .int)) rX0_most (va_Pc [.ref (ad 0 0 0)] (fun U => cB D A ad V U.heap ∧ CX l D A s0 U)) (va_Qi Q (fun u t => cB D A ad u t.heap) A) 0 0 A := by
  refine Met.ofW (cc := cX0_most) (maxL := 7) (ret := some .int) (by decide) rfl ?_
  intro p e s m args below meth c s₁ B hml hv
  obtain ⟨rfl, hB, hC⟩ := hv
  have F : FX p l c cX0_most s _ m RX0 D A s0 7 meth (some .int) := ⟨mk_FP B hml rfl, hC⟩
  have hS : va_S A s.heap s.heap [] := va_S.rf
  have hl := lv_entry ([.ref (ad 0 0 0)]) (n := 7) (Nat.le_of_ble_eq_true rfl)
  rw [lg_entry_eq]
  generalize (lg_sl ([.ref (ad 0 0 0)]) ++ List.replicate (7 - (lg_sl ([.ref (ad 0 0 0)])).length) Slot.unset).toArray = ls at hl ⊢
  exact bX0_most_0 F hB hS hw hl
def rX0_person : Room := { frames := 6, cells := 1, slots := 1, locals := 145 }
set_option maxHeartbeats 4000000 in
theorem bX0_person_0 {p : Program} {l : Launch} {e : Env} {s : State} {m : MethodId} {args : Array Value} {below : List Frame} {meth : Method} {c : Code} {D : DD} {A : Nat → Prop} {s0 : State} {ad : AD} {Q : Int32 → CV → Prop} {a1 : Int32} {a2 : Int32} {V : CV} {H : Heap} {locs : List Loc} {ls : Array Slot} (F : FX p l c cX0_person s args m RX0 D A s0 3 meth (some .int)) (hB : cB D A ad V H) (hS : va_S A s.heap H locs) (hw : wX0_person a1 a2 V Q) (hl : lv_has ls 3 [(0, .ref (ad 0 0 0)), (1, .int a1), (2, .int a2)]) : W p l e rX0_person s m args below meth c H locs 0 0 (MQ below (va_Qi Q (fun u t => cB D A ad u t.heap) A) args s 1 1 A) (F0 m 0 ls []) := by
  have hx := F.1.x
  have hb := F.1.b
  unfold wX0_person at hw
  refine lv_iload_n hx hb dX0_person_0 rfl (lv_at hl 1 rfl) ?_
  refine lv_iconst (v := 0) hx hb dX0_person_1 (by decide) ?_
  refine lv_iconst (v := 5) hx hb dX0_person_2 (by decide) ?_
  refine kX0_X0_isIn F.1 hw ⟨Nat.le_of_ble_eq_true rfl, Nat.le_of_ble_eq_true rfl⟩ ⟨by show _ ≤ 1; omega, by show _ ≤ 1; omega⟩ hl.1 (Nat.le_of_ble_eq_true rfl) dX0_person_3 (fun r1 hw => ?_)
  refine lv_if_eq (tgt := 16) hx hb dX0_person_6 (by decide) (fun q => ?_) (fun q => ?_)
  · replace hw := hw.1 q
    refine lv_ldc hx hb F.1.o (F.1.t _ q392) dX0_person_16 ?_
    refine W.widen (k := 1) (n := 1) (by omega) (by omega) ?_
    exact W.iret hx hb F.1.r (fun t ht hW => ⟨⟨_, _, rfl, hw, x_B (Bw := cB D A ad) ht hB⟩, hS.F ht⟩) hS.2.2 dX0_person_18 (hlocks := F.1.k)
  · replace hw := hw.2 q
    refine lv_iload_n hx hb dX0_person_9 rfl (lv_at hl 2 rfl) ?_
    refine kX0_X0_isBold F.1 hw ⟨Nat.le_of_ble_eq_true rfl, Nat.le_of_ble_eq_true rfl⟩ ⟨by show _ ≤ 1; omega, by show _ ≤ 1; omega⟩ hl.1 (Nat.le_of_ble_eq_true rfl) dX0_person_10 (fun r2 hw => ?_)
    refine lv_if_ne (tgt := 19) hx hb dX0_person_13 (by decide) (fun q => ?_) (fun q => ?_)
    · replace hw := hw.2 q
      refine lv_aload_n hx hb dX0_person_19 rfl (lv_at hl 0 rfl) ?_
      refine cg_X0_46 F hB dX0_person_20 ?_
      refine cg_X0_101 F hB (by decide) dX0_person_23 ?_
      refine lv_bipush (v := 12) hx hb dX0_person_26 (by decide) ?_
      refine lv_icmp_ne (tgt := 36) hx hb dX0_person_28 (by decide) (fun q => ?_) (fun q => ?_)
      · replace hw := hw.2 q
        refine lv_aload_n hx hb dX0_person_36 rfl (lv_at hl 0 rfl) ?_
        refine lv_iload_n hx hb dX0_person_37 rfl (lv_at hl 1 rfl) ?_
        refine lv_iload_n hx hb dX0_person_38 rfl (lv_at hl 2 rfl) ?_
        refine lv_iconst (v := 0) hx hb dX0_person_39 (by decide) ?_
        refine kX0_X0_comes F hB hS hw ⟨Nat.le_of_ble_eq_true rfl, Nat.le_of_ble_eq_true rfl⟩ ⟨by show _ ≤ 1; omega, by show _ ≤ 1; omega⟩ hl.1 (Nat.le_of_ble_eq_true rfl) dX0_person_40 (fun r3 V4 H locs hw hB hS => ?_)
        exact W.iret hx hb F.1.r (fun t ht hW => ⟨⟨_, _, rfl, hw, x_B (Bw := cB D A ad) ht hB⟩, hS.F ht⟩) hS.2.2 dX0_person_43 (hlocks := F.1.k)
      · replace hw := hw.1 q
        refine lv_ldc hx hb F.1.o (F.1.t _ q380) dX0_person_31 ?_
        refine lv_goto (tgt := 43) hx hb dX0_person_33 (by decide) ?_
        refine W.widen (k := 1) (n := 1) (by omega) (by omega) ?_
        exact W.iret hx hb F.1.r (fun t ht hW => ⟨⟨_, _, rfl, hw, x_B (Bw := cB D A ad) ht hB⟩, hS.F ht⟩) hS.2.2 dX0_person_43 (hlocks := F.1.k)
    · replace hw := hw.1 q
      refine lv_ldc hx hb F.1.o (F.1.t _ q392) dX0_person_16 ?_
      refine W.widen (k := 1) (n := 1) (by omega) (by omega) ?_
      exact W.iret hx hb F.1.r (fun t ht hW => ⟨⟨_, _, rfl, hw, x_B (Bw := cB D A ad) ht hB⟩, hS.F ht⟩) hS.2.2 dX0_person_18 (hlocks := F.1.k)
set_option maxHeartbeats 4000000 in
theorem mX0_person {l : Launch} {D : DD} {A : Nat → Prop} {s0 : State} {ad : AD} {V : CV} {a1 : Int32} {a2 : Int32} {Q : Int32 → CV → Prop} (hw : wX0_person a1 a2 V Q) : Met l yX0_person (ws_ yX0_person cX0_person 3 (some .int)) rX0_person (va_Pc [.ref (ad 0 0 0), .int a1, .int a2] (fun U => cB D A ad V U.heap ∧ CX l D A s0 U)) (va_Qi Q (fun u t => cB D A ad u t.heap) A) 1 1 A := by
  refine Met.ofW (cc := cX0_person) (maxL := 3) (ret := some .int) (by decide) rfl ?_
  intro p e s m args below meth c s₁ B hml hv
  obtain ⟨rfl, hB, hC⟩ := hv
  have F : FX p l c cX0_person s _ m RX0 D A s0 3 meth (some .int) := ⟨mk_FP B hml rfl, hC⟩
  have hS : va_S A s.heap s.heap [] := va_S.rf
  have hl := lv_entry ([.ref (ad 0 0 0), .int a1, .int a2]) (n := 3) (Nat.le_of_ble_eq_true rfl)
  rw [lg_entry_eq]
  generalize (lg_sl ([.ref (ad 0 0 0), .int a1, .int a2]) ++ List.replicate (3 - (lg_sl ([.ref (ad 0 0 0), .int a1, .int a2])).length) Slot.unset).toArray = ls at hl ⊢
  exact bX0_person_0 F hB hS hw hl
def rX0_pour : Room := { frames := 2, cells := 0, slots := 0, locals := 62 }
set_option maxHeartbeats 4000000 in
theorem bX0_pour_132 {p : Program} {l : Launch} {e : Env} {s : State} {m : MethodId} {args : Array Value} {below : List Frame} {meth : Method} {c : Code} {D : DD} {A : Nat → Prop} {s0 : State} {ad : AD} {Q : Int32 → CV → Prop} {k_33 : Option Nat → Int32 → Int32 → CV → Prop} {l2 : Option Nat} {l4 : Int32} {k0 : Int32} {k1 : Int32} {V : CV} {H : Heap} {locs : List Loc} {ls : Array Slot} (F : FX p l c cX0_pour s args m RX0 D A s0 6 meth (some .int)) (h_33 : ∀ (l2 : Option Nat) (l3 : Int32) (l4 : Int32) (V : CV), k_33 l2 l3 l4 V → ∀ (H : Heap) (locs : List Loc) (ls : Array Slot), cB D A ad V H → va_S A s.heap H locs → lv_has ls 6 [(0, .ref (ad 0 0 0)), (2, va_rf l2), (3, .int l3), (4, .int l4)] → W p l e rX0_pour s m args below meth c H locs 0 0 (MQ below (va_Qi Q (fun u t => cB D A ad u t.heap) A) args s 0 0 A) (F0 m 33 ls [])) (hB : cB D A ad V H) (hS : va_S A s.heap H locs) (hw : wX0_pour_132 k_33 l2 l4 k0 k1 V Q) (hl : lv_has ls 6 [(0, .ref (ad 0 0 0)), (2, va_rf l2), (4, .int l4)]) : W p l e rX0_pour s m args below meth c H locs 0 0 (MQ below (va_Qi Q (fun u t => cB D A ad u t.heap) A) args s 0 0 A) (F0 m 132 ls [.int k0, .int k1]) := by
  have hx := F.1.x
  have hb := F.1.b
  unfold wX0_pour_132 at hw
  refine lv_iadd hx hb dX0_pour_132 ?_
  refine lv_istore_n (lv' := [(3, .int (k1 + k0)), (0, .ref (ad 0 0 0)), (2, va_rf l2), (4, .int l4)]) hx hb dX0_pour_133 rfl hl (by decide) (by simp only [List.filter_cons, x_cat]; rfl) (fun ls hl => ?_)
  refine lv_iinc (v := l4 + (1 : Int32)) (lv' := [(4, .int (l4 + (1 : Int32))), (3, .int (k1 + k0)), (0, .ref (ad 0 0 0)), (2, va_rf l2)]) hx hb dX0_pour_134 hl (k := 3) rfl (x_inc (by decide)) (by decide) rfl (fun ls hl => ?_)
  refine lv_goto (tgt := 33) hx hb dX0_pour_137 (by decide) ?_
  exact h_33 _ _ _ _ hw _ _ _ hB hS (lv_sub hl [2, 3, 1, 0] rfl)
set_option maxHeartbeats 4000000 in
theorem bX0_pour_105 {p : Program} {l : Launch} {e : Env} {s : State} {m : MethodId} {args : Array Value} {below : List Frame} {meth : Method} {c : Code} {D : DD} {A : Nat → Prop} {s0 : State} {ad : AD} {Q : Int32 → CV → Prop} {k_33 : Option Nat → Int32 → Int32 → CV → Prop} {l2 : Option Nat} {l3 : Int32} {l4 : Int32} {l5 : Int32} {k0 : Int32} {k1 : Option Nat} {V : CV} {H : Heap} {locs : List Loc} {ls : Array Slot} (F : FX p l c cX0_pour s args m RX0 D A s0 6 meth (some .int)) (h_33 : ∀ (l2 : Option Nat) (l3 : Int32) (l4 : Int32) (V : CV), k_33 l2 l3 l4 V → ∀ (H : Heap) (locs : List Loc) (ls : Array Slot), cB D A ad V H → va_S A s.heap H locs → lv_has ls 6 [(0, .ref (ad 0 0 0)), (2, va_rf l2), (3, .int l3), (4, .int l4)] → W p l e rX0_pour s m args below meth c H locs 0 0 (MQ below (va_Qi Q (fun u t => cB D A ad u t.heap) A) args s 0 0 A) (F0 m 33 ls [])) (hB : cB D A ad V H) (hS : va_S A s.heap H locs) (hw : wX0_pour_105 k_33 l2 l3 l4 l5 k0 k1 V Q) (hl : lv_has ls 6 [(0, .ref (ad 0 0 0)), (2, va_rf l2), (3, .int l3), (4, .int l4), (5, .int l5)]) : W p l e rX0_pour s m args below meth c H locs 0 0 (MQ below (va_Qi Q (fun u t => cB D A ad u t.heap) A) args s 0 0 A) (F0 m 105 ls [.int k0, va_rf k1]) := by
  have hx := F.1.x
  have hb := F.1.b
  unfold wX0_pour_105 at hw
  obtain ⟨y1, e2, hw⟩ := hw
  refine W.eq (g2 := F0 m 105 ls [.int k0, .ref y1]) (congrArg (fun z => F0 m 105 ls [.int k0, va_rf z]) e2) ?_
  obtain ⟨c3, b4, hk5, hm6, hw⟩ := hw
  refine cp_X0_267 F hB hS hk5 hm6 dX0_pour_105 (fun H locs hB hS => ?_)
  refine lv_iload_n hx hb dX0_pour_108 rfl (lv_at hl 2 rfl) ?_
  refine lv_aload_n hx hb dX0_pour_109 rfl (lv_at hl 0 rfl) ?_
  refine cg_X0_46 F hB dX0_pour_110 ?_
  refine cg_X0_259 F hB (by decide) dX0_pour_113 ?_
  refine lv_iload hx hb dX0_pour_116 (lv_at hl 3 rfl) ?_
  obtain ⟨hin7, hw⟩ := hw
  refine cl_Sp F hB (by decide) hin7 dX0_pour_118 ?_
  obtain ⟨y8, e9, hw⟩ := hw
  refine W.eq (g2 := F0 m 119 ls [.ref y8, .int l3]) (congrArg (fun z => F0 m 119 ls [va_rf z, .int l3]) e9) ?_
  obtain ⟨c10, b11, hk12, hm13, hw⟩ := hw
  refine cg_X0_267 F hB hk12 hm13 dX0_pour_119 ?_
  refine lv_iload hx hb dX0_pour_122 (lv_at hl 4 rfl) ?_
  refine lv_icmp_ne (tgt := 131) hx hb dX0_pour_124 (by decide) (fun q => ?_) (fun q => ?_)
  · replace hw := hw.2 q
    refine lv_iconst (v := 1) hx hb dX0_pour_131 (by decide) ?_
    exact bX0_pour_132 F h_33 hB hS hw (lv_sub hl [0, 1, 3] rfl)
  · replace hw := hw.1 q
    refine lv_iconst (v := 0) hx hb dX0_pour_127 (by decide) ?_
    refine lv_goto (tgt := 132) hx hb dX0_pour_128 (by decide) ?_
    exact bX0_pour_132 F h_33 hB hS hw (lv_sub hl [0, 1, 3] rfl)
set_option maxHeartbeats 4000000 in
theorem bX0_pour_33 {p : Program} {l : Launch} {e : Env} {s : State} {m : MethodId} {args : Array Value} {below : List Frame} {meth : Method} {c : Code} {D : DD} {A : Nat → Prop} {s0 : State} {ad : AD} {Q : Int32 → CV → Prop} (F : FX p l c cX0_pour s args m RX0 D A s0 6 meth (some .int)) : ∀ (n : Nat) (l2 : Option Nat) (l3 : Int32) (l4 : Int32) (V : CV), wX0_pour_33 Q n l2 l3 l4 V → ∀ (H : Heap) (locs : List Loc) (ls : Array Slot), cB D A ad V H → va_S A s.heap H locs → lv_has ls 6 [(0, .ref (ad 0 0 0)), (2, va_rf l2), (3, .int l3), (4, .int l4)] → W p l e rX0_pour s m args below meth c H locs 0 0 (MQ below (va_Qi Q (fun u t => cB D A ad u t.heap) A) args s 0 0 A) (F0 m 33 ls []) := by
  have hx := F.1.x
  have hb := F.1.b
  intro n
  induction n with
  | zero => intro l2 l3 l4 V hw; exact hw.elim
  | succ n ih =>
    intro l2 l3 l4 V hw H locs ls hB hS hl
    unfold wX0_pour_33 at hw
    refine lv_iload hx hb dX0_pour_33 (lv_at hl 3 rfl) ?_
    refine lv_aload_n hx hb dX0_pour_35 rfl (lv_at hl 0 rfl) ?_
    refine cg_X0_46 F hB dX0_pour_36 ?_
    refine cg_X0_101 F hB (by decide) dX0_pour_39 ?_
    refine lv_icmp_ge (tgt := 140) hx hb dX0_pour_42 (by decide) (fun q => ?_) (fun q => ?_)
    · replace hw := hw.1 q
      refine lv_iload_n hx hb dX0_pour_140 rfl (lv_at hl 2 rfl) ?_
      exact W.iret hx hb F.1.r (fun t ht hW => ⟨⟨_, _, rfl, hw, x_B (Bw := cB D A ad) ht hB⟩, hS.F ht⟩) hS.2.2 dX0_pour_141 (hlocks := F.1.k)
    · replace hw := hw.2 q
      refine lv_iload hx hb dX0_pour_45 (lv_at hl 3 rfl) ?_
      refine x_aload_n hx hb dX0_pour_47 rfl (lv_at hl 1 rfl) ?_
      obtain ⟨y1, e2, hw⟩ := hw
      refine W.eq (g2 := F0 m 48 ls [.ref y1, .int l4]) (congrArg (fun z => F0 m 48 ls [va_rf z, .int l4]) e2) ?_
      obtain ⟨f4, hm5, hw⟩ := hw
      refine kX0_X4_size F hB hS hm5 hw ⟨Nat.le_of_ble_eq_true rfl, Nat.le_of_ble_eq_true rfl⟩ ⟨Nat.zero_le _, Nat.zero_le _⟩ hl.1 (Nat.le_of_ble_eq_true rfl) dX0_pour_48 (fun r3 V6 H locs hw hB hS => ?_)
      refine lv_icmp_ge (tgt := 140) hx hb dX0_pour_51 (by decide) (fun q => ?_) (fun q => ?_)
      · replace hw := hw.1 q
        refine lv_iload_n hx hb dX0_pour_140 rfl (lv_at hl 2 rfl) ?_
        exact W.iret hx hb F.1.r (fun t ht hW => ⟨⟨_, _, rfl, hw, x_B (Bw := cB D A ad) ht hB⟩, hS.F ht⟩) hS.2.2 dX0_pour_141 (hlocks := F.1.k)
      · replace hw := hw.2 q
        refine lv_aload_n hx hb dX0_pour_54 rfl (lv_at hl 0 rfl) ?_
        refine cg_X0_46 F hB dX0_pour_55 ?_
        refine cg_X0_259 F hB (by decide) dX0_pour_58 ?_
        refine lv_iload hx hb dX0_pour_61 (lv_at hl 3 rfl) ?_
        obtain ⟨hin7, hw⟩ := hw
        refine cl_Sp F hB (by decide) hin7 dX0_pour_63 ?_
        obtain ⟨y8, e9, hw⟩ := hw
        refine W.eq (g2 := F0 m 64 ls [.ref y8]) (congrArg (fun z => F0 m 64 ls [va_rf z]) e9) ?_
        obtain ⟨c10, b11, hk12, hm13, hw⟩ := hw
        refine cg_X0_267 F hB hk12 hm13 dX0_pour_64 ?_
        refine lv_istore (lv' := [(5, .int b11), (0, .ref (ad 0 0 0)), (2, va_rf l2), (3, .int l3), (4, .int l4)]) hx hb dX0_pour_67 hl (by decide) rfl (fun ls hl => ?_)
        refine lv_aload_n hx hb dX0_pour_69 rfl (lv_at hl 1 rfl) ?_
        refine cg_X0_46 F hB dX0_pour_70 ?_
        refine cg_X0_259 F hB (by decide) dX0_pour_73 ?_
        refine lv_iload hx hb dX0_pour_76 (lv_at hl 4 rfl) ?_
        obtain ⟨hin14, hw⟩ := hw
        refine cl_Sp F hB (by decide) hin14 dX0_pour_78 ?_
        refine x_aload_n hx hb dX0_pour_79 rfl (lv_at hl 2 rfl) ?_
        refine lv_iload hx hb dX0_pour_80 (lv_at hl 4 rfl) ?_
        obtain ⟨y15, e16, hw⟩ := hw
        refine W.eq (g2 := F0 m 82 ls [.int l4, .ref y15, va_rf (vSp V6 0 l4.toNatClampNeg)]) (congrArg (fun z => F0 m 82 ls [.int l4, va_rf z, va_rf (vSp V6 0 l4.toNatClampNeg)]) e16) ?_
        obtain ⟨f18, hm19, hw⟩ := hw
        refine kX0_X4_isNumber F hB hS hm19 hw ⟨Nat.le_of_ble_eq_true rfl, Nat.le_of_ble_eq_true rfl⟩ ⟨Nat.zero_le _, Nat.zero_le _⟩ hl.1 (x_rest 0 (by simp)) dX0_pour_82 (fun r17 V20 H locs hw hB hS => ?_)
        refine lv_if_eq (tgt := 103) hx hb dX0_pour_85 (by decide) (fun q => ?_) (fun q => ?_)
        · replace hw := hw.1 q
          refine lv_iload hx hb dX0_pour_103 (lv_at hl 0 rfl) ?_
          exact bX0_pour_105 F ih hB hS hw (lv_sub hl [1, 2, 3, 4, 0] rfl)
        · replace hw := hw.2 q
          refine x_aload_n hx hb dX0_pour_88 rfl (lv_at hl 2 rfl) ?_
          refine lv_iload hx hb dX0_pour_89 (lv_at hl 4 rfl) ?_
          obtain ⟨y21, e22, hw⟩ := hw
          refine W.eq (g2 := F0 m 91 ls [.int l4, .ref y21, va_rf (vSp V6 0 l4.toNatClampNeg)]) (congrArg (fun z => F0 m 91 ls [.int l4, va_rf z, va_rf (vSp V6 0 l4.toNatClampNeg)]) e22) ?_
          obtain ⟨f24, hm25, hw⟩ := hw
          refine kX0_X4_at F hB hS hm25 hw ⟨Nat.le_of_ble_eq_true rfl, Nat.le_of_ble_eq_true rfl⟩ ⟨Nat.zero_le _, Nat.zero_le _⟩ hl.1 (x_rest 0 (by simp)) dX0_pour_91 (fun r23 V26 H locs hw hB hS => ?_)
          refine lv_iconst (v := 0) hx hb dX0_pour_94 (by decide) ?_
          refine lv_bipush (v := 100) hx hb dX0_pour_95 (by decide) ?_
          refine kX0_X0_within F.1 hw ⟨Nat.le_of_ble_eq_true rfl, Nat.le_of_ble_eq_true rfl⟩ ⟨Nat.zero_le _, Nat.zero_le _⟩ hl.1 (x_rest 0 (by simp)) dX0_pour_97 (fun r27 hw => ?_)
          refine lv_goto (tgt := 105) hx hb dX0_pour_100 (by decide) ?_
          exact bX0_pour_105 F ih hB hS hw (lv_sub hl [1, 2, 3, 4, 0] rfl)
set_option maxHeartbeats 4000000 in
theorem bX0_pour_0 {p : Program} {l : Launch} {e : Env} {s : State} {m : MethodId} {args : Array Value} {below : List Frame} {meth : Method} {c : Code} {D : DD} {A : Nat → Prop} {s0 : State} {ad : AD} {Q : Int32 → CV → Prop} {a1 : Int32} {V : CV} {H : Heap} {locs : List Loc} {ls : Array Slot} (F : FX p l c cX0_pour s args m RX0 D A s0 6 meth (some .int)) (hB : cB D A ad V H) (hS : va_S A s.heap H locs) (hw : wX0_pour a1 V Q) (hl : lv_has ls 6 [(0, .ref (ad 0 0 0)), (1, .int a1)]) : W p l e rX0_pour s m args below meth c H locs 0 0 (MQ below (va_Qi Q (fun u t => cB D A ad u t.heap) A) args s 0 0 A) (F0 m 0 ls []) := by
  have hx := F.1.x
  have hb := F.1.b
  unfold wX0_pour at hw
  refine lv_iload_n hx hb dX0_pour_0 rfl (lv_at hl 1 rfl) ?_
  refine kX0_X0_isSheet F.1 hw ⟨Nat.le_of_ble_eq_true rfl, Nat.le_of_ble_eq_true rfl⟩ ⟨Nat.zero_le _, Nat.zero_le _⟩ hl.1 (Nat.le_of_ble_eq_true rfl) dX0_pour_1 (fun r1 hw => ?_)
  refine lv_if_ne (tgt := 10) hx hb dX0_pour_4 (by decide) (fun q => ?_) (fun q => ?_)
  · replace hw := hw.2 q
    refine lv_aload_n hx hb dX0_pour_10 rfl (lv_at hl 0 rfl) ?_
    refine cg_X0_80 F hB dX0_pour_11 ?_
    refine lv_iload_n hx hb dX0_pour_14 rfl (lv_at hl 1 rfl) ?_
    obtain ⟨hin2, hw⟩ := hw
    refine cl_Sh F hB hin2 dX0_pour_15 ?_
    refine x_astore_n (lv' := [(2, va_rf (vSh V a1.toNatClampNeg)), (0, .ref (ad 0 0 0)), (1, .int a1)]) hx hb dX0_pour_16 rfl hl (by decide) rfl (fun ls hl => ?_)
    refine x_aload_n hx hb dX0_pour_17 rfl (lv_at hl 0 rfl) ?_
    obtain ⟨y3, e4, hw⟩ := hw
    refine W.eq (g2 := F0 m 18 ls [.ref y3]) (congrArg (fun z => F0 m 18 ls [va_rf z]) e4) ?_
    obtain ⟨f6, hm7, hw⟩ := hw
    refine kX0_X4_isThere F hB hS hm7 hw ⟨Nat.le_of_ble_eq_true rfl, Nat.le_of_ble_eq_true rfl⟩ ⟨Nat.zero_le _, Nat.zero_le _⟩ hl.1 (Nat.le_of_ble_eq_true rfl) dX0_pour_18 (fun r5 V8 H locs hw hB hS => ?_)
    refine lv_if_ne (tgt := 28) hx hb dX0_pour_21 (by decide) (fun q => ?_) (fun q => ?_)
    · replace hw := hw.2 q
      refine lv_iconst (v := 0) hx hb dX0_pour_28 (by decide) ?_
      refine lv_istore_n (lv' := [(3, .int (0 : Int32)), (2, va_rf (vSh V a1.toNatClampNeg)), (0, .ref (ad 0 0 0)), (1, .int a1)]) hx hb dX0_pour_29 rfl hl (by decide) (by simp only [List.filter_cons, x_cat]; rfl) (fun ls hl => ?_)
      refine lv_iconst (v := 0) hx hb dX0_pour_30 (by decide) ?_
      refine lv_istore (lv' := [(4, .int (0 : Int32)), (3, .int (0 : Int32)), (2, va_rf (vSh V a1.toNatClampNeg)), (0, .ref (ad 0 0 0)), (1, .int a1)]) hx hb dX0_pour_31 hl (by decide) rfl (fun ls hl => ?_)
      obtain ⟨f_33, hw⟩ := hw
      exact bX0_pour_33 F f_33 _ _ _ _ hw _ _ _ hB hS (lv_sub hl [3, 2, 1, 0] rfl)
    · replace hw := hw.1 q
      refine lv_ldcw hx hb F.1.o (F.1.t _ q1019) dX0_pour_24 ?_
      exact W.iret hx hb F.1.r (fun t ht hW => ⟨⟨_, _, rfl, hw, x_B (Bw := cB D A ad) ht hB⟩, hS.F ht⟩) hS.2.2 dX0_pour_27 (hlocks := F.1.k)
  · replace hw := hw.1 q
    refine lv_ldc hx hb F.1.o (F.1.t _ q392) dX0_pour_7 ?_
    exact W.iret hx hb F.1.r (fun t ht hW => ⟨⟨_, _, rfl, hw, x_B (Bw := cB D A ad) ht hB⟩, hS.F ht⟩) hS.2.2 dX0_pour_9 (hlocks := F.1.k)
set_option maxHeartbeats 4000000 in
theorem mX0_pour {l : Launch} {D : DD} {A : Nat → Prop} {s0 : State} {ad : AD} {V : CV} {a1 : Int32} {Q : Int32 → CV → Prop} (hw : wX0_pour a1 V Q) : Met l yX0_pour (ws_ yX0_pour cX0_pour 6 (some .int)) rX0_pour (va_Pc [.ref (ad 0 0 0), .int a1] (fun U => cB D A ad V U.heap ∧ CX l D A s0 U)) (va_Qi Q (fun u t => cB D A ad u t.heap) A) 0 0 A := by
  refine Met.ofW (cc := cX0_pour) (maxL := 6) (ret := some .int) (by decide) rfl ?_
  intro p e s m args below meth c s₁ B hml hv
  obtain ⟨rfl, hB, hC⟩ := hv
  have F : FX p l c cX0_pour s _ m RX0 D A s0 6 meth (some .int) := ⟨mk_FP B hml rfl, hC⟩
  have hS : va_S A s.heap s.heap [] := va_S.rf
  have hl := lv_entry ([.ref (ad 0 0 0), .int a1]) (n := 6) (Nat.le_of_ble_eq_true rfl)
  rw [lg_entry_eq]
  generalize (lg_sl ([.ref (ad 0 0 0), .int a1]) ++ List.replicate (6 - (lg_sl ([.ref (ad 0 0 0), .int a1])).length) Slot.unset).toArray = ls at hl ⊢
  exact bX0_pour_0 F hB hS hw hl
def rX0_proved : Room := { frames := 2, cells := 0, slots := 0, locals := 84 }
set_option maxHeartbeats 4000000 in
theorem bX0_proved_78 {p : Program} {l : Launch} {e : Env} {s : State} {m : MethodId} {args : Array Value} {below : List Frame} {meth : Method} {c : Code} {D : DD} {A : Nat → Prop} {s0 : State} {ad : AD} {Q : Int32 → CV → Prop} {k_33 : Nat → Int32 → Int32 → CV → Prop} {l2' : Nat} {l4 : Int32} {k0 : Int32} {k1 : Int32} {V : CV} {H : Heap} {locs : List Loc} {ls : Array Slot} (F : FX p l c cX0_proved s args m RX0 D A s0 5 meth (some .int)) (h_33 : ∀ (l2' : Nat) (l3 : Int32) (l4 : Int32) (V : CV), l2' < 8 → k_33 l2' l3 l4 V → ∀ (H : Heap) (locs : List Loc) (ls : Array Slot), cB D A ad V H → va_S A s.heap H locs → lv_has ls 5 [(0, .ref (ad 0 0 0)), (2, .ref (ad 4 0 l2')), (3, .int l3), (4, .int l4)] → W p l e rX0_proved s m args below meth c H locs 0 0 (MQ below (va_Qi Q (fun u t => cB D A ad u t.heap) A) args s 0 0 A) (F0 m 33 ls [])) (g_l2p : l2' < 8) (hB : cB D A ad V H) (hS : va_S A s.heap H locs) (hw : wX0_proved_78 k_33 l2' l4 k0 k1 V Q) (hl : lv_has ls 5 [(0, .ref (ad 0 0 0)), (2, .ref (ad 4 0 l2')), (4, .int l4)]) : W p l e rX0_proved s m args below meth c H locs 0 0 (MQ below (va_Qi Q (fun u t => cB D A ad u t.heap) A) args s 0 0 A) (F0 m 78 ls [.int k0, .int k1]) := by
  have hx := F.1.x
  have hb := F.1.b
  unfold wX0_proved_78 at hw
  refine lv_iand hx hb dX0_proved_78 ?_
  refine lv_istore_n (lv' := [(3, .int (k1 &&& k0)), (0, .ref (ad 0 0 0)), (2, .ref (ad 4 0 l2')), (4, .int l4)]) hx hb dX0_proved_79 rfl hl (by decide) rfl (fun ls hl => ?_)
  refine lv_iinc (v := l4 + (1 : Int32)) (lv' := [(4, .int (l4 + (1 : Int32))), (3, .int (k1 &&& k0)), (0, .ref (ad 0 0 0)), (2, .ref (ad 4 0 l2'))]) hx hb dX0_proved_80 hl (k := 3) rfl (x_inc (by decide)) (by decide) rfl (fun ls hl => ?_)
  refine lv_goto (tgt := 33) hx hb dX0_proved_83 (by decide) ?_
  exact h_33 _ _ _ _ g_l2p hw _ _ _ hB hS (lv_sub hl [2, 3, 1, 0] rfl)
set_option maxHeartbeats 4000000 in
theorem bX0_proved_33 {p : Program} {l : Launch} {e : Env} {s : State} {m : MethodId} {args : Array Value} {below : List Frame} {meth : Method} {c : Code} {D : DD} {A : Nat → Prop} {s0 : State} {ad : AD} {Q : Int32 → CV → Prop} (F : FX p l c cX0_proved s args m RX0 D A s0 5 meth (some .int)) : ∀ (n : Nat) (l2' : Nat) (l3 : Int32) (l4 : Int32) (V : CV), l2' < 8 → wX0_proved_33 Q n l2' l3 l4 V → ∀ (H : Heap) (locs : List Loc) (ls : Array Slot), cB D A ad V H → va_S A s.heap H locs → lv_has ls 5 [(0, .ref (ad 0 0 0)), (2, .ref (ad 4 0 l2')), (3, .int l3), (4, .int l4)] → W p l e rX0_proved s m args below meth c H locs 0 0 (MQ below (va_Qi Q (fun u t => cB D A ad u t.heap) A) args s 0 0 A) (F0 m 33 ls []) := by
  have hx := F.1.x
  have hb := F.1.b
  intro n
  induction n with
  | zero => intro l2' l3 l4 V g_l2p hw; exact hw.elim
  | succ n ih =>
    intro l2' l3 l4 V g_l2p hw H locs ls hB hS hl
    unfold wX0_proved_33 at hw
    refine lv_iload hx hb dX0_proved_33 (lv_at hl 3 rfl) ?_
    refine lv_aload_n hx hb dX0_proved_35 rfl (lv_at hl 0 rfl) ?_
    refine cg_X0_46 F hB dX0_proved_36 ?_
    refine cg_X0_101 F hB (by decide) dX0_proved_39 ?_
    refine lv_icmp_ge (tgt := 86) hx hb dX0_proved_42 (by decide) (fun q => ?_) (fun q => ?_)
    · replace hw := hw.1 q
      refine lv_iload_n hx hb dX0_proved_86 rfl (lv_at hl 2 rfl) ?_
      exact W.iret hx hb F.1.r (fun t ht hW => ⟨⟨_, _, rfl, hw, x_B (Bw := cB D A ad) ht hB⟩, hS.F ht⟩) hS.2.2 dX0_proved_87 (hlocks := F.1.k)
    · replace hw := hw.2 q
      refine lv_iload_n hx hb dX0_proved_45 rfl (lv_at hl 2 rfl) ?_
      refine lv_aload_n hx hb dX0_proved_46 rfl (lv_at hl 0 rfl) ?_
      refine cg_X0_46 F hB dX0_proved_47 ?_
      refine cg_X0_269 F hB (by decide) dX0_proved_50 ?_
      refine lv_iload hx hb dX0_proved_53 (lv_at hl 3 rfl) ?_
      obtain ⟨hin1, hw⟩ := hw
      refine cl_S F hB (by decide) (by decide) hin1 dX0_proved_55 ?_
      refine lv_aload_n hx hb dX0_proved_56 rfl (lv_at hl 1 rfl) ?_
      refine cg_X0_343 F hB (by decide) g_l2p dX0_proved_57 ?_
      refine kX0_X0_has F.1 hw ⟨Nat.le_of_ble_eq_true rfl, Nat.le_of_ble_eq_true rfl⟩ ⟨Nat.zero_le _, Nat.zero_le _⟩ hl.1 (Nat.le_of_ble_eq_true rfl) dX0_proved_60 (fun r2 hw => ?_)
      refine lv_if_eq (tgt := 77) hx hb dX0_proved_63 (by decide) (fun q => ?_) (fun q => ?_)
      · replace hw := hw.1 q
        refine lv_iconst (v := -1) hx hb dX0_proved_77 (by decide) ?_
        exact bX0_proved_78 F ih g_l2p hB hS hw (lv_sub hl [0, 1, 3] rfl)
      · replace hw := hw.2 q
        refine lv_aload_n hx hb dX0_proved_66 rfl (lv_at hl 0 rfl) ?_
        refine lv_iload hx hb dX0_proved_67 (lv_at hl 3 rfl) ?_
        refine kX0_X0_goBy F hB hS hw ⟨Nat.le_of_ble_eq_true rfl, Nat.le_of_ble_eq_true rfl⟩ ⟨Nat.zero_le _, Nat.zero_le _⟩ hl.1 (Nat.le_of_ble_eq_true rfl) dX0_proved_69 (fun r3 V4 H locs hw hB hS => ?_)
        refine lv_iconst (v := -1) hx hb dX0_proved_72 (by decide) ?_
        refine lv_ixor hx hb dX0_proved_73 ?_
        refine lv_goto (tgt := 78) hx hb dX0_proved_74 (by decide) ?_
        exact bX0_proved_78 F ih g_l2p hB hS hw (lv_sub hl [0, 1, 3] rfl)
set_option maxHeartbeats 4000000 in
theorem bX0_proved_0 {p : Program} {l : Launch} {e : Env} {s : State} {m : MethodId} {args : Array Value} {below : List Frame} {meth : Method} {c : Code} {D : DD} {A : Nat → Prop} {s0 : State} {ad : AD} {Q : Int32 → CV → Prop} {a1 : Int32} {V : CV} {H : Heap} {locs : List Loc} {ls : Array Slot} (F : FX p l c cX0_proved s args m RX0 D A s0 5 meth (some .int)) (hB : cB D A ad V H) (hS : va_S A s.heap H locs) (hw : wX0_proved a1 V Q) (hl : lv_has ls 5 [(0, .ref (ad 0 0 0)), (1, .int a1)]) : W p l e rX0_proved s m args below meth c H locs 0 0 (MQ below (va_Qi Q (fun u t => cB D A ad u t.heap) A) args s 0 0 A) (F0 m 0 ls []) := by
  have hx := F.1.x
  have hb := F.1.b
  unfold wX0_proved at hw
  refine lv_aload_n hx hb dX0_proved_0 rfl (lv_at hl 0 rfl) ?_
  refine lv_iload_n hx hb dX0_proved_1 rfl (lv_at hl 1 rfl) ?_
  refine kX0_X0_isDeed F hB hS hw ⟨Nat.le_of_ble_eq_true rfl, Nat.le_of_ble_eq_true rfl⟩ ⟨Nat.zero_le _, Nat.zero_le _⟩ hl.1 (Nat.le_of_ble_eq_true rfl) dX0_proved_2 (fun r1 V2 H locs hw hB hS => ?_)
  refine lv_if_ne (tgt := 11) hx hb dX0_proved_5 (by decide) (fun q => ?_) (fun q => ?_)
  · replace hw := hw.2 q
    refine lv_aload_n hx hb dX0_proved_11 rfl (lv_at hl 0 rfl) ?_
    refine kX0_X0_findFollowers F hB hS hw ⟨Nat.le_of_ble_eq_true rfl, Nat.le_of_ble_eq_true rfl⟩ ⟨Nat.zero_le _, Nat.zero_le _⟩ hl.1 (Nat.le_of_ble_eq_true rfl) dX0_proved_12 (fun V4 H locs hw hB hS => ?_)
    refine lv_aload_n hx hb dX0_proved_15 rfl (lv_at hl 0 rfl) ?_
    refine cg_X0_46 F hB dX0_proved_16 ?_
    refine cg_X0_278 F hB (by decide) dX0_proved_19 ?_
    refine lv_iload_n hx hb dX0_proved_22 rfl (lv_at hl 1 rfl) ?_
    obtain ⟨hin5, hw⟩ := hw
    refine cl_De F hB (by decide) hin5 dX0_proved_23 ?_
    refine lv_astore_n (lv' := [(2, .ref (ad 4 0 a1.toNatClampNeg)), (0, .ref (ad 0 0 0)), (1, .int a1)]) hx hb dX0_proved_24 rfl hl (by decide) rfl (fun ls hl => ?_)
    refine lv_aload_n hx hb dX0_proved_25 rfl (lv_at hl 0 rfl) ?_
    refine cg_X0_282 F hB (by decide) (x_lt hin5) dX0_proved_26 ?_
    refine lv_istore_n (lv' := [(3, .int (vD V4 0 a1.toNatClampNeg 3)), (2, .ref (ad 4 0 a1.toNatClampNeg)), (0, .ref (ad 0 0 0)), (1, .int a1)]) hx hb dX0_proved_29 rfl hl (by decide) rfl (fun ls hl => ?_)
    refine lv_iconst (v := 0) hx hb dX0_proved_30 (by decide) ?_
    refine lv_istore (lv' := [(4, .int (0 : Int32)), (3, .int (vD V4 0 a1.toNatClampNeg 3)), (2, .ref (ad 4 0 a1.toNatClampNeg)), (0, .ref (ad 0 0 0)), (1, .int a1)]) hx hb dX0_proved_31 hl (by decide) rfl (fun ls hl => ?_)
    obtain ⟨f_33, hw⟩ := hw
    exact bX0_proved_33 F f_33 _ _ _ _ (x_lt hin5) hw _ _ _ hB hS (lv_sub hl [3, 2, 1, 0] rfl)
  · replace hw := hw.1 q
    refine lv_ldc hx hb F.1.o (F.1.t _ q392) dX0_proved_8 ?_
    exact W.iret hx hb F.1.r (fun t ht hW => ⟨⟨_, _, rfl, hw, x_B (Bw := cB D A ad) ht hB⟩, hS.F ht⟩) hS.2.2 dX0_proved_10 (hlocks := F.1.k)
set_option maxHeartbeats 4000000 in
theorem mX0_proved {l : Launch} {D : DD} {A : Nat → Prop} {s0 : State} {ad : AD} {V : CV} {a1 : Int32} {Q : Int32 → CV → Prop} (hw : wX0_proved a1 V Q) : Met l yX0_proved (ws_ yX0_proved cX0_proved 5 (some .int)) rX0_proved (va_Pc [.ref (ad 0 0 0), .int a1] (fun U => cB D A ad V U.heap ∧ CX l D A s0 U)) (va_Qi Q (fun u t => cB D A ad u t.heap) A) 0 0 A := by
  refine Met.ofW (cc := cX0_proved) (maxL := 5) (ret := some .int) (by decide) rfl ?_
  intro p e s m args below meth c s₁ B hml hv
  obtain ⟨rfl, hB, hC⟩ := hv
  have F : FX p l c cX0_proved s _ m RX0 D A s0 5 meth (some .int) := ⟨mk_FP B hml rfl, hC⟩
  have hS : va_S A s.heap s.heap [] := va_S.rf
  have hl := lv_entry ([.ref (ad 0 0 0), .int a1]) (n := 5) (Nat.le_of_ble_eq_true rfl)
  rw [lg_entry_eq]
  generalize (lg_sl ([.ref (ad 0 0 0), .int a1]) ++ List.replicate (5 - (lg_sl ([.ref (ad 0 0 0), .int a1])).length) Slot.unset).toArray = ls at hl ⊢
  exact bX0_proved_0 F hB hS hw hl
def rX0_reads : Room := { frames := 2, cells := 0, slots := 0, locals := 43 }
set_option maxHeartbeats 4000000 in
theorem bX0_reads_76 {p : Program} {l : Launch} {e : Env} {s : State} {m : MethodId} {args : Array Value} {below : List Frame} {meth : Method} {c : Code} {D : DD} {A : Nat → Prop} {s0 : State} {ad : AD} {Q : Int32 → CV → Prop} {k_30 : Option Nat → Int32 → CV → Prop} {l2 : Option Nat} {l3 : Int32} {V : CV} {H : Heap} {locs : List Loc} {ls : Array Slot} (F : FX p l c cX0_reads s args m RX0 D A s0 4 meth (some .int)) (h_30 : ∀ (l2 : Option Nat) (l3 : Int32) (V : CV), k_30 l2 l3 V → ∀ (H : Heap) (locs : List Loc) (ls : Array Slot), cB D A ad V H → va_S A s.heap H locs → lv_has ls 4 [(0, .ref (ad 0 0 0)), (2, va_rf l2), (3, .int l3)] → W p l e rX0_reads s m args below meth c H locs 0 0 (MQ below (va_Qi Q (fun u t => cB D A ad u t.heap) A) args s 0 0 A) (F0 m 30 ls [])) (hB : cB D A ad V H) (hS : va_S A s.heap H locs) (hw : wX0_reads_76 k_30 l2 l3 V Q) (hl : lv_has ls 4 [(0, .ref (ad 0 0 0)), (2, va_rf l2), (3, .int l3)]) : W p l e rX0_reads s m args below meth c H locs 0 0 (MQ below (va_Qi Q (fun u t => cB D A ad u t.heap) A) args s 0 0 A) (F0 m 76 ls []) := by
  have hx := F.1.x
  have hb := F.1.b
  unfold wX0_reads_76 at hw
  refine lv_iinc (v := l3 + (1 : Int32)) (lv' := [(3, .int (l3 + (1 : Int32))), (0, .ref (ad 0 0 0)), (2, va_rf l2)]) hx hb dX0_reads_76 hl (k := 2) rfl (x_inc (by decide)) (by decide) (by simp only [List.filter_cons, x_cat]; rfl) (fun ls hl => ?_)
  refine lv_goto (tgt := 30) hx hb dX0_reads_79 (by decide) ?_
  exact h_30 _ _ _ hw _ _ _ hB hS (lv_sub hl [1, 2, 0] rfl)
set_option maxHeartbeats 4000000 in
theorem bX0_reads_30 {p : Program} {l : Launch} {e : Env} {s : State} {m : MethodId} {args : Array Value} {below : List Frame} {meth : Method} {c : Code} {D : DD} {A : Nat → Prop} {s0 : State} {ad : AD} {Q : Int32 → CV → Prop} (F : FX p l c cX0_reads s args m RX0 D A s0 4 meth (some .int)) : ∀ (n : Nat) (l2 : Option Nat) (l3 : Int32) (V : CV), wX0_reads_30 Q n l2 l3 V → ∀ (H : Heap) (locs : List Loc) (ls : Array Slot), cB D A ad V H → va_S A s.heap H locs → lv_has ls 4 [(0, .ref (ad 0 0 0)), (2, va_rf l2), (3, .int l3)] → W p l e rX0_reads s m args below meth c H locs 0 0 (MQ below (va_Qi Q (fun u t => cB D A ad u t.heap) A) args s 0 0 A) (F0 m 30 ls []) := by
  have hx := F.1.x
  have hb := F.1.b
  intro n
  induction n with
  | zero => intro l2 l3 V hw; exact hw.elim
  | succ n ih =>
    intro l2 l3 V hw H locs ls hB hS hl
    unfold wX0_reads_30 at hw
    refine lv_iload_n hx hb dX0_reads_30 rfl (lv_at hl 2 rfl) ?_
    refine x_aload_n hx hb dX0_reads_31 rfl (lv_at hl 1 rfl) ?_
    obtain ⟨y1, e2, hw⟩ := hw
    refine W.eq (g2 := F0 m 32 ls [.ref y1, .int l3]) (congrArg (fun z => F0 m 32 ls [va_rf z, .int l3]) e2) ?_
    obtain ⟨f4, hm5, hw⟩ := hw
    refine kX0_X4_size F hB hS hm5 hw ⟨Nat.le_of_ble_eq_true rfl, Nat.le_of_ble_eq_true rfl⟩ ⟨Nat.zero_le _, Nat.zero_le _⟩ hl.1 (Nat.le_of_ble_eq_true rfl) dX0_reads_32 (fun r3 V6 H locs hw hB hS => ?_)
    refine lv_icmp_ge (tgt := 82) hx hb dX0_reads_35 (by decide) (fun q => ?_) (fun q => ?_)
    · replace hw := hw.1 q
      refine lv_ldc hx hb F.1.o (F.1.t _ q571) dX0_reads_82 ?_
      exact W.iret hx hb F.1.r (fun t ht hW => ⟨⟨_, _, rfl, hw, x_B (Bw := cB D A ad) ht hB⟩, hS.F ht⟩) hS.2.2 dX0_reads_84 (hlocks := F.1.k)
    · replace hw := hw.2 q
      refine x_aload_n hx hb dX0_reads_38 rfl (lv_at hl 1 rfl) ?_
      refine lv_iload_n hx hb dX0_reads_39 rfl (lv_at hl 2 rfl) ?_
      obtain ⟨y7, e8, hw⟩ := hw
      refine W.eq (g2 := F0 m 40 ls [.int l3, .ref y7]) (congrArg (fun z => F0 m 40 ls [.int l3, va_rf z]) e8) ?_
      obtain ⟨f10, hm11, hw⟩ := hw
      refine kX0_X4_isNumber F hB hS hm11 hw ⟨Nat.le_of_ble_eq_true rfl, Nat.le_of_ble_eq_true rfl⟩ ⟨Nat.zero_le _, Nat.zero_le _⟩ hl.1 (Nat.le_of_ble_eq_true rfl) dX0_reads_40 (fun r9 V12 H locs hw hB hS => ?_)
      refine lv_if_eq (tgt := 76) hx hb dX0_reads_43 (by decide) (fun q => ?_) (fun q => ?_)
      · replace hw := hw.1 q
        exact bX0_reads_76 F ih hB hS hw hl
      · replace hw := hw.2 q
        refine lv_aload_n hx hb dX0_reads_46 rfl (lv_at hl 0 rfl) ?_
        refine lv_iload_n hx hb dX0_reads_47 rfl (lv_at hl 2 rfl) ?_
        refine kX0_X0_isDeed F hB hS hw ⟨Nat.le_of_ble_eq_true rfl, Nat.le_of_ble_eq_true rfl⟩ ⟨Nat.zero_le _, Nat.zero_le _⟩ hl.1 (Nat.le_of_ble_eq_true rfl) dX0_reads_48 (fun r13 V14 H locs hw hB hS => ?_)
        refine lv_if_eq (tgt := 74) hx hb dX0_reads_51 (by decide) (fun q => ?_) (fun q => ?_)
        · replace hw := hw.1 q
          refine lv_iload_n hx hb dX0_reads_74 rfl (lv_at hl 2 rfl) ?_
          exact W.iret hx hb F.1.r (fun t ht hW => ⟨⟨_, _, rfl, hw, x_B (Bw := cB D A ad) ht hB⟩, hS.F ht⟩) hS.2.2 dX0_reads_75 (hlocks := F.1.k)
        · replace hw := hw.2 q
          refine x_aload_n hx hb dX0_reads_54 rfl (lv_at hl 1 rfl) ?_
          refine lv_iload_n hx hb dX0_reads_55 rfl (lv_at hl 2 rfl) ?_
          obtain ⟨y15, e16, hw⟩ := hw
          refine W.eq (g2 := F0 m 56 ls [.int l3, .ref y15]) (congrArg (fun z => F0 m 56 ls [.int l3, va_rf z]) e16) ?_
          obtain ⟨f18, hm19, hw⟩ := hw
          refine kX0_X4_at F hB hS hm19 hw ⟨Nat.le_of_ble_eq_true rfl, Nat.le_of_ble_eq_true rfl⟩ ⟨Nat.zero_le _, Nat.zero_le _⟩ hl.1 (Nat.le_of_ble_eq_true rfl) dX0_reads_56 (fun r17 V20 H locs hw hB hS => ?_)
          refine lv_aload_n hx hb dX0_reads_59 rfl (lv_at hl 0 rfl) ?_
          refine cg_X0_46 F hB dX0_reads_60 ?_
          refine cg_X0_278 F hB (by decide) dX0_reads_63 ?_
          refine lv_iload_n hx hb dX0_reads_66 rfl (lv_at hl 2 rfl) ?_
          obtain ⟨hin21, hw⟩ := hw
          refine cl_De F hB (by decide) hin21 dX0_reads_67 ?_
          refine kX0_X2_leftMany F hB hS hw ⟨Nat.le_of_ble_eq_true rfl, Nat.le_of_ble_eq_true rfl⟩ ⟨Nat.zero_le _, Nat.zero_le _⟩ hl.1 (Nat.le_of_ble_eq_true rfl) dX0_reads_68 (fun r22 V23 H locs hw hB hS => ?_)
          refine lv_icmp_eq (tgt := 76) hx hb dX0_reads_71 (by decide) (fun q => ?_) (fun q => ?_)
          · replace hw := hw.1 q
            exact bX0_reads_76 F ih hB hS hw hl
          · replace hw := hw.2 q
            refine lv_iload_n hx hb dX0_reads_74 rfl (lv_at hl 2 rfl) ?_
            exact W.iret hx hb F.1.r (fun t ht hW => ⟨⟨_, _, rfl, hw, x_B (Bw := cB D A ad) ht hB⟩, hS.F ht⟩) hS.2.2 dX0_reads_75 (hlocks := F.1.k)
set_option maxHeartbeats 4000000 in
theorem bX0_reads_0 {p : Program} {l : Launch} {e : Env} {s : State} {m : MethodId} {args : Array Value} {below : List Frame} {meth : Method} {c : Code} {D : DD} {A : Nat → Prop} {s0 : State} {ad : AD} {Q : Int32 → CV → Prop} {a1 : Int32} {V : CV} {H : Heap} {locs : List Loc} {ls : Array Slot} (F : FX p l c cX0_reads s args m RX0 D A s0 4 meth (some .int)) (hB : cB D A ad V H) (hS : va_S A s.heap H locs) (hw : wX0_reads a1 V Q) (hl : lv_has ls 4 [(0, .ref (ad 0 0 0)), (1, .int a1)]) : W p l e rX0_reads s m args below meth c H locs 0 0 (MQ below (va_Qi Q (fun u t => cB D A ad u t.heap) A) args s 0 0 A) (F0 m 0 ls []) := by
  have hx := F.1.x
  have hb := F.1.b
  unfold wX0_reads at hw
  refine lv_iload_n hx hb dX0_reads_0 rfl (lv_at hl 1 rfl) ?_
  refine kX0_X0_isSheet F.1 hw ⟨Nat.le_of_ble_eq_true rfl, Nat.le_of_ble_eq_true rfl⟩ ⟨Nat.zero_le _, Nat.zero_le _⟩ hl.1 (Nat.le_of_ble_eq_true rfl) dX0_reads_1 (fun r1 hw => ?_)
  refine lv_if_ne (tgt := 10) hx hb dX0_reads_4 (by decide) (fun q => ?_) (fun q => ?_)
  · replace hw := hw.2 q
    refine lv_aload_n hx hb dX0_reads_10 rfl (lv_at hl 0 rfl) ?_
    refine cg_X0_80 F hB dX0_reads_11 ?_
    refine lv_iload_n hx hb dX0_reads_14 rfl (lv_at hl 1 rfl) ?_
    obtain ⟨hin2, hw⟩ := hw
    refine cl_Sh F hB hin2 dX0_reads_15 ?_
    refine x_astore_n (lv' := [(2, va_rf (vSh V a1.toNatClampNeg)), (0, .ref (ad 0 0 0)), (1, .int a1)]) hx hb dX0_reads_16 rfl hl (by decide) rfl (fun ls hl => ?_)
    refine x_aload_n hx hb dX0_reads_17 rfl (lv_at hl 0 rfl) ?_
    obtain ⟨y3, e4, hw⟩ := hw
    refine W.eq (g2 := F0 m 18 ls [.ref y3]) (congrArg (fun z => F0 m 18 ls [va_rf z]) e4) ?_
    obtain ⟨f6, hm7, hw⟩ := hw
    refine kX0_X4_isThere F hB hS hm7 hw ⟨Nat.le_of_ble_eq_true rfl, Nat.le_of_ble_eq_true rfl⟩ ⟨Nat.zero_le _, Nat.zero_le _⟩ hl.1 (Nat.le_of_ble_eq_true rfl) dX0_reads_18 (fun r5 V8 H locs hw hB hS => ?_)
    refine lv_if_ne (tgt := 28) hx hb dX0_reads_21 (by decide) (fun q => ?_) (fun q => ?_)
    · replace hw := hw.2 q
      refine lv_iconst (v := 0) hx hb dX0_reads_28 (by decide) ?_
      refine lv_istore_n (lv' := [(3, .int (0 : Int32)), (2, va_rf (vSh V a1.toNatClampNeg)), (0, .ref (ad 0 0 0)), (1, .int a1)]) hx hb dX0_reads_29 rfl hl (by decide) (by simp only [List.filter_cons, x_cat]; rfl) (fun ls hl => ?_)
      obtain ⟨f_30, hw⟩ := hw
      exact bX0_reads_30 F f_30 _ _ _ hw _ _ _ hB hS (lv_sub hl [2, 1, 0] rfl)
    · replace hw := hw.1 q
      refine lv_ldcw hx hb F.1.o (F.1.t _ q1019) dX0_reads_24 ?_
      exact W.iret hx hb F.1.r (fun t ht hW => ⟨⟨_, _, rfl, hw, x_B (Bw := cB D A ad) ht hB⟩, hS.F ht⟩) hS.2.2 dX0_reads_27 (hlocks := F.1.k)
  · replace hw := hw.1 q
    refine lv_ldc hx hb F.1.o (F.1.t _ q392) dX0_reads_7 ?_
    exact W.iret hx hb F.1.r (fun t ht hW => ⟨⟨_, _, rfl, hw, x_B (Bw := cB D A ad) ht hB⟩, hS.F ht⟩) hS.2.2 dX0_reads_9 (hlocks := F.1.k)
set_option maxHeartbeats 4000000 in
theorem mX0_reads {l : Launch} {D : DD} {A : Nat → Prop} {s0 : State} {ad : AD} {V : CV} {a1 : Int32} {Q : Int32 → CV → Prop} (hw : wX0_reads a1 V Q) : Met l yX0_reads (ws_ yX0_reads cX0_reads 4 (some .int)) rX0_reads (va_Pc [.ref (ad 0 0 0), .int a1] (fun U => cB D A ad V U.heap ∧ CX l D A s0 U)) (va_Qi Q (fun u t => cB D A ad u t.heap) A) 0 0 A := by
  refine Met.ofW (cc := cX0_reads) (maxL := 4) (ret := some .int) (by decide) rfl ?_
  intro p e s m args below meth c s₁ B hml hv
  obtain ⟨rfl, hB, hC⟩ := hv
  have F : FX p l c cX0_reads s _ m RX0 D A s0 4 meth (some .int) := ⟨mk_FP B hml rfl, hC⟩
  have hS : va_S A s.heap s.heap [] := va_S.rf
  have hl := lv_entry ([.ref (ad 0 0 0), .int a1]) (n := 4) (Nat.le_of_ble_eq_true rfl)
  rw [lg_entry_eq]
  generalize (lg_sl ([.ref (ad 0 0 0), .int a1]) ++ List.replicate (4 - (lg_sl ([.ref (ad 0 0 0), .int a1])).length) Slot.unset).toArray = ls at hl ⊢
  exact bX0_reads_0 F hB hS hw hl
def rX0_rest : Room := { frames := 2, cells := 0, slots := 0, locals := 42 }
set_option maxHeartbeats 4000000 in
theorem bX0_rest_0 {p : Program} {l : Launch} {e : Env} {s : State} {m : MethodId} {args : Array Value} {below : List Frame} {meth : Method} {c : Code} {D : DD} {A : Nat → Prop} {s0 : State} {ad : AD} {Q : Int32 → CV → Prop} {a1 : Int32} {a2 : Int32} {V : CV} {H : Heap} {locs : List Loc} {ls : Array Slot} (F : FX p l c cX0_rest s args m RX0 D A s0 5 meth (some .int)) (hB : cB D A ad V H) (hS : va_S A s.heap H locs) (hw : wX0_rest a1 a2 V Q) (hl : lv_has ls 5 [(0, .ref (ad 0 0 0)), (1, .int a1), (2, .int a2)]) : W p l e rX0_rest s m args below meth c H locs 0 0 (MQ below (va_Qi Q (fun u t => cB D A ad u t.heap) A) args s 0 0 A) (F0 m 0 ls []) := by
  have hx := F.1.x
  have hb := F.1.b
  unfold wX0_rest at hw
  refine lv_iload_n hx hb dX0_rest_0 rfl (lv_at hl 1 rfl) ?_
  refine kX0_X0_isSlot F.1 hw ⟨Nat.le_of_ble_eq_true rfl, Nat.le_of_ble_eq_true rfl⟩ ⟨Nat.zero_le _, Nat.zero_le _⟩ hl.1 (Nat.le_of_ble_eq_true rfl) dX0_rest_1 (fun r1 hw => ?_)
  refine lv_if_ne (tgt := 10) hx hb dX0_rest_4 (by decide) (fun q => ?_) (fun q => ?_)
  · replace hw := hw.2 q
    refine lv_aload_n hx hb dX0_rest_10 rfl (lv_at hl 0 rfl) ?_
    refine cg_X0_87 F hB dX0_rest_11 ?_
    refine lv_iload_n hx hb dX0_rest_14 rfl (lv_at hl 1 rfl) ?_
    obtain ⟨hin2, hw⟩ := hw
    refine cl_Sl F hB hin2 dX0_rest_15 ?_
    refine cg_X0_505 F hB (x_lt hin2) dX0_rest_16 ?_
    refine x_astore_n (lv' := [(3, va_rf (vHe V a1.toNatClampNeg)), (0, .ref (ad 0 0 0)), (1, .int a1), (2, .int a2)]) hx hb dX0_rest_19 rfl hl (by decide) rfl (fun ls hl => ?_)
    refine x_aload_n hx hb dX0_rest_20 rfl (lv_at hl 0 rfl) ?_
    refine x_ifnonnull (tgt := 28) hx hb dX0_rest_21 (by decide) (fun q => ?_) (fun q => ?_)
    · replace hw := hw.2 q
      refine x_aload_n hx hb dX0_rest_28 rfl (lv_at hl 0 rfl) ?_
      rcases hw with hw | hw | hw | hw
      · obtain ⟨e3, hw⟩ := hw
        refine W.eq (g2 := F0 m 29 ls [.null]) (congrArg (fun z => F0 m 29 ls [va_rf z]) e3) ?_
        refine lv_instN hx hb dX0_rest_29 ?_
        refine lv_if_ne (tgt := 39) hx hb dX0_rest_32 (by decide) (fun q => ?_) (fun q => ?_)
        · replace hw := hw.2 q
          refine x_aload_n hx hb dX0_rest_39 rfl (lv_at hl 0 rfl) ?_
          obtain ⟨y4, e5, hw⟩ := hw
          refine W.eq (g2 := F0 m 40 ls [.ref y4]) (congrArg (fun z => F0 m 40 ls [va_rf z]) e5) ?_
          obtain ⟨f6, hm7, hw⟩ := hw
          refine dc_X15 F hB hm7 q1126 dX0_rest_40 ?_
          refine cg_X0_509 F hB hm7 dX0_rest_43 ?_
          refine lv_istore (lv' := [(4, .int f6), (3, va_rf (vHe V a1.toNatClampNeg)), (0, .ref (ad 0 0 0)), (1, .int a1), (2, .int a2)]) hx hb dX0_rest_46 hl (by decide) (by simp only [List.filter_cons, x_cat]; rfl) (fun ls hl => ?_)
          refine lv_iload_n hx hb dX0_rest_48 rfl (lv_at hl 4 rfl) ?_
          refine lv_if_ne (tgt := 58) hx hb dX0_rest_49 (by decide) (fun q => ?_) (fun q => ?_)
          · replace hw := hw.2 q
            refine lv_iload hx hb dX0_rest_58 (lv_at hl 0 rfl) ?_
            refine lv_iload_n hx hb dX0_rest_60 rfl (lv_at hl 4 rfl) ?_
            obtain ⟨hne, hw⟩ := hw
            refine lv_irem hx hb dX0_rest_61 hne ?_
            exact W.iret hx hb F.1.r (fun t ht hW => ⟨⟨_, _, rfl, hw, x_B (Bw := cB D A ad) ht hB⟩, hS.F ht⟩) hS.2.2 dX0_rest_62 (hlocks := F.1.k)
          · replace hw := hw.1 q
            refine lv_ldcw hx hb F.1.o (F.1.t _ q860) dX0_rest_52 ?_
            refine lv_goto (tgt := 62) hx hb dX0_rest_55 (by decide) ?_
            exact W.iret hx hb F.1.r (fun t ht hW => ⟨⟨_, _, rfl, hw, x_B (Bw := cB D A ad) ht hB⟩, hS.F ht⟩) hS.2.2 dX0_rest_62 (hlocks := F.1.k)
        · replace hw := hw.1 q
          refine lv_ldcw hx hb F.1.o (F.1.t _ q743) dX0_rest_35 ?_
          exact W.iret hx hb F.1.r (fun t ht hW => ⟨⟨_, _, rfl, hw, x_B (Bw := cB D A ad) ht hB⟩, hS.F ht⟩) hS.2.2 dX0_rest_38 (hlocks := F.1.k)
      · obtain ⟨y12, c8, b9, e13, hk11, hm10, hw⟩ := hw
        refine W.eq (g2 := F0 m 29 ls [.ref y12]) (congrArg (fun z => F0 m 29 ls [va_rf z]) e13) ?_
        refine di_X15_spk F hB hk11 hm10 q1126 dX0_rest_29 ?_
        refine lv_if_ne (tgt := 39) hx hb dX0_rest_32 (by decide) (fun q => ?_) (fun q => ?_)
        · replace hw := hw.2 q
          refine x_aload_n hx hb dX0_rest_39 rfl (lv_at hl 0 rfl) ?_
          obtain ⟨y14, e15, hw⟩ := hw
          refine W.eq (g2 := F0 m 40 ls [.ref y14]) (congrArg (fun z => F0 m 40 ls [va_rf z]) e15) ?_
          obtain ⟨f16, hm17, hw⟩ := hw
          refine dc_X15 F hB hm17 q1126 dX0_rest_40 ?_
          refine cg_X0_509 F hB hm17 dX0_rest_43 ?_
          refine lv_istore (lv' := [(4, .int f16), (3, va_rf (vHe V a1.toNatClampNeg)), (0, .ref (ad 0 0 0)), (1, .int a1), (2, .int a2)]) hx hb dX0_rest_46 hl (by decide) (by simp only [List.filter_cons, x_cat]; rfl) (fun ls hl => ?_)
          refine lv_iload_n hx hb dX0_rest_48 rfl (lv_at hl 4 rfl) ?_
          refine lv_if_ne (tgt := 58) hx hb dX0_rest_49 (by decide) (fun q => ?_) (fun q => ?_)
          · replace hw := hw.2 q
            refine lv_iload hx hb dX0_rest_58 (lv_at hl 0 rfl) ?_
            refine lv_iload_n hx hb dX0_rest_60 rfl (lv_at hl 4 rfl) ?_
            obtain ⟨hne, hw⟩ := hw
            refine lv_irem hx hb dX0_rest_61 hne ?_
            exact W.iret hx hb F.1.r (fun t ht hW => ⟨⟨_, _, rfl, hw, x_B (Bw := cB D A ad) ht hB⟩, hS.F ht⟩) hS.2.2 dX0_rest_62 (hlocks := F.1.k)
          · replace hw := hw.1 q
            refine lv_ldcw hx hb F.1.o (F.1.t _ q860) dX0_rest_52 ?_
            refine lv_goto (tgt := 62) hx hb dX0_rest_55 (by decide) ?_
            exact W.iret hx hb F.1.r (fun t ht hW => ⟨⟨_, _, rfl, hw, x_B (Bw := cB D A ad) ht hB⟩, hS.F ht⟩) hS.2.2 dX0_rest_62 (hlocks := F.1.k)
        · replace hw := hw.1 q
          refine lv_ldcw hx hb F.1.o (F.1.t _ q743) dX0_rest_35 ?_
          exact W.iret hx hb F.1.r (fun t ht hW => ⟨⟨_, _, rfl, hw, x_B (Bw := cB D A ad) ht hB⟩, hS.F ht⟩) hS.2.2 dX0_rest_38 (hlocks := F.1.k)
      · obtain ⟨y21, r18, e22, hm19, hw⟩ := hw
        refine W.eq (g2 := F0 m 29 ls [.ref y21]) (congrArg (fun z => F0 m 29 ls [va_rf z]) e22) ?_
        refine di_X15_X4 F hB hm19 q1126 dX0_rest_29 ?_
        refine lv_if_ne (tgt := 39) hx hb dX0_rest_32 (by decide) (fun q => ?_) (fun q => ?_)
        · replace hw := hw.2 q
          refine x_aload_n hx hb dX0_rest_39 rfl (lv_at hl 0 rfl) ?_
          obtain ⟨y23, e24, hw⟩ := hw
          refine W.eq (g2 := F0 m 40 ls [.ref y23]) (congrArg (fun z => F0 m 40 ls [va_rf z]) e24) ?_
          obtain ⟨f25, hm26, hw⟩ := hw
          refine dc_X15 F hB hm26 q1126 dX0_rest_40 ?_
          refine cg_X0_509 F hB hm26 dX0_rest_43 ?_
          refine lv_istore (lv' := [(4, .int f25), (3, va_rf (vHe V a1.toNatClampNeg)), (0, .ref (ad 0 0 0)), (1, .int a1), (2, .int a2)]) hx hb dX0_rest_46 hl (by decide) (by simp only [List.filter_cons, x_cat]; rfl) (fun ls hl => ?_)
          refine lv_iload_n hx hb dX0_rest_48 rfl (lv_at hl 4 rfl) ?_
          refine lv_if_ne (tgt := 58) hx hb dX0_rest_49 (by decide) (fun q => ?_) (fun q => ?_)
          · replace hw := hw.2 q
            refine lv_iload hx hb dX0_rest_58 (lv_at hl 0 rfl) ?_
            refine lv_iload_n hx hb dX0_rest_60 rfl (lv_at hl 4 rfl) ?_
            obtain ⟨hne, hw⟩ := hw
            refine lv_irem hx hb dX0_rest_61 hne ?_
            exact W.iret hx hb F.1.r (fun t ht hW => ⟨⟨_, _, rfl, hw, x_B (Bw := cB D A ad) ht hB⟩, hS.F ht⟩) hS.2.2 dX0_rest_62 (hlocks := F.1.k)
          · replace hw := hw.1 q
            refine lv_ldcw hx hb F.1.o (F.1.t _ q860) dX0_rest_52 ?_
            refine lv_goto (tgt := 62) hx hb dX0_rest_55 (by decide) ?_
            exact W.iret hx hb F.1.r (fun t ht hW => ⟨⟨_, _, rfl, hw, x_B (Bw := cB D A ad) ht hB⟩, hS.F ht⟩) hS.2.2 dX0_rest_62 (hlocks := F.1.k)
        · replace hw := hw.1 q
          refine lv_ldcw hx hb F.1.o (F.1.t _ q743) dX0_rest_35 ?_
          exact W.iret hx hb F.1.r (fun t ht hW => ⟨⟨_, _, rfl, hw, x_B (Bw := cB D A ad) ht hB⟩, hS.F ht⟩) hS.2.2 dX0_rest_38 (hlocks := F.1.k)
      · obtain ⟨y30, v27, e31, hm28, hw⟩ := hw
        refine W.eq (g2 := F0 m 29 ls [.ref y30]) (congrArg (fun z => F0 m 29 ls [va_rf z]) e31) ?_
        refine di_X15_X15 F hB hm28 q1126 dX0_rest_29 ?_
        refine lv_if_ne (tgt := 39) hx hb dX0_rest_32 (by decide) (fun q => ?_) (fun q => ?_)
        · replace hw := hw.2 q
          refine x_aload_n hx hb dX0_rest_39 rfl (lv_at hl 0 rfl) ?_
          obtain ⟨y32, e33, hw⟩ := hw
          refine W.eq (g2 := F0 m 40 ls [.ref y32]) (congrArg (fun z => F0 m 40 ls [va_rf z]) e33) ?_
          obtain ⟨f34, hm35, hw⟩ := hw
          refine dc_X15 F hB hm35 q1126 dX0_rest_40 ?_
          refine cg_X0_509 F hB hm35 dX0_rest_43 ?_
          refine lv_istore (lv' := [(4, .int f34), (3, va_rf (vHe V a1.toNatClampNeg)), (0, .ref (ad 0 0 0)), (1, .int a1), (2, .int a2)]) hx hb dX0_rest_46 hl (by decide) (by simp only [List.filter_cons, x_cat]; rfl) (fun ls hl => ?_)
          refine lv_iload_n hx hb dX0_rest_48 rfl (lv_at hl 4 rfl) ?_
          refine lv_if_ne (tgt := 58) hx hb dX0_rest_49 (by decide) (fun q => ?_) (fun q => ?_)
          · replace hw := hw.2 q
            refine lv_iload hx hb dX0_rest_58 (lv_at hl 0 rfl) ?_
            refine lv_iload_n hx hb dX0_rest_60 rfl (lv_at hl 4 rfl) ?_
            obtain ⟨hne, hw⟩ := hw
            refine lv_irem hx hb dX0_rest_61 hne ?_
            exact W.iret hx hb F.1.r (fun t ht hW => ⟨⟨_, _, rfl, hw, x_B (Bw := cB D A ad) ht hB⟩, hS.F ht⟩) hS.2.2 dX0_rest_62 (hlocks := F.1.k)
          · replace hw := hw.1 q
            refine lv_ldcw hx hb F.1.o (F.1.t _ q860) dX0_rest_52 ?_
            refine lv_goto (tgt := 62) hx hb dX0_rest_55 (by decide) ?_
            exact W.iret hx hb F.1.r (fun t ht hW => ⟨⟨_, _, rfl, hw, x_B (Bw := cB D A ad) ht hB⟩, hS.F ht⟩) hS.2.2 dX0_rest_62 (hlocks := F.1.k)
        · replace hw := hw.1 q
          refine lv_ldcw hx hb F.1.o (F.1.t _ q743) dX0_rest_35 ?_
          exact W.iret hx hb F.1.r (fun t ht hW => ⟨⟨_, _, rfl, hw, x_B (Bw := cB D A ad) ht hB⟩, hS.F ht⟩) hS.2.2 dX0_rest_38 (hlocks := F.1.k)
    · replace hw := hw.1 q
      refine lv_ldcw hx hb F.1.o (F.1.t _ q1019) dX0_rest_24 ?_
      exact W.iret hx hb F.1.r (fun t ht hW => ⟨⟨_, _, rfl, hw, x_B (Bw := cB D A ad) ht hB⟩, hS.F ht⟩) hS.2.2 dX0_rest_27 (hlocks := F.1.k)
  · replace hw := hw.1 q
    refine lv_ldc hx hb F.1.o (F.1.t _ q392) dX0_rest_7 ?_
    exact W.iret hx hb F.1.r (fun t ht hW => ⟨⟨_, _, rfl, hw, x_B (Bw := cB D A ad) ht hB⟩, hS.F ht⟩) hS.2.2 dX0_rest_9 (hlocks := F.1.k)
set_option maxHeartbeats 4000000 in
theorem mX0_rest {l : Launch} {D : DD} {A : Nat → Prop} {s0 : State} {ad : AD} {V : CV} {a1 : Int32} {a2 : Int32} {Q : Int32 → CV → Prop} (hw : wX0_rest a1 a2 V Q) : Met l yX0_rest (ws_ yX0_rest cX0_rest 5 (some .int)) rX0_rest (va_Pc [.ref (ad 0 0 0), .int a1, .int a2] (fun U => cB D A ad V U.heap ∧ CX l D A s0 U)) (va_Qi Q (fun u t => cB D A ad u t.heap) A) 0 0 A := by
  refine Met.ofW (cc := cX0_rest) (maxL := 5) (ret := some .int) (by decide) rfl ?_
  intro p e s m args below meth c s₁ B hml hv
  obtain ⟨rfl, hB, hC⟩ := hv
  have F : FX p l c cX0_rest s _ m RX0 D A s0 5 meth (some .int) := ⟨mk_FP B hml rfl, hC⟩
  have hS : va_S A s.heap s.heap [] := va_S.rf
  have hl := lv_entry ([.ref (ad 0 0 0), .int a1, .int a2]) (n := 5) (Nat.le_of_ble_eq_true rfl)
  rw [lg_entry_eq]
  generalize (lg_sl ([.ref (ad 0 0 0), .int a1, .int a2]) ++ List.replicate (5 - (lg_sl ([.ref (ad 0 0 0), .int a1, .int a2])).length) Slot.unset).toArray = ls at hl ⊢
  exact bX0_rest_0 F hB hS hw hl
def rX0_rounds : Room := { frames := 8, cells := 0, slots := 0, locals := 254 }
set_option maxHeartbeats 4000000 in
theorem bX0_rounds_26 {p : Program} {l : Launch} {e : Env} {s : State} {m : MethodId} {args : Array Value} {below : List Frame} {meth : Method} {c : Code} {D : DD} {A : Nat → Prop} {s0 : State} {ad : AD} {Q : Int32 → CV → Prop} (F : FX p l c cX0_rounds s args m RX0 D A s0 5 meth (some .int)) : ∀ (n : Nat) (l1 : Int32) (l2 : Int32) (l3 : Int32) (l4 : Int32) (V : CV), wX0_rounds_26 Q n l1 l2 l3 l4 V → ∀ (H : Heap) (locs : List Loc) (ls : Array Slot), cB D A ad V H → va_S A s.heap H locs → lv_has ls 5 [(0, .ref (ad 0 0 0)), (1, .int l1), (2, .int l2), (3, .int l3), (4, .int l4)] → W p l e rX0_rounds s m args below meth c H locs 0 0 (MQ below (va_Qi Q (fun u t => cB D A ad u t.heap) A) args s 0 0 A) (F0 m 26 ls []) := by
  have hx := F.1.x
  have hb := F.1.b
  intro n
  induction n with
  | zero => intro l1 l2 l3 l4 V hw; exact hw.elim
  | succ n ih =>
    intro l1 l2 l3 l4 V hw H locs ls hB hS hl
    unfold wX0_rounds_26 at hw
    refine lv_iload hx hb dX0_rounds_26 (lv_at hl 4 rfl) ?_
    refine lv_iload_n hx hb dX0_rounds_28 rfl (lv_at hl 2 rfl) ?_
    refine lv_icmp_ge (tgt := 54) hx hb dX0_rounds_29 (by decide) (fun q => ?_) (fun q => ?_)
    · replace hw := hw.1 q
      refine lv_iload_n hx hb dX0_rounds_54 rfl (lv_at hl 3 rfl) ?_
      exact W.iret hx hb F.1.r (fun t ht hW => ⟨⟨_, _, rfl, hw, x_B (Bw := cB D A ad) ht hB⟩, hS.F ht⟩) hS.2.2 dX0_rounds_55 (hlocks := F.1.k)
    · replace hw := hw.2 q
      refine lv_iload_n hx hb dX0_rounds_32 rfl (lv_at hl 3 rfl) ?_
      refine lv_aload_n hx hb dX0_rounds_33 rfl (lv_at hl 0 rfl) ?_
      refine lv_aload_n hx hb dX0_rounds_34 rfl (lv_at hl 0 rfl) ?_
      refine cg_X0_46 F hB dX0_rounds_35 ?_
      refine cg_X0_278 F hB (by decide) dX0_rounds_38 ?_
      refine lv_iload_n hx hb dX0_rounds_41 rfl (lv_at hl 1 rfl) ?_
      obtain ⟨hin1, hw⟩ := hw
      refine cl_De F hB (by decide) hin1 dX0_rounds_42 ?_
      refine kX0_X0_round F hB hS hw ⟨Nat.le_of_ble_eq_true rfl, Nat.le_of_ble_eq_true rfl⟩ ⟨Nat.zero_le _, Nat.zero_le _⟩ hl.1 (Nat.le_of_ble_eq_true rfl) dX0_rounds_43 (fun r2 V3 H locs hw hB hS => ?_)
      refine lv_iadd hx hb dX0_rounds_46 ?_
      refine lv_istore_n (lv' := [(3, .int (l3 + r2)), (0, .ref (ad 0 0 0)), (1, .int l1), (2, .int l2), (4, .int l4)]) hx hb dX0_rounds_47 rfl hl (by decide) rfl (fun ls hl => ?_)
      refine lv_iinc (v := l4 + (1 : Int32)) (lv' := [(4, .int (l4 + (1 : Int32))), (3, .int (l3 + r2)), (0, .ref (ad 0 0 0)), (1, .int l1), (2, .int l2)]) hx hb dX0_rounds_48 hl (k := 4) rfl (x_inc (by decide)) (by decide) rfl (fun ls hl => ?_)
      refine lv_goto (tgt := 26) hx hb dX0_rounds_51 (by decide) ?_
      exact ih _ _ _ _ _ hw _ _ _ hB hS (lv_sub hl [2, 3, 4, 1, 0] rfl)
set_option maxHeartbeats 4000000 in
theorem bX0_rounds_0 {p : Program} {l : Launch} {e : Env} {s : State} {m : MethodId} {args : Array Value} {below : List Frame} {meth : Method} {c : Code} {D : DD} {A : Nat → Prop} {s0 : State} {ad : AD} {Q : Int32 → CV → Prop} {a1 : Int32} {a2 : Int32} {V : CV} {H : Heap} {locs : List Loc} {ls : Array Slot} (F : FX p l c cX0_rounds s args m RX0 D A s0 5 meth (some .int)) (hB : cB D A ad V H) (hS : va_S A s.heap H locs) (hw : wX0_rounds a1 a2 V Q) (hl : lv_has ls 5 [(0, .ref (ad 0 0 0)), (1, .int a1), (2, .int a2)]) : W p l e rX0_rounds s m args below meth c H locs 0 0 (MQ below (va_Qi Q (fun u t => cB D A ad u t.heap) A) args s 0 0 A) (F0 m 0 ls []) := by
  have hx := F.1.x
  have hb := F.1.b
  unfold wX0_rounds at hw
  refine lv_aload_n hx hb dX0_rounds_0 rfl (lv_at hl 0 rfl) ?_
  refine lv_iload_n hx hb dX0_rounds_1 rfl (lv_at hl 1 rfl) ?_
  refine kX0_X0_isDeed F hB hS hw ⟨Nat.le_of_ble_eq_true rfl, Nat.le_of_ble_eq_true rfl⟩ ⟨Nat.zero_le _, Nat.zero_le _⟩ hl.1 (Nat.le_of_ble_eq_true rfl) dX0_rounds_2 (fun r1 V2 H locs hw hB hS => ?_)
  refine lv_if_eq (tgt := 18) hx hb dX0_rounds_5 (by decide) (fun q => ?_) (fun q => ?_)
  · replace hw := hw.1 q
    refine lv_ldc hx hb F.1.o (F.1.t _ q392) dX0_rounds_18 ?_
    exact W.iret hx hb F.1.r (fun t ht hW => ⟨⟨_, _, rfl, hw, x_B (Bw := cB D A ad) ht hB⟩, hS.F ht⟩) hS.2.2 dX0_rounds_20 (hlocks := F.1.k)
  · replace hw := hw.2 q
    refine lv_iload_n hx hb dX0_rounds_8 rfl (lv_at hl 2 rfl) ?_
    refine lv_iconst (v := 1) hx hb dX0_rounds_9 (by decide) ?_
    refine lv_bipush (v := 40) hx hb dX0_rounds_10 (by decide) ?_
    refine kX0_X0_isIn F.1 hw ⟨Nat.le_of_ble_eq_true rfl, Nat.le_of_ble_eq_true rfl⟩ ⟨Nat.zero_le _, Nat.zero_le _⟩ hl.1 (Nat.le_of_ble_eq_true rfl) dX0_rounds_12 (fun r3 hw => ?_)
    refine lv_if_ne (tgt := 21) hx hb dX0_rounds_15 (by decide) (fun q => ?_) (fun q => ?_)
    · replace hw := hw.2 q
      refine lv_iconst (v := 0) hx hb dX0_rounds_21 (by decide) ?_
      refine lv_istore_n (lv' := [(3, .int (0 : Int32)), (0, .ref (ad 0 0 0)), (1, .int a1), (2, .int a2)]) hx hb dX0_rounds_22 rfl hl (by decide) rfl (fun ls hl => ?_)
      refine lv_iconst (v := 0) hx hb dX0_rounds_23 (by decide) ?_
      refine lv_istore (lv' := [(4, .int (0 : Int32)), (3, .int (0 : Int32)), (0, .ref (ad 0 0 0)), (1, .int a1), (2, .int a2)]) hx hb dX0_rounds_24 hl (by decide) rfl (fun ls hl => ?_)
      obtain ⟨f_26, hw⟩ := hw
      exact bX0_rounds_26 F f_26 _ _ _ _ _ hw _ _ _ hB hS (lv_sub hl [2, 3, 4, 1, 0] rfl)
    · replace hw := hw.1 q
      refine lv_ldc hx hb F.1.o (F.1.t _ q392) dX0_rounds_18 ?_
      exact W.iret hx hb F.1.r (fun t ht hW => ⟨⟨_, _, rfl, hw, x_B (Bw := cB D A ad) ht hB⟩, hS.F ht⟩) hS.2.2 dX0_rounds_20 (hlocks := F.1.k)
set_option maxHeartbeats 4000000 in
theorem mX0_rounds {l : Launch} {D : DD} {A : Nat → Prop} {s0 : State} {ad : AD} {V : CV} {a1 : Int32} {a2 : Int32} {Q : Int32 → CV → Prop} (hw : wX0_rounds a1 a2 V Q) : Met l yX0_rounds (ws_ yX0_rounds cX0_rounds 5 (some .int)) rX0_rounds (va_Pc [.ref (ad 0 0 0), .int a1, .int a2] (fun U => cB D A ad V U.heap ∧ CX l D A s0 U)) (va_Qi Q (fun u t => cB D A ad u t.heap) A) 0 0 A := by
  refine Met.ofW (cc := cX0_rounds) (maxL := 5) (ret := some .int) (by decide) rfl ?_
  intro p e s m args below meth c s₁ B hml hv
  obtain ⟨rfl, hB, hC⟩ := hv
  have F : FX p l c cX0_rounds s _ m RX0 D A s0 5 meth (some .int) := ⟨mk_FP B hml rfl, hC⟩
  have hS : va_S A s.heap s.heap [] := va_S.rf
  have hl := lv_entry ([.ref (ad 0 0 0), .int a1, .int a2]) (n := 5) (Nat.le_of_ble_eq_true rfl)
  rw [lg_entry_eq]
  generalize (lg_sl ([.ref (ad 0 0 0), .int a1, .int a2]) ++ List.replicate (5 - (lg_sl ([.ref (ad 0 0 0), .int a1, .int a2])).length) Slot.unset).toArray = ls at hl ⊢
  exact bX0_rounds_0 F hB hS hw hl
def rX0_say : Room := { frames := 3, cells := 0, slots := 0, locals := 84 }
set_option maxHeartbeats 4000000 in
theorem bX0_say_0 {p : Program} {l : Launch} {e : Env} {s : State} {m : MethodId} {args : Array Value} {below : List Frame} {meth : Method} {c : Code} {D : DD} {A : Nat → Prop} {s0 : State} {ad : AD} {Q : Int32 → CV → Prop} {a1 : Int32} {a2 : Int32} {a3 : Int32} {V : CV} {H : Heap} {locs : List Loc} {ls : Array Slot} (F : FX p l c cX0_say s args m RX0 D A s0 5 meth (some .int)) (hB : cB D A ad V H) (hS : va_S A s.heap H locs) (hw : wX0_say a1 a2 a3 V Q) (hl : lv_has ls 5 [(0, .ref (ad 0 0 0)), (1, .int a1), (2, .int a2), (3, .int a3)]) : W p l e rX0_say s m args below meth c H locs 0 0 (MQ below (va_Qi Q (fun u t => cB D A ad u t.heap) A) args s 0 0 A) (F0 m 0 ls []) := by
  have hx := F.1.x
  have hb := F.1.b
  unfold wX0_say at hw
  refine lv_aload_n hx hb dX0_say_0 rfl (lv_at hl 0 rfl) ?_
  refine lv_iload_n hx hb dX0_say_1 rfl (lv_at hl 1 rfl) ?_
  refine kX0_X0_isPerson F hB hS hw ⟨Nat.le_of_ble_eq_true rfl, Nat.le_of_ble_eq_true rfl⟩ ⟨Nat.zero_le _, Nat.zero_le _⟩ hl.1 (Nat.le_of_ble_eq_true rfl) dX0_say_2 (fun r1 V2 H locs hw hB hS => ?_)
  refine lv_if_eq (tgt := 24) hx hb dX0_say_5 (by decide) (fun q => ?_) (fun q => ?_)
  · replace hw := hw.1 q
    refine lv_ldc hx hb F.1.o (F.1.t _ q392) dX0_say_24 ?_
    exact W.iret hx hb F.1.r (fun t ht hW => ⟨⟨_, _, rfl, hw, x_B (Bw := cB D A ad) ht hB⟩, hS.F ht⟩) hS.2.2 dX0_say_26 (hlocks := F.1.k)
  · replace hw := hw.2 q
    refine lv_aload_n hx hb dX0_say_8 rfl (lv_at hl 0 rfl) ?_
    refine lv_iload_n hx hb dX0_say_9 rfl (lv_at hl 2 rfl) ?_
    refine kX0_X0_isDeed F hB hS hw ⟨Nat.le_of_ble_eq_true rfl, Nat.le_of_ble_eq_true rfl⟩ ⟨Nat.zero_le _, Nat.zero_le _⟩ hl.1 (Nat.le_of_ble_eq_true rfl) dX0_say_10 (fun r3 V4 H locs hw hB hS => ?_)
    refine lv_if_eq (tgt := 24) hx hb dX0_say_13 (by decide) (fun q => ?_) (fun q => ?_)
    · replace hw := hw.1 q
      refine lv_ldc hx hb F.1.o (F.1.t _ q392) dX0_say_24 ?_
      exact W.iret hx hb F.1.r (fun t ht hW => ⟨⟨_, _, rfl, hw, x_B (Bw := cB D A ad) ht hB⟩, hS.F ht⟩) hS.2.2 dX0_say_26 (hlocks := F.1.k)
    · replace hw := hw.2 q
      refine lv_aload_n hx hb dX0_say_16 rfl (lv_at hl 0 rfl) ?_
      refine lv_iload_n hx hb dX0_say_17 rfl (lv_at hl 3 rfl) ?_
      refine kX0_X0_isPerson F hB hS hw ⟨Nat.le_of_ble_eq_true rfl, Nat.le_of_ble_eq_true rfl⟩ ⟨Nat.zero_le _, Nat.zero_le _⟩ hl.1 (Nat.le_of_ble_eq_true rfl) dX0_say_18 (fun r5 V6 H locs hw hB hS => ?_)
      refine lv_if_ne (tgt := 27) hx hb dX0_say_21 (by decide) (fun q => ?_) (fun q => ?_)
      · replace hw := hw.2 q
        refine lv_aload_n hx hb dX0_say_27 rfl (lv_at hl 0 rfl) ?_
        refine kX0_X0_findFollowers F hB hS hw ⟨Nat.le_of_ble_eq_true rfl, Nat.le_of_ble_eq_true rfl⟩ ⟨Nat.zero_le _, Nat.zero_le _⟩ hl.1 (Nat.le_of_ble_eq_true rfl) dX0_say_28 (fun V8 H locs hw hB hS => ?_)
        refine lv_aload_n hx hb dX0_say_31 rfl (lv_at hl 0 rfl) ?_
        refine cg_X0_46 F hB dX0_say_32 ?_
        refine cg_X0_278 F hB (by decide) dX0_say_35 ?_
        refine lv_iload_n hx hb dX0_say_38 rfl (lv_at hl 2 rfl) ?_
        obtain ⟨hin9, hw⟩ := hw
        refine cl_De F hB (by decide) hin9 dX0_say_39 ?_
        refine lv_astore (lv' := [(4, .ref (ad 4 0 a2.toNatClampNeg)), (0, .ref (ad 0 0 0)), (1, .int a1), (2, .int a2), (3, .int a3)]) hx hb dX0_say_40 hl (by decide) rfl (fun ls hl => ?_)
        refine lv_aload_n hx hb dX0_say_42 rfl (lv_at hl 1 rfl) ?_
        refine lv_iload_n hx hb dX0_say_43 rfl (lv_at hl 2 rfl) ?_
        refine lv_aload hx hb dX0_say_44 (lv_at hl 0 rfl) ?_
        refine lv_iload_n hx hb dX0_say_46 rfl (lv_at hl 4 rfl) ?_
        refine kX0_X0_mayBe F hB hS hw ⟨Nat.le_of_ble_eq_true rfl, Nat.le_of_ble_eq_true rfl⟩ ⟨Nat.zero_le _, Nat.zero_le _⟩ hl.1 (Nat.le_of_ble_eq_true rfl) dX0_say_47 (fun r10 V11 H locs hw hB hS => ?_)
        refine lv_if_ne (tgt := 57) hx hb dX0_say_50 (by decide) (fun q => ?_) (fun q => ?_)
        · replace hw := hw.2 q
          refine lv_aload_n hx hb dX0_say_57 rfl (lv_at hl 1 rfl) ?_
          refine lv_aload hx hb dX0_say_58 (lv_at hl 0 rfl) ?_
          refine lv_iload_n hx hb dX0_say_60 rfl (lv_at hl 4 rfl) ?_
          refine kX0_X0_saysOf F hB hS hw ⟨Nat.le_of_ble_eq_true rfl, Nat.le_of_ble_eq_true rfl⟩ ⟨Nat.zero_le _, Nat.zero_le _⟩ hl.1 (Nat.le_of_ble_eq_true rfl) dX0_say_61 (fun V13 H locs hw hB hS => ?_)
          refine lv_aload hx hb dX0_say_64 (lv_at hl 0 rfl) ?_
          refine kX0_X2_leftMany F hB hS hw ⟨Nat.le_of_ble_eq_true rfl, Nat.le_of_ble_eq_true rfl⟩ ⟨Nat.zero_le _, Nat.zero_le _⟩ hl.1 (Nat.le_of_ble_eq_true rfl) dX0_say_66 (fun r14 V15 H locs hw hB hS => ?_)
          exact W.iret hx hb F.1.r (fun t ht hW => ⟨⟨_, _, rfl, hw, x_B (Bw := cB D A ad) ht hB⟩, hS.F ht⟩) hS.2.2 dX0_say_69 (hlocks := F.1.k)
        · replace hw := hw.1 q
          refine lv_ldcw hx hb F.1.o (F.1.t _ q860) dX0_say_53 ?_
          exact W.iret hx hb F.1.r (fun t ht hW => ⟨⟨_, _, rfl, hw, x_B (Bw := cB D A ad) ht hB⟩, hS.F ht⟩) hS.2.2 dX0_say_56 (hlocks := F.1.k)
      · replace hw := hw.1 q
        refine lv_ldc hx hb F.1.o (F.1.t _ q392) dX0_say_24 ?_
        exact W.iret hx hb F.1.r (fun t ht hW => ⟨⟨_, _, rfl, hw, x_B (Bw := cB D A ad) ht hB⟩, hS.F ht⟩) hS.2.2 dX0_say_26 (hlocks := F.1.k)
set_option maxHeartbeats 4000000 in
theorem mX0_say {l : Launch} {D : DD} {A : Nat → Prop} {s0 : State} {ad : AD} {V : CV} {a1 : Int32} {a2 : Int32} {a3 : Int32} {Q : Int32 → CV → Prop} (hw : wX0_say a1 a2 a3 V Q) : Met l yX0_say (ws_ yX0_say cX0_say 5 (some .int)) rX0_say (va_Pc [.ref (ad 0 0 0), .int a1, .int a2, .int a3] (fun U => cB D A ad V U.heap ∧ CX l D A s0 U)) (va_Qi Q (fun u t => cB D A ad u t.heap) A) 0 0 A := by
  refine Met.ofW (cc := cX0_say) (maxL := 5) (ret := some .int) (by decide) rfl ?_
  intro p e s m args below meth c s₁ B hml hv
  obtain ⟨rfl, hB, hC⟩ := hv
  have F : FX p l c cX0_say s _ m RX0 D A s0 5 meth (some .int) := ⟨mk_FP B hml rfl, hC⟩
  have hS : va_S A s.heap s.heap [] := va_S.rf
  have hl := lv_entry ([.ref (ad 0 0 0), .int a1, .int a2, .int a3]) (n := 5) (Nat.le_of_ble_eq_true rfl)
  rw [lg_entry_eq]
  generalize (lg_sl ([.ref (ad 0 0 0), .int a1, .int a2, .int a3]) ++ List.replicate (5 - (lg_sl ([.ref (ad 0 0 0), .int a1, .int a2, .int a3])).length) Slot.unset).toArray = ls at hl ⊢
  exact bX0_say_0 F hB hS hw hl
def rX0_seed : Room := { frames := 0, cells := 0, slots := 0, locals := 0 }
set_option maxHeartbeats 4000000 in
theorem bX0_seed_0 {p : Program} {l : Launch} {e : Env} {s : State} {m : MethodId} {args : Array Value} {below : List Frame} {meth : Method} {c : Code} {D : DD} {A : Nat → Prop} {s0 : State} {ad : AD} {Q : Int32 → CV → Prop} {a1 : Int32} {V : CV} {H : Heap} {locs : List Loc} {ls : Array Slot} (F : FX p l c cX0_seed s args m RX0 D A s0 3 meth (some .int)) (hB : cB D A ad V H) (hS : va_S A s.heap H locs) (hw : wX0_seed a1 V Q) (hl : lv_has ls 3 [(0, .ref (ad 0 0 0)), (1, .int a1)]) : W p l e rX0_seed s m args below meth c H locs 0 0 (MQ below (va_Qi Q (fun u t => cB D A ad u t.heap) A) args s 0 0 A) (F0 m 0 ls []) := by
  have hx := F.1.x
  have hb := F.1.b
  unfold wX0_seed at hw
  refine lv_aload_n hx hb dX0_seed_0 rfl (lv_at hl 0 rfl) ?_
  refine cg_X0_46 F hB dX0_seed_1 ?_
  refine cg_X0_329 F hB (by decide) dX0_seed_4 ?_
  refine lv_istore_n (lv' := [(2, .int (vS V 0 0)), (0, .ref (ad 0 0 0)), (1, .int a1)]) hx hb dX0_seed_7 rfl hl (by decide) rfl (fun ls hl => ?_)
  refine lv_aload_n hx hb dX0_seed_8 rfl (lv_at hl 1 rfl) ?_
  refine cg_X0_46 F hB dX0_seed_9 ?_
  refine lv_iload_n hx hb dX0_seed_12 rfl (lv_at hl 2 rfl) ?_
  refine cp_X0_329 F hB hS (by decide) dX0_seed_13 (fun H locs hB hS => ?_)
  refine lv_iload_n hx hb dX0_seed_16 rfl (lv_at hl 0 rfl) ?_
  exact W.iret hx hb F.1.r (fun t ht hW => ⟨⟨_, _, rfl, hw, x_B (Bw := cB D A ad) ht hB⟩, hS.F ht⟩) hS.2.2 dX0_seed_17 (hlocks := F.1.k)
set_option maxHeartbeats 4000000 in
theorem mX0_seed {l : Launch} {D : DD} {A : Nat → Prop} {s0 : State} {ad : AD} {V : CV} {a1 : Int32} {Q : Int32 → CV → Prop} (hw : wX0_seed a1 V Q) : Met l yX0_seed (ws_ yX0_seed cX0_seed 3 (some .int)) rX0_seed (va_Pc [.ref (ad 0 0 0), .int a1] (fun U => cB D A ad V U.heap ∧ CX l D A s0 U)) (va_Qi Q (fun u t => cB D A ad u t.heap) A) 0 0 A := by
  refine Met.ofW (cc := cX0_seed) (maxL := 3) (ret := some .int) (by decide) rfl ?_
  intro p e s m args below meth c s₁ B hml hv
  obtain ⟨rfl, hB, hC⟩ := hv
  have F : FX p l c cX0_seed s _ m RX0 D A s0 3 meth (some .int) := ⟨mk_FP B hml rfl, hC⟩
  have hS : va_S A s.heap s.heap [] := va_S.rf
  have hl := lv_entry ([.ref (ad 0 0 0), .int a1]) (n := 3) (Nat.le_of_ble_eq_true rfl)
  rw [lg_entry_eq]
  generalize (lg_sl ([.ref (ad 0 0 0), .int a1]) ++ List.replicate (3 - (lg_sl ([.ref (ad 0 0 0), .int a1])).length) Slot.unset).toArray = ls at hl ⊢
  exact bX0_seed_0 F hB hS hw hl
def rX0_sheet : Room := { frames := 8, cells := 3, slots := 54, locals := 10321 }
set_option maxHeartbeats 4000000 in
theorem bX0_sheet_61 {p : Program} {l : Launch} {e : Env} {s : State} {m : MethodId} {args : Array Value} {below : List Frame} {meth : Method} {c : Code} {D : DD} {A : Nat → Prop} {s0 : State} {ad : AD} {Q : Int32 → CV → Prop} {l3 : Int32} {k0 : Int32} {k1 : Option Nat} {V : CV} {H : Heap} {locs : List Loc} {ls : Array Slot} (F : FX p l c cX0_sheet s args m RX0 D A s0 5 meth (some .int)) (hnm : s.methodNamed? yX0_sheet = some m) (hB : cB D A ad V H) (hS : va_S A s.heap H locs) (hw : wX0_sheet_61 l3 k0 k1 V Q) (hl : lv_has ls 5 [(3, .int l3)]) : W p l e rX0_sheet s m args below meth c H locs 0 0 (XMQ below (va_Qi Q (fun u t => cB D A ad u t.heap) A) args s 3 54 A) (F0 m 61 ls [.int k0, va_rf k1]) := by
  have hx := F.1.x
  have hb := F.1.b
  unfold wX0_sheet_61 at hw
  refine lv_iload_n hx hb dX0_sheet_61 rfl (lv_at hl 0 rfl) ?_
  refine kX0_X0_rowOf F hB hS hw ⟨Nat.le_of_ble_eq_true rfl, Nat.le_of_ble_eq_true rfl⟩ ⟨by show _ ≤ 3; omega, by show _ ≤ 54; omega⟩ hl.1 (x_rest 0 (by simp)) dX0_sheet_62 (fun r1 V2 H locs hw hB hS => ?_) (fun x V2 H locs hw hK hB hS => ?_)
  · skip
    obtain ⟨y3, e4, hw⟩ := hw
    refine W.eq (g2 := F0 m 65 ls [.ref r1, .ref y3]) (congrArg (fun z => F0 m 65 ls [.ref r1, va_rf z]) e4) ?_
    obtain ⟨f5, hm6, hw⟩ := hw
    refine cp_X0_440 (v := some r1) F hB hS hm6 dX0_sheet_65 (fun H locs hB hS => ?_)
    refine lv_iload_n hx hb dX0_sheet_68 rfl (lv_at hl 0 rfl) ?_
    refine W.retX ?_
    exact W.iret hx hb F.1.r (fun t ht hW => ⟨⟨_, _, rfl, hw, x_B (Bw := cB D A ad) ht hB⟩, hS.F ht⟩) hS.2.2 dX0_sheet_69 (hlocks := F.1.k)
  · skip
    refine wt_catch (C := "java/lang/NegativeArraySizeException") F.1 hnm (hs := [(45, 69, 70, 448)]) (pre := []) (rst := []) (s1 := 45) (s2 := 69) (hpc := 70) (ct := 448) q988 rfl (by decide) (by decide) (by decide) q989 hK ?_
    refine lv_astore (lv' := [(4, .ref x), (3, .int l3)]) hx hb dX0_sheet_70 hl (by decide) rfl (fun ls hl => ?_)
    refine lv_ldcw hx hb F.1.o (F.1.t _ q1009) dX0_sheet_72 ?_
    refine W.retX ?_
    exact W.iret hx hb F.1.r (fun t ht hW => ⟨⟨_, _, rfl, hw, x_B (Bw := cB D A ad) ht hB⟩, hS.F ht⟩) hS.2.2 dX0_sheet_75 (hlocks := F.1.k)
set_option maxHeartbeats 4000000 in
theorem bX0_sheet_29 {p : Program} {l : Launch} {e : Env} {s : State} {m : MethodId} {args : Array Value} {below : List Frame} {meth : Method} {c : Code} {D : DD} {A : Nat → Prop} {s0 : State} {ad : AD} {Q : Int32 → CV → Prop} {l1 : Int32} {l2 : Int32} {l3 : Int32} {V : CV} {H : Heap} {locs : List Loc} {ls : Array Slot} (F : FX p l c cX0_sheet s args m RX0 D A s0 5 meth (some .int)) (hnm : s.methodNamed? yX0_sheet = some m) (hB : cB D A ad V H) (hS : va_S A s.heap H locs) (hw : wX0_sheet_29 l1 l2 l3 V Q) (hl : lv_has ls 5 [(0, .ref (ad 0 0 0)), (1, .int l1), (2, .int l2), (3, .int l3)]) : W p l e rX0_sheet s m args below meth c H locs 0 0 (XMQ below (va_Qi Q (fun u t => cB D A ad u t.heap) A) args s 3 54 A) (F0 m 29 ls []) := by
  have hx := F.1.x
  have hb := F.1.b
  unfold wX0_sheet_29 at hw
  refine lv_iload_n hx hb dX0_sheet_29 rfl (lv_at hl 2 rfl) ?_
  refine lv_if_ge (tgt := 45) hx hb dX0_sheet_30 (by decide) (fun q => ?_) (fun q => ?_)
  · replace hw := hw.1 q
    refine lv_aload_n hx hb dX0_sheet_45 rfl (lv_at hl 0 rfl) ?_
    refine cg_X0_80 F hB dX0_sheet_46 ?_
    refine lv_iload_n hx hb dX0_sheet_49 rfl (lv_at hl 1 rfl) ?_
    obtain ⟨hin1, hw⟩ := hw
    refine cl_Sh F hB hin1 dX0_sheet_50 ?_
    refine lv_iload_n hx hb dX0_sheet_51 rfl (lv_at hl 2 rfl) ?_
    refine lv_iconst (v := 1) hx hb dX0_sheet_52 (by decide) ?_
    refine lv_icmp_ne (tgt := 60) hx hb dX0_sheet_53 (by decide) (fun q => ?_) (fun q => ?_)
    · replace hw := hw.2 q
      refine lv_iconst (v := 0) hx hb dX0_sheet_60 (by decide) ?_
      exact bX0_sheet_61 F hnm hB hS hw (lv_sub hl [3] rfl)
    · replace hw := hw.1 q
      refine lv_iconst (v := 1) hx hb dX0_sheet_56 (by decide) ?_
      refine lv_goto (tgt := 61) hx hb dX0_sheet_57 (by decide) ?_
      exact bX0_sheet_61 F hnm hB hS hw (lv_sub hl [3] rfl)
  · replace hw := hw.2 q
    refine lv_aload_n hx hb dX0_sheet_33 rfl (lv_at hl 0 rfl) ?_
    refine cg_X0_80 F hB dX0_sheet_34 ?_
    refine lv_iload_n hx hb dX0_sheet_37 rfl (lv_at hl 1 rfl) ?_
    obtain ⟨hin2, hw⟩ := hw
    refine cl_Sh F hB hin2 dX0_sheet_38 ?_
    refine lv_null hx hb dX0_sheet_39 ?_
    obtain ⟨y3, e4, hw⟩ := hw
    refine W.eq (g2 := F0 m 40 ls [.null, .ref y3]) (congrArg (fun z => F0 m 40 ls [.null, va_rf z]) e4) ?_
    obtain ⟨f5, hm6, hw⟩ := hw
    refine cp_X0_440 (v := none) F hB hS hm6 dX0_sheet_40 (fun H locs hB hS => ?_)
    refine lv_iconst (v := 0) hx hb dX0_sheet_43 (by decide) ?_
    refine W.widen (k := 3) (n := 54) (by omega) (by omega) ?_
    refine W.retX ?_
    exact W.iret hx hb F.1.r (fun t ht hW => ⟨⟨_, _, rfl, hw, x_B (Bw := cB D A ad) ht hB⟩, hS.F ht⟩) hS.2.2 dX0_sheet_44 (hlocks := F.1.k)
set_option maxHeartbeats 4000000 in
theorem bX0_sheet_0 {p : Program} {l : Launch} {e : Env} {s : State} {m : MethodId} {args : Array Value} {below : List Frame} {meth : Method} {c : Code} {D : DD} {A : Nat → Prop} {s0 : State} {ad : AD} {Q : Int32 → CV → Prop} {a1 : Int32} {a2 : Int32} {a3 : Int32} {V : CV} {H : Heap} {locs : List Loc} {ls : Array Slot} (F : FX p l c cX0_sheet s args m RX0 D A s0 5 meth (some .int)) (hnm : s.methodNamed? yX0_sheet = some m) (hB : cB D A ad V H) (hS : va_S A s.heap H locs) (hw : wX0_sheet a1 a2 a3 V Q) (hl : lv_has ls 5 [(0, .ref (ad 0 0 0)), (1, .int a1), (2, .int a2), (3, .int a3)]) : W p l e rX0_sheet s m args below meth c H locs 0 0 (XMQ below (va_Qi Q (fun u t => cB D A ad u t.heap) A) args s 3 54 A) (F0 m 0 ls []) := by
  have hx := F.1.x
  have hb := F.1.b
  unfold wX0_sheet at hw
  refine lv_iload_n hx hb dX0_sheet_0 rfl (lv_at hl 1 rfl) ?_
  refine kX0_X0_isSheet F.1 hw ⟨Nat.le_of_ble_eq_true rfl, Nat.le_of_ble_eq_true rfl⟩ ⟨by show _ ≤ 3; omega, by show _ ≤ 54; omega⟩ hl.1 (Nat.le_of_ble_eq_true rfl) dX0_sheet_1 (fun r1 hw => ?_)
  refine lv_if_eq (tgt := 26) hx hb dX0_sheet_4 (by decide) (fun q => ?_) (fun q => ?_)
  · replace hw := hw.1 q
    refine lv_ldc hx hb F.1.o (F.1.t _ q392) dX0_sheet_26 ?_
    refine W.widen (k := 3) (n := 54) (by omega) (by omega) ?_
    refine W.retX ?_
    exact W.iret hx hb F.1.r (fun t ht hW => ⟨⟨_, _, rfl, hw, x_B (Bw := cB D A ad) ht hB⟩, hS.F ht⟩) hS.2.2 dX0_sheet_28 (hlocks := F.1.k)
  · replace hw := hw.2 q
    refine lv_iload_n hx hb dX0_sheet_7 rfl (lv_at hl 2 rfl) ?_
    refine lv_iconst (v := -1) hx hb dX0_sheet_8 (by decide) ?_
    refine lv_iconst (v := 1) hx hb dX0_sheet_9 (by decide) ?_
    refine kX0_X0_isIn F.1 hw ⟨Nat.le_of_ble_eq_true rfl, Nat.le_of_ble_eq_true rfl⟩ ⟨by show _ ≤ 3; omega, by show _ ≤ 54; omega⟩ hl.1 (Nat.le_of_ble_eq_true rfl) dX0_sheet_10 (fun r2 hw => ?_)
    refine lv_if_eq (tgt := 26) hx hb dX0_sheet_13 (by decide) (fun q => ?_) (fun q => ?_)
    · replace hw := hw.1 q
      refine lv_ldc hx hb F.1.o (F.1.t _ q392) dX0_sheet_26 ?_
      refine W.widen (k := 3) (n := 54) (by omega) (by omega) ?_
      refine W.retX ?_
      exact W.iret hx hb F.1.r (fun t ht hW => ⟨⟨_, _, rfl, hw, x_B (Bw := cB D A ad) ht hB⟩, hS.F ht⟩) hS.2.2 dX0_sheet_28 (hlocks := F.1.k)
    · replace hw := hw.2 q
      refine lv_iload_n hx hb dX0_sheet_16 rfl (lv_at hl 2 rfl) ?_
      refine lv_if_lt (tgt := 29) hx hb dX0_sheet_17 (by decide) (fun q => ?_) (fun q => ?_)
      · replace hw := hw.1 q
        exact bX0_sheet_29 F hnm hB hS hw hl
      · replace hw := hw.2 q
        refine lv_iload_n hx hb dX0_sheet_20 rfl (lv_at hl 3 rfl) ?_
        refine lv_bipush (v := 24) hx hb dX0_sheet_21 (by decide) ?_
        refine lv_icmp_le (tgt := 29) hx hb dX0_sheet_23 (by decide) (fun q => ?_) (fun q => ?_)
        · replace hw := hw.1 q
          exact bX0_sheet_29 F hnm hB hS hw hl
        · replace hw := hw.2 q
          refine lv_ldc hx hb F.1.o (F.1.t _ q392) dX0_sheet_26 ?_
          refine W.widen (k := 3) (n := 54) (by omega) (by omega) ?_
          refine W.retX ?_
          exact W.iret hx hb F.1.r (fun t ht hW => ⟨⟨_, _, rfl, hw, x_B (Bw := cB D A ad) ht hB⟩, hS.F ht⟩) hS.2.2 dX0_sheet_28 (hlocks := F.1.k)
set_option maxHeartbeats 4000000 in
theorem mX0_sheet {l : Launch} {D : DD} {A : Nat → Prop} {s0 : State} {ad : AD} {V : CV} {a1 : Int32} {a2 : Int32} {a3 : Int32} {Q : Int32 → CV → Prop} (hw : wX0_sheet a1 a2 a3 V Q) : MetY l yX0_sheet (wsW_ yX0_sheet cX0_sheet 5 (some .int) [(45, 69, 70, 448)]) rX0_sheet (va_Pc [.ref (ad 0 0 0), .int a1, .int a2, .int a3] (fun U => cB D A ad V U.heap ∧ CX l D A s0 U)) (va_Qi Q (fun u t => cB D A ad u t.heap) A) 3 54 A := by
  refine MetY.ofWW (cc := cX0_sheet) (maxL := 5) (ret := some .int) (by decide) ?_
  intro p e s m args below meth c F1 hnm _ hv
  obtain ⟨rfl, hB, hC⟩ := hv
  have F : FX p l c cX0_sheet s _ m RX0 D A s0 5 meth (some .int) := ⟨F1, hC⟩
  have hS : va_S A s.heap s.heap [] := va_S.rf
  have hl := lv_entry ([.ref (ad 0 0 0), .int a1, .int a2, .int a3]) (n := 5) (Nat.le_of_ble_eq_true rfl)
  rw [lg_entry_eq]
  generalize (lg_sl ([.ref (ad 0 0 0), .int a1, .int a2, .int a3]) ++ List.replicate (5 - (lg_sl ([.ref (ad 0 0 0), .int a1, .int a2, .int a3])).length) Slot.unset).toArray = ls at hl ⊢
  exact bX0_sheet_0 F hnm hB hS hw hl
def rX0_silent : Room := { frames := 1, cells := 0, slots := 0, locals := 20 }
set_option maxHeartbeats 4000000 in
theorem bX0_silent_10 {p : Program} {l : Launch} {e : Env} {s : State} {m : MethodId} {args : Array Value} {below : List Frame} {meth : Method} {c : Code} {D : DD} {A : Nat → Prop} {s0 : State} {ad : AD} {Q : Int32 → CV → Prop} (F : FX p l c cX0_silent s args m RX0 D A s0 3 meth (some .int)) : ∀ (n : Nat) (l1 : Int32) (l2 : Int32) (V : CV), wX0_silent_10 Q n l1 l2 V → ∀ (H : Heap) (locs : List Loc) (ls : Array Slot), cB D A ad V H → va_S A s.heap H locs → lv_has ls 3 [(0, .ref (ad 0 0 0)), (1, .int l1), (2, .int l2)] → W p l e rX0_silent s m args below meth c H locs 0 0 (MQ below (va_Qi Q (fun u t => cB D A ad u t.heap) A) args s 0 0 A) (F0 m 10 ls []) := by
  have hx := F.1.x
  have hb := F.1.b
  intro n
  induction n with
  | zero => intro l1 l2 V hw; exact hw.elim
  | succ n ih =>
    intro l1 l2 V hw H locs ls hB hS hl
    unfold wX0_silent_10 at hw
    refine lv_iload_n hx hb dX0_silent_10 rfl (lv_at hl 2 rfl) ?_
    refine lv_aload_n hx hb dX0_silent_11 rfl (lv_at hl 0 rfl) ?_
    refine cg_X0_46 F hB dX0_silent_12 ?_
    refine cg_X0_109 F hB (by decide) dX0_silent_15 ?_
    refine lv_icmp_ge (tgt := 42) hx hb dX0_silent_18 (by decide) (fun q => ?_) (fun q => ?_)
    · replace hw := hw.1 q
      refine lv_iload_n hx hb dX0_silent_42 rfl (lv_at hl 1 rfl) ?_
      exact W.iret hx hb F.1.r (fun t ht hW => ⟨⟨_, _, rfl, hw, x_B (Bw := cB D A ad) ht hB⟩, hS.F ht⟩) hS.2.2 dX0_silent_43 (hlocks := F.1.k)
    · replace hw := hw.2 q
      refine lv_iload_n hx hb dX0_silent_21 rfl (lv_at hl 1 rfl) ?_
      refine lv_aload_n hx hb dX0_silent_22 rfl (lv_at hl 0 rfl) ?_
      refine cg_X0_46 F hB dX0_silent_23 ?_
      refine cg_X0_278 F hB (by decide) dX0_silent_26 ?_
      refine lv_iload_n hx hb dX0_silent_29 rfl (lv_at hl 2 rfl) ?_
      obtain ⟨hin1, hw⟩ := hw
      refine cl_De F hB (by decide) hin1 dX0_silent_30 ?_
      refine cg_X0_282 F hB (by decide) (x_lt hin1) dX0_silent_31 ?_
      refine lv_iand hx hb dX0_silent_34 ?_
      refine lv_istore_n (lv' := [(1, .int (l1 &&& (vD V 0 l2.toNatClampNeg 3))), (0, .ref (ad 0 0 0)), (2, .int l2)]) hx hb dX0_silent_35 rfl hl (by decide) rfl (fun ls hl => ?_)
      refine lv_iinc (v := l2 + (1 : Int32)) (lv' := [(2, .int (l2 + (1 : Int32))), (1, .int (l1 &&& (vD V 0 l2.toNatClampNeg 3))), (0, .ref (ad 0 0 0))]) hx hb dX0_silent_36 hl (k := 2) rfl (x_inc (by decide)) (by decide) rfl (fun ls hl => ?_)
      refine lv_goto (tgt := 10) hx hb dX0_silent_39 (by decide) ?_
      exact ih _ _ _ hw _ _ _ hB hS (lv_sub hl [2, 1, 0] rfl)
set_option maxHeartbeats 4000000 in
theorem bX0_silent_0 {p : Program} {l : Launch} {e : Env} {s : State} {m : MethodId} {args : Array Value} {below : List Frame} {meth : Method} {c : Code} {D : DD} {A : Nat → Prop} {s0 : State} {ad : AD} {Q : Int32 → CV → Prop} {V : CV} {H : Heap} {locs : List Loc} {ls : Array Slot} (F : FX p l c cX0_silent s args m RX0 D A s0 3 meth (some .int)) (hB : cB D A ad V H) (hS : va_S A s.heap H locs) (hw : wX0_silent V Q) (hl : lv_has ls 3 [(0, .ref (ad 0 0 0))]) : W p l e rX0_silent s m args below meth c H locs 0 0 (MQ below (va_Qi Q (fun u t => cB D A ad u t.heap) A) args s 0 0 A) (F0 m 0 ls []) := by
  have hx := F.1.x
  have hb := F.1.b
  unfold wX0_silent at hw
  refine lv_aload_n hx hb dX0_silent_0 rfl (lv_at hl 0 rfl) ?_
  refine cg_X0_46 F hB dX0_silent_1 ?_
  refine kX0_X1_all F hB hS hw ⟨Nat.le_of_ble_eq_true rfl, Nat.le_of_ble_eq_true rfl⟩ ⟨Nat.zero_le _, Nat.zero_le _⟩ hl.1 (Nat.le_of_ble_eq_true rfl) dX0_silent_4 (fun r1 V2 H locs hw hB hS => ?_)
  refine lv_istore_n (lv' := [(1, .int r1), (0, .ref (ad 0 0 0))]) hx hb dX0_silent_7 rfl hl (by decide) rfl (fun ls hl => ?_)
  refine lv_iconst (v := 0) hx hb dX0_silent_8 (by decide) ?_
  refine lv_istore_n (lv' := [(2, .int (0 : Int32)), (1, .int r1), (0, .ref (ad 0 0 0))]) hx hb dX0_silent_9 rfl hl (by decide) rfl (fun ls hl => ?_)
  obtain ⟨f_10, hw⟩ := hw
  exact bX0_silent_10 F f_10 _ _ _ hw _ _ _ hB hS (lv_sub hl [2, 1, 0] rfl)
set_option maxHeartbeats 4000000 in
theorem mX0_silent {l : Launch} {D : DD} {A : Nat → Prop} {s0 : State} {ad : AD} {V : CV}  {Q : Int32 → CV → Prop} (hw : wX0_silent V Q) : Met l yX0_silent (ws_ yX0_silent cX0_silent 3 (some .int)) rX0_silent (va_Pc [.ref (ad 0 0 0)] (fun U => cB D A ad V U.heap ∧ CX l D A s0 U)) (va_Qi Q (fun u t => cB D A ad u t.heap) A) 0 0 A := by
  refine Met.ofW (cc := cX0_silent) (maxL := 3) (ret := some .int) (by decide) rfl ?_
  intro p e s m args below meth c s₁ B hml hv
  obtain ⟨rfl, hB, hC⟩ := hv
  have F : FX p l c cX0_silent s _ m RX0 D A s0 3 meth (some .int) := ⟨mk_FP B hml rfl, hC⟩
  have hS : va_S A s.heap s.heap [] := va_S.rf
  have hl := lv_entry ([.ref (ad 0 0 0)]) (n := 3) (Nat.le_of_ble_eq_true rfl)
  rw [lg_entry_eq]
  generalize (lg_sl ([.ref (ad 0 0 0)]) ++ List.replicate (3 - (lg_sl ([.ref (ad 0 0 0)])).length) Slot.unset).toArray = ls at hl ⊢
  exact bX0_silent_0 F hB hS hw hl
def rX0_stop : Room := { frames := 1, cells := 0, slots := 0, locals := 22 }
set_option maxHeartbeats 4000000 in
theorem bX0_stop_0 {p : Program} {l : Launch} {e : Env} {s : State} {m : MethodId} {args : Array Value} {below : List Frame} {meth : Method} {c : Code} {D : DD} {A : Nat → Prop} {s0 : State} {ad : AD} {Q : Int32 → CV → Prop} {a1 : Int32} {V : CV} {H : Heap} {locs : List Loc} {ls : Array Slot} (F : FX p l c cX0_stop s args m RX0 D A s0 3 meth (some .int)) (hB : cB D A ad V H) (hS : va_S A s.heap H locs) (hw : wX0_stop a1 V Q) (hl : lv_has ls 3 [(0, .ref (ad 0 0 0)), (1, .int a1)]) : W p l e rX0_stop s m args below meth c H locs 0 0 (MQ below (va_Qi Q (fun u t => cB D A ad u t.heap) A) args s 0 0 A) (F0 m 0 ls []) := by
  have hx := F.1.x
  have hb := F.1.b
  unfold wX0_stop at hw
  refine lv_iload_n hx hb dX0_stop_0 rfl (lv_at hl 1 rfl) ?_
  refine lv_iconst (v := 0) hx hb dX0_stop_1 (by decide) ?_
  refine lv_iconst (v := 4) hx hb dX0_stop_2 (by decide) ?_
  refine kX0_X0_isIn F.1 hw ⟨Nat.le_of_ble_eq_true rfl, Nat.le_of_ble_eq_true rfl⟩ ⟨Nat.zero_le _, Nat.zero_le _⟩ hl.1 (Nat.le_of_ble_eq_true rfl) dX0_stop_3 (fun r1 hw => ?_)
  refine lv_if_ne (tgt := 12) hx hb dX0_stop_6 (by decide) (fun q => ?_) (fun q => ?_)
  · replace hw := hw.2 q
    refine lv_aload_n hx hb dX0_stop_12 rfl (lv_at hl 0 rfl) ?_
    refine cg_X0_46 F hB dX0_stop_13 ?_
    refine cg_X0_384 F hB (by decide) dX0_stop_16 ?_
    refine lv_istore_n (lv' := [(2, .int (vS V 0 1)), (0, .ref (ad 0 0 0)), (1, .int a1)]) hx hb dX0_stop_19 rfl hl (by decide) rfl (fun ls hl => ?_)
    refine lv_aload_n hx hb dX0_stop_20 rfl (lv_at hl 1 rfl) ?_
    refine cg_X0_46 F hB dX0_stop_21 ?_
    refine lv_iload_n hx hb dX0_stop_24 rfl (lv_at hl 2 rfl) ?_
    refine cp_X0_384 F hB hS (by decide) dX0_stop_25 (fun H locs hB hS => ?_)
    refine lv_iload_n hx hb dX0_stop_28 rfl (lv_at hl 0 rfl) ?_
    exact W.iret hx hb F.1.r (fun t ht hW => ⟨⟨_, _, rfl, hw, x_B (Bw := cB D A ad) ht hB⟩, hS.F ht⟩) hS.2.2 dX0_stop_29 (hlocks := F.1.k)
  · replace hw := hw.1 q
    refine lv_ldc hx hb F.1.o (F.1.t _ q392) dX0_stop_9 ?_
    exact W.iret hx hb F.1.r (fun t ht hW => ⟨⟨_, _, rfl, hw, x_B (Bw := cB D A ad) ht hB⟩, hS.F ht⟩) hS.2.2 dX0_stop_11 (hlocks := F.1.k)
set_option maxHeartbeats 4000000 in
theorem mX0_stop {l : Launch} {D : DD} {A : Nat → Prop} {s0 : State} {ad : AD} {V : CV} {a1 : Int32} {Q : Int32 → CV → Prop} (hw : wX0_stop a1 V Q) : Met l yX0_stop (ws_ yX0_stop cX0_stop 3 (some .int)) rX0_stop (va_Pc [.ref (ad 0 0 0), .int a1] (fun U => cB D A ad V U.heap ∧ CX l D A s0 U)) (va_Qi Q (fun u t => cB D A ad u t.heap) A) 0 0 A := by
  refine Met.ofW (cc := cX0_stop) (maxL := 3) (ret := some .int) (by decide) rfl ?_
  intro p e s m args below meth c s₁ B hml hv
  obtain ⟨rfl, hB, hC⟩ := hv
  have F : FX p l c cX0_stop s _ m RX0 D A s0 3 meth (some .int) := ⟨mk_FP B hml rfl, hC⟩
  have hS : va_S A s.heap s.heap [] := va_S.rf
  have hl := lv_entry ([.ref (ad 0 0 0), .int a1]) (n := 3) (Nat.le_of_ble_eq_true rfl)
  rw [lg_entry_eq]
  generalize (lg_sl ([.ref (ad 0 0 0), .int a1]) ++ List.replicate (3 - (lg_sl ([.ref (ad 0 0 0), .int a1])).length) Slot.unset).toArray = ls at hl ⊢
  exact bX0_stop_0 F hB hS hw hl
def rX0_tell : Room := { frames := 0, cells := 0, slots := 0, locals := 0 }
set_option maxHeartbeats 4000000 in
theorem bX0_tell_0 {p : Program} {l : Launch} {e : Env} {s : State} {m : MethodId} {args : Array Value} {below : List Frame} {meth : Method} {c : Code} {D : DD} {A : Nat → Prop} {s0 : State} {ad : AD} {Q : Int32 → CV → Prop} {a1 : Int32} {V : CV} {H : Heap} {locs : List Loc} {ls : Array Slot} (F : FX p l c cX0_tell s args m RX0 D A s0 2 meth (some .int)) (hB : cB D A ad V H) (hS : va_S A s.heap H locs) (hw : wX0_tell a1 V Q) (hl : lv_has ls 2 [(0, .ref (ad 0 0 0)), (1, .int a1)]) : W p l e rX0_tell s m args below meth c H locs 0 0 (MQ below (va_Qi Q (fun u t => cB D A ad u t.heap) A) args s 0 0 A) (F0 m 0 ls []) := by
  have hx := F.1.x
  have hb := F.1.b
  unfold wX0_tell at hw
  refine lv_aload_n hx hb dX0_tell_0 rfl (lv_at hl 0 rfl) ?_
  refine cg_X0_512 F hB dX0_tell_1 ?_
  refine lv_bipush (v := 60) hx hb dX0_tell_4 (by decide) ?_
  refine lv_icmp_ne (tgt := 12) hx hb dX0_tell_6 (by decide) (fun q => ?_) (fun q => ?_)
  · replace hw := hw.2 q
    refine lv_aload_n hx hb dX0_tell_12 rfl (lv_at hl 0 rfl) ?_
    refine cg_X0_95 F hB dX0_tell_13 ?_
    refine lv_aload_n hx hb dX0_tell_16 rfl (lv_at hl 0 rfl) ?_
    refine cg_X0_512 F hB dX0_tell_17 ?_
    refine lv_iload_n hx hb dX0_tell_20 rfl (lv_at hl 1 rfl) ?_
    obtain ⟨hin1, hw⟩ := hw
    refine ct_22 F hB hS hin1 dX0_tell_21 (fun H locs hB hS => ?_)
    refine lv_aload_n hx hb dX0_tell_22 rfl (lv_at hl 0 rfl) ?_
    refine lv_dup hx hb dX0_tell_23 rfl ?_
    refine cg_X0_512 F hB dX0_tell_24 ?_
    refine lv_iconst (v := 1) hx hb dX0_tell_27 (by decide) ?_
    refine lv_iadd hx hb dX0_tell_28 ?_
    refine cp_X0_512 F hB hS dX0_tell_29 (fun H locs hB hS => ?_)
    refine lv_aload_n hx hb dX0_tell_32 rfl (lv_at hl 0 rfl) ?_
    refine cg_X0_512 F hB dX0_tell_33 ?_
    exact W.iret hx hb F.1.r (fun t ht hW => ⟨⟨_, _, rfl, hw, x_B (Bw := cB D A ad) ht hB⟩, hS.F ht⟩) hS.2.2 dX0_tell_36 (hlocks := F.1.k)
  · replace hw := hw.1 q
    refine lv_ldc hx hb F.1.o (F.1.t _ q380) dX0_tell_9 ?_
    exact W.iret hx hb F.1.r (fun t ht hW => ⟨⟨_, _, rfl, hw, x_B (Bw := cB D A ad) ht hB⟩, hS.F ht⟩) hS.2.2 dX0_tell_11 (hlocks := F.1.k)
set_option maxHeartbeats 4000000 in
theorem mX0_tell {l : Launch} {D : DD} {A : Nat → Prop} {s0 : State} {ad : AD} {V : CV} {a1 : Int32} {Q : Int32 → CV → Prop} (hw : wX0_tell a1 V Q) : Met l yX0_tell (ws_ yX0_tell cX0_tell 2 (some .int)) rX0_tell (va_Pc [.ref (ad 0 0 0), .int a1] (fun U => cB D A ad V U.heap ∧ CX l D A s0 U)) (va_Qi Q (fun u t => cB D A ad u t.heap) A) 0 0 A := by
  refine Met.ofW (cc := cX0_tell) (maxL := 2) (ret := some .int) (by decide) rfl ?_
  intro p e s m args below meth c s₁ B hml hv
  obtain ⟨rfl, hB, hC⟩ := hv
  have F : FX p l c cX0_tell s _ m RX0 D A s0 2 meth (some .int) := ⟨mk_FP B hml rfl, hC⟩
  have hS : va_S A s.heap s.heap [] := va_S.rf
  have hl := lv_entry ([.ref (ad 0 0 0), .int a1]) (n := 2) (Nat.le_of_ble_eq_true rfl)
  rw [lg_entry_eq]
  generalize (lg_sl ([.ref (ad 0 0 0), .int a1]) ++ List.replicate (2 - (lg_sl ([.ref (ad 0 0 0), .int a1])).length) Slot.unset).toArray = ls at hl ⊢
  exact bX0_tell_0 F hB hS hw hl
def rX14_init : Room := { frames := 1, cells := 0, slots := 0, locals := 40 }
set_option maxHeartbeats 4000000 in
theorem bX14_init_0 {p : Program} {l : Launch} {e : Env} {s : State} {m : MethodId} {args : Array Value} {below : List Frame} {meth : Method} {c : Code} {D : DD} {A : Nat → Prop} {s0 : State} {ad : AD} {Q : CV → Prop} {a0 : Nat} {a1 : Int32} {a2 : Nat} {a3 : Int32} {V : CV} {H : Heap} {locs : List Loc} {ls : Array Slot} (F : FX p l c cX14_init s args m RX14 D A s0 4 meth (none)) (hin : meth.name = "<init>") (hB : cB D A ad V H) (hS : va_S A s.heap H locs) (hw : wX14_init a0 a1 a2 a3 V Q) (hl : lv_has ls 4 [(0, .ref a0), (1, .int a1), (2, .ref a2), (3, .int a3)]) : W p l e rX14_init s m args below meth c H locs 0 0 (MQ below (va_Qv Q (fun u t => cB D A ad u t.heap) A) args s 0 0 A) (F0 m 0 ls []) := by
  have hx := F.1.x
  have hb := F.1.b
  unfold wX14_init at hw
  refine lv_aload_n hx hb dX14_init_0 rfl (lv_at hl 0 rfl) ?_
  refine W.objInit hx hb F.1.o (F.1.t _ q542) (F.1.t _ q117) (F.1.t _ q118) rfl (by rw [F.1.ml]; exact hl.1) rfl dX14_init_1 (Nat.le_of_ble_eq_true rfl) (Nat.le_of_ble_eq_true rfl) ?_
  refine W.eq (g2 := F0 m 4 ls []) rfl ?_
  refine lv_aload_n hx hb dX14_init_4 rfl (lv_at hl 0 rfl) ?_
  refine lv_iload_n hx hb dX14_init_5 rfl (lv_at hl 1 rfl) ?_
  obtain ⟨fs1, hm2, hl3, hw⟩ := hw
  refine cf_X14_7 F hB hS hin hm2 hl3 dX14_init_6 (fun H locs hB hS => ?_)
  refine lv_aload_n hx hb dX14_init_9 rfl (lv_at hl 0 rfl) ?_
  refine lv_aload_n hx hb dX14_init_10 rfl (lv_at hl 2 rfl) ?_
  obtain ⟨fs4, hm5, hl6, hw⟩ := hw
  refine cf_X14_13 F hB hS hin hm5 hl6 dX14_init_11 (fun H locs hB hS => ?_)
  refine lv_aload_n hx hb dX14_init_14 rfl (lv_at hl 0 rfl) ?_
  refine lv_iload_n hx hb dX14_init_15 rfl (lv_at hl 3 rfl) ?_
  obtain ⟨fs7, hm8, hl9, hw⟩ := hw
  refine cf_X14_17 F hB hS hin hm8 hl9 dX14_init_16 (fun H locs hB hS => ?_)
  exact W.vret hx hb F.1.r (fun t ht hW => ⟨⟨_, rfl, hw, x_B (Bw := cB D A ad) ht hB⟩, hS.F ht⟩) hS.2.2 dX14_init_19 (hlocks := F.1.k)
set_option maxHeartbeats 4000000 in
theorem mX14_init {l : Launch} {D : DD} {A : Nat → Prop} {s0 : State} {ad : AD} {V : CV} {a0 : Nat} {a1 : Int32} {a2 : Nat} {a3 : Int32} {Q : CV → Prop} (hw : wX14_init a0 a1 a2 a3 V Q) : Met l yX14_init (ws_ yX14_init cX14_init 4 (none)) rX14_init (va_Pc [.ref a0, .int a1, .ref a2, .int a3] (fun U => cB D A ad V U.heap ∧ CX l D A s0 U)) (va_Qv Q (fun u t => cB D A ad u t.heap) A) 0 0 A := by
  refine Met.ofW (cc := cX14_init) (maxL := 4) (ret := none) (by decide) rfl ?_
  intro p e s m args below meth c s₁ B hml hv
  obtain ⟨rfl, hB, hC⟩ := hv
  have F : FX p l c cX14_init s _ m RX14 D A s0 4 meth (none) := ⟨mk_FP B hml rfl, hC⟩
  have hS : va_S A s.heap s.heap [] := va_S.rf
  have hin : meth.name = "<init>" := (name_of_methodNamed B.named B.method).1
  have hl := lv_entry ([.ref a0, .int a1, .ref a2, .int a3]) (n := 4) (Nat.le_of_ble_eq_true rfl)
  rw [lg_entry_eq]
  generalize (lg_sl ([.ref a0, .int a1, .ref a2, .int a3]) ++ List.replicate (4 - (lg_sl ([.ref a0, .int a1, .ref a2, .int a3])).length) Slot.unset).toArray = ls at hl ⊢
  exact bX14_init_0 F hin hB hS hw hl
theorem kX0_X14_init {p : Program} {l : Launch} {e : Env} {R : Room} {s : State} {m : MethodId} {args : Array Value} {below : List Frame} {meth : Method} {c : Code} {H : Heap} {locs : List Loc} {cells slots : Nat} {Q0 : State → Prop} {cc : ByteArray} {pc nL : Nat} {ls : Array Slot} {rest : List Value} {ret : Option FieldType} {D : DD} {A : Nat → Prop} {s0 : State} {ad : AD} {V : CV} {a0 : Nat} {a1 : Int32} {a2 : Nat} {a3 : Int32} {Q : CV → Prop} (F : FX p l c cc s args m RX0 D A s0 nL meth ret) (hB : cB D A ad V H) (hS : va_S A s.heap H locs) (hw : wX14_init a0 a1 a2 a3 V Q) (hR : rX14_init.frames + 1 ≤ R.frames ∧ 8 + (4 + 11) + rX14_init.locals ≤ R.locals) (hc : cells + 0 ≤ R.cells ∧ slots + 0 ≤ R.slots) (hsz : ls.size = nL) (hW : (rest.map fun v => v.category).sum ≤ 8) (hdg : decode cc pc = .ok (.invokespecial 235, 3)) (kk : ∀ (u : CV) (H1 : Heap) (locs1 : List Loc), Q u → cB D A ad u H1 → va_S A s.heap H1 locs1 → W p l e R s m args below meth c H1 locs1 cells slots Q0 (F0 m (pc + 3) ls (rest))) : W p l e R s m args below meth c H locs cells slots Q0 (F0 m pc ls (.int a3 :: .ref a2 :: .int a1 :: .ref a0 :: rest)) :=
  k_v (Bw := cB D A ad) (k_runI (Bw := cB D A ad) (n := 3) (As := [.int a1, .ref a2, .int a3]) F hB hS (mX14_init hw) q539 q540 q108 q541 rfl (by decide +kernel) hR ⟨rfl, rfl⟩ hc rfl hsz rfl hW hdg) hS kk
def rX0_textTold : Room := { frames := 1, cells := 0, slots := 0, locals := 22 }
set_option maxHeartbeats 4000000 in
theorem bX0_textTold_0 {p : Program} {l : Launch} {e : Env} {s : State} {m : MethodId} {args : Array Value} {below : List Frame} {meth : Method} {c : Code} {D : DD} {A : Nat → Prop} {s0 : State} {ad : AD} {Q : Int32 → CV → Prop} {a1 : Int32} {a2 : Int32} {V : CV} {H : Heap} {locs : List Loc} {ls : Array Slot} (F : FX p l c cX0_textTold s args m RX0 D A s0 3 meth (some .int)) (hB : cB D A ad V H) (hS : va_S A s.heap H locs) (hw : wX0_textTold a1 a2 V Q) (hl : lv_has ls 3 [(0, .ref (ad 0 0 0)), (1, .int a1), (2, .int a2)]) : W p l e rX0_textTold s m args below meth c H locs 0 0 (MQ below (va_Qi Q (fun u t => cB D A ad u t.heap) A) args s 0 0 A) (F0 m 0 ls []) := by
  have hx := F.1.x
  have hb := F.1.b
  unfold wX0_textTold at hw
  refine lv_iload_n hx hb dX0_textTold_0 rfl (lv_at hl 1 rfl) ?_
  refine lv_iconst (v := 0) hx hb dX0_textTold_1 (by decide) ?_
  refine lv_aload_n hx hb dX0_textTold_2 rfl (lv_at hl 0 rfl) ?_
  refine cg_X0_46 F hB dX0_textTold_3 ?_
  refine cg_X0_242 F hB (by decide) dX0_textTold_6 ?_
  refine lv_iconst (v := 1) hx hb dX0_textTold_9 (by decide) ?_
  refine lv_isub hx hb dX0_textTold_10 ?_
  refine kX0_X0_isIn F.1 hw ⟨Nat.le_of_ble_eq_true rfl, Nat.le_of_ble_eq_true rfl⟩ ⟨Nat.zero_le _, Nat.zero_le _⟩ hl.1 (Nat.le_of_ble_eq_true rfl) dX0_textTold_11 (fun r1 hw => ?_)
  refine lv_if_eq (tgt := 26) hx hb dX0_textTold_14 (by decide) (fun q => ?_) (fun q => ?_)
  · replace hw := hw.1 q
    refine lv_ldc hx hb F.1.o (F.1.t _ q392) dX0_textTold_26 ?_
    exact W.iret hx hb F.1.r (fun t ht hW => ⟨⟨_, _, rfl, hw, x_B (Bw := cB D A ad) ht hB⟩, hS.F ht⟩) hS.2.2 dX0_textTold_28 (hlocks := F.1.k)
  · replace hw := hw.2 q
    refine lv_iload_n hx hb dX0_textTold_17 rfl (lv_at hl 2 rfl) ?_
    refine lv_iconst (v := 0) hx hb dX0_textTold_18 (by decide) ?_
    refine lv_iconst (v := 1) hx hb dX0_textTold_19 (by decide) ?_
    refine kX0_X0_isIn F.1 hw ⟨Nat.le_of_ble_eq_true rfl, Nat.le_of_ble_eq_true rfl⟩ ⟨Nat.zero_le _, Nat.zero_le _⟩ hl.1 (Nat.le_of_ble_eq_true rfl) dX0_textTold_20 (fun r2 hw => ?_)
    refine lv_if_ne (tgt := 29) hx hb dX0_textTold_23 (by decide) (fun q => ?_) (fun q => ?_)
    · replace hw := hw.2 q
      refine lv_iload_n hx hb dX0_textTold_29 rfl (lv_at hl 2 rfl) ?_
      refine lv_if_ne (tgt := 48) hx hb dX0_textTold_30 (by decide) (fun q => ?_) (fun q => ?_)
      · replace hw := hw.2 q
        refine lv_aload_n hx hb dX0_textTold_48 rfl (lv_at hl 0 rfl) ?_
        refine cg_X0_46 F hB dX0_textTold_49 ?_
        refine cg_X0_245 F hB (by decide) dX0_textTold_52 ?_
        refine lv_iload_n hx hb dX0_textTold_55 rfl (lv_at hl 1 rfl) ?_
        obtain ⟨hin3, hw⟩ := hw
        refine cl_Tx F hB (by decide) hin3 dX0_textTold_56 ?_
        obtain ⟨y4, e5, hw⟩ := hw
        refine W.eq (g2 := F0 m 57 ls [.ref y4]) (congrArg (fun z => F0 m 57 ls [va_rf z]) e5) ?_
        obtain ⟨f6, f7, f8, hm9, hw⟩ := hw
        refine cg_X0_251 F hB hm9 dX0_textTold_57 ?_
        exact W.iret hx hb F.1.r (fun t ht hW => ⟨⟨_, _, rfl, hw, x_B (Bw := cB D A ad) ht hB⟩, hS.F ht⟩) hS.2.2 dX0_textTold_60 (hlocks := F.1.k)
      · replace hw := hw.1 q
        refine lv_aload_n hx hb dX0_textTold_33 rfl (lv_at hl 0 rfl) ?_
        refine cg_X0_46 F hB dX0_textTold_34 ?_
        refine cg_X0_245 F hB (by decide) dX0_textTold_37 ?_
        refine lv_iload_n hx hb dX0_textTold_40 rfl (lv_at hl 1 rfl) ?_
        obtain ⟨hin10, hw⟩ := hw
        refine cl_Tx F hB (by decide) hin10 dX0_textTold_41 ?_
        obtain ⟨y11, e12, hw⟩ := hw
        refine W.eq (g2 := F0 m 42 ls [.ref y11]) (congrArg (fun z => F0 m 42 ls [va_rf z]) e12) ?_
        obtain ⟨f13, f14, f15, hm16, hw⟩ := hw
        refine cg_X0_249 F hB hm16 dX0_textTold_42 ?_
        refine lv_goto (tgt := 60) hx hb dX0_textTold_45 (by decide) ?_
        exact W.iret hx hb F.1.r (fun t ht hW => ⟨⟨_, _, rfl, hw, x_B (Bw := cB D A ad) ht hB⟩, hS.F ht⟩) hS.2.2 dX0_textTold_60 (hlocks := F.1.k)
    · replace hw := hw.1 q
      refine lv_ldc hx hb F.1.o (F.1.t _ q392) dX0_textTold_26 ?_
      exact W.iret hx hb F.1.r (fun t ht hW => ⟨⟨_, _, rfl, hw, x_B (Bw := cB D A ad) ht hB⟩, hS.F ht⟩) hS.2.2 dX0_textTold_28 (hlocks := F.1.k)
set_option maxHeartbeats 4000000 in
theorem mX0_textTold {l : Launch} {D : DD} {A : Nat → Prop} {s0 : State} {ad : AD} {V : CV} {a1 : Int32} {a2 : Int32} {Q : Int32 → CV → Prop} (hw : wX0_textTold a1 a2 V Q) : Met l yX0_textTold (ws_ yX0_textTold cX0_textTold 3 (some .int)) rX0_textTold (va_Pc [.ref (ad 0 0 0), .int a1, .int a2] (fun U => cB D A ad V U.heap ∧ CX l D A s0 U)) (va_Qi Q (fun u t => cB D A ad u t.heap) A) 0 0 A := by
  refine Met.ofW (cc := cX0_textTold) (maxL := 3) (ret := some .int) (by decide) rfl ?_
  intro p e s m args below meth c s₁ B hml hv
  obtain ⟨rfl, hB, hC⟩ := hv
  have F : FX p l c cX0_textTold s _ m RX0 D A s0 3 meth (some .int) := ⟨mk_FP B hml rfl, hC⟩
  have hS : va_S A s.heap s.heap [] := va_S.rf
  have hl := lv_entry ([.ref (ad 0 0 0), .int a1, .int a2]) (n := 3) (Nat.le_of_ble_eq_true rfl)
  rw [lg_entry_eq]
  generalize (lg_sl ([.ref (ad 0 0 0), .int a1, .int a2]) ++ List.replicate (3 - (lg_sl ([.ref (ad 0 0 0), .int a1, .int a2])).length) Slot.unset).toArray = ls at hl ⊢
  exact bX0_textTold_0 F hB hS hw hl
def rX0_told : Room := { frames := 3, cells := 0, slots := 0, locals := 140 }
set_option maxHeartbeats 4000000 in
theorem bX0_told_0 {p : Program} {l : Launch} {e : Env} {s : State} {m : MethodId} {args : Array Value} {below : List Frame} {meth : Method} {c : Code} {D : DD} {A : Nat → Prop} {s0 : State} {ad : AD} {Q : Int32 → CV → Prop} {a1 : Int32} {a2 : Int32} {V : CV} {H : Heap} {locs : List Loc} {ls : Array Slot} (F : FX p l c cX0_told s args m RX0 D A s0 4 meth (some .int)) (hB : cB D A ad V H) (hS : va_S A s.heap H locs) (hw : wX0_told a1 a2 V Q) (hl : lv_has ls 4 [(0, .ref (ad 0 0 0)), (1, .int a1), (2, .int a2)]) : W p l e rX0_told s m args below meth c H locs 0 0 (MQ below (va_Qi Q (fun u t => cB D A ad u t.heap) A) args s 0 0 A) (F0 m 0 ls []) := by
  have hx := F.1.x
  have hb := F.1.b
  unfold wX0_told at hw
  refine lv_aload_n hx hb dX0_told_0 rfl (lv_at hl 0 rfl) ?_
  refine lv_iload_n hx hb dX0_told_1 rfl (lv_at hl 1 rfl) ?_
  refine kX0_X0_isPerson F hB hS hw ⟨Nat.le_of_ble_eq_true rfl, Nat.le_of_ble_eq_true rfl⟩ ⟨Nat.zero_le _, Nat.zero_le _⟩ hl.1 (Nat.le_of_ble_eq_true rfl) dX0_told_2 (fun r1 V2 H locs hw hB hS => ?_)
  refine lv_if_ne (tgt := 11) hx hb dX0_told_5 (by decide) (fun q => ?_) (fun q => ?_)
  · replace hw := hw.2 q
    refine lv_aload_n hx hb dX0_told_11 rfl (lv_at hl 0 rfl) ?_
    refine cg_X0_46 F hB dX0_told_12 ?_
    refine cg_X0_259 F hB (by decide) dX0_told_15 ?_
    refine lv_iload_n hx hb dX0_told_18 rfl (lv_at hl 1 rfl) ?_
    obtain ⟨hin3, hw⟩ := hw
    refine cl_Sp F hB (by decide) hin3 dX0_told_19 ?_
    refine x_astore_n (lv' := [(3, va_rf (vSp V2 0 a1.toNatClampNeg)), (0, .ref (ad 0 0 0)), (1, .int a1), (2, .int a2)]) hx hb dX0_told_20 rfl hl (by decide) rfl (fun ls hl => ?_)
    refine lv_iload_n hx hb dX0_told_21 rfl (lv_at hl 3 rfl) ?_
    by_cases q0 : a2 = 0
    · replace hw := hw.1 q0
      refine lv_tableIn (off := 42) (tgt := 64) hx hb dX0_told_22 (by rw [q0]; decide) (by rw [q0]; decide) (by rw [q0]; rfl) (by decide) ?_
      refine x_aload_n hx hb dX0_told_64 rfl (lv_at hl 0 rfl) ?_
      obtain ⟨y4, e5, hw⟩ := hw
      refine W.eq (g2 := F0 m 65 ls [.ref y4]) (congrArg (fun z => F0 m 65 ls [va_rf z]) e5) ?_
      refine kX0_Sp_kind F hB hS hw ⟨Nat.le_of_ble_eq_true rfl, Nat.le_of_ble_eq_true rfl⟩ ⟨by show _ ≤ 0; omega, by show _ ≤ 0; omega⟩ hl.1 (Nat.le_of_ble_eq_true rfl) dX0_told_65 (fun r6 V7 H locs hw hB hS => ?_)
      exact W.iret hx hb F.1.r (fun t ht hW => ⟨⟨_, _, rfl, hw, x_B (Bw := cB D A ad) ht hB⟩, hS.F ht⟩) hS.2.2 dX0_told_68 (hlocks := F.1.k)
    replace hw := hw.2 q0
    by_cases q1 : a2 = 1
    · replace hw := hw.1 q1
      refine lv_tableIn (off := 47) (tgt := 69) hx hb dX0_told_22 (by rw [q1]; decide) (by rw [q1]; decide) (by rw [q1]; rfl) (by decide) ?_
      refine x_aload_n hx hb dX0_told_69 rfl (lv_at hl 0 rfl) ?_
      obtain ⟨y8, e9, hw⟩ := hw
      refine W.eq (g2 := F0 m 70 ls [.ref y8]) (congrArg (fun z => F0 m 70 ls [va_rf z]) e9) ?_
      obtain ⟨c10, b11, hk12, hm13, hw⟩ := hw
      refine cg_X0_267 F hB hk12 hm13 dX0_told_70 ?_
      exact W.iret hx hb F.1.r (fun t ht hW => ⟨⟨_, _, rfl, hw, x_B (Bw := cB D A ad) ht hB⟩, hS.F ht⟩) hS.2.2 dX0_told_73 (hlocks := F.1.k)
    replace hw := hw.2 q1
    by_cases q2 : a2 = 2
    · replace hw := hw.1 q2
      refine lv_tableIn (off := 52) (tgt := 74) hx hb dX0_told_22 (by rw [q2]; decide) (by rw [q2]; decide) (by rw [q2]; rfl) (by decide) ?_
      refine lv_aload_n hx hb dX0_told_74 rfl (lv_at hl 1 rfl) ?_
      refine cg_X0_46 F hB dX0_told_75 ?_
      refine cg_X0_269 F hB (by decide) dX0_told_78 ?_
      refine lv_iload_n hx hb dX0_told_81 rfl (lv_at hl 2 rfl) ?_
      obtain ⟨hin14, hw⟩ := hw
      refine cl_S F hB (by decide) (by decide) hin14 dX0_told_82 ?_
      exact W.iret hx hb F.1.r (fun t ht hW => ⟨⟨_, _, rfl, hw, x_B (Bw := cB D A ad) ht hB⟩, hS.F ht⟩) hS.2.2 dX0_told_83 (hlocks := F.1.k)
    replace hw := hw.2 q2
    by_cases q3 : a2 = 3
    · replace hw := hw.1 q3
      refine lv_tableIn (off := 62) (tgt := 84) hx hb dX0_told_22 (by rw [q3]; decide) (by rw [q3]; decide) (by rw [q3]; rfl) (by decide) ?_
      refine lv_aload_n hx hb dX0_told_84 rfl (lv_at hl 1 rfl) ?_
      refine cg_X0_46 F hB dX0_told_85 ?_
      refine cg_X0_272 F hB (by decide) dX0_told_88 ?_
      refine lv_iload_n hx hb dX0_told_91 rfl (lv_at hl 2 rfl) ?_
      obtain ⟨hin15, hw⟩ := hw
      refine cl_S F hB (by decide) (by decide) hin15 dX0_told_92 ?_
      exact W.iret hx hb F.1.r (fun t ht hW => ⟨⟨_, _, rfl, hw, x_B (Bw := cB D A ad) ht hB⟩, hS.F ht⟩) hS.2.2 dX0_told_93 (hlocks := F.1.k)
    replace hw := hw.2 q3
    by_cases q4 : a2 = 4
    · replace hw := hw.1 q4
      refine lv_tableIn (off := 72) (tgt := 94) hx hb dX0_told_22 (by rw [q4]; decide) (by rw [q4]; decide) (by rw [q4]; rfl) (by decide) ?_
      refine lv_aload_n hx hb dX0_told_94 rfl (lv_at hl 1 rfl) ?_
      refine kX0_X0_findFollowers F hB hS hw ⟨Nat.le_of_ble_eq_true rfl, Nat.le_of_ble_eq_true rfl⟩ ⟨Nat.zero_le _, Nat.zero_le _⟩ hl.1 (Nat.le_of_ble_eq_true rfl) dX0_told_95 (fun V17 H locs hw hB hS => ?_)
      refine lv_aload_n hx hb dX0_told_98 rfl (lv_at hl 1 rfl) ?_
      refine cg_X0_74 F hB dX0_told_99 ?_
      refine lv_iload_n hx hb dX0_told_102 rfl (lv_at hl 2 rfl) ?_
      obtain ⟨hin18, hw⟩ := hw
      refine cl_16 F hB hin18 dX0_told_103 ?_
      exact W.iret hx hb F.1.r (fun t ht hW => ⟨⟨_, _, rfl, hw, x_B (Bw := cB D A ad) ht hB⟩, hS.F ht⟩) hS.2.2 dX0_told_104 (hlocks := F.1.k)
    replace hw := hw.2 q4
    by_cases q5 : a2 = 5
    · replace hw := hw.1 q5
      refine lv_tableIn (off := 83) (tgt := 105) hx hb dX0_told_22 (by rw [q5]; decide) (by rw [q5]; decide) (by rw [q5]; rfl) (by decide) ?_
      refine x_aload_n hx hb dX0_told_105 rfl (lv_at hl 0 rfl) ?_
      obtain ⟨y19, e20, hw⟩ := hw
      refine W.eq (g2 := F0 m 106 ls [.ref y19]) (congrArg (fun z => F0 m 106 ls [va_rf z]) e20) ?_
      refine kX0_Sp_worth F hB hS hw ⟨Nat.le_of_ble_eq_true rfl, Nat.le_of_ble_eq_true rfl⟩ ⟨by show _ ≤ 0; omega, by show _ ≤ 0; omega⟩ hl.1 (Nat.le_of_ble_eq_true rfl) dX0_told_106 (fun r21 V22 H locs hw hB hS => ?_)
      exact W.iret hx hb F.1.r (fun t ht hW => ⟨⟨_, _, rfl, hw, x_B (Bw := cB D A ad) ht hB⟩, hS.F ht⟩) hS.2.2 dX0_told_109 (hlocks := F.1.k)
    replace hw := hw.2 q5
    by_cases q6 : a2 = 6
    · replace hw := hw.1 q6
      refine lv_tableIn (off := 88) (tgt := 110) hx hb dX0_told_22 (by rw [q6]; decide) (by rw [q6]; decide) (by rw [q6]; rfl) (by decide) ?_
      refine lv_aload_n hx hb dX0_told_110 rfl (lv_at hl 1 rfl) ?_
      refine lv_iload_n hx hb dX0_told_111 rfl (lv_at hl 2 rfl) ?_
      refine kX0_X0_goneOn F hB hS hw ⟨Nat.le_of_ble_eq_true rfl, Nat.le_of_ble_eq_true rfl⟩ ⟨Nat.zero_le _, Nat.zero_le _⟩ hl.1 (Nat.le_of_ble_eq_true rfl) dX0_told_112 (fun r23 V24 H locs hw hB hS => ?_)
      exact W.iret hx hb F.1.r (fun t ht hW => ⟨⟨_, _, rfl, hw, x_B (Bw := cB D A ad) ht hB⟩, hS.F ht⟩) hS.2.2 dX0_told_115 (hlocks := F.1.k)
    replace hw := hw.2 q6
    refine lv_tableOut (tgt := 116) hx hb dX0_told_22 (by have n0 := x_ne q0 (a := 0) (by decide); have n1 := x_ne q1 (a := 1) (by decide); have n2 := x_ne q2 (a := 2) (by decide); have n3 := x_ne q3 (a := 3) (by decide); have n4 := x_ne q4 (a := 4) (by decide); have n5 := x_ne q5 (a := 5) (by decide); have n6 := x_ne q6 (a := 6) (by decide); omega) (by decide) ?_
    refine lv_ldc hx hb F.1.o (F.1.t _ q392) dX0_told_116 ?_
    exact W.iret hx hb F.1.r (fun t ht hW => ⟨⟨_, _, rfl, hw, x_B (Bw := cB D A ad) ht hB⟩, hS.F ht⟩) hS.2.2 dX0_told_118 (hlocks := F.1.k)
  · replace hw := hw.1 q
    refine lv_ldc hx hb F.1.o (F.1.t _ q392) dX0_told_8 ?_
    exact W.iret hx hb F.1.r (fun t ht hW => ⟨⟨_, _, rfl, hw, x_B (Bw := cB D A ad) ht hB⟩, hS.F ht⟩) hS.2.2 dX0_told_10 (hlocks := F.1.k)
set_option maxHeartbeats 4000000 in
theorem mX0_told {l : Launch} {D : DD} {A : Nat → Prop} {s0 : State} {ad : AD} {V : CV} {a1 : Int32} {a2 : Int32} {Q : Int32 → CV → Prop} (hw : wX0_told a1 a2 V Q) : Met l yX0_told (ws_ yX0_told cX0_told 4 (some .int)) rX0_told (va_Pc [.ref (ad 0 0 0), .int a1, .int a2] (fun U => cB D A ad V U.heap ∧ CX l D A s0 U)) (va_Qi Q (fun u t => cB D A ad u t.heap) A) 0 0 A := by
  refine Met.ofW (cc := cX0_told) (maxL := 4) (ret := some .int) (by decide) rfl ?_
  intro p e s m args below meth c s₁ B hml hv
  obtain ⟨rfl, hB, hC⟩ := hv
  have F : FX p l c cX0_told s _ m RX0 D A s0 4 meth (some .int) := ⟨mk_FP B hml rfl, hC⟩
  have hS : va_S A s.heap s.heap [] := va_S.rf
  have hl := lv_entry ([.ref (ad 0 0 0), .int a1, .int a2]) (n := 4) (Nat.le_of_ble_eq_true rfl)
  rw [lg_entry_eq]
  generalize (lg_sl ([.ref (ad 0 0 0), .int a1, .int a2]) ++ List.replicate (4 - (lg_sl ([.ref (ad 0 0 0), .int a1, .int a2])).length) Slot.unset).toArray = ls at hl ⊢
  exact bX0_told_0 F hB hS hw hl
def rX0_trim : Room := { frames := 1, cells := 0, slots := 0, locals := 22 }
set_option maxHeartbeats 4000000 in
theorem bX0_trim_0 {p : Program} {l : Launch} {e : Env} {s : State} {m : MethodId} {args : Array Value} {below : List Frame} {meth : Method} {c : Code} {D : DD} {A : Nat → Prop} {s0 : State} {ad : AD} {Q : Int32 → CV → Prop} {a1 : Int32} {V : CV} {H : Heap} {locs : List Loc} {ls : Array Slot} (F : FX p l c cX0_trim s args m RX0 D A s0 2 meth (some .int)) (hB : cB D A ad V H) (hS : va_S A s.heap H locs) (hw : wX0_trim a1 V Q) (hl : lv_has ls 2 [(0, .ref (ad 0 0 0)), (1, .int a1)]) : W p l e rX0_trim s m args below meth c H locs 0 0 (MQ below (va_Qi Q (fun u t => cB D A ad u t.heap) A) args s 0 0 A) (F0 m 0 ls []) := by
  have hx := F.1.x
  have hb := F.1.b
  unfold wX0_trim at hw
  refine lv_iload_n hx hb dX0_trim_0 rfl (lv_at hl 1 rfl) ?_
  refine lv_iconst (v := 0) hx hb dX0_trim_1 (by decide) ?_
  refine lv_aload_n hx hb dX0_trim_2 rfl (lv_at hl 0 rfl) ?_
  refine cg_X0_127 F hB dX0_trim_3 ?_
  refine kX0_X0_isIn F.1 hw ⟨Nat.le_of_ble_eq_true rfl, Nat.le_of_ble_eq_true rfl⟩ ⟨Nat.zero_le _, Nat.zero_le _⟩ hl.1 (Nat.le_of_ble_eq_true rfl) dX0_trim_6 (fun r1 hw => ?_)
  refine lv_if_ne (tgt := 15) hx hb dX0_trim_9 (by decide) (fun q => ?_) (fun q => ?_)
  · replace hw := hw.2 q
    refine lv_aload_n hx hb dX0_trim_15 rfl (lv_at hl 0 rfl) ?_
    refine lv_iload_n hx hb dX0_trim_16 rfl (lv_at hl 1 rfl) ?_
    refine cp_X0_127 F hB hS dX0_trim_17 (fun H locs hB hS => ?_)
    refine lv_iload_n hx hb dX0_trim_20 rfl (lv_at hl 1 rfl) ?_
    exact W.iret hx hb F.1.r (fun t ht hW => ⟨⟨_, _, rfl, hw, x_B (Bw := cB D A ad) ht hB⟩, hS.F ht⟩) hS.2.2 dX0_trim_21 (hlocks := F.1.k)
  · replace hw := hw.1 q
    refine lv_ldc hx hb F.1.o (F.1.t _ q392) dX0_trim_12 ?_
    exact W.iret hx hb F.1.r (fun t ht hW => ⟨⟨_, _, rfl, hw, x_B (Bw := cB D A ad) ht hB⟩, hS.F ht⟩) hS.2.2 dX0_trim_14 (hlocks := F.1.k)
set_option maxHeartbeats 4000000 in
theorem mX0_trim {l : Launch} {D : DD} {A : Nat → Prop} {s0 : State} {ad : AD} {V : CV} {a1 : Int32} {Q : Int32 → CV → Prop} (hw : wX0_trim a1 V Q) : Met l yX0_trim (ws_ yX0_trim cX0_trim 2 (some .int)) rX0_trim (va_Pc [.ref (ad 0 0 0), .int a1] (fun U => cB D A ad V U.heap ∧ CX l D A s0 U)) (va_Qi Q (fun u t => cB D A ad u t.heap) A) 0 0 A := by
  refine Met.ofW (cc := cX0_trim) (maxL := 2) (ret := some .int) (by decide) rfl ?_
  intro p e s m args below meth c s₁ B hml hv
  obtain ⟨rfl, hB, hC⟩ := hv
  have F : FX p l c cX0_trim s _ m RX0 D A s0 2 meth (some .int) := ⟨mk_FP B hml rfl, hC⟩
  have hS : va_S A s.heap s.heap [] := va_S.rf
  have hl := lv_entry ([.ref (ad 0 0 0), .int a1]) (n := 2) (Nat.le_of_ble_eq_true rfl)
  rw [lg_entry_eq]
  generalize (lg_sl ([.ref (ad 0 0 0), .int a1]) ++ List.replicate (2 - (lg_sl ([.ref (ad 0 0 0), .int a1])).length) Slot.unset).toArray = ls at hl ⊢
  exact bX0_trim_0 F hB hS hw hl
def rX0_turns : Room := { frames := 5, cells := 1, slots := 1, locals := 140 }
set_option maxHeartbeats 4000000 in
theorem bX0_turns_0 {p : Program} {l : Launch} {e : Env} {s : State} {m : MethodId} {args : Array Value} {below : List Frame} {meth : Method} {c : Code} {D : DD} {A : Nat → Prop} {s0 : State} {ad : AD} {Q : Int32 → CV → Prop} {a1 : Int32} {a2 : Int32} {V : CV} {H : Heap} {locs : List Loc} {ls : Array Slot} (F : FX p l c cX0_turns s args m RX0 D A s0 4 meth (some .int)) (hB : cB D A ad V H) (hS : va_S A s.heap H locs) (hw : wX0_turns a1 a2 V Q) (hl : lv_has ls 4 [(0, .ref (ad 0 0 0)), (1, .int a1), (2, .int a2)]) : W p l e rX0_turns s m args below meth c H locs 0 0 (MQ below (va_Qi Q (fun u t => cB D A ad u t.heap) A) args s 1 1 A) (F0 m 0 ls []) := by
  have hx := F.1.x
  have hb := F.1.b
  unfold wX0_turns at hw
  refine lv_aload_n hx hb dX0_turns_0 rfl (lv_at hl 0 rfl) ?_
  refine lv_iload_n hx hb dX0_turns_1 rfl (lv_at hl 1 rfl) ?_
  refine kX0_X0_isPerson F hB hS hw ⟨Nat.le_of_ble_eq_true rfl, Nat.le_of_ble_eq_true rfl⟩ ⟨by show _ ≤ 1; omega, by show _ ≤ 1; omega⟩ hl.1 (Nat.le_of_ble_eq_true rfl) dX0_turns_2 (fun r1 V2 H locs hw hB hS => ?_)
  refine lv_if_eq (tgt := 17) hx hb dX0_turns_5 (by decide) (fun q => ?_) (fun q => ?_)
  · replace hw := hw.1 q
    refine lv_ldc hx hb F.1.o (F.1.t _ q392) dX0_turns_17 ?_
    refine W.widen (k := 1) (n := 1) (by omega) (by omega) ?_
    exact W.iret hx hb F.1.r (fun t ht hW => ⟨⟨_, _, rfl, hw, x_B (Bw := cB D A ad) ht hB⟩, hS.F ht⟩) hS.2.2 dX0_turns_19 (hlocks := F.1.k)
  · replace hw := hw.2 q
    refine lv_iload_n hx hb dX0_turns_8 rfl (lv_at hl 2 rfl) ?_
    refine lv_iconst (v := 0) hx hb dX0_turns_9 (by decide) ?_
    refine lv_iconst (v := 5) hx hb dX0_turns_10 (by decide) ?_
    refine kX0_X0_isIn F.1 hw ⟨Nat.le_of_ble_eq_true rfl, Nat.le_of_ble_eq_true rfl⟩ ⟨by show _ ≤ 1; omega, by show _ ≤ 1; omega⟩ hl.1 (Nat.le_of_ble_eq_true rfl) dX0_turns_11 (fun r3 hw => ?_)
    refine lv_if_ne (tgt := 20) hx hb dX0_turns_14 (by decide) (fun q => ?_) (fun q => ?_)
    · replace hw := hw.2 q
      refine lv_aload_n hx hb dX0_turns_20 rfl (lv_at hl 0 rfl) ?_
      refine cg_X0_46 F hB dX0_turns_21 ?_
      refine cg_X0_259 F hB (by decide) dX0_turns_24 ?_
      refine lv_iload_n hx hb dX0_turns_27 rfl (lv_at hl 1 rfl) ?_
      obtain ⟨hin4, hw⟩ := hw
      refine cl_Sp F hB (by decide) hin4 dX0_turns_28 ?_
      refine x_astore_n (lv' := [(3, va_rf (vSp V2 0 a1.toNatClampNeg)), (0, .ref (ad 0 0 0)), (1, .int a1), (2, .int a2)]) hx hb dX0_turns_29 rfl hl (by decide) rfl (fun ls hl => ?_)
      refine lv_aload_n hx hb dX0_turns_30 rfl (lv_at hl 1 rfl) ?_
      refine cg_X0_46 F hB dX0_turns_31 ?_
      refine cg_X0_259 F hB (by decide) dX0_turns_34 ?_
      refine lv_iload_n hx hb dX0_turns_37 rfl (lv_at hl 2 rfl) ?_
      refine lv_iload_n hx hb dX0_turns_38 rfl (lv_at hl 3 rfl) ?_
      refine kX0_X0_speakerOf F hB hS hw ⟨Nat.le_of_ble_eq_true rfl, Nat.le_of_ble_eq_true rfl⟩ ⟨by show _ ≤ 1; omega, by show _ ≤ 1; omega⟩ hl.1 (Nat.le_of_ble_eq_true rfl) dX0_turns_39 (fun r5 V6 H locs hw hB hS => ?_)
      obtain ⟨c8, b9, hk10, hm11, hw⟩ := hw
      obtain ⟨hin7, hw⟩ := hw
      refine ct_Sp F hB hS (by decide) hk10 hm11 hin7 dX0_turns_42 (fun H locs hB hS => ?_)
      refine lv_aload_n hx hb dX0_turns_43 rfl (lv_at hl 1 rfl) ?_
      refine cg_X0_46 F hB dX0_turns_44 ?_
      refine cg_X0_259 F hB (by decide) dX0_turns_47 ?_
      refine lv_iload_n hx hb dX0_turns_50 rfl (lv_at hl 2 rfl) ?_
      obtain ⟨hin12, hw⟩ := hw
      refine cl_Sp F hB (by decide) hin12 dX0_turns_51 ?_
      refine x_aload_n hx hb dX0_turns_52 rfl (lv_at hl 0 rfl) ?_
      obtain ⟨y13, e14, hw⟩ := hw
      refine W.eq (g2 := F0 m 53 ls [.ref y13, va_rf (vSp (sSp V6 0 a1.toNatClampNeg (some r5)) 0 a1.toNatClampNeg)]) (congrArg (fun z => F0 m 53 ls [va_rf z, va_rf (vSp (sSp V6 0 a1.toNatClampNeg (some r5)) 0 a1.toNatClampNeg)]) e14) ?_
      obtain ⟨c15, b16, hk17, hm18, hw⟩ := hw
      refine cg_X0_267 F hB hk17 hm18 dX0_turns_53 ?_
      obtain ⟨y19, e20, hw⟩ := hw
      refine W.eq (g2 := F0 m 56 ls [.int b16, .ref y19]) (congrArg (fun z => F0 m 56 ls [.int b16, va_rf z]) e20) ?_
      obtain ⟨c21, b22, hk23, hm24, hw⟩ := hw
      refine cp_X0_267 F hB hS hk23 hm24 dX0_turns_56 (fun H locs hB hS => ?_)
      refine x_aload_n hx hb dX0_turns_59 rfl (lv_at hl 0 rfl) ?_
      obtain ⟨y25, e26, hw⟩ := hw
      refine W.eq (g2 := F0 m 60 ls [.ref y25]) (congrArg (fun z => F0 m 60 ls [va_rf z]) e26) ?_
      refine kX0_Sp_kind F hB hS hw ⟨Nat.le_of_ble_eq_true rfl, Nat.le_of_ble_eq_true rfl⟩ ⟨by show _ ≤ 1; omega, by show _ ≤ 1; omega⟩ hl.1 (Nat.le_of_ble_eq_true rfl) dX0_turns_60 (fun r27 V28 H locs hw hB hS => ?_)
      exact W.iret hx hb F.1.r (fun t ht hW => ⟨⟨_, _, rfl, hw, x_B (Bw := cB D A ad) ht hB⟩, hS.F ht⟩) hS.2.2 dX0_turns_63 (hlocks := F.1.k)
    · replace hw := hw.1 q
      refine lv_ldc hx hb F.1.o (F.1.t _ q392) dX0_turns_17 ?_
      refine W.widen (k := 1) (n := 1) (by omega) (by omega) ?_
      exact W.iret hx hb F.1.r (fun t ht hW => ⟨⟨_, _, rfl, hw, x_B (Bw := cB D A ad) ht hB⟩, hS.F ht⟩) hS.2.2 dX0_turns_19 (hlocks := F.1.k)
set_option maxHeartbeats 4000000 in
theorem mX0_turns {l : Launch} {D : DD} {A : Nat → Prop} {s0 : State} {ad : AD} {V : CV} {a1 : Int32} {a2 : Int32} {Q : Int32 → CV → Prop} (hw : wX0_turns a1 a2 V Q) : Met l yX0_turns (ws_ yX0_turns cX0_turns 4 (some .int)) rX0_turns (va_Pc [.ref (ad 0 0 0), .int a1, .int a2] (fun U => cB D A ad V U.heap ∧ CX l D A s0 U)) (va_Qi Q (fun u t => cB D A ad u t.heap) A) 1 1 A := by
  refine Met.ofW (cc := cX0_turns) (maxL := 4) (ret := some .int) (by decide) rfl ?_
  intro p e s m args below meth c s₁ B hml hv
  obtain ⟨rfl, hB, hC⟩ := hv
  have F : FX p l c cX0_turns s _ m RX0 D A s0 4 meth (some .int) := ⟨mk_FP B hml rfl, hC⟩
  have hS : va_S A s.heap s.heap [] := va_S.rf
  have hl := lv_entry ([.ref (ad 0 0 0), .int a1, .int a2]) (n := 4) (Nat.le_of_ble_eq_true rfl)
  rw [lg_entry_eq]
  generalize (lg_sl ([.ref (ad 0 0 0), .int a1, .int a2]) ++ List.replicate (4 - (lg_sl ([.ref (ad 0 0 0), .int a1, .int a2])).length) Slot.unset).toArray = ls at hl ⊢
  exact bX0_turns_0 F hB hS hw hl
def rX0_why : Room := { frames := 1, cells := 0, slots := 0, locals := 23 }
set_option maxHeartbeats 4000000 in
theorem bX0_why_0 {p : Program} {l : Launch} {e : Env} {s : State} {m : MethodId} {args : Array Value} {below : List Frame} {meth : Method} {c : Code} {D : DD} {A : Nat → Prop} {s0 : State} {ad : AD} {Q : Int32 → CV → Prop} {a1 : Int32} {V : CV} {H : Heap} {locs : List Loc} {ls : Array Slot} (F : FX p l c cX0_why s args m RX0 D A s0 2 meth (some .int)) (hB : cB D A ad V H) (hS : va_S A s.heap H locs) (hw : wX0_why a1 V Q) (hl : lv_has ls 2 [(0, .ref (ad 0 0 0)), (1, .int a1)]) : W p l e rX0_why s m args below meth c H locs 0 0 (MQ below (va_Qi Q (fun u t => cB D A ad u t.heap) A) args s 0 0 A) (F0 m 0 ls []) := by
  have hx := F.1.x
  have hb := F.1.b
  unfold wX0_why at hw
  refine lv_iload_n hx hb dX0_why_0 rfl (lv_at hl 1 rfl) ?_
  refine lv_iconst (v := 0) hx hb dX0_why_1 (by decide) ?_
  refine lv_iconst (v := 2) hx hb dX0_why_2 (by decide) ?_
  refine kX0_X0_isIn F.1 hw ⟨Nat.le_of_ble_eq_true rfl, Nat.le_of_ble_eq_true rfl⟩ ⟨Nat.zero_le _, Nat.zero_le _⟩ hl.1 (Nat.le_of_ble_eq_true rfl) dX0_why_3 (fun r1 hw => ?_)
  refine lv_if_eq (tgt := 20) hx hb dX0_why_6 (by decide) (fun q => ?_) (fun q => ?_)
  · replace hw := hw.1 q
    refine lv_ldc hx hb F.1.o (F.1.t _ q392) dX0_why_20 ?_
    exact W.iret hx hb F.1.r (fun t ht hW => ⟨⟨_, _, rfl, hw, x_B (Bw := cB D A ad) ht hB⟩, hS.F ht⟩) hS.2.2 dX0_why_22 (hlocks := F.1.k)
  · replace hw := hw.2 q
    refine lv_aload_n hx hb dX0_why_9 rfl (lv_at hl 0 rfl) ?_
    refine lv_iload_n hx hb dX0_why_10 rfl (lv_at hl 1 rfl) ?_
    refine kX0_X0_counts F hB hS hw ⟨Nat.le_of_ble_eq_true rfl, Nat.le_of_ble_eq_true rfl⟩ ⟨Nat.zero_le _, Nat.zero_le _⟩ hl.1 (Nat.le_of_ble_eq_true rfl) dX0_why_11 (fun r2 V3 H locs hw hB hS => ?_)
    refine kX0_X0_orNone F.1 hw ⟨Nat.le_of_ble_eq_true rfl, Nat.le_of_ble_eq_true rfl⟩ ⟨Nat.zero_le _, Nat.zero_le _⟩ hl.1 (Nat.le_of_ble_eq_true rfl) dX0_why_14 (fun r4 hw => ?_)
    refine lv_goto (tgt := 22) hx hb dX0_why_17 (by decide) ?_
    exact W.iret hx hb F.1.r (fun t ht hW => ⟨⟨_, _, rfl, hw, x_B (Bw := cB D A ad) ht hB⟩, hS.F ht⟩) hS.2.2 dX0_why_22 (hlocks := F.1.k)
set_option maxHeartbeats 4000000 in
theorem mX0_why {l : Launch} {D : DD} {A : Nat → Prop} {s0 : State} {ad : AD} {V : CV} {a1 : Int32} {Q : Int32 → CV → Prop} (hw : wX0_why a1 V Q) : Met l yX0_why (ws_ yX0_why cX0_why 2 (some .int)) rX0_why (va_Pc [.ref (ad 0 0 0), .int a1] (fun U => cB D A ad V U.heap ∧ CX l D A s0 U)) (va_Qi Q (fun u t => cB D A ad u t.heap) A) 0 0 A := by
  refine Met.ofW (cc := cX0_why) (maxL := 2) (ret := some .int) (by decide) rfl ?_
  intro p e s m args below meth c s₁ B hml hv
  obtain ⟨rfl, hB, hC⟩ := hv
  have F : FX p l c cX0_why s _ m RX0 D A s0 2 meth (some .int) := ⟨mk_FP B hml rfl, hC⟩
  have hS : va_S A s.heap s.heap [] := va_S.rf
  have hl := lv_entry ([.ref (ad 0 0 0), .int a1]) (n := 2) (Nat.le_of_ble_eq_true rfl)
  rw [lg_entry_eq]
  generalize (lg_sl ([.ref (ad 0 0 0), .int a1]) ++ List.replicate (2 - (lg_sl ([.ref (ad 0 0 0), .int a1])).length) Slot.unset).toArray = ls at hl ⊢
  exact bX0_why_0 F hB hS hw hl
