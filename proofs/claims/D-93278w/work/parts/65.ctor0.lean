set_option maxRecDepth 100000
/-! CONSTRUCTORS: a world without named cells. U.1: what lies where; U.2: the heap's size. -/
abbrev MW : Type := HM × Nat
def nw (U : MW) (e : va_E) : MW := (hset U.1 U.2 e, U.2 + 1)
def wr (U : MW) (a : Nat) (e : va_E) : MW := (hset U.1 a e, U.2)
def iB (D : DD) (A : Nat → Prop) (U : MW) (H : Heap) : Prop := gH D A (fun _ _ _ => 0) (fun _ _ _ => none) U.1 H ∧ H.size = U.2 ∧ ∀ q : Nat, U.2 ≤ q → A q
theorem iB.at {D : DD} {A : Nat → Prop} {U : MW} {H : Heap} (hB : iB D A U H) {a : Nat} {e : va_E} (hm : U.1 a = some e) : va_at D.1 vwCl (a, tr D e) H := hB.1.dyn hm
theorem iB.wr {D : DD} {A : Nat → Prop} {U : MW} {H H1 : Heap} (hB : iB D A U H) {a : Nat} {e0 e : va_E} (hm : U.1 a = some e0) (he : va_at D.1 vwCl (a, tr D e) H1) (z : H1.size = H.size) (o : ∀ q : Nat, q ≠ a → H1[q]? = H[q]?) : iB D A (wr U a e) H1 := ⟨hB.1.setD hm he o, z.trans hB.2.1, hB.2.2⟩
theorem iB.nw {D : DD} {A : Nat → Prop} {U : MW} {H H1 : Heap} (hB : iB D A U H) {e : va_E} (he : va_at D.1 vwCl (H.size, tr D e) H1) (z : H1.size = H.size + 1) (o : ∀ q : Nat, q < H.size → H1[q]? = H[q]?) : iB D A (nw U e) H1 := by
  obtain ⟨h1, h2, h3⟩ := hB
  refine ⟨?_, by rw [z, h2]; rfl, fun q hq => h3 q (Nat.le_trans (Nat.le_succ _) hq)⟩
  have := (h1.new (e := e) rfl (h3 _ (by rw [h2]; exact Nat.le_refl _)) he o).1
  show gH D A _ _ (hset U.1 U.2 e) H1
  rw [← h2]
  exact this
section CTOR
variable {p : Program} {l : Launch} {e : Env} {R : Room} {s : State} {m : MethodId} {args : Array Value} {below : List Frame} {meth : Method} {c : Code} {H : Heap} {locs : List Loc} {cells slots mc ms : Nat} {Q : State → Prop}
variable {cc bytes : ByteArray} {pc index maxL : Nat} {ls : Array Slot} {rest As st0 : List Value} {D : DD} {A : Nat → Prop} {s0 : State} {own C : String} {nL : Nat} {ret ret' : Option FieldType} {a b : Nat} {y : MethodName} {rm : Room} {U : MW}
theorem i_new (F : FX p l c cc s args m own D A s0 nL meth ret) (hB : iB D A U H) (hS : va_S A s.heap H locs) {T : u_T} {N ci : Nat} (hin : ∀ w ∈ u_ws C T N, w ∈ lw_all) {ty : Nat → FieldType} (hty : ∀ k, k < N → parseFieldDescriptor (T k).2.2.1 = some (ty k)) (h1 : Cond.classLink own index C ∈ lw_all) (h2 : Cond.instantiable C N ∈ lw_all) (h3 : Cond.initialized C ∈ lw_all) (hc : vwCl[ci]? = some (C, T, N)) {fs : List Value} (hfs : ∀ j, j < N → defaultValue (ty j) = vp_V fs j) (hcells : cells + 1 ≤ R.cells) (hslots : slots + N ≤ R.slots) (hdg : decode cc pc = .ok (.new index, 3))
    (kk : ∀ H1 : Heap, iB D A (nw U (.inr (ci, fs))) H1 → va_S A s.heap H1 locs → W p l e R s m args below meth c H1 locs (cells + 1) (slots + N) Q (F0 m (pc + 3) ls (.ref U.2 :: rest))) : W p l e R s m args below meth c H locs cells slots Q (F0 m pc ls rest) := by
  have hKn := (F.2.1).1 ci _ hc
  refine W.newcK F.1.x F.1.b F.1.o (F.1.t _ h1) (F.1.t _ h2) (F.1.t _ h3) rfl hdg hcells hslots hKn.2.1 rfl fun H1 kC hkC e1 z1 o1 => ?_
  have hk := kk H1 (hB.nw ⟨_, hc, (u_born ty F.1.t hin hKn hkC e1 hty).to hfs⟩ z1 o1) (hS.new z1 o1)
  rw [← hB.2.1] at hk
  exact hk
theorem i_newa (F : FX p l c cc s args m own D A s0 nL meth ret) (hB : iB D A U H) (hS : va_S A s.heap H locs) {atype : ArrayType} {ty : FieldType} {t : Nat} (hty : newarray.typeOf atype = ty) (harr : Cond.arrayClass ty ∈ lw_all) (ht : (tyK D)[t]? = some (D.2 t, ty)) (hRA : ∀ c : ClassId, va_RA s c ty → s.vm.findClass ("[" ++ ty.toString) = some c) {n : Int32} {N' : Nat} {a0 : vp_A} (ha : ∀ cA : ClassId, vp_cell cA a0 = arrV cA N' (fun _ => defaultValue ty)) (hn : ¬ n < 0) (hN : n.toNatClampNeg = N') (hbytes : N' * componentBytes ty ≤ 536870912) (hcells : cells + 1 ≤ R.cells) (hslots : slots + N' ≤ R.slots) (hdg : decode cc pc = .ok (.newarray atype, 2))
    (kk : ∀ H1 : Heap, iB D A (nw U (.inl (t, a0))) H1 → va_S A s.heap H1 locs → W p l e R s m args below meth c H1 locs (cells + 1) (slots + N') Q (F0 m (pc + 2) ls (.ref U.2 :: rest))) : W p l e R s m args below meth c H locs cells slots Q (F0 m pc ls (.int n :: rest)) := by
  subst hty
  refine va_newaK F.1.x F.1.b (F.1.t _ harr) rfl hdg rfl hn hN hbytes hcells hslots rfl fun H1 cA e1 z1 o1 hAr hNm => ?_
  have hcA : cA = D.2 t := Option.some.inj (hNm.symm.trans (hRA _ ((F.2.1).2 t _ ht).2))
  subst hcA
  have hk := kk H1 (hB.nw (e := .inl (t, a0)) (show H1[H.size]? = some (vp_cell _ _) by rw [ha]; exact e1) z1 o1) (hS.new z1 o1)
  rw [← hB.2.1] at hk
  exact hk
theorem i_anew (F : FX p l c cc s args m own D A s0 nL meth ret) (hB : iB D A U H) (hS : va_S A s.heap H locs) {t : Nat} (h1 : Cond.classLink own index C ∈ lw_all) (h2 : Cond.arrayOver (.object C) ∈ lw_tbl) (ht : (tyK D)[t]? = some (D.2 t, .object C)) {n : Int32} {N' : Nat} (hn : ¬ n < 0) (hN : n.toNatClampNeg = N') (hbytes : N' * 4 ≤ 536870912) (hcells : cells + 1 ≤ R.cells) (hslots : slots + N' ≤ R.slots) (hdg : decode cc pc = .ok (.anewarray index, 3))
    (kk : ∀ H1 : Heap, iB D A (nw U (.inl (t, N', .inr (.inr (.inr (.inr (fun _ => none))))))) H1 → va_S A s.heap H1 locs → W p l e R s m args below meth c H1 locs (cells + 1) (slots + N') Q (F0 m (pc + 3) ls (.ref U.2 :: rest))) : W p l e R s m args below meth c H locs cells slots Q (F0 m pc ls (.int n :: rest)) := by
  subst hN
  refine W.anew F.1.x F.1.b F.1.o (F.1.t _ h1) (va_AO.use (F.2.over h2)) rfl hdg rfl hn hbytes hcells hslots fun cA kA comp f1 f2 f3 f4 => ?_
  generalize hH1 : H.push ({ cls := cA, slots := Array.replicate n.toNatClampNeg .null, vm := .none } : Cell) = H1
  have z1 : H1.size = H.size + 1 := by rw [← hH1, Array.size_push]
  have e1 : H1[H.size]? = some (arrV cA n.toNatClampNeg (fun _ => .null)) := by rw [← hH1, Array.getElem?_push_size, ← arrV_new]
  have o1 : ∀ q : Nat, q < H.size → H1[q]? = H[q]? := fun q hq => by rw [← hH1, Array.getElem?_push, if_neg (Nat.ne_of_lt hq)]
  obtain ⟨_, _, _, _, _, g4⟩ := ((F.2.1).2 t _ ht).2
  have hcA : cA = D.2 t := Option.some.inj (f1.symm.trans g4)
  subst hcA
  have hk := kk H1 (hB.nw (e := .inl (t, n.toNatClampNeg, .inr (.inr (.inr (.inr (fun _ => none)))))) (show H1[H.size]? = some (vp_cell _ _) by rw [vp_cell_q]; exact e1) z1 o1) (hS.new z1 o1)
  rw [← hB.2.1] at hk
  exact hk
theorem i_put (F : FX p l c cc s args m own D A s0 nL meth ret) (hB : iB D A U H) (hS : va_S A s.heap H locs) {ref C : String} {T : u_T} {N ci index : Nat} (hin : ∀ w ∈ u_ws C T N, w ∈ lw_all) {ty0 : Nat → FieldType} (hty : ∀ k, k < N → parseFieldDescriptor (T k).2.2.1 = some (ty0 k)) (hnm : ∀ a, a < N → ∀ b, b < N → a ≠ b → (T a).2.1 ≠ (T b).2.1) {fs : List Value} (hm : U.1 a = some (.inr (ci, fs))) (hc : vwCl[ci]? = some (C, T, N)) (k : Nat) (hk : k < N) (hl : Cond.fieldLink own index ref (T k).2.1 (T k).2.2.1 ∈ lw_all) (hr : (T k).1 = ref) (hfin : (T k).2.2.2 = false) {ty : FieldType} {v : Value} (hd : parseFieldDescriptor (T k).2.2.1 = some ty) (hn : narrow ty v = v) (hfit : fits ty v = true) (hlen : k < fs.length) (hdg : decode cc pc = .ok (.putfield index, 3))
    (kk : ∀ (H1 : Heap) (locs1 : List Loc), iB D A (wr U a (.inr (ci, fs.set k v))) H1 → va_S A s.heap H1 locs1 → W p l e R s m args below meth c H1 locs1 cells slots Q (F0 m (pc + 3) ls rest)) : W p l e R s m args below meth c H locs cells slots Q (F0 m pc ls (v :: .ref a :: rest)) :=
  a_put F hin hty hnm (hB.at hm) hc k hk hl hr hfin hd hn hfit hlen hdg fun H1 x h1 z o => kk H1 _ (hB.wr hm h1 z o) (hS.put z o (hB.1.2.2 _ _ hm).2.1)
theorem i_putF (F : FX p l c cc s args m own D A s0 nL meth ret) (hB : iB D A U H) (hS : va_S A s.heap H locs) {ref C : String} {T : u_T} {N ci index : Nat} (hin : ∀ w ∈ u_ws C T N, w ∈ lw_all) {ty0 : Nat → FieldType} (hty : ∀ k, k < N → parseFieldDescriptor (T k).2.2.1 = some (ty0 k)) (hnm : ∀ a, a < N → ∀ b, b < N → a ≠ b → (T a).2.1 ≠ (T b).2.1) {fs : List Value} (hm : U.1 a = some (.inr (ci, fs))) (hc : vwCl[ci]? = some (C, T, N)) (k : Nat) (hk : k < N) (hl : Cond.fieldLink own index ref (T k).2.1 (T k).2.2.1 ∈ lw_all) (hr : (T k).1 = ref) (hfin : (T k).2.2.2 = true) (hin2 : meth.name = "<init>") (hdecl : (T k).1 = own) {ty : FieldType} {v : Value} (hd : parseFieldDescriptor (T k).2.2.1 = some ty) (hn : narrow ty v = v) (hfit : fits ty v = true) (hlen : k < fs.length) (hdg : decode cc pc = .ok (.putfield index, 3))
    (kk : ∀ (H1 : Heap) (locs1 : List Loc), iB D A (wr U a (.inr (ci, fs.set k v))) H1 → va_S A s.heap H1 locs1 → W p l e R s m args below meth c H1 locs1 cells slots Q (F0 m (pc + 3) ls rest)) : W p l e R s m args below meth c H locs cells slots Q (F0 m pc ls (v :: .ref a :: rest)) :=
  a_putF F hin hty hnm (hB.at hm) hc k hk hl hr hfin hin2 hdecl hd hn hfit hlen hdg fun H1 x h1 z o => kk H1 _ (hB.wr hm h1 z o) (hS.put z o (hB.1.2.2 _ _ hm).2.1)
theorem i_get (F : FX p l c cc s args m own D A s0 nL meth ret) (hB : iB D A U H) {ref C : String} {T : u_T} {N ci index : Nat} (hin : ∀ w ∈ u_ws C T N, w ∈ lw_all) {fs : List Value} (hm : U.1 a = some (.inr (ci, fs))) (hc : vwCl[ci]? = some (C, T, N)) (k : Nat) (hk : k < N) (hl : Cond.fieldLink own index ref (T k).2.1 (T k).2.2.1 ∈ lw_all) (hr : (T k).1 = ref) {v : Value} (hv : fs[k]? = some v) (hdg : decode cc pc = .ok (.getfield index, 3))
    (kk : W p l e R s m args below meth c H locs cells slots Q (F0 m (pc + 3) ls (v :: rest))) : W p l e R s m args below meth c H locs cells slots Q (F0 m pc ls (.ref a :: rest)) := a_get F hin (hB.at hm) hc k hk hl hr hv hdg kk
theorem i_aast (F : FX p l c cc s args m own D A s0 nL meth ret) (hB : iB D A U H) (hS : va_S A s.heap H locs) {t n v ci : Nat} {q : vw_C} {fs : List Value} (ht : (tyK D)[t]? = some (D.2 t, .object q.1)) (hc : vwCl[ci]? = some q) {f : Nat → Option Nat} (hm : U.1 a = some (.inl (t, n, .inr (.inr (.inr (.inr f)))))) (hv : U.1 v = some (.inr (ci, fs))) {i : Int32} (hin : vp_in i n) (hdg : decode cc pc = .ok (.aastore, 1))
    (kk : ∀ (H1 : Heap) (locs1 : List Loc), iB D A (wr U a (.inl (t, n, .inr (.inr (.inr (.inr (va_up f i.toNatClampNeg (some v)))))))) H1 → va_S A s.heap H1 locs1 → W p l e R s m args below meth c H1 locs1 cells slots Q (F0 m (pc + 1) ls rest)) : W p l e R s m args below meth c H locs cells slots Q (F0 m pc ls (.ref v :: .int i :: .ref a :: rest)) :=
  a_aast F ht (hB.at hm) (c_self F (hB.at hv) hc) hin hdg fun H1 j h1 z o => kk H1 _ (hB.wr hm h1 z o) (hS.put z o (hB.1.2.2 _ _ hm).2.1)
theorem i_iast (F : FX p l c cc s args m own D A s0 nL meth ret) (hB : iB D A U H) (hS : va_S A s.heap H locs) {n : Nat} {f : Nat → Int32} (hm : U.1 a = some (.inl (0, n, .inl f))) {i x : Int32} (hin : vp_in i n) (hdg : decode cc pc = .ok (.iastore, 1))
    (kk : ∀ (H1 : Heap) (locs1 : List Loc), iB D A (wr U a (.inl (0, n, .inl (upd f i.toNatClampNeg x)))) H1 → va_S A s.heap H1 locs1 → W p l e R s m args below meth c H1 locs1 cells slots Q (F0 m (pc + 1) ls rest)) : W p l e R s m args below meth c H locs cells slots Q (F0 m pc ls (.int x :: .int i :: .ref a :: rest)) :=
  a_iast F (hB.at hm) hin hdg fun H1 j h1 z o => kk H1 _ (hB.wr hm h1 z o) (hS.put z o (hB.1.2.2 _ _ hm).2.1)
end CTOR
