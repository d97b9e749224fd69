set_option maxRecDepth 100000
/-! further rows: arraycopy, receivers, calls of other sorts, new cells -/
def xa_Qn {S : Type} (post : Nat → S → Prop) (B : S → State → Prop) (A : Nat → Prop) : Array Value → State → Outcome → State → Prop := va_Qr (fun x : Nat × S => post x.1 x.2) (fun x a t => x.1 = a ∧ B x.2 t) A
theorem x_nn {z : Int32} (hz : ¬ z < 0) : z.toInt = (z.toNatClampNeg : Int) := by
  have hz0 : (0 : Int) ≤ z.toInt := by
    have := Int32.not_lt.mp hz
    simpa using Int32.le_iff_toInt_le.mp this
  show z.toInt = ((z.toInt.toNat : Nat) : Int)
  omega
section AROW3
variable {p : Program} {l : Launch} {e : Env} {R : Room} {s : State} {m : MethodId} {args : Array Value} {below : List Frame} {meth : Method} {c : Code} {H : Heap} {locs : List Loc} {cells slots mc ms : Nat} {Q : State → Prop}
variable {cc bytes : ByteArray} {pc index n maxL : Nat} {ls : Array Slot} {rest As st0 : List Value} {D : DD} {A : Nat → Prop} {s0 : State} {own C : String} {nL : Nat} {ret ret' : Option FieldType} {a b : Nat} {y : MethodName} {rm : Room} {ad : AD} {V : CV}
theorem a_copyi (F : FX p l c cc s args m own D A s0 nL meth ret) (hsz : ls.size = nL) (hlink : Cond.methodLink own index arraycopyName ∈ lw_all) (hnat : Cond.native arraycopyName ∈ lw_all) (hstat : Cond.static arraycopyName ∈ lw_all) (hini : Cond.initialized "java/lang/System" ∈ lw_all) (hS : va_S A s.heap H locs) (hA : A a)
    {a0 t n0 n1 : Nat} {f g : Nat → Int32} {ty : FieldType} (ht : (tyK D)[t]? = some (D.2 t, ty)) (hprim : refKind ty = false) (ha0 : va_at D.1 vwCl (a0, .inl (D.2 t, n0, .inl f)) H) (ha1 : va_at D.1 vwCl (a, .inl (D.2 t, n1, .inl g)) H)
    {sp dp n : Int32} (h1 : ¬ sp < 0) (h2 : ¬ dp < 0) (h3 : ¬ n < 0) (h4 : sp.toNatClampNeg + n.toNatClampNeg ≤ n0) (h5 : dp.toNatClampNeg + n.toNatClampNeg ≤ n1) (hfit : ∀ i, i < n.toNatClampNeg → fits ty (.int (f (sp.toNatClampNeg + i))) = true)
    (hframes : 1 ≤ R.frames) (hlocals : (rest.map fun v => v.category).sum + (nativeFrameWords "java/lang/System" "arraycopy" 5 + 11) ≤ R.locals) (hdg : decode cc pc = .ok (.invokestatic index, 3))
    (kk : ∀ (H1 : Heap) (locs1 : List Loc), va_at D.1 vwCl (a, .inl (D.2 t, n1, .inl (va_cpy f g sp.toNatClampNeg dp.toNatClampNeg n.toNatClampNeg))) H1 → H1.size = H.size → (∀ q : Nat, q ≠ a → H1[q]? = H[q]?) → va_S A s.heap H1 locs1 → W p l e R s m args below meth c H1 locs1 cells slots Q (F0 m (pc + 3) ls rest)) : W p l e R s m args below meth c H locs cells slots Q (F0 m pc ls (.int n :: .int dp :: .ref a :: .int sp :: .ref a0 :: rest)) := by
  obtain ⟨⟨hexec, hb, hml, hown, hts, -, -⟩, hC⟩ := F
  have hK := hC.1
  intro T hT X
  have hc0 : H[a0]? = some (vp_cell (D.2 t) (n0, .inl f)) := ha0
  have hc1 : H[a]? = some (vp_cell (D.2 t) (n1, .inl g)) := ha1
  obtain ⟨-, k0, hk0, cm0, hkk0⟩ := (hK.2 t _ ht).1 n0 (fun j => .int (f j))
  obtain ⟨-, k1, hk1, cm1, hkk1⟩ := (hK.2 t _ ht).1 n1 (fun j => .int (g j))
  obtain ⟨vm', X', step⟩ := X.arraycopy hexec hown (hts _ hlink) (hts _ hnat) (hts _ hstat) (hts _ hini) (src := a0) (dst := a) (cs := vp_cell (D.2 t) (n0, .inl f)) (cd := vp_cell (D.2 t) (n1, .inl g)) (srcPos := sp) (destPos := dp) (n := n) (by rw [hT]; exact hc0) (by rw [hT]; exact hc1)
    (fun _ h => by cases h) (fun _ h => by cases h) (fun h => by cases h) (fun h => by cases h) hk0 hk1 hkk0 hkk1 (by simp [hprim]) h1 h2 h3
    (by rw [x_nn h1, x_nn h3]; show ¬ _ > ((arrV (D.2 t) n0 (fun j => .int (f j))).slots.size : Int); rw [arrV_size]; omega)
    (by rw [x_nn h2, x_nn h3]; show ¬ _ > ((arrV (D.2 t) n1 (fun j => .int (g j))).slots.size : Int); rw [arrV_size]; omega)
    (fun vm₁ _ i hi => by
      have e : (vp_cell (D.2 t) (n0, .inl f)).slots.getD (sp.toNatClampNeg + i) .null = .int (f (sp.toNatClampNeg + i)) := by
        show (arrV (D.2 t) n0 (fun j => .int (f j))).slots.getD _ _ = _
        rw [Array.getD_eq_getD_getElem?, arrV_read _ _ (by omega)]
        rfl
      refine ⟨?_, ?_⟩
      · rw [e]
        exact hfit i hi
      · rw [e]
        exact trivial)
    (g := F0 m pc ls (.int n :: .int dp :: .ref a :: .int sp :: .ref a0 :: rest)) rfl (by rw [hml]; exact hsz) (rest := rest) rfl (by rw [hb]; exact hdg) hframes (by show 2 * 0 + _ + _ ≤ _; omega)
  have e1 : copied (vp_cell (D.2 t) (n0, .inl f)) (vp_cell (D.2 t) (n1, .inl g)) sp dp n = vp_cell (D.2 t) (n1, .inl (va_cpy f g sp.toNatClampNeg dp.toNatClampNeg n.toNatClampNeg)) := va_copied (fun z => .int z) (D.2 t) (D.2 t) f g h4
  rw [e1] at X' step
  have hl : a < H.size := (Array.getElem?_eq_some_iff.mp hc1).1
  have hheap : ((T.setVm vm').setCell a (vp_cell (D.2 t) (n1, .inl (va_cpy f g sp.toNatClampNeg dp.toNatClampNeg n.toNatClampNeg)))).heap = H.setIfInBounds a (vp_cell (D.2 t) (n1, .inl (va_cpy f g sp.toNatClampNeg dp.toNatClampNeg n.toNatClampNeg))) := by rw [← hT]; rfl
  have oq : ∀ q : Nat, q ≠ a → (H.setIfInBounds a (vp_cell (D.2 t) (n1, .inl (va_cpy f g sp.toNatClampNeg dp.toNatClampNeg n.toNatClampNeg))))[q]? = H[q]? := fun q hq => by simp [Array.getElem?_setIfInBounds, Ne.symm hq]
  obtain ⟨t2, a1, b1⟩ := kk _ _ (show (H.setIfInBounds a _)[a]? = some _ by simp [Array.getElem?_setIfInBounds, hl]) (by simp) oq ⟨by simp; exact hS.1, fun q g1 g2 => by
      rw [oq q (fun e => g2 (by rw [e]; exact hA))]
      exact hS.2.1 q g1 g2, fun q hq => by
      rcases List.mem_append.mp hq with h | h
      · exact hS.2.2 q h
      · obtain ⟨z, -, hz⟩ := List.mem_map.mp h
        rw [← hz]
        exact hA⟩ _ hheap X'
  exact ⟨t2, step t2 a1, b1⟩
theorem a_copyq (F : FX p l c cc s args m own D A s0 nL meth ret) (hsz : ls.size = nL) (hlink : Cond.methodLink own index arraycopyName ∈ lw_all) (hnat : Cond.native arraycopyName ∈ lw_all) (hstat : Cond.static arraycopyName ∈ lw_all) (hini : Cond.initialized "java/lang/System" ∈ lw_all) (hS : va_S A s.heap H locs) (hA : A a)
    {a0 t n0 n1 : Nat} {f g : Nat → Option Nat} {E : String} (ht : (tyK D)[t]? = some (D.2 t, .object E)) (ha0 : va_at D.1 vwCl (a0, .inl (D.2 t, n0, .inr (.inr (.inr (.inr f))))) H) (ha1 : va_at D.1 vwCl (a, .inl (D.2 t, n1, .inr (.inr (.inr (.inr g))))) H)
    {sp dp n : Int32} (h1 : ¬ sp < 0) (h2 : ¬ dp < 0) (h3 : ¬ n < 0) (h4 : sp.toNatClampNeg + n.toNatClampNeg ≤ n0) (h5 : dp.toNatClampNeg + n.toNatClampNeg ≤ n1) (hel : ∀ i : Nat, i < n.toNatClampNeg → ∀ y : Nat, f (sp.toNatClampNeg + i) = some y → va_Any E s H y)
    (hframes : 1 ≤ R.frames) (hlocals : (rest.map fun v => v.category).sum + (nativeFrameWords "java/lang/System" "arraycopy" 5 + 11) ≤ R.locals) (hdg : decode cc pc = .ok (.invokestatic index, 3))
    (kk : ∀ (H1 : Heap) (locs1 : List Loc), va_at D.1 vwCl (a, .inl (D.2 t, n1, .inr (.inr (.inr (.inr (va_cpy f g sp.toNatClampNeg dp.toNatClampNeg n.toNatClampNeg)))))) H1 → H1.size = H.size → (∀ q : Nat, q ≠ a → H1[q]? = H[q]?) → va_S A s.heap H1 locs1 → W p l e R s m args below meth c H1 locs1 cells slots Q (F0 m (pc + 3) ls rest)) : W p l e R s m args below meth c H locs cells slots Q (F0 m pc ls (.int n :: .int dp :: .ref a :: .int sp :: .ref a0 :: rest)) := by
  obtain ⟨⟨hexec, hb, hml, hown, hts, -, -⟩, hC⟩ := F
  have hK := hC.1
  intro T hT X
  have hc0 : H[a0]? = some (vp_cell (D.2 t) (n0, .inr (.inr (.inr (.inr f))))) := ha0
  have hc1 : H[a]? = some (vp_cell (D.2 t) (n1, .inr (.inr (.inr (.inr g))))) := ha1
  obtain ⟨-, k0, hk0, cm0, hkk0⟩ := (hK.2 t _ ht).1 n0 (fun j => va_rf (f j))
  obtain ⟨-, k1, hk1, cm1, hkk1⟩ := (hK.2 t _ ht).1 n1 (fun j => va_rf (g j))
  obtain ⟨vm', X', step⟩ := X.arraycopy hexec hown (hts _ hlink) (hts _ hnat) (hts _ hstat) (hts _ hini) (src := a0) (dst := a) (cs := vp_cell (D.2 t) (n0, .inr (.inr (.inr (.inr f))))) (cd := vp_cell (D.2 t) (n1, .inr (.inr (.inr (.inr g))))) (srcPos := sp) (destPos := dp) (n := n) (by rw [hT]; exact hc0) (by rw [hT]; exact hc1)
    (fun _ h => by cases h) (fun _ h => by cases h) (fun h => by cases h) (fun h => by cases h) hk0 hk1 hkk0 hkk1 rfl h1 h2 h3
    (by rw [x_nn h1, x_nn h3]; show ¬ _ > ((arrV (D.2 t) n0 (fun j => va_rf (f j))).slots.size : Int); rw [arrV_size]; omega)
    (by rw [x_nn h2, x_nn h3]; show ¬ _ > ((arrV (D.2 t) n1 (fun j => va_rf (g j))).slots.size : Int); rw [arrV_size]; omega)
    (fun vm₁ hal i hi => by
      have e : (vp_cell (D.2 t) (n0, .inr (.inr (.inr (.inr f))))).slots.getD (sp.toNatClampNeg + i) .null = va_rf (f (sp.toNatClampNeg + i)) := by
        show (arrV (D.2 t) n0 (fun j => va_rf (f j))).slots.getD _ _ = _
        rw [Array.getD_eq_getD_getElem?, arrV_read _ _ (by omega)]
        rfl
      rw [e]
      cases hy : f (sp.toNatClampNeg + i) with
      | none => exact ⟨rfl, trivial⟩
      | some y =>
        obtain ⟨cellV, g1, g2, ⟨kC, hkC⟩, g3⟩ := hel i hi y hy
        obtain ⟨kA, comp, r1, r2, r3, -⟩ := (hK.2 t _ ht).2
        cases hk1.symm.trans r1
        cases hkk1.symm.trans r2
        obtain ⟨kE, hkE, -⟩ := Vm.findClass_spec r3
        obtain ⟨kC', hkC', -⟩ := hal.2.2 _ _ hkC
        obtain ⟨kE', hkE', -⟩ := hal.2.2 _ _ hkE
        refine ⟨rfl, cellV, (show T.heap[y]? = some cellV by rw [hT]; exact g1), (fun q h => by rw [h] at g2; cases g2), ⟨kC', hkC'⟩, ?_, ?_⟩
        · exact ⟨kE', hkE'⟩
        · show vm₁.assignable _ _ = true
          rw [hal.assignable]
          exact g3 _ r3)
    (g := F0 m pc ls (.int n :: .int dp :: .ref a :: .int sp :: .ref a0 :: rest)) rfl (by rw [hml]; exact hsz) (rest := rest) rfl (by rw [hb]; exact hdg) hframes (by show 2 * 0 + _ + _ ≤ _; omega)
  have e1 : copied (vp_cell (D.2 t) (n0, .inr (.inr (.inr (.inr f))))) (vp_cell (D.2 t) (n1, .inr (.inr (.inr (.inr g))))) sp dp n = vp_cell (D.2 t) (n1, .inr (.inr (.inr (.inr (va_cpy f g sp.toNatClampNeg dp.toNatClampNeg n.toNatClampNeg))))) := by
    rw [vp_cell_q, vp_cell_q, vp_cell_q]
    exact va_copied (fun z => va_rf z) (D.2 t) (D.2 t) f g h4
  rw [e1] at X' step
  have hl : a < H.size := (Array.getElem?_eq_some_iff.mp hc1).1
  have hheap : ((T.setVm vm').setCell a (vp_cell (D.2 t) (n1, .inr (.inr (.inr (.inr (va_cpy f g sp.toNatClampNeg dp.toNatClampNeg n.toNatClampNeg))))))).heap = H.setIfInBounds a (vp_cell (D.2 t) (n1, .inr (.inr (.inr (.inr (va_cpy f g sp.toNatClampNeg dp.toNatClampNeg n.toNatClampNeg)))))) := by rw [← hT]; rfl
  have oq : ∀ q : Nat, q ≠ a → (H.setIfInBounds a (vp_cell (D.2 t) (n1, .inr (.inr (.inr (.inr (va_cpy f g sp.toNatClampNeg dp.toNatClampNeg n.toNatClampNeg)))))))[q]? = H[q]? := fun q hq => by simp [Array.getElem?_setIfInBounds, Ne.symm hq]
  obtain ⟨t2, a1, b1⟩ := kk _ _ (show (H.setIfInBounds a _)[a]? = some _ by simp [Array.getElem?_setIfInBounds, hl]) (by simp) oq ⟨by simp; exact hS.1, fun q g1 g2 => by
      rw [oq q (fun e => g2 (by rw [e]; exact hA))]
      exact hS.2.1 q g1 g2, fun q hq => by
      rcases List.mem_append.mp hq with h | h
      · exact hS.2.2 q h
      · obtain ⟨z, -, hz⟩ := List.mem_map.mp h
        rw [← hz]
        exact hA⟩ _ hheap X'
  exact ⟨t2, step t2 a1, b1⟩
/-! receivers -/
theorem c_at (F : FX p l c cc s args m own D A s0 nL meth ret) {ci : Nat} {q : vw_C} {fs : List Value} (he : va_at D.1 vwCl (a, .inr (ci, fs)) H) (hc : vwCl[ci]? = some q) : ∃ cell : Cell, H[a]? = some cell ∧ cell.vm.isStatics = false ∧ s.vm.findClass q.1 = some cell.cls := va_recv (q0 := 0) F.2.1 (at_P he) hc rfl
theorem c_any (F : FX p l c cc s args m own D A s0 nL meth ret) {ci : Nat} {q : vw_C} {fs : List Value} {E : String} (he : va_at D.1 vwCl (a, .inr (ci, fs)) H) (hc : vwCl[ci]? = some q) (hE : Cond.castable q.1 E ∈ lw_tbl) : va_Any E s H a := by
  refine va_rAny (q0 := 0) F.2.1 (at_P he) rfl hc fun comp c0 h1 h2 => ?_
  obtain ⟨x, y, f1, f2, f3⟩ := Cond.castable_spec (va_Nw.use (A := args) rfl (F.2.cast hE))
  cases h2.symm.trans f1
  cases h1.symm.trans f2
  exact f3
theorem c_self (F : FX p l c cc s args m own D A s0 nL meth ret) {ci : Nat} {q : vw_C} {fs : List Value} (he : va_at D.1 vwCl (a, .inr (ci, fs)) H) (hc : vwCl[ci]? = some q) : va_Any q.1 s H a := by
  refine va_rAny (q0 := 0) F.2.1 (at_P he) rfl hc fun comp c0 h1 h2 => ?_
  cases h1.symm.trans h2
  have h3 := (F.2.1).1 ci q hc
  cases h1.symm.trans h3.2.1
  exact va_assign h3.2
/-! calls -/
theorem k_n {S : Type} {Bw : S → Heap → Prop} {post : Nat → S → Prop} {a : Array Value} (hr : va_Run p l e R s m args below meth c H locs cells slots mc ms (F0 m pc ls st0) rest (xa_Qn post (fun u t => Bw u t.heap) A a) A) (hS : va_S A s.heap H locs)
    (kk : ∀ (r : Nat) (u : S) (H1 : Heap) (locs1 : List Loc), post r u → Bw u H1 → va_S A s.heap H1 locs1 → W p l e R s m args below meth c H1 locs1 (cells + mc) (slots + ms) Q (F0 m (pc + 3) ls (.ref r :: rest))) : W p l e R s m args below meth c H locs cells slots Q (F0 m pc ls st0) :=
  va_callr hr hS (fun _ _ h => h) (fun _ h => h) fun u r t H1 locs1 ht _ hp hb _ _ hS1 => by
    obtain ⟨h1, h2⟩ := hb
    cases h1
    exact kk u.1 u.2 H1 locs1 hp (by rw [← ht]; exact h2) hS1
/-- a constructor -/
theorem k_runI {S : Type} {Bw : S → Heap → Prop} {u0 : S} {Qc : Array Value → State → Outcome → State → Prop} (F : FX p l c cc s args m own D A s0 nL meth ret) (hB : Bw u0 H) (hS : va_S A s.heap H locs) (hM : Met l y (ws_ y bytes maxL none) rm (va_Pc (.ref b :: As) (fun U => Bw u0 U.heap ∧ CX l D A s0 U)) Qc mc ms A) (h1 : Cond.methodLink own index y ∈ lw_all) (h2 : Cond.instanceMethod y ∈ lw_all) (h4 : Cond.initialized y.cls ∈ lw_all) (h5 : Cond.code y bytes maxL none ∈ lw_all) (hy : y.name = "<init>") (hd : y.cls ≠ "java/lang/invoke/MethodHandle" ∧ y.cls ≠ "java/lang/invoke/VarHandle" ∧ (parseMethodDescriptor y.desc).map (fun d => d.parameters.length) = some n) (hR : rm.frames + 1 ≤ R.frames ∧ 8 + (maxL + 11) + rm.locals ≤ R.locals) (hz : rm.cells = mc ∧ rm.slots = ms) (hc : cells + mc ≤ R.cells ∧ slots + ms ≤ R.slots) (hn : As.length = n) (hsz : ls.size = nL) (hst : st0 = As.reverse ++ .ref b :: rest) (hW : (rest.map fun v => v.category).sum ≤ 8) (hdg : decode cc pc = .ok (.invokespecial index, 3)) : va_Run p l e R s m args below meth c H locs cells slots mc ms (F0 m pc ls st0) rest (Qc (Value.ref b :: As).toArray) A :=
  va_runI (g := F0 m pc ls st0) ⟨F.1.x, F.1.b, F.1.ml, F.1.o, F.1.t⟩ hM (cwI n F.1.t (lw_meth h5) rfl hz.1 hz.2 (F.1.t _ h4) (F.1.t _ h1) (F.1.t _ h2) hy hd hR) ⟨k_blind, fun U hU hW => ⟨rfl, by rw [hU]; exact hB, F.2.to hS hU hW⟩⟩ rfl hn hsz hst (lv_room (m := m) (pc := pc) (ls := ls) (rest := st0) hW) hdg hc
/-- .. of a nest mate -/
theorem k_runIN {S : Type} {Bw : S → Heap → Prop} {u0 : S} {Qc : Array Value → State → Outcome → State → Prop} {host : String} (F : FX p l c cc s args m own D A s0 nL meth ret) (hB : Bw u0 H) (hS : va_S A s.heap H locs) (hM : Met l y (ws_ y bytes maxL none) rm (va_Pc (.ref b :: As) (fun U => Bw u0 U.heap ∧ CX l D A s0 U)) Qc mc ms A) (h1 : Cond.methodLinkNest own index y host ∈ lw_tbl) (h2 : Cond.instanceMethod y ∈ lw_all) (h4 : Cond.initialized y.cls ∈ lw_all) (h5 : Cond.code y bytes maxL none ∈ lw_all) (hy : y.name = "<init>") (hd : y.cls ≠ "java/lang/invoke/MethodHandle" ∧ y.cls ≠ "java/lang/invoke/VarHandle" ∧ (parseMethodDescriptor y.desc).map (fun d => d.parameters.length) = some n) (hR : rm.frames + 1 ≤ R.frames ∧ 8 + (maxL + 11) + rm.locals ≤ R.locals) (hz : rm.cells = mc ∧ rm.slots = ms) (hc : cells + mc ≤ R.cells ∧ slots + ms ≤ R.slots) (hn : As.length = n) (hsz : ls.size = nL) (hst : st0 = As.reverse ++ .ref b :: rest) (hW : (rest.map fun v => v.category).sum ≤ 8) (hdg : decode cc pc = .ok (.invokespecial index, 3)) : va_Run p l e R s m args below meth c H locs cells slots mc ms (F0 m pc ls st0) rest (Qc (Value.ref b :: As).toArray) A :=
  va_runIN (g := F0 m pc ls st0) ⟨F.1.x, F.1.b, F.1.ml, F.1.o, F.1.t⟩ hM ⟨va_cnB n F.1.t (lw_meth h5) rfl hz.1 hz.2 (F.2.nestM h1) (F.1.t _ h4) hd hR, hy, F.1.t _ h2⟩ ⟨k_blind, fun U hU hW => ⟨rfl, by rw [hU]; exact hB, F.2.to hS hU hW⟩⟩ rfl hn hsz hst (lv_room (m := m) (pc := pc) (ls := ls) (rest := st0) hW) hdg hc
/-- a private static method of a nest mate -/
theorem k_runSN {S : Type} {Bw : S → Heap → Prop} {u0 : S} {Qc : Array Value → State → Outcome → State → Prop} {host : String} (F : FX p l c cc s args m own D A s0 nL meth ret) (hB : Bw u0 H) (hS : va_S A s.heap H locs) (hM : Met l y (ws_ y bytes maxL ret') rm (va_Pc As (fun U => Bw u0 U.heap ∧ CX l D A s0 U)) Qc mc ms A) (h1 : Cond.methodLinkNest own index y host ∈ lw_tbl) (h2 : Cond.static y ∈ lw_all) (h4 : Cond.initialized y.cls ∈ lw_all) (h5 : Cond.code y bytes maxL ret' ∈ lw_all) (hd : y.cls ≠ "java/lang/invoke/MethodHandle" ∧ y.cls ≠ "java/lang/invoke/VarHandle" ∧ (parseMethodDescriptor y.desc).map (fun d => d.parameters.length) = some n) (hR : rm.frames + 1 ≤ R.frames ∧ 8 + (maxL + 11) + rm.locals ≤ R.locals) (hz : rm.cells = mc ∧ rm.slots = ms) (hc : cells + mc ≤ R.cells ∧ slots + ms ≤ R.slots) (hn : As.length = n) (hsz : ls.size = nL) (hst : st0 = As.reverse ++ rest) (hW : (rest.map fun v => v.category).sum ≤ 8) (hdg : decode cc pc = .ok (.invokestatic index, 3)) : va_Run p l e R s m args below meth c H locs cells slots mc ms (F0 m pc ls st0) rest (Qc As.toArray) A :=
  va_runSN (g := F0 m pc ls st0) ⟨F.1.x, F.1.b, F.1.ml, F.1.o, F.1.t⟩ hM ⟨va_cnB n F.1.t (lw_meth h5) rfl hz.1 hz.2 (F.2.nestM h1) (F.1.t _ h4) hd hR, F.1.t _ h2, trivial⟩ ⟨k_blind, fun U hU hW => ⟨rfl, by rw [hU]; exact hB, F.2.to hS hU hW⟩⟩ rfl hn hsz hst (lv_room (m := m) (pc := pc) (ls := ls) (rest := st0) hW) hdg hc
/-! new cells -/
theorem c_new (F : FX p l c cc s args m own D A s0 nL meth ret) (hB : cB D A ad V H) (hS : va_S A s.heap H locs) {T : u_T} {N ci : Nat} (hin : ∀ w ∈ u_ws C T N, w ∈ lw_all) {ty : Nat → FieldType} (hty : ∀ k, k < N → parseFieldDescriptor (T k).2.2.1 = some (ty k)) (h1 : Cond.classLink own index C ∈ lw_all) (h2 : Cond.instantiable C N ∈ lw_all) (h3 : Cond.initialized C ∈ lw_all) (hc : vwCl[ci]? = some (C, T, N)) {fs : List Value} (hfs : ∀ j, j < N → defaultValue (ty j) = vp_V fs j) (hcells : cells + 1 ≤ R.cells) (hslots : slots + N ≤ R.slots) (hdg : decode cc pc = .ok (.new index, 3))
    (kk : ∀ (q : Nat) (H1 : Heap), vM V q = none → cB D A ad (sM V (hset (vM V) q (.inr (ci, fs)))) H1 → va_S A s.heap H1 locs → W p l e R s m args below meth c H1 locs (cells + 1) (slots + N) Q (F0 m (pc + 3) ls (.ref q :: rest))) : W p l e R s m args below meth c H locs cells slots Q (F0 m pc ls rest) := by
  have hKn := (F.2.1).1 ci _ hc
  refine W.newcK F.1.x F.1.b F.1.o (F.1.t _ h1) (F.1.t _ h2) (F.1.t _ h3) rfl hdg hcells hslots hKn.2.1 rfl fun H1 kC hkC e1 z1 o1 => ?_
  obtain ⟨g1, g2⟩ := hB.new (e := .inr (ci, fs)) (H1 := H1) rfl ⟨_, hc, (u_born ty F.1.t hin hKn hkC e1 hty).to hfs⟩ z1 o1
  exact kk H.size H1 g2 g1 (hS.new z1 o1)
theorem c_newa (F : FX p l c cc s args m own D A s0 nL meth ret) (hB : cB D A ad V H) (hS : va_S A s.heap H locs) {atype : ArrayType} {ty : FieldType} {t : Nat} (hty : newarray.typeOf atype = ty) (harr : Cond.arrayClass ty ∈ lw_all) (ht : (tyK D)[t]? = some (D.2 t, ty)) (hRA : ∀ c : ClassId, va_RA s c ty → s.vm.findClass ("[" ++ ty.toString) = some c) {n : Int32} {N' : Nat} {a0 : vp_A} (ha : ∀ cA : ClassId, vp_cell cA a0 = arrV cA N' (fun _ => defaultValue ty)) (hn : ¬ n < 0) (hN : n.toNatClampNeg = N') (hbytes : N' * componentBytes ty ≤ 536870912) (hcells : cells + 1 ≤ R.cells) (hslots : slots + N' ≤ R.slots) (hdg : decode cc pc = .ok (.newarray atype, 2))
    (kk : ∀ (q : Nat) (H1 : Heap), vM V q = none → cB D A ad (sM V (hset (vM V) q (.inl (t, a0)))) H1 → va_S A s.heap H1 locs → W p l e R s m args below meth c H1 locs (cells + 1) (slots + N') Q (F0 m (pc + 2) ls (.ref q :: rest))) : W p l e R s m args below meth c H locs cells slots Q (F0 m pc ls (.int n :: rest)) := by
  subst hty
  refine va_newaK F.1.x F.1.b (F.1.t _ harr) rfl hdg rfl hn hN hbytes hcells hslots rfl fun H1 cA e1 z1 o1 hAr hNm => ?_
  have hcA : cA = D.2 t := Option.some.inj (hNm.symm.trans (hRA _ ((F.2.1).2 t _ ht).2))
  subst hcA
  obtain ⟨g1, g2⟩ := hB.new (e := .inl (t, a0)) (H1 := H1) rfl (show H1[H.size]? = some (vp_cell _ _) by rw [ha]; exact e1) z1 o1
  exact kk H.size H1 g2 g1 (hS.new z1 o1)
end AROW3
