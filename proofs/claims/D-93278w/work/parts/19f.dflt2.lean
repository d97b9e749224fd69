set_option maxRecDepth 100000
section DFV
variable {E : CtlPost} {e : Env} {d : Bool} {acts : List Action} {s : State} {f : JFrame}
theorem x_selV {Q : Selection → Pre} {c : ClassId} {r m : MethodId} {rmeth meth : Method} {mk : Class} (hsel : selectMethod e.platform s.vm c r = .method m) (q : xLd c r m rmeth s.vm) (hrm : s.vm.method? r = some rmeth) (hm : s.vm.method? m = some meth) (hmk : s.vm.classes[m.cls]? = some mk) :
    wp (invokeinterface.selectVirtual c r) Q E e d acts s ↔ Q (.method m) d acts s := by
  have hi : mk.isInterface = true := by have := q.2.1; rw [hmk] at this; exact this
  have q5 := q.2.2.2.2.1
  have q6 := q.2.2.2.2.2
  cases hn : nearestHeld s.vm c rmeth.name rmeth.desc with
  | none => simp [invokeinterface.selectVirtual, hrm, selectFor_method hsel hm, hmk, hi, hn]
  | some z =>
    obtain ⟨k, w⟩ := z
    cases w with
    | default dd =>
      cases q5 _ _ hn
      simp [invokeinterface.selectVirtual, hrm, selectFor_method hsel hm, hmk, hi, hn]
    | thrower b => exact absurd hn (q6 _ _)
    | nothing => simp [invokeinterface.selectVirtual, hrm, selectFor_method hsel hm, hmk, hi, hn]
theorem x_wpV {Q : Unit → Pre} {index a : Nat} {r m : MethodId} {c' : ClassId} {k k' mk : Class} {rmeth meth : Method} {args rest : List Value} {cell : Cell}
    (hs : s.topJava?.isSome) (hnamed : namesResolved s.vm f.method.cls index c') (hk' : s.vm.classes[c']? = some k') (hclass : k'.isInterface = false)
    (hr : s.vm.methodReady f.method.cls index r)
    (hk : s.vm.classes[r.cls]? = some k) (hrm : s.vm.method? r = some rmeth) (hpoly : signaturePolymorphic k rmeth = false)
    (hstatic : rmeth.isStatic = false)
    (hlen : args.length = rmeth.sig.parameters.length) (hstack : f.stack = args.reverse ++ .ref a :: rest)
    (hcell : s.heap[a]? = some cell) (hobj : ∀ c, cell.vm ≠ .statics c)
    (hsel : selectMethod e.platform s.vm cell.cls r = .method m) (q : xLd cell.cls r m rmeth s.vm) (hm : s.vm.method? m = some meth) (habs : meth.isAbstract = false)
    (hmk : s.vm.classes[m.cls]? = some mk) :
    wp (invokevirtual.sem index) Q E e d acts (s.setTop f) ↔
      E (.invoke m (.ref a :: args).toArray) acts (s.setTop { f with stack := rest }) := by
  obtain ⟨kc, cf, ci, n, h1, h2, h3, h4⟩ := hnamed
  have hpre : ∀ {Q' : ClassId → Pre}, wp (Jvm.refClassAt index) Q' E e d acts (s.setTop f) ↔ Q' c' d acts (s.setTop f) := by
    intro Q'
    rcases h3 with h3 | h3 <;>
      simp [Jvm.refClassAt, Jvm.constantAt, State.method?_setTop f hs, h1, h2, h3, W.resolveClassAt_ready (State.method?_setTop f hs) h4]
  simp only [invokevirtual.sem, wp_bind', hpre, W.theClass, State.vm_setTop, hk', Option.some.injEq, exists_eq_left', W.ite, hclass, Bool.false_eq_true, if_false, wp_pure',
    W.resolveMethodAt_ready (State.method?_setTop f hs) hr]
  simp only [W.theMethod, State.vm_setTop, hrm, Option.some.injEq, exists_eq_left', Seam.isPolymorphic, wp_bind', W.theClass, hk, wp_pure', hpoly,
    W.ite, Bool.false_eq_true, if_false, hstatic, Jvm.popArgs, ← hlen, popN_top hs hstack]
  simp [hs, hcell, hobj, x_selV (s := s.setTop _) (show selectMethod e.platform (s.setTop _).vm cell.cls r = .method m from hsel) q hrm hm hmk, hm, habs]
end DFV
section DFS
variable {p : Program} {l : Launch} {e : Env} {R : Room} {s : State} {m : MethodId} {args : Array Value} {below : List Frame} {meth : Method} {c : Code} {T : State} {locs : List Loc} {cells slots : Nat}
/-- a virtual call that lands in a default method -/
theorem x_stepV (X : Stand p l e R s m args below meth c T locs cells slots) (hexec : p.tables.exec = Jvm.exec)
    {own owner : String} {index : Nat} {x : MethodName} (hown : s.vm.findClass own = some m.cls) (hlink : (Cond.methodLink own index x).before args s = true)
    (hsame : (Cond.sameMethod x.cls owner x.name x.desc).before args s = true) (howner : owner ≠ "java/lang/invoke/MethodHandle" ∧ owner ≠ "java/lang/invoke/VarHandle")
    {r0 : MethodId} {r : Method} (hn : s.methodNamed? ⟨owner, x.name, x.desc⟩ = some r0) (hrm : s.vm.method? r0 = some r) (hstatic : r.isStatic = false)
    {a : Addr} {cell : Cell} (hcell : T.heap[a]? = some cell) (hobj : ∀ c, cell.vm ≠ .statics c)
    {m' : MethodId} {meth' : Method} (q : xLd cell.cls r0 m' r s.vm) (hm' : s.vm.method? m' = some meth') (habs : meth'.isAbstract = false)
    {g : JFrame} (hg : g.method = m) {argsL rest : List Value} (hlen : argsL.length = r.sig.parameters.length) (hstack : g.stack = argsL.reverse ++ .ref a :: rest)
    (hdg : decode c.code g.pc = .ok (.invokevirtual index, 3)) :
    ∃ vm', Stand p l e R s m args below meth c (T.setVm vm') locs cells slots ∧
      ∀ target, (∀ acts, Steps p.tables e below (doInvoke e ((T.setVm vm').setTop { g with stack := rest }) acts m' (.ref a :: argsL).toArray).1 target) → Steps p.tables e below (T.setTop g) target := by
  have hpl : e.platform.magicAccessors = ({} : Platform).magicAccessors := by rw [X.admits.platform]
  obtain ⟨cn, ck, r1, hcn, hck, hni, hf, hn1⟩ := Cond.sameMethod_found hsame
  cases hn.symm.trans hn1
  obtain ⟨ci, hl, hright⟩ := Cond.methodLink_specUp hown hcn hck hni hf hlink e.platform hpl (by rw [X.admits.platform])
  have hE : s.MethodEntryUp e T.vm m.cls index cn r0 ci := State.methodEntryUp X.warmed hl hright
  obtain ⟨kr, hkr, hnr⟩ := className_of_methodNamed hn
  obtain ⟨dk, cfile, nt, _, _, _, _, _, hd, hcf, hcp, -⟩ := hl.here
  have alike := hE.warmed.alike
  obtain ⟨dk₂, hdk₂, hres⟩ := hE.classReady
  obtain ⟨dk₃, hdk₃, hed⟩ := alike.2.2 _ _ hd
  cases hdk₂.symm.trans hdk₃
  obtain ⟨kr₂, hkr₂, her⟩ := alike.2.2 _ _ hkr
  obtain ⟨ck₂, hck₂, hec⟩ := alike.2.2 _ _ hck
  obtain ⟨mk, hmk⟩ : ∃ mk, s.vm.classes[m'.cls]? = some mk := by
    cases h : s.vm.classes[m'.cls]? with
    | none => have := q.2.1; rw [h] at this; cases this
    | some mk => exact ⟨mk, rfl⟩
  obtain ⟨mk₂, hmk₂, hem⟩ := alike.2.2 _ _ hmk
  have hselP : selectMethod e.platform s.vm cell.cls r0 = .method m' := by rw [Launch.admits_selectMethod X.admits]; exact q.1
  refine ⟨T.vm.calledUp m.cls ci index cn r0, X.noted hE.warmed, fun target hrest => ?_⟩
  subst hg
  jvm_step X.here [hexec, hdg, invokevirtual.wp_coldUp (e := e) (s := T) (s₀ := s) (f := g) X.here.top X.warmed hE hd hcf (Or.inl hcp) hck hni,
    x_wpV (e := e) (s := T.setVm (T.vm.calledUp g.method.cls ci index cn r0)) (f := g) (r := r0) (m := m') (c' := cn) (k := kr₂) (k' := ck₂) (mk := mk₂) (rmeth := r) (meth := meth') (a := a) (args := argsL) (rest := rest) (cell := cell)
      X.here.top ⟨dk₂, cfile, ci, nt, hdk₂, by rw [hed]; exact hcf, Or.inl hcp, dk₂, hdk₂, hres⟩ hck₂ (by rw [hec]; exact hni) hE.ready hkr₂
      (by show (T.vm.calledUp g.method.cls ci index cn r0).method? r0 = some r; rw [alike.method?]; exact hrm)
      (by rw [her]; show signaturePolymorphic kr r = false; simp [signaturePolymorphic, hnr, howner.1, howner.2]) hstatic hlen hstack hcell hobj
      (by show selectMethod e.platform (T.vm.calledUp g.method.cls ci index cn r0) cell.cls r0 = .method m'; rw [alike.selectMethod]; exact hselP)
      (q.moved alike)
      (by show (T.vm.calledUp g.method.cls ci index cn r0).method? m' = some meth'; rw [alike.method?]; exact hm') habs hmk₂]
  exact hrest
theorem x_noSel (vm : Vm) (mR : MethodId) (n d : String) : ∀ (fuel : Nat) (c : ClassId), lookupInSuperclasses vm n d fuel c = none → selectInSuperclasses vm mR n d fuel c = none := by
  intro fuel
  induction fuel with
  | zero => intro c _; rfl
  | succ fuel ih =>
    intro c h
    unfold lookupInSuperclasses at h
    unfold selectInSuperclasses
    cases hk : vm.classes[c]? with
    | none => rfl
    | some k =>
      simp only [hk, Option.bind_eq_bind, Option.bind_some] at h ⊢
      cases hf : k.findMethod n d with
      | some i => simp [hf] at h
      | none =>
        simp only [hf, Option.bind_none] at h ⊢
        cases hs : k.super with
        | none => rfl
        | some z =>
          rw [hs] at h
          simp only [Option.bind_some] at h ⊢
          rw [ih z h]
          rfl
theorem x_noAbove (vm : Vm) (n d : String) : ∀ (fuel : Nat) (c : ClassId), lookupInSuperclasses vm n d (fuel + 1) c = none → (vm.classes[c]?.bind (·.findMethod n d)) = none ∧ ∀ k ∈ vm.superclassesAux fuel c, (vm.classes[k]?.bind (·.findMethod n d)) = none := by
  intro fuel
  induction fuel with
  | zero =>
    intro c h
    refine ⟨?_, fun k hk => by simp [Vm.superclassesAux] at hk⟩
    unfold lookupInSuperclasses at h
    cases hk : vm.classes[c]? with
    | none => rfl
    | some k =>
      simp only [hk, Option.bind_eq_bind, Option.bind_some] at h ⊢
      cases hf : k.findMethod n d with
      | some i => simp [hf] at h
      | none => rfl
  | succ fuel ih =>
    intro c h
    unfold lookupInSuperclasses at h
    cases hk : vm.classes[c]? with
    | none => exact ⟨rfl, fun k hk' => by simp [Vm.superclassesAux, hk] at hk'⟩
    | some k =>
      simp only [hk, Option.bind_eq_bind, Option.bind_some] at h ⊢
      cases hf : k.findMethod n d with
      | some i => simp [hf] at h
      | none =>
        refine ⟨rfl, ?_⟩
        simp only [hf] at h
        cases hs : k.super with
        | none => intro q hq; simp [Vm.superclassesAux, hk, hs] at hq
        | some z =>
          rw [hs, Option.bind_some] at h
          obtain ⟨h1, h2⟩ := ih z h
          intro q hq
          simp only [Vm.superclassesAux, hk, hs, Option.bind_some] at hq
          rcases List.mem_cons.mp hq with rfl | hq
          · exact h1
          · exact h2 q hq
theorem x_pig : ∀ (N : Nat) (g : Nat → Nat), (∀ i, i ≤ N → g i < N) → ∃ i j, i < j ∧ j ≤ N ∧ g i = g j := by
  intro N
  induction N with
  | zero => intro g h; exact absurd (h 0 (Nat.le_refl _)) (Nat.not_lt_zero _)
  | succ N ih =>
    intro g h
    by_cases hx : ∃ i, i ≤ N ∧ g i = g (N + 1)
    · obtain ⟨i, h1, h2⟩ := hx
      exact ⟨i, N + 1, by omega, Nat.le_refl _, h2⟩
    · have hx' : ∀ i, i ≤ N → g i ≠ g (N + 1) := fun i h1 h2 => hx ⟨i, h1, h2⟩
      obtain ⟨i, j, h1, h2, h3⟩ := ih (fun i => if g i = N then g (N + 1) else g i) (by
        intro i hi
        have a := h i (by omega)
        have b := h (N + 1) (Nat.le_refl _)
        have c := hx' i hi
        split <;> omega)
      refine ⟨i, j, h1, by omega, ?_⟩
      have a := hx' i (by omega)
      have b := hx' j (by omega)
      split at h3 <;> split at h3 <;> omega
def xIt (vm : Vm) (c : ClassId) : Nat → Option ClassId
  | 0 => some c
  | i + 1 => (xIt vm c i).bind fun k => (vm.classes[k]?).bind (·.super)
theorem xIt_shift (vm : Vm) {c c' : ClassId} : ∀ (j : Nat) (i : Nat), xIt vm c i = some c' → xIt vm c (i + j) = xIt vm c' j := by
  intro j
  induction j with
  | zero => intro i h; exact h
  | succ j ih => intro i h; show (xIt vm c (i + j)).bind _ = (xIt vm c' j).bind _; rw [ih i h]
theorem xIt_mem (vm : Vm) : ∀ (fuel : Nat) (c k : ClassId), k ∈ vm.superclassesAux fuel c ↔ ∃ i, 1 ≤ i ∧ i ≤ fuel ∧ xIt vm c i = some k := by
  intro fuel
  induction fuel with
  | zero =>
    intro c k
    constructor
    · intro h; simp [Vm.superclassesAux] at h
    · rintro ⟨i, h1, h2, -⟩; omega
  | succ fuel ih =>
    intro c k
    unfold Vm.superclassesAux
    cases hs : vm.classes[c]?.bind (·.super) with
    | none =>
      constructor
      · intro h; simp at h
      · rintro ⟨i, h1, h2, h3⟩
        obtain ⟨j, rfl⟩ : ∃ j, i = 1 + j := ⟨i - 1, by omega⟩
        exfalso
        have h1 : xIt vm c 1 = none := hs
        have : ∀ j, xIt vm c (1 + j) = none := by
          intro j
          induction j with
          | zero => exact h1
          | succ j ihj => show (xIt vm c (1 + j)).bind _ = none; rw [ihj]; rfl
        rw [this j] at h3
        cases h3
    | some z =>
      have h1 : xIt vm c 1 = some z := hs
      constructor
      · intro h
        rcases List.mem_cons.mp h with rfl | h
        · exact ⟨1, Nat.le_refl _, by omega, h1⟩
        · obtain ⟨i, a1, a2, a3⟩ := (ih z k).mp h
          exact ⟨1 + i, by omega, by omega, by rw [xIt_shift vm i 1 h1]; exact a3⟩
      · rintro ⟨i, a1, a2, a3⟩
        obtain ⟨j, rfl⟩ : ∃ j, i = 1 + j := ⟨i - 1, by omega⟩
        rw [xIt_shift vm j 1 h1] at a3
        by_cases hj : j = 0
        · subst hj
          cases a3
          exact List.mem_cons_self
        · exact List.mem_cons_of_mem _ ((ih z k).mpr ⟨j, by omega, by omega, a3⟩)
theorem xIt_back (vm : Vm) {c k : ClassId} : ∀ (d i : Nat), xIt vm c (i + d) = some k → ∃ k', xIt vm c i = some k' := by
  intro d
  induction d generalizing k with
  | zero => intro i h; exact ⟨k, h⟩
  | succ d ih =>
    intro i h
    have h' : (xIt vm c (i + d)).bind (fun k => (vm.classes[k]?).bind (·.super)) = some k := h
    cases hx : xIt vm c (i + d) with
    | none => rw [hx] at h'; cases h'
    | some y => exact ih i hx
/-- the last of the superclasses stands earlier too -/
theorem x_last (vm : Vm) {c k : ClassId} (h : k ∈ vm.superclassesAux (vm.classes.size + 1) c) : k = c ∨ k ∈ vm.superclassesAux vm.classes.size c := by
  obtain ⟨i, h1, h2, h3⟩ := (xIt_mem vm _ c k).mp h
  by_cases hi : i ≤ vm.classes.size
  · exact Or.inr ((xIt_mem vm _ c k).mpr ⟨i, h1, hi, h3⟩)
  · have hi' : i = vm.classes.size + 1 := by omega
    have hall : ∀ j, j ≤ vm.classes.size → ∃ y, xIt vm c j = some y ∧ y < vm.classes.size := by
      intro j hj
      have h4 : xIt vm c ((j + 1) + (vm.classes.size - j)) = some k := by rw [show (j + 1) + (vm.classes.size - j) = i by omega]; exact h3
      obtain ⟨y', hy'⟩ := xIt_back vm _ _ h4
      have h5 : (xIt vm c j).bind (fun k => (vm.classes[k]?).bind (·.super)) = some y' := hy'
      cases hx : xIt vm c j with
      | none => rw [hx] at h5; cases h5
      | some y =>
        refine ⟨y, rfl, ?_⟩
        rw [hx, Option.bind_some] at h5
        cases hk : vm.classes[y]? with
        | none => rw [hk] at h5; cases h5
        | some ky => exact (Array.getElem?_eq_some_iff.mp hk).1
    obtain ⟨a, b, hab, hb, hg⟩ := x_pig vm.classes.size (fun j => (xIt vm c j).getD 0) (by
      intro j hj
      obtain ⟨y, e1, e2⟩ := hall j hj
      rw [e1]; exact e2)
    obtain ⟨ya, ea, -⟩ := hall a (by omega)
    obtain ⟨yb, eb, -⟩ := hall b hb
    rw [ea, eb] at hg
    have hg' : ya = yb := hg
    subst hg'
    have e3 : xIt vm c (b + (i - b)) = some k := by rw [show b + (i - b) = i by omega]; exact h3
    rw [xIt_shift vm _ b eb, ← xIt_shift vm _ a ea] at e3
    by_cases h0 : a + (i - b) = 0
    · rw [h0] at e3; exact Or.inl (Option.some.inj e3).symm
    · exact Or.inr ((xIt_mem vm _ c k).mpr ⟨a + (i - b), by omega, by omega, e3⟩)
/-- super.m() that lands in a default method: the lookup -/
theorem x_look {vm : Vm} {c : ClassId} {k : Class} {r : MethodId} {rm : Method} (hk : vm.classes[c]? = some k) (hni : k.isInterface = false) (hl : vm.lookupUp c rm.name rm.desc = some r) (hm : vm.method? r = some rm) (hst : rm.isStatic = false) (q : xLd c r r rm vm) : lookupSpecial vm c rm.name rm.desc = .method r := by
  cases hx : lookupInSuperclasses vm rm.name rm.desc (vm.classes.size + 1) c with
  | some z => exact lookupSpecial_of_lookupUp hk hni hl (by rw [hx]; rfl) hm hst
  | none =>
    obtain ⟨h1, h2⟩ := x_noAbove vm rm.name rm.desc vm.classes.size c hx
    have h3 : superclassMethods vm c rm.name rm.desc = [] := by
      unfold superclassMethods
      rw [List.filterMap_eq_nil_iff]
      intro y hy
      rcases x_last vm hy with rfl | hy
      · rw [h1]; rfl
      · rw [h2 y hy]; rfl
    have hs : selectInSuperclasses vm r rm.name rm.desc (vm.classes.size + 1) c = none := x_noSel vm r _ _ _ _ hx
    have q1 := q.1
    unfold selectMethod at q1
    simp only [hm, q.2.2.1, hs, Bool.false_eq_true, if_false] at q1
    have q2 := q.2.1
    simp only [q2, Bool.not_true, Bool.and_false, Bool.false_eq_true, if_false] at q1
    unfold lookupSpecial
    simp only [h1, h3, Option.map_none, Option.toList_none, List.nil_append, List.filter_nil, List.find?_nil]
    split at q1
    · cases q1
    · exact q1
end DFS
