set_option maxRecDepth 100000
theorem x_linkF {s : State} {args : Array Value} {cls : String} {x : MethodName} {index d c : Nat} {ck : Class} {m : MethodId} (hd : s.vm.findClass cls = some d) (hc : s.vm.findClass x.cls = some c) (hck : s.vm.classes[c]? = some ck)
    (hni : ck.isInterface = true) (hf : s.methodFound? x.cls x.name x.desc = some m) (h : (Cond.methodLink cls index x).before args s = true) (pl : Platform) (hpl : pl.magicAccessors = ({} : Platform).magicAccessors)
    (hpl2 : pl.arrayCloneIsPublic = true) :
    ∃ ci, XLk s.vm pl d index ci c m ∧ s.rightAt d index (.method m) = true := by
  simp only [Cond.before, Cond.holds, Cond.value, hd, hc, hf] at h
  cases hme : s.memberEntry? cls index with
  | none => simp [hme] at h
  | some me =>
    obtain ⟨ci, via⟩ := me
    cases hcl : s.classLinks cls ci x.cls with
    | none => simp [hme, hcl] at h
    | some linked =>
      cases hdk : s.vm.classes[d]? with
      | none => simp [hme, hcl, hdk] at h
      | some dk =>
        cases hmk : s.vm.classes[m.cls]? with
        | none => simp [hme, hcl, hdk, hck, hmk] at h
        | some mk =>
          cases hmeth : s.vm.method? m with
          | none => simp [hme, hcl, hdk, hck, hmk, hmeth] at h
          | some meth =>
            simp only [hme, hcl, hdk, hck, hmk, hmeth, Option.bind_eq_bind, Option.bind_some, Option.pure_def, beq_iff_eq, bne_iff_ne, ne_eq, Option.some.injEq, Bool.and_eq_true, Option.isNone_iff_eq_none] at h
            obtain ⟨⟨⟨⟨⟨⟨⟨rfl, hnm⟩, ho⟩, hvia⟩, hx1⟩, hx2⟩, hml⟩, hacc⟩ := h
            rw [hni] at hvia
            subst hvia
            obtain ⟨cr, hcr, hlinks⟩ := State.classLinks_spec hd hcl pl hpl
            cases hc.symm.trans hcr
            obtain ⟨cp, hcp, hnames⟩ := State.names_spec hnm
            obtain ⟨dk', cf, hdk', hcf, rfl⟩ := State.poolOf?_spec hd hcp
            cases hdk.symm.trans hdk'
            obtain ⟨ci', nt, hent, hnt, -⟩ := namesOf?_method hnames
            have hent' : ci' = ci ∧ cf.constantPool[index]? = some (.interfaceMethodref ci nt) := by
              rcases hent with hent | hent
              · simp only [State.memberEntry?, hcp, Option.bind_eq_bind, Option.bind_some, hent, Option.some.injEq, Prod.mk.injEq] at hme
                exact absurd hme.2 (by simp)
              · simp only [State.memberEntry?, hcp, Option.bind_eq_bind, Option.bind_some, hent, Option.some.injEq, Prod.mk.injEq] at hme
                obtain ⟨rfl, -⟩ := hme
                exact ⟨rfl, hent⟩
            obtain ⟨rfl, hent''⟩ := hent'
            obtain ⟨k₀, hk₀, hname⟩ := Vm.findClass_spec hc
            cases hck.symm.trans hk₀
            have hpoly : ∀ y, signaturePolymorphic ck y = false := fun y => by simp [signaturePolymorphic, hname, hx1, hx2]
            have hmm' : mk.methods[m.idx]? = some meth := by simpa [Vm.method?, hmk] using hmeth
            have hne : ci' ≠ index := by
              intro he
              obtain ⟨_, cf', name', _, hd', hcf', _, hname', _⟩ := hlinks.here
              cases hdk.symm.trans hd'
              cases hcf.symm.trans hcf'
              subst he
              simp [ConstantPool.className?, hent''] at hname'
            refine ⟨ci', ⟨dk, cf, nt, x.name, x.desc, ck, mk, meth, hdk, hcf, hent'', hnt, hlinks, hne, hck, hni, hpoly, ((x_found hc hck hni hpoly m).mp hf).1, hmk, hmm', hml, ?_, State.openOr_spec hd hdk ho⟩, ?_⟩
            · rcases (Bool.or_eq_true _ _).mp hacc with h | h
              · have h4 : s.vm.Plain meth.accessFlags m.cls mk c d dk := by simpa [Vm.Plain, plainAccess, or_assoc, and_assoc] using h
                rcases h4 with h | h | h | h
                · exact Or.inl h
                · exact Or.inr (Or.inl h)
                · exact Or.inr (Or.inr (Or.inl h))
                · exact Or.inr (Or.inr (Or.inr (Or.inl h)))
              · simp only [Bool.and_eq_true, beq_iff_eq] at h
                exact Or.inr (Or.inr (Or.inr (Or.inr ⟨hpl2, h.1.1, h.1.2⟩)))
            · simp [State.rightAt, hdk, hcf, hnames, hf]
section DFS2
variable {p : Program} {l : Launch} {e : Env} {R : Room} {s : State} {m : MethodId} {args : Array Value} {below : List Frame} {meth : Method} {c : Code} {T : State} {locs : List Loc} {cells slots : Nat}
/-- a call through an interface: the reference finds r0, the receiver's class selects m' -/
theorem x_stepF (X : Stand p l e R s m args below meth c T locs cells slots) (hexec : p.tables.exec = Jvm.exec)
    {own : String} {index count : Nat} {x : MethodName} (hown : s.vm.findClass own = some m.cls) (hlink : (Cond.methodLink own index x).before args s = true)
    {cI : ClassId} {kI : Class} (hcI : s.vm.findClass x.cls = some cI) (hkI : s.vm.classes[cI]? = some kI) (hiI : kI.isInterface = true)
    {r0 m' : MethodId} {r meth' : Method} (hf : s.methodFound? x.cls x.name x.desc = some r0) (hrm : s.vm.method? r0 = some r) (hstR : r.isStatic = false)
    {a : Addr} {cell : Cell} {kcell : Class} (hcell : T.heap[a]? = some cell) (hobj : ∀ c, cell.vm ≠ .statics c) (hkcell : s.vm.classes[cell.cls]? = some kcell)
    (hinst : s.vm.assignable cell.cls cI = true)
    (hsel : selectMethod {} s.vm cell.cls r0 = .method m') (hm' : s.vm.method? m' = some meth')
    (hway : ((cell.cls :: s.vm.superclasses cell.cls).any fun k => (declaredIn s.vm r.name r.desc k).any fun (_, y) => y.isPrivate || y.isStatic) = false)
    (hpub : hasFlag meth'.accessFlags Acc.public_ = true) (habs : meth'.isAbstract = false)
    {g : JFrame} (hg : g.method = m) {argsL rest : List Value} (hlen : argsL.length = r.sig.parameters.length) (hstack : g.stack = argsL.reverse ++ .ref a :: rest)
    (hdg : decode c.code g.pc = .ok (.invokeinterface index count, 5)) :
    ∃ vm', Stand p l e R s m args below meth c (T.setVm vm') locs cells slots ∧
      ∀ target, (∀ acts, Steps p.tables e below (doInvoke e ((T.setVm vm').setTop { g with stack := rest }) acts m' (.ref a :: argsL).toArray).1 target) → Steps p.tables e below (T.setTop g) target := by
  have hpl : e.platform.magicAccessors = ({} : Platform).magicAccessors := by rw [X.admits.platform]
  obtain ⟨ci, hl, hright⟩ := x_linkF hown hcI hkI hiI hf hlink e.platform hpl (by rw [X.admits.platform])
  have hE : s.MethodEntryUp e T.vm m.cls index cI r0 ci := x_entry X.warmed hl hright
  have hselP : selectMethod e.platform s.vm cell.cls r0 = .method m' := by rw [Launch.admits_selectMethod X.admits]; exact hsel
  obtain ⟨dk, cfile, nt, _, _, ck, _, _, hd, hcf, hcp, -, -, -, hck, hvia, -⟩ := hl
  cases hkI.symm.trans hck
  have alike := hE.warmed.alike
  obtain ⟨dk₂, hdk₂, hres⟩ := hE.classReady
  obtain ⟨dk₃, hdk₃, hed⟩ := alike.2.2 _ _ hd
  cases hdk₂.symm.trans hdk₃
  obtain ⟨ck₂, hck₂, hec⟩ := alike.2.2 _ _ hck
  obtain ⟨kcell₂, hkcell₂, -⟩ := alike.2.2 _ _ hkcell
  refine ⟨T.vm.calledUp m.cls ci index cI r0, X.noted hE.warmed, fun target hrest => ?_⟩
  subst hg
  jvm_step X.here [hexec, hdg, invokeinterface.wp_coldFace (e := e) (s := T) (s₀ := s) (f := g) (count := count) X.here.top X.warmed hE hd hcf (Or.inr hcp) hck hvia,
    invokeinterface.wp_ready (e := e) (s := T.setVm (T.vm.calledUp g.method.cls ci index cI r0)) (f := g) (count := count) (r := r) (meth := meth') (m := m') (args := argsL) (rest := rest) (cell := cell) (kcell := kcell₂) (ck := dk₂) (nk := ck₂) (cf := cfile) (ci := ci) (nt := nt) (named := cI)
      X.here.top hE.ready (by show (T.vm.calledUp g.method.cls ci index cI r0).method? r0 = some r; rw [alike.method?]; exact hrm) hstR hlen hstack hcell hobj hkcell₂ hdk₂ (by rw [hed]; exact hcf) hcp hres hck₂ (by rw [hec]; exact hvia)
      (by show (T.vm.calledUp g.method.cls ci index cI r0).assignable cell.cls cI = true; rw [alike.assignable]; exact hinst)
      (by show selectMethod e.platform (T.vm.calledUp g.method.cls ci index cI r0) cell.cls r0 = .method m'; rw [alike.selectMethod]; exact hselP)
      (by show (T.vm.calledUp g.method.cls ci index cI r0).method? m' = some meth'; rw [alike.method?]; exact hm')
      (Or.inr (Or.inr (by show ((cell.cls :: (T.vm.calledUp g.method.cls ci index cI r0).superclasses cell.cls).any fun k => (declaredIn (T.vm.calledUp g.method.cls ci index cI r0) r.name r.desc k).any fun (_, y) => y.isPrivate || y.isStatic) = false; simp only [alike.superclasses, alike.declaredIn]; exact hway)))
      (Or.inl hpub) habs]
  exact hrest
/-- super.m() that lands in a default method -/
theorem x_stepSU (X : Stand p l e R s m args below meth c T locs cells slots) (hexec : p.tables.exec = Jvm.exec)
    {own owner : String} {index : Nat} {x : MethodName} (hown : s.vm.findClass own = some m.cls) (hlink : (Cond.methodLink own index x).before args s = true)
    (hsame : (Cond.sameMethod x.cls owner x.name x.desc).before args s = true) (hsup : (Cond.superclass own x.cls).before args s = true)
    {r0 : MethodId} {r : Method} (hn : s.methodNamed? ⟨owner, x.name, x.desc⟩ = some r0) (hrm : s.vm.method? r0 = some r) (hstatic : r.isStatic = false) (habs : r.isAbstract = false) (hnoinit : x.name ≠ "<init>")
    {cn : ClassId} (hcn : s.vm.findClass x.cls = some cn) (q : xLd cn r0 r0 r s.vm)
    {a : Addr} {cell : Cell} {kcell : Class} (hcell : T.heap[a]? = some cell) (hobj : ∀ c, cell.vm ≠ .statics c) (hkcell : s.vm.classes[cell.cls]? = some kcell)
    {g : JFrame} (hg : g.method = m) {argsL rest : List Value} (hlen : argsL.length = r.sig.parameters.length) (hstack : g.stack = argsL.reverse ++ .ref a :: rest)
    (hdg : decode c.code g.pc = .ok (.invokespecial index, 3)) :
    ∃ vm', Stand p l e R s m args below meth c (T.setVm vm') locs cells slots ∧
      ∀ target, Steps p.tables e below (doInvoke e ((T.setVm vm').setTop { g with stack := rest }) [] r0 (.ref a :: argsL).toArray).1 target → Steps p.tables e below (T.setTop g) target := by
  have hpl : e.platform.magicAccessors = ({} : Platform).magicAccessors := by rw [X.admits.platform]
  obtain ⟨cn', ck, r1, hcn', hck, hni, hf, hn1⟩ := Cond.sameMethod_found hsame
  cases hn.symm.trans hn1
  cases hcn.symm.trans hcn'
  obtain ⟨ps, dk, kp, hps, hdk, hkp, hsuper, -, -, hnid⟩ := Cond.superclass_spec hown hsup
  cases hcn.symm.trans hps
  obtain ⟨ci, hl, hright⟩ := Cond.methodLink_specUp hown hcn hck hni hf hlink e.platform hpl (by rw [X.admits.platform])
  obtain ⟨kr, hkr, -⟩ := className_of_methodNamed hn
  obtain ⟨hrn, hrd⟩ := name_of_methodNamed hn hrm
  obtain ⟨dk₀, cfile, nt, _, _, ck₀, _, _, hd₀, hcf, hcp, -, -, -, hc₀, -, hpoly, -⟩ := hl.here
  cases hdk.symm.trans hd₀
  cases hck.symm.trans hc₀
  have hup : s.vm.lookupUp cn x.name x.desc = some r0 := ((State.methodFound?_class hcn hck hni hpoly r0).mp hf).1
  have hfound0 : lookupSpecial s.vm cn x.name x.desc = .method r0 := by
    have := x_look hck hni (rm := r) (r := r0) (by rw [hrn, hrd]; exact hup) hrm hstatic q
    rw [hrn, hrd] at this
    exact this
  subst hg
  obtain ⟨vm', hW', st⟩ := Steps.invokeSuperColdArgs (tb := p.tables) (e := e) (s₀ := s) (U := T) (f := g) (args := argsL) (rest := rest) (a := a) (cell := cell) (m := r0) X.here hexec hdg X.warmed hl hright hdk hcf hcp hrm hck
    (by rw [hrn]; simp [hnoinit]) hstatic (by rw [hrn, hrd, hsuper]; simpa using hfound0) hnid hkr habs hlen hstack hcell hobj hkcell
  exact ⟨vm', X.noted hW', st⟩
end DFS2
