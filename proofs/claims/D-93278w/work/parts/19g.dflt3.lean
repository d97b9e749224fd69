set_option maxRecDepth 100000
/-! a method of an interface, by a reference that names a subinterface -/
def xObj (vm : Vm) (name desc : String) : Option MethodId := do
  let o ← vm.findClass "java/lang/Object"
  let i ← (← vm.classes[o]?).findMethod name desc
  let m ← vm.method? ⟨o, i⟩
  if hasFlag m.accessFlags Acc.public_ && !m.isStatic then some (⟨o, i⟩ : MethodId) else none
def xFnd (vm : Vm) (c : ClassId) (k : Class) (name desc : String) : Option MethodId :=
  match k.findMethod name desc with
  | some i => some ⟨c, i⟩
  | none => xObj vm name desc <|> lookupInSuperinterfaces vm c name desc
theorem xObj_bare (vm : Vm) (name desc : String) : xObj vm.bare name desc = xObj vm name desc := by
  unfold xObj
  simp only [Vm.findClass_bare, Vm.method?_bare]
  cases vm.findClass "java/lang/Object" with
  | none => rfl
  | some o =>
    simp only [Option.bind_eq_bind, Option.bind_some, Vm.classes_bare]
    cases vm.classes[o]? <;> rfl
theorem xFnd_bare (vm : Vm) (c : ClassId) (k : Class) (name desc : String) : xFnd vm.bare c k.bare name desc = xFnd vm c k name desc := by
  unfold xFnd
  have e1 : k.bare.findMethod name desc = k.findMethod name desc := rfl
  rw [e1, xObj_bare, lookupInSuperinterfaces_bare]
theorem xFnd_alike {vm vm' : Vm} (h : vm.Alike vm') {c : ClassId} {k k' : Class} (hk : k' = { k with resolved := k'.resolved, nestHost := k'.nestHost, nestHostError := k'.nestHostError }) (name desc : String) : xFnd vm' c k' name desc = xFnd vm c k name desc := by
  rw [← xFnd_bare vm', ← xFnd_bare vm, h.bare_eq, Class.bare_of hk]
theorem x_found {s : State} {cls name desc : String} {c : ClassId} {k : Class} (hc : s.vm.findClass cls = some c) (hk : s.vm.classes[c]? = some k) (hvia : k.isInterface = true)
    (hpoly : ∀ y, signaturePolymorphic k y = false) (m : MethodId) : s.methodFound? cls name desc = some m ↔ xFnd s.vm c k name desc = some m ∧ ∃ mk, s.vm.classes[m.cls]? = some mk := by
  simp only [State.methodFound?, hc, hk, Option.bind_eq_bind, Option.bind_some]
  have hany : ∀ j : Nat, Option.any (signaturePolymorphic k) k.methods[j]? = false := fun j => by cases k.methods[j]? <;> simp [hpoly]
  have hO : xObj s.vm name desc = xObj s.vm name desc := rfl
  conv at hO => lhs; unfold xObj
  simp only [methodIn, VmM.ask, VmM.bind_run, getClass, VmM.getVm, hk, VmM.pure_run]
  generalize (List.filter (fun (i : Nat) => Option.any (fun (x_1 : Method) => x_1.name == name) k.methods[i]?) (List.range k.methods.size)) = L
  cases hf : k.findMethod name desc with
  | some i =>
    have hF : xFnd s.vm c k name desc = some ⟨c, i⟩ := by unfold xFnd; rw [hf]
    rw [hF]
    rcases L with _ | ⟨j, _ | ⟨j', L⟩⟩ <;>
    · simp only [VmM.bind_run, VmM.getVm, hany, hvia, bne_self_eq_false, Bool.false_eq_true, if_false, Option.isSome_none, if_true]
      simp [VmM.bind_run, VmM.getVm, VmM.getEnv, VmM.mark, hk, Except.toOption]
      rintro rfl
      exact ⟨_, hk⟩
  | none =>
    have hF : xFnd s.vm c k name desc = (xObj s.vm name desc <|> lookupInSuperinterfaces s.vm c name desc) := by unfold xFnd; rw [hf]
    rw [hF]
    rcases L with _ | ⟨j, _ | ⟨j', L⟩⟩ <;>
    · simp only [VmM.bind_run, VmM.getVm, hany, hvia, bne_self_eq_false, Bool.false_eq_true, if_false, Option.isSome_none, if_true, hO]
      generalize (xObj s.vm name desc <|> lookupInSuperinterfaces s.vm c name desc) = F
      cases F with
      | none => cases namesTheOthers k name <;> simp [VmM.bind_run, VmM.getEnv, VmM.failAs, VmM.unsupported, VmM.stop, Except.toOption]
      | some x =>
        cases hx : s.vm.classes[x.cls]? with
        | none => simp [VmM.bind_run, VmM.getVm, VmM.getEnv, VmM.stop, hx, Except.toOption]; rintro rfl; simp [hx]
        | some mk => simp [VmM.bind_run, VmM.getVm, VmM.getEnv, VmM.mark, hx, Except.toOption]; rintro rfl; exact ⟨mk, hx⟩
theorem x_gives {vm : Vm} {c d : Nat} {m : MethodId} {name desc : String} {ck dk mk : Class} {meth : Method} (e : Setting)
    (hc : vm.classes[c]? = some ck) (hd : vm.classes[d]? = some dk) (hvia : ck.isInterface = true) (hpoly : ∀ y, signaturePolymorphic ck y = false)
    (hlook : xFnd vm c ck name desc = some m) (hmk : vm.classes[m.cls]? = some mk) (hm : mk.methods[m.idx]? = some meth) (hl : dk.loader = mk.loader)
    (hacc : vm.Road e.platform meth.accessFlags m.cls mk c ck name d dk) :
    (methodIn c name desc true (some d)).Gives e vm (.ok m) vm := by
  unfold methodIn
  refine (getClass_gives e hc).bind ?_
  have hany : ∀ j : Nat, Option.any (signaturePolymorphic ck) ck.methods[j]? = false := fun j => by cases ck.methods[j]? <;> simp [hpoly]
  have hgm : (getMethod m).Gives e vm (.ok meth) vm := getMethod_gives e hmk hm
  simp only [hvia, bne_self_eq_false, Bool.false_eq_true, if_false, hany]
  have hO : xObj vm name desc = xObj vm name desc := rfl
  conv at hO => lhs; unfold xObj
  generalize (List.filter (fun i => Option.any (fun x => x.name == name) ck.methods[i]?) (List.range ck.methods.size)) = L
  cases hf : ck.findMethod name desc with
  | some i =>
    have hF : xFnd vm c ck name desc = some ⟨c, i⟩ := by unfold xFnd; rw [hf]
    cases hF.symm.trans hlook
    rcases L with _ | ⟨j, _ | ⟨j', L⟩⟩ <;>
    · simp only [Option.isSome_none, Option.isNone_none, Bool.false_eq_true, if_false, Bool.and_self, if_true]
      refine VmM.Gives.getVm.bind ?_
      refine (getEnv_gives e vm).bind ?_
      split
      · rename_i hnot
        have hyes : (memberAccessible meth.accessFlags c c d).Gives e vm (.ok true) vm := by
          rcases hacc with h | h | h | ⟨h1, h2, h3, h4⟩ | ⟨h1, h2, h3⟩
          · exact memberAccessible_plain e hmk hd (Or.inl h)
          · exact memberAccessible_plain e hmk hd (Or.inr (Or.inl h))
          · exact memberAccessible_plain e hmk hd (Or.inr (Or.inr h))
          · exact memberAccessible_protected e hmk hd h1 h2 h3 h4
          · simp [h1, h2, h3] at hnot
        refine hgm.bind ?_
        refine hyes.bind ?_
        simp only [Bool.not_true, Bool.false_eq_true, if_false]
        refine (getClass_gives e hd).bind ?_
        refine (getClass_gives e hmk).bind ?_
        refine VmM.Gives.getVm.bind ?_
        refine hgm.bind ?_
        simp only [hl]
        refine (imposeConstraints_same e vm _ _ _ _).bind ?_
        refine (getClass_gives e hmk).bind ?_
        exact (VmM.Gives.mark _).bind (.pure _)
      · refine (getClass_gives e hd).bind ?_
        refine (getClass_gives e hmk).bind ?_
        refine VmM.Gives.getVm.bind ?_
        refine hgm.bind ?_
        simp only [hl]
        refine (imposeConstraints_same e vm _ _ _ _).bind ?_
        refine (getClass_gives e hmk).bind ?_
        exact (VmM.Gives.mark _).bind (.pure _)
  | none =>
    have hF : (xObj vm name desc <|> lookupInSuperinterfaces vm c name desc) = some m := by rw [← hlook]; unfold xFnd; rw [hf]
    rcases L with _ | ⟨j, _ | ⟨j', L⟩⟩ <;>
    · simp only [Option.isSome_none, Option.isNone_none, Bool.false_eq_true, if_false, Bool.and_self, if_true]
      refine VmM.Gives.getVm.bind ?_
      simp only [hO, hF, if_true]
      refine (getEnv_gives e vm).bind ?_
      split
      · rename_i hnot
        have hyes : (memberAccessible meth.accessFlags m.cls c d).Gives e vm (.ok true) vm := by
          rcases hacc with h | h | h | ⟨h1, h2, h3, h4⟩ | ⟨h1, h2, h3⟩
          · exact memberAccessible_plain e hmk hd (Or.inl h)
          · exact memberAccessible_plain e hmk hd (Or.inr (Or.inl h))
          · exact memberAccessible_plain e hmk hd (Or.inr (Or.inr h))
          · exact memberAccessible_protected e hmk hd h1 h2 h3 h4
          · simp [h1, h2, h3] at hnot
        refine hgm.bind ?_
        refine hyes.bind ?_
        simp only [Bool.not_true, Bool.false_eq_true, if_false]
        refine (getClass_gives e hd).bind ?_
        refine (getClass_gives e hmk).bind ?_
        refine VmM.Gives.getVm.bind ?_
        refine hgm.bind ?_
        simp only [hl]
        refine (imposeConstraints_same e vm _ _ _ _).bind ?_
        refine (getClass_gives e hmk).bind ?_
        exact (VmM.Gives.mark _).bind (.pure _)
      · refine (getClass_gives e hd).bind ?_
        refine (getClass_gives e hmk).bind ?_
        refine VmM.Gives.getVm.bind ?_
        refine hgm.bind ?_
        simp only [hl]
        refine (imposeConstraints_same e vm _ _ _ _).bind ?_
        refine (getClass_gives e hmk).bind ?_
        exact (VmM.Gives.mark _).bind (.pure _)
/-- what the tables hold of such a reference -/
def XLk (vm : Vm) (pl : Platform) (d : ClassId) (index ci : Nat) (c : ClassId) (m : MethodId) : Prop :=
  ∃ dk cf nt name desc ck mk meth, vm.classes[d]? = some dk ∧ dk.cf = some cf ∧ cf.constantPool[index]? = some (.interfaceMethodref ci nt) ∧ cf.constantPool.nameAndType? nt = some (name, desc) ∧
    vm.ClassLinks pl d ci c ∧ ci ≠ index ∧ vm.classes[c]? = some ck ∧ ck.isInterface = true ∧ (∀ y, signaturePolymorphic ck y = false) ∧ xFnd vm c ck name desc = some m ∧ vm.classes[m.cls]? = some mk ∧ mk.methods[m.idx]? = some meth ∧ mk.loader = none ∧
    vm.Road pl meth.accessFlags m.cls mk c ck name d dk ∧ (dk.openAt index ∨ dk.resolved[index]? = some (some (.method m)))
theorem x_resolve {vm : Vm} {d index ci c : Nat} {m : MethodId} (e : Setting) (h : XLk vm e.platform d index ci c m) :
    ∃ vm', (resolveMethod d index).Gives e vm (.ok m) vm' ∧ (vm' = vm ∨ vm' = (vm.noted d ci (.cls c)).noted d index (.method m)) ∧ vm.ClassLinks e.platform d ci c ∧ vm'.methodReady d index m := by
  obtain ⟨dk, cf, nt, name, desc, ck, mk, meth, hd, hcf, hcp, hnt, hcl, hne, hc, hvia, hpoly, hlook, hmk, hm, hml, hacc, hres⟩ := h
  have hdl : dk.loader = none := by
    obtain ⟨dk', _, _, _, hd', _, hl', _⟩ := hcl.here
    cases hd.symm.trans hd'; exact hl'
  unfold resolveMethod
  rcases hres with hopen | hdone
  · have hd₁ : (vm.noted d ci (.cls c)).classes[d]? = some (dk.noted ci (.cls c)) := Vm.classes_note_self ci (.cls c) hd
    have hopen₁ : (dk.noted ci (.cls c)).resolved[index]? = some none := by rw [Class.resolved_note_other dk (.cls c) hne]; exact hopen
    refine ⟨_, (resolveOnce_first e hd hopen (r := .method m) (vm₁ := vm.noted d ci (.cls c)) ?_).bind (.pure m), Or.inr rfl, hcl,
      _, Vm.classes_note_self index (.method m) hd₁, Class.resolved_note_self _ hopen₁⟩
    refine (memberRef_method (via := true) e hd hcf (by simpa using hcp) hnt).bind ?_
    refine (resolveClass_links e hcl).bind ?_
    have A : vm.Alike (vm.noted d ci (.cls c)) := (Vm.Alike.refl vm).noted d ci (.cls c)
    obtain ⟨ck', hc', hec⟩ := A.2.2 _ _ hc
    obtain ⟨dk', hd', hed⟩ := A.2.2 _ _ hd
    obtain ⟨mk', hmk', hem⟩ := A.2.2 _ _ hmk
    exact (x_gives e hc' hd' (by rw [hec]; exact hvia) (by rw [hec]; exact hpoly) (by rw [xFnd_alike A hec]; exact hlook) hmk' (by rw [hem]; exact hm) (by rw [hed, hem]; show dk.loader = mk.loader; rw [hdl, hml]) (hacc.alike A hem hec hed)).bind (.pure _)
  · exact ⟨vm, (resolveOnce_memo e _ hd hdone (by simp) (by simp)).bind (.pure m), Or.inl rfl, hcl, dk, hd, hdone⟩
theorem XLk.warm {s : State} {vm' : Vm} {pl : Platform} (h : s.WarmedH vm') {d index ci c : Nat} {m : MethodId} (hl : XLk s.vm pl d index ci c m) : XLk vm' pl d index ci c m := by
  obtain ⟨dk, cf, nt, name, desc, ck, mk, meth, hd, hcf, hcp, hnt, hcl, hne, hc, hvia, hpoly, hlook, hmk, hm, hml, hacc, hres⟩ := hl
  obtain ⟨dk', hd', hed⟩ := h.alike.2.2 _ _ hd
  obtain ⟨ck', hc', hec⟩ := h.alike.2.2 _ _ hc
  obtain ⟨mk', hmk', hem⟩ := h.alike.2.2 _ _ hmk
  obtain ⟨ref, hrefn, hreff⟩ : ∃ ref, cf.constantPool.className? ci = some ref ∧ s.vm.findClass ref = some c := by
    obtain ⟨dk₂, cf₂, ref, _, hd₂, hcf₂, _, hn₂, hfind₂, _⟩ := hcl.here
    cases hd.symm.trans hd₂
    cases hcf.symm.trans hcf₂
    exact ⟨ref, hn₂, hfind₂⟩
  refine ⟨dk', cf, nt, name, desc, ck', mk', meth, hd', by rw [hed]; exact hcf, hcp, hnt, h.classLinks hcl, hne, hc', by rw [hec]; exact hvia, by rw [hec]; exact hpoly, by rw [xFnd_alike h.alike hec]; exact hlook, hmk', by rw [hem]; exact hm,
    by rw [hem]; exact hml, hacc.alike h.alike hem hec hed, ?_⟩
  rcases h.entry hd hd' index with e | ⟨-, r, e1, hr⟩
  · rcases hres with hres | hres
    · exact Or.inl (e.trans hres)
    · exact Or.inr (e.trans hres)
  · refine Or.inr ?_
    have hn : namesOf? cf.constantPool index = some (.method ref name desc) := by simp [namesOf?, hcp, hnt, hrefn]
    have hfound : s.methodFound? ref name desc = some m := (x_found hreff hc hvia hpoly m).mpr ⟨hlook, mk, hmk⟩
    have hr' : r = .method m := by
      simp only [State.rightAt, hd, hcf, Option.bind_some, hn] at hr
      cases r <;> simp [hfound] at hr
      rw [hr]
    rw [e1, hr']
theorem x_entry {s : State} {e : Env} {vm₀ : Vm} {d index ci c : Nat} {m : MethodId} (hW : s.WarmedH vm₀) (hl : XLk s.vm e.platform d index ci c m) (hright : s.rightAt d index (.method m) = true) :
    s.MethodEntryUp e vm₀ d index c m ci := by
  obtain ⟨dk, _, _, _, _, _, _, _, hd, _, _, _, hcl, hne, _, _, _, _, _, _, _, _, hres⟩ := id hl
  have hclopen : dk.openAt ci ∨ dk.resolved[ci]? = some (some (.cls c)) := by
    obtain ⟨dk', _, _, _, hd', _, _, _, _, _, _, h⟩ := hcl.here
    cases hd.symm.trans hd'; exact h
  have hW₁ : s.WarmedH (vm₀.noted d ci (.cls c)) := hW.noted hd hclopen (State.rightAt_cls hcl)
  have hW₂ : s.WarmedH (vm₀.calledUp d ci index c m) := hW₁.noted hd hres hright
  have hcl₀ := hW.classLinks hcl
  have hc2 : (vm₀.noted d ci (.cls c)).classReady d ci c := hcl₀.ready
  obtain ⟨vm', hg, hor, -, hready⟩ := x_resolve e.toSetting (hl.warm hW₁)
  have hvm' : vm' = vm₀.calledUp d ci index c m := by
    rcases hor with rfl | rfl
    · exact (Vm.noted_of_methodReady hready).symm
    · rw [Vm.noted_of_classReady hc2]; rfl
  subst hvm'
  have hc3 : (vm₀.calledUp d ci index c m).classReady d ci c := Vm.classReady_noted_other hc2 (Ne.symm hne) _
  obtain ⟨vm₁, hg₁, hor₁, -, hready₁⟩ := x_resolve e.toSetting (hl.warm hW)
  have hW' : s.WarmedH vm₁ := by
    rcases hor₁ with rfl | rfl
    · exact hW
    · exact hW₂
  have hend : vm₁.noted d ci (.cls c) = vm₀.calledUp d ci index c m := by
    rcases hor₁ with rfl | rfl
    · exact (Vm.noted_of_methodReady (Vm.methodReady_noted_other hready₁ hne _)).symm
    · exact Vm.noted_of_classReady hc3
  exact ⟨hW₂, hready, hc3, ⟨vm₁, hg₁, hready₁, hW', hend ▸ resolveClass_links e.toSetting (hW'.classLinks hcl)⟩, resolveClass_links e.toSetting hcl₀, hc2, hW₁, hg⟩
