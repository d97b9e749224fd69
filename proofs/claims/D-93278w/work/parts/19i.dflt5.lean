set_option maxRecDepth 100000
theorem CX.flat {l : Launch} {D : DD} {A : Nat → Prop} {s0 s : State} (hC : CX l D A s0 s) {w : Cond} (hm : w ∈ flatC (Jvm.Cond.and given_1 narrow_1)) : ∃ b : Nat, w.before #[Value.ref b] s0 = true := by
  obtain ⟨b, -, hg, -⟩ := hC.2.2.2.2.2
  exact ⟨b, flat_of_before _ hg _ hm⟩
theorem CX.word {l : Launch} {D : DD} {A : Nat → Prop} {s0 s : State} {args : Array Value} (hC : CX l D A s0 s) {w : Cond} (hm : w ∈ flatC (Jvm.Cond.and given_1 narrow_1)) (hk : (w.onTables && w.keeps) = true) : w.before args s = true := by
  obtain ⟨b, h⟩ := hC.flat hm
  exact word_at hC.2.1 (Or.inl hk) h
theorem x_face {s U : State} (hW : s.WarmedH U.vm) {c : Cond} {args args' : Array Value} (hc : (c.onTables && c.keepsFace) = true) (h : c.before args s = true) : c.before args' U = true := by
  simp only [Bool.and_eq_true] at hc
  have h1 := Cond.before_shiftedFace (State.Shifted.of_warmed hW) c hc.2 h
  have e := Cond.onTables_vm (A := args) (A' := args') (U := s) (U' := U) U.vm c hc.1
  have hU : U.setVm U.vm = U := rfl
  rw [hU] at e
  rw [← e]
  exact h1
theorem CX.face {l : Launch} {D : DD} {A : Nat → Prop} {s0 s : State} {args : Array Value} (hC : CX l D A s0 s) {w : Cond} (hm : w ∈ lw_tbl) (hk : (w.onTables && w.keepsFace) = true) : w.before args s = true := by
  obtain ⟨b, h, -⟩ := hC.2.2.2.2.2
  exact x_face hC.2.1 hk (h w hm)
theorem x_foundM {s U : State} (h : s.vm.Alike U.vm) (a b d : String) : U.methodFound? a b d = s.methodFound? a b d := State.methodFound?_setVm h a b d
theorem x_namedM {s U : State} (h : s.vm.Alike U.vm) (x : MethodName) : U.methodNamed? x = s.methodNamed? x := State.methodNamed?_setVm h x
def xLand (C : String) (x y : MethodName) (s : State) : Prop := ∃ c r m rm, s.vm.findClass C = some c ∧ s.methodFound? x.cls x.name x.desc = some r ∧ s.methodNamed? y = some m ∧ s.vm.method? r = some rm ∧ xLd c r m rm s.vm
theorem CX.land {l : Launch} {D : DD} {A : Nat → Prop} {s0 s : State} (hC : CX l D A s0 s) {C : String} {x y : MethodName} (hm : Cond.landsInDefault C x y ∈ flatC (Jvm.Cond.and given_1 narrow_1)) : xLand C x y s := by
  obtain ⟨b, h⟩ := hC.flat hm
  obtain ⟨c, r, m, rm, h1, h2, h3, h4, h5⟩ := x_lands h
  have hA := hC.2.1.alike
  exact ⟨c, r, m, rm, by rw [hA.findClass]; exact h1, by rw [x_foundM hA]; exact h2, by rw [x_namedM hA]; exact h3, by rw [hA.method?]; exact h4, h5.moved hA⟩
def xFace (x y0 : MethodName) (s : State) : Prop := ∃ cL kL r, s.vm.findClass x.cls = some cL ∧ s.vm.classes[cL]? = some kL ∧ kL.isInterface = true ∧ s.methodFound? x.cls x.name x.desc = some r ∧ s.methodNamed? y0 = some r
theorem xFace.of {x : MethodName} {o : String} {s : State} {args : Array Value} (h : (Cond.interfaceMethod x.cls o x.name x.desc).before args s = true) : xFace x ⟨o, x.name, x.desc⟩ s := by
  obtain ⟨cL, kL, r1, h1, h2, h3, h4, h5⟩ := Cond.interfaceMethod_spec h
  exact ⟨cL, kL, r1, h1, h2, h3, h4, h5⟩
theorem xFace.moved {x y0 : MethodName} {s U : State} (hA : s.vm.Alike U.vm) (h : xFace x y0 s) : xFace x y0 U := by
  obtain ⟨cL, kL, r, h1, h2, h3, h4, h5⟩ := h
  obtain ⟨k', hk', he⟩ := hA.2.2 _ _ h2
  exact ⟨cL, k', r, by rw [hA.findClass]; exact h1, hk', by rw [he]; exact h3, by rw [x_foundM hA]; exact h4, by rw [x_namedM hA]; exact h5⟩
/-- what the class C selects for y0, a method of an interface of ours -/
def xSel (C : String) (y0 y : MethodName) (s : State) : Prop := ∃ c r m rm, s.vm.findClass C = some c ∧ s.methodNamed? y0 = some r ∧ s.methodNamed? y = some m ∧ s.vm.method? r = some rm ∧ selectMethod {} s.vm c r = .method m ∧
  ((c :: s.vm.superclasses c).any fun k => (declaredIn s.vm rm.name rm.desc k).any fun (_, z) => z.isPrivate || z.isStatic) = false
theorem xSel.ofLand {C : String} {y0 y : MethodName} {s : State} {args : Array Value} (hd : (Cond.declares y0).before args s = true) (hy : y0.cls ≠ "java/lang/invoke/MethodHandle" ∧ y0.cls ≠ "java/lang/invoke/VarHandle") (h : xLand C y0 y s) : xSel C y0 y s := by
  obtain ⟨c, r, m, rm, h1, h2, h3, h4, h5⟩ := h
  obtain ⟨r0, r1, hn, hrm, -⟩ := Cond.declares_spec hd
  cases (State.methodFound?_of_named hn hy).symm.trans h2
  exact ⟨c, r, m, rm, h1, hn, h3, h4, h5.1, h5.2.2.2.1⟩
theorem xSel.ofSel {C : String} {y0 y : MethodName} {s : State} {args : Array Value} (hd : (Cond.declares y0).before args s = true) (hy : y0.cls ≠ "java/lang/invoke/MethodHandle" ∧ y0.cls ≠ "java/lang/invoke/VarHandle") (h : (Cond.selects C y0 y).before args s = true) (hu : (Cond.unhidden C y0.name y0.desc).before args s = true) : xSel C y0 y s := by
  obtain ⟨c2, r2, m2, q1, q2, q3, q4, -⟩ := Cond.selects_spec h
  obtain ⟨r0, r1, hn, hrm, -⟩ := Cond.declares_spec hd
  cases (State.methodFound?_of_named hn hy).symm.trans q2
  obtain ⟨e1, e2⟩ := name_of_methodNamed hn hrm
  exact ⟨c2, r2, m2, r1, q1, hn, q3, hrm, q4, by rw [e1, e2]; exact Cond.unhidden_spec q1 hu⟩
section DFR
variable {p : Program} {l : Launch} {e : Env} {R : Room} {s : State} {m : MethodId} {args : Array Value} {below : List Frame} {meth : Method} {c : Code} {H : Heap} {locs : List Loc} {cells slots mc ms : Nat} {Q : State → Prop}
variable {cc bytes : ByteArray} {pc index count n maxL : Nat} {ls : Array Slot} {rest As st0 : List Value} {D : DD} {A : Nat → Prop} {s0 : State} {own C owner : String} {nL : Nat} {ret ret' : Option FieldType} {b : Nat} {x y y0 : MethodName} {rm : Room}
theorem x_len {x : MethodName} {n : Nat} (hd : (parseMethodDescriptor x.desc).map (fun d => d.parameters.length) = some n) {sig : MethodDescriptor} (h : parseMethodDescriptor x.desc = some sig) : n = sig.parameters.length := by
  rw [h] at hd
  exact (Option.some.inj hd).symm
theorem k_bk {S : Type} {Bw : S → Heap → Prop} {u0 : S} {Qc : Array Value → State → Outcome → State → Prop} {len : Nat} {av : List Value} (F : FX p l c cc s args m own D A s0 nL meth ret) (hM : Met l y (ws_ y bytes maxL ret') rm (va_Pc av (fun U => Bw u0 U.heap ∧ CX l D A s0 U)) Qc mc ms A) (h4 : Cond.initialized y.cls ∈ lw_all) (h5 : Cond.code y bytes maxL ret' ∈ lw_all) (hR : rm.frames + 1 ≤ R.frames ∧ 8 + (maxL + 11) + rm.locals ≤ R.locals) (hz : rm.cells = mc ∧ rm.slots = ms) :
    Back l R p e below s args y len 8 (PreOf R mc ms (va_Pc av (fun U => Bw u0 U.heap ∧ CX l D A s0 U))) (PostOf Qc mc ms A) :=
  back_of (bytes := bytes) (maxL := maxL) (ret := ret') hM k_blind hz.1 hz.2 hR.1 hR.2 (pay_in F.1.t (lw_meth h5)) List.mem_cons_self (fun a' U hW => word_at hW (Or.inl rfl) (F.1.t _ h4))
theorem k_bkU {S : Type} {Bw : S → Heap → Prop} {u0 : S} {Qc : Array Value → State → Outcome → State → Prop} {len : Nat} {av : List Value} (F : FX p l c cc s args m own D A s0 nL meth ret) (hM : MetU l y (ws_ y bytes maxL ret') rm (va_Pc av (fun U => Bw u0 U.heap ∧ CX l D A s0 U)) Qc mc ms A) (h5 : Cond.code y bytes maxL ret' ∈ lw_all) (hR : rm.frames + 1 ≤ R.frames ∧ 8 + (maxL + 11) + rm.locals ≤ R.locals) (hz : rm.cells = mc ∧ rm.slots = ms) :
    Back l R p e below s args y len 8 (PreOf R mc ms (va_Pc av (fun U => Bw u0 U.heap ∧ CX l D A s0 U))) (PostOf Qc mc ms A) :=
  back_ofU (bytes := bytes) (maxL := maxL) (ret := ret') hM k_blind hz.1 hz.2 hR.1 hR.2 (pay_in F.1.t (lw_meth h5)) List.mem_cons_self
/-- a call through an interface -/
theorem k_runFD {S : Type} {Bw : S → Heap → Prop} {u0 : S} {Qc : Array Value → State → Outcome → State → Prop} (F : FX p l c cc s args m own D A s0 nL meth ret) (hB : Bw u0 H) (hS : va_S A s.heap H locs) (hrc : ∃ cell : Cell, H[b]? = some cell ∧ cell.vm.isStatics = false ∧ s.vm.findClass C = some cell.cls)
    (hK : Back l R p e below s args y 5 8 (PreOf R mc ms (va_Pc (.ref b :: As) (fun U => Bw u0 U.heap ∧ CX l D A s0 U))) (PostOf Qc mc ms A)) (hlink : (Cond.methodLink own index x).before args s = true) (hface : xFace x y0 s) (hsel : xSel C y0 y s) (hdecl : (Cond.declares y0).before args s = true) (hcast : (Cond.castable C x.cls).before args s = true) (hpub : (Cond.publicMethod y).before args s = true)
    (h2 : Cond.instanceMethod y ∈ lw_all) (hd : (parseMethodDescriptor y0.desc).map (fun d => d.parameters.length) = some n) (hc : cells + mc ≤ R.cells ∧ slots + ms ≤ R.slots) (hn : As.length = n) (hsz : ls.size = nL) (hst : st0 = As.reverse ++ .ref b :: rest) (hW : (rest.map fun v => v.category).sum ≤ 8) (hdg : decode cc pc = .ok (.invokeinterface index count, 5)) :
    va_Run5 p l e R s m args below meth c H locs cells slots mc ms (F0 m pc ls st0) rest (Qc (Value.ref b :: As).toArray) A := by
  obtain ⟨cellB, hcB, hoB, hclB⟩ := hrc
  obtain ⟨kB, hkB, -⟩ := Vm.findClass_spec hclB
  obtain ⟨cL, kL, r, f1, f2, f3, f4, f5⟩ := hface
  obtain ⟨cB, r', mk, rmeth, g1, g2, g3, g4, g5, g6⟩ := hsel
  cases f5.symm.trans g2
  cases hclB.symm.trans g1
  obtain ⟨r0, r1, hn0, hrm, hstR, hsigR⟩ := Cond.declares_spec hdecl
  cases g2.symm.trans hn0
  cases g4.symm.trans hrm
  obtain ⟨mk', methM, hnamed, hmethM, -, habM⟩ := Cond.instanceMethod_spec (F.1.t _ h2)
  cases g3.symm.trans hnamed
  obtain ⟨c3, t3, w1, w2, w3⟩ := Cond.castable_spec hcast
  cases hclB.symm.trans w1
  cases f1.symm.trans w2
  have hpubM : hasFlag methM.accessFlags Acc.public_ = true := Cond.publicMethod_spec hnamed hmethM hpub
  intro T hT X
  obtain ⟨vm₁, X₁, hstep₁⟩ := x_stepF X F.1.x F.1.o hlink f1 f2 f3 f4 g4 hstR (a := b) (cell := cellB) (kcell := kB) (by rw [hT]; exact hcB) (fun z h => by rw [h] at hoB; cases hoB) hkB w3 g5 hmethM g6 hpubM habM (g := F0 m pc ls st0) rfl (argsL := As) (rest := rest) (hn.trans (x_len hd hsigR)) hst (by rw [F.1.b]; exact hdg)
  obtain ⟨v, ⟨U', l2, c2, s2⟩, X', ⟨g', mk2, t, L, e1, e2, hq, h1, hL, h2', h3'⟩, hsteps⟩ := hK m meth c ⟨T.setVm vm₁, locs, cells, slots⟩ { F0 m pc ls st0 with stack := rest } (.invokeinterface index count) mk (Value.ref b :: As).toArray X₁ rfl (hsz.trans F.1.ml.symm) (by rw [F.1.b]; exact hdg) (lv_room (m := m) (pc := pc) (ls := ls) (rest := st0) hW) (X₁.named hnamed) ⟨hc.1, hc.2, rfl, by show Bw u0 T.heap; rw [hT]; exact hB, F.2.to hS (U := T.setVm vm₁) hT X₁.warmed⟩
  dsimp only [Pt.U, Pt.locs, Pt.cells, Pt.slots] at X' e1 e2 h1 h2' h3' hsteps
  subst h1; subst h2'; subst h3'
  exact ⟨v, (T.setVm vm₁).calling g' mk2 (Value.ref b :: As).toArray, t, U', L, hT, X', hL, e1, e2, hq, fun target h => hstep₁ _ fun acts => by rw [doInvoke_state]; exact hsteps.trans h⟩
/-- a virtual call that lands in a default method -/
theorem k_runVD {S : Type} {Bw : S → Heap → Prop} {u0 : S} {Qc : Array Value → State → Outcome → State → Prop} (F : FX p l c cc s args m own D A s0 nL meth ret) (hB : Bw u0 H) (hS : va_S A s.heap H locs) (hrc : ∃ cell : Cell, H[b]? = some cell ∧ cell.vm.isStatics = false ∧ s.vm.findClass C = some cell.cls)
    (hK : Back l R p e below s args y 3 8 (PreOf R mc ms (va_Pc (.ref b :: As) (fun U => Bw u0 U.heap ∧ CX l D A s0 U))) (PostOf Qc mc ms A)) (hlink : (Cond.methodLink own index x).before args s = true) (hsame : (Cond.sameMethod x.cls y.cls x.name x.desc).before args s = true) (hland : xLand C x y s) (hxy : y = ⟨y.cls, x.name, x.desc⟩)
    (h2 : Cond.instanceMethod y ∈ lw_all) (h5 : Cond.code y bytes maxL ret' ∈ lw_all) (hd : y.cls ≠ "java/lang/invoke/MethodHandle" ∧ y.cls ≠ "java/lang/invoke/VarHandle" ∧ (parseMethodDescriptor y.desc).map (fun d => d.parameters.length) = some n) (hc : cells + mc ≤ R.cells ∧ slots + ms ≤ R.slots) (hn : As.length = n) (hsz : ls.size = nL) (hst : st0 = As.reverse ++ .ref b :: rest) (hW : (rest.map fun v => v.category).sum ≤ 8) (hdg : decode cc pc = .ok (.invokevirtual index, 3)) :
    va_Run p l e R s m args below meth c H locs cells slots mc ms (F0 m pc ls st0) rest (Qc (Value.ref b :: As).toArray) A := by
  obtain ⟨cellB, hcB, hoB, hclB⟩ := hrc
  obtain ⟨cB, r, mk, rmeth, g1, g2, g3, g4, g5⟩ := hland
  cases hclB.symm.trans g1
  obtain ⟨mk', methM, hnamed, hmethM, hstM, habM⟩ := Cond.instanceMethod_spec (F.1.t _ h2)
  cases g3.symm.trans hnamed
  obtain ⟨methM', cM, hmethM', -, -, -, -, -, -, hsigM⟩ := Cond.code_spec hnamed (F.1.t _ h5)
  cases hmethM.symm.trans hmethM'
  obtain ⟨cn, ck, r1, hcn, hck, hni, hf, hn1⟩ := Cond.sameMethod_found hsame
  rw [← hxy] at hn1
  cases hnamed.symm.trans hn1
  cases hf.symm.trans g2
  cases hmethM.symm.trans g4
  intro T hT X
  obtain ⟨vm₁, X₁, hstep₁⟩ := x_stepV X F.1.x F.1.o hlink hsame ⟨hd.1, hd.2.1⟩ (by rw [← hxy]; exact hnamed) hmethM hstM (a := b) (cell := cellB) (by rw [hT]; exact hcB) (fun z h => by rw [h] at hoB; cases hoB) g5 hmethM habM (g := F0 m pc ls st0) rfl (argsL := As) (rest := rest) (hn.trans (x_len hd.2.2 hsigM)) hst (by rw [F.1.b]; exact hdg)
  obtain ⟨v, ⟨U', l2, c2, s2⟩, X', ⟨g', mk2, t, L, e1, e2, hq, h1, hL, h2', h3'⟩, hsteps⟩ := hK m meth c ⟨T.setVm vm₁, locs, cells, slots⟩ { F0 m pc ls st0 with stack := rest } (.invokevirtual index) _ (Value.ref b :: As).toArray X₁ rfl (hsz.trans F.1.ml.symm) (by rw [F.1.b]; exact hdg) (lv_room (m := m) (pc := pc) (ls := ls) (rest := st0) hW) (X₁.named hnamed) ⟨hc.1, hc.2, rfl, by show Bw u0 T.heap; rw [hT]; exact hB, F.2.to hS (U := T.setVm vm₁) hT X₁.warmed⟩
  dsimp only [Pt.U, Pt.locs, Pt.cells, Pt.slots] at X' e1 e2 h1 h2' h3' hsteps
  subst h1; subst h2'; subst h3'
  exact ⟨v, (T.setVm vm₁).calling g' mk2 (Value.ref b :: As).toArray, t, U', L, hT, X', hL, e1, e2, hq, fun target h => hstep₁ _ fun acts => by rw [doInvoke_state]; exact hsteps.trans h⟩
/-- super.m() that lands in a default method -/
theorem k_runSD {S : Type} {Bw : S → Heap → Prop} {u0 : S} {Qc : Array Value → State → Outcome → State → Prop} (F : FX p l c cc s args m own D A s0 nL meth ret) (hB : Bw u0 H) (hS : va_S A s.heap H locs) (hrc : ∃ cell : Cell, H[b]? = some cell ∧ cell.vm.isStatics = false ∧ s.vm.findClass C = some cell.cls)
    (hK : Back l R p e below s args y 3 8 (PreOf R mc ms (va_Pc (.ref b :: As) (fun U => Bw u0 U.heap ∧ CX l D A s0 U))) (PostOf Qc mc ms A)) (hlink : (Cond.methodLink own index x).before args s = true) (hsame : (Cond.sameMethod x.cls y.cls x.name x.desc).before args s = true) (hland : xLand x.cls x y s) (hsup : Cond.superclass own x.cls ∈ lw_all) (hxy : y = ⟨y.cls, x.name, x.desc⟩)
    (h2 : Cond.instanceMethod y ∈ lw_all) (h5 : Cond.code y bytes maxL ret' ∈ lw_all) (hd : x.name ≠ "<init>" ∧ (parseMethodDescriptor y.desc).map (fun d => d.parameters.length) = some n) (hc : cells + mc ≤ R.cells ∧ slots + ms ≤ R.slots) (hn : As.length = n) (hsz : ls.size = nL) (hst : st0 = As.reverse ++ .ref b :: rest) (hW : (rest.map fun v => v.category).sum ≤ 8) (hdg : decode cc pc = .ok (.invokespecial index, 3)) :
    va_Run p l e R s m args below meth c H locs cells slots mc ms (F0 m pc ls st0) rest (Qc (Value.ref b :: As).toArray) A := by
  obtain ⟨cellB, hcB, hoB, hclB⟩ := hrc
  obtain ⟨kB, hkB, -⟩ := Vm.findClass_spec hclB
  obtain ⟨cB, r, mk, rmeth, g1, g2, g3, g4, g5⟩ := hland
  obtain ⟨mk', methM, hnamed, hmethM, hstM, habM⟩ := Cond.instanceMethod_spec (F.1.t _ h2)
  cases g3.symm.trans hnamed
  obtain ⟨methM', cM, hmethM', -, -, -, -, -, -, hsigM⟩ := Cond.code_spec hnamed (F.1.t _ h5)
  cases hmethM.symm.trans hmethM'
  obtain ⟨cn, ck, r1, hcn, hck, hni, hf, hn1⟩ := Cond.sameMethod_found hsame
  rw [← hxy] at hn1
  cases hnamed.symm.trans hn1
  cases hf.symm.trans g2
  cases hmethM.symm.trans g4
  intro T hT X
  obtain ⟨vm₁, X₁, hstep₁⟩ := x_stepSU X F.1.x F.1.o hlink hsame (F.1.t _ hsup) (by rw [← hxy]; exact hnamed) hmethM hstM habM hd.1 g1 g5 (a := b) (cell := cellB) (by rw [hT]; exact hcB) (fun z h => by rw [h] at hoB; cases hoB) hkB (g := F0 m pc ls st0) rfl (argsL := As) (rest := rest) (hn.trans (x_len hd.2 hsigM)) hst (by rw [F.1.b]; exact hdg)
  obtain ⟨v, ⟨U', l2, c2, s2⟩, X', ⟨g', mk2, t, L, e1, e2, hq, h1, hL, h2', h3'⟩, hsteps⟩ := hK m meth c ⟨T.setVm vm₁, locs, cells, slots⟩ { F0 m pc ls st0 with stack := rest } (.invokespecial index) _ (Value.ref b :: As).toArray X₁ rfl (hsz.trans F.1.ml.symm) (by rw [F.1.b]; exact hdg) (lv_room (m := m) (pc := pc) (ls := ls) (rest := st0) hW) (X₁.named hnamed) ⟨hc.1, hc.2, rfl, by show Bw u0 T.heap; rw [hT]; exact hB, F.2.to hS (U := T.setVm vm₁) hT X₁.warmed⟩
  dsimp only [Pt.U, Pt.locs, Pt.cells, Pt.slots] at X' e1 e2 h1 h2' h3' hsteps
  subst h1; subst h2'; subst h3'
  exact ⟨v, (T.setVm vm₁).calling g' mk2 (Value.ref b :: As).toArray, t, U', L, hT, X', hL, e1, e2, hq, fun target h => hstep₁ _ (by rw [doInvoke_state]; exact hsteps.trans h)⟩
theorem k_i5 {S : Type} {Bw : S → Heap → Prop} {post : Int32 → S → Prop} {a : Array Value} (hr : va_Run5 p l e R s m args below meth c H locs cells slots mc ms (F0 m pc ls st0) rest (va_Qi post (fun u t => Bw u t.heap) A a) A) (hS : va_S A s.heap H locs)
    (kk : ∀ (r : Int32) (u : S) (H1 : Heap) (locs1 : List Loc), post r u → Bw u H1 → va_S A s.heap H1 locs1 → W p l e R s m args below meth c H1 locs1 (cells + mc) (slots + ms) Q (F0 m (pc + 5) ls (.int r :: rest))) : W p l e R s m args below meth c H locs cells slots Q (F0 m pc ls st0) :=
  va_callFi hr hS (fun _ _ h => h) (fun _ h => h) fun r u t H1 locs1 ht _ hp hb _ _ hS1 => kk r u H1 locs1 hp (by rw [← ht]; exact hb) hS1
end DFR
