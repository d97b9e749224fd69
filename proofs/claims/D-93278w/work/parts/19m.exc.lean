set_option maxRecDepth 100000
/-! EXCEPTIONS. WT: a is being thrown, the walk's own frame g is not yet searched. MetY: a contract whose method returns or throws. -/
def WT (p : Program) (l : Launch) (e : Env) (R : Room) (s : State) (m : MethodId) (args : Array Value) (below : List Frame) (meth : Method) (c : Code) (H : Heap) (locs : List Loc) (cells slots : Nat) (Q : State → Prop) (g : JFrame) (a : Addr) : Prop :=
  ∀ T : State, T.heap = H → Stand p l e R s m args below meth c T locs cells slots → ∃ t, Steps p.tables e below ((T.setTop g).pushFrame (.throwing a)) t ∧ Q t
def XF (st t : State) (L : List Loc) (mc ms : Nat) : Prop := st.WarmedH t.vm ∧ st.sameButNew ({ t with vm := st.vm } : State) L mc ms
def YQ (QX : Array Value → State → Outcome → State → Prop) (mc ms : Nat) (free : Addr → Prop) : Array Value → State → Outcome → State → Prop := fun a st o t => QX a st o t ∧ ∃ L, XF st t L mc ms ∧ ∀ q ∈ L, free q.base
def MetY (l : Launch) (y : MethodName) (ws : List Cond) (rm : Room) (Pc : Array Value → State → Prop) (QX : Array Value → State → Outcome → State → Prop) (mc ms : Nat) (free : Addr → Prop) : Prop := MetX l y ws rm Pc (YQ QX mc ms free)
def XMQ (below : List Frame) (QX : Array Value → State → Outcome → State → Prop) (a : Array Value) (s : State) (mc ms : Nat) (free : Addr → Prop) : State → Prop := XQ below (YQ QX mc ms free) a s
/-- the end of a method that throws: what it says of the exception (K) and of the world (E) -/
def yE {S : Type} (E : S → Prop) (K : Nat → State → Prop) (B : S → State → Prop) (A : Nat → Prop) : State → Outcome → State → Prop := fun st oc t => (∃ (x : Nat) (u : S), oc = .threw x ∧ E u ∧ K x t ∧ B u t) ∧ va_F A st t
def yQ {S : Type} (Qc : Array Value → State → Outcome → State → Prop) (E : S → Prop) (K : Nat → State → Prop) (B : S → State → Prop) (A : Nat → Prop) : Array Value → State → Outcome → State → Prop := fun a st o t => Qc a st o t ∨ yE E K B A st o t
theorem va_Any.moved {E : String} {s U : State} {H : Heap} {a : Nat} (hA : s.vm.Alike U.vm) (h : va_Any E s H a) : va_Any E U H a := by
  obtain ⟨cell, h1, h2, ⟨k, h3⟩, h4⟩ := h
  obtain ⟨k', hk', -⟩ := hA.2.2 _ _ h3
  refine ⟨cell, h1, h2, ⟨k', hk'⟩, fun comp hc => ?_⟩
  rw [hA.assignable]
  exact h4 comp (by rw [← hA.findClass]; exact hc)
section EXC
variable {p : Program} {l : Launch} {e : Env} {R : Room} {s : State} {m : MethodId} {args : Array Value} {below : List Frame} {meth : Method} {c : Code} {H : Heap} {locs : List Loc} {cells slots mc ms : Nat} {Q : State → Prop}
variable {cc bytes : ByteArray} {pc index n maxL len : Nat} {ls : Array Slot} {rest st0 st1 As : List Value} {D : DD} {A : Nat → Prop} {s0 : State} {own C : String} {nL : Nat} {ret ret' : Option FieldType} {a b : Nat} {y : MethodName} {rm : Room} {free : Addr → Prop}
theorem W.mono {Q' : State → Prop} {g : JFrame} (h : ∀ t, Q t → Q' t) (k : W p l e R s m args below meth c H locs cells slots Q g) : W p l e R s m args below meth c H locs cells slots Q' g := fun T hT X => by
  obtain ⟨t, a1, b1⟩ := k T hT X
  exact ⟨t, a1, h t b1⟩
theorem xmq_of {Qc QX : Array Value → State → Outcome → State → Prop} {a : Array Value} (h : ∀ o t, Qc a s o t → QX a s o t) (t : State) (hm : MQ below Qc a s mc ms free t) : XMQ below QX a s mc ms free t := by
  obtain ⟨o, h1, h2, h3, L, h4, h5⟩ := hm
  exact ⟨o, h1, h2, h _ _ h3, L, ⟨h4.2.1, h4.2.2⟩, h5⟩
theorem WT.widen {g : JFrame} {k n : Nat} (h1 : cells ≤ k) (h2 : slots ≤ n) (kk : WT p l e R s m args below meth c H locs k n Q g a) : WT p l e R s m args below meth c H locs cells slots Q g a := fun T hT X => kk T hT (stand_widen X h1 h2)
/-- a return of a method that may throw -/
theorem W.retY {S : Type} {Qc : Array Value → State → Outcome → State → Prop} {E : S → Prop} {K : Nat → State → Prop} {B : S → State → Prop} {g : JFrame} (k : W p l e R s m args below meth c H locs cells slots (MQ below Qc args s mc ms free) g) : W p l e R s m args below meth c H locs cells slots (XMQ below (yQ Qc E K B A) args s mc ms free) g := W.mono (xmq_of (fun _ _ h => Or.inl h)) k
/-- .. of one that has handlers and never throws -/
theorem W.retX {Qc : Array Value → State → Outcome → State → Prop} {g : JFrame} (k : W p l e R s m args below meth c H locs cells slots (MQ below Qc args s mc ms free) g) : W p l e R s m args below meth c H locs cells slots (XMQ below Qc args s mc ms free) g := W.mono (xmq_of (fun _ _ h => h)) k
theorem w_athrow (hexec : p.tables.exec = Jvm.exec) (hb : c.code = cc) (hdg : decode cc pc = .ok (.athrow, 1)) (kk : WT p l e R s m args below meth c H locs cells slots Q (F0 m pc ls rest) a) : W p l e R s m args below meth c H locs cells slots Q (F0 m pc ls (.ref a :: rest)) := by
  intro T hT X
  obtain ⟨t, a1, b1⟩ := kk T hT X
  refine ⟨t, ?_, b1⟩
  jvm_step X.here [hexec, hb, hdg, Op.athrow.wp_sem]
  exact a1
theorem wt_out {S : Type} {Qc : Array Value → State → Outcome → State → Prop} {E : S → Prop} {K : Nat → State → Prop} {Bw : S → Heap → Prop} {u : S} (F : FP p c cc s args m own nL meth ret) (hn : s.methodNamed? y = some m) (hc : Cond.code y cc nL ret ∈ lw_all) (hw : E u) (hK : ∀ t : State, t.heap = H → s.vm.Alike t.vm → K a t) (hB : Bw u H) (hS : va_S A s.heap H locs) : WT p l e R s m args below meth c H locs cells slots (XMQ below (yQ Qc E K (fun u t => Bw u t.heap) A) args s cells slots A) (F0 m pc ls st0) a := by
  intro T hT X
  obtain ⟨meth', c', hm', hc', -, -, -, -, hempty, -⟩ := Cond.code_spec hn (F.t _ hc)
  cases X.method.symm.trans hm'
  cases X.code.symm.trans hc'
  have h0 : c.exceptionTable.size = 0 := by simpa [Array.isEmpty] using hempty
  have h1 : c.exceptionTable.toList = [] := List.eq_nil_of_length_eq_zero (by simpa using h0)
  obtain ⟨g1, g2, g3, g4, g5⟩ := X.leaveThrown a (g := F0 m pc ls st0) rfl rfl rfl (fun x hx => by rw [h1] at hx; cases hx) F.k
  exact ⟨_, g1, .threw a, g2, g3, Or.inr ⟨⟨a, u, rfl, hw, hK _ hT g4.alike, by show Bw u T.heap; rw [hT]; exact hB⟩, hS.F hT⟩, locs, ⟨g4, g5⟩, hS.2.2⟩
/-- the search that resolves the catch type -/
theorem x_findCold {f : JFrame} {meth : Method} {code : Code} {s : State} (hm : s.vm.method? f.method = some meth) (hc : meth.code = some code)
    (pre : List ExceptionTableEntry) (x : ExceptionTableEntry) (rest : List ExceptionTableEntry) (hsplit : code.exceptionTable.toList = pre ++ x :: rest)
    (hskip : ∀ y ∈ pre, covers y f.pc = false) (hx : covers x f.pc = true) (h0 : x.catchType ≠ 0) {c : ClassId} {cell : Cell} {vm' : Vm}
    (hg : (Jvm.resolveClass f.method.cls x.catchType).Gives e.toSetting s.vm (.ok c) vm') (hsz : vm'.classes.size ≤ s.vm.classes.size) (hcell : s.heap[a]? = some cell) (hobj : ∀ k, cell.vm ≠ .statics k)
    (hk : ∃ k, vm'.classes[cell.cls]? = some k) (hcl : ∃ k, vm'.classes[c]? = some k) (hfit : vm'.assignable cell.cls c = true) :
    ∀ (Q : Handler → Pre) (E : CtlPost) (d : Bool) (acts : List Action), wp (findHandler f a) Q E e d acts s ↔ Q (.found x.handlerPc) d acts (s.setVm vm') := by
  intro Q E d acts
  rw [W.findHandler_eq hm hc, hsplit]
  clear hsplit
  induction pre with
  | nil =>
    obtain ⟨ha, ht⟩ := hg.op (op := VmOp.resolveClass f.method.cls x.catchType) rfl
    simp only [covers] at hx
    simp [findHandler.go, hx, h0, ha, ht, hsz, hcell, hobj, hk, hcl, hfit, VmOp.dirties, VmOp.acts]
  | cons z t ih =>
    rw [List.cons_append, W.findHandler_go_skip (hskip z (List.mem_cons_self ..))]
    exact ih (fun w hw => hskip w (List.mem_cons_of_mem _ hw))
theorem x_stepCatch {s : State} {f : JFrame} {r : List Frame} {vm' : Vm} (hfind : ∀ (Q : Handler → Pre) (E : CtlPost) (d : Bool) (acts : List Action), wp (findHandler f a) Q E e d acts s ↔ Q (.found pc) d acts (s.setVm vm')) :
    (stepThrowing e s a (.java f :: r)).Is ((s.setVm vm').setFrames (.java { f with pc := pc, stack := [.ref a] } :: r)) [] := by
  simp only [stepThrowing, searchFrame, vmDo]
  generalize hr : Sem.go _ e false [] s = res
  obtain ⟨as, rfl, ha⟩ := Sem.eq_ok_of hr (a := Handler.found pc) (s' := s.setVm vm') (acts' := []) (by simp [hfind])
  exact ⟨rfl, ha⟩
theorem x_caught {tb : Tables} {s target : State} {g : JFrame} {vm' : Vm} (h : At s g.method c below)
    (hfind : ∀ (Q : Handler → Pre) (E : CtlPost) (d : Bool) (acts : List Action), wp (findHandler g a) Q E e d acts ((s.setTop g).pushFrame (.throwing a)) ↔ Q (.found pc) d acts (((s.setTop g).pushFrame (.throwing a)).setVm vm'))
    (hrest : Steps tb e below ((s.setVm vm').setTop { g with pc := pc, stack := [.ref a] }) target) : Steps tb e below ((s.setTop g).pushFrame (.throwing a)) target := by
  obtain ⟨hgo, hw⟩ := h.throwing a
  refine Steps.head hgo hw ?_
  rw [stepThread_throwing (frames_entered h.top _), (x_stepCatch (s := (s.setTop g).pushFrame (.throwing a)) hfind).1]
  obtain ⟨g₀, hg⟩ := Option.isSome_iff_exists.mp h.top
  obtain ⟨r, hr⟩ := State.topJava?_eq_some.mp hg
  have hr' : (s.setVm vm').frames = .java g₀ :: r := hr
  rw [State.setTop_of_frames _ hr'] at hrest
  have e1 : ∀ fs, (((s.setTop g).pushFrame (.throwing a)).setVm vm').setFrames fs = (s.setVm vm').setFrames fs := by
    intro fs
    rw [State.pushFrame, State.setTop_of_frames _ hr, State.setFrames_setFrames]
    show ((s.setVm vm').setFrames _).setFrames fs = _
    rw [State.setFrames_setFrames]
  rw [e1, hr]
  exact hrest
/-- the exception is caught in the method itself -/
theorem wt_catch (F : FP p c cc s args m own nL meth ret) (hn : s.methodNamed? y = some m) {hs pre rst : List (Nat × Nat × Nat × Nat)} {s1 s2 hpc ct : Nat} (hc : Cond.codeWith y cc nL ret hs ∈ lw_all) (hsp : hs = pre ++ (s1, s2, hpc, ct) :: rst) (hskip : ∀ z ∈ pre, (decide (z.1 ≤ pc) && decide (pc < z.2.1)) = false) (hx : (decide (s1 ≤ pc) && decide (pc < s2)) = true) (hct : ct ≠ 0) (hcl : Cond.classLink own ct C ∈ lw_all) (hA : va_Any C s H a) (kk : W p l e R s m args below meth c H locs cells slots Q (F0 m hpc ls [.ref a])) : WT p l e R s m args below meth c H locs cells slots Q (F0 m pc ls st0) a := by
  intro T hT X
  obtain ⟨m', meth', c', hn', hm', hc', -, -, htab, -, -, -⟩ := Cond.codeWith_spec (F.t _ hc)
  cases hn.symm.trans hn'
  cases X.method.symm.trans hm'
  cases X.code.symm.trans hc'
  rw [hsp] at htab
  obtain ⟨l1, l2, e1, e2, e3⟩ := List.map_eq_append_iff.mp htab
  obtain ⟨x, l3, e4, e5, e6⟩ := List.map_eq_cons_iff.mp e3
  simp only [Prod.mk.injEq] at e5
  obtain ⟨x1, x2, x3, x4⟩ := e5
  have hpl : e.platform.magicAccessors = ({} : Platform).magicAccessors := by rw [X.admits.platform]
  obtain ⟨cT, hcT, hlk⟩ := Cond.classLink_spec F.o (F.t _ hcl) e.platform hpl
  obtain ⟨hg1, hW1, hr1⟩ := State.classEntry (e := e) X.warmed hlk
  obtain ⟨cell, hcell, hst, ⟨k, hk⟩, hasg⟩ := hA
  have hal := hW1.alike
  obtain ⟨k1, hk1, -⟩ := hal.2.2 _ _ hk
  obtain ⟨kT, hkT, -⟩ := Vm.findClass_spec hcT
  obtain ⟨kT1, hkT1, -⟩ := hal.2.2 _ _ hkT
  obtain ⟨t, a1, b1⟩ := kk (T.setVm (T.vm.noted m.cls ct (.cls cT))) hT (X.noted hW1)
  refine ⟨t, x_caught (g := F0 m pc ls st0) (pc := hpc) (vm' := T.vm.noted m.cls ct (.cls cT)) X.here ?_ a1, b1⟩
  have hfd := x_findCold (e := e) (a := a) (f := F0 m pc ls st0) (s := (T.setTop (F0 m pc ls st0)).pushFrame (.throwing a)) (meth := meth) (code := c) (by rw [Stand.throwing_vm]; exact X.method') X.code l1 x l3 (by rw [e1, e4]) (fun w hw => by
      have := hskip (w.startPc, w.endPc, w.handlerPc, w.catchType) (by rw [← e2]; exact List.mem_map.mpr ⟨w, hw, rfl⟩)
      exact this) (by rw [← x1, ← x2] at hx; exact hx) (by rw [x4]; exact hct) (c := cT) (cell := cell) (vm' := T.vm.noted m.cls ct (.cls cT)) (by rw [Stand.throwing_vm, x4]; exact hg1) (by rw [Stand.throwing_vm]; simp) (by rw [Stand.throwing_heap, hT]; exact hcell) (VmData.ne_statics_of hst) ⟨k1, hk1⟩ ⟨kT1, hkT1⟩ (by rw [hal.assignable]; exact hasg _ hcT)
  rw [x3] at hfd
  exact hfd
/-! contracts -/
theorem MetY.ofW {Pc : Array Value → State → Prop} {QX : Array Value → State → Outcome → State → Prop} (hx : plainName y.cls = true)
    (body : ∀ p e s m args below meth c, FP p c cc s args m y.cls maxL meth ret → s.methodNamed? y = some m → s.vm.method? m = some meth → Pc args s → W p l e rm s m args below meth c s.heap [] 0 0 (XMQ below QX args s mc ms free) (entryFrame m args maxL)) : MetY l y (ws_ y cc maxL ret) rm Pc QX mc ms free := by
  refine MetX.ofW (cc := cc) (maxL := maxL) (ret := ret) hx ?_ (fun w hw => List.mem_cons_of_mem _ hw) ?_
  · intro args s m h hn
    obtain ⟨meth, c, h1, h2, h3, h4, h5, h6, -, -⟩ := Cond.code_spec hn (h _ List.mem_cons_self)
    exact ⟨meth, c, h1, h2, h3, h4, h5, h6⟩
  · intro p e s m args below meth c F hn hm hP
    exact body p e s m args below meth c F hn hm hP
theorem MetY.ofWW {hs : List (Nat × Nat × Nat × Nat)} {Pc : Array Value → State → Prop} {QX : Array Value → State → Outcome → State → Prop} (hx : plainName y.cls = true)
    (body : ∀ p e s m args below meth c, FP p c cc s args m y.cls maxL meth ret → s.methodNamed? y = some m → s.vm.method? m = some meth → Pc args s → W p l e rm s m args below meth c s.heap [] 0 0 (XMQ below QX args s mc ms free) (entryFrame m args maxL)) : MetY l y (wsW_ y cc maxL ret hs) rm Pc QX mc ms free := by
  refine MetX.ofW (cc := cc) (maxL := maxL) (ret := ret) hx ?_ (fun w hw => List.mem_cons_of_mem _ hw) ?_
  · intro args s m h hn
    obtain ⟨m', meth, c, h0, h1, h2, h3, h4, -, h5, h6, -⟩ := Cond.codeWith_spec (h _ List.mem_cons_self)
    cases hn.symm.trans h0
    exact ⟨meth, c, h1, h2, h3, h4, h5, h6⟩
  · intro p e s m args below meth c F hn hm hP
    exact body p e s m args below meth c F hn hm hP
/-- the call: it comes back, or it throws -/
theorem y_call {ws : List Cond} {Pc : Array Value → State → Prop} {QX : Array Value → State → Outcome → State → Prop} (hM : MetY l y ws rm Pc QX mc ms free) (hrc : rm.cells = mc) (hrs : rm.slots = ms) {T : State} (X : Stand p l e R s m args below meth c T locs cells slots) {g : JFrame} {ig : Instr} {mk : MethodId} {a : Array Value} (hg : g.method = m) (hsize : g.locals.size = c.maxLocals) (hdg : decode c.code g.pc = .ok (ig, len)) {bW maxL : Nat} (hW : 2 * g.monitorRoom + (g.stack.map fun v => v.category).sum ≤ bW) (hn : T.methodNamed? y = some mk)
    {methY : Method} {cY : Code} (hmY : T.vm.method? mk = some methY) (hcY : methY.code = some cY) (hlY : cY.maxLocals = maxL) (hframes : rm.frames + 1 ≤ R.frames) (hlocals : bW + (maxL + 11) + rm.locals ≤ R.locals) (hcells : cells + mc ≤ R.cells) (hslots : slots + ms ≤ R.slots) (hws : ∀ w ∈ ws, w.before a T = true) (hP : Pc a (T.calling g mk a)) :
    ∃ (o : Outcome) (t T' : State) (L : List Loc), Stand p l e R s m args below meth c T' (locs ++ L) (cells + mc) (slots + ms) ∧ (∀ q ∈ L, free q.base) ∧ T'.heap = t.heap ∧ T'.vm = t.vm ∧ QX a (T.calling g mk a) o t ∧
      (∀ v, o = .returned v → Steps p.tables e below (doInvoke e (T.setTop g) [] mk a).1 (T'.setTop { g with pc := g.pc + len, stack := v.toList ++ g.stack })) ∧
      (∀ x, o = .threw x → Steps p.tables e below (doInvoke e (T.setTop g) [] mk a).1 ((T'.setTop g).pushFrame (.throwing x))) := by
  have h : At T g.method c below := by rw [hg]; exact X.here
  obtain ⟨o, s₂, hsteps, -, hend, hq, L, ⟨hW₂, hsame₂⟩, hL⟩ := hM.call X (g := g) (mk := mk) (a := a) hg hsize hdg hW hn hmY hcY hlY hframes hlocals (by rw [hrc]; exact hcells) (by rw [hrs]; exact hslots) hws hP
  obtain ⟨e2, q2, q3, q4, q5, q6⟩ := id hsame₂
  have e3 : s₂ = ({ (T.calling g mk a).setFrames s₂.frames with heap := s₂.heap, slotsUsed := s₂.slotsUsed } : State).setVm s₂.vm := by
    have : s₂ = ({ s₂ with vm := (T.calling g mk a).vm } : State).setVm s₂.vm := rfl
    rw [e2] at this
    exact this
  have hW' : T.WarmedH s₂.vm := hW₂
  obtain ⟨g₀, hg0⟩ := Option.isSome_iff_exists.mp h.top
  obtain ⟨r, hr⟩ := State.topJava?_eq_some.mp hg0
  have hr' : (({ T with heap := s₂.heap, slotsUsed := s₂.slotsUsed } : State).setVm s₂.vm).frames = .java g₀ :: r := hr
  have hsame : T.sameButNew ({ T with heap := s₂.heap, slotsUsed := s₂.slotsUsed } : State) L mc ms := by
    refine ⟨?_, q2, q3, q4, q5, q6⟩
    obtain ⟨t, ht, -⟩ := State.frames_cons hr
    show ({ T with heap := s₂.heap, slotsUsed := s₂.slotsUsed } : State) = { T.setFrames T.frames with heap := s₂.heap, slotsUsed := s₂.slotsUsed }
    rw [State.setFrames_self ht]
  subst hg
  refine ⟨o, s₂, (({ T with heap := s₂.heap, slotsUsed := s₂.slotsUsed } : State).setVm s₂.vm), L,
    ⟨X.admits, X.cas, X.clock, X.frames, X.room, X.hears, X.method, X.code, (X.here.setHeapUsed s₂.heap s₂.slotsUsed).setVm hW'.alike, X.tail, State.WarmedH.trans X.warmed hW', X.limits, X.bytes, X.same.trans (hsame.setVm s.vm)⟩, hL, rfl, rfl, hq, ?_, ?_⟩
  · intro v hv
    subst hv
    obtain ⟨c₂, i₂, len₂, hc₂, hd₂, hf₂⟩ := hend
    have hcc : c₂ = c := by
      have h1 : s₂.code? g.method = T.code? g.method := by
        rw [State.code?_eq, State.code?_eq, hW'.alike.method?]
      exact Option.some.inj (hc₂.symm.trans (h1.trans h.code))
    subst hcc
    have hlen : len₂ = len := by rw [hdg] at hd₂; cases hd₂; rfl
    subst hlen
    have hs₂ : s₂ = (({ T with heap := s₂.heap, slotsUsed := s₂.slotsUsed } : State).setVm s₂.vm).setTop { g with pc := g.pc + len₂, stack := v.toList ++ g.stack } := by
      refine e3.trans ?_
      rw [hf₂, State.calling_eq h.top, State.setFrames_setFrames, State.setTop_of_frames _ hr', hr]
      rfl
    rw [← hs₂]
    exact hsteps
  · intro x hx
    subst hx
    have hf₂ : s₂.frames = .throwing x :: .java g :: T.frames.tail := hend
    have hs₂ : s₂ = ((({ T with heap := s₂.heap, slotsUsed := s₂.slotsUsed } : State).setVm s₂.vm).setTop g).pushFrame (.throwing x) := by
      refine e3.trans ?_
      rw [hf₂, State.calling_eq h.top, State.setFrames_setFrames, State.pushFrame, State.frames_setTop _ hr', State.setTop_of_frames _ hr', State.setFrames_setFrames, hr]
      rfl
    rw [← hs₂]
    exact hsteps
def yRun (p : Program) (l : Launch) (e : Env) (R : Room) (s : State) (m : MethodId) (args : Array Value) (below : List Frame) (meth : Method) (c : Code) (H : Heap) (locs : List Loc) (cells slots mc ms : Nat) (g : JFrame) (rest : List Value) (Qa : State → Outcome → State → Prop) (free : Addr → Prop) : Prop :=
  ∀ T : State, T.heap = H → Stand p l e R s m args below meth c T locs cells slots → ∃ (o : Outcome) (st₀ t T' : State) (L : List Loc), st₀.heap = H ∧ Stand p l e R s m args below meth c T' (locs ++ L) (cells + mc) (slots + ms) ∧ (∀ q ∈ L, free q.base) ∧ T'.heap = t.heap ∧ T'.vm = t.vm ∧ Qa st₀ o t ∧
    (∀ v, o = .returned v → Goes p e below T g T' { g with pc := g.pc + 3, stack := v.toList ++ rest }) ∧
    (∀ x, o = .threw x → ∀ tg, Steps p.tables e below ((T'.setTop { g with stack := rest }).pushFrame (.throwing x)) tg → Steps p.tables e below (T.setTop g) tg)
theorem yRun.plain {g : JFrame} {Qa : State → Outcome → State → Prop} (h : yRun p l e R s m args below meth c H locs cells slots mc ms g rest Qa free) (hr : ∀ st o t, Qa st o t → ∃ v, o = .returned v) : va_Run p l e R s m args below meth c H locs cells slots mc ms g rest Qa free := by
  intro T hT X
  obtain ⟨o, st₀, t, T', L, h0, X', hL, e1, e2, hq, h1, -⟩ := h T hT X
  obtain ⟨v, rfl⟩ := hr _ _ _ hq
  exact ⟨v, st₀, t, T', L, h0, X', hL, e1, e2, hq, h1 v rfl⟩
/-- the words of a method's code: which bytes, how many locals -/
def CodeOf (y : MethodName) (maxL : Nat) (ws : List Cond) : Prop := ∀ (a : Array Value) (U : State) (mk : MethodId), (∀ w ∈ ws, w.before a U = true) → U.methodNamed? y = some mk → ∃ meth c, U.vm.method? mk = some meth ∧ meth.code = some c ∧ c.maxLocals = maxL ∧ parseMethodDescriptor y.desc = some meth.sig
theorem codeOf {bytes : ByteArray} : CodeOf y maxL (ws_ y bytes maxL ret) := by
  intro a U mk h hn
  obtain ⟨meth, c, h1, h2, -, h4, -, -, -, h8⟩ := Cond.code_spec hn (h _ List.mem_cons_self)
  exact ⟨meth, c, h1, h2, h4, h8⟩
theorem codeOfW {bytes : ByteArray} {hs : List (Nat × Nat × Nat × Nat)} : CodeOf y maxL (wsW_ y bytes maxL ret hs) := by
  intro a U mk h hn
  obtain ⟨m', meth, c, h0, h1, h2, -, h4, -, -, -, h8⟩ := Cond.codeWith_spec (h _ List.mem_cons_self)
  cases hn.symm.trans h0
  exact ⟨meth, c, h1, h2, h4, h8⟩
theorem k_runVY {S : Type} {Bw : S → Heap → Prop} {u0 : S} {ws : List Cond} {QX : Array Value → State → Outcome → State → Prop} (F : FX p l c cc s args m own D A s0 nL meth ret) (hB : Bw u0 H) (hS : va_S A s.heap H locs) (hrc : ∃ cell : Cell, H[b]? = some cell ∧ cell.vm.isStatics = false ∧ s.vm.findClass C = some cell.cls) (hM : MetY l y ws rm (va_Pc (.ref b :: As) (fun U => Bw u0 U.heap ∧ CX l D A s0 U)) QX mc ms A) (hco : CodeOf y maxL ws) (hwl : GoodIn lw_all ws) (h1 : Cond.methodLink own index y ∈ lw_all) (h2 : Cond.instanceMethod y ∈ lw_all) (h3 : Cond.selects C y y ∈ lw_all) (hd : y.cls ≠ "java/lang/invoke/MethodHandle" ∧ y.cls ≠ "java/lang/invoke/VarHandle" ∧ (parseMethodDescriptor y.desc).map (fun d => d.parameters.length) = some n) (hR : rm.frames + 1 ≤ R.frames ∧ 8 + (maxL + 11) + rm.locals ≤ R.locals) (hz : rm.cells = mc ∧ rm.slots = ms) (hc : cells + mc ≤ R.cells ∧ slots + ms ≤ R.slots) (hn : As.length = n) (hsz : ls.size = nL) (hst : st0 = As.reverse ++ .ref b :: rest) (hW : (rest.map fun v => v.category).sum ≤ 8) (hdg : decode cc pc = .ok (.invokevirtual index, 3)) : yRun p l e R s m args below meth c H locs cells slots mc ms (F0 m pc ls st0) rest (QX (Value.ref b :: As).toArray) A := by
  obtain ⟨cellB, hcB, hoB, hclB⟩ := hrc
  obtain ⟨mk, methM, hnamed, hmethM, hstM, habM⟩ := Cond.instanceMethod_spec (F.1.t _ h2)
  obtain ⟨methM', cM, hmethM', -, -, hsigM⟩ := hco args s mk (fun w hw => F.1.t _ (hwl w hw).1) hnamed
  cases hmethM.symm.trans hmethM'
  obtain ⟨c2, r2, m2, q1, q2, q3, q4, kP, hkP, hkPi⟩ := Cond.selects_spec (F.1.t _ h3)
  cases hclB.symm.trans q1
  cases (State.methodFound?_of_named hnamed ⟨hd.1, hd.2.1⟩).symm.trans q2
  cases hnamed.symm.trans q3
  intro T hT X
  have hselP : selectMethod e.platform s.vm cellB.cls mk = .method mk := by rw [Launch.admits_selectMethod X.admits]; exact q4
  obtain ⟨vm₁, X₁, hstep₁⟩ := X.invokevirtual F.1.x F.1.o (F.1.t _ h1) hnamed hmethM hstM hkP hkPi ⟨hd.1, hd.2.1⟩ (a := b) (cell := cellB) (by rw [hT]; exact hcB)
    (fun z h => by rw [h] at hoB; cases hoB) hselP hmethM habM hkP hkPi (g := F0 m pc ls st0) rfl (argsL := As) (rest := rest) (hn.trans (x_len hd.2.2 hsigM)) hst (by rw [F.1.b]; exact hdg)
  have hws : ∀ w ∈ ws, w.before (Value.ref b :: As).toArray (T.setVm vm₁) = true := fun w hw => pay_in F.1.t hwl w hw _ _ X₁.warmed
  obtain ⟨mY, cY, g1, g2, g3, -⟩ := hco _ (T.setVm vm₁) mk hws (X₁.named hnamed)
  obtain ⟨o, t, T', L, X', hL, e1, e2, hq, r1, r2⟩ := y_call hM hz.1 hz.2 X₁ (g := { F0 m pc ls st0 with stack := rest }) (mk := mk) (a := (Value.ref b :: As).toArray) rfl (hsz.trans F.1.ml.symm) (by rw [F.1.b]; exact hdg) (lv_room (m := m) (pc := pc) (ls := ls) (rest := st0) hW) (X₁.named hnamed) g1 g2 g3 hR.1 hR.2 hc.1 hc.2 hws ⟨rfl, by show Bw u0 T.heap; rw [hT]; exact hB, (F.2.to hS (U := T.setVm vm₁) hT X₁.warmed).blind⟩
  exact ⟨o, (T.setVm vm₁).calling { F0 m pc ls st0 with stack := rest } mk (Value.ref b :: As).toArray, t, T', L, hT, X', hL, e1, e2, hq, fun v hv target h => hstep₁ _ fun acts => by rw [doInvoke_state]; exact (r1 v hv).trans h, fun x hx target h => hstep₁ _ fun acts => by rw [doInvoke_state]; exact (r2 x hx).trans h⟩
theorem k_runSY {S : Type} {Bw : S → Heap → Prop} {u0 : S} {ws : List Cond} {QX : Array Value → State → Outcome → State → Prop} (F : FX p l c cc s args m own D A s0 nL meth ret) (hB : Bw u0 H) (hS : va_S A s.heap H locs) (hM : MetY l y ws rm (va_Pc As (fun U => Bw u0 U.heap ∧ CX l D A s0 U)) QX mc ms A) (hco : CodeOf y maxL ws) (hwl : GoodIn lw_all ws) (h1 : Cond.methodLink own index y ∈ lw_all) (h2 : Cond.static y ∈ lw_all) (h3 : Cond.initialized y.cls ∈ lw_all) (h4 : Cond.code y bytes maxL ret' ∈ lw_all) (hd : y.cls ≠ "java/lang/invoke/MethodHandle" ∧ y.cls ≠ "java/lang/invoke/VarHandle" ∧ (parseMethodDescriptor y.desc).map (fun d => d.parameters.length) = some n) (hR : rm.frames + 1 ≤ R.frames ∧ 8 + (maxL + 11) + rm.locals ≤ R.locals) (hz : rm.cells = mc ∧ rm.slots = ms) (hc : cells + mc ≤ R.cells ∧ slots + ms ≤ R.slots) (hn : As.length = n) (hsz : ls.size = nL) (hst : st0 = As.reverse ++ rest) (hW : (rest.map fun v => v.category).sum ≤ 8) (hdg : decode cc pc = .ok (.invokestatic index, 3)) : yRun p l e R s m args below meth c H locs cells slots mc ms (F0 m pc ls st0) rest (QX As.toArray) A := by
  obtain ⟨mk, hnamed⟩ := Cond.code_named (F.1.t _ h4)
  obtain ⟨methM, cM, hmethM, -, -, hsigM⟩ := hco args s mk (fun w hw => F.1.t _ (hwl w hw).1) hnamed
  have hstatic : methM.isStatic = true := Cond.static_spec hnamed hmethM (F.1.t _ h2)
  obtain ⟨kP, hkP, -⟩ := className_of_methodNamed hnamed
  have hinitP : kP.init = .initialized := Cond.initialized_spec (findClass_of_methodNamed hnamed) hkP (F.1.t _ h3)
  intro T hT X
  obtain ⟨vm₁, X₁, hstep₁⟩ := X.invokestatic F.1.x F.1.o (F.1.t _ h1) hnamed hmethM hstatic hkP hinitP ⟨hd.1, hd.2.1⟩ (g := F0 m pc ls st0) rfl (argsL := As) (rest := rest) (hn.trans (x_len hd.2.2 hsigM)) hst (by rw [F.1.b]; exact hdg)
  have hws : ∀ w ∈ ws, w.before As.toArray (T.setVm vm₁) = true := fun w hw => pay_in F.1.t hwl w hw _ _ X₁.warmed
  obtain ⟨mY, cY, g1, g2, g3, -⟩ := hco _ (T.setVm vm₁) mk hws (X₁.named hnamed)
  obtain ⟨o, t, T', L, X', hL, e1, e2, hq, r1, r2⟩ := y_call hM hz.1 hz.2 X₁ (g := { F0 m pc ls st0 with stack := rest }) (mk := mk) (a := As.toArray) rfl (hsz.trans F.1.ml.symm) (by rw [F.1.b]; exact hdg) (lv_room (m := m) (pc := pc) (ls := ls) (rest := st0) hW) (X₁.named hnamed) g1 g2 g3 hR.1 hR.2 hc.1 hc.2 hws ⟨rfl, by show Bw u0 T.heap; rw [hT]; exact hB, (F.2.to hS (U := T.setVm vm₁) hT X₁.warmed).blind⟩
  exact ⟨o, (T.setVm vm₁).calling { F0 m pc ls st0 with stack := rest } mk As.toArray, t, T', L, hT, X', hL, e1, e2, hq, fun v hv target h => hstep₁ _ fun acts => by rw [doInvoke_state]; exact (r1 v hv).trans h, fun x hx target h => hstep₁ _ fun acts => by rw [doInvoke_state]; exact (r2 x hx).trans h⟩
theorem x_Sjoin {H0 H1 : Heap} {L : List Loc} (hS : va_S A H0 H locs) (hz : H.size ≤ H1.size) (hk : ∀ q : Nat, q < H.size → ¬ A q → H1[q]? = H[q]?) (hL : ∀ q ∈ L, A q.base) : va_S A H0 H1 (locs ++ L) :=
  ⟨Nat.le_trans hS.1 hz, fun q h1 h2 => by rw [hk q (Nat.lt_of_lt_of_le h1 hS.1) h2]; exact hS.2.1 q h1 h2, fun q hq => by
    rcases List.mem_append.mp hq with h | h
    · exact hS.2.2 q h
    · exact hL q h⟩
/-! behind the call of a method that may throw -/
theorem k_iY {S : Type} {Bw : S → Heap → Prop} {post : Int32 → S → Prop} {E : S → Prop} {K : Nat → State → Prop} {ag : Array Value} (hr : yRun p l e R s m args below meth c H locs cells slots mc ms (F0 m pc ls st0) rest (yQ (va_Qi post (fun u t => Bw u t.heap) A) E K (fun u t => Bw u t.heap) A ag) A) (hS : va_S A s.heap H locs)
    (kk : ∀ (r : Int32) (u : S) (H1 : Heap) (locs1 : List Loc), post r u → Bw u H1 → va_S A s.heap H1 locs1 → W p l e R s m args below meth c H1 locs1 (cells + mc) (slots + ms) Q (F0 m (pc + 3) ls (.int r :: rest)))
    (ke : ∀ (x : Nat) (u : S) (H1 : Heap) (locs1 : List Loc), E u → (∃ t : State, t.heap = H1 ∧ s.vm.Alike t.vm ∧ K x t) → Bw u H1 → va_S A s.heap H1 locs1 → WT p l e R s m args below meth c H1 locs1 (cells + mc) (slots + ms) Q (F0 m pc ls rest) x) : W p l e R s m args below meth c H locs cells slots Q (F0 m pc ls st0) := by
  intro T hT X
  obtain ⟨o, st₀, t, T', L, h0, X', hL, e1, e2, hq, r1, r2⟩ := hr T hT X
  rcases hq with ⟨⟨r, u, rfl, hp, hb⟩, hF⟩ | ⟨⟨x, u, rfl, hE, hK, hb⟩, hF⟩
  · obtain ⟨hz0, hk0⟩ := hF
    rw [h0] at hz0 hk0
    obtain ⟨t2, a1, b1⟩ := kk r u T'.heap (locs ++ L) hp (by rw [e1]; exact hb) (x_Sjoin hS (by rw [e1]; exact hz0) (fun q h1 h2 => by rw [e1]; exact hk0 q h1 h2) hL) T' rfl X'
    exact ⟨t2, r1 _ rfl t2 a1, b1⟩
  · obtain ⟨hz0, hk0⟩ := hF
    rw [h0] at hz0 hk0
    obtain ⟨t2, a1, b1⟩ := ke x u T'.heap (locs ++ L) hE ⟨t, e1.symm, by rw [← e2]; exact X'.warmed.alike, hK⟩ (by rw [e1]; exact hb) (x_Sjoin hS (by rw [e1]; exact hz0) (fun q h1 h2 => by rw [e1]; exact hk0 q h1 h2) hL) T' rfl X'
    exact ⟨t2, r2 x rfl t2 a1, b1⟩
theorem k_vY {S : Type} {Bw : S → Heap → Prop} {post : S → Prop} {E : S → Prop} {K : Nat → State → Prop} {ag : Array Value} (hr : yRun p l e R s m args below meth c H locs cells slots mc ms (F0 m pc ls st0) rest (yQ (va_Qv post (fun u t => Bw u t.heap) A) E K (fun u t => Bw u t.heap) A ag) A) (hS : va_S A s.heap H locs)
    (kk : ∀ (u : S) (H1 : Heap) (locs1 : List Loc), post u → Bw u H1 → va_S A s.heap H1 locs1 → W p l e R s m args below meth c H1 locs1 (cells + mc) (slots + ms) Q (F0 m (pc + 3) ls (rest)))
    (ke : ∀ (x : Nat) (u : S) (H1 : Heap) (locs1 : List Loc), E u → (∃ t : State, t.heap = H1 ∧ s.vm.Alike t.vm ∧ K x t) → Bw u H1 → va_S A s.heap H1 locs1 → WT p l e R s m args below meth c H1 locs1 (cells + mc) (slots + ms) Q (F0 m pc ls rest) x) : W p l e R s m args below meth c H locs cells slots Q (F0 m pc ls st0) := by
  intro T hT X
  obtain ⟨o, st₀, t, T', L, h0, X', hL, e1, e2, hq, r1, r2⟩ := hr T hT X
  rcases hq with ⟨⟨u, rfl, hp, hb⟩, hF⟩ | ⟨⟨x, u, rfl, hE, hK, hb⟩, hF⟩
  · obtain ⟨hz0, hk0⟩ := hF
    rw [h0] at hz0 hk0
    obtain ⟨t2, a1, b1⟩ := kk u T'.heap (locs ++ L) hp (by rw [e1]; exact hb) (x_Sjoin hS (by rw [e1]; exact hz0) (fun q h1 h2 => by rw [e1]; exact hk0 q h1 h2) hL) T' rfl X'
    exact ⟨t2, r1 _ rfl t2 a1, b1⟩
  · obtain ⟨hz0, hk0⟩ := hF
    rw [h0] at hz0 hk0
    obtain ⟨t2, a1, b1⟩ := ke x u T'.heap (locs ++ L) hE ⟨t, e1.symm, by rw [← e2]; exact X'.warmed.alike, hK⟩ (by rw [e1]; exact hb) (x_Sjoin hS (by rw [e1]; exact hz0) (fun q h1 h2 => by rw [e1]; exact hk0 q h1 h2) hL) T' rfl X'
    exact ⟨t2, r2 x rfl t2 a1, b1⟩
theorem k_nY {S : Type} {Bw : S → Heap → Prop} {post : Nat → S → Prop} {E : S → Prop} {K : Nat → State → Prop} {ag : Array Value} (hr : yRun p l e R s m args below meth c H locs cells slots mc ms (F0 m pc ls st0) rest (yQ (xa_Qn post (fun u t => Bw u t.heap) A) E K (fun u t => Bw u t.heap) A ag) A) (hS : va_S A s.heap H locs)
    (kk : ∀ (r : Nat) (u : S) (H1 : Heap) (locs1 : List Loc), post r u → Bw u H1 → va_S A s.heap H1 locs1 → W p l e R s m args below meth c H1 locs1 (cells + mc) (slots + ms) Q (F0 m (pc + 3) ls (.ref r :: rest)))
    (ke : ∀ (x : Nat) (u : S) (H1 : Heap) (locs1 : List Loc), E u → (∃ t : State, t.heap = H1 ∧ s.vm.Alike t.vm ∧ K x t) → Bw u H1 → va_S A s.heap H1 locs1 → WT p l e R s m args below meth c H1 locs1 (cells + mc) (slots + ms) Q (F0 m pc ls rest) x) : W p l e R s m args below meth c H locs cells slots Q (F0 m pc ls st0) := by
  intro T hT X
  obtain ⟨o, st₀, t, T', L, h0, X', hL, e1, e2, hq, r1, r2⟩ := hr T hT X
  rcases hq with ⟨⟨u, r, rfl, hp, hz, hb⟩, hF⟩ | ⟨⟨x, u, rfl, hE, hK, hb⟩, hF⟩
  · obtain ⟨hz0, hk0⟩ := hF
    rw [h0] at hz0 hk0
    subst hz
    obtain ⟨t2, a1, b1⟩ := kk u.1 u.2 T'.heap (locs ++ L) hp (by rw [e1]; exact hb) (x_Sjoin hS (by rw [e1]; exact hz0) (fun q h1 h2 => by rw [e1]; exact hk0 q h1 h2) hL) T' rfl X'
    exact ⟨t2, r1 _ rfl t2 a1, b1⟩
  · obtain ⟨hz0, hk0⟩ := hF
    rw [h0] at hz0 hk0
    obtain ⟨t2, a1, b1⟩ := ke x u T'.heap (locs ++ L) hE ⟨t, e1.symm, by rw [← e2]; exact X'.warmed.alike, hK⟩ (by rw [e1]; exact hb) (x_Sjoin hS (by rw [e1]; exact hz0) (fun q h1 h2 => by rw [e1]; exact hk0 q h1 h2) hL) T' rfl X'
    exact ⟨t2, r2 x rfl t2 a1, b1⟩
end EXC
