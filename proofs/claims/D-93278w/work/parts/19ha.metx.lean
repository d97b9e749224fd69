set_option maxRecDepth 100000
/-! OWN CONTRACTS: any outcome (returned or threw); the method's class need not be initialised (an interface's default method) -/
def XApp (y : MethodName) (ws : List Cond) (rm : Room) (pl : Platform) (s : State) (m : MethodId) (args : Array Value) (below : List Frame) : Prop :=
  s.status = .running ∧ s.curStatus? = some .runnable ∧ s.alone = true ∧ s.methodNamed? y = some m ∧ s.hears m below = true ∧ s.hasRoom pl rm = true ∧ ∀ w ∈ ws, w.before args s = true
def MetX (l : Launch) (y : MethodName) (ws : List Cond) (rm : Room) (Pc : Array Value → State → Prop) (QX : Array Value → State → Outcome → State → Prop) : Prop :=
  ∀ (p : Program) e, l.admits e → FairCas e.choices → FairClock e.choices → ∀ s m args below,
    s.frames = .invoking m args :: below → XApp y ws rm e.platform s m args below → Pc args s →
    ∃ n o, (∀ k, k < n → Within (stepsAlone p.tables e k s) below) ∧ (stepsAlone p.tables e n s).status = .running ∧ Ended (stepsAlone p.tables e n s) below o ∧ QX args s o (stepsAlone p.tables e n s)
/-- the end of a walk -/
def XQ (below : List Frame) (QX : Array Value → State → Outcome → State → Prop) (a : Array Value) (s : State) : State → Prop := fun t => ∃ o, t.status = .running ∧ Ended t below o ∧ QX a s o t
theorem MetX.ofW {l : Launch} {y : MethodName} {ws : List Cond} {rm : Room} {Pc : Array Value → State → Prop} {QX : Array Value → State → Outcome → State → Prop} {cc : ByteArray} {maxL : Nat} {ret : Option FieldType} (hx : plainName y.cls = true)
    (his : ∀ args (s : State) m, (∀ w ∈ ws, w.before args s = true) → s.methodNamed? y = some m → ∃ meth c, s.vm.method? m = some meth ∧ meth.code = some c ∧ c.code = cc ∧ c.maxLocals = maxL ∧ meth.sig.returnType = ret ∧ meth.locks = false)
    (hall : ∀ w ∈ lw_all, w ∈ ws)
    (body : ∀ p e s m args below meth c, FP p c cc s args m y.cls maxL meth ret → s.methodNamed? y = some m → s.vm.method? m = some meth → Pc args s → W p l e rm s m args below meth c s.heap [] 0 0 (XQ below QX args s) (entryFrame m args maxL)) : MetX l y ws rm Pc QX := by
  intro p e ha hc hk s m args below hf happ hP
  obtain ⟨hrun, hable, halone, hname, hhears, hroom, hpre⟩ := happ
  obtain ⟨meth, c, hmeth, hcode, hbytes, hlocals, hret, hlocks⟩ := his args s m hpre hname
  have hcur := State.cur_lt_of_frames hf
  have hf1 : (s.setFrames (.java (entryFrame m args maxL) :: below)).frames = .java (entryFrame m args maxL) :: below := State.frames_setFrames _ hcur
  have ht1 := State.topJava?_of_frames hf1
  have hplain : (s.setFrames (.java (entryFrame m args maxL) :: below)).plainMethod m := State.plainMethod.of_named (s := s) (plainFor_of_name hx) hname hmeth
  have hAt : At (s.setFrames (.java (entryFrame m args maxL) :: below)) m c below :=
    ⟨by rw [ht1]; rfl, ⟨[], by rw [hf1]; rfl⟩, hrun, by simpa using hable, by simpa using halone,
      by rw [State.code?_eq]; simp [State.setFrames, hmeth, hcode], hplain⟩
  have hstep : (stepThread p.tables e s).1 = (s.setFrames (.java (entryFrame m args maxL) :: below)).setTop (entryFrame m args maxL) := by
    have hfull : e.platform.stackFull (s.setFrames below).me (s.setFrames below).frames c.maxLocals = false := by
      obtain ⟨-, h1, -, h2⟩ := State.hasRoom_stack hroom
      rw [hf, List.length_cons] at h1
      rw [State.localsInUse_invoking hf hmeth hcode] at h2
      have hw := stackUse_le_stackWeight below
      rw [State.frames_setFrames _ hcur]
      exact Platform.stackFull_eq_false (by rw [State.stackLimits_setFrames]; omega) (by rw [State.stackLimits_setFrames]; omega)
    rw [stepThread_invoking hf, (doInvoke_java (s := s.setFrames below) (e := e) (meth := meth) (code := c) hmeth hcode hlocks hfull).1, State.setTop_self ht1]
    simp only [State.pushFrame, State.frames_setFrames _ hcur, State.setFrames_setFrames, hlocals, entryFrame]
  have hexec : p.tables.exec = Jvm.exec := by cases p <;> rfl
  have F : FP p c cc s args m y.cls maxL meth ret := ⟨hexec, hbytes, hlocals, findClass_of_methodNamed hname, fun w hw => hpre w (hall w hw), hret, hlocks⟩
  have X : Stand p l e rm s m args below meth c (s.setFrames (.java (entryFrame m args maxL) :: below)) [] 0 0 := by
    obtain ⟨t, ht, -⟩ := State.frames_cons hf
    refine ⟨ha, hc, hk, hf, hroom, hhears, hmeth, hcode, hAt, by rw [hf1]; rfl, State.WarmedH.refl s, by rw [State.stackLimits_setFrames], by rw [State.stackBytes_setFrames], ?_⟩
    exact (State.sameButNew.refl s ht).setFrames (.java (entryFrame m args maxL) :: below) hcur
  obtain ⟨s₂, hs, o, hr, he, hp⟩ := body p e s m args below meth c F hname hmeth hP (s.setFrames (.java (entryFrame m args maxL) :: below)) rfl X
  obtain ⟨n, hn, hw⟩ := Steps.head (tb := p.tables) (e := e) ⟨hrun, hable, halone⟩ ⟨[.invoking m args], hf, by simp, by simp⟩ (hstep ▸ hs)
  exact ⟨n, o, hw, hn ▸ hr, hn ▸ he, hn ▸ hp⟩
/-- the call of a method with such a contract, at a point of a walk -/
theorem MetX.call {l : Launch} {y : MethodName} {ws : List Cond} {rm R : Room} {Pc : Array Value → State → Prop} {QX : Array Value → State → Outcome → State → Prop} (hM : MetX l y ws rm Pc QX) {p : Program} {e : Env} {s : State} {m : MethodId} {sargs : Array Value} {below : List Frame} {meth : Method} {c : Code} {U : State} {locs : List Loc} {c0 n0 : Nat}
    (X : Stand p l e R s m sargs below meth c U locs c0 n0) {g : JFrame} {ig : Instr} {len : Nat} {mk : MethodId} {a : Array Value} (hg : g.method = m) (hsize : g.locals.size = c.maxLocals) (hdg : decode c.code g.pc = .ok (ig, len)) {bW maxL : Nat} (hW : 2 * g.monitorRoom + (g.stack.map fun v => v.category).sum ≤ bW) (hn : U.methodNamed? y = some mk)
    {methY : Method} {cY : Code} (hmY : U.vm.method? mk = some methY) (hcY : methY.code = some cY) (hlY : cY.maxLocals = maxL)
    (hframes : rm.frames + 1 ≤ R.frames) (hlocals : bW + (maxL + 11) + rm.locals ≤ R.locals) (hcells : c0 + rm.cells ≤ R.cells) (hslots : n0 + rm.slots ≤ R.slots) (hws : ∀ w ∈ ws, w.before a U = true) (hP : Pc a (U.calling g mk a)) :
    ∃ o s₂, Steps p.tables e below (doInvoke e (U.setTop g) [] mk a).1 s₂ ∧ s₂.status = .running ∧ Ended s₂ (.java g :: U.frames.tail) o ∧ QX a (U.calling g mk a) o s₂ := by
  have h : At U g.method c below := by rw [hg]; exact X.here
  have hroom : (U.calling g mk a).hasRoom e.platform rm = true := X.room_calling (g := g) (R' := rm) hsize hmY hcY hframes (by rw [hlY]; omega) hcells hslots
  have hcode : (U.calling g mk a).code? g.method = some c := by
    have := h.code
    rw [State.code?_eq] at this ⊢
    simpa [State.calling, State.pushFrame, State.setFrames] using this
  have happ : XApp y ws rm e.platform (U.calling g mk a) mk a (.java g :: U.frames.tail) := by
    refine ⟨h.running, ?_, ?_, hn, ?_, hroom, fun w hw => ?_⟩
    · simpa [State.calling] using h.runnable
    · simpa [State.calling] using h.alone
    · simp [State.hears, hcode, hdg, Except.toOption]
    · rw [State.calling_eq h.top, Cond.before_setFrames]; exact hws w hw
  have hf' : (U.calling g mk a).frames = .invoking mk a :: .java g :: U.frames.tail := State.frames_calling h.top g mk a
  have hrun := happ.1
  have hable := happ.2.1
  have halone := happ.2.2.1
  have hgo : (U.calling g mk a).goesOn := ⟨hrun, hable, halone⟩
  obtain ⟨n, o, hw, hr, he, hp⟩ := hM p e X.admits X.cas X.clock (U.calling g mk a) mk a _ hf' happ hP
  obtain ⟨mid, hmid⟩ := h.above
  have hfr : (U.setTop g).frames = (.java g :: mid) ++ below := by rw [State.frames_setTop' g h.top, hmid]; rfl
  have hfr2 : (.java g :: U.frames.tail : List Frame) = (.java g :: mid) ++ below := by rw [← hfr, State.frames_setTop' g h.top]
  obtain ⟨t, ht⟩ : ∃ t, (U.setTop g).threads[(U.setTop g).cur]? = some t := by
    have hc : (U.setTop g).cur < (U.setTop g).threads.size := State.cur_lt_of_frames hfr
    exact ⟨_, Array.getElem?_eq_getElem hc⟩
  have hstep : (stepThread p.tables e (U.calling g mk a)).1 = (doInvoke e (U.setTop g) [] mk a).1 := by
    have e1 : U.calling g mk a = (U.setTop g).pushFrame (.invoking mk a) := rfl
    have hf'' : ((U.setTop g).pushFrame (.invoking mk a)).frames = .invoking mk a :: (U.setTop g).frames := State.frames_setFrames _ (State.cur_lt_of_frames hfr)
    rw [e1, stepThread_invoking hf'', doInvoke_state e (U.setTop g) [], State.pushFrame, State.setFrames_setFrames, State.setFrames_self ht]
  cases n with
  | zero => exact absurd ⟨[.invoking mk a], hf', by simp, by simp⟩ he.not_within
  | succ k =>
    rw [stepsAlone_succ _ hgo, hstep] at hr he hp
    refine ⟨o, _, ⟨k, rfl, fun j hj => ?_⟩, hr, he, hp⟩
    have := hw (j + 1) (by omega)
    rw [stepsAlone_succ _ hgo, hstep, hfr2] at this
    exact this.weaken
/-- a plain contract (it returns) of a method whose class need not be initialised -/
def MetU (l : Launch) (y : MethodName) (ws : List Cond) (rm : Room) (Pc : Array Value → State → Prop) (Qc : Array Value → State → Outcome → State → Prop) (mc ms : Nat) (free : Addr → Prop) : Prop :=
  MetX l y ws rm Pc (fun a st o t => Qc a st o t ∧ ∃ L, FrameEnd st o t L mc ms ∧ ∀ q ∈ L, free q.base)
theorem back_ofU {l : Launch} {R : Room} {p : Program} {e : Env} {below : List Frame} {s : State} {sargs : Array Value} {y : MethodName} {len bW : Nat} {ws : List Cond} {rm : Room} {Pc : Array Value → State → Prop} {Qc : Array Value → State → Outcome → State → Prop} {mc ms : Nat} {free : Addr → Prop} {bytes : ByteArray} {maxL : Nat} {ret : Option FieldType}
    (hM : MetU l y ws rm Pc Qc mc ms free) (hblind : FrameBlind Pc) (hrc : rm.cells = mc) (hrs : rm.slots = ms)
    (hframes : rm.frames + 1 ≤ R.frames) (hlocals : bW + (maxL + 11) + rm.locals ≤ R.locals)
    (hws : ∀ w ∈ ws, ∀ a' U, s.WarmedH U.vm → w.before a' U = true) (hcode : Cond.code y bytes maxL ret ∈ ws) :
    Back l R p e below s sargs y len bW (PreOf R mc ms Pc) (PostOf Qc mc ms free) := by
  intro m meth c A g ig mk a X hg hsize hdg hW hn hp
  obtain ⟨U, Ls, c0, s0⟩ := A
  dsimp only [Pt.U, Pt.locs, Pt.cells, Pt.slots] at X hn hp ⊢
  obtain ⟨hp1, hp2, hp3⟩ := hp
  dsimp only [Pt.U, Pt.locs, Pt.cells, Pt.slots] at hp1 hp2 hp3
  obtain ⟨methY, cY, hmY, hcY, -, hlY, -, -, -, -⟩ := Cond.code_spec hn (hws _ hcode a U X.warmed)
  have h : At U g.method c below := by rw [hg]; exact X.here
  obtain ⟨o, s₂, hsteps, -, hend, hq, L, hfe, hL⟩ := hM.call X (g := g) (mk := mk) (a := a) hg hsize hdg hW hn hmY hcY hlY hframes hlocals (by rw [hrc]; exact hp1) (by rw [hrs]; exact hp2) (fun w hw => hws w hw a U X.warmed) (hblind _ _ _ _ hp3)
  obtain ⟨⟨v, rfl⟩, hW₂, e2, q2, q3, q4, q5, q6⟩ := id hfe
  have e3 : s₂ = ({ (U.calling g mk a).setFrames s₂.frames with heap := s₂.heap, slotsUsed := s₂.slotsUsed } : State).setVm s₂.vm := by
    have : s₂ = ({ s₂ with vm := (U.calling g mk a).vm } : State).setVm s₂.vm := rfl
    rw [e2] at this
    exact this
  obtain ⟨c₂, i₂, len₂, hc₂, hd₂, hf₂⟩ := hend
  have hW' : U.WarmedH s₂.vm := hW₂
  have hcc : c₂ = c := by
    have h1 : s₂.code? g.method = U.code? g.method := by
      rw [State.code?_eq, State.code?_eq, hW'.alike.method?]
    exact Option.some.inj (hc₂.symm.trans (h1.trans h.code))
  subst hcc
  have hlen : len₂ = len := by rw [hdg] at hd₂; cases hd₂; rfl
  subst hlen
  obtain ⟨g₀, hg0⟩ := Option.isSome_iff_exists.mp h.top
  obtain ⟨r, hr⟩ := State.topJava?_eq_some.mp hg0
  have hs₂ : s₂ = (({ U with heap := s₂.heap, slotsUsed := s₂.slotsUsed } : State).setVm s₂.vm).setTop { g with pc := g.pc + len₂, stack := v.toList ++ g.stack } := by
    have hr' : (({ U with heap := s₂.heap, slotsUsed := s₂.slotsUsed } : State).setVm s₂.vm).frames = .java g₀ :: r := hr
    refine e3.trans ?_
    rw [hf₂, State.calling_eq h.top, State.setFrames_setFrames, State.setTop_of_frames _ hr', hr]
    rfl
  have hsame : U.sameButNew ({ U with heap := s₂.heap, slotsUsed := s₂.slotsUsed } : State) L mc ms := by
    refine ⟨?_, q2, q3, q4, q5, q6⟩
    obtain ⟨t, ht, -⟩ := State.frames_cons hr
    show ({ U with heap := s₂.heap, slotsUsed := s₂.slotsUsed } : State) = { U.setFrames U.frames with heap := s₂.heap, slotsUsed := s₂.slotsUsed }
    rw [State.setFrames_self ht]
  subst hg
  refine ⟨v, ⟨(({ U with heap := s₂.heap, slotsUsed := s₂.slotsUsed } : State).setVm s₂.vm), Ls ++ L, c0 + mc, s0 + ms⟩,
    ⟨X.admits, X.cas, X.clock, X.frames, X.room, X.hears, X.method, X.code, (X.here.setHeapUsed s₂.heap s₂.slotsUsed).setVm hW'.alike, X.tail, State.WarmedH.trans X.warmed hW', X.limits, X.bytes, X.same.trans (hsame.setVm s.vm)⟩,
    ⟨g, mk, s₂, L, rfl, rfl, hq, rfl, hL, rfl, rfl⟩, ?_⟩
  show Steps p.tables e below _ ((({ U with heap := s₂.heap, slotsUsed := s₂.slotsUsed } : State).setVm s₂.vm).setTop { g with pc := g.pc + len₂, stack := v.toList ++ g.stack })
  rw [← hs₂]
  exact hsteps
theorem MetU.ofW {l : Launch} {y : MethodName} {rm : Room} {Pc : Array Value → State → Prop} {Qc : Array Value → State → Outcome → State → Prop} {mc ms : Nat} {free : Addr → Prop} {cc : ByteArray} {maxL : Nat} {ret : Option FieldType} (hx : plainName y.cls = true)
    (body : ∀ p e s m args below meth c, FP p c cc s args m y.cls maxL meth ret → Pc args s → W p l e rm s m args below meth c s.heap [] 0 0 (MQ below Qc args s mc ms free) (entryFrame m args maxL)) : MetU l y (ws_ y cc maxL ret) rm Pc Qc mc ms free := by
  refine MetX.ofW (cc := cc) (maxL := maxL) (ret := ret) hx ?_ (fun w hw => List.mem_cons_of_mem _ hw) ?_
  · intro args s m h hn
    obtain ⟨meth, c, h1, h2, h3, h4, h5, h6, -, -⟩ := Cond.code_spec hn (h _ List.mem_cons_self)
    exact ⟨meth, c, h1, h2, h3, h4, h5, h6⟩
  · intro p e s m args below meth c F _ _ hP
    exact body p e s m args below meth c F hP
