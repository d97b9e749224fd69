set_option maxRecDepth 100000
theorem CX.valZ {l : Launch} {D : DD} {A : Nat → Prop} {s0 s : State} {C n d : String} (hC : CX l D A s0 s) (hl : Cond.laysStatic C n d ∈ lw_tbl) (hi : Cond.initialized C ∈ lw_tbl) (hr : Cond.isRef (.static C n d) ∈ flatC (Jvm.Cond.and given_1 narrow_1)) : ∃ o : Option Nat, va_Z C n d (va_rf o) A s s.heap := by
  obtain ⟨b, ht, hg, -⟩ := hC.2.2.2.2.2
  obtain ⟨o, ho⟩ := x_isRef (args := #[Value.ref b]) (s := s0) (t := .static C n d) (flat_of_before _ hg _ hr)
  have h := va_Zof (args := #[Value.ref b]) (s := s0) (A := fun q => s0.heap.size ≤ q) (ht _ hl) (ht _ hi) ho (fun a ha => Nat.not_le.mpr ha)
  exact ⟨o, ((h.kept (H1 := s.heap) (fun a ha _ => hC.2.2.2.1 a ha)).narrow (B := A) (fun q hq => hC.2.2.2.2.1 q hq)).moved hC.2.1.alike⟩
def x_RefV (o : Option Nat) : RefV := ⟨va_rf o, by cases o <;> rfl⟩
def faultW : List Cond := Bundle.throwableAtoms ++ Bundle.chain0Atoms "NeverSaid$Fault" xNames ++ [.selects "NeverSaid$Fault" Bundle.tFill0 Bundle.tFill0, .selects "NeverSaid$Fault" Bundle.tFill Bundle.tFill,
   .lays "NeverSaid$Fault" Bundle.tN "cause" "Ljava/lang/Throwable;", .lays "NeverSaid$Fault" Bundle.tN "stackTrace" Bundle.steD, .lays "NeverSaid$Fault" Bundle.tN "suppressedExceptions" Bundle.listD, .lays "NeverSaid$Fault" Bundle.tN "detailMessage" "Ljava/lang/String;",
   .fieldLink Bundle.tN 198 Bundle.tN "backtrace" "Ljava/lang/Object;", .lays Bundle.tN Bundle.tN "backtrace" "Ljava/lang/Object;", .lays "NeverSaid$Fault" Bundle.tN "backtrace" "Ljava/lang/Object;"]
def faultS : List Cond := [.laysStatic "java/lang/Throwable" "UNASSIGNED_STACK" "[Ljava/lang/StackTraceElement;", .laysStatic "java/lang/Throwable" "SUPPRESSED_SENTINEL" "Ljava/util/List;"]
theorem faultW_in : ∀ a ∈ faultW, a ∈ lw_all ∨ a ∈ faultS ∨ (a ∈ lw_tbl ∧ (a.onTables && a.keepsFace) = true) := by decide +kernel
section FAULT
variable {p : Program} {l : Launch} {e : Env} {R : Room} {s : State} {m : MethodId} {args : Array Value} {below : List Frame} {meth : Method} {c : Code} {H : Heap} {locs : List Loc} {cells slots mc ms : Nat} {Q : State → Prop}
variable {cc bytes : ByteArray} {pc index maxL : Nat} {ls : Array Slot} {rest As st0 : List Value} {D : DD} {A : Nat → Prop} {s0 : State} {own C : String} {nL : Nat} {ret ret' : Option FieldType} {a b : Nat} {y : MethodName} {rm : Room} {U : MW}
set_option maxHeartbeats 2000000 in
theorem i_newFault (F : FX p l c cc s args m RX0 D A s0 nL meth ret) (hB : iB D A U H) (hS : va_S A s.heap H locs) (hsz : ls.size = nL) (hRf : 6 < R.frames) (hW : (rest.map fun v => v.category).sum ≤ 6) (hRl : 200 ≤ R.locals) (hcells : cells + 1 ≤ R.cells) (hslots : slots + 7 ≤ R.slots) (d1 : decode cc pc = .ok (.new 64, 3)) (d2 : decode cc (pc + 3) = .ok (.dup, 1)) (d3 : decode cc (pc + 4) = .ok (.invokespecial 66, 3))
    (kk : ∀ (H1 : Heap) (locs1 : List Loc) (fs' : List Value), fs'.length = 7 → fs'[6]? = some (.int 0) → iB D A (nw U (.inr (3, fs'))) H1 → va_S A s.heap H1 locs1 → W p l e R s m args below meth c H1 locs1 (cells + 1) (slots + 7) Q (F0 m (pc + 7) ls (.ref U.2 :: rest))) : W p l e R s m args below meth c H locs cells slots Q (F0 m pc ls rest) := by
  have hKn := (F.2.1).1 3 (RX3, TX3, 7) rfl
  have hap := va_apart (own := RX0) F.1.t in_X3 tyX3 tyX3_ok nmX3 F.2.1 (ci := 3) (C := RX3) (T := TX3) (N := 7) rfl
  refine W.newcK F.1.x F.1.b F.1.o (F.1.t _ (by decide +kernel)) (F.1.t _ (by decide +kernel)) (F.1.t _ (by decide +kernel)) rfl d1 hcells hslots hKn.2.1 rfl fun H1 kX hkX e1 z1 o1 => ?_
  refine lv_dup F.1.x F.1.b d2 rfl ?_
  have hat := u_born tyX3 F.1.t in_X3 hKn hkX e1 tyX3_ok
  intro W hW0 X
  have hexec := F.1.x
  have howns : e.platform.frameOwnsMonitors = true := by rw [X.admits.platform]
  have hfin : e.platform.finalization = false := by rw [X.admits.platform]
  have hpl : e.platform.magicAccessors = ({} : Platform).magicAccessors := by rw [X.admits.platform]
  have htr := x_traces F.2 X.admits
  have h : ∀ a ∈ faultW, a.before args s = true := by
    intro a ha
    rcases faultW_in a ha with h | h | h
    · exact F.1.t a h
    · simp only [faultS, List.mem_cons, List.not_mem_nil, or_false] at h
      rcases h with rfl | rfl
      · exact F.2.layZ q234
      · exact F.2.layZ q236
    · exact F.2.face h.1 h.2
  have a' : ∀ x, x ∈ faultW → x.holds args s none s [] = true := fun x hx => h x hx
  obtain ⟨T, Z, L, LZ, Y⟩ := ThrowableC.of_atoms (args := args) howns hfin hpl (fun x hx => h x (by simp [faultW, hx]))
  obtain ⟨P1, Ps, hlen, L1, hL, hP1m, hlink1, hlink⟩ := Bundle.chain0 (args := args) hpl Y.init0 xNames "NeverSaid$Fault" (by decide) (by decide) (fun x hx => h x (by simp [faultW, hx]))
  have hfound : s.vm.findClass "NeverSaid$Fault" = some P1.m.cls := findClass_of_methodNamed hP1m
  have hcX : D.1.1 3 = P1.m.cls := Option.some.inj (hKn.2.1.symm.trans hfound)
  rw [hcX] at hkX e1 hat
  have hord : kX.kind = .ordinary := by
    obtain ⟨c1, kX', hc1, hk', hord, -, -, -⟩ := Cond.instantiable_spec (F.1.t (Cond.instantiable "NeverSaid$Fault" 7) (by decide +kernel))
    cases Option.some.inj (hc1.symm.trans hfound)
    cases Option.some.inj (hk'.symm.trans hkX)
    exact hord
  have hsel0 : selectMethod e.platform s.vm P1.m.cls T.fill0 = .method T.fill0 := by
    obtain ⟨c2, r2, m2, q1, q2, q3, q4, -⟩ := Cond.selects_spec (a' (.selects "NeverSaid$Fault" Bundle.tFill0 Bundle.tFill0) (by simp [faultW]))
    cases Option.some.inj (q1.symm.trans hfound)
    cases Option.some.inj (q2.symm.trans (State.methodFound?_of_named Y.fill0 (by decide)))
    cases Option.some.inj (q3.symm.trans Y.fill0)
    rw [Launch.admits_selectMethod X.admits]; exact q4
  have hselF : selectMethod e.platform s.vm P1.m.cls T.fill = .method T.fill := by
    obtain ⟨c2, r2, m2, q1, q2, q3, q4, -⟩ := Cond.selects_spec (a' (.selects "NeverSaid$Fault" Bundle.tFill Bundle.tFill) (by simp [faultW]))
    cases Option.some.inj (q1.symm.trans hfound)
    cases Option.some.inj (q2.symm.trans (State.methodFound?_of_named Y.fill (by decide)))
    cases Option.some.inj (q3.symm.trans Y.fill)
    rw [Launch.admits_selectMethod X.admits]; exact q4
  obtain ⟨oU, hZU⟩ := F.2.valZ (C := "java/lang/Throwable") (n := "UNASSIGNED_STACK") (d := "[Ljava/lang/StackTraceElement;") q234 (by decide +kernel) (by decide +kernel)
  obtain ⟨oS, hZS⟩ := F.2.valZ (C := "java/lang/Throwable") (n := "SUPPRESSED_SENTINEL") (d := "Ljava/util/List;") q236 (by decide +kernel) (by decide +kernel)
  have hZU := hZU.kept (H1 := H) (fun q h1 h2 => hS.2.1 q h1 h2)
  have hZS := hZS.kept (H1 := H) (fun q h1 h2 => hS.2.1 q h1 h2)
  obtain ⟨cf1, kf1, fi1, f1, aS1, cell1, i1, i2, i3, i4, i5, i6, i7, i8⟩ := hZU
  obtain ⟨cf2, kf2, fi2, f2, aS2, cell2, j1, j2, j3, j4, j5, j6, j7, j8⟩ := hZS
  have u1 := i1.symm.trans Y.unassigned
  have u2 := j1.symm.trans Y.sentinel
  simp only [Option.some.injEq, Prod.mk.injEq] at u1 u2
  obtain ⟨rfl, rfl, rfl, rfl⟩ := u1
  obtain ⟨rfl, v2, v3, rfl⟩ := u2
  have hst := L.statics
  have ea1 : aS1 = T.aS := Option.some.inj (i4.symm.trans hst)
  have ea2 : aS2 = T.aS := by rw [v2] at j4; exact Option.some.inj (j4.symm.trans hst)
  subst ea1
  rw [ea2] at j5
  cases i5.symm.trans j5
  have hltS : T.aS < H.size := (Array.getElem?_eq_some_iff.mp i5).1
  have hcellS : W.heap[T.aS]? = some cell1 := by rw [hW0, o1 _ hltS]; exact i5
  have hknownS : cell1.vm ≠ .unknown := by
    intro hu
    rw [hu] at i6
    cases i6
  have hcell : W.heap[H.size]? = some (freshCell P1.m.cls kX) := by rw [hW0]; exact e1
  obtain ⟨ci198, i198, fB, hk198, hg198, ha198, hsB, -, hnB, htB, hffB⟩ := Cond.ownField (t := .object "java/lang/Object") Y.found L.cls (by decide +kernel) (a' (.fieldLink Bundle.tN 198 Bundle.tN "backtrace" "Ljava/lang/Object;") (by simp [faultW])) (a' (.lays Bundle.tN Bundle.tN "backtrace" "Ljava/lang/Object;") (by simp [faultW])) e.platform hpl
  obtain ⟨tyC, dC, hdC, hdnC⟩ := Cond.laysAt hfound hkX Y.cause (a' (.lays "NeverSaid$Fault" Bundle.tN "cause" "Ljava/lang/Throwable;") (by simp [faultW]))
  obtain ⟨tyS, dS, hdS, hdnS⟩ := Cond.laysAt hfound hkX Y.stack (a' (.lays "NeverSaid$Fault" Bundle.tN "stackTrace" Bundle.steD) (by simp [faultW]))
  obtain ⟨tyP, dP, hdP, hdnP⟩ := Cond.laysAt hfound hkX Y.supp (a' (.lays "NeverSaid$Fault" Bundle.tN "suppressedExceptions" Bundle.listD) (by simp [faultW]))
  obtain ⟨tyB, dB, hdB, hdnB⟩ := Cond.laysAt hfound hkX hffB (a' (.lays "NeverSaid$Fault" Bundle.tN "backtrace" "Ljava/lang/Object;") (by simp [faultW]))
  have bC := Cond.laysApart hdB hdC hdnB hdnC (by rw [hnB, Y.causeName]; decide)
  have bS := Cond.laysApart hdB hdS hdnB hdnS (by rw [hnB, Y.stackName]; decide)
  have bP := Cond.laysApart hdB hdP hdnB hdnP (by rw [hnB, Y.suppName]; decide)
  have hskip : SkipFacts T e.platform s (fun u => u) (x_RefV oU) ((preparedCellV T.toThrowableT (freshCell P1.m.cls kX) H.size (x_RefV oU) (x_RefV oS)).withEntry W.cur) :=
    ⟨{ ci198 := ci198, i198 := i198, fBack := fB }, ⟨hk198, hg198, ha198, hsB⟩, by
      have := fresh_default (c := P1.m.cls) tyB
      rw [htB] at this
      simpa [preparedCellV, Cell.setSlot, Cell.withEntry, Array.getElem?_setIfInBounds, bC, bS, bP, bC.symm, bS.symm, bP.symm, defaultValue] using this, fun _ _ => rfl⟩
  obtain ⟨tm, methC, cdC, kC, vm₁, hnC, -, -, -, -, -, -, -, hW₁, st1⟩ := Steps.initColdArgsNest (tb := p.tables) (e := e) (below := below) (s := s) X.here hexec X.warmed hpl F.1.o (t := Bundle.init0 "NeverSaid$Fault") rfl (by decide)
    (va_Nw.use (A := args) rfl (F.2.nestM q248)) (h (.instanceMethod (Bundle.init0 "NeverSaid$Fault")) (by simp [faultW, Bundle.chain0Atoms, xNames, Bundle.passAtoms])) (bytes := Bundle.five) (maxL := 1) (h (.code (Bundle.init0 "NeverSaid$Fault") Bundle.five 1 none) (by simp [faultW, Bundle.chain0Atoms, xNames, Bundle.passAtoms]))
    (f := F0 m (pc + 3 + 1) ls (.ref H.size :: .ref H.size :: rest)) rfl (a := H.size) (argsL := []) (rest := .ref H.size :: rest) (fun sig hs => by
      have e0 : parseMethodDescriptor "()V" = some sig := hs
      have e1 : (parseMethodDescriptor "()V").map (fun d => d.parameters.length) = some 0 := by decide +kernel
      rw [e0] at e1
      exact (Option.some.inj e1).symm) rfl (by rw [F.1.b]; exact d3)
  cases Option.some.inj (hnC.symm.trans hP1m)
  have X₁ := X.noted hW₁
  obtain ⟨vm₂, X₂, st2⟩ := X₁.ctorPlainOffV hexec (g := F0 m (pc + 3 + 1) ls (.ref H.size :: rest)) rfl (by rw [F.1.ml]; exact hsz) T L Z LZ (P1 :: Ps)
    (fun P hP => by rcases List.mem_cons.mp hP with rfl | hP; exact L1; exact hL P hP) ⟨hlink1, hlink⟩ (u0 := x_RefV oU) (sen := x_RefV oS) (self := H.size) (cell := freshCell P1.m.cls kX) (cellS := cell1)
    hcell (fun _ => by simp) (by simp) rfl rfl hsel0 hselF hcellS (Nat.ne_of_lt hltS) hknownS i7 j7
    (Takes.of_laid hkX hord tyC (by rw [Y.causeType]; rfl)) (Takes.of_laid hkX hord tyS (by rw [Y.stackType]; exact fits_refV_array _ _)) (Takes.of_laid hkX hord tyP (by rw [Y.suppType]; exact fits_refV_object _ _)) Y.objLocals hskip htr [] (by rw [F.1.b]; exact d3)
    (by simp only [List.length_cons, List.length_nil, hlen, xNames]; omega) (by
      simp only [List.length_cons, List.length_nil, hlen, xNames]
      show 2 * 0 + (1 + (rest.map fun v => v.category).sum) + _ ≤ _
      omega)
  -- the cell as it stands
  obtain ⟨hSl, -⟩ := hKn
  obtain ⟨_, _, _, fC, hC1, hC2⟩ := hSl 0 (by decide)
  obtain ⟨_, _, _, fS, hS1, hS2⟩ := hSl 1 (by decide)
  obtain ⟨_, _, _, fP, hP1, hP2⟩ := hSl 2 (by decide)
  have w1 := hC1.symm.trans Y.cause
  have w2 := hS1.symm.trans Y.stack
  have w3 := hP1.symm.trans Y.supp
  simp only [Option.some.injEq, Prod.mk.injEq] at w1 w2 w3
  have sC : T.fCause.slot = D.1.2 3 0 := by rw [← w1.2.2.2]; exact hC2
  have sS : T.fStack.slot = D.1.2 3 1 := by rw [← w2.2.2.2]; exact hS2
  have sP : T.fSupp.slot = D.1.2 3 2 := by rw [← w3.2.2.2]; exact hP2
  obtain ⟨cell0, k1, k2, k3, k4⟩ := hat
  cases e1.symm.trans k1
  have k5 := t_set (t_set (t_set (t_set k4 hap (k := 0) (by decide) (.ref H.size)) hap (k := 1) (by decide) (x_RefV oU).v) hap (k := 2) (by decide) (x_RefV oS).v) hap (k := 1) (by decide) (x_RefV oU).v
  have hcellF : (preparedCellV T.toThrowableT (freshCell P1.m.cls kX) H.size (x_RefV oU) (x_RefV oS)).setSlot T.fStack.slot (x_RefV oU).v = (((((blank P1.m.cls kX).setSlot (D.1.2 3 0) (.ref H.size)).setSlot (D.1.2 3 1) (x_RefV oU).v).setSlot (D.1.2 3 2) (x_RefV oS).v).setSlot (D.1.2 3 1) (x_RefV oU).v) := by
    show (((((freshCell P1.m.cls kX).setSlot T.fCause.slot (.ref H.size)).setSlot T.fStack.slot (x_RefV oU).v).setSlot T.fSupp.slot (x_RefV oS).v).setSlot T.fStack.slot (x_RefV oU).v) = _
    rw [sC, sS, sP]
    rfl
  have hltH : H.size < W.heap.size := by rw [hW0, z1]; omega
  have hH2 : ((((W.setVm vm₁).setVm vm₂).setCell H.size ((preparedCellV T.toThrowableT (freshCell P1.m.cls kX) H.size (x_RefV oU) (x_RefV oS)).setSlot T.fStack.slot (x_RefV oU).v)).heap) = W.heap.setIfInBounds H.size ((preparedCellV T.toThrowableT (freshCell P1.m.cls kX) H.size (x_RefV oU) (x_RefV oS)).setSlot T.fStack.slot (x_RefV oU).v) := rfl
  generalize hgen : ((W.setVm vm₁).setVm vm₂).setCell H.size ((preparedCellV T.toThrowableT (freshCell P1.m.cls kX) H.size (x_RefV oU) (x_RefV oS)).setSlot T.fStack.slot (x_RefV oU).v) = W2 at X₂ st2 hH2
  have o2 : ∀ q : Nat, q < H.size → W2.heap[q]? = H[q]? := fun q hq => by
    rw [hH2, Array.getElem?_setIfInBounds_ne (by omega), hW0]
    exact o1 q hq
  have z2 : W2.heap.size = H.size + 1 := by rw [hH2, Array.size_setIfInBounds, hW0, z1]
  have e2 : va_at D.1 vwCl (H.size, .inr (3, [.ref H.size, (x_RefV oU).v, (x_RefV oS).v, .null, .null, .int 0, .int 0])) W2.heap := by
    refine ⟨(RX3, TX3, 7), rfl, _, ?_, ?_, ?_, fun k hk => (k5 k hk).trans (congrArg some ?_)⟩
    · rw [hH2, hcellF, Array.getElem?_setIfInBounds_self_of_lt hltH]
    · exact hcX.symm
    · rfl
    · have : ∀ k, k < 7 → updV (updV (updV (updV (fun k => defaultValue (tyX3 k)) 0 (.ref H.size)) 1 (x_RefV oU).v) 2 (x_RefV oS).v) 1 (x_RefV oU).v k = vp_V [.ref H.size, (x_RefV oU).v, (x_RefV oS).v, .null, .null, .int 0, .int 0] k := by
        intro k hk
        match k, hk with
        | 0, _ => rfl
        | 1, _ => rfl
        | 2, _ => rfl
        | 3, _ => rfl
        | 4, _ => rfl
        | 5, _ => rfl
        | 6, _ => rfl
      exact this k hk
  obtain ⟨t, a1, b1⟩ := kk W2.heap _ [.ref H.size, (x_RefV oU).v, (x_RefV oS).v, .null, .null, .int 0, .int 0] rfl rfl (hB.nw e2 z2 o2) (x_Sjoin hS (by omega) (fun q h1 _ => o2 q h1) (L := [⟨H.size, T.fCause.slot⟩, ⟨H.size, T.fStack.slot⟩, ⟨H.size, T.fSupp.slot⟩, ⟨H.size, T.fStack.slot⟩]) (fun q hq => by
      have hq2 : q.base = H.size := by
        simp only [List.mem_cons, List.not_mem_nil, or_false] at hq
        rcases hq with rfl | rfl | rfl | rfl <;> rfl
      rw [hq2]
      exact hB.2.2 _ (by rw [hB.2.1]; exact Nat.le_refl _))) W2 rfl X₂
  refine ⟨t, st1 t (fun acts => ?_), b1⟩
  have := st2 t (by
    have hU2 : U.2 = H.size := hB.2.1.symm
    rw [hU2] at a1
    exact a1)
  rw [doInvoke_state]
  rw [doInvoke_state] at this
  exact this
end FAULT
