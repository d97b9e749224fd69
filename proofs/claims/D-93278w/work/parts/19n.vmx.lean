set_option maxRecDepth 100000
/-! THE MACHINE's OWN EXCEPTIONS with a message: made, and being thrown over the frame g -/
section VMX
variable {p : Program} {l : Launch} {e : Env} {R : Room} {s : State} {m : MethodId} {args : Array Value} {below : List Frame} {meth : Method} {c : Code} {H : Heap} {locs : List Loc} {cells slots mc ms : Nat} {Q : State → Prop}
variable {cc bytes : ByteArray} {pc index n maxL len : Nat} {ls : Array Slot} {rest st0 st1 As : List Value} {D : DD} {A : Nat → Prop} {s0 : State} {own C : String} {nL : Nat} {ret ret' : Option FieldType} {a b : Nat} {y : MethodName} {rm : Room} {free : Addr → Prop}
set_option maxHeartbeats 2000000 in
theorem x_msg {T' : State} (X : Stand p l e R s m args below meth c T' locs cells slots) (hexec : p.tables.exec = Jvm.exec) (htr : e.platform.stackTraces = false) {cls : String} {names : List String} {text : String}
    (hcls : Bundle.fit cls = true) (hnames : ∀ n ∈ names, Bundle.fit n = true) (hsoe : (cls == "java/lang/StackOverflowError") = false) (hoom : (cls == "java/lang/OutOfMemoryError") = false)
    (h : ∀ a ∈ Bundle.messageArmAtoms cls names, a.before args s = true)
    (hlocs : ∀ x ∈ locs, ∀ cell, s.heap[x.base]? = some cell → cell.vm.isStatics = false)
    (htext : (text == notModelled) = false) (hlimit : ¬ (stringBytes (stringToUtf16 text)).size > e.platform.arrayLengthLimit) (hheap : ¬ (stringBytes (stringToUtf16 text)).size * componentBytes .byte > e.platform.maxHeapBytes)
    {g : JFrame} (hg : g.method = m) (hsize : g.locals.size = c.maxLocals)
    (hRframes : names.length + 4 < R.frames) (hRlocals : 2 * g.monitorRoom + (g.stack.map fun v => v.category).sum + 10240 ≤ R.locals) (hshort : 13 * names.length + 55 ≤ 10240)
    (hRcells : cells + 3 ≤ R.cells) (hRslots : slots + ((stringBytes (stringToUtf16 text)).size + 4 + 6) ≤ R.slots) :
    ∃ (T5 : State) (L : List Loc), Stand p l e R s m args below meth c T5 (locs ++ L) (cells + 3) (slots + ((stringBytes (stringToUtf16 text)).size + 4 + 6)) ∧ (∀ q ∈ L, q.base = T'.heap.size + 2) ∧ T5.heap.size = T'.heap.size + 3 ∧ (∀ q : Nat, q < T'.heap.size → T5.heap[q]? = T'.heap[q]?) ∧
      (∃ ce : Cell, T5.heap[T'.heap.size + 2]? = some ce ∧ ce.vm = .none ∧ s.vm.findClass cls = some ce.cls ∧ s.vm.assignable ce.cls ce.cls = true) ∧
      ∀ tg, Steps p.tables e below ((T5.setTop g).pushFrame (.throwing (T'.heap.size + 2))) tg → Steps p.tables e below ((T'.setTop g).pushFrame (.throwNew cls (some text) none)) tg := by
  have howns : e.platform.frameOwnsMonitors = true := by rw [X.admits.platform]
  have hfin : e.platform.finalization = false := by rw [X.admits.platform]
  have hpl : e.platform.magicAccessors = ({} : Platform).magicAccessors := by rw [X.admits.platform]
  have a : ∀ x, x ∈ Bundle.messageArmAtoms cls names → x.holds args s none s [] = true := fun x hx => h x hx
  obtain ⟨T, Z0, L, -, Y⟩ := ThrowableC.of_atoms (args := args) howns hfin hpl (fun x hx => h x (by simp [Bundle.messageArmAtoms, hx]))
  obtain ⟨Z, M, LZ, LM, hnZ⟩ := Init0T.ofS_atoms (args := args) hpl L Y (fun x hx => h x (by simp [Bundle.messageArmAtoms, hx]))
  obtain ⟨P1, Ps, hlen, L1, hL, hP1m, hlink1, hlink⟩ := Bundle.chainS (args := args) hpl hnZ names cls hcls hnames (fun x hx => h x (by simp [Bundle.messageArmAtoms, hx]))
  obtain ⟨Zs, LZs, hn4, hfitv, hfitc⟩ := StringT.of_atoms (args := args) (fun x hx => h x (by simp [Bundle.messageArmAtoms, hx]))
  have hfound : s.vm.findClass cls = some P1.m.cls := findClass_of_methodNamed hP1m
  obtain ⟨c1, kX, hc1, hk, hord, -, -, hn6⟩ := Cond.instantiable_spec (a (.instantiable cls 6) (by simp [Bundle.messageArmAtoms]))
  cases Option.some.inj (hc1.symm.trans hfound)
  have hinit := Cond.initialized_spec hfound hk (a (.initialized cls) (by simp [Bundle.messageArmAtoms]))
  have hctor : kX.findMethod "<init>" "(Ljava/lang/String;)V" = some P1.m.idx := findMethod_of_methodNamed hP1m hk
  have hsel0 : selectMethod e.platform s.vm P1.m.cls T.fill0 = .method T.fill0 := by
    obtain ⟨c2, r2, m2, q1, q2, q3, q4, -⟩ := Cond.selects_spec (a (.selects cls Bundle.tFill0 Bundle.tFill0) (by simp [Bundle.messageArmAtoms]))
    cases Option.some.inj (q1.symm.trans hfound)
    cases Option.some.inj (q2.symm.trans (State.methodFound?_of_named Y.fill0 (by decide)))
    cases Option.some.inj (q3.symm.trans Y.fill0)
    rw [Launch.admits_selectMethod X.admits]; exact q4
  have hselF : selectMethod e.platform s.vm P1.m.cls T.fill = .method T.fill := by
    obtain ⟨c2, r2, m2, q1, q2, q3, q4, -⟩ := Cond.selects_spec (a (.selects cls Bundle.tFill Bundle.tFill) (by simp [Bundle.messageArmAtoms]))
    cases Option.some.inj (q1.symm.trans hfound)
    cases Option.some.inj (q2.symm.trans (State.methodFound?_of_named Y.fill (by decide)))
    cases Option.some.inj (q3.symm.trans Y.fill)
    rw [Launch.admits_selectMethod X.admits]; exact q4
  obtain ⟨cellS0, hcS0, hiss⟩ := Y.statics
  obtain ⟨u0, hu0⟩ := Cond.staticRefV Y.unassigned L.unassignedStatic L.statics hcS0 hiss (a (.isRef (.static Bundle.tN "UNASSIGNED_STACK" Bundle.steD)) (by simp [Bundle.messageArmAtoms]))
  obtain ⟨sen, hsen⟩ := Cond.staticRefV Y.sentinel L.sentinelStatic L.statics hcS0 hiss (a (.isRef (.static Bundle.tN "SUPPRESSED_SENTINEL" Bundle.listD)) (by simp [Bundle.messageArmAtoms]))
  obtain ⟨ci198, i198, fB, hk198, hg198, ha198, hsB, -, hnB, htB, hffB⟩ := Cond.ownField (t := .object "java/lang/Object") Y.found L.cls (by decide +kernel) (a (.fieldLink Bundle.tN 198 Bundle.tN "backtrace" "Ljava/lang/Object;") (by simp [Bundle.messageArmAtoms])) (a (.lays Bundle.tN Bundle.tN "backtrace" "Ljava/lang/Object;") (by simp [Bundle.messageArmAtoms])) e.platform hpl
  obtain ⟨cellS, hcS', heS, -, hkeep⟩ := X.same.2.2.2.2.2 T.aS cellS0 hcS0
  have hcellS : T'.heap[T.aS]? = some cellS := hcS'
  have hout' : ∀ i, (⟨T.aS, i⟩ : Loc) ∉ locs := fun i hmem => by
    have := hlocs _ hmem cellS0 hcS0
    rw [hiss] at this; cases this
  have hknownS : cellS.vm ≠ .unknown := by
    rw [heS]; intro hu
    rw [show cellS0.vm = .unknown from hu] at hiss
    cases hiss
  obtain ⟨iM, hffM⟩ := Y.msg
  obtain ⟨tyC, dC, hdC, hdnC⟩ := Cond.laysAt hfound hk Y.cause (a (.lays cls Bundle.tN "cause" "Ljava/lang/Throwable;") (by simp [Bundle.messageArmAtoms]))
  obtain ⟨tyS, dS, hdS, hdnS⟩ := Cond.laysAt hfound hk Y.stack (a (.lays cls Bundle.tN "stackTrace" Bundle.steD) (by simp [Bundle.messageArmAtoms]))
  obtain ⟨tyP, dP, hdP, hdnP⟩ := Cond.laysAt hfound hk Y.supp (a (.lays cls Bundle.tN "suppressedExceptions" Bundle.listD) (by simp [Bundle.messageArmAtoms]))
  obtain ⟨tyM, dM, hdM, hdnM⟩ := Cond.laysAt hfound hk hffM (a (.lays cls Bundle.tN "detailMessage" "Ljava/lang/String;") (by simp [Bundle.messageArmAtoms]))
  obtain ⟨tyB, dB, hdB, hdnB⟩ := Cond.laysAt hfound hk hffB (a (.lays cls Bundle.tN "backtrace" "Ljava/lang/Object;") (by simp [Bundle.messageArmAtoms]))
  have bC := Cond.laysApart hdB hdC hdnB hdnC (by rw [hnB, Y.causeName]; decide)
  have bS := Cond.laysApart hdB hdS hdnB hdnS (by rw [hnB, Y.stackName]; decide)
  have bP := Cond.laysApart hdB hdP hdnB hdnP (by rw [hnB, Y.suppName]; decide)
  have hskip : SkipFacts T e.platform s (fun u => u) u0 ((preparedCellV T.toThrowableT (freshCell P1.m.cls kX) (T'.heap.size + 2) u0 sen).withEntry T'.cur) :=
    ⟨{ ci198 := ci198, i198 := i198, fBack := fB }, ⟨hk198, hg198, ha198, hsB⟩, by
      have := fresh_default (c := P1.m.cls) tyB
      rw [htB] at this
      simpa [preparedCellV, Cell.setSlot, Cell.withEntry, Array.getElem?_setIfInBounds, bC, bS, bP, bC.symm, bS.symm, bP.symm, defaultValue] using this, fun _ _ => rfl⟩
  have hA : At T' g.method c below := by rw [hg]; exact X.here
  obtain ⟨hbeyond, hfreeW⟩ := X.vmMayThrow hsize (.throwNew cls (some text) none) (fun f hf => by cases hf) rfl hRlocals
  have hfr' : T'.frames.length + Ps.length + 4 < (e.platform.stackLimits T'.me).1 := by have := X.framesAbove hRframes; omega
  have hwd' : (stackUse (.java g :: T'.frames.tail)).2 + 13 * Ps.length + 55 ≤ (e.platform.stackLimits T'.me).2 := by have := X.stackAbove hsize (K := 13 * Ps.length + 55) (by omega); omega
  have hslots : T'.slotsUsed + (stringBytes (stringToUtf16 text)).size + Zs.kS.instanceTypes.size + kX.instanceTypes.size ≤ e.platform.maxSlots := by have := X.slotsAbove hRslots; omega
  obtain ⟨vm', hW', st⟩ := Steps.vmThrowsMessageColdByV p (s₀ := s) (S := T') (g := g) hA hexec T L Z LZ M LM X.warmed (t := T'.cur) rfl Zs LZs P1 L1 Ps hL hlink1 hlink hsoe hoom hfound hk hinit hord hctor
    (Launch.admits_hotImplicitExceptions X.admits) hbeyond hfreeW htext hlimit hheap (X.cellsAbove hRcells) hslots (hfitv _) (hfitc _)
    (Nn := fun u => u) heapOnly_id (fun _ _ => rfl) (fun _ => rfl) (fun u x y => setCell_twice _ _ _ _) (fun _ => Nat.le_refl _) (cN := ((preparedCellV T.toThrowableT (freshCell P1.m.cls kX) (T'.heap.size + 2) u0 sen).withEntry T'.cur))
    hsel0 hcellS hknownS (by rw [hkeep _ (hout' _)]; exact hu0) (Takes.of_laid hk hord tyS (by rw [Y.stackType]; exact fits_refV_array _ u0)) (fun _ hu => hu) (fun _ hu => hu) rfl rfl rfl (by simp [preparedCellV, Cell.setSlot, Cell.withEntry]) hskip (fun _ _ hA hW _ hroom _ hrest => L.nativeOff p htr hA hW hroom hrest) hselF (by rw [hkeep _ (hout' _)]; exact hsen)
    (Takes.of_laid hk hord tyC (by rw [Y.causeType]; rfl)) (Takes.of_laid hk hord tyP (by rw [Y.suppType]; exact fits_refV_object _ sen)) (Takes.of_laid hk hord tyM (by rw [Y.msgType]; rfl)) Y.objLocals rfl hfr' hwd'
  rw [plainBareV_eq T.toThrowableT (T'.heap.size + 2) u0 sen (.ref (T'.heap.size + 1)) T'.cur rfl rfl] at st
  obtain ⟨-, -, w3, w4, -, -, -⟩ := withThrown_facts e.platform T' Zs text P1.m.cls kX
  have X3 := ((X.pushed (bytesOf Zs.cB (stringToUtf16 text))).pushed (stringAt Zs.cS Zs.kS Zs.fv Zs.fc (stringToUtf16 text) T'.heap.size)).pushed (freshCell P1.m.cls kX)
  have b1 : (bytesOf Zs.cB (stringToUtf16 text)).slots.size = (stringBytes (stringToUtf16 text)).size := by
    rw [(Cell.writeAll_facts _ _).2.2]; simp [bytes0]
  have b2 : (stringAt Zs.cS Zs.kS Zs.fv Zs.fc (stringToUtf16 text) T'.heap.size).slots.size = 4 := by simp [string0, Cell.setSlot, hn4]
  have b3 : (freshCell P1.m.cls kX).slots.size = 6 := by simp [hn6]
  rw [b1, b2, b3] at X3
  have hq0 : ∀ q : Nat, q < T'.heap.size → (((T'.pushCell (bytesOf Zs.cB (stringToUtf16 text))).pushCell (stringAt Zs.cS Zs.kS Zs.fv Zs.fc (stringToUtf16 text) T'.heap.size)).pushCell (freshCell P1.m.cls kX)).heap[q]? = T'.heap[q]? := by
    intro q hq
    show (((T'.heap.push _).push _).push _)[q]? = _
    rw [Array.getElem?_push_lt (by simp; omega), Array.getElem?_eq_getElem hq]
    simp [Array.getElem_push, hq, Nat.lt_succ_of_lt hq]
  rw [← withString_eq] at X3 hq0
  have X4 := X3.noted hW'
  have ha : (T'.heap.size + 2) < ((withThrown T' Zs text P1.m.cls kX).setVm vm').heap.size := by show _ < (withThrown T' Zs text P1.m.cls kX).heap.size; rw [w3]; omega
  have hcell : ((withThrown T' Zs text P1.m.cls kX).setVm vm').heap[(T'.heap.size + 2)]? = some (freshCell P1.m.cls kX) := w4
  have X5 := ((((X4.stored hcell T.fCause.slot (.ref (T'.heap.size + 2))).storedAgain ha T.fStack.slot u0.v).storedAgain ha T.fSupp.slot sen.v).storedAgain ha T.fStack.slot u0.v).storedAgain ha T.fMsg.slot (.ref (T'.heap.size + 1))
  obtain ⟨c3, c4, hc3, hc4, hasg⟩ := Cond.castable_spec (a (.castable cls cls) (by simp [Bundle.messageArmAtoms]))
  cases Option.some.inj (hc3.symm.trans hfound)
  cases Option.some.inj (hc4.symm.trans hfound)
  have hU := heapAt_setCell_self (s := (withThrown T' Zs text P1.m.cls kX).setVm vm') (plainBareV T.toThrowableT (freshCell P1.m.cls kX) (T'.heap.size + 2) u0 sen (.ref (T'.heap.size + 1))) ha
  simp only [List.append_assoc] at X5
  refine ⟨_, _, X5, ?_, ?_, ?_, ⟨_, hU, rfl, hfound, hasg⟩, fun tg htg => st _ ?_⟩
  · intro q hq
    simp only [List.cons_append, List.nil_append, List.mem_cons, List.not_mem_nil, or_false] at hq
    rcases hq with rfl | rfl | rfl | rfl | rfl <;> rfl
  · show ((((withThrown T' Zs text P1.m.cls kX).setVm vm').heap.setIfInBounds _ _).size) = _
    rw [Array.size_setIfInBounds]
    exact w3
  · intro q hq
    show ((((withThrown T' Zs text P1.m.cls kX).setVm vm').heap.setIfInBounds _ _)[q]?) = _
    rw [Array.getElem?_setIfInBounds_ne (by omega)]
    exact hq0 q hq
  · obtain ⟨g₁, hfrM⟩ := X5.frames_eq
    have hU : ((((withThrown T' Zs text P1.m.cls kX).setVm vm').setCell (T'.heap.size + 2) (plainBareV T.toThrowableT (freshCell P1.m.cls kX) (T'.heap.size + 2) u0 sen (.ref (T'.heap.size + 1)))).setTop g).pushFrame (.throwing (T'.heap.size + 2)) = (((withThrown T' Zs text P1.m.cls kX).setVm vm').setCell (T'.heap.size + 2) (plainBareV T.toThrowableT (freshCell P1.m.cls kX) (T'.heap.size + 2) u0 sen (.ref (T'.heap.size + 1)))).setFrames (.throwing (T'.heap.size + 2) :: .java g :: below) := by
      rw [State.pushFrame, State.frames_setTop _ hfrM, State.setTop_of_frames _ hfrM, State.setFrames_setFrames]
    rw [X.tail, ← hU]
    exact htg
/-! the words that it asks -/
theorem x_laysStatic {s U : State} {A B : Array Value} {C n d : String} (h : (Cond.laysStatic C n d).before A s = true) (hA : s.vm.Alike U.vm) (hH : ∀ q : Nat, q < s.heap.size → U.heap[q]? = s.heap[q]?) : (Cond.laysStatic C n d).before B U = true := by
  obtain ⟨c, k, i, f, a, cell, h1, h2, h3, h4, h5, h6, h7, h8, h9⟩ := Cond.laysStatic_spec h
  obtain ⟨k', h2', he⟩ := State.fieldFound?_setVm hA h2
  have h2'' : U.fieldFound? C n d = some (c, k', i, f) := h2'
  have h5' : U.heap[a]? = some cell := by rw [hH a (Array.getElem?_eq_some_iff.mp h5).1]; exact h5
  have h1' : U.vm.findClass C = some c := by rw [hA.findClass]; exact h1
  have h4' : k'.statics = some a := by rw [he]; exact h4
  have h9' : k'.staticTypes[f.slot]? = some f.type := by rw [he]; exact h9
  simp [Cond.before, Cond.holds, Cond.value, h1', h2'', h3, h4', h5', h6, h7, h8, h9']
theorem x_isRefZ {U : State} {B : Array Value} {C n d : String} {o : Option Nat} {A : Nat → Prop} (h : va_Z C n d (va_rf o) A U U.heap) : (Cond.isRef (.static C n d)).before B U = true := by
  obtain ⟨cf, kf, fi, f, a, cell, h1, h2, h3, h4, h5, h6, h7, h8⟩ := h
  cases o <;> simp [Cond.before, Cond.holds, Cond.value, Term.eval, State.fieldNamed?, h1, h2, h4, h5, h6, h7, va_rf]
theorem CX.refZ {D : DD} {A : Nat → Prop} {s0 s : State} {C n d : String} (hC : CX l D A s0 s) (hl : Cond.laysStatic C n d ∈ lw_tbl) (hi : Cond.initialized C ∈ lw_tbl) (hr : Cond.isRef (.static C n d) ∈ flatC (Jvm.Cond.and given_1 narrow_1)) {B : Array Value} : (Cond.isRef (.static C n d)).before B s = true := by
  obtain ⟨b, ht, hg, -⟩ := hC.2.2.2.2.2
  obtain ⟨o, ho⟩ := x_isRef (args := #[Value.ref b]) (s := s0) (t := .static C n d) (flat_of_before _ hg _ hr)
  have h := va_Zof (args := #[Value.ref b]) (s := s0) (A := fun q => s0.heap.size ≤ q) (ht _ hl) (ht _ hi) ho (fun a ha => Nat.not_le.mpr ha)
  exact x_isRefZ (((h.kept (H1 := s.heap) (fun a ha _ => hC.2.2.2.1 a ha)).narrow (B := A) (fun q hq => hC.2.2.2.2.1 q hq)).moved hC.2.1.alike)
theorem CX.layZ {D : DD} {A : Nat → Prop} {s0 s : State} {C n d : String} (hC : CX l D A s0 s) (hl : Cond.laysStatic C n d ∈ lw_tbl) {B : Array Value} : (Cond.laysStatic C n d).before B s = true := by
  obtain ⟨b, ht, hg, -⟩ := hC.2.2.2.2.2
  exact x_laysStatic (ht _ hl) hC.2.1.alike (fun q hq => hC.2.2.2.1 q hq)
def xSpec (cls : String) : List Cond := [.castable cls cls, .isRef (.static "java/lang/Throwable" "UNASSIGNED_STACK" "[Ljava/lang/StackTraceElement;"), .isRef (.static "java/lang/Throwable" "SUPPRESSED_SENTINEL" "Ljava/util/List;"), .laysStatic "java/lang/Throwable" "UNASSIGNED_STACK" "[Ljava/lang/StackTraceElement;", .laysStatic "java/lang/Throwable" "SUPPRESSED_SENTINEL" "Ljava/util/List;"]
def xNames : List String := ["java/lang/RuntimeException", "java/lang/Exception"]
theorem x_atoms {cls : String} (hin : ∀ a ∈ Bundle.messageArmAtoms cls xNames, a ∈ lw_all ∨ a ∈ xSpec cls ∨ (a ∈ lw_tbl ∧ (a.onTables && a.keepsFace) = true)) (hcs : Cond.castable cls cls ∈ lw_tbl) {D : DD} {A : Nat → Prop} {s0 s : State} (hC : CX l D A s0 s) (hts : ∀ w ∈ lw_all, w.before args s = true) : ∀ a ∈ Bundle.messageArmAtoms cls xNames, a.before args s = true := by
  intro a ha
  rcases hin a ha with h | h | h
  · exact hts a h
  rotate_left
  · exact hC.face h.1 h.2
  · simp only [xSpec, List.mem_cons, List.not_mem_nil, or_false] at h
    rcases h with rfl | rfl | rfl | rfl | rfl
    · exact va_Nw.use rfl (hC.cast hcs)
    · exact hC.refZ q234 (by decide +kernel) (by decide +kernel)
    · exact hC.refZ q236 (by decide +kernel) (by decide +kernel)
    · exact hC.layZ q234
    · exact hC.layZ q236
theorem x_atomsC : ∀ a ∈ Bundle.messageArmAtoms "java/lang/ClassCastException" xNames, a ∈ lw_all ∨ a ∈ xSpec "java/lang/ClassCastException" ∨ (a ∈ lw_tbl ∧ (a.onTables && a.keepsFace) = true) := by decide +kernel
theorem x_atomsN : ∀ a ∈ Bundle.messageArmAtoms "java/lang/NegativeArraySizeException" xNames, a ∈ lw_all ∨ a ∈ xSpec "java/lang/NegativeArraySizeException" ∨ (a ∈ lw_tbl ∧ (a.onTables && a.keepsFace) = true) := by decide +kernel
/-! the world behind it -/
theorem gH.grow {D : DD} {A : Nat → Prop} {ad : AD} {pic : PIC} {M : HM} {H H1 : Heap} (h : gH D A ad pic M H) (o : ∀ q : Nat, q < H.size → H1[q]? = H[q]?) : gH D A ad pic M H1 :=
  ⟨fun r i j e' h' => ⟨(h.1 r i j e' h').1.kept (o _ (h.1 r i j e' h').1.lt), (h.1 r i j e' h').2⟩, h.2.1, fun b e1 h1 => ⟨(h.2.2 b e1 h1).1.kept (o _ (h.2.2 b e1 h1).1.lt), (h.2.2 b e1 h1).2⟩⟩
theorem cB.grow {D : DD} {A : Nat → Prop} {ad : Nat → Nat → Nat → Nat} {V : CV} {H H1 : Heap} (h : cB D A ad V H) (z : H.size ≤ H1.size) (o : ∀ q : Nat, q < H.size → H1[q]? = H[q]?) : cB D A ad V H1 := ⟨h.1.grow o, fun q hq => h.2 q (Nat.le_trans z hq)⟩
theorem x_traces (hC : CX l D A s0 s) (ha : l.admits e) : e.platform.stackTraces = false := by
  obtain ⟨b, -, -, -, hf⟩ := hC.2.2.2.2.2
  exact Launch.traces_off hf ha
/-- the machine throws: 'text' is bounded by 'mx' bytes -/
theorem w_vmx {ad : AD} {V : CV} {cls : String} {g : JFrame} (F : FX p l c cc s args m own D A s0 nL meth ret) (hin : ∀ a ∈ Bundle.messageArmAtoms cls xNames, a ∈ lw_all ∨ a ∈ xSpec cls ∨ (a ∈ lw_tbl ∧ (a.onTables && a.keepsFace) = true)) (hcs : Cond.castable cls cls ∈ lw_tbl) (hfit : Bundle.fit cls = true ∧ (cls == "java/lang/StackOverflowError") = false ∧ (cls == "java/lang/OutOfMemoryError") = false) {mx : Nat} (hmx : mx ≤ 100000)
    (hB : cB D A ad V s.heap) (hg : g.method = m) (hsize : g.locals.size = nL) (hRf : 6 < R.frames) (hRl : 2 * g.monitorRoom + (g.stack.map fun v => v.category).sum + 10240 ≤ R.locals) (hc : 3 ≤ R.cells ∧ mx + 10 ≤ R.slots)
    (kk : ∀ (x : Nat) (H1 : Heap) (locs1 : List Loc), cB D A ad V H1 → va_S A s.heap H1 locs1 → va_Any cls s H1 x → WT p l e R s m args below meth c H1 locs1 3 (mx + 10) Q g x)
    {T : State} (hT : T.heap = s.heap) (X : Stand p l e R s m args below meth c T [] 0 0) {text : String} (htext : (text == notModelled) = false) (hlen : (stringBytes (stringToUtf16 text)).size ≤ mx) :
    ∃ t, Steps p.tables e below ((T.setTop g).pushFrame (.throwNew cls (some text) none)) t ∧ Q t := by
  have hlim : e.platform.arrayLengthLimit ≥ 100001 ∧ e.platform.maxHeapBytes ≥ 100001 := by
    have h := X.admits.platform
    constructor
    · rw [h]; exact Nat.le_of_ble_eq_true rfl
    · rw [h]; exact Nat.le_of_ble_eq_true rfl
  obtain ⟨T5, L, X5, hL, hz, hk, ⟨ce, hce, hvm, hfc, hasg⟩, st⟩ := x_msg (names := xNames) X F.1.x (x_traces F.2 X.admits) hfit.1 (by decide) hfit.2.1 hfit.2.2 (x_atoms hin hcs F.2 F.1.t) (fun x hx => absurd hx List.not_mem_nil) htext (by omega) (by simp only [componentBytes]; omega) hg (by rw [F.1.ml]; exact hsize) hRf hRl (by decide) (by omega) (by omega)
  rw [hT] at hz hk hL hce
  have hlt : ∀ q : Nat, q < s.heap.size → T5.heap[q]? = s.heap[q]? := hk
  obtain ⟨t, a1, b1⟩ := kk (T.heap.size + 2) T5.heap ([] ++ L) (hB.grow (by omega) hlt) ⟨by omega, fun q h1 _ => hlt q h1, fun q hq => hB.2 _ (by rw [hL q hq]; omega)⟩ (by
      obtain ⟨kC, hkC, -⟩ := Vm.findClass_spec hfc
      refine ⟨ce, by rw [hT]; exact hce, by rw [hvm]; rfl, ⟨kC, hkC⟩, fun comp hcomp => ?_⟩
      cases hfc.symm.trans hcomp
      exact hasg) T5 rfl (stand_widen X5 (by omega) (by omega))
  exact ⟨t, st t a1, b1⟩
/-! a cast that fails -/
theorem x_foundN {vm : Vm} {name : String} {c : ClassId} (h : vm.findClass name = some c) : ∃ k, vm.classes[c]? = some k ∧ k.name = name ∧ k.hidden = none ∧ k.loader = none := by
  obtain ⟨hlt, hp, _⟩ := Array.findIdx?_eq_some_iff_getElem.mp h
  refine ⟨vm.classes[c], by simp [hlt], ?_⟩
  simp only [Bool.and_eq_true, beq_iff_eq, Option.isNone_iff_eq_none] at hp
  exact ⟨hp.1.1.1, hp.1.1.2, hp.2⟩
theorem x_home {vm : Vm} {k : Class} (hm : (vm.modules.all fun m => m.loader.isSome || m.name == "java.base" || !(castPackages_1.any fun p => m.packages.contains p)) = true) (hl : k.loader = none) (hp : packageOf k.name ∈ castPackages_1) : (vm.home k).toList.length ≤ 38 := by
  have hn : ∀ mo, vm.moduleOf k = some mo → mo.name = "java.base" := by
    intro mo h
    unfold Vm.moduleOf at h
    split at h
    · have := List.find?_some h
      simpa using this
    · have h1 := List.find?_some h
      have h2 := List.mem_of_find?_eq_some h
      simp only [Bool.and_eq_true, beq_iff_eq] at h1
      have h3 := List.all_eq_true.mp hm mo h2
      rw [hl] at h1
      simp only [Bool.or_eq_true, h1.1, Option.isSome_none, Bool.false_eq_true, false_or, beq_iff_eq, Bool.not_eq_true'] at h3
      rcases h3 with h3 | h3
      · exact h3
      · exfalso
        have : (castPackages_1.any fun p => mo.packages.contains p) = true := List.any_eq_true.mpr ⟨_, hp, h1.2⟩
        rw [h3] at this
        cases this
  unfold Vm.home
  rw [hl]
  simp only [Vm.loaderName, String.toList_append, List.length_append]
  have a1 : (" of loader ").toList.length = 11 := by decide
  have a2 : ("'bootstrap'").toList.length = 11 := by decide
  cases h : vm.moduleOf k with
  | none =>
    have a3 : ("unnamed module").toList.length = 14 := by decide
    simp only
    omega
  | some mo =>
    have a3 : ("module ").toList.length = 7 := by decide
    have a4 : ("java.base").toList.length = 9 := by decide
    simp only [hn mo h, String.toList_append, List.length_append]
    omega
theorem x_castText {vm : Vm} {ks kt : Class} (h1 : ks.shown.toList.length ≤ 24) (h2 : kt.shown.toList.length ≤ 24) (h3 : (vm.home ks).toList.length ≤ 38) (h4 : (vm.home kt).toList.length ≤ 38) : (stringBytes (stringToUtf16 (Op.checkcast.message vm ks kt))).size ≤ 890 ∧ ((Op.checkcast.message vm ks kt) == notModelled) = false := by
  have b1 := stringBytes_size_le (stringToUtf16 (Op.checkcast.message vm ks kt))
  have b2 := utf16_size_le (Op.checkcast.message vm ks kt)
  have b4 : (vm.homes ks kt).toList.length ≤ 140 := by
    unfold Vm.homes
    split
    · show (toString ks.shown ++ toString " and " ++ toString kt.shown ++ toString " are in " ++ toString (vm.home ks)).toList.length ≤ 140
      simp only [String.toList_append, List.length_append]
      have a1 : (toString " and ").toList.length = 5 := by decide
      have a2 : (toString " are in ").toList.length = 8 := by decide
      have e1 : (toString ks.shown) = ks.shown := rfl
      have e2 : (toString kt.shown) = kt.shown := rfl
      have e3 : (toString (vm.home ks)) = vm.home ks := rfl
      rw [e1, e2, e3]
      omega
    · show (toString ks.shown ++ toString " is in " ++ toString (vm.home ks) ++ toString "; " ++ toString kt.shown ++ toString " is in " ++ toString (vm.home kt)).toList.length ≤ 140
      simp only [String.toList_append, List.length_append]
      have a1 : (toString " is in ").toList.length = 7 := by decide
      have a2 : (toString "; ").toList.length = 2 := by decide
      have e1 : (toString ks.shown) = ks.shown := rfl
      have e2 : (toString kt.shown) = kt.shown := rfl
      have e3 : (toString (vm.home ks)) = vm.home ks := rfl
      have e4 : (toString (vm.home kt)) = vm.home kt := rfl
      rw [e1, e2, e3, e4]
      omega
  have e0 : Op.checkcast.message vm ks kt = toString "class " ++ toString ks.shown ++ toString " cannot be cast to class " ++ toString kt.shown ++ toString " (" ++ toString (vm.homes ks kt) ++ toString ")" := rfl
  have b3 : (Op.checkcast.message vm ks kt).toList.length ≤ 222 := by
    rw [e0]
    simp only [String.toList_append, List.length_append]
    have a1 : (toString "class ").toList.length = 6 := by decide
    have a2 : (toString " cannot be cast to class ").toList.length = 25 := by decide
    have a3 : (toString " (").toList.length = 2 := by decide
    have a4 : (toString ")").toList.length = 1 := by decide
    have e1 : (toString ks.shown) = ks.shown := rfl
    have e2 : (toString kt.shown) = kt.shown := rfl
    have e3 : (toString (vm.homes ks kt)) = vm.homes ks kt := rfl
    rw [e1, e2, e3]
    omega
  refine ⟨by omega, ?_⟩
  rw [beq_eq_false_iff_ne]
  intro h
  have g2 := congrArg String.toList h
  have g3 : ∃ r, (Op.checkcast.message vm ks kt).toList = 'c' :: r := by
    refine ⟨"lass ".toList ++ (toString ks.shown).toList ++ (toString " cannot be cast to class ").toList ++ (toString kt.shown).toList ++ (toString " (").toList ++ (toString (vm.homes ks kt)).toList ++ (toString ")").toList, ?_⟩
    rw [e0]
    simp only [String.toList_append]
    rfl
  obtain ⟨r, g3⟩ := g3
  have g4 : notModelled.toList = '\u0000' :: " a message that is not modelled".toList := by decide
  rw [g3, g4] at g2
  simp at g2
def shortName (n : String) : Bool := decide ((dotted n).toList.length ≤ 24) && decide (packageOf n ∈ castPackages_1)
/-- a cast that fails: the cell's class is C, the target's nm -/
theorem w_castNo {ad : AD} {V : CV} {nm : String} (F : FX p l c cc s args m own D A s0 nL meth ret) (hl : Cond.classLink own index nm ∈ lw_all) (hr : ∃ cell : Cell, s.heap[b]? = some cell ∧ cell.vm.isStatics = false ∧ s.vm.findClass C = some cell.cls) (hnc : va_Nc C nm s) (hn1 : shortName C = true) (hn2 : shortName nm = true)
    (hB : cB D A ad V s.heap) (hsz : ls.size = nL) (hRf : 6 < R.frames) (hW : (rest.map fun v => v.category).sum ≤ 7) (hRl : 8 + 10240 ≤ R.locals) (hc : 3 ≤ R.cells ∧ 900 ≤ R.slots) (hdg : decode cc pc = .ok (.checkcast index, 3))
    (kk : ∀ (x : Nat) (H1 : Heap) (locs1 : List Loc), cB D A ad V H1 → va_S A s.heap H1 locs1 → va_Any "java/lang/ClassCastException" s H1 x → WT p l e R s m args below meth c H1 locs1 3 900 Q (F0 m pc ls (.ref b :: rest)) x) : W p l e R s m args below meth c s.heap [] 0 0 Q (F0 m pc ls (.ref b :: rest)) := by
  obtain ⟨cell, hcell, hobj, hcl⟩ := hr
  obtain ⟨c1, cT, g1, g2, g3⟩ := hnc
  cases hcl.symm.trans g1
  simp only [shortName, Bool.and_eq_true, decide_eq_true_eq] at hn1 hn2
  intro T hT X
  have hpl : e.platform.magicAccessors = ({} : Platform).magicAccessors := by rw [X.admits.platform]
  obtain ⟨c', hc', hcl'⟩ := Cond.classLink_spec F.1.o (F.1.t _ hl) e.platform hpl
  cases g2.symm.trans hc'
  obtain ⟨dk, _, _, kt0, hd, _, _, _, _, hkt0, _, hopen⟩ := hcl'.here
  have hcl₀ := X.warmed.classLinks hcl'
  have hW' : s.WarmedH (T.vm.noted m.cls index (.cls cT)) := X.warmed.noted hd hopen (State.rightAt_cls hcl')
  have hfs : (T.vm.noted m.cls index (.cls cT)).findClass C = some cell.cls := by rw [hW'.alike.findClass]; exact hcl
  have hft : (T.vm.noted m.cls index (.cls cT)).findClass nm = some cT := by rw [hW'.alike.findClass]; exact g2
  obtain ⟨ks, hks, s1, s2, s3⟩ := x_foundN hfs
  obtain ⟨kt, hkt, t1, t2, t3⟩ := x_foundN hft
  have hmods : (T.vm.noted m.cls index (.cls cT)).modules = s0.vm.modules := by
    have h1 := (State.WarmedH.trans F.2.2.1 hW').alike.1
    rw [h1]
  have hm : ((T.vm.noted m.cls index (.cls cT)).modules.all fun m => m.loader.isSome || m.name == "java.base" || !(castPackages_1.any fun p => m.packages.contains p)) = true := by
    obtain ⟨b0, -, -, h3, -⟩ := F.2.2.2.2.2.2
    rw [hmods]
    exact h3
  have hsh1 : ks.shown.toList.length ≤ 24 := by unfold Class.shown; rw [s2, s1]; exact hn1.1
  have hsh2 : kt.shown.toList.length ≤ 24 := by unfold Class.shown; rw [t2, t1]; exact hn2.1
  obtain ⟨htl, htm⟩ := x_castText (vm := T.vm.noted m.cls index (.cls cT)) hsh1 hsh2 (x_home hm s3 (by rw [s1]; exact hn1.2)) (x_home hm t3 (by rw [t1]; exact hn2.2))
  obtain ⟨t, a1, b1⟩ := w_vmx (mx := 890) (g := F0 m pc ls (.ref b :: rest)) F x_atomsC q733 (by decide) (by omega) hB rfl hsz hRf (by show 2 * 0 + (1 + (rest.map fun v => v.category).sum) + 10240 ≤ R.locals; omega) hc kk (T := T.setVm (T.vm.noted m.cls index (.cls cT))) hT (X.noted hW') htm htl
  refine ⟨t, ?_, b1⟩
  have hdg' : decode c.code pc = .ok (.checkcast index, 3) := by rw [F.1.b]; exact hdg
  have hexec := F.1.x
  jvm_step X.here [hexec, hdg', checkcast.wp_cold (e := e) (s := T) (f := F0 m pc ls (.ref b :: rest)) X.here.top rfl (resolveClass_links e.toSetting hcl₀) hcl₀.ready,
    checkcast.wp_ready (e := e) (s := T.setVm (T.vm.noted m.cls index (.cls cT))) (f := F0 m pc ls (.ref b :: rest)) X.here.top hcl₀.ready rfl]
  refine ⟨cell, by show T.heap[b]? = _; rw [hT]; exact hcell, VmData.noStatics_of hobj, ks, hks, kt, hkt, ?_⟩
  rw [if_neg (by rw [hW'.alike.assignable, g3]; decide)]
  exact a1
/-- an array of a negative size -/
theorem w_newaNo {ad : AD} {V : CV} {atype : ArrayType} {n : Int32} (F : FX p l c cc s args m own D A s0 nL meth ret) (hn : n < 0) (hB : cB D A ad V s.heap) (hsz : ls.size = nL) (hRf : 6 < R.frames) (hW : (rest.map fun v => v.category).sum ≤ 8) (hRl : 8 + 10240 ≤ R.locals) (hc : 3 ≤ R.cells ∧ 54 ≤ R.slots) (hdg : decode cc pc = .ok (.newarray atype, 2))
    (kk : ∀ (x : Nat) (H1 : Heap) (locs1 : List Loc), cB D A ad V H1 → va_S A s.heap H1 locs1 → va_Any "java/lang/NegativeArraySizeException" s H1 x → WT p l e R s m args below meth c H1 locs1 3 54 Q (F0 m pc ls rest) x) : W p l e R s m args below meth c s.heap [] 0 0 Q (F0 m pc ls (.int n :: rest)) := by
  intro T hT X
  obtain ⟨t, a1, b1⟩ := w_vmx (mx := 44) (g := F0 m pc ls rest) F x_atomsN q1001 (by decide) (by omega) hB rfl hsz hRf (by show 2 * 0 + (rest.map fun v => v.category).sum + 10240 ≤ R.locals; omega) hc kk hT X (negative_text_modelled hn) (negative_text_bytes n)
  exact ⟨t, X.newarrayNegative F.1.x (g := F0 m pc ls (.int n :: rest)) rfl hn rfl (by rw [F.1.b]; exact hdg) t a1, b1⟩
end VMX
