set_option maxRecDepth 100000
/-! THE WORLD OF A WALK. Cells that stay where they are have a name (r, i, j) and an address ad r i j; pic says what each holds. Other cells: M, by their addresses. -/
abbrev vwCl : List vw_C := [(RX0, TX0, 25), (RX1, TX1, 11), (RX2, TX2, 6), (RX3, TX3, 7), (RX4, TX4, 1), (RX5, TX5, 1), (RX6, TX6, 31), (RX7, TX7, 1), (RX8, TX8, 1), (RX9, TX9, 1), (RX10, TX10, 1), (RX11, TX11, 1), (RX12, TX12, 1), (RX13, TX13, 3), (RX14, TX14, 3), (RX15, TX15, 1)]
abbrev DD : Type := va_G × (Nat → ClassId)
abbrev HM : Type := Nat → Option va_E
abbrev AD : Type := Nat → Nat → Nat → Nat
abbrev PIC : Type := Nat → Nat → Nat → Option va_E
def tyK (D : DD) : List (ClassId × FieldType) := [(D.2 0, .int), (D.2 1, .byte), (D.2 2, .short), (D.2 3, .float), (D.2 4, .object RX7), (D.2 5, .object RX2), (D.2 6, .object RX14), (D.2 7, .object RX4), (D.2 8, .object RX5)]
def hset (M : HM) (a : Nat) (e : va_E) : HM := fun q => if q = a then some e else M q
def pset (pic : PIC) (r i j : Nat) (e : va_E) : PIC := fun r' i' j' => if r' = r ∧ i' = i ∧ j' = j then some e else pic r' i' j'
/-- an array's class by its number among the array classes -/
def tr (D : DD) (e : va_E) : va_E := match e with
  | .inl a => .inl (D.2 a.1, a.2)
  | .inr o => .inr o
def gH (D : DD) (A : Nat → Prop) (ad : AD) (pic : PIC) (M : HM) (H : Heap) : Prop :=
  (∀ r i j e, pic r i j = some e → va_at D.1 vwCl (ad r i j, tr D e) H ∧ A (ad r i j)) ∧
  (∀ r i j e r' i' j' e', pic r i j = some e → pic r' i' j' = some e' → ad r i j = ad r' i' j' → r = r' ∧ i = i' ∧ j = j') ∧
  (∀ a e, M a = some e → va_at D.1 vwCl (a, tr D e) H ∧ A a ∧ ∀ r i j e', pic r i j = some e' → ad r i j ≠ a)
theorem at_P {D : va_G} {cl : List vw_C} {a : Nat} {e : va_E} {H : Heap} (h : va_at D cl (a, e) H) : va_P D cl [(a, e)] H := by
  intro k q hk
  have hz : k < 1 := (List.getElem?_eq_some_iff.mp hk).1
  rw [show k = 0 by omega] at hk
  cases hk
  exact h
theorem gH.pic {D : DD} {A : Nat → Prop} {ad : AD} {pic : PIC} {M : HM} {H : Heap} (h : gH D A ad pic M H) {r i j : Nat} {e : va_E} (hp : pic r i j = some e) : va_at D.1 vwCl (ad r i j, tr D e) H := (h.1 r i j e hp).1
theorem gH.dyn {D : DD} {A : Nat → Prop} {ad : AD} {pic : PIC} {M : HM} {H : Heap} (h : gH D A ad pic M H) {a : Nat} {e : va_E} (hp : M a = some e) : va_at D.1 vwCl (a, tr D e) H := (h.2.2 a e hp).1
theorem pset_some {pic : PIC} {r i j : Nat} {e0 e e' : va_E} {r' i' j' : Nat} (hp : pic r i j = some e0) (h : pset pic r i j e r' i' j' = some e') : ∃ e1, pic r' i' j' = some e1 := by
  unfold pset at h
  split at h
  · rename_i q
    obtain ⟨rfl, rfl, rfl⟩ := q
    exact ⟨_, hp⟩
  · exact ⟨_, h⟩
theorem gH.set {D : DD} {A : Nat → Prop} {ad : AD} {pic : PIC} {M : HM} {H H1 : Heap} (h : gH D A ad pic M H) {r i j : Nat} {e0 e : va_E} (hp : pic r i j = some e0) (he : va_at D.1 vwCl (ad r i j, tr D e) H1) (o : ∀ q : Nat, q ≠ ad r i j → H1[q]? = H[q]?) : gH D A ad (pset pic r i j e) M H1 := by
  refine ⟨?_, ?_, ?_⟩
  · intro r' i' j' e' h'
    unfold pset at h'
    split at h'
    · rename_i q
      obtain ⟨rfl, rfl, rfl⟩ := q
      cases h'
      exact ⟨he, (h.1 _ _ _ _ hp).2⟩
    · rename_i q
      obtain ⟨h1, h2⟩ := h.1 _ _ _ _ h'
      refine ⟨h1.kept (o _ fun z => q ?_), h2⟩
      exact h.2.1 _ _ _ _ _ _ _ _ h' hp z
  · intro r1 i1 j1 e1 r2 i2 j2 e2 h1 h2 hz
    obtain ⟨x1, g1⟩ := pset_some hp h1
    obtain ⟨x2, g2⟩ := pset_some hp h2
    exact h.2.1 _ _ _ _ _ _ _ _ g1 g2 hz
  · intro a e1 h1
    obtain ⟨g1, g2, g3⟩ := h.2.2 a e1 h1
    refine ⟨g1.kept (o _ fun z => g3 _ _ _ _ hp z.symm), g2, fun r' i' j' e' h' => ?_⟩
    obtain ⟨x, g⟩ := pset_some hp h'
    exact g3 _ _ _ _ g
theorem gH.setD {D : DD} {A : Nat → Prop} {ad : AD} {pic : PIC} {M : HM} {H H1 : Heap} (h : gH D A ad pic M H) {a : Nat} {e0 e : va_E} (hp : M a = some e0) (he : va_at D.1 vwCl (a, tr D e) H1) (o : ∀ q : Nat, q ≠ a → H1[q]? = H[q]?) : gH D A ad pic (hset M a e) H1 := by
  refine ⟨fun r i j e' h' => ?_, h.2.1, fun b e1 h1 => ?_⟩
  · obtain ⟨g1, g2⟩ := h.1 r i j e' h'
    exact ⟨g1.kept (o _ ((h.2.2 a e0 hp).2.2 _ _ _ _ h')), g2⟩
  · unfold hset at h1
    split at h1
    · rename_i q
      subst q
      cases h1
      exact ⟨he, (h.2.2 _ _ hp).2⟩
    · rename_i q
      obtain ⟨g1, g2⟩ := h.2.2 b e1 h1
      exact ⟨g1.kept (o _ q), g2⟩
theorem gH.new {D : DD} {A : Nat → Prop} {ad : AD} {pic : PIC} {M : HM} {H H1 : Heap} (h : gH D A ad pic M H) {a : Nat} {e : va_E} (ha : a = H.size) (hA : A a) (he : va_at D.1 vwCl (a, tr D e) H1) (o : ∀ q : Nat, q < H.size → H1[q]? = H[q]?) : gH D A ad pic (hset M a e) H1 ∧ M a = none := by
  subst ha
  refine ⟨⟨fun r i j e' h' => ?_, h.2.1, fun b e1 h1 => ?_⟩, ?_⟩
  · obtain ⟨g1, g2⟩ := h.1 r i j e' h'
    exact ⟨g1.kept (o _ g1.lt), g2⟩
  · unfold hset at h1
    split at h1
    · rename_i q
      subst q
      cases h1
      exact ⟨he, hA, fun r i j e' h' z => absurd ((h.1 r i j e' h').1.lt) (by show ¬ (ad r i j < H.size); rw [z]; exact Nat.lt_irrefl _)⟩
    · obtain ⟨g1, g2⟩ := h.2.2 b e1 h1
      exact ⟨g1.kept (o _ g1.lt), g2⟩
  · cases hm : M H.size with
    | none => rfl
    | some e1 => exact absurd ((h.2.2 _ _ hm).1.lt) (Nat.lt_irrefl _)
/-! What the law's start gave, carried along: every method's start knows it -/
def LSt (l : Launch) (s0 : State) : Prop := ∃ b : Nat, (∀ w ∈ lw_tbl, w.before #[Value.ref b] s0 = true) ∧ (Jvm.Cond.and given_1 narrow_1).before #[Value.ref b] s0 = true ∧ modulesRight_1 s0 = true ∧ l.flags = flags0
def CX (l : Launch) (D : DD) (A : Nat → Prop) (s0 U : State) : Prop := va_K D.1 vwCl (tyK D) U ∧ s0.WarmedH U.vm ∧ s0.heap.size ≤ U.heap.size ∧ (∀ q : Nat, q < s0.heap.size → U.heap[q]? = s0.heap[q]?) ∧ (∀ q : Nat, A q → s0.heap.size ≤ q) ∧ LSt l s0
theorem CX.to {l : Launch} {D : DD} {A : Nat → Prop} {s0 s U : State} {H : Heap} {locs : List Loc} (h : CX l D A s0 s) (hS : va_S A s.heap H locs) (hU : U.heap = H) (hW : s.WarmedH U.vm) : CX l D A s0 U :=
  ⟨h.1.moved hW.alike, State.WarmedH.trans h.2.1 hW, Nat.le_trans h.2.2.1 (by rw [hU]; exact hS.1), fun q hq => by
    rw [hU, hS.2.1 q (Nat.lt_of_lt_of_le hq h.2.2.1) (fun z => absurd (h.2.2.2.2.1 q z) (Nat.not_le.mpr hq))]
    exact h.2.2.2.1 q hq, h.2.2.2.2.1, h.2.2.2.2.2⟩
theorem CX.blind {l : Launch} {D : DD} {A : Nat → Prop} {s0 U : State} {g : JFrame} {mk : MethodId} {a : Array Value} (h : CX l D A s0 U) : CX l D A s0 (U.calling g mk a) := ⟨va_K.moved (u := U) (U := U.calling g mk a) (Vm.Alike.refl U.vm) h.1, h.2⟩
/-- what stays the same all through one method's walk: FP where no cell is touched, FX with what the law's start gave -/
def FP (p : Program) (c : Code) (cc : ByteArray) (s : State) (args : Array Value) (m : MethodId) (own : String) (nL : Nat) (meth : Method) (ret : Option FieldType) : Prop :=
  p.tables.exec = Jvm.exec ∧ c.code = cc ∧ c.maxLocals = nL ∧ s.vm.findClass own = some m.cls ∧ (∀ w ∈ lw_all, w.before args s = true) ∧ meth.sig.returnType = ret ∧ meth.locks = false
theorem FP.x {p : Program} {c : Code} {cc : ByteArray} {s : State} {args : Array Value} {m : MethodId} {own : String} {nL : Nat} {meth : Method} {ret : Option FieldType} (F : FP p c cc s args m own nL meth ret) : p.tables.exec = Jvm.exec := F.1
theorem FP.b {p : Program} {c : Code} {cc : ByteArray} {s : State} {args : Array Value} {m : MethodId} {own : String} {nL : Nat} {meth : Method} {ret : Option FieldType} (F : FP p c cc s args m own nL meth ret) : c.code = cc := F.2.1
theorem FP.ml {p : Program} {c : Code} {cc : ByteArray} {s : State} {args : Array Value} {m : MethodId} {own : String} {nL : Nat} {meth : Method} {ret : Option FieldType} (F : FP p c cc s args m own nL meth ret) : c.maxLocals = nL := F.2.2.1
theorem FP.o {p : Program} {c : Code} {cc : ByteArray} {s : State} {args : Array Value} {m : MethodId} {own : String} {nL : Nat} {meth : Method} {ret : Option FieldType} (F : FP p c cc s args m own nL meth ret) : s.vm.findClass own = some m.cls := F.2.2.2.1
theorem FP.t {p : Program} {c : Code} {cc : ByteArray} {s : State} {args : Array Value} {m : MethodId} {own : String} {nL : Nat} {meth : Method} {ret : Option FieldType} (F : FP p c cc s args m own nL meth ret) : ∀ w ∈ lw_all, w.before args s = true := F.2.2.2.2.1
theorem FP.r {p : Program} {c : Code} {cc : ByteArray} {s : State} {args : Array Value} {m : MethodId} {own : String} {nL : Nat} {meth : Method} {ret : Option FieldType} (F : FP p c cc s args m own nL meth ret) : meth.sig.returnType = ret := F.2.2.2.2.2.1
theorem FP.k {p : Program} {c : Code} {cc : ByteArray} {s : State} {args : Array Value} {m : MethodId} {own : String} {nL : Nat} {meth : Method} {ret : Option FieldType} (F : FP p c cc s args m own nL meth ret) : meth.locks = false := F.2.2.2.2.2.2
def FX (p : Program) (l : Launch) (c : Code) (cc : ByteArray) (s : State) (args : Array Value) (m : MethodId) (own : String) (D : DD) (A : Nat → Prop) (s0 : State) (nL : Nat) (meth : Method) (ret : Option FieldType) : Prop :=
  FP p c cc s args m own nL meth ret ∧ CX l D A s0 s
theorem mk_FP {p : Program} {l : Launch} {e : Env} {s s₁ : State} {m : MethodId} {args : Array Value} {below : List Frame} {meth : Method} {c : Code} {y : MethodName} {cc : ByteArray} {nL : Nat} {ret : Option FieldType} {rm : Room} {own : String} (B : BodyLoose p l y (headSpec (ws_ y cc nL ret) rm) cc nL ret e s m args below meth c s₁) (hml : c.maxLocals = nL) (hy : y.cls = own) : FP p c cc s args m own nL meth ret :=
  ⟨B.exec, B.bytes, hml, by rw [← hy]; exact findClass_of_methodNamed B.named, fun w h => atoms_spec (ws := ws_ y cc nL ret) B.pre w (List.mem_cons_of_mem _ h), B.returns, B.notSynchronized⟩
section AROW
variable {p : Program} {l : Launch} {e : Env} {R : Room} {s : State} {m : MethodId} {args : Array Value} {below : List Frame} {meth : Method} {c : Code} {H : Heap} {locs : List Loc} {cells slots : Nat} {Q : State → Prop}
variable {cc : ByteArray} {pc : Nat} {ls : Array Slot} {rest : List Value} {D : DD} {A : Nat → Prop} {s0 : State} {own : String} {nL : Nat} {ret : Option FieldType} {a : Nat} {ad : AD} {pic : PIC} {M : HM}
theorem a_get (F : FX p l c cc s args m own D A s0 nL meth ret) {ref C : String} {T : u_T} {N ci index : Nat} (hin : ∀ w ∈ u_ws C T N, w ∈ lw_all) {fs : List Value} (he : va_at D.1 vwCl (a, .inr (ci, fs)) H) (hc : vwCl[ci]? = some (C, T, N)) (k : Nat) (hk : k < N) (hl : Cond.fieldLink own index ref (T k).2.1 (T k).2.2.1 ∈ lw_all) (hr : (T k).1 = ref) {v : Value} (hv : fs[k]? = some v) (hdg : decode cc pc = .ok (.getfield index, 3))
    (kk : W p l e R s m args below meth c H locs cells slots Q (F0 m (pc + 3) ls (v :: rest))) : W p l e R s m args below meth c H locs cells slots Q (F0 m pc ls (.ref a :: rest)) :=
  va_get F.1.x F.1.b F.1.t hin F.1.o F.2.1 (at_P he) 0 rfl hc k hk (F.1.t _ hl) (by rw [hr]; exact fun _ h => h) hv hdg kk
theorem a_put (F : FX p l c cc s args m own D A s0 nL meth ret) {ref C : String} {T : u_T} {N ci index : Nat} (hin : ∀ w ∈ u_ws C T N, w ∈ lw_all) {ty0 : Nat → FieldType} (hty : ∀ k, k < N → parseFieldDescriptor (T k).2.2.1 = some (ty0 k)) (hnm : ∀ a, a < N → ∀ b, b < N → a ≠ b → (T a).2.1 ≠ (T b).2.1) {fs : List Value} (he : va_at D.1 vwCl (a, .inr (ci, fs)) H) (hc : vwCl[ci]? = some (C, T, N)) (k : Nat) (hk : k < N) (hl : Cond.fieldLink own index ref (T k).2.1 (T k).2.2.1 ∈ lw_all) (hr : (T k).1 = ref) (hfin : (T k).2.2.2 = false) {ty : FieldType} {v : Value} (hd : parseFieldDescriptor (T k).2.2.1 = some ty) (hn : narrow ty v = v) (hfit : fits ty v = true) (hlen : k < fs.length) (hdg : decode cc pc = .ok (.putfield index, 3))
    (kk : ∀ (H1 : Heap) (i : Nat), va_at D.1 vwCl (a, .inr (ci, fs.set k v)) H1 → H1.size = H.size → (∀ q : Nat, q ≠ a → H1[q]? = H[q]?) → W p l e R s m args below meth c H1 (locs ++ [⟨a, i⟩]) cells slots Q (F0 m (pc + 3) ls rest)) : W p l e R s m args below meth c H locs cells slots Q (F0 m pc ls (v :: .ref a :: rest)) := by
  obtain ⟨⟨hx, hb, -, hown, hts, -, -⟩, hC⟩ := F
  have hK := hC.1
  have hap := va_apart (own := own) hts hin ty0 hty hnm hK hc
  obtain ⟨r, h1, cell, q1, q2, q3, q4⟩ := he
  have hr1 : r = (C, T, N) := Option.some.inj (h1.symm.trans hc)
  subst hr1
  obtain ⟨hS, hfc, kC, hkC, hkind⟩ := hK.1 ci _ hc
  obtain ⟨cf, kf, fi, f, hi, hsl⟩ := hS k hk
  have hlay := hts _ (hin _ (u_in_lay hk))
  unfold u_lay at hlay
  rw [if_neg (by rw [hfin]; decide)] at hlay
  have hst := (u_facts hfc hkC (u_lays hts hin hk) hi).1
  have h6 := u_store hfc hkC hkind hlay hi hd hn hfit
  refine W.putK hx hb (f := f) ⟨hown, hts _ hl, ⟨_, _, _, by rw [← hr]; exact hi⟩, hst⟩ (by rw [q2]; exact h6) q1 q3 (by rw [hsl]; exact k2_hasslot (q4 k hk)) rfl rfl hdg fun H' e1 e2 e3 => ?_
  rw [hsl] at e1 ⊢
  exact kk H' _ ⟨_, hc, t_OB.to (V := updV (vp_V fs) k v) ⟨_, e1, q2, q3, t_set q4 hap hk v⟩ (fun j _ => vp_updV_set hlen v j)⟩ e2 e3
theorem a_putF (F : FX p l c cc s args m own D A s0 nL meth ret) {ref C : String} {T : u_T} {N ci index : Nat} (hin : ∀ w ∈ u_ws C T N, w ∈ lw_all) {ty0 : Nat → FieldType} (hty : ∀ k, k < N → parseFieldDescriptor (T k).2.2.1 = some (ty0 k)) (hnm : ∀ a, a < N → ∀ b, b < N → a ≠ b → (T a).2.1 ≠ (T b).2.1) {fs : List Value} (he : va_at D.1 vwCl (a, .inr (ci, fs)) H) (hc : vwCl[ci]? = some (C, T, N)) (k : Nat) (hk : k < N) (hl : Cond.fieldLink own index ref (T k).2.1 (T k).2.2.1 ∈ lw_all) (hr : (T k).1 = ref) (hfin : (T k).2.2.2 = true) (hin2 : meth.name = "<init>") (hdecl : (T k).1 = own) {ty : FieldType} {v : Value} (hd : parseFieldDescriptor (T k).2.2.1 = some ty) (hn : narrow ty v = v) (hfit : fits ty v = true) (hlen : k < fs.length) (hdg : decode cc pc = .ok (.putfield index, 3))
    (kk : ∀ (H1 : Heap) (i : Nat), va_at D.1 vwCl (a, .inr (ci, fs.set k v)) H1 → H1.size = H.size → (∀ q : Nat, q ≠ a → H1[q]? = H[q]?) → W p l e R s m args below meth c H1 (locs ++ [⟨a, i⟩]) cells slots Q (F0 m (pc + 3) ls rest)) : W p l e R s m args below meth c H locs cells slots Q (F0 m pc ls (v :: .ref a :: rest)) := by
  obtain ⟨⟨hx, hb, -, hown, hts, -, -⟩, hC⟩ := F
  have hK := hC.1
  have hap := va_apart (own := own) hts hin ty0 hty hnm hK hc
  obtain ⟨r, h1, cell, q1, q2, q3, q4⟩ := he
  have hr1 : r = (C, T, N) := Option.some.inj (h1.symm.trans hc)
  subst hr1
  obtain ⟨hS, hfc, kC, hkC, hkind⟩ := hK.1 ci _ hc
  obtain ⟨cf, kf, fi, f, hi, hsl⟩ := hS k hk
  have hlay := hts _ (hin _ (u_in_lay hk))
  unfold u_lay at hlay
  rw [if_pos hfin] at hlay
  have hst := (u_facts hfc hkC (u_lays hts hin hk) hi).1
  have hcf : m.cls = cf := by
    obtain ⟨_, _, c', _, _, _, -, -, hf', -, -, -, hown2, -⟩ := Cond.laysFinal_spec hlay
    have e1 : c' = cf := by have := hi.symm.trans hf'; simp at this; exact this.1.symm
    rw [hdecl] at hown2
    rw [← e1]; exact Option.some.inj (hown.symm.trans hown2)
  have h6 := u_fits hfc hkC hkind (Or.inr hlay) hi hd hn hfit
  refine W.putFinK hx hb hown (hts _ hl) (by rw [← hr]; exact hi) hst hcf hin2 (by rw [q2]; exact h6) q1 q3 (by rw [hsl]; exact k2_hasslot (q4 k hk)) rfl rfl hdg fun H' e1 e2 e3 => ?_
  rw [hsl] at e1 ⊢
  exact kk H' _ ⟨_, hc, t_OB.to (V := updV (vp_V fs) k v) ⟨_, e1, q2, q3, t_set q4 hap hk v⟩ (fun j _ => vp_updV_set hlen v j)⟩ e2 e3
theorem a_iald (F : FX p l c cc s args m own D A s0 nL meth ret) {n : Nat} {f : Nat → Int32} (he : va_at D.1 vwCl (a, .inl (D.2 0, n, .inl f)) H) {i : Int32} (hin : vp_in i n) (hdg : decode cc pc = .ok (.iaload, 1))
    (kk : W p l e R s m args below meth c H locs cells slots Q (F0 m (pc + 1) ls (.int (f i.toNatClampNeg) :: rest))) : W p l e R s m args below meth c H locs cells slots Q (F0 m pc ls (.int i :: .ref a :: rest)) :=
  va_iald F.1.x F.1.b F.2.1 (at_P he) 0 0 rfl rfl hin hdg kk
theorem a_iast (F : FX p l c cc s args m own D A s0 nL meth ret) {n : Nat} {f : Nat → Int32} (he : va_at D.1 vwCl (a, .inl (D.2 0, n, .inl f)) H) {i x : Int32} (hin : vp_in i n) (hdg : decode cc pc = .ok (.iastore, 1))
    (kk : ∀ (H1 : Heap) (j : Nat), va_at D.1 vwCl (a, .inl (D.2 0, n, .inl (upd f i.toNatClampNeg x))) H1 → H1.size = H.size → (∀ q : Nat, q ≠ a → H1[q]? = H[q]?) → W p l e R s m args below meth c H1 (locs ++ [⟨a, j⟩]) cells slots Q (F0 m (pc + 1) ls rest)) : W p l e R s m args below meth c H locs cells slots Q (F0 m pc ls (.int x :: .int i :: .ref a :: rest)) := by
  refine W.iast F.1.x F.1.b he (((F.2.1).2 0 _ rfl).1 n (fun j => .int (f j))) (fun q => by cases q) (by show ¬ (i < 0 ∨ (arrV _ _ _).slots.size ≤ _); rw [arrV_size]; exact hin) rfl rfl hdg fun H1 e z oq => ?_
  refine kk H1 _ ?_ z oq
  show H1[a]? = some (vp_cell _ _)
  rw [e, vp_cell_i, vp_cell_i, arrV_store]
  congr 2
  funext q
  by_cases hq : q = i.toNatClampNeg
  · subst hq
    simp [updV, upd]
  · simp [updV, upd, hq]
theorem va_S.cell {A : Nat → Prop} {H0 H H1 : Heap} {locs : List Loc} {a k : Nat} (h : va_S A H0 H locs) (z : H1.size = H.size) (o : ∀ q : Nat, q ≠ a → H1[q]? = H[q]?) (ha : A a) : va_S A H0 H1 (locs ++ [⟨a, k⟩]) := h.put z o ha
/-! .. and over the picture -/
theorem g_iald (F : FX p l c cc s args m own D A s0 nL meth ret) (hH : gH D A ad pic M H) {r i j n : Nat} {f : Nat → Int32} (hp : pic r i j = some (.inl (0, n, .inl f))) {x : Int32} (hin : vp_in x n) (hdg : decode cc pc = .ok (.iaload, 1))
    (kk : W p l e R s m args below meth c H locs cells slots Q (F0 m (pc + 1) ls (.int (f x.toNatClampNeg) :: rest))) : W p l e R s m args below meth c H locs cells slots Q (F0 m pc ls (.int x :: .ref (ad r i j) :: rest)) := a_iald F (hH.pic hp) hin hdg kk
theorem g_iast (F : FX p l c cc s args m own D A s0 nL meth ret) (hH : gH D A ad pic M H) (hS : va_S A s.heap H locs) {r i j n : Nat} {f : Nat → Int32} (hp : pic r i j = some (.inl (0, n, .inl f))) {x v : Int32} (hin : vp_in x n) {pic' : PIC} (hpic : pset pic r i j (.inl (0, n, .inl (upd f x.toNatClampNeg v))) = pic') (hdg : decode cc pc = .ok (.iastore, 1))
    (kk : ∀ (H1 : Heap) (locs1 : List Loc), gH D A ad pic' M H1 → va_S A s.heap H1 locs1 → W p l e R s m args below meth c H1 locs1 cells slots Q (F0 m (pc + 1) ls rest)) : W p l e R s m args below meth c H locs cells slots Q (F0 m pc ls (.int v :: .int x :: .ref (ad r i j) :: rest)) := by
  refine a_iast F (hH.pic hp) hin hdg fun H1 k h1 z o => kk H1 _ ?_ (hS.put z o (hH.1 _ _ _ _ hp).2)
  rw [← hpic]
  exact hH.set hp h1 o
theorem g_get (F : FX p l c cc s args m own D A s0 nL meth ret) (hH : gH D A ad pic M H) {ref C : String} {T : u_T} {N ci index r i j : Nat} (hin : ∀ w ∈ u_ws C T N, w ∈ lw_all) {fs : List Value} (hp : pic r i j = some (.inr (ci, fs))) (hc : vwCl[ci]? = some (C, T, N)) (k : Nat) (hk : k < N) (hl : Cond.fieldLink own index ref (T k).2.1 (T k).2.2.1 ∈ lw_all) (hr : (T k).1 = ref) {v : Value} (hv : fs[k]? = some v) (hdg : decode cc pc = .ok (.getfield index, 3))
    (kk : W p l e R s m args below meth c H locs cells slots Q (F0 m (pc + 3) ls (v :: rest))) : W p l e R s m args below meth c H locs cells slots Q (F0 m pc ls (.ref (ad r i j) :: rest)) := a_get F hin (hH.pic hp) hc k hk hl hr hv hdg kk
theorem g_put (F : FX p l c cc s args m own D A s0 nL meth ret) (hH : gH D A ad pic M H) (hS : va_S A s.heap H locs) {ref C : String} {T : u_T} {N ci index r i j : Nat} (hin : ∀ w ∈ u_ws C T N, w ∈ lw_all) {ty0 : Nat → FieldType} (hty : ∀ k, k < N → parseFieldDescriptor (T k).2.2.1 = some (ty0 k)) (hnm : ∀ a, a < N → ∀ b, b < N → a ≠ b → (T a).2.1 ≠ (T b).2.1) {fs : List Value} (hp : pic r i j = some (.inr (ci, fs))) (hc : vwCl[ci]? = some (C, T, N)) (k : Nat) (hk : k < N) (hl : Cond.fieldLink own index ref (T k).2.1 (T k).2.2.1 ∈ lw_all) (hr : (T k).1 = ref) (hfin : (T k).2.2.2 = false) {ty : FieldType} {v : Value} (hd : parseFieldDescriptor (T k).2.2.1 = some ty) (hn : narrow ty v = v) (hfit : fits ty v = true) (hlen : k < fs.length) {pic' : PIC} (hpic : pset pic r i j (.inr (ci, fs.set k v)) = pic') (hdg : decode cc pc = .ok (.putfield index, 3))
    (kk : ∀ (H1 : Heap) (locs1 : List Loc), gH D A ad pic' M H1 → va_S A s.heap H1 locs1 → W p l e R s m args below meth c H1 locs1 cells slots Q (F0 m (pc + 3) ls rest)) : W p l e R s m args below meth c H locs cells slots Q (F0 m pc ls (v :: .ref (ad r i j) :: rest)) := by
  refine a_put F hin hty hnm (hH.pic hp) hc k hk hl hr hfin hd hn hfit hlen hdg fun H1 x h1 z o => kk H1 _ ?_ (hS.put z o (hH.1 _ _ _ _ hp).2)
  rw [← hpic]
  exact hH.set hp h1 o
end AROW
