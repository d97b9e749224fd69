set_option maxRecDepth 100000
/-! further rows: nest mates' fields; arrays of bytes, shorts, floats, references; new cells -/
theorem CX.nest {l : Launch} {D : DD} {A : Nat → Prop} {s0 s : State} (hC : CX l D A s0 s) {a : String} {i : Nat} {b n d h : String} (hw : Cond.fieldLinkNest a i b n d h ∈ lw_tbl) : va_Nw (.fieldLinkNest a i b n d h) s := by
  obtain ⟨x, hx, -⟩ := hC.2.2.2.2.2
  exact va_Nw.warmF hC.2.1 (va_Nw.of rfl (hx _ hw))
theorem CX.nestM {l : Launch} {D : DD} {A : Nat → Prop} {s0 s : State} (hC : CX l D A s0 s) {a : String} {i : Nat} {x : MethodName} {h : String} (hw : Cond.methodLinkNest a i x h ∈ lw_tbl) : va_Nw (.methodLinkNest a i x h) s := by
  obtain ⟨b, hx, -⟩ := hC.2.2.2.2.2
  exact va_Nw.warmM hC.2.1 (va_Nw.of rfl (hx _ hw))
theorem CX.cast {l : Launch} {D : DD} {A : Nat → Prop} {s0 s : State} (hC : CX l D A s0 s) {a b : String} (hw : Cond.castable a b ∈ lw_tbl) : va_Nw (.castable a b) s := by
  obtain ⟨x, hx, -⟩ := hC.2.2.2.2.2
  exact va_Nw.warmC hC.2.1 (va_Nw.of rfl (hx _ hw))
theorem CX.over {l : Launch} {D : DD} {A : Nat → Prop} {s0 s : State} (hC : CX l D A s0 s) {C : String} (hw : Cond.arrayOver (.object C) ∈ lw_tbl) : va_AO C s := by
  obtain ⟨x, hx, -⟩ := hC.2.2.2.2.2
  exact va_AO.moved hC.2.1.alike (hx _ hw)
theorem x_lt {x : Int32} {n : Nat} (h : vp_in x n) : x.toNatClampNeg < n := Nat.not_le.mp fun q => h (Or.inr q)
section AROW2
variable {p : Program} {l : Launch} {e : Env} {R : Room} {s : State} {m : MethodId} {args : Array Value} {below : List Frame} {meth : Method} {c : Code} {H : Heap} {locs : List Loc} {cells slots : Nat} {Q : State → Prop}
variable {cc : ByteArray} {pc : Nat} {ls : Array Slot} {rest : List Value} {D : DD} {A : Nat → Prop} {s0 : State} {own : String} {nL : Nat} {ret : Option FieldType} {a : Nat} {ad : AD} {pic : PIC} {M : HM}
theorem a_getN (F : FX p l c cc s args m own D A s0 nL meth ret) {ref C host : String} {T : u_T} {N ci index : Nat} (hin : ∀ w ∈ u_ws C T N, w ∈ lw_all) {fs : List Value} (he : va_at D.1 vwCl (a, .inr (ci, fs)) H) (hc : vwCl[ci]? = some (C, T, N)) (k : Nat) (hk : k < N) (hl : Cond.fieldLinkNest own index ref (T k).2.1 (T k).2.2.1 host ∈ lw_tbl) (hr : (T k).1 = ref) {v : Value} (hv : fs[k]? = some v) (hdg : decode cc pc = .ok (.getfield index, 3))
    (kk : W p l e R s m args below meth c H locs cells slots Q (F0 m (pc + 3) ls (v :: rest))) : W p l e R s m args below meth c H locs cells slots Q (F0 m pc ls (.ref a :: rest)) :=
  va_getN F.1.x F.1.b F.1.t hin F.1.o F.2.1 (at_P he) 0 rfl hc k hk (va_Nw.use rfl (F.2.nest hl)) (by rw [hr]; exact fun _ h => h) hv hdg kk
theorem a_putN (F : FX p l c cc s args m own D A s0 nL meth ret) {ref C host : String} {T : u_T} {N ci index : Nat} (hin : ∀ w ∈ u_ws C T N, w ∈ lw_all) {ty0 : Nat → FieldType} (hty : ∀ k, k < N → parseFieldDescriptor (T k).2.2.1 = some (ty0 k)) (hnm : ∀ a, a < N → ∀ b, b < N → a ≠ b → (T a).2.1 ≠ (T b).2.1) {fs : List Value} (he : va_at D.1 vwCl (a, .inr (ci, fs)) H) (hc : vwCl[ci]? = some (C, T, N)) (k : Nat) (hk : k < N) (hl : Cond.fieldLinkNest own index ref (T k).2.1 (T k).2.2.1 host ∈ lw_tbl) (hr : (T k).1 = ref) (hfin : (T k).2.2.2 = false) {ty : FieldType} {v : Value} (hd : parseFieldDescriptor (T k).2.2.1 = some ty) (hn : narrow ty v = v) (hfit : fits ty v = true) (hlen : k < fs.length) (hdg : decode cc pc = .ok (.putfield index, 3))
    (kk : ∀ (H1 : Heap) (i : Nat), va_at D.1 vwCl (a, .inr (ci, fs.set k v)) H1 → H1.size = H.size → (∀ q : Nat, q ≠ a → H1[q]? = H[q]?) → W p l e R s m args below meth c H1 (locs ++ [⟨a, i⟩]) cells slots Q (F0 m (pc + 3) ls rest)) : W p l e R s m args below meth c H locs cells slots Q (F0 m pc ls (v :: .ref a :: rest)) := by
  obtain ⟨⟨hx, hb, -, hown, hts, -, -⟩, hC⟩ := F
  have hK := hC.1
  have hap := va_apart (own := own) hts hin ty0 hty hnm hK hc
  obtain ⟨r, h1, cell, q1, q2, q3, q4⟩ := he
  have hr1 : r = (C, T, N) := Option.some.inj (h1.symm.trans hc)
  subst hr1
  obtain ⟨hS, hfc, kC, hkC, hkind⟩ := hK.1 ci _ hc
  obtain ⟨cf, kf, fi, f, hi, hsl⟩ := hS k hk
  have hlay := hts _ (hin _ (u_in_lay hk))
  unfold u_lay at hlay
  rw [if_neg (by rw [hfin]; decide)] at hlay
  have hst := (u_facts hfc hkC (u_lays hts hin hk) hi).1
  have h6 := u_store hfc hkC hkind hlay hi hd hn hfit
  refine va_WputK hx hb (f := f) hown (va_Nw.use rfl (hC.nest hl)) (by rw [← hr]; exact hi) hst (by rw [q2]; exact h6) q1 q3 (by rw [hsl]; exact k2_hasslot (q4 k hk)) rfl rfl hdg fun H' e1 e2 e3 => ?_
  rw [hsl] at e1 ⊢
  exact kk H' _ ⟨_, hc, t_OB.to (V := updV (vp_V fs) k v) ⟨_, e1, q2, q3, t_set q4 hap hk v⟩ (fun j _ => vp_updV_set hlen v j)⟩ e2 e3
theorem a_bald (F : FX p l c cc s args m own D A s0 nL meth ret) {n : Nat} {f : Nat → Int32} (he : va_at D.1 vwCl (a, .inl (D.2 1, n, .inl f)) H) {i : Int32} (hin : vp_in i n) (hdg : decode cc pc = .ok (.baload, 1))
    (kk : W p l e R s m args below meth c H locs cells slots Q (F0 m (pc + 1) ls (.int (f i.toNatClampNeg) :: rest))) : W p l e R s m args below meth c H locs cells slots Q (F0 m pc ls (.int i :: .ref a :: rest)) :=
  va_bald F.1.x F.1.b F.2.1 (at_P he) 0 1 rfl rfl hin hdg kk
theorem a_sald (F : FX p l c cc s args m own D A s0 nL meth ret) {n : Nat} {f : Nat → Int32} (he : va_at D.1 vwCl (a, .inl (D.2 2, n, .inl f)) H) {i : Int32} (hin : vp_in i n) (hdg : decode cc pc = .ok (.saload, 1))
    (kk : W p l e R s m args below meth c H locs cells slots Q (F0 m (pc + 1) ls (.int (f i.toNatClampNeg) :: rest))) : W p l e R s m args below meth c H locs cells slots Q (F0 m pc ls (.int i :: .ref a :: rest)) :=
  va_sald F.1.x F.1.b F.2.1 (at_P he) 0 2 rfl rfl hin hdg kk
theorem a_fald (F : FX p l c cc s args m own D A s0 nL meth ret) {n : Nat} {f : Nat → UInt32} (he : va_at D.1 vwCl (a, .inl (D.2 3, n, .inr (.inr (.inl f)))) H) {i : Int32} (hin : vp_in i n) (hdg : decode cc pc = .ok (.faload, 1))
    (kk : W p l e R s m args below meth c H locs cells slots Q (F0 m (pc + 1) ls (.float (f i.toNatClampNeg) :: rest))) : W p l e R s m args below meth c H locs cells slots Q (F0 m pc ls (.int i :: .ref a :: rest)) :=
  va_fald F.1.x F.1.b F.2.1 (at_P he) 0 3 rfl rfl hin hdg kk
theorem a_aald (F : FX p l c cc s args m own D A s0 nL meth ret) {t n : Nat} {E : String} (ht : (tyK D)[t]? = some (D.2 t, .object E)) {f : Nat → Option Nat} (he : va_at D.1 vwCl (a, .inl (D.2 t, n, .inr (.inr (.inr (.inr f))))) H) {i : Int32} (hin : vp_in i n) (hdg : decode cc pc = .ok (.aaload, 1))
    (kk : W p l e R s m args below meth c H locs cells slots Q (F0 m (pc + 1) ls (va_rf (f i.toNatClampNeg) :: rest))) : W p l e R s m args below meth c H locs cells slots Q (F0 m pc ls (.int i :: .ref a :: rest)) :=
  va_aldq F.1.x F.1.b F.2.1 (at_P he) 0 t rfl ht hin hdg kk
theorem a_alen (F : FX p l c cc s args m own D A s0 nL meth ret) {t : Nat} {ty : FieldType} (ht : (tyK D)[t]? = some (D.2 t, ty)) {x : vp_A} (he : va_at D.1 vwCl (a, .inl (D.2 t, x)) H) (hdg : decode cc pc = .ok (.arraylength, 1))
    (kk : W p l e R s m args below meth c H locs cells slots Q (F0 m (pc + 1) ls (.int (nI x.1) :: rest))) : W p l e R s m args below meth c H locs cells slots Q (F0 m pc ls (.ref a :: rest)) :=
  va_alen F.1.x F.1.b F.2.1 (at_P he) 0 t rfl ht rfl hdg kk
theorem a_bast (F : FX p l c cc s args m own D A s0 nL meth ret) {n : Nat} {f : Nat → Int32} (he : va_at D.1 vwCl (a, .inl (D.2 1, n, .inl f)) H) {i x : Int32} (hin : vp_in i n) (hdg : decode cc pc = .ok (.bastore, 1))
    (kk : ∀ (H1 : Heap) (j : Nat), va_at D.1 vwCl (a, .inl (D.2 1, n, .inl (upd f i.toNatClampNeg (vp_nar .byte x)))) H1 → H1.size = H.size → (∀ q : Nat, q ≠ a → H1[q]? = H[q]?) → W p l e R s m args below meth c H1 (locs ++ [⟨a, j⟩]) cells slots Q (F0 m (pc + 1) ls rest)) : W p l e R s m args below meth c H locs cells slots Q (F0 m pc ls (.int x :: .int i :: .ref a :: rest)) := by
  refine W.bast F.1.x F.1.b he (((F.2.1).2 1 _ rfl).1 n (fun j => .int (f j))) (fun q => by cases q) (by show ¬ (i < 0 ∨ (arrV _ _ _).slots.size ≤ _); rw [arrV_size]; exact hin) rfl rfl hdg fun H1 e z oq => ?_
  refine kk H1 _ ?_ z oq
  show H1[a]? = some (vp_cell _ _)
  rw [e, vp_cell_i, vp_cell_i, arrV_store]
  congr 2
  funext q
  by_cases hq : q = i.toNatClampNeg
  · subst hq
    simp [updV, upd, vp_nar, narrow]
  · simp [updV, upd, hq]
theorem a_sast (F : FX p l c cc s args m own D A s0 nL meth ret) {n : Nat} {f : Nat → Int32} (he : va_at D.1 vwCl (a, .inl (D.2 2, n, .inl f)) H) {i x : Int32} (hin : vp_in i n) (hdg : decode cc pc = .ok (.sastore, 1))
    (kk : ∀ (H1 : Heap) (j : Nat), va_at D.1 vwCl (a, .inl (D.2 2, n, .inl (upd f i.toNatClampNeg (vp_nar .short x)))) H1 → H1.size = H.size → (∀ q : Nat, q ≠ a → H1[q]? = H[q]?) → W p l e R s m args below meth c H1 (locs ++ [⟨a, j⟩]) cells slots Q (F0 m (pc + 1) ls rest)) : W p l e R s m args below meth c H locs cells slots Q (F0 m pc ls (.int x :: .int i :: .ref a :: rest)) := by
  refine W.sast F.1.x F.1.b he (((F.2.1).2 2 _ rfl).1 n (fun j => .int (f j))) (fun q => by cases q) (by show ¬ (i < 0 ∨ (arrV _ _ _).slots.size ≤ _); rw [arrV_size]; exact hin) rfl rfl hdg fun H1 e z oq => ?_
  refine kk H1 _ ?_ z oq
  show H1[a]? = some (vp_cell _ _)
  rw [e, vp_cell_i, vp_cell_i, arrV_store]
  congr 2
  funext q
  by_cases hq : q = i.toNatClampNeg
  · subst hq
    simp [updV, upd, vp_nar, narrow]
  · simp [updV, upd, hq]
theorem a_fast (F : FX p l c cc s args m own D A s0 nL meth ret) {n : Nat} {f : Nat → UInt32} (he : va_at D.1 vwCl (a, .inl (D.2 3, n, .inr (.inr (.inl f)))) H) {i : Int32} {x : UInt32} (hin : vp_in i n) (hdg : decode cc pc = .ok (.fastore, 1))
    (kk : ∀ (H1 : Heap) (j : Nat), va_at D.1 vwCl (a, .inl (D.2 3, n, .inr (.inr (.inl (vf_upd f i.toNatClampNeg x))))) H1 → H1.size = H.size → (∀ q : Nat, q ≠ a → H1[q]? = H[q]?) → W p l e R s m args below meth c H1 (locs ++ [⟨a, j⟩]) cells slots Q (F0 m (pc + 1) ls rest)) : W p l e R s m args below meth c H locs cells slots Q (F0 m pc ls (.float x :: .int i :: .ref a :: rest)) := by
  refine W.fast F.1.x F.1.b he (((F.2.1).2 3 _ rfl).1 n (fun j => .float (f j))) (fun q => by cases q) (by show ¬ (i < 0 ∨ (arrV _ _ _).slots.size ≤ _); rw [arrV_size]; exact hin) rfl rfl hdg fun H1 e z oq => ?_
  refine kk H1 _ ?_ z oq
  show H1[a]? = some (vp_cell _ _)
  rw [e, vp_cell_f, vp_cell_f, arrV_store]
  congr 2
  funext q
  by_cases hq : q = i.toNatClampNeg
  · subst hq
    simp [updV, vf_upd]
  · simp [updV, vf_upd, hq]
theorem a_aast (F : FX p l c cc s args m own D A s0 nL meth ret) {t n v : Nat} {E : String} (ht : (tyK D)[t]? = some (D.2 t, .object E)) {f : Nat → Option Nat} (he : va_at D.1 vwCl (a, .inl (D.2 t, n, .inr (.inr (.inr (.inr f))))) H) (hr : va_Any E s H v) {i : Int32} (hin : vp_in i n) (hdg : decode cc pc = .ok (.aastore, 1))
    (kk : ∀ (H1 : Heap) (j : Nat), va_at D.1 vwCl (a, .inl (D.2 t, n, .inr (.inr (.inr (.inr (va_up f i.toNatClampNeg (some v))))))) H1 → H1.size = H.size → (∀ q : Nat, q ≠ a → H1[q]? = H[q]?) → W p l e R s m args below meth c H1 (locs ++ [⟨a, j⟩]) cells slots Q (F0 m (pc + 1) ls rest)) : W p l e R s m args below meth c H locs cells slots Q (F0 m pc ls (.ref v :: .int i :: .ref a :: rest)) := by
  have hlt : i.toNatClampNeg < n := Nat.not_le.mp fun q => hin (Or.inr q)
  have h0 : ¬ i < 0 := fun q => hin (Or.inl q)
  obtain ⟨cellV, g1, g3, ⟨kC, hkC⟩, hasg⟩ := hr
  obtain ⟨kA, comp, k1, k2, k3, -⟩ := ((F.2.1).2 t _ ht).2
  obtain ⟨kE, hkE, -⟩ := Vm.findClass_spec k3
  refine W.aast F.1.x F.1.b he (fun q h => by cases h) (fun h => by cases h) k1 k2 rfl hkE ⟨h0, by show _ < (arrV _ _ _).slots.size; rw [arrV_size]; exact hlt⟩ g1 (fun q h => by rw [h] at g3; cases g3) hkC (hasg _ k3) rfl rfl hdg fun H1 e z oq => ?_
  refine kk H1 _ ?_ z oq
  show H1[a]? = some (vp_cell _ _)
  rw [e, vp_cell_q, vp_cell_q, arrV_store]
  congr 2
  funext q
  by_cases hq : q = i.toNatClampNeg
  · subst hq
    simp [updV, va_up, va_rf]
  · simp [updV, va_up, hq]
end AROW2
/-! the component's world, its cells -/
theorem cB.pic {D : DD} {A : Nat → Prop} {ad : AD} {V : CV} {H : Heap} (hB : cB D A ad V H) {r i j : Nat} {e : va_E} (hp : cpic ad V r i j = some e) : va_at D.1 vwCl (ad r i j, tr D e) H := hB.1.pic hp
theorem cB.dyn {D : DD} {A : Nat → Prop} {ad : AD} {V : CV} {H : Heap} (hB : cB D A ad V H) {a : Nat} {e : va_E} (hm : vM V a = some e) : va_at D.1 vwCl (a, tr D e) H := hB.1.dyn hm
theorem cB.set {D : DD} {A : Nat → Prop} {ad : AD} {V V' : CV} {H H1 : Heap} (hB : cB D A ad V H) {r i j : Nat} {e0 e : va_E} (hp : cpic ad V r i j = some e0) (hpic : pset (cpic ad V) r i j e = cpic ad V') (he : va_at D.1 vwCl (ad r i j, tr D e) H1) (z : H1.size = H.size) (o : ∀ q : Nat, q ≠ ad r i j → H1[q]? = H[q]?) (hM : vM V' = vM V) : cB D A ad V' H1 := by
  refine ⟨?_, fun q hq => hB.2 q (by rw [← z]; exact hq)⟩
  rw [← hpic, hM]
  exact hB.1.set hp he o
theorem cB.setD {D : DD} {A : Nat → Prop} {ad : AD} {V : CV} {H H1 : Heap} (hB : cB D A ad V H) {a : Nat} {e0 e : va_E} (hm : vM V a = some e0) (he : va_at D.1 vwCl (a, tr D e) H1) (z : H1.size = H.size) (o : ∀ q : Nat, q ≠ a → H1[q]? = H[q]?) : cB D A ad (sM V (hset (vM V) a e)) H1 := ⟨hB.1.setD hm he o, fun q hq => hB.2 q (by rw [← z]; exact hq)⟩
theorem cB.new {D : DD} {A : Nat → Prop} {ad : AD} {V : CV} {H H1 : Heap} (hB : cB D A ad V H) {a : Nat} {e : va_E} (ha : a = H.size) (he : va_at D.1 vwCl (a, tr D e) H1) (z : H1.size = H.size + 1) (o : ∀ q : Nat, q < H.size → H1[q]? = H[q]?) : cB D A ad (sM V (hset (vM V) a e)) H1 ∧ vM V a = none := by
  obtain ⟨h1, h2⟩ := hB.1.new ha (hB.2 a (by omega)) he o
  exact ⟨⟨h1, fun q hq => hB.2 q (by omega)⟩, h2⟩
theorem cB.A {D : DD} {A : Nat → Prop} {ad : AD} {V : CV} {H : Heap} (hB : cB D A ad V H) {r i j : Nat} {e : va_E} (hp : cpic ad V r i j = some e) : A (ad r i j) := (hB.1.1 _ _ _ _ hp).2
theorem cB.AD {D : DD} {A : Nat → Prop} {ad : AD} {V : CV} {H : Heap} (hB : cB D A ad V H) {a : Nat} {e : va_E} (hm : vM V a = some e) : A a := (hB.1.2.2 _ _ hm).2.1
theorem va_S.new {A : Nat → Prop} {H0 H H1 : Heap} {locs : List Loc} (h : va_S A H0 H locs) (z : H1.size = H.size + 1) (o : ∀ q : Nat, q < H.size → H1[q]? = H[q]?) : va_S A H0 H1 locs := ⟨Nat.le_trans h.1 (by omega), fun q h1 h2 => (o q (Nat.lt_of_lt_of_le h1 h.1)).trans (h.2.1 q h1 h2), h.2.2⟩
