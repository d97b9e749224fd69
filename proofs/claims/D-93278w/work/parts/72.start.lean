set_option maxRecDepth 100000
theorem x_dflt_X0 : ∀ j, j < 25 → defaultValue (tyX0 j) = vp_V [.null, .null, .null, .int 0, .null, .null, .int 0, .null, .int 0, .int 0, .int 0, .int 0, .int 0, .int 0, .int 0, .null, .null, .long 0, .long 0, .null, .null, .null, .null, .int 0, .null] j := by
  intro j hj
  match j, hj with
  | 0, _ => rfl
  | 1, _ => rfl
  | 2, _ => rfl
  | 3, _ => rfl
  | 4, _ => rfl
  | 5, _ => rfl
  | 6, _ => rfl
  | 7, _ => rfl
  | 8, _ => rfl
  | 9, _ => rfl
  | 10, _ => rfl
  | 11, _ => rfl
  | 12, _ => rfl
  | 13, _ => rfl
  | 14, _ => rfl
  | 15, _ => rfl
  | 16, _ => rfl
  | 17, _ => rfl
  | 18, _ => rfl
  | 19, _ => rfl
  | 20, _ => rfl
  | 21, _ => rfl
  | 22, _ => rfl
  | 23, _ => rfl
  | 24, _ => rfl
  | n + 25, h => exact absurd h (by omega)
theorem x_dflt_X6 : ∀ j, j < 31 → defaultValue (tyX6 j) = vp_V [.null, .null, .null, .int 0, .null, .null, .null, .null, .null, .null, .null, .null, .null, .null, .int 0, .int 0, .int 0, .int 0, .int 0, .int 0, .int 0, .int 0, .int 0, .int 0, .int 0, .null, .null, .null, .null, .int 0, .null] j := by
  intro j hj
  match j, hj with
  | 0, _ => rfl
  | 1, _ => rfl
  | 2, _ => rfl
  | 3, _ => rfl
  | 4, _ => rfl
  | 5, _ => rfl
  | 6, _ => rfl
  | 7, _ => rfl
  | 8, _ => rfl
  | 9, _ => rfl
  | 10, _ => rfl
  | 11, _ => rfl
  | 12, _ => rfl
  | 13, _ => rfl
  | 14, _ => rfl
  | 15, _ => rfl
  | 16, _ => rfl
  | 17, _ => rfl
  | 18, _ => rfl
  | 19, _ => rfl
  | 20, _ => rfl
  | 21, _ => rfl
  | 22, _ => rfl
  | 23, _ => rfl
  | 24, _ => rfl
  | 25, _ => rfl
  | 26, _ => rfl
  | 27, _ => rfl
  | 28, _ => rfl
  | 29, _ => rfl
  | 30, _ => rfl
  | n + 31, h => exact absurd h (by omega)
theorem arr_p {s : State} {args : Array Value} {ty : FieldType} (h : (Cond.arrayClass ty).before args s = true) : ∃ cA : ClassId, ArrOfT s cA ty ∧ s.vm.findClass ("[" ++ ty.toString) = some cA := by
  obtain ⟨cA, kA, comp, h1, h2, h3⟩ := Cond.arrayClass_spec h
  exact ⟨cA, fun n z => ⟨fun k h => (by cases h), kA, h2, comp, h3⟩, h1⟩
theorem arr_o {s : State} {args : Array Value} {C : String} (h : (Cond.arrayOver (.object C)).before args s = true) : ∃ cA : ClassId, ArrOfT s cA (.object C) ∧ va_RA s cA (.object C) := by
  obtain ⟨comp, cA, kA, h1, h2, h3, h4, h5⟩ := Cond.arrayOver_spec h
  exact ⟨cA, fun n z => ⟨fun k h => (by cases h), kA, h3, comp, h4⟩, kA, comp, h3, h4, h1, h5⟩
theorem known_D {s : State} {args : Array Value} (hts : ∀ w ∈ lw_all, w.before args s = true) (htb : ∀ w ∈ lw_tbl, w.before args s = true) : ∃ D : DD, va_K D.1 vwCl (tyK D) s := by
  obtain ⟨c0, i0, k0⟩ := u_known (C := RX0) (T := TX0) (N := 25) hts in_X0 (hts _ q112)
  obtain ⟨c1, i1, k1⟩ := u_known (C := RX1) (T := TX1) (N := 11) hts in_X1 (hts _ q120)
  obtain ⟨c2, i2, k2⟩ := u_known (C := RX2) (T := TX2) (N := 6) hts in_X2 (hts _ q131)
  obtain ⟨c3, i3, k3⟩ := u_known (C := RX3) (T := TX3) (N := 7) hts in_X3 (hts _ q208)
  obtain ⟨c4, i4, k4⟩ := u_known (C := RX4) (T := TX4) (N := 1) hts in_X4 (hts _ q277)
  obtain ⟨c5, i5, k5⟩ := u_known (C := RX5) (T := TX5) (N := 1) hts in_X5 (hts _ q289)
  obtain ⟨c6, i6, k6⟩ := u_known (C := RX6) (T := TX6) (N := 31) hts in_X6 (hts _ q1218)
  obtain ⟨c7, i7, k7⟩ := u_known (C := RX7) (T := TX7) (N := 1) hts in_X7 (hts _ q636)
  obtain ⟨c8, i8, k8⟩ := u_known (C := RX8) (T := TX8) (N := 1) hts in_X8 (hts _ q587)
  obtain ⟨c9, i9, k9⟩ := u_known (C := RX9) (T := TX9) (N := 1) hts in_X9 (hts _ q604)
  obtain ⟨c10, i10, k10⟩ := u_known (C := RX10) (T := TX10) (N := 1) hts in_X10 (hts _ q612)
  obtain ⟨c11, i11, k11⟩ := u_known (C := RX11) (T := TX11) (N := 1) hts in_X11 (hts _ q620)
  obtain ⟨c12, i12, k12⟩ := u_known (C := RX12) (T := TX12) (N := 1) hts in_X12 (hts _ q628)
  obtain ⟨c13, i13, k13⟩ := u_known (C := RX13) (T := TX13) (N := 3) hts in_X13 (hts _ q479)
  obtain ⟨c14, i14, k14⟩ := u_known (C := RX14) (T := TX14) (N := 3) hts in_X14 (hts _ q538)
  obtain ⟨c15, i15, k15⟩ := u_known (C := RX15) (T := TX15) (N := 1) hts in_X15 (hts _ q1127)
  obtain ⟨a0, e0, f0⟩ := arr_p (hts _ q161)
  obtain ⟨a1, e1, f1⟩ := arr_p (hts _ q274)
  obtain ⟨a2, e2, f2⟩ := arr_p (hts _ q1010)
  obtain ⟨a3, e3, f3⟩ := arr_p (hts _ q375)
  obtain ⟨a4, e4, f4⟩ := arr_o (htb _ q126)
  obtain ⟨a5, e5, f5⟩ := arr_o (htb _ q128)
  obtain ⟨a6, e6, f6⟩ := arr_o (htb _ q130)
  obtain ⟨a7, e7, f7⟩ := arr_o (htb _ q276)
  obtain ⟨a8, e8, f8⟩ := arr_o (htb _ q288)
  refine ⟨(((fun n => match n with | 0 => c0 | 1 => c1 | 2 => c2 | 3 => c3 | 4 => c4 | 5 => c5 | 6 => c6 | 7 => c7 | 8 => c8 | 9 => c9 | 10 => c10 | 11 => c11 | 12 => c12 | 13 => c13 | 14 => c14 | _ => c15), (fun n => match n with | 0 => i0 | 1 => i1 | 2 => i2 | 3 => i3 | 4 => i4 | 5 => i5 | 6 => i6 | 7 => i7 | 8 => i8 | 9 => i9 | 10 => i10 | 11 => i11 | 12 => i12 | 13 => i13 | 14 => i14 | _ => i15)), (fun n => match n with | 0 => a0 | 1 => a1 | 2 => a2 | 3 => a3 | 4 => a4 | 5 => a5 | 6 => a6 | 7 => a7 | _ => a8)), ?_, ?_⟩
  · intro c q hq
    match c, hq with
    | 0, hq => cases hq; exact k0
    | 1, hq => cases hq; exact k1
    | 2, hq => cases hq; exact k2
    | 3, hq => cases hq; exact k3
    | 4, hq => cases hq; exact k4
    | 5, hq => cases hq; exact k5
    | 6, hq => cases hq; exact k6
    | 7, hq => cases hq; exact k7
    | 8, hq => cases hq; exact k8
    | 9, hq => cases hq; exact k9
    | 10, hq => cases hq; exact k10
    | 11, hq => cases hq; exact k11
    | 12, hq => cases hq; exact k12
    | 13, hq => cases hq; exact k13
    | 14, hq => cases hq; exact k14
    | 15, hq => cases hq; exact k15
    | n + 16, hq => exact absurd (List.getElem?_eq_some_iff.mp hq).1 (by show ¬ (n + 16 < 16); omega)
  · intro k q hq
    match k, hq with
    | 0, hq => cases hq; exact ⟨e0, f0⟩
    | 1, hq => cases hq; exact ⟨e1, f1⟩
    | 2, hq => cases hq; exact ⟨e2, f2⟩
    | 3, hq => cases hq; exact ⟨e3, f3⟩
    | 4, hq => cases hq; exact ⟨e4, f4⟩
    | 5, hq => cases hq; exact ⟨e5, f5⟩
    | 6, hq => cases hq; exact ⟨e6, f6⟩
    | 7, hq => cases hq; exact ⟨e7, f7⟩
    | 8, hq => cases hq; exact ⟨e8, f8⟩
    | n + 9, hq => exact absurd (List.getElem?_eq_some_iff.mp hq).1 (by show ¬ (n + 9 < 9); omega)
def xo (i : Nat) : Nat := match i with | 4 => 46 | 5 => 47 | 15 => 49 | 16 => 50 | 19 => 51 | 20 => 56 | 21 => 62 | 22 => 63 | 24 => 64 | _ => 0
def so (j : Nat) : Nat := match j with | 3 => 1 | 4 => 2 | 5 => 3 | 6 => 4 | 8 => 5 | 10 => 6 | _ => 0
def offC (r i j : Nat) : Nat := match r with | 0 => 0 | 1 => 1 + 15 * i | 2 => xo i | 3 => 1 + 15 * i + so j | 4 => 1 + 15 * i + 7 + j | 5 => 57 + i | 6 => 48 | _ => 0
def adC (N : Nat) : AD := fun r i j => N + offC r i j
def liveC (r i j : Nat) : Bool := match r with | 0 => i == 0 && j == 0 | 1 => decide (i < 3) && j == 0 | 2 => j == 0 && xo i != 0 | 3 => decide (i < 3) && so j != 0 | 4 => decide (i < 3) && decide (j < 8) | 5 => decide (i < 5) && j == 0 | 6 => i == 0 && j == 0 | _ => false
def nmC (o : Nat) : Nat × Nat × Nat := if o = 0 then (0, 0, 0) else if o < 46 then (if (o - 1) % 15 = 0 then (1, (o - 1) / 15, 0) else if (o - 1) % 15 < 7 then (3, (o - 1) / 15, match (o - 1) % 15 with | 1 => 3 | 2 => 4 | 3 => 5 | 4 => 6 | 5 => 8 | _ => 10) else (4, (o - 1) / 15, (o - 1) % 15 - 7)) else if o = 48 then (6, 0, 0) else if 57 ≤ o ∧ o < 62 then (5, o - 57, 0) else (2, (match o with | 46 => 4 | 47 => 5 | 49 => 15 | 50 => 16 | 51 => 19 | 56 => 20 | 62 => 21 | 63 => 22 | _ => 24), 0)
theorem nmC_ok0 : ∀ (r : Fin 7) (i : Fin 25) (j : Fin 11), liveC r.1 i.1 j.1 = true → (nmC (offC r.1 i.1 j.1) = (r.1, i.1, j.1) ∧ offC r.1 i.1 j.1 < 65 ∧ (offC r.1 i.1 j.1 < 52 ∨ 56 ≤ offC r.1 i.1 j.1)) := by decide +kernel
theorem nmC_ok (r : Nat) (hr : r < 7) (i : Nat) (hi : i < 25) (j : Nat) (hj : j < 11) (h : liveC r i j = true) : nmC (offC r i j) = (r, i, j) ∧ offC r i j < 65 ∧ (offC r i j < 52 ∨ 56 ≤ offC r i j) := nmC_ok0 ⟨r, hr⟩ ⟨i, hi⟩ ⟨j, hj⟩ h
def V0 (N : Nat) (fs : List Value) : CV := (fun _ => 0, fun _ => 0, fun _ _ => 0, fun _ => 0, fun _ k => if k = 0 then 1 else if k = 1 then 2 else 0, fun _ _ _ => 0, fun _ _ => none, fun _ _ => none, fun _ _ _ => 0, fun k => some (N + (52 + k)), fun _ => none, fs, fun q => if N + 52 ≤ q ∧ q < N + 56 then some (eSh none) else none)
def T0 : TS := (fun _ => 0, fun k j => if k = 0 then (if j = 3 then 2 else if j = 4 then 1 else 0) else if k = 4 then -1 else 0)
theorem cpic_live {ad : AD} {V : CV} {r i j : Nat} {e : va_E} (h0 : cpic ad V r i j = some e) : liveC r i j = true ∧ r < 7 ∧ i < 25 ∧ j < 11 := by
  match r, h0 with
  | 0, h =>
    replace h : (if i = 0 ∧ j = 0 then some _ else none) = some e := h
    split at h
    · rename_i q; obtain ⟨rfl, rfl⟩ := q; decide
    · cases h
  | 1, h =>
    replace h : (if i < 3 ∧ j = 0 then some _ else none) = some e := h
    split at h
    · rename_i q; obtain ⟨q, rfl⟩ := q
      match i, q with
      | 0, _ => decide
      | 1, _ => decide
      | 2, _ => decide
    · cases h
  | 2, h =>
    replace h : (if j = 0 then xarr ad V i else none) = some e := h
    split at h
    · rename_i q; subst q
      unfold xarr at h
      split at h <;> first | decide | cases h
    · cases h
  | 3, h =>
    replace h : (if i < 3 then sarr ad V i j else none) = some e := h
    split at h
    · rename_i q
      unfold sarr at h
      match i, q with
      | 0, _ => split at h <;> first | decide | cases h
      | 1, _ => split at h <;> first | decide | cases h
      | 2, _ => split at h <;> first | decide | cases h
    · cases h
  | 4, h =>
    replace h : (if i < 3 ∧ j < 8 then some _ else none) = some e := h
    split at h
    · rename_i q
      exact ⟨by simp [liveC, q], by omega, by omega, by omega⟩
    · cases h
  | 5, h =>
    replace h : (if i < 5 ∧ j = 0 then some _ else none) = some e := h
    split at h
    · rename_i q
      exact ⟨by simp [liveC, q], by omega, by omega, by omega⟩
    · cases h
  | 6, h =>
    replace h : (if i = 0 ∧ j = 0 then some _ else none) = some e := h
    split at h
    · rename_i q; obtain ⟨rfl, rfl⟩ := q; decide
    · cases h
  | r + 7, h => cases h
theorem vq_i {cA : ClassId} {n : Nat} {f g : Nat → Int32} (h : ∀ j, j < n → f j = g j) : vp_cell cA (n, .inl f) = vp_cell cA (n, .inl g) := by
  rw [vp_cell_i, vp_cell_i]
  unfold arrV
  congr 2
  funext j
  show Value.int (f j.1) = Value.int (g j.1)
  rw [h j.1 j.2]
theorem vq_q {cA : ClassId} {n : Nat} {f g : Nat → Option Nat} (h : ∀ j, j < n → f j = g j) : vp_cell cA (n, .inr (.inr (.inr (.inr f)))) = vp_cell cA (n, .inr (.inr (.inr (.inr g)))) := by
  rw [vp_cell_q, vp_cell_q]
  unfold arrV
  congr 2
  funext j
  show va_rf (f j.1) = va_rf (g j.1)
  rw [h j.1 j.2]
theorem conv_q {D : DD} {a t n : Nat} {f g : Nat → Option Nat} {H : Heap} (h : va_at D.1 vwCl (a, tr D (.inl (t, n, .inr (.inr (.inr (.inr f)))))) H) (hf : ∀ j, j < n → f j = g j) : va_at D.1 vwCl (a, tr D (.inl (t, n, .inr (.inr (.inr (.inr g)))))) H := by
  show H[a]? = some (vp_cell (D.2 t) (n, .inr (.inr (.inr (.inr g)))))
  rw [← vq_q hf]
  exact h
theorem conv_i {D : DD} {a t n : Nat} {f g : Nat → Int32} {H : Heap} (h : va_at D.1 vwCl (a, tr D (.inl (t, n, .inl f))) H) (hf : ∀ j, j < n → f j = g j) : va_at D.1 vwCl (a, tr D (.inl (t, n, .inl g))) H := by
  show H[a]? = some (vp_cell (D.2 t) (n, .inl g))
  rw [← vq_i hf]
  exact h
set_option maxHeartbeats 4000000 in
theorem conv_c {D : DD} {N : Nat} {fs : List Value} {G : Nat → Option va_E} {H : Heap} (hB : ∀ o e, G o = some e → va_at D.1 vwCl (N + o, tr D e) H) (h : CC N fs G) : ∀ r i j e, cpic (adC N) (V0 N fs) r i j = some e → va_at D.1 vwCl (adC N r i j, tr D e) H := by
  obtain ⟨h0, s0, s1, s2, h46, h47, h48, h49, h50, h62, h63, h64, ⟨f51, h51, g51⟩, h52, ⟨f56, h56, g56⟩, h57⟩ := h
  have hs : ∀ i, i < 3 → CS N (1 + 15 * i) G := fun i hi => match i, hi with
    | 0, _ => s0
    | 1, _ => s1
    | 2, _ => s2
  intro r i j e h
  match r, h with
  | 0, h =>
    replace h : (if i = 0 ∧ j = 0 then some (.inr (0, xfs (adC N) (V0 N fs))) else none) = some e := h
    split at h
    · cases h
      exact hB 0 _ h0
    · cases h
  | 1, h =>
    replace h : (if i < 3 ∧ j = 0 then some (.inr (1, sfs (adC N) (V0 N fs) i)) else none) = some e := h
    split at h
    · rename_i q
      cases h
      exact hB _ _ (hs i q.1).1
    · cases h
  | 2, h =>
    replace h : (if j = 0 then xarr (adC N) (V0 N fs) i else none) = some e := h
    split at h
    · unfold xarr at h
      split at h
      · cases h; exact hB 46 _ h46
      · cases h; exact hB 47 _ h47
      · cases h; exact hB 49 _ h49
      · cases h; exact hB 50 _ h50
      · cases h; exact conv_q (hB 51 _ h51) g51
      · cases h; exact conv_q (hB 56 _ h56) g56
      · cases h; exact hB 62 _ h62
      · cases h; exact hB 63 _ h63
      · cases h; exact hB 64 _ h64
      · cases h
    · cases h
  | 3, h =>
    replace h : (if i < 3 then sarr (adC N) (V0 N fs) i j else none) = some e := h
    split at h
    · rename_i q
      obtain ⟨c0, c1, c2, c3, c4, ⟨f, c5, c6⟩, c7, c8⟩ := hs i q
      unfold sarr at h
      split at h
      · cases h; exact hB _ _ c1
      · cases h; exact hB _ _ c2
      · cases h; exact hB _ _ c3
      · cases h; exact hB _ _ c4
      · cases h; exact conv_q (hB _ _ c5) c6
      · cases h; exact hB _ _ c7
      · cases h
    · cases h
  | 4, h =>
    replace h : (if i < 3 ∧ j < 8 then some (.inr (2, dfs (V0 N fs) i j)) else none) = some e := h
    split at h
    · rename_i q
      obtain ⟨c0, c1, c2, c3, c4, ⟨f, c5, c6⟩, c7, c8⟩ := hs i q.1
      cases h
      exact hB _ _ (c8 j q.2)
    · cases h
  | 5, h =>
    replace h : (if i < 5 ∧ j = 0 then some (.inr (5, [va_rf (vHe (V0 N fs) i)])) else none) = some e := h
    split at h
    · rename_i q
      cases h
      exact hB _ _ (h57 i q.1)
    · cases h
  | 6, h =>
    replace h : (if i = 0 ∧ j = 0 then some (.inr (3, vFl (V0 N fs))) else none) = some e := h
    split at h
    · cases h
      exact hB 48 _ h48
    · cases h
  | r + 7, h => cases h
theorem conv_cB {D : DD} {N : Nat} {fs : List Value} {G : Nat → Option va_E} {H : Heap} {A : Nat → Prop} (hA : ∀ q, N ≤ q → q < N + 65 → A q) (hA2 : ∀ q : Nat, H.size ≤ q → A q) (hB : ∀ o e, G o = some e → va_at D.1 vwCl (N + o, tr D e) H) (h : CC N fs G) : cB D A (adC N) (V0 N fs) H := by
  refine ⟨⟨fun r i j e he => ⟨conv_c hB h r i j e he, ?_⟩, fun r i j e r' i' j' e' h1 h2 h3 => ?_, fun a e he => ?_⟩, hA2⟩
  · obtain ⟨h1, h2, h3, h4⟩ := cpic_live he
    have := (nmC_ok r h2 i h3 j h4 h1).2.1
    exact hA _ (by show N ≤ N + _; omega) (by show N + _ < _; omega)
  · obtain ⟨g1, g2, g3, g4⟩ := cpic_live h1
    obtain ⟨g1', g2', g3', g4'⟩ := cpic_live h2
    have e1 := (nmC_ok r g2 i g3 j g4 g1).1
    have e2 := (nmC_ok r' g2' i' g3' j' g4' g1').1
    have e3 : offC r i j = offC r' i' j' := Nat.add_left_cancel h3
    rw [e3, e2] at e1
    cases e1
    exact ⟨rfl, rfl, rfl⟩
  · replace he : (if N + 52 ≤ a ∧ a < N + 56 then some (eSh none) else none) = some e := he
    split at he
    · rename_i q
      cases he
      refine ⟨?_, hA a (by omega) (by omega), fun r i j e' h' => ?_⟩
      · have := hB _ _ (h.2.2.2.2.2.2.2.2.2.2.2.2.2.1 (a - N - 52) (by omega))
        rw [show N + (52 + (a - N - 52)) = a by omega] at this
        exact this
      · obtain ⟨h1, h2, h3, h4⟩ := cpic_live h'
        have := (nmC_ok r h2 i h3 j h4 h1).2.2
        show N + offC r i j ≠ a
        omega
    · cases he
def to (i : Nat) : Nat := match i with | 0 => 1 | 1 => 2 | 2 => 3 | 4 => 4 | 5 => 5 | 6 => 6 | 7 => 7 | 8 => 8 | 9 => 9 | 10 => 10 | 11 => 11 | 12 => 12 | 13 => 13 | 25 => 14 | 26 => 15 | 27 => 16 | 28 => 17 | 30 => 18 | _ => 0
def adT (N : Nat) : AD := fun r i _ => N + (65 + (match r with | 1 => to i | _ => 0))
def nmT (o : Nat) : Nat := match o with | 1 => 0 | 2 => 1 | 3 => 2 | 4 => 4 | 5 => 5 | 6 => 6 | 7 => 7 | 8 => 8 | 9 => 9 | 10 => 10 | 11 => 11 | 12 => 12 | 13 => 13 | 14 => 25 | 15 => 26 | 16 => 27 | 17 => 28 | 18 => 30 | _ => 0
theorem to_ok : ∀ i, i < 31 → tArr i = true → 0 < to i ∧ to i < 19 ∧ nmT (to i) = i := by decide +kernel
theorem tArr_lt {i : Nat} (h : tArr i = true) : i < 31 := by
  unfold tArr tLen at h
  split at h <;> first | decide | cases h
set_option maxHeartbeats 4000000 in
theorem conv_tB {D : DD} {N : Nat} {G : Nat → Option va_E} {H : Heap} {A : Nat → Prop} (hA : ∀ q, N + 65 ≤ q → q < N + 84 → A q) (hB : ∀ o e, G o = some e → va_at D.1 vwCl (N + o, tr D e) H) (h : CT N 65 G) : tB D A (adT N) T0 H := by
  obtain ⟨h0, ⟨g0, c0, d0⟩, c1, c2, ⟨g4, c4, d4⟩, c5, c6, c7, c8, c9, c10, c11, c12, c13, c25, c26, c27, c28, c30⟩ := h
  refine ⟨fun r i j e he => ?_, fun r i j e r' i' j' e' h1 h2 h3 => ?_, fun a e he => by cases he⟩
  · match r, he with
    | 0, he =>
      replace he : (if i = 0 ∧ j = 0 then some (.inr (6, tfs (adT N) T0)) else none) = some e := he
      split at he
      · cases he
        exact ⟨hB 65 _ h0, hA _ (by show _ ≤ N + (65 + 0); omega) (by show N + (65 + 0) < _; omega)⟩
      · cases he
    | 1, he =>
      replace he : (if tArr i = true ∧ j = 0 then some (.inl (0, tLen i, .inl (T0.2 i))) else none) = some e := he
      split at he
      · rename_i q
        have hi := to_ok i (tArr_lt q.1) q.1
        refine ⟨?_, hA _ (by show _ ≤ N + (65 + to i); omega) (by show N + (65 + to i) < _; omega)⟩
        cases he
        have q1 := q.1
        unfold tArr at q1
        match i, tArr_lt q.1, q1 with
        | 0, _, _ => exact conv_i (hB 66 _ c0) (fun j _ => d0 j)
        | 1, _, _ => exact hB 67 _ c1
        | 2, _, _ => exact hB 68 _ c2
        | 3, _, q1 => cases q1
        | 4, _, _ => exact conv_i (hB 69 _ c4) (fun j hj => d4 j hj)
        | 5, _, _ => exact hB 70 _ c5
        | 6, _, _ => exact hB 71 _ c6
        | 7, _, _ => exact hB 72 _ c7
        | 8, _, _ => exact hB 73 _ c8
        | 9, _, _ => exact hB 74 _ c9
        | 10, _, _ => exact hB 75 _ c10
        | 11, _, _ => exact hB 76 _ c11
        | 12, _, _ => exact hB 77 _ c12
        | 13, _, _ => exact hB 78 _ c13
        | 14, _, q1 => cases q1
        | 15, _, q1 => cases q1
        | 16, _, q1 => cases q1
        | 17, _, q1 => cases q1
        | 18, _, q1 => cases q1
        | 19, _, q1 => cases q1
        | 20, _, q1 => cases q1
        | 21, _, q1 => cases q1
        | 22, _, q1 => cases q1
        | 23, _, q1 => cases q1
        | 24, _, q1 => cases q1
        | 25, _, _ => exact hB 79 _ c25
        | 26, _, _ => exact hB 80 _ c26
        | 27, _, _ => exact hB 81 _ c27
        | 28, _, _ => exact hB 82 _ c28
        | 29, _, q1 => cases q1
        | 30, _, _ => exact hB 83 _ c30
      · cases he
    | r + 2, he => cases he
  · have hc : ∀ {r i j : Nat} {e : va_E}, tpic (adT N) T0 r i j = some e → (r = 0 ∧ i = 0 ∧ j = 0) ∨ (r = 1 ∧ tArr i = true ∧ j = 0) := by
      intro r i j e he
      match r, he with
      | 0, he =>
        replace he : (if i = 0 ∧ j = 0 then some (.inr (6, tfs (adT N) T0)) else none) = some e := he
        split at he
        · rename_i q
          exact .inl ⟨rfl, q⟩
        · cases he
      | 1, he =>
        replace he : (if tArr i = true ∧ j = 0 then some (.inl (0, tLen i, .inl (T0.2 i))) else none) = some e := he
        split at he
        · rename_i q
          exact .inr ⟨rfl, q⟩
        · cases he
      | r + 2, he => cases he
    rcases hc h1 with ⟨rfl, rfl, rfl⟩ | ⟨rfl, q1, rfl⟩ <;> rcases hc h2 with ⟨rfl, rfl, rfl⟩ | ⟨rfl, q2, rfl⟩
    · exact ⟨rfl, rfl, rfl⟩
    · have := to_ok i' (tArr_lt q2) q2
      replace h3 : N + (65 + 0) = N + (65 + to i') := h3
      omega
    · have := to_ok i (tArr_lt q1) q1
      replace h3 : N + (65 + to i) = N + (65 + 0) := h3
      omega
    · have e1 := (to_ok i (tArr_lt q1) q1).2.2
      have e2 := (to_ok i' (tArr_lt q2) q2).2.2
      replace h3 : N + (65 + to i) = N + (65 + to i') := h3
      have e3 : to i = to i' := by omega
      rw [e3, e2] at e1
      exact ⟨rfl, e1.symm, rfl⟩
theorem CC.congr {N : Nat} {fs : List Value} {G G' : Nat → Option va_E} (h : CC N fs G) (hg : ∀ q, q < 65 → G' q = G q) : CC N fs G' := by
  obtain ⟨h0, s0, s1, s2, h46, h47, h48, h49, h50, h62, h63, h64, ⟨f51, h51, g51⟩, h52, ⟨f56, h56, g56⟩, h57⟩ := h
  have c : ∀ {q e}, q < 65 → G q = some e → G' q = some e := fun hq he => (hg _ hq).trans he
  exact ⟨c (by decide) h0, s0.congr (fun q _ _ => hg q (by omega)), s1.congr (fun q _ _ => hg q (by omega)), s2.congr (fun q _ _ => hg q (by omega)), c (by decide) h46, c (by decide) h47, c (by decide) h48, c (by decide) h49, c (by decide) h50, c (by decide) h62, c (by decide) h63, c (by decide) h64, ⟨f51, c (by decide) h51, g51⟩, fun j hj => c (by omega) (h52 j hj), ⟨f56, c (by decide) h56, g56⟩, fun j hj => c (by omega) (h57 j hj)⟩
def lw_At (p : Program) (s : State) (m : MethodId) (meth : Method) (c : Code) (b L : Nat) (xs : Nat → Int32) : Prop :=
  p.tables.exec = Jvm.exec ∧ c.code = code ∧ meth.sig.returnType = ret ∧ c.maxLocals = 4 ∧ s.vm.findClass R_law = some m.cls ∧ (∀ w ∈ lw_tbl, w.before #[Value.ref b] s = true) ∧ va_X b L xs s s.heap ∧ b < s.heap.size ∧ meth.locks = false ∧ (Jvm.Cond.and given_1 narrow_1).before #[Value.ref b] s = true
set_option maxHeartbeats 4000000 in
theorem law_start {Pv : CV → TS → Prop} (hinit : ∀ (N : Nat) (fs : List Value), fs.length = 7 → fs[6]? = some (.int 0) → Pv (V0 N fs) T0) (hsim : ∀ V T x, Pv V T → SIM Pv x V T) {p : Program} {e : Env} {s : State} {m : MethodId} {below : List Frame} {meth : Method} {c : Code} (l : Launch) {b L : Nat} {xs : Nat → Int32} (hL : L ≤ 384) (C0 : lw_At p s m meth c b L xs) (hmod : modulesRight_1 s = true) (hfl : l.flags = flags0) : W p l e room_1 s m #[Value.ref b] below meth c s.heap [] 0 0 (lw_Z below #[Value.ref b] s) (entryFrame m ([Value.ref b] : List Value).toArray 4) := by
  obtain ⟨hx, hb, hr, hml, hown, htb, hX, hbl, hlk, hgv⟩ := C0
  have hts : ∀ w ∈ lw_all, w.before #[Value.ref b] s = true := fun w hw => htb w (List.mem_filter.mp hw).1
  obtain ⟨D, hK⟩ := known_D hts htb
  have hLS : LSt l s := ⟨b, htb, hgv, hmod, hfl⟩
  have FP0 : FP p c code s #[Value.ref b] m R_law 4 meth ret := ⟨hx, hb, hml, hown, hts, hr, hlk⟩
  have mkCX : ∀ A : Nat → Prop, (∀ q, A q → s.heap.size ≤ q) → CX l D A s s := fun A hA => ⟨hK, State.WarmedH.refl s, Nat.le_refl _, fun _ _ => rfl, hA, hLS⟩
  generalize hN : s.heap.size = N
  have F : FX p l c code s #[Value.ref b] m R_law D (fun q => s.heap.size ≤ q) s 4 meth ret := ⟨FP0, mkCX _ (fun _ h => h)⟩
  have hS : va_S (fun q => s.heap.size ≤ q) s.heap s.heap [] := va_S.rf
  have hl := lv_entry ([.ref b]) (n := 4) (Nat.le_of_ble_eq_true rfl)
  rw [lg_entry_eq]
  generalize (lg_sl ([.ref b]) ++ List.replicate (4 - (lg_sl ([.ref b])).length) Slot.unset).toArray = ls at hl ⊢
  have hB : iB D (fun q => s.heap.size ≤ q) (shw N (fun _ => none) (fun _ => none) 0) s.heap := ⟨⟨fun _ _ _ _ h => (by cases h), fun _ _ _ _ _ _ _ _ h => (by cases h), fun a _ h => by
    have h : (if a < N then none else none) = some _ := h
    split at h <;> cases h⟩, hN, fun q hq => by rw [hN]; exact hq⟩
  refine i_new F hB hS (ci := 0) (fs := [.null, .null, .null, .int 0, .null, .null, .int 0, .null, .int 0, .int 0, .int 0, .int 0, .int 0, .int 0, .int 0, .null, .null, .long 0, .long 0, .null, .null, .null, .null, .int 0, .null]) in_X0 tyX0_ok q111 q112 q83 rfl x_dflt_X0 (by show 0 + 1 ≤ 603072; omega) (by show 0 + 25 ≤ 7262314; omega) dL_law_0 (fun H hB hS => ?_)
  rw [nw_sh] at hB
  refine lv_dup hx hb dL_law_3 rfl ?_
  refine l_v (Bw := iB D (fun q => s.heap.size ≤ q)) (A0 := fun q => s.heap.size ≤ q) (l_runI (Bw := iB D (fun q => s.heap.size ≤ q)) (n := 0) (As := []) F hB (fun _ h => h) hS (mX0c_init (Q := fun Z => ∃ G fs, Z = shw N (fun _ => none) G 65 ∧ fs.length = 7 ∧ fs[6]? = some (.int 0) ∧ CC N fs G) (ev_X0 (gs_s _ _ _) (fun G fs h1 h2 h3 => ⟨G, fs, rfl, h1, h2, h3⟩))) q113 q114 q83 q115 rfl (by decide +kernel) ⟨by decide, by decide⟩ ⟨rfl, rfl⟩ ⟨by show 0 + 1 + 67 ≤ 603072; omega, by show 0 + 25 + 910 ≤ 7262314; omega⟩ rfl hl.1 rfl (Nat.le_of_ble_eq_true rfl) dL_law_4) (fun _ h => h) hS (fun U H locs hP hB _ _ hS => ?_)
  obtain ⟨G, fs, rfl, hf1, hf2, hCC⟩ := hP
  refine lv_astore_n (lv' := [(1, .ref N), (0, .ref b)]) hx hb dL_law_7 rfl hl (by decide) (by first | rfl | (simp only [List.filter_cons, x_cat]; rfl)) (fun ls hl => ?_)
  refine i_new F hB hS (ci := 6) (fs := [.null, .null, .null, .int 0, .null, .null, .null, .null, .null, .null, .null, .null, .null, .null, .int 0, .int 0, .int 0, .int 0, .int 0, .int 0, .int 0, .int 0, .int 0, .int 0, .int 0, .null, .null, .null, .null, .int 0, .null]) in_X6 tyX6_ok q1217 q1218 q92 rfl x_dflt_X6 (by show 0 + 1 + 67 + 1 ≤ 603072; omega) (by show 0 + 25 + 910 + 31 ≤ 7262314; omega) dL_law_8 (fun H hB hS => ?_)
  rw [nw_sh] at hB
  refine lv_dup hx hb dL_law_11 rfl ?_
  refine l_v (Bw := iB D (fun q => s.heap.size ≤ q)) (A0 := fun q => s.heap.size ≤ q) (l_runI (Bw := iB D (fun q => s.heap.size ≤ q)) (n := 0) (As := []) F hB (fun _ h => h) hS (mX6c_init (Q := fun Z => ∃ G', Z = shw N (fun _ => none) G' (65 + 19) ∧ CT N 65 G' ∧ ∀ q, q < 65 → G' q = G q) (ev_X6 (k := 65) (gs_s _ _ _) (fun G' h1 h2 => ⟨G', rfl, h1, fun q hq => (h2 q (.inl hq)).trans (gs_n (by omega))⟩))) q1219 q1220 q92 q1221 rfl (by decide +kernel) ⟨by decide, by decide⟩ ⟨rfl, rfl⟩ ⟨by show 0 + 1 + 67 + 1 + 18 ≤ 603072; omega, by show 0 + 25 + 910 + 31 + 10066 ≤ 7262314; omega⟩ rfl hl.1 rfl (Nat.le_of_ble_eq_true rfl) dL_law_12) (fun _ h => h) hS (fun U H locs hP hB _ _ hS => ?_)
  obtain ⟨G', rfl, hCT, hGG⟩ := hP
  refine lv_astore_n (lv' := [(2, .ref (N + 65)), (1, .ref N), (0, .ref b)]) hx hb dL_law_15 rfl hl (by decide) (by first | rfl | (simp only [List.filter_cons, x_cat]; rfl)) (fun ls hl => ?_)
  refine lv_iconst (v := 0) hx hb dL_law_16 (by decide) ?_
  refine lv_istore_n (lv' := [(3, .int 0), (2, .ref (N + 65)), (1, .ref N), (0, .ref b)]) hx hb dL_law_17 rfl hl (by decide) (by first | rfl | (simp only [List.filter_cons, x_cat]; rfl)) (fun ls hl => ?_)
  refine W.widen (k := 100 + 39 * 0) (n := 12000 + 900 * 0) (by omega) (by omega) ?_
  have hat : ∀ o e, G' o = some e → va_at D.1 vwCl (N + o, tr D e) H := fun o e ho => hB.1.dyn (a := N + o) ((sh_get N (fun _ => none) G' o).trans ho)
  have hHs : H.size = N + 84 := hB.2.1
  have hCC' : CC N fs G' := CC.congr hCC hGG
  have hAc : ∀ q, ((N ≤ q ∧ q < N + 65) ∨ N + 84 ≤ q) → s.heap.size ≤ q := fun q hq => by omega
  have hAt : ∀ q, (N + 65 ≤ q ∧ q < N + 84) → s.heap.size ≤ q := fun q hq => by omega
  refine law_loop (Pv := Pv) (D := D) (Ac := fun q => (N ≤ q ∧ q < N + 65) ∨ N + 84 ≤ q) (At := fun q => N + 65 ≤ q ∧ q < N + 84) (ad := adC N) (ad2 := adT N) ⟨⟨FP0, mkCX _ hAc⟩, ⟨FP0, mkCX _ hAt⟩, hX, hbl, hAc, hAt, fun q h1 h2 => by omega, hL⟩ hsim 65 0 rfl (V0 N fs) T0 H locs ls (hinit N fs hf1 hf2) ⟨conv_cB (fun q h1 h2 => .inl ⟨h1, h2⟩) (fun q hq => .inr (by omega)) hat hCC', conv_tB (fun q h1 h2 => ⟨h1, h2⟩) hat hCT⟩ hS hl
