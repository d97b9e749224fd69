set_option maxRecDepth 100000
def sh (N : Nat) (M : HM) (G : Nat → Option va_E) : HM := fun q => if q < N then M q else G (q - N)
def gs (G : Nat → Option va_E) (k : Nat) (e : va_E) : Nat → Option va_E := fun q => if q = k then some e else G q
def shw (N : Nat) (M : HM) (G : Nat → Option va_E) (n : Nat) : MW := (sh N M G, N + n)
theorem sh_get (N : Nat) (M : HM) (G : Nat → Option va_E) (k : Nat) : sh N M G (N + k) = G k := by
  unfold sh
  rw [if_neg (by omega), Nat.add_sub_cancel_left]
theorem sh_set (N : Nat) (M : HM) (G : Nat → Option va_E) (k : Nat) (e : va_E) : hset (sh N M G) (N + k) e = sh N M (gs G k e) := by
  funext q
  unfold hset sh gs
  by_cases h : q = N + k
  · subst h
    rw [if_pos rfl, if_neg (by omega), if_pos (by omega)]
  · rw [if_neg h]
    by_cases h2 : q < N
    · rw [if_pos h2, if_pos h2]
    · rw [if_neg h2, if_neg h2, if_neg (by omega)]
theorem nw_sh (N : Nat) (M : HM) (G : Nat → Option va_E) (n : Nat) (e : va_E) : nw (shw N M G n) e = shw N M (gs G n e) (n + 1) := by
  show (hset (sh N M G) (N + n) e, N + n + 1) = _
  rw [sh_set]
  rfl
theorem wr_sh (N : Nat) (M : HM) (G : Nat → Option va_E) (n k : Nat) (e : va_E) : wr (shw N M G n) (N + k) e = shw N M (gs G k e) n := by
  show (hset (sh N M G) (N + k) e, N + n) = _
  rw [sh_set]
  rfl
theorem wr_sh0 (N : Nat) (M : HM) (G : Nat → Option va_E) (n : Nat) (e : va_E) : wr (shw N M G n) N e = shw N M (gs G 0 e) n := wr_sh N M G n 0 e
theorem gs_s (G : Nat → Option va_E) (k : Nat) (e : va_E) : gs G k e k = some e := if_pos rfl
theorem gs_n {G : Nat → Option va_E} {k q : Nat} {e : va_E} (h : q ≠ k) : gs G k e q = G q := if_neg h
theorem in_lt {n : Int32} {a N : Nat} (h : n = nI a) (h2 : a < N) (h3 : N < 2 ^ 31) : vp_in n N := by rw [h]; exact vp_in_nI h2 h3
def dSt : va_E := .inr (1, [.int 0, .int 0, .int 0, .null, .null, .null, .null, .int 0, .null, .int 0, .null])
def CS (N k : Nat) (G : Nat → Option va_E) : Prop :=
  G k = some (.inr (1, [.int 1, .int 2, .int 0, .ref (N + (k + 1)), .ref (N + (k + 2)), .ref (N + (k + 3)), .ref (N + (k + 4)), .int 0, .ref (N + (k + 5)), .int 0, .ref (N + (k + 6))])) ∧ G (k + 1) = some (.inl (4, 12, .inr (.inr (.inr (.inr (fun _ => none)))))) ∧ G (k + 2) = some (.inl (0, 12, .inl (fun _ => 0))) ∧ G (k + 3) = some (.inl (0, 12, .inl (fun _ => 0))) ∧ G (k + 4) = some (.inl (0, 12, .inl (fun _ => 0))) ∧ (∃ f, G (k + 5) = some (.inl (5, 8, .inr (.inr (.inr (.inr f))))) ∧ ∀ d, d < 8 → f d = some (N + (k + 7 + d))) ∧ G (k + 6) = some (.inl (6, 14, .inr (.inr (.inr (.inr (fun _ => none)))))) ∧ ∀ d, d < 8 → G (k + 7 + d) = some (.inr (2, [.int 0, .int 0, .int 0, .int 0, .int 0, .int 0]))
theorem CS.congr {N k : Nat} {G G' : Nat → Option va_E} (h : CS N k G) (hg : ∀ q, k ≤ q → q < k + 15 → G' q = G q) : CS N k G' := by
  obtain ⟨h1, h2, h3, h4, h5, ⟨f, h6, h7⟩, h8, h9⟩ := h
  exact ⟨by rw [hg _ (by omega) (by omega)]; exact h1, by rw [hg _ (by omega) (by omega)]; exact h2, by rw [hg _ (by omega) (by omega)]; exact h3, by rw [hg _ (by omega) (by omega)]; exact h4, by rw [hg _ (by omega) (by omega)]; exact h5, ⟨f, by rw [hg _ (by omega) (by omega)]; exact h6, h7⟩, by rw [hg _ (by omega) (by omega)]; exact h8, fun d hd => by rw [hg _ (by omega) (by omega)]; exact h9 d hd⟩
theorem ev_X1loop {N k : Nat} {M : HM} {Q : MW → Prop} : ∀ (r d : Nat), d + r = 8 → ∀ (G : Nat → Option va_E) (f : Nat → Option Nat) (fs : List Value), G k = some (.inr (1, fs)) → fs[8]? = some (.ref (N + (k + 5))) → G (k + 5) = some (.inl (5, 8, .inr (.inr (.inr (.inr f))))) → (∀ j, j < d → f j = some (N + (k + 7 + j))) → (∀ j, j < d → G (k + 7 + j) = some (.inr (2, [.int 0, .int 0, .int 0, .int 0, .int 0, .int 0]))) →
    (∀ G' f', G' k = some (.inr (1, fs)) → G' (k + 5) = some (.inl (5, 8, .inr (.inr (.inr (.inr f'))))) → (∀ j, j < 8 → f' j = some (N + (k + 7 + j))) → (∀ j, j < 8 → G' (k + 7 + j) = some (.inr (2, [.int 0, .int 0, .int 0, .int 0, .int 0, .int 0]))) → (∀ q, q ≠ k + 5 → (q < k + 7 ∨ k + 15 ≤ q) → G' q = G q) → Q (shw N M G' (k + 15))) → wX1c_init_67 Q (r + 1) (N + k) (nI d) (shw N M G (k + 7 + d)) := by
  intro r
  induction r with
  | zero =>
    intro d hd G f fs h1 h2 h3 h4 h5 hq
    have hd8 : d = 8 := by omega
    subst hd8
    unfold wX1c_init_67
    exact ⟨fun _ => hq G f h1 h3 h4 h5 (fun _ _ _ => rfl), fun h => absurd (by decide) h⟩
  | succ r ih =>
    intro d hd G f fs h1 h2 h3 h4 h5 hq
    unfold wX1c_init_67
    refine ⟨fun h => absurd h (nI_ge (a := d) (b := 8) (by omega) (by decide)), fun _ => ⟨fs, N + (k + 5), ?_, h2, ?_⟩⟩
    · exact (sh_get N M G k).trans h1
    intro Z5 hZ
    rw [nw_sh] at hZ
    subst hZ
    unfold wX2c_init
    refine ⟨8, f, [.int 0, .int 0, .int 0, .int 0, .int 0, .int 0], ?_, ?_, vp_in_nI (by omega) (by decide), ?_⟩
    · refine (sh_get N M _ (k + 5)).trans ?_
      rw [gs_n (by omega)]
      exact h3
    · exact (sh_get N M _ (k + 7 + d)).trans (gs_s _ _ _)
    intro Z13 hZ
    rw [wr_sh, nI_clamp (by omega)] at hZ
    subst hZ
    have e1 : nI d + 1 = nI (d + 1) := nI_1 d
    rw [e1]
    refine ih (d + 1) (by omega) _ (va_up f d (some (N + (k + 7 + d)))) fs ?_ h2 (gs_s _ _ _) ?_ ?_ ?_
    · rw [gs_n (by omega), gs_n (by omega)]; exact h1
    · intro j hj
      by_cases hjd : j = d
      · subst hjd; exact if_pos rfl
      · unfold va_up; rw [if_neg hjd]; exact h4 j (by omega)
    · intro j hj
      rw [gs_n (by omega)]
      by_cases hjd : j = d
      · subst hjd; exact gs_s _ _ _
      · rw [gs_n (by omega)]; exact h5 j (by omega)
    · intro G' f' g1 g2 g3 g4 g5
      refine hq G' f' g1 g2 g3 g4 (fun q q1 q2 => ?_)
      rw [g5 q q1 q2, gs_n q1, gs_n (by omega)]
theorem ev_X1 {N k : Nat} {M : HM} {G : Nat → Option va_E} {Q : MW → Prop} (hk : G k = some dSt) (hq : ∀ G' : Nat → Option va_E, CS N k G' → (∀ q, q < k ∨ k + 15 ≤ q → G' q = G q) → Q (shw N M G' (k + 15))) : wX1c_init (N + k) (shw N M G (k + 1)) Q := by
  unfold wX1c_init
  refine ⟨[.int 0, .int 0, .int 0, .null, .null, .null, .null, .int 0, .null, .int 0, .null], (sh_get N M _ k).trans hk, Nat.le_of_ble_eq_true rfl, ?_⟩
  intro Z hZ
  rw [wr_sh] at hZ
  subst hZ
  refine ⟨[.int 1, .int 0, .int 0, .null, .null, .null, .null, .int 0, .null, .int 0, .null], (sh_get N M _ k).trans (gs_s _ _ _), Nat.le_of_ble_eq_true rfl, ?_⟩
  intro Z hZ
  rw [wr_sh] at hZ
  subst hZ
  intro Z hZ
  rw [nw_sh] at hZ
  subst hZ
  refine ⟨[.int 1, .int 2, .int 0, .null, .null, .null, .null, .int 0, .null, .int 0, .null], (sh_get N M _ k).trans ((gs_n (by omega)).trans (gs_s _ _ _)), Nat.le_of_ble_eq_true rfl, ?_⟩
  intro Z hZ
  rw [wr_sh] at hZ
  subst hZ
  intro Z hZ
  rw [nw_sh] at hZ
  subst hZ
  refine ⟨[.int 1, .int 2, .int 0, .ref (N + (k + 1)), .null, .null, .null, .int 0, .null, .int 0, .null], (sh_get N M _ k).trans ((gs_n (by omega)).trans (gs_s _ _ _)), Nat.le_of_ble_eq_true rfl, ?_⟩
  intro Z hZ
  rw [wr_sh] at hZ
  subst hZ
  intro Z hZ
  rw [nw_sh] at hZ
  subst hZ
  refine ⟨[.int 1, .int 2, .int 0, .ref (N + (k + 1)), .ref (N + (k + 2)), .null, .null, .int 0, .null, .int 0, .null], (sh_get N M _ k).trans ((gs_n (by omega)).trans (gs_s _ _ _)), Nat.le_of_ble_eq_true rfl, ?_⟩
  intro Z hZ
  rw [wr_sh] at hZ
  subst hZ
  intro Z hZ
  rw [nw_sh] at hZ
  subst hZ
  refine ⟨[.int 1, .int 2, .int 0, .ref (N + (k + 1)), .ref (N + (k + 2)), .ref (N + (k + 3)), .null, .int 0, .null, .int 0, .null], (sh_get N M _ k).trans ((gs_n (by omega)).trans (gs_s _ _ _)), Nat.le_of_ble_eq_true rfl, ?_⟩
  intro Z hZ
  rw [wr_sh] at hZ
  subst hZ
  intro Z hZ
  rw [nw_sh] at hZ
  subst hZ
  refine ⟨[.int 1, .int 2, .int 0, .ref (N + (k + 1)), .ref (N + (k + 2)), .ref (N + (k + 3)), .ref (N + (k + 4)), .int 0, .null, .int 0, .null], (sh_get N M _ k).trans ((gs_n (by omega)).trans (gs_s _ _ _)), Nat.le_of_ble_eq_true rfl, ?_⟩
  intro Z hZ
  rw [wr_sh] at hZ
  subst hZ
  intro Z hZ
  rw [nw_sh] at hZ
  subst hZ
  refine ⟨[.int 1, .int 2, .int 0, .ref (N + (k + 1)), .ref (N + (k + 2)), .ref (N + (k + 3)), .ref (N + (k + 4)), .int 0, .ref (N + (k + 5)), .int 0, .null], (sh_get N M _ k).trans ((gs_n (by omega)).trans (gs_s _ _ _)), Nat.le_of_ble_eq_true rfl, ?_⟩
  intro Z hZ
  rw [wr_sh] at hZ
  subst hZ
  refine ev_X1loop 8 0 rfl _ (fun _ => none) [.int 1, .int 2, .int 0, .ref (N + (k + 1)), .ref (N + (k + 2)), .ref (N + (k + 3)), .ref (N + (k + 4)), .int 0, .ref (N + (k + 5)), .int 0, .ref (N + (k + 6))] (gs_s _ _ _) rfl ?_ (fun j hj => absurd hj (Nat.not_lt_zero _)) (fun j hj => absurd hj (Nat.not_lt_zero _)) (fun G' f' g1 g2 g3 g4 g5 => hq G' ⟨g1, ?_, ?_, ?_, ?_, ⟨f', g2, g3⟩, ?_, g4⟩ (fun q hq => ?_))
  · simp [gs]
  · rw [g5 _ (by omega) (by omega)]; simp [gs]
  · rw [g5 _ (by omega) (by omega)]; simp [gs]
  · rw [g5 _ (by omega) (by omega)]; simp [gs]
  · rw [g5 _ (by omega) (by omega)]; simp [gs]
  · rw [g5 _ (by omega) (by omega)]; simp [gs]
  · rw [g5 q (by omega) (by omega)]
    simp only [gs]
    repeat rw [if_neg (by omega)]
def dTw : va_E := .inr (6, [.null, .null, .null, .int 0, .null, .null, .null, .null, .null, .null, .null, .null, .null, .null, .int 0, .int 0, .int 0, .int 0, .int 0, .int 0, .int 0, .int 0, .int 0, .int 0, .int 0, .null, .null, .null, .null, .int 0, .null])
def CT (N k : Nat) (G : Nat → Option va_E) : Prop := G k = some (.inr (6, [.ref (N + (k + 1)), .ref (N + (k + 2)), .ref (N + (k + 3)), .int 0, .ref (N + (k + 4)), .ref (N + (k + 5)), .ref (N + (k + 6)), .ref (N + (k + 7)), .ref (N + (k + 8)), .ref (N + (k + 9)), .ref (N + (k + 10)), .ref (N + (k + 11)), .ref (N + (k + 12)), .ref (N + (k + 13)), .int 0, .int 0, .int 0, .int 0, .int 0, .int 0, .int 0, .int 0, .int 0, .int 0, .int 0, .ref (N + (k + 14)), .ref (N + (k + 15)), .ref (N + (k + 16)), .ref (N + (k + 17)), .int 0, .ref (N + (k + 18))])) ∧ (∃ g : Nat → Int32, G (k + 1) = some (.inl (0, 3114, .inl g)) ∧ ∀ j, g j = if j = 3 then 2 else if j = 4 then 1 else 0) ∧ G (k + 2) = some (.inl (0, 3114, .inl (fun _ => 0))) ∧ G (k + 3) = some (.inl (0, 3114, .inl (fun _ => 0))) ∧ (∃ g : Nat → Int32, G (k + 4) = some (.inl (0, 4, .inl g)) ∧ ∀ j, j < 4 → g j = -1) ∧ G (k + 5) = some (.inl (0, 4, .inl (fun _ => 0))) ∧ G (k + 6) = some (.inl (0, 96, .inl (fun _ => 0))) ∧ G (k + 7) = some (.inl (0, 5, .inl (fun _ => 0))) ∧ G (k + 8) = some (.inl (0, 5, .inl (fun _ => 0))) ∧ G (k + 9) = some (.inl (0, 5, .inl (fun _ => 0))) ∧ G (k + 10) = some (.inl (0, 5, .inl (fun _ => 0))) ∧ G (k + 11) = some (.inl (0, 120, .inl (fun _ => 0))) ∧ G (k + 12) = some (.inl (0, 12, .inl (fun _ => 0))) ∧ G (k + 13) = some (.inl (0, 96, .inl (fun _ => 0))) ∧ G (k + 14) = some (.inl (0, 128, .inl (fun _ => 0))) ∧ G (k + 15) = some (.inl (0, 100, .inl (fun _ => 0))) ∧ G (k + 16) = some (.inl (0, 24, .inl (fun _ => 0))) ∧ G (k + 17) = some (.inl (0, 60, .inl (fun _ => 0))) ∧ G (k + 18) = some (.inl (0, 60, .inl (fun _ => 0)))
set_option maxHeartbeats 4000000 in
theorem ev_X6 {N k : Nat} {M : HM} {G : Nat → Option va_E} {Q : MW → Prop} (hk : G k = some dTw) (hq : ∀ G' : Nat → Option va_E, CT N k G' → (∀ q, q < k ∨ k + 19 ≤ q → G' q = G q) → Q (shw N M G' (k + 19))) : wX6c_init (N + k) (shw N M G (k + 1)) Q := by
  unfold wX6c_init
  intro Z hZ
  rw [nw_sh] at hZ
  subst hZ
  refine ⟨[.null, .null, .null, .int 0, .null, .null, .null, .null, .null, .null, .null, .null, .null, .null, .int 0, .int 0, .int 0, .int 0, .int 0, .int 0, .int 0, .int 0, .int 0, .int 0, .int 0, .null, .null, .null, .null, .int 0, .null], (sh_get N M _ k).trans ((gs_n (by omega)).trans hk), Nat.le_of_ble_eq_true rfl, ?_⟩
  intro Z hZ
  rw [wr_sh] at hZ
  subst hZ
  intro Z hZ
  rw [nw_sh] at hZ
  subst hZ
  refine ⟨[.ref (N + (k + 1)), .null, .null, .int 0, .null, .null, .null, .null, .null, .null, .null, .null, .null, .null, .int 0, .int 0, .int 0, .int 0, .int 0, .int 0, .int 0, .int 0, .int 0, .int 0, .int 0, .null, .null, .null, .null, .int 0, .null], (sh_get N M _ k).trans ((gs_n (by omega)).trans (gs_s _ _ _)), Nat.le_of_ble_eq_true rfl, ?_⟩
  intro Z hZ
  rw [wr_sh] at hZ
  subst hZ
  intro Z hZ
  rw [nw_sh] at hZ
  subst hZ
  refine ⟨[.ref (N + (k + 1)), .ref (N + (k + 2)), .null, .int 0, .null, .null, .null, .null, .null, .null, .null, .null, .null, .null, .int 0, .int 0, .int 0, .int 0, .int 0, .int 0, .int 0, .int 0, .int 0, .int 0, .int 0, .null, .null, .null, .null, .int 0, .null], (sh_get N M _ k).trans ((gs_n (by omega)).trans (gs_s _ _ _)), Nat.le_of_ble_eq_true rfl, ?_⟩
  intro Z hZ
  rw [wr_sh] at hZ
  subst hZ
  intro Z hZ
  rw [nw_sh] at hZ
  subst hZ
  refine ⟨[.ref (N + (k + 1)), .ref (N + (k + 2)), .ref (N + (k + 3)), .int 0, .null, .null, .null, .null, .null, .null, .null, .null, .null, .null, .int 0, .int 0, .int 0, .int 0, .int 0, .int 0, .int 0, .int 0, .int 0, .int 0, .int 0, .null, .null, .null, .null, .int 0, .null], (sh_get N M _ k).trans ((gs_n (by omega)).trans (gs_s _ _ _)), Nat.le_of_ble_eq_true rfl, ?_⟩
  intro Z hZ
  rw [wr_sh] at hZ
  subst hZ
  intro Z hZ
  rw [nw_sh] at hZ
  subst hZ
  refine ⟨[.ref (N + (k + 1)), .ref (N + (k + 2)), .ref (N + (k + 3)), .int 0, .ref (N + (k + 4)), .null, .null, .null, .null, .null, .null, .null, .null, .null, .int 0, .int 0, .int 0, .int 0, .int 0, .int 0, .int 0, .int 0, .int 0, .int 0, .int 0, .null, .null, .null, .null, .int 0, .null], (sh_get N M _ k).trans ((gs_n (by omega)).trans (gs_s _ _ _)), Nat.le_of_ble_eq_true rfl, ?_⟩
  intro Z hZ
  rw [wr_sh] at hZ
  subst hZ
  intro Z hZ
  rw [nw_sh] at hZ
  subst hZ
  refine ⟨[.ref (N + (k + 1)), .ref (N + (k + 2)), .ref (N + (k + 3)), .int 0, .ref (N + (k + 4)), .ref (N + (k + 5)), .null, .null, .null, .null, .null, .null, .null, .null, .int 0, .int 0, .int 0, .int 0, .int 0, .int 0, .int 0, .int 0, .int 0, .int 0, .int 0, .null, .null, .null, .null, .int 0, .null], (sh_get N M _ k).trans ((gs_n (by omega)).trans (gs_s _ _ _)), Nat.le_of_ble_eq_true rfl, ?_⟩
  intro Z hZ
  rw [wr_sh] at hZ
  subst hZ
  intro Z hZ
  rw [nw_sh] at hZ
  subst hZ
  refine ⟨[.ref (N + (k + 1)), .ref (N + (k + 2)), .ref (N + (k + 3)), .int 0, .ref (N + (k + 4)), .ref (N + (k + 5)), .ref (N + (k + 6)), .null, .null, .null, .null, .null, .null, .null, .int 0, .int 0, .int 0, .int 0, .int 0, .int 0, .int 0, .int 0, .int 0, .int 0, .int 0, .null, .null, .null, .null, .int 0, .null], (sh_get N M _ k).trans ((gs_n (by omega)).trans (gs_s _ _ _)), Nat.le_of_ble_eq_true rfl, ?_⟩
  intro Z hZ
  rw [wr_sh] at hZ
  subst hZ
  intro Z hZ
  rw [nw_sh] at hZ
  subst hZ
  refine ⟨[.ref (N + (k + 1)), .ref (N + (k + 2)), .ref (N + (k + 3)), .int 0, .ref (N + (k + 4)), .ref (N + (k + 5)), .ref (N + (k + 6)), .ref (N + (k + 7)), .null, .null, .null, .null, .null, .null, .int 0, .int 0, .int 0, .int 0, .int 0, .int 0, .int 0, .int 0, .int 0, .int 0, .int 0, .null, .null, .null, .null, .int 0, .null], (sh_get N M _ k).trans ((gs_n (by omega)).trans (gs_s _ _ _)), Nat.le_of_ble_eq_true rfl, ?_⟩
  intro Z hZ
  rw [wr_sh] at hZ
  subst hZ
  intro Z hZ
  rw [nw_sh] at hZ
  subst hZ
  refine ⟨[.ref (N + (k + 1)), .ref (N + (k + 2)), .ref (N + (k + 3)), .int 0, .ref (N + (k + 4)), .ref (N + (k + 5)), .ref (N + (k + 6)), .ref (N + (k + 7)), .ref (N + (k + 8)), .null, .null, .null, .null, .null, .int 0, .int 0, .int 0, .int 0, .int 0, .int 0, .int 0, .int 0, .int 0, .int 0, .int 0, .null, .null, .null, .null, .int 0, .null], (sh_get N M _ k).trans ((gs_n (by omega)).trans (gs_s _ _ _)), Nat.le_of_ble_eq_true rfl, ?_⟩
  intro Z hZ
  rw [wr_sh] at hZ
  subst hZ
  intro Z hZ
  rw [nw_sh] at hZ
  subst hZ
  refine ⟨[.ref (N + (k + 1)), .ref (N + (k + 2)), .ref (N + (k + 3)), .int 0, .ref (N + (k + 4)), .ref (N + (k + 5)), .ref (N + (k + 6)), .ref (N + (k + 7)), .ref (N + (k + 8)), .ref (N + (k + 9)), .null, .null, .null, .null, .int 0, .int 0, .int 0, .int 0, .int 0, .int 0, .int 0, .int 0, .int 0, .int 0, .int 0, .null, .null, .null, .null, .int 0, .null], (sh_get N M _ k).trans ((gs_n (by omega)).trans (gs_s _ _ _)), Nat.le_of_ble_eq_true rfl, ?_⟩
  intro Z hZ
  rw [wr_sh] at hZ
  subst hZ
  intro Z hZ
  rw [nw_sh] at hZ
  subst hZ
  refine ⟨[.ref (N + (k + 1)), .ref (N + (k + 2)), .ref (N + (k + 3)), .int 0, .ref (N + (k + 4)), .ref (N + (k + 5)), .ref (N + (k + 6)), .ref (N + (k + 7)), .ref (N + (k + 8)), .ref (N + (k + 9)), .ref (N + (k + 10)), .null, .null, .null, .int 0, .int 0, .int 0, .int 0, .int 0, .int 0, .int 0, .int 0, .int 0, .int 0, .int 0, .null, .null, .null, .null, .int 0, .null], (sh_get N M _ k).trans ((gs_n (by omega)).trans (gs_s _ _ _)), Nat.le_of_ble_eq_true rfl, ?_⟩
  intro Z hZ
  rw [wr_sh] at hZ
  subst hZ
  intro Z hZ
  rw [nw_sh] at hZ
  subst hZ
  refine ⟨[.ref (N + (k + 1)), .ref (N + (k + 2)), .ref (N + (k + 3)), .int 0, .ref (N + (k + 4)), .ref (N + (k + 5)), .ref (N + (k + 6)), .ref (N + (k + 7)), .ref (N + (k + 8)), .ref (N + (k + 9)), .ref (N + (k + 10)), .ref (N + (k + 11)), .null, .null, .int 0, .int 0, .int 0, .int 0, .int 0, .int 0, .int 0, .int 0, .int 0, .int 0, .int 0, .null, .null, .null, .null, .int 0, .null], (sh_get N M _ k).trans ((gs_n (by omega)).trans (gs_s _ _ _)), Nat.le_of_ble_eq_true rfl, ?_⟩
  intro Z hZ
  rw [wr_sh] at hZ
  subst hZ
  intro Z hZ
  rw [nw_sh] at hZ
  subst hZ
  refine ⟨[.ref (N + (k + 1)), .ref (N + (k + 2)), .ref (N + (k + 3)), .int 0, .ref (N + (k + 4)), .ref (N + (k + 5)), .ref (N + (k + 6)), .ref (N + (k + 7)), .ref (N + (k + 8)), .ref (N + (k + 9)), .ref (N + (k + 10)), .ref (N + (k + 11)), .ref (N + (k + 12)), .null, .int 0, .int 0, .int 0, .int 0, .int 0, .int 0, .int 0, .int 0, .int 0, .int 0, .int 0, .null, .null, .null, .null, .int 0, .null], (sh_get N M _ k).trans ((gs_n (by omega)).trans (gs_s _ _ _)), Nat.le_of_ble_eq_true rfl, ?_⟩
  intro Z hZ
  rw [wr_sh] at hZ
  subst hZ
  intro Z hZ
  rw [nw_sh] at hZ
  subst hZ
  refine ⟨[.ref (N + (k + 1)), .ref (N + (k + 2)), .ref (N + (k + 3)), .int 0, .ref (N + (k + 4)), .ref (N + (k + 5)), .ref (N + (k + 6)), .ref (N + (k + 7)), .ref (N + (k + 8)), .ref (N + (k + 9)), .ref (N + (k + 10)), .ref (N + (k + 11)), .ref (N + (k + 12)), .ref (N + (k + 13)), .int 0, .int 0, .int 0, .int 0, .int 0, .int 0, .int 0, .int 0, .int 0, .int 0, .int 0, .null, .null, .null, .null, .int 0, .null], (sh_get N M _ k).trans ((gs_n (by omega)).trans (gs_s _ _ _)), Nat.le_of_ble_eq_true rfl, ?_⟩
  intro Z hZ
  rw [wr_sh] at hZ
  subst hZ
  intro Z hZ
  rw [nw_sh] at hZ
  subst hZ
  refine ⟨[.ref (N + (k + 1)), .ref (N + (k + 2)), .ref (N + (k + 3)), .int 0, .ref (N + (k + 4)), .ref (N + (k + 5)), .ref (N + (k + 6)), .ref (N + (k + 7)), .ref (N + (k + 8)), .ref (N + (k + 9)), .ref (N + (k + 10)), .ref (N + (k + 11)), .ref (N + (k + 12)), .ref (N + (k + 13)), .int 0, .int 0, .int 0, .int 0, .int 0, .int 0, .int 0, .int 0, .int 0, .int 0, .int 0, .ref (N + (k + 14)), .null, .null, .null, .int 0, .null], (sh_get N M _ k).trans ((gs_n (by omega)).trans (gs_s _ _ _)), Nat.le_of_ble_eq_true rfl, ?_⟩
  intro Z hZ
  rw [wr_sh] at hZ
  subst hZ
  intro Z hZ
  rw [nw_sh] at hZ
  subst hZ
  refine ⟨[.ref (N + (k + 1)), .ref (N + (k + 2)), .ref (N + (k + 3)), .int 0, .ref (N + (k + 4)), .ref (N + (k + 5)), .ref (N + (k + 6)), .ref (N + (k + 7)), .ref (N + (k + 8)), .ref (N + (k + 9)), .ref (N + (k + 10)), .ref (N + (k + 11)), .ref (N + (k + 12)), .ref (N + (k + 13)), .int 0, .int 0, .int 0, .int 0, .int 0, .int 0, .int 0, .int 0, .int 0, .int 0, .int 0, .ref (N + (k + 14)), .ref (N + (k + 15)), .null, .null, .int 0, .null], (sh_get N M _ k).trans ((gs_n (by omega)).trans (gs_s _ _ _)), Nat.le_of_ble_eq_true rfl, ?_⟩
  intro Z hZ
  rw [wr_sh] at hZ
  subst hZ
  intro Z hZ
  rw [nw_sh] at hZ
  subst hZ
  refine ⟨[.ref (N + (k + 1)), .ref (N + (k + 2)), .ref (N + (k + 3)), .int 0, .ref (N + (k + 4)), .ref (N + (k + 5)), .ref (N + (k + 6)), .ref (N + (k + 7)), .ref (N + (k + 8)), .ref (N + (k + 9)), .ref (N + (k + 10)), .ref (N + (k + 11)), .ref (N + (k + 12)), .ref (N + (k + 13)), .int 0, .int 0, .int 0, .int 0, .int 0, .int 0, .int 0, .int 0, .int 0, .int 0, .int 0, .ref (N + (k + 14)), .ref (N + (k + 15)), .ref (N + (k + 16)), .null, .int 0, .null], (sh_get N M _ k).trans ((gs_n (by omega)).trans (gs_s _ _ _)), Nat.le_of_ble_eq_true rfl, ?_⟩
  intro Z hZ
  rw [wr_sh] at hZ
  subst hZ
  intro Z hZ
  rw [nw_sh] at hZ
  subst hZ
  refine ⟨[.ref (N + (k + 1)), .ref (N + (k + 2)), .ref (N + (k + 3)), .int 0, .ref (N + (k + 4)), .ref (N + (k + 5)), .ref (N + (k + 6)), .ref (N + (k + 7)), .ref (N + (k + 8)), .ref (N + (k + 9)), .ref (N + (k + 10)), .ref (N + (k + 11)), .ref (N + (k + 12)), .ref (N + (k + 13)), .int 0, .int 0, .int 0, .int 0, .int 0, .int 0, .int 0, .int 0, .int 0, .int 0, .int 0, .ref (N + (k + 14)), .ref (N + (k + 15)), .ref (N + (k + 16)), .ref (N + (k + 17)), .int 0, .null], (sh_get N M _ k).trans ((gs_n (by omega)).trans (gs_s _ _ _)), Nat.le_of_ble_eq_true rfl, ?_⟩
  intro Z hZ
  rw [wr_sh] at hZ
  subst hZ
  refine ⟨[.ref (N + (k + 1)), .ref (N + (k + 2)), .ref (N + (k + 3)), .int 0, .ref (N + (k + 4)), .ref (N + (k + 5)), .ref (N + (k + 6)), .ref (N + (k + 7)), .ref (N + (k + 8)), .ref (N + (k + 9)), .ref (N + (k + 10)), .ref (N + (k + 11)), .ref (N + (k + 12)), .ref (N + (k + 13)), .int 0, .int 0, .int 0, .int 0, .int 0, .int 0, .int 0, .int 0, .int 0, .int 0, .int 0, .ref (N + (k + 14)), .ref (N + (k + 15)), .ref (N + (k + 16)), .ref (N + (k + 17)), .int 0, .ref (N + (k + 18))], N + (k + 1), (by refine (sh_get N M _ k).trans ?_; (repeat (refine (gs_n (by omega)).trans ?_)); exact gs_s _ _ _), rfl, ⟨3114, (fun _ => 0), (by refine (sh_get N M _ (k + 1)).trans ?_; (repeat (refine (gs_n (by omega)).trans ?_)); exact gs_s _ _ _), (in_lt (a := 3) (by decide) (by decide) (by decide)), ?_⟩⟩
  intro Z hZ
  rw [wr_sh] at hZ
  subst hZ
  refine ⟨[.ref (N + (k + 1)), .ref (N + (k + 2)), .ref (N + (k + 3)), .int 0, .ref (N + (k + 4)), .ref (N + (k + 5)), .ref (N + (k + 6)), .ref (N + (k + 7)), .ref (N + (k + 8)), .ref (N + (k + 9)), .ref (N + (k + 10)), .ref (N + (k + 11)), .ref (N + (k + 12)), .ref (N + (k + 13)), .int 0, .int 0, .int 0, .int 0, .int 0, .int 0, .int 0, .int 0, .int 0, .int 0, .int 0, .ref (N + (k + 14)), .ref (N + (k + 15)), .ref (N + (k + 16)), .ref (N + (k + 17)), .int 0, .ref (N + (k + 18))], N + (k + 1), (by refine (sh_get N M _ k).trans ?_; (repeat (refine (gs_n (by omega)).trans ?_)); exact gs_s _ _ _), rfl, ⟨3114, (upd (fun _ => 0) (3 : Int32).toNatClampNeg (2 : Int32)), (by refine (sh_get N M _ (k + 1)).trans ?_; (repeat (refine (gs_n (by omega)).trans ?_)); exact gs_s _ _ _), (in_lt (a := 4) (by decide) (by decide) (by decide)), ?_⟩⟩
  intro Z hZ
  rw [wr_sh] at hZ
  subst hZ
  refine ⟨5, ?_⟩
  unfold wX6c_init_162
  refine ⟨fun h => absurd h (by decide), fun _ => ⟨[.ref (N + (k + 1)), .ref (N + (k + 2)), .ref (N + (k + 3)), .int 0, .ref (N + (k + 4)), .ref (N + (k + 5)), .ref (N + (k + 6)), .ref (N + (k + 7)), .ref (N + (k + 8)), .ref (N + (k + 9)), .ref (N + (k + 10)), .ref (N + (k + 11)), .ref (N + (k + 12)), .ref (N + (k + 13)), .int 0, .int 0, .int 0, .int 0, .int 0, .int 0, .int 0, .int 0, .int 0, .int 0, .int 0, .ref (N + (k + 14)), .ref (N + (k + 15)), .ref (N + (k + 16)), .ref (N + (k + 17)), .int 0, .ref (N + (k + 18))], N + (k + 4), (by refine (sh_get N M _ k).trans ?_; (repeat (refine (gs_n (by omega)).trans ?_)); exact gs_s _ _ _), rfl, ⟨4, (fun _ => 0), (by refine (sh_get N M _ (k + 4)).trans ?_; (repeat (refine (gs_n (by omega)).trans ?_)); exact gs_s _ _ _), (in_lt (a := 0) (by decide) (by decide) (by decide)), ?_⟩⟩⟩
  intro Z hZ
  rw [wr_sh] at hZ
  subst hZ
  unfold wX6c_init_162
  refine ⟨fun h => absurd h (by decide), fun _ => ⟨[.ref (N + (k + 1)), .ref (N + (k + 2)), .ref (N + (k + 3)), .int 0, .ref (N + (k + 4)), .ref (N + (k + 5)), .ref (N + (k + 6)), .ref (N + (k + 7)), .ref (N + (k + 8)), .ref (N + (k + 9)), .ref (N + (k + 10)), .ref (N + (k + 11)), .ref (N + (k + 12)), .ref (N + (k + 13)), .int 0, .int 0, .int 0, .int 0, .int 0, .int 0, .int 0, .int 0, .int 0, .int 0, .int 0, .ref (N + (k + 14)), .ref (N + (k + 15)), .ref (N + (k + 16)), .ref (N + (k + 17)), .int 0, .ref (N + (k + 18))], N + (k + 4), (by refine (sh_get N M _ k).trans ?_; (repeat (refine (gs_n (by omega)).trans ?_)); exact gs_s _ _ _), rfl, ⟨4, (upd (fun _ => 0) ((0 : Int32)).toNatClampNeg (-1 : Int32)), (by refine (sh_get N M _ (k + 4)).trans ?_; (repeat (refine (gs_n (by omega)).trans ?_)); exact gs_s _ _ _), (in_lt (a := 1) (by decide) (by decide) (by decide)), ?_⟩⟩⟩
  intro Z hZ
  rw [wr_sh] at hZ
  subst hZ
  unfold wX6c_init_162
  refine ⟨fun h => absurd h (by decide), fun _ => ⟨[.ref (N + (k + 1)), .ref (N + (k + 2)), .ref (N + (k + 3)), .int 0, .ref (N + (k + 4)), .ref (N + (k + 5)), .ref (N + (k + 6)), .ref (N + (k + 7)), .ref (N + (k + 8)), .ref (N + (k + 9)), .ref (N + (k + 10)), .ref (N + (k + 11)), .ref (N + (k + 12)), .ref (N + (k + 13)), .int 0, .int 0, .int 0, .int 0, .int 0, .int 0, .int 0, .int 0, .int 0, .int 0, .int 0, .ref (N + (k + 14)), .ref (N + (k + 15)), .ref (N + (k + 16)), .ref (N + (k + 17)), .int 0, .ref (N + (k + 18))], N + (k + 4), (by refine (sh_get N M _ k).trans ?_; (repeat (refine (gs_n (by omega)).trans ?_)); exact gs_s _ _ _), rfl, ⟨4, (upd (upd (fun _ => 0) ((0 : Int32)).toNatClampNeg (-1 : Int32)) ((0 : Int32) + 1).toNatClampNeg (-1 : Int32)), (by refine (sh_get N M _ (k + 4)).trans ?_; (repeat (refine (gs_n (by omega)).trans ?_)); exact gs_s _ _ _), (in_lt (a := 2) (by decide) (by decide) (by decide)), ?_⟩⟩⟩
  intro Z hZ
  rw [wr_sh] at hZ
  subst hZ
  unfold wX6c_init_162
  refine ⟨fun h => absurd h (by decide), fun _ => ⟨[.ref (N + (k + 1)), .ref (N + (k + 2)), .ref (N + (k + 3)), .int 0, .ref (N + (k + 4)), .ref (N + (k + 5)), .ref (N + (k + 6)), .ref (N + (k + 7)), .ref (N + (k + 8)), .ref (N + (k + 9)), .ref (N + (k + 10)), .ref (N + (k + 11)), .ref (N + (k + 12)), .ref (N + (k + 13)), .int 0, .int 0, .int 0, .int 0, .int 0, .int 0, .int 0, .int 0, .int 0, .int 0, .int 0, .ref (N + (k + 14)), .ref (N + (k + 15)), .ref (N + (k + 16)), .ref (N + (k + 17)), .int 0, .ref (N + (k + 18))], N + (k + 4), (by refine (sh_get N M _ k).trans ?_; (repeat (refine (gs_n (by omega)).trans ?_)); exact gs_s _ _ _), rfl, ⟨4, (upd (upd (upd (fun _ => 0) ((0 : Int32)).toNatClampNeg (-1 : Int32)) ((0 : Int32) + 1).toNatClampNeg (-1 : Int32)) ((0 : Int32) + 1 + 1).toNatClampNeg (-1 : Int32)), (by refine (sh_get N M _ (k + 4)).trans ?_; (repeat (refine (gs_n (by omega)).trans ?_)); exact gs_s _ _ _), (in_lt (a := 3) (by decide) (by decide) (by decide)), ?_⟩⟩⟩
  intro Z hZ
  rw [wr_sh] at hZ
  subst hZ
  unfold wX6c_init_162
  refine ⟨fun _ => hq _ ⟨?_, ?_⟩ (fun q hq => ?_), fun h => absurd (by decide) h⟩
  · (repeat (refine (gs_n (by omega)).trans ?_)); exact gs_s _ _ _
  · refine ⟨⟨(upd (upd (fun _ => 0) (3 : Int32).toNatClampNeg (2 : Int32)) (4 : Int32).toNatClampNeg (1 : Int32)), (by (repeat (refine (gs_n (by omega)).trans ?_)); exact gs_s _ _ _), fun j => ?_⟩, (by (repeat (refine (gs_n (by omega)).trans ?_)); exact gs_s _ _ _), (by (repeat (refine (gs_n (by omega)).trans ?_)); exact gs_s _ _ _), ⟨(upd (upd (upd (upd (fun _ => 0) ((0 : Int32)).toNatClampNeg (-1 : Int32)) ((0 : Int32) + 1).toNatClampNeg (-1 : Int32)) ((0 : Int32) + 1 + 1).toNatClampNeg (-1 : Int32)) ((0 : Int32) + 1 + 1 + 1).toNatClampNeg (-1 : Int32)), (by (repeat (refine (gs_n (by omega)).trans ?_)); exact gs_s _ _ _), fun j hj => ?_⟩, (by (repeat (refine (gs_n (by omega)).trans ?_)); exact gs_s _ _ _), (by (repeat (refine (gs_n (by omega)).trans ?_)); exact gs_s _ _ _), (by (repeat (refine (gs_n (by omega)).trans ?_)); exact gs_s _ _ _), (by (repeat (refine (gs_n (by omega)).trans ?_)); exact gs_s _ _ _), (by (repeat (refine (gs_n (by omega)).trans ?_)); exact gs_s _ _ _), (by (repeat (refine (gs_n (by omega)).trans ?_)); exact gs_s _ _ _), (by (repeat (refine (gs_n (by omega)).trans ?_)); exact gs_s _ _ _), (by (repeat (refine (gs_n (by omega)).trans ?_)); exact gs_s _ _ _), (by (repeat (refine (gs_n (by omega)).trans ?_)); exact gs_s _ _ _), (by (repeat (refine (gs_n (by omega)).trans ?_)); exact gs_s _ _ _), (by (repeat (refine (gs_n (by omega)).trans ?_)); exact gs_s _ _ _), (by (repeat (refine (gs_n (by omega)).trans ?_)); exact gs_s _ _ _), (by (repeat (refine (gs_n (by omega)).trans ?_)); exact gs_s _ _ _), (by (repeat (refine (gs_n (by omega)).trans ?_)); exact gs_s _ _ _)⟩
    · show upd (upd (fun _ => 0) 3 2) 4 1 j = _
      unfold upd
      by_cases h3 : j = 3
      · simp [h3]
      · simp [h3]
    · show upd (upd (upd (upd (fun _ => 0) 0 (-1)) 1 (-1)) 2 (-1)) 3 (-1) j = _
      match j, hj with
      | 0, _ => rfl
      | 1, _ => rfl
      | 2, _ => rfl
      | 3, _ => rfl
  · simp only [gs]
    repeat rw [if_neg (by omega)]
def dNe : va_E := .inr (0, [.null, .null, .null, .int 0, .null, .null, .int 0, .null, .int 0, .int 0, .int 0, .int 0, .int 0, .int 0, .int 0, .null, .null, .long 0, .long 0, .null, .null, .null, .null, .int 0, .null])
def CC (N : Nat) (fs : List Value) (G : Nat → Option va_E) : Prop := G 0 = some (.inr (0, [.ref (N + 1), .ref (N + 16), .ref (N + 31), .int 0, .ref (N + 46), .ref (N + 47), .int 0, .ref (N + 48), .int 0, .int 0, .int 0, .int 0, .int 0, .int 0, .int 0, .ref (N + 49), .ref (N + 50), .long 0, .long 0, .ref (N + 51), .ref (N + 56), .ref (N + 62), .ref (N + 63), .int 0, .ref (N + 64)])) ∧ CS N 1 G ∧ CS N 16 G ∧ CS N 31 G ∧ G 46 = some (.inl (0, 96, .inl (fun _ => 0))) ∧ G 47 = some (.inl (1, 96, .inl (fun _ => 0))) ∧ G 48 = some (.inr (3, fs)) ∧ G 49 = some (.inl (0, 128, .inl (fun _ => 0))) ∧ G 50 = some (.inl (0, 12, .inl (fun _ => 0))) ∧ G 62 = some (.inl (3, 24, .inr (.inr (.inl (fun _ => 0))))) ∧ G 63 = some (.inl (0, 60, .inl (fun _ => 0))) ∧ G 64 = some (.inl (0, 60, .inl (fun _ => 0))) ∧ (∃ f, G 51 = some (.inl (7, 4, .inr (.inr (.inr (.inr f))))) ∧ ∀ j, j < 4 → f j = some (N + (52 + j))) ∧ (∀ j, j < 4 → G (52 + j) = some (.inr (4, [.null]))) ∧ (∃ f, G 56 = some (.inl (8, 5, .inr (.inr (.inr (.inr f))))) ∧ ∀ j, j < 5 → f j = some (N + (57 + j))) ∧ (∀ j, j < 5 → G (57 + j) = some (.inr (5, [.null])))
set_option maxHeartbeats 4000000 in
theorem ev_X0 {N : Nat} {M : HM} {G : Nat → Option va_E} {Q : MW → Prop} (h0 : G 0 = some dNe) (hq : ∀ (G' : Nat → Option va_E) (fs : List Value), fs.length = 7 → fs[6]? = some (.int 0) → CC N fs G' → Q (shw N M G' 65)) : wX0c_init N (shw N M G 1) Q := by
  unfold wX0c_init
  intro Z hZ
  rw [nw_sh] at hZ
  subst hZ
  refine ev_X1 (k := 1) (gs_s _ _ _) (fun G0 c0 k0 => ?_)
  refine ⟨[.null, .null, .null, .int 0, .null, .null, .int 0, .null, .int 0, .int 0, .int 0, .int 0, .int 0, .int 0, .int 0, .null, .null, .long 0, .long 0, .null, .null, .null, .null, .int 0, .null], (sh_get N M _ 0).trans ((k0 0 (by decide)).trans ((gs_n (by decide)).trans h0)), Nat.le_of_ble_eq_true rfl, ?_⟩
  intro Z hZ
  rw [wr_sh0] at hZ
  subst hZ
  intro Z hZ
  rw [nw_sh] at hZ
  subst hZ
  refine ev_X1 (k := 16) (gs_s _ _ _) (fun G1 c1 k1 => ?_)
  refine ⟨[.ref (N + 1), .null, .null, .int 0, .null, .null, .int 0, .null, .int 0, .int 0, .int 0, .int 0, .int 0, .int 0, .int 0, .null, .null, .long 0, .long 0, .null, .null, .null, .null, .int 0, .null], (sh_get N M _ 0).trans ((k1 0 (by decide)).trans ((gs_n (by decide)).trans (gs_s _ _ _))), Nat.le_of_ble_eq_true rfl, ?_⟩
  intro Z hZ
  rw [wr_sh0] at hZ
  subst hZ
  intro Z hZ
  rw [nw_sh] at hZ
  subst hZ
  refine ev_X1 (k := 31) (gs_s _ _ _) (fun G2 c2 k2 => ?_)
  refine ⟨[.ref (N + 1), .ref (N + 16), .null, .int 0, .null, .null, .int 0, .null, .int 0, .int 0, .int 0, .int 0, .int 0, .int 0, .int 0, .null, .null, .long 0, .long 0, .null, .null, .null, .null, .int 0, .null], (sh_get N M _ 0).trans ((k2 0 (by decide)).trans ((gs_n (by decide)).trans (gs_s _ _ _))), Nat.le_of_ble_eq_true rfl, ?_⟩
  intro Z hZ
  rw [wr_sh0] at hZ
  subst hZ
  intro Z hZ
  rw [nw_sh] at hZ
  subst hZ
  refine ⟨[.ref (N + 1), .ref (N + 16), .ref (N + 31), .int 0, .null, .null, .int 0, .null, .int 0, .int 0, .int 0, .int 0, .int 0, .int 0, .int 0, .null, .null, .long 0, .long 0, .null, .null, .null, .null, .int 0, .null], (sh_get N M _ 0).trans ((gs_n (by decide)).trans (gs_s _ _ _)), Nat.le_of_ble_eq_true rfl, ?_⟩
  intro Z hZ
  rw [wr_sh0] at hZ
  subst hZ
  intro Z hZ
  rw [nw_sh] at hZ
  subst hZ
  refine ⟨[.ref (N + 1), .ref (N + 16), .ref (N + 31), .int 0, .ref (N + 46), .null, .int 0, .null, .int 0, .int 0, .int 0, .int 0, .int 0, .int 0, .int 0, .null, .null, .long 0, .long 0, .null, .null, .null, .null, .int 0, .null], (sh_get N M _ 0).trans ((gs_n (by decide)).trans (gs_s _ _ _)), Nat.le_of_ble_eq_true rfl, ?_⟩
  intro Z hZ
  rw [wr_sh0] at hZ
  subst hZ
  intro fs hf1 hf2
  intro Z hZ
  rw [nw_sh] at hZ
  subst hZ
  refine ⟨[.ref (N + 1), .ref (N + 16), .ref (N + 31), .int 0, .ref (N + 46), .ref (N + 47), .int 0, .null, .int 0, .int 0, .int 0, .int 0, .int 0, .int 0, .int 0, .null, .null, .long 0, .long 0, .null, .null, .null, .null, .int 0, .null], (sh_get N M _ 0).trans ((gs_n (by decide)).trans (gs_s _ _ _)), Nat.le_of_ble_eq_true rfl, ?_⟩
  intro Z hZ
  rw [wr_sh0] at hZ
  subst hZ
  intro Z hZ
  rw [nw_sh] at hZ
  subst hZ
  refine ⟨[.ref (N + 1), .ref (N + 16), .ref (N + 31), .int 0, .ref (N + 46), .ref (N + 47), .int 0, .ref (N + 48), .int 0, .int 0, .int 0, .int 0, .int 0, .int 0, .int 0, .null, .null, .long 0, .long 0, .null, .null, .null, .null, .int 0, .null], (sh_get N M _ 0).trans ((gs_n (by decide)).trans (gs_s _ _ _)), Nat.le_of_ble_eq_true rfl, ?_⟩
  intro Z hZ
  rw [wr_sh0] at hZ
  subst hZ
  intro Z hZ
  rw [nw_sh] at hZ
  subst hZ
  refine ⟨[.ref (N + 1), .ref (N + 16), .ref (N + 31), .int 0, .ref (N + 46), .ref (N + 47), .int 0, .ref (N + 48), .int 0, .int 0, .int 0, .int 0, .int 0, .int 0, .int 0, .ref (N + 49), .null, .long 0, .long 0, .null, .null, .null, .null, .int 0, .null], (sh_get N M _ 0).trans ((gs_n (by decide)).trans (gs_s _ _ _)), Nat.le_of_ble_eq_true rfl, ?_⟩
  intro Z hZ
  rw [wr_sh0] at hZ
  subst hZ
  intro Z hZ
  rw [nw_sh] at hZ
  subst hZ
  intro Z hZ
  rw [nw_sh] at hZ
  subst hZ
  unfold wX4c_init
  refine ⟨4, (fun _ => none), [.null], (by refine (sh_get N M _ 51).trans ?_; (repeat (refine (gs_n (by omega)).trans ?_)); exact gs_s _ _ _), (sh_get N M _ 52).trans (gs_s _ _ _), (in_lt (a := 0) (by decide) (by decide) (by decide)), ?_⟩
  intro Z hZ
  rw [show (shw N M _ 51).2 = N + 51 from rfl, wr_sh] at hZ
  subst hZ
  intro Z hZ
  rw [nw_sh] at hZ
  subst hZ
  refine ⟨4, (va_up (fun _ => none) (0 : Int32).toNatClampNeg (some (N + 52))), [.null], (by refine (sh_get N M _ 51).trans ?_; (repeat (refine (gs_n (by omega)).trans ?_)); exact gs_s _ _ _), (sh_get N M _ 53).trans (gs_s _ _ _), (in_lt (a := 1) (by decide) (by decide) (by decide)), ?_⟩
  intro Z hZ
  rw [show (shw N M _ 51).2 = N + 51 from rfl, wr_sh] at hZ
  subst hZ
  intro Z hZ
  rw [nw_sh] at hZ
  subst hZ
  refine ⟨4, (va_up (va_up (fun _ => none) (0 : Int32).toNatClampNeg (some (N + 52))) (1 : Int32).toNatClampNeg (some (N + 53))), [.null], (by refine (sh_get N M _ 51).trans ?_; (repeat (refine (gs_n (by omega)).trans ?_)); exact gs_s _ _ _), (sh_get N M _ 54).trans (gs_s _ _ _), (in_lt (a := 2) (by decide) (by decide) (by decide)), ?_⟩
  intro Z hZ
  rw [show (shw N M _ 51).2 = N + 51 from rfl, wr_sh] at hZ
  subst hZ
  intro Z hZ
  rw [nw_sh] at hZ
  subst hZ
  refine ⟨4, (va_up (va_up (va_up (fun _ => none) (0 : Int32).toNatClampNeg (some (N + 52))) (1 : Int32).toNatClampNeg (some (N + 53))) (2 : Int32).toNatClampNeg (some (N + 54))), [.null], (by refine (sh_get N M _ 51).trans ?_; (repeat (refine (gs_n (by omega)).trans ?_)); exact gs_s _ _ _), (sh_get N M _ 55).trans (gs_s _ _ _), (in_lt (a := 3) (by decide) (by decide) (by decide)), ?_⟩
  intro Z hZ
  rw [show (shw N M _ 51).2 = N + 51 from rfl, wr_sh] at hZ
  subst hZ
  refine ⟨[.ref (N + 1), .ref (N + 16), .ref (N + 31), .int 0, .ref (N + 46), .ref (N + 47), .int 0, .ref (N + 48), .int 0, .int 0, .int 0, .int 0, .int 0, .int 0, .int 0, .ref (N + 49), .ref (N + 50), .long 0, .long 0, .null, .null, .null, .null, .int 0, .null], (sh_get N M _ 0).trans (by (repeat (refine (gs_n (by omega)).trans ?_)); exact gs_s _ _ _), Nat.le_of_ble_eq_true rfl, ?_⟩
  intro Z hZ
  rw [wr_sh0] at hZ
  subst hZ
  intro Z hZ
  rw [nw_sh] at hZ
  subst hZ
  intro Z hZ
  rw [nw_sh] at hZ
  subst hZ
  unfold wX5c_init
  refine ⟨5, (fun _ => none), [.null], (by refine (sh_get N M _ 56).trans ?_; (repeat (refine (gs_n (by omega)).trans ?_)); exact gs_s _ _ _), (sh_get N M _ 57).trans (gs_s _ _ _), (in_lt (a := 0) (by decide) (by decide) (by decide)), ?_⟩
  intro Z hZ
  rw [show (shw N M _ 56).2 = N + 56 from rfl, wr_sh] at hZ
  subst hZ
  intro Z hZ
  rw [nw_sh] at hZ
  subst hZ
  refine ⟨5, (va_up (fun _ => none) (0 : Int32).toNatClampNeg (some (N + 57))), [.null], (by refine (sh_get N M _ 56).trans ?_; (repeat (refine (gs_n (by omega)).trans ?_)); exact gs_s _ _ _), (sh_get N M _ 58).trans (gs_s _ _ _), (in_lt (a := 1) (by decide) (by decide) (by decide)), ?_⟩
  intro Z hZ
  rw [show (shw N M _ 56).2 = N + 56 from rfl, wr_sh] at hZ
  subst hZ
  intro Z hZ
  rw [nw_sh] at hZ
  subst hZ
  refine ⟨5, (va_up (va_up (fun _ => none) (0 : Int32).toNatClampNeg (some (N + 57))) (1 : Int32).toNatClampNeg (some (N + 58))), [.null], (by refine (sh_get N M _ 56).trans ?_; (repeat (refine (gs_n (by omega)).trans ?_)); exact gs_s _ _ _), (sh_get N M _ 59).trans (gs_s _ _ _), (in_lt (a := 2) (by decide) (by decide) (by decide)), ?_⟩
  intro Z hZ
  rw [show (shw N M _ 56).2 = N + 56 from rfl, wr_sh] at hZ
  subst hZ
  intro Z hZ
  rw [nw_sh] at hZ
  subst hZ
  refine ⟨5, (va_up (va_up (va_up (fun _ => none) (0 : Int32).toNatClampNeg (some (N + 57))) (1 : Int32).toNatClampNeg (some (N + 58))) (2 : Int32).toNatClampNeg (some (N + 59))), [.null], (by refine (sh_get N M _ 56).trans ?_; (repeat (refine (gs_n (by omega)).trans ?_)); exact gs_s _ _ _), (sh_get N M _ 60).trans (gs_s _ _ _), (in_lt (a := 3) (by decide) (by decide) (by decide)), ?_⟩
  intro Z hZ
  rw [show (shw N M _ 56).2 = N + 56 from rfl, wr_sh] at hZ
  subst hZ
  intro Z hZ
  rw [nw_sh] at hZ
  subst hZ
  refine ⟨5, (va_up (va_up (va_up (va_up (fun _ => none) (0 : Int32).toNatClampNeg (some (N + 57))) (1 : Int32).toNatClampNeg (some (N + 58))) (2 : Int32).toNatClampNeg (some (N + 59))) (3 : Int32).toNatClampNeg (some (N + 60))), [.null], (by refine (sh_get N M _ 56).trans ?_; (repeat (refine (gs_n (by omega)).trans ?_)); exact gs_s _ _ _), (sh_get N M _ 61).trans (gs_s _ _ _), (in_lt (a := 4) (by decide) (by decide) (by decide)), ?_⟩
  intro Z hZ
  rw [show (shw N M _ 56).2 = N + 56 from rfl, wr_sh] at hZ
  subst hZ
  refine ⟨[.ref (N + 1), .ref (N + 16), .ref (N + 31), .int 0, .ref (N + 46), .ref (N + 47), .int 0, .ref (N + 48), .int 0, .int 0, .int 0, .int 0, .int 0, .int 0, .int 0, .ref (N + 49), .ref (N + 50), .long 0, .long 0, .ref (N + 51), .null, .null, .null, .int 0, .null], (sh_get N M _ 0).trans (by (repeat (refine (gs_n (by omega)).trans ?_)); exact gs_s _ _ _), Nat.le_of_ble_eq_true rfl, ?_⟩
  intro Z hZ
  rw [wr_sh0] at hZ
  subst hZ
  intro Z hZ
  rw [nw_sh] at hZ
  subst hZ
  refine ⟨[.ref (N + 1), .ref (N + 16), .ref (N + 31), .int 0, .ref (N + 46), .ref (N + 47), .int 0, .ref (N + 48), .int 0, .int 0, .int 0, .int 0, .int 0, .int 0, .int 0, .ref (N + 49), .ref (N + 50), .long 0, .long 0, .ref (N + 51), .ref (N + 56), .null, .null, .int 0, .null], (sh_get N M _ 0).trans ((gs_n (by decide)).trans (gs_s _ _ _)), Nat.le_of_ble_eq_true rfl, ?_⟩
  intro Z hZ
  rw [wr_sh0] at hZ
  subst hZ
  intro Z hZ
  rw [nw_sh] at hZ
  subst hZ
  refine ⟨[.ref (N + 1), .ref (N + 16), .ref (N + 31), .int 0, .ref (N + 46), .ref (N + 47), .int 0, .ref (N + 48), .int 0, .int 0, .int 0, .int 0, .int 0, .int 0, .int 0, .ref (N + 49), .ref (N + 50), .long 0, .long 0, .ref (N + 51), .ref (N + 56), .ref (N + 62), .null, .int 0, .null], (sh_get N M _ 0).trans ((gs_n (by decide)).trans (gs_s _ _ _)), Nat.le_of_ble_eq_true rfl, ?_⟩
  intro Z hZ
  rw [wr_sh0] at hZ
  subst hZ
  intro Z hZ
  rw [nw_sh] at hZ
  subst hZ
  refine ⟨[.ref (N + 1), .ref (N + 16), .ref (N + 31), .int 0, .ref (N + 46), .ref (N + 47), .int 0, .ref (N + 48), .int 0, .int 0, .int 0, .int 0, .int 0, .int 0, .int 0, .ref (N + 49), .ref (N + 50), .long 0, .long 0, .ref (N + 51), .ref (N + 56), .ref (N + 62), .ref (N + 63), .int 0, .null], (sh_get N M _ 0).trans ((gs_n (by decide)).trans (gs_s _ _ _)), Nat.le_of_ble_eq_true rfl, ?_⟩
  intro Z hZ
  rw [wr_sh0] at hZ
  subst hZ
  refine hq _ fs hf1 hf2 ⟨?_, ?_, ?_, ?_, (by (repeat (refine (gs_n (by omega)).trans ?_)); exact gs_s _ _ _), (by (repeat (refine (gs_n (by omega)).trans ?_)); exact gs_s _ _ _), (by (repeat (refine (gs_n (by omega)).trans ?_)); exact gs_s _ _ _), (by (repeat (refine (gs_n (by omega)).trans ?_)); exact gs_s _ _ _), (by (repeat (refine (gs_n (by omega)).trans ?_)); exact gs_s _ _ _), (by (repeat (refine (gs_n (by omega)).trans ?_)); exact gs_s _ _ _), (by (repeat (refine (gs_n (by omega)).trans ?_)); exact gs_s _ _ _), (by (repeat (refine (gs_n (by omega)).trans ?_)); exact gs_s _ _ _), ⟨(va_up (va_up (va_up (va_up (fun _ => none) (0 : Int32).toNatClampNeg (some (N + 52))) (1 : Int32).toNatClampNeg (some (N + 53))) (2 : Int32).toNatClampNeg (some (N + 54))) (3 : Int32).toNatClampNeg (some (N + 55))), (by (repeat (refine (gs_n (by omega)).trans ?_)); exact gs_s _ _ _), ?_⟩, ?_, ⟨(va_up (va_up (va_up (va_up (va_up (fun _ => none) (0 : Int32).toNatClampNeg (some (N + 57))) (1 : Int32).toNatClampNeg (some (N + 58))) (2 : Int32).toNatClampNeg (some (N + 59))) (3 : Int32).toNatClampNeg (some (N + 60))) (4 : Int32).toNatClampNeg (some (N + 61))), (by (repeat (refine (gs_n (by omega)).trans ?_)); exact gs_s _ _ _), ?_⟩, ?_⟩
  · (repeat (refine (gs_n (by omega)).trans ?_)); exact gs_s _ _ _
  · refine c0.congr (fun q h1 h2 => ?_)
    simp only [gs]
    repeat rw [if_neg (by omega)]
    rw [k2 q (by omega)]
    simp only [gs]
    repeat rw [if_neg (by omega)]
    rw [k1 q (by omega)]
    simp only [gs]
    repeat rw [if_neg (by omega)]
  · refine c1.congr (fun q h1 h2 => ?_)
    simp only [gs]
    repeat rw [if_neg (by omega)]
    rw [k2 q (by omega)]
    simp only [gs]
    repeat rw [if_neg (by omega)]
  · refine c2.congr (fun q h1 h2 => ?_)
    simp only [gs]
    repeat rw [if_neg (by omega)]
  · intro j hj
    match j, hj with
    | 0, _ => rfl
    | 1, _ => rfl
    | 2, _ => rfl
    | 3, _ => rfl
  · intro j hj
    match j, hj with
    | 0, _ => rfl
    | 1, _ => rfl
    | 2, _ => rfl
    | 3, _ => rfl
  · intro j hj
    match j, hj with
    | 0, _ => rfl
    | 1, _ => rfl
    | 2, _ => rfl
    | 3, _ => rfl
    | 4, _ => rfl
  · intro j hj
    match j, hj with
    | 0, _ => rfl
    | 1, _ => rfl
    | 2, _ => rfl
    | 3, _ => rfl
    | 4, _ => rfl
