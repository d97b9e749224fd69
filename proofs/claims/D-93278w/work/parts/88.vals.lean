set_option maxRecDepth 100000
/-! VALUES of the row X alone, and that both sides find them -/
def FX0 (X : Nat → Int32) : Nat → Int32 := fun i => X (6 + 5 * i + 4)
def cnt (X : Nat → Int32) (k : Int32) : Nat → Int32
  | 0 => -1
  | t + 1 => if X (114 + 200 * t) = k then nI t else cnt X k t
theorem cnt_or (X : Nat → Int32) (k : Int32) : ∀ m, cnt X k m = -1 ∨ ∃ t, t < m ∧ cnt X k m = nI t ∧ X (114 + 200 * t) = k := by
  intro m
  induction m with
  | zero => exact Or.inl rfl
  | succ m ih =>
    unfold cnt
    by_cases h : X (114 + 200 * m) = k
    · rw [if_pos h]
      exact Or.inr ⟨m, by omega, rfl, h⟩
    · rw [if_neg h]
      rcases ih with h1 | ⟨t, h1, h2, h3⟩
      · exact Or.inl h1
      · exact Or.inr ⟨t, by omega, h2, h3⟩
theorem nI_m1 {t : Nat} (h : t < 2 ^ 31) : nI t ≠ -1 := fun e => by
  have h1 : (nI t).toInt = (-1 : Int32).toInt := by rw [e]
  rw [nI_toInt h, show (-1 : Int32).toInt = -1 by decide] at h1
  omega
theorem cnt6 {V : CV} {T : TS} {n dn tn : Nat} (h0 : RS V 0 (T.2 0) n dn tn) {k : Int32} {Q : Int32 → TS → Prop} (hq : Q (cnt (T.2 0) k tn) T) : wX6_counts k T Q := by
  have ht := h0.1.2.2
  have hX : T.2 0 2 = nI tn := h0.2.2.2.1.2
  suffices H : ∀ r t, t + r = tn → wX6_counts_4 Q (r + 1) k (cnt (T.2 0) k t) (nI t) T from ⟨tn + 1, H tn 0 (by omega)⟩
  intro r
  induction r with
  | zero =>
    intro t e
    have e2 : t = tn := by omega
    subst e2
    refine ⟨pk_in 2 3114 (by omega), ?_⟩
    show ((T.2 0 2) ≤ _ → _) ∧ (¬ (T.2 0 2) ≤ _ → _)
    rw [hX]
    exact brY (nI_le (Nat.le_refl _) (by omega)) hq
  | succ r ih =>
    intro t e
    refine ⟨pk_in 2 3114 (by omega), ?_⟩
    show ((T.2 0 2) ≤ _ → _) ∧ (¬ (T.2 0 2) ≤ _ → _)
    rw [hX]
    refine brN (nI_ge (by omega) (by omega)) ?_
    unfold wX6_textAt wX6_counts_33
    simp only [tx_x, nI_1]
    rw [nI_clamp (by omega)]
    have := ih (t + 1) (by omega)
    unfold cnt at this
    refine ⟨vp_in_nI (by omega) (by omega), brI (fun h => ?_) (fun h => ?_)⟩
    · rw [if_pos h] at this; exact this
    · rw [if_neg h] at this; exact this
theorem cnt0 {V : CV} {X : Nat → Int32} {n dn tn : Nat} (h0 : RS V 0 X n dn tn) {k : Int32} {Q : Int32 → CV → Prop} (hq : Q (cnt X k tn) V) : wX0_counts k V Q := by
  have ht := h0.1.2.2
  have hX : vS V 0 9 = nI tn := h0.2.2.2.1.1
  suffices H : ∀ r t, t + r = tn → wX0_counts_4 Q (r + 1) k (cnt X k t) (nI t) V from ⟨tn + 1, H tn 0 (by omega)⟩
  intro r
  induction r with
  | zero =>
    intro t e
    have e2 : t = tn := by omega
    subst e2
    unfold wX0_counts_4
    rw [hX]
    exact brY (nI_le (Nat.le_refl _) (by omega)) hq
  | succ r ih =>
    intro t e
    unfold wX0_counts_4
    rw [hX]
    obtain ⟨a, kn, w, mn, wa, va, m, f, g, hh, h1, h2, h3, h4, -⟩ := h0.2.2.2.2.2.2.2.2.2.2.2 t (by omega)
    refine brN (nI_ge (by omega) (by omega)) ⟨vp_in_nI (by omega) (by omega), ?_⟩
    rw [nI_clamp (by omega)]
    refine ⟨a, h1, nI kn, w, mn, h2, ?_⟩
    unfold wX0_counts_36
    rw [nI_1]
    have := ih (t + 1) (by omega)
    unfold cnt at this
    rw [h4] at this
    refine brI (fun h => ?_) (fun h => ?_)
    · rw [if_pos h] at this; exact this
    · rw [if_neg h] at this; exact this
/-- what a text says -/
def tv (N X : Nat → Int32) (t : Nat) : Int32 := (run N X (114 + 200 * t + 4) (X (114 + 200 * t + 2)).toNatClampNeg).1 0
theorem tv6 {V : CV} {T : TS} {n dn tn t kn : Nat} {N : Nat → Int32} (h0 : RS V 0 (T.2 0) n dn tn) (ht : t < tn) (hk : T.2 0 (114 + 200 * t) = nI kn) (hkn : kn ≤ 2) (hN : ∀ c, nmOK kn c → T.2 25 c = N c) {Q : Int32 → TS → Prop} (hq : ∀ T', evT T T' → Q (tv N (T.2 0) t) T') : wX6_worked (nI t) T Q := by
  have := h0.1.2.2
  obtain ⟨a, kn', w, mn, wa, va, m, f, g, hh, h1, h2, h3, h4, h5, h6, h7, h8, h9, h10, h11, h12, h13⟩ := h0.2.2.2.2.2.2.2.2.2.2.2 t ht
  have e : kn' = kn := by
    rw [hk, nI_eq (by omega) (by omega)] at h4
    exact h4.symm
  subst e
  refine work6 (N := N) (by omega) h7 h6 h11 h12 h13 hN (fun T' hT => ?_)
  have := hq T' hT
  unfold tv at this
  rw [h6, nI_clamp (by omega)] at this
  exact this
theorem tv0 {V : CV} {X : Nat → Int32} {n dn tn t kn : Nat} {N : Nat → Int32} (h0 : RS V 0 X n dn tn) (ht : t < tn) (hk : X (114 + 200 * t) = nI kn) (hkn : kn ≤ 2) (hN : ∀ c, nmOK kn c → vA V 15 c = N c) {Q : Int32 → CV → Prop} (hq : ∀ V', evV V V' → Q (tv N X t) V') : ∃ y, vTx V 0 t = some y ∧ ∃ f1 f2 f3, vM V y = some (eTx f1 f2 f3) ∧ wX0_reckon f2 V Q := by
  obtain ⟨a, kn', w, mn, wa, va, m, f, g, hh, h1, h2, h3, h4, h5, h6, h7, h8, h9, h10, h11, h12, h13⟩ := h0.2.2.2.2.2.2.2.2.2.2.2 t ht
  have e : kn' = kn := by
    rw [hk, nI_eq (by omega) (by omega)] at h4
    exact h4.symm
  subst e
  refine ⟨a, h1, nI kn', w, mn, h2, reck0 (N := N) h7 h8 h9 h10 h11 h12 h13 hN (fun V' hV => ?_)⟩
  have := hq V' hV
  unfold tv at this
  rw [h6, nI_clamp (by omega)] at this
  exact this
def wi (r hi : Int32) : Int32 := if 0 ≤ r then (if r ≤ hi then r else hi) else 0
theorem wi6 {r hi : Int32} {Q : Int32 → Prop} (hq : Q (wi r hi)) : wX6_within r hi Q := by
  unfold wi at hq
  refine brI (fun h => ?_) (fun h => ?_)
  · rw [if_pos h] at hq
    refine brI (fun g => ?_) (fun g => ?_)
    · rw [if_pos g] at hq; exact hq
    · rw [if_neg g] at hq; exact hq
  · rw [if_neg h] at hq; exact hq
theorem wi0 {r hi : Int32} {Q : Int32 → Prop} (hh : (0 : Int32) < hi) (hq : Q (wi r hi)) : wX0_within r 0 hi Q := by
  have e : wi r hi = (if (0 : Int32) < (if r < hi then r else hi) then (if r < hi then r else hi) else 0) := by
    unfold wi
    simp only [i_le, i_lt, show (0 : Int32).toInt = 0 by decide] at *
    by_cases h1 : r.toInt < hi.toInt
    · rw [if_pos h1]
      by_cases h2 : 0 < r.toInt
      · rw [if_pos (by omega), if_pos (by omega), if_pos h2]
      · rw [if_neg h2]
        by_cases h3 : 0 ≤ r.toInt
        · rw [if_pos h3, if_pos (by omega), i_eq, show (0 : Int32).toInt = 0 by decide]
          omega
        · rw [if_neg h3]
    · rw [if_neg h1, if_pos hh, if_pos (by omega)]
      by_cases h2 : r.toInt ≤ hi.toInt
      · rw [if_pos h2, i_eq]
        omega
      · rw [if_neg h2]
  rw [e] at hq
  exact hq
/-! ===== who is left, how many ===== -/
def lf (X : Nat → Int32) (n d : Nat) : Int32 := ev n &&& cmpl (X (66 + 6 * d + 3))
theorem lf_s {X : Nat → Int32} {n d : Nat} (hn : n ≤ 12) : subn n (lf X n d) := subn_and (subn_ev hn)
theorem evb6 {V : CV} {T : TS} {n dn tn : Nat} (h0 : RS V 0 (T.2 0) n dn tn) {Q : Int32 → TS → Prop} (hq : Q (ev n) T) : wX6_everybody T Q := by
  refine ⟨pk_in 0 3114 (by omega), ?_⟩
  show Q (((1 : Int32) <<< ((T.2 0 0) &&& 31)) - 1) T
  rw [h0.n0.2]
  exact hq
theorem lf6 {V : CV} {T : TS} {n dn tn d : Nat} (h0 : RS V 0 (T.2 0) n dn tn) (hd : d < dn) {Q : Int32 → TS → Prop} (hq : Q (lf (T.2 0) n d) T) : wX6_left (nI d) T Q := by
  have := h0.1.2.1
  exact evb6 h0 (dee6 3 (by omega) (by omega) hq)
theorem lm0 {V : CV} {X : Nat → Int32} {n dn tn d : Nat} (h0 : RS V 0 X n dn tn) (hd : d < dn) {Q : Int32 → CV → Prop} (hq : Q (pcI (lf X n d)) V) : wX2_leftMany 0 d V Q := by
  have := h0.1.2.1
  have e : vD V 0 d 3 = lf X n d := (h0.2.2.2.2.2.2.2.2.2.1 d hd).2.2.2.1
  refine ⟨by decide, by omega, ?_⟩
  rw [e]
  exact bc_set (subn_up (lf_s h0.1.1) h0.1.1) hq
theorem RS.ev6 {V : CV} {T T' : TS} {n dn tn : Nat} (h0 : RS V 0 (T.2 0) n dn tn) (h : evT T T') : RS V 0 (T'.2 0) n dn tn := by
  rw [h.2 0 (by decide) (by decide)]
  exact h0
theorem RS.ev0 {V V' : CV} {X : Nat → Int32} {n dn tn : Nat} (h0 : RS V 0 X n dn tn) (h : evV V V') : RS V' 0 X n dn tn := h0.same h.same
/-! ===== the cost of a deed ===== -/
def costN (X : Nat → Int32) (n d : Nat) : Nat → Int32 := fun c => if c = 108 then X (66 + 6 * d + 5) else if c = 119 then X (66 + 6 * d + 2) else pcI (lf X n d)
def costX (X : Nat → Int32) (n tn d : Nat) : Int32 := if cnt X 1 tn = -1 then X (66 + 6 * d + 5) * X (66 + 6 * d + 2) else wi (tv (costN X n d) X (cnt X 1 tn).toNatClampNeg) 99999
theorem nn0 {t : Nat} (h : t < 2 ^ 31) : (0 : Int32) ≤ nI t := nI_pos' h
theorem cost6 {V : CV} {T : TS} {n dn tn d : Nat} (h0 : RS V 0 (T.2 0) n dn tn) (hd : d < dn) {Q : Int32 → TS → Prop} (hq : ∀ T', evT T T' → Q (costX (T.2 0) n tn d) T') : wX6_cost (nI d) T Q := by
  have hdn := h0.1.2.1
  have htn := h0.1.2.2
  refine cnt6 h0 ?_
  rcases cnt_or (T.2 0) 1 tn with e | ⟨t, ht, e, hk⟩
  · have := hq T evT.rf
    unfold costX at this
    rw [if_pos e] at this
    rw [e]
    exact brN (by decide) (dee6 5 (by omega) (by omega) (dee6 2 (by omega) (by omega) this))
  · rw [e]
    refine brY (nn0 (by omega)) (dee6 5 (by omega) (by omega) ⟨pk_in 108 128 (by omega), ?_⟩)
    have v1 : evT T (ts T 25 (108 : Int32).toNatClampNeg (T.2 0 (66 + 6 * d + 5))) := evT_ts (Or.inl rfl)
    refine dee6 2 (by omega) (by omega) ⟨pk_in 119 128 (by omega), ?_⟩
    rw [v1.2 0 (by decide) (by decide)]
    have v2 := v1.tr (evT_ts (k := 25) (i := (119 : Int32).toNatClampNeg) (v := T.2 0 (66 + 6 * d + 2)) (Or.inl rfl))
    refine lf6 (h0.ev6 v2) hd (ones_set (subn_up (lf_s h0.1.1) h0.1.1) ⟨pk_in 110 128 (by omega), ?_⟩)
    rw [v2.2 0 (by decide) (by decide)]
    have v3 := v2.tr (evT_ts (k := 25) (i := (110 : Int32).toNatClampNeg) (v := pcI (lf (T.2 0) n d)) (Or.inl rfl))
    refine tv6 (N := costN (T.2 0) n d) (kn := 1) (h0.ev6 v3) ht (by rw [v3.2 0 (by decide) (by decide)]; exact hk) (by decide) (fun c hc => ?_) (fun T' hT' => ?_)
    · rw [ts_s, ts_s, ts_s]
      have hc3 : c = 108 ∨ c = 119 ∨ c = 110 := by unfold nmOK at hc; omega
      rcases hc3 with rfl | rfl | rfl
      · rw [upd_n (by decide), upd_n (by decide)]; exact upd_s _ _ _
      · rw [upd_n (by decide)]; exact upd_s _ _ _
      · exact upd_s _ _ _
    · rw [v3.2 0 (by decide) (by decide)]
      refine wi6 ?_
      have := hq T' (v3.tr hT')
      unfold costX at this
      rw [e, if_neg (nI_m1 (by omega)), nI_clamp (by omega)] at this
      exact this
theorem sA_15 (V : CV) (i : Nat) (v : Int32) (j : Nat) : vA (sA V 15 i v) 15 j = upd (vA V 15) i v j := by
  show (if 15 = 15 ∧ j = i then v else vA V 15 j) = if j = i then v else vA V 15 j
  by_cases e : j = i
  · rw [if_pos ⟨rfl, e⟩, if_pos e]
  · rw [if_neg (fun z => e z.2), if_neg e]
theorem cost0 {V : CV} {X : Nat → Int32} {n dn tn d : Nat} (h0 : RS V 0 X n dn tn) (hd : d < dn) {Q : Int32 → CV → Prop} (hq : ∀ V', evV V V' → Q (costX X n tn d) V') : wX0_costOf 0 d V Q := by
  have hdn := h0.1.2.1
  have htn := h0.1.2.2
  obtain ⟨d0, d1, d2, d3, d4, d5⟩ := h0.2.2.2.2.2.2.2.2.2.1 d hd
  refine ⟨by decide, by omega, cnt0 h0 ?_⟩
  rcases cnt_or X 1 tn with e | ⟨t, ht, e, hk⟩
  · have := hq V evV.rf
    unfold costX at this
    rw [if_pos e, ← d5, ← d2] at this
    rw [e]
    exact brY rfl this
  · rw [e]
    refine brN (nI_m1 (by omega)) ⟨pk_in 108 128 (by omega), pk_in 119 128 (by omega), ?_⟩
    have v2 : evV V (sA (sA V 15 (108 : Int32).toNatClampNeg (vD V 0 d 5)) 15 (119 : Int32).toNatClampNeg (vD (sA V 15 (108 : Int32).toNatClampNeg (vD V 0 d 5)) 0 d 2)) := (evV_sA (Or.inr rfl)).tr (evV_sA (Or.inr rfl))
    refine lm0 (h0.ev0 v2) hd ⟨pk_in 110 128 (by omega), vp_in_nI (by omega) (by omega), ?_⟩
    have v3 := v2.tr (evV_sA (k := 15) (j := (110 : Int32).toNatClampNeg) (v := pcI (lf X n d)) (Or.inr rfl))
    rw [nI_clamp (by omega)]
    refine tv0 (N := costN X n d) (kn := 1) (h0.ev0 v3) ht hk (by decide) (fun c hc => ?_) (fun V' hV' => ?_)
    · rw [sA_15]
      have hc3 : c = 108 ∨ c = 119 ∨ c = 110 := by unfold nmOK at hc; omega
      rcases hc3 with rfl | rfl | rfl
      · rw [upd_n (by decide), sA_15, upd_n (by decide), sA_15]
        exact (upd_s _ _ _).trans d5
      · rw [upd_n (by decide), sA_15]
        exact (upd_s _ _ _).trans d2
      · exact upd_s _ _ _
    · refine wi0 (by decide) ?_
      have := hq V' (v3.tr hV')
      unfold costX at this
      rw [e, if_neg (nI_m1 (by omega)), nI_clamp (by omega)] at this
      exact this
/-! ===== how bold a person is ===== -/
def boldN (X : Nat → Int32) (n p d : Nat) : Nat → Int32 := fun c => if c = 98 then X (6 + 5 * p + 1) else if c = 115 then nI p else pcI (lf X n d)
def boldX (X : Nat → Int32) (n tn p d : Nat) : Int32 := if cnt X 2 tn = -1 then X (6 + 5 * p + 1) else wi (tv (boldN X n p d) X (cnt X 2 tn).toNatClampNeg) 100
theorem bold6 {V : CV} {T : TS} {n dn tn p d : Nat} (h0 : RS V 0 (T.2 0) n dn tn) (hp : p < n) (hd : d < dn) {Q : Int32 → TS → Prop} (hq : ∀ T', evT T T' → Q (boldX (T.2 0) n tn p d) T') : wX6_boldness (nI p) (nI d) T Q := by
  have hn := h0.1.1
  have hdn := h0.1.2.1
  have htn := h0.1.2.2
  refine cnt6 h0 ?_
  rcases cnt_or (T.2 0) 2 tn with e | ⟨t, ht, e, hk⟩
  · have := hq T evT.rf
    unfold boldX at this
    rw [if_pos e] at this
    rw [e]
    exact brN (by decide) (of6 1 (by omega) (by omega) this)
  · rw [e]
    refine brY (nn0 (by omega)) (of6 1 (by omega) (by omega) ⟨pk_in 98 128 (by omega), pk_in 115 128 (by omega), ?_⟩)
    have v2 : evT T (ts (ts T 25 (98 : Int32).toNatClampNeg (T.2 0 (6 + 5 * p + 1))) 25 (115 : Int32).toNatClampNeg (nI p)) := (evT_ts (Or.inl rfl)).tr (evT_ts (Or.inl rfl))
    refine lf6 (h0.ev6 v2) hd (ones_set (subn_up (lf_s h0.1.1) h0.1.1) ⟨pk_in 110 128 (by omega), ?_⟩)
    rw [v2.2 0 (by decide) (by decide)]
    have v3 := v2.tr (evT_ts (k := 25) (i := (110 : Int32).toNatClampNeg) (v := pcI (lf (T.2 0) n d)) (Or.inl rfl))
    refine tv6 (N := boldN (T.2 0) n p d) (kn := 2) (h0.ev6 v3) ht (by rw [v3.2 0 (by decide) (by decide)]; exact hk) (by decide) (fun c hc => ?_) (fun T' hT' => ?_)
    · rw [ts_s, ts_s, ts_s]
      have hc3 : c = 98 ∨ c = 115 ∨ c = 110 := by unfold nmOK at hc; omega
      rcases hc3 with rfl | rfl | rfl
      · rw [upd_n (by decide), upd_n (by decide)]; exact upd_s _ _ _
      · rw [upd_n (by decide)]; exact upd_s _ _ _
      · exact upd_s _ _ _
    · rw [v3.2 0 (by decide) (by decide)]
      refine wi6 ?_
      have := hq T' (v3.tr hT')
      unfold boldX at this
      rw [e, if_neg (nI_m1 (by omega)), nI_clamp (by omega)] at this
      exact this
theorem bold0 {V : CV} {X : Nat → Int32} {n dn tn p d : Nat} (h0 : RS V 0 X n dn tn) (hp : p < n) (hd : d < dn) {Q : Int32 → CV → Prop} (hq : ∀ V', evV V V' → Q (boldX X n tn p d) V') : wX0_boldOf (nI p) 0 d V Q := by
  have hn := h0.1.1
  have hdn := h0.1.2.1
  have htn := h0.1.2.2
  obtain ⟨ad, kn, g1, g2, g3, g4⟩ := h0.2.2.2.2.2.2.1 p hp
  refine ⟨by decide, by omega, vp_in_nI (by omega) (by omega), ad, by rw [nI_clamp (by omega)]; exact g3, 7 + kn, _, ⟨by omega, by omega⟩, g4, cnt0 h0 ?_⟩
  rcases cnt_or X 2 tn with e | ⟨t, ht, e, hk⟩
  · have := hq V evV.rf
    unfold boldX at this
    rw [if_pos e] at this
    rw [e]
    exact brY rfl this
  · rw [e]
    refine brN (nI_m1 (by omega)) ⟨pk_in 98 128 (by omega), pk_in 115 128 (by omega), ?_⟩
    have v2 : evV V (sA (sA V 15 (98 : Int32).toNatClampNeg (X (6 + 5 * p + 1))) 15 (115 : Int32).toNatClampNeg (nI p)) := (evV_sA (Or.inr rfl)).tr (evV_sA (Or.inr rfl))
    refine lm0 (h0.ev0 v2) hd ⟨pk_in 110 128 (by omega), vp_in_nI (by omega) (by omega), ?_⟩
    have v3 := v2.tr (evV_sA (k := 15) (j := (110 : Int32).toNatClampNeg) (v := pcI (lf X n d)) (Or.inr rfl))
    rw [nI_clamp (by omega)]
    refine tv0 (N := boldN X n p d) (kn := 2) (h0.ev0 v3) ht hk (by decide) (fun c hc => ?_) (fun V' hV' => ?_)
    · rw [sA_15]
      have hc3 : c = 98 ∨ c = 115 ∨ c = 110 := by unfold nmOK at hc; omega
      rcases hc3 with rfl | rfl | rfl
      · rw [upd_n (by decide), sA_15, upd_n (by decide), sA_15]
        exact upd_s _ _ _
      · rw [upd_n (by decide), sA_15]
        exact upd_s _ _ _
      · exact upd_s _ _ _
    · refine wi0 (by decide) ?_
      have := hq V' (v3.tr hV')
      unfold boldX at this
      rw [e, if_neg (nI_m1 (by omega)), nI_clamp (by omega)] at this
      exact this
