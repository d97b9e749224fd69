set_option maxRecDepth 100000
/-! TEXTS: what they say, as a number of the row X alone; both sides reckon it -/
def jn (y a b : Int32) : Int32 := if y = 42 then a * b else if y = 43 then a + b else if y = 45 then a - b else if y = 60 then (if b ≤ a then 0 else 1) else if y = 61 then (if a = b then 1 else 0) else if y = 62 then (if a ≤ b then 0 else 1) else if y = 38 then (if a = 0 then 0 else if b = 0 then 0 else 1) else if y = 47 then (if b = 0 then 0 else a / b) else (if a = 0 then (if b = 0 then 0 else 1) else 1)
theorem iteQ {c A B : Prop} [Decidable c] (f : c → A) (g : ¬ c → B) : (c → A) ∧ (¬ c → B) := ⟨f, g⟩
theorem div_m1 (a : Int32) : a / (-1) = -a := by
  apply Int32.toInt_inj.mp
  rw [Int32.toInt_div, show (-1 : Int32).toInt = -1 by decide, Int.tdiv_neg, Int.tdiv_one, Int32.toInt_neg]
theorem jn6 {o : Nat} {a b : Int32} {Q : Int32 → Prop} (h1 : 4 ≤ o) (h2 : o ≤ 12) (hq : Q (jn (nI (tch o)) a b)) : wX6_joined (nI (tch o)) a b Q := by
  unfold wX6_joined
  have e : o = 4 ∨ o = 5 ∨ o = 6 ∨ o = 7 ∨ o = 8 ∨ o = 9 ∨ o = 10 ∨ o = 11 ∨ o = 12 := by omega
  rcases e with rfl | rfl | rfl | rfl | rfl | rfl | rfl | rfl | rfl
  · iterate 4 refine brN (by decide) ?_
    exact brY (by decide) hq
  · iterate 5 refine brN (by decide) ?_
    exact brY (by decide) hq
  · iterate 7 refine brN (by decide) ?_
    exact brY (by decide) hq
  · iterate 22 refine brN (by decide) ?_
    refine brY (by decide) ?_
    replace hq : Q (if b ≤ a then 0 else 1) := hq
    by_cases h : b ≤ a
    · rw [if_pos h] at hq; exact brY h hq
    · rw [if_neg h] at hq; exact brN h hq
  · iterate 23 refine brN (by decide) ?_
    refine brY (by decide) ?_
    replace hq : Q (if a = b then 1 else 0) := hq
    by_cases h : a = b
    · rw [if_pos h] at hq; exact brY h hq
    · rw [if_neg h] at hq; exact brN h hq
  · iterate 24 refine brN (by decide) ?_
    refine brY (by decide) ?_
    replace hq : Q (if a ≤ b then 0 else 1) := hq
    by_cases h : a ≤ b
    · rw [if_pos h] at hq; exact brY h hq
    · rw [if_neg h] at hq; exact brN h hq
  · refine brY (by decide) ?_
    replace hq : Q (if a = 0 then 0 else if b = 0 then 0 else 1) := hq
    by_cases h : a = 0
    · rw [if_pos h] at hq; exact brY h hq
    · rw [if_neg h] at hq
      refine brN h ?_
      by_cases g : b = 0
      · rw [if_pos g] at hq; exact brY g hq
      · rw [if_neg g] at hq; exact brN g hq
  · iterate 25 refine brN (by decide) ?_
    replace hq : Q (if a = 0 then (if b = 0 then 0 else 1) else 1) := hq
    by_cases h : a = 0
    · rw [if_pos h] at hq
      refine brY h ?_
      by_cases g : b = 0
      · rw [if_pos g] at hq; exact brY g hq
      · rw [if_neg g] at hq; exact brN g hq
    · rw [if_neg h] at hq; exact brN h hq
  · iterate 9 refine brN (by decide) ?_
    refine brY (by decide) ?_
    replace hq : Q (if b = 0 then 0 else a / b) := hq
    by_cases h : b = 0
    · rw [if_pos h] at hq; exact brY h hq
    · rw [if_neg h] at hq
      refine brN h (brI (fun g => ?_) (fun g => ⟨h, hq⟩))
      rw [g, div_m1] at hq
      exact hq
theorem jn0 {o : Nat} {a b : Int32} {Q : Int32 → Prop} (h1 : 4 ≤ o) (h2 : o ≤ 12) (hq : Q (jn (nI (tch o)) a b)) : wX0_both (nI o) a b Q := by
  unfold wX0_both
  have e : o = 4 ∨ o = 5 ∨ o = 6 ∨ o = 7 ∨ o = 8 ∨ o = 9 ∨ o = 10 ∨ o = 11 ∨ o = 12 := by omega
  rcases e with rfl | rfl | rfl | rfl | rfl | rfl | rfl | rfl | rfl
  · exact brY (by decide) hq
  · iterate 1 refine brN (by decide) ?_
    exact brY (by decide) hq
  · iterate 2 refine brN (by decide) ?_
    exact brY (by decide) hq
  · iterate 3 refine brN (by decide) ?_
    refine brY (by decide) ?_
    replace hq : Q (if b ≤ a then 0 else 1) := hq
    by_cases h : b ≤ a
    · rw [if_pos h] at hq; exact brY h hq
    · rw [if_neg h] at hq; exact brN h hq
  · iterate 4 refine brN (by decide) ?_
    refine brY (by decide) ?_
    replace hq : Q (if a = b then 1 else 0) := hq
    by_cases h : a = b
    · rw [if_pos h] at hq; exact brY h hq
    · rw [if_neg h] at hq; exact brN h hq
  · iterate 5 refine brN (by decide) ?_
    refine brY (by decide) ?_
    replace hq : Q (if a ≤ b then 0 else 1) := hq
    by_cases h : a ≤ b
    · rw [if_pos h] at hq; exact brY h hq
    · rw [if_neg h] at hq; exact brN h hq
  · iterate 6 refine brN (by decide) ?_
    refine brY (by decide) ?_
    replace hq : Q (if a = 0 then 0 else if b = 0 then 0 else 1) := hq
    by_cases h : a = 0
    · rw [if_pos h] at hq; exact brY h hq
    · rw [if_neg h] at hq
      refine brN h ?_
      by_cases g : b = 0
      · rw [if_pos g] at hq; exact brY g hq
      · rw [if_neg g] at hq; exact brN g hq
  · iterate 7 refine brN (by decide) ?_
    refine brY (by decide) ?_
    replace hq : Q (if a = 0 then (if b = 0 then 0 else 1) else 1) := hq
    by_cases h : a = 0
    · rw [if_pos h] at hq
      refine brY h ?_
      by_cases g : b = 0
      · rw [if_pos g] at hq; exact brY g hq
      · rw [if_neg g] at hq; exact brN g hq
    · rw [if_neg h] at hq; exact brN h hq
  · iterate 8 refine brN (by decide) ?_
    refine brY (by decide) ?_
    replace hq : Q (if b = 0 then 0 else a / b) := hq
    by_cases h : b = 0
    · rw [if_pos h] at hq; exact brY h hq
    · rw [if_neg h] at hq; exact brN h ⟨h, hq⟩
def stp (N S : Nat → Int32) (H : Nat) (x y : Int32) : Nat → Int32 := if x = 2 then (if y = 33 then upd S (H - 1) (if S (H - 1) = 0 then 1 else 0) else upd S (H - 2) (jn y (S (H - 2)) (S (H - 1)))) else if x = 0 then upd S H y else upd S H (N y.toNatClampNeg)
def hst (H : Nat) (x y : Int32) : Nat := if x = 2 then (if y = 33 then H else H - 1) else H + 1
def run (N X : Nat → Int32) (tb : Nat) : Nat → (Nat → Int32) × Nat
  | 0 => (fun _ => 0, 0)
  | k + 1 => (stp N (run N X tb k).1 (run N X tb k).2 (X (tb + 2 * k)) (X (tb + 2 * k + 1)), hst (run N X tb k).2 (X (tb + 2 * k)) (X (tb + 2 * k + 1)))
theorem tch_ne {o : Nat} (h1 : 4 ≤ o) (h2 : o ≤ 12) : nI (tch o) ≠ 33 := by
  have : ∀ o, o < 13 → 4 ≤ o → nI (tch o) ≠ 33 := by decide
  exact this o (by omega) h1
theorem run_h {kn : Nat} {N f g X : Nat → Int32} {tb n : Nat} {h : Nat → Nat} (hc : CodeR kn f g X tb n h) (h0 : h 0 = 0) : ∀ k, k ≤ n → (run N X tb k).2 = h k ∧ h k ≤ k := by
  intro k
  induction k with
  | zero => intro _; exact ⟨h0.symm, by omega⟩
  | succ k ih =>
    intro hk
    obtain ⟨e, hle⟩ := ih (by omega)
    show hst (run N X tb k).2 _ _ = _ ∧ _
    rw [e]
    unfold hst
    rcases hc k (by omega) with ⟨q1, q2, q3, q4⟩ | ⟨q1, q2, q3, q4, q5⟩ | ⟨q1, q2, q3, q4, q5⟩ | ⟨o, o1, o2, q1, q2, q3, q4, q5⟩
    · rw [q2, if_neg (by decide)]; omega
    · rw [q2, if_neg (by decide)]; omega
    · rw [q2, if_pos rfl, q3, if_pos rfl]; omega
    · rw [q2, if_pos rfl, q3, if_neg (tch_ne o1 o2)]; omega
/-- scratch of a reckoning -/
def evT (T T' : TS) : Prop := T'.1 = T.1 ∧ ∀ k, k ≠ 25 → k ≠ 26 → T'.2 k = T.2 k
theorem evT.rf {T : TS} : evT T T := ⟨rfl, fun _ _ _ => rfl⟩
theorem evT.tr {T T' T'' : TS} (h : evT T T') (g : evT T' T'') : evT T T'' := ⟨g.1.trans h.1, fun k h1 h2 => (g.2 k h1 h2).trans (h.2 k h1 h2)⟩
theorem evT_ts {T : TS} {k i : Nat} {v : Int32} (h : k = 25 ∨ k = 26) : evT T (ts T k i v) := ⟨rfl, fun j h1 h2 => ts_n (by omega)⟩
theorem evT.same {T T' : TS} (h : evT T T') : sameT T T' := ⟨by rw [h.1], by rw [h.1], by rw [h.1], fun k hk => h.2 k (by omega) (by omega)⟩
def setA (V : CV) (A : Nat → Nat → Int32) : CV := (V.1, V.2.1, A, V.2.2.2)
def evV (V V' : CV) : Prop := ∃ A, (∀ k, k ≠ 4 → k ≠ 15 → A k = vA V k) ∧ V' = setA V A
theorem evV.rf {V : CV} : evV V V := ⟨vA V, fun _ _ _ => rfl, rfl⟩
theorem evV.tr {V V' V'' : CV} (h : evV V V') (g : evV V' V'') : evV V V'' := by
  obtain ⟨A, h1, rfl⟩ := h
  obtain ⟨B, g1, rfl⟩ := g
  exact ⟨B, fun k a b => (g1 k a b).trans (h1 k a b), rfl⟩
theorem evV_sA {V : CV} {k j : Nat} {v : Int32} (h : k = 4 ∨ k = 15) : evV V (sA V k j v) := ⟨_, fun k' h1 h2 => by
  funext j'
  exact if_neg (by omega), rfl⟩
theorem evV.same {V V' : CV} (h : evV V V') : sameV V V' := by
  obtain ⟨A, h1, rfl⟩ := h
  exact ⟨rfl, rfl, rfl, rfl, rfl, rfl, rfl, rfl, rfl, rfl, rfl, h1 5 (by decide) (by decide), h1 22 (by decide) (by decide), rfl⟩
theorem evV.a {V V' : CV} (h : evV V V') {k : Nat} (h1 : k ≠ 4) (h2 : k ≠ 15) : vA V' k = vA V k := by
  obtain ⟨A, g, rfl⟩ := h
  exact g k h1 h2
theorem tx_x (t : Nat) : (114 : Int32) + ((200 : Int32) * nI t) = nI (114 + 200 * t) := by rw [show (114 : Int32) = nI 114 from rfl, show (200 : Int32) = nI 200 from rfl, pk_mul, nI_add]
theorem work6 {N : Nat → Int32} {T : TS} {kn t n : Nat} {f g : Nat → Int32} {h : Nat → Nat} {Q : Int32 → TS → Prop} (ht : t < 14) (hn : n ≤ 96) (hX : T.2 0 (114 + 200 * t + 2) = nI n) (hc : CodeR kn f g (T.2 0) (114 + 200 * t + 4) n h) (h0 : h 0 = 0) (h1 : h n = 1) (hN : ∀ c, nmOK kn c → T.2 25 c = N c)
    (hq : ∀ T', evT T T' → Q ((run N (T.2 0) (114 + 200 * t + 4) n).1 0) T') : wX6_worked (nI t) T Q := by
  suffices H : ∀ r k, k + r = n → ∀ T', evT T T' → T'.2 25 = T.2 25 → (∀ j, j < h k → T'.2 26 j = (run N (T.2 0) (114 + 200 * t + 4) k).1 j) → wX6_worked_4 Q (r + 1) (nI t) (nI (h k)) (nI k) T' by
    have := H n 0 (by omega) T evT.rf rfl (fun j hj => by omega)
    rw [h0] at this
    exact ⟨n + 1, this⟩
  have hz : ∀ z, (114 : Int32) + ((200 : Int32) * nI t) + nI z = nI (114 + 200 * t + z) := fun z => by rw [tx_x, nI_add]
  have h2 : (114 : Int32) + ((200 : Int32) * nI t) + 2 = nI (114 + 200 * t + 2) := hz 2
  have h4 : ∀ k, (114 : Int32) + ((200 : Int32) * nI t) + 4 + (2 : Int32) * nI k = nI (114 + 200 * t + 4 + 2 * k) := fun k => by rw [show (4 : Int32) = nI 4 from rfl, hz, show (2 : Int32) = nI 2 from rfl, pk_mul, nI_add]
  intro r
  induction r with
  | zero =>
    intro k hk T' hev h25 hst
    have ek : k = n := by omega
    subst ek
    unfold wX6_worked_4 wX6_textAt
    simp only [h2]
    rw [nI_clamp (by omega), hev.2 0 (by decide) (by decide), hX]
    refine ⟨vp_in_nI (by omega) (by omega), brY (nI_le (Nat.le_refl _) (by omega)) ⟨pk_in 0 100 (by omega), ?_⟩⟩
    show Q (T'.2 26 0) T'
    rw [hst 0 (by omega)]
    exact hq T' hev
  | succ r ih =>
    intro k hk T' hev h25 hst
    obtain ⟨er, hle⟩ := run_h (N := N) hc h0 k (by omega)
    unfold wX6_worked_4 wX6_textAt
    simp only [h2, h4]
    rw [nI_clamp (by omega), hev.2 0 (by decide) (by decide), hX]
    refine ⟨vp_in_nI (by omega) (by omega), brN (nI_ge (by omega) (by omega)) ⟨vp_in_nI (by omega) (by omega), ?_⟩⟩
    rw [nI_1, nI_clamp (by omega), nI_clamp (by omega)]
    refine ⟨vp_in_nI (by omega) (by omega), fun x7 hx7 => ?_⟩
    have e1 : nI k + 1 = nI (k + 1) := nI_1 k
    have hrun : (run N (T.2 0) (114 + 200 * t + 4) (k + 1)).1 = stp N (run N (T.2 0) (114 + 200 * t + 4) k).1 (h k) (T.2 0 (114 + 200 * t + 4 + 2 * k)) x7 := by
      rw [hx7, ← er]
      rfl
    unfold stp at hrun
    rcases hc k (by omega) with ⟨q1, q2, q3, q4⟩ | ⟨q1, q2, q3, ⟨c, hcn, q4⟩, q5⟩ | ⟨q1, q2, q3, q4, q5⟩ | ⟨o, o1, o2, q1, q2, q3, q4, q5⟩
    · rw [q2] at hrun ⊢
      rw [if_neg (by decide), if_pos rfl] at hrun
      refine brN (by decide) (brY rfl ⟨vp_in_nI (by omega) (by omega), ?_⟩)
      unfold wX6_worked_157
      rw [e1, nI_1, nI_clamp (by omega), ← q4]
      refine ih (k + 1) (by omega) _ (hev.tr (evT_ts (Or.inr rfl))) ((ts_n (by decide)).trans h25) (fun j hj => ?_)
      rw [ts_s, hrun]
      by_cases e : j = h k
      · rw [e, upd_s, upd_s]
      · rw [upd_n e, upd_n e]
        exact hst j (by omega)
    · rw [q2] at hrun ⊢
      rw [if_neg (by decide), if_neg (by decide)] at hrun
      have ex : x7 = nI c := by rw [hx7, ← q3]; exact q4
      have hc128 : c < 128 := by unfold nmOK at hcn; omega
      rw [ex] at hrun ⊢
      rw [nI_clamp (by omega)] at hrun
      refine brN (by decide) (brN (by decide) ⟨vp_in_nI hc128 (by omega), vp_in_nI (by omega) (by omega), ?_⟩)
      unfold wX6_worked_157
      rw [e1, nI_1, nI_clamp (by omega), nI_clamp (by omega), ← q5]
      refine ih (k + 1) (by omega) _ (hev.tr (evT_ts (Or.inr rfl))) ((ts_n (by decide)).trans h25) (fun j hj => ?_)
      rw [ts_s, hrun, h25, hN c hcn]
      by_cases e : j = h k
      · rw [e, upd_s, upd_s]
      · rw [upd_n e, upd_n e]
        exact hst j (by omega)
    · rw [q2] at hrun ⊢
      have ex : x7 = 33 := by rw [hx7]; exact q3
      rw [ex] at hrun ⊢
      rw [if_pos rfl, if_pos rfl] at hrun
      have em : nI (h k) - 1 = nI (h k - 1) := pk_sub (a := h k) (b := 1) q4
      rw [em]
      refine brY rfl (brY rfl ⟨vp_in_nI (by omega) (by omega), ?_⟩)
      have key : ∀ v, v = (if (run N (T.2 0) (114 + 200 * t + 4) k).1 (h k - 1) = 0 then (1 : Int32) else 0) → wX6_worked_123 (fun z0 z1 z2 z3 => wX6_worked_4 Q (r + 1) z0 z1 z2 z3) (nI t) (nI (h k)) (nI k) v (nI (h k - 1)) T' Q := by
        intro v hv
        refine ⟨vp_in_nI (by omega) (by omega), ?_⟩
        unfold wX6_worked_157
        rw [e1, nI_clamp (by omega), show nI (h k) = nI (h (k + 1)) by rw [q5]]
        refine ih (k + 1) (by omega) _ (hev.tr (evT_ts (Or.inr rfl))) ((ts_n (by decide)).trans h25) (fun j hj => ?_)
        rw [ts_s, hrun, hv]
        by_cases e : j = h k - 1
        · rw [e, upd_s, upd_s]
        · rw [upd_n e, upd_n e]
          exact hst j (by omega)
      rw [nI_clamp (by omega), hst _ (by omega)]
      exact brI (fun z => key 1 (by rw [if_pos z])) (fun z => key 0 (by rw [if_neg z]))
    · rw [q2] at hrun ⊢
      have ex : x7 = nI (tch o) := by rw [hx7]; exact q3
      rw [ex] at hrun ⊢
      rw [if_pos rfl, if_neg (tch_ne o1 o2)] at hrun
      have em : nI (h k) + (-1) = nI (h k - 1) := by rw [show h k = h k - 1 + 1 by omega, pk_m1]; rfl
      have em2 : nI (h k - 1) - 1 = nI (h k - 2) := pk_sub (a := h k - 1) (b := 1) (by omega)
      rw [em, em2]
      refine brY rfl (brN (tch_ne o1 o2) ⟨vp_in_nI (by omega) (by omega), vp_in_nI (by omega) (by omega), ?_⟩)
      rw [nI_clamp (show h k - 2 < 2 ^ 31 by omega), nI_clamp (show h k - 1 < 2 ^ 31 by omega), hst _ (show h k - 2 < h k by omega), hst _ (show h k - 1 < h k by omega)]
      refine jn6 o1 o2 ⟨vp_in_nI (by omega) (by omega), ?_⟩
      unfold wX6_worked_157
      rw [e1, show h k - 1 = h (k + 1) by omega]
      refine ih (k + 1) (by omega) _ (hev.tr (evT_ts (Or.inr rfl))) ((ts_n (by decide)).trans h25) (fun j hj => ?_)
      rw [ts_s, hrun, show h k - 1 = h (k + 1) by omega]
      by_cases e : j = h k - 2
      · rw [e, upd_s, upd_s]
      · rw [upd_n e, upd_n e]
        exact hst j (by omega)
/-- the component's own reckoning of the same text -/
theorem reck0 {N : Nat → Int32} {V : CV} {X : Nat → Int32} {tb kn n w wa va : Nat} {f g : Nat → Int32} {h : Nat → Nat} {Q : Int32 → CV → Prop} (hn : n ≤ 96) (hw : vM V w = some (eWd wa va (nI n))) (hwa : vM V wa = some (eIA 96 f)) (hva : vM V va = some (eIA 96 g)) (hc : CodeR kn f g X (tb + 4) n h) (h0 : h 0 = 0) (h1 : h n = 1) (hN : ∀ c, nmOK kn c → vA V 15 c = N c)
    (hq : ∀ V', evV V V' → Q ((run N X (tb + 4) n).1 0) V') : wX0_reckon w V Q := by
  suffices H : ∀ r k, k + r = n → ∀ V', evV V V' → vA V' 15 = vA V 15 → (∀ j, j < h k → vA V' 4 j = (run N X (tb + 4) k).1 j) → wX0_reckon_4 Q (r + 1) w (nI (h k)) (nI k) V' by
    have := H n 0 (by omega) V evV.rf rfl (fun j hj => by omega)
    rw [h0] at this
    exact ⟨n + 1, this⟩
  have hM : ∀ {V'}, evV V V' → vM V' = vM V := fun ⟨A, _, e⟩ => by rw [e]; rfl
  have hst4 : ∀ (V' : CV) (i : Nat) (v : Int32) (j : Nat), vA (sA V' 4 i v) 4 j = upd (vA V' 4) i v j := fun V' i v j => by
    show (if 4 = 4 ∧ j = i then v else vA V' 4 j) = if j = i then v else vA V' 4 j
    by_cases e : j = i
    · rw [if_pos ⟨rfl, e⟩, if_pos e]
    · rw [if_neg (fun z => e z.2), if_neg e]
  have hst15 : ∀ (V' : CV) (i : Nat) (v : Int32), vA (sA V' 4 i v) 15 = vA V' 15 := fun V' i v => by
    funext j
    show (if 15 = 4 ∧ j = i then v else vA V' 15 j) = _
    rw [if_neg (fun z => absurd z.1 (by decide))]
  intro r
  induction r with
  | zero =>
    intro k hk V' hev h15 hst
    have ek : k = n := by omega
    subst ek
    refine ⟨wa, va, nI k, by rw [hM hev]; exact hw, brY (nI_le (Nat.le_refl _) (by omega)) ⟨pk_in 0 96 (by omega), ?_⟩⟩
    show Q (vA V' 4 0) V'
    rw [hst 0 (by omega)]
    exact hq V' hev
  | succ r ih =>
    intro k hk V' hev h15 hst
    obtain ⟨er, hle⟩ := run_h (N := N) hc h0 k (by omega)
    refine ⟨wa, va, nI n, by rw [hM hev]; exact hw, brN (nI_ge (by omega) (by omega)) ⟨96, f, by rw [hM hev]; exact hwa, vp_in_nI (by omega) (by omega), ?_⟩⟩
    rw [nI_clamp (by omega)]
    have e1 : nI k + 1 = nI (k + 1) := nI_1 k
    have hrun : (run N X (tb + 4) (k + 1)).1 = stp N (run N X (tb + 4) k).1 (h k) (X (tb + 4 + 2 * k)) (X (tb + 4 + 2 * k + 1)) := by
      rw [← er]
      rfl
    unfold stp at hrun
    rcases hc k (by omega) with ⟨q1, q2, q3, q4⟩ | ⟨q1, q2, q3, ⟨c, hcn, q4⟩, q5⟩ | ⟨q1, q2, q3, q4, q5⟩ | ⟨o, o1, o2, q1, q2, q3, q4, q5⟩
    · rw [q2, if_neg (by decide), if_pos rfl] at hrun
      rw [q1]
      refine brY rfl (brY rfl ⟨wa, va, nI n, by rw [hM hev]; exact hw, 96, g, by rw [hM hev]; exact hva, vp_in_nI (by omega) (by omega), vp_in_nI (by omega) (by omega), ?_⟩)
      unfold wX0_reckon_133
      rw [e1, nI_1, nI_clamp (by omega), nI_clamp (by omega), ← q4]
      refine ih (k + 1) (by omega) _ (hev.tr (evV_sA (Or.inl rfl))) ((hst15 _ _ _).trans h15) (fun j hj => ?_)
      rw [hst4, hrun, q3]
      by_cases e : j = h k
      · rw [e, upd_s, upd_s]
      · rw [upd_n e, upd_n e]
        exact hst j (by omega)
    · rw [q2, if_neg (by decide), if_neg (by decide)] at hrun
      have ex : X (tb + 4 + 2 * k + 1) = nI c := by rw [← q3]; exact q4
      have hc128 : c < 128 := by unfold nmOK at hcn; omega
      rw [ex, nI_clamp (by omega)] at hrun
      rw [q1]
      refine brN (by decide) (brY rfl (brN (by decide) ⟨wa, va, nI n, by rw [hM hev]; exact hw, 96, g, by rw [hM hev]; exact hva, vp_in_nI (by omega) (by omega), ?_⟩))
      rw [nI_clamp (show k < 2 ^ 31 by omega), q4]
      refine ⟨vp_in_nI hc128 (by omega), vp_in_nI (by omega) (by omega), ?_⟩
      unfold wX0_reckon_133
      rw [e1, nI_1, nI_clamp (by omega), nI_clamp (by omega), ← q5]
      refine ih (k + 1) (by omega) _ (hev.tr (evV_sA (Or.inl rfl))) ((hst15 _ _ _).trans h15) (fun j hj => ?_)
      rw [hst4, hrun, h15, hN c hcn]
      by_cases e : j = h k
      · rw [e, upd_s, upd_s]
      · rw [upd_n e, upd_n e]
        exact hst j (by omega)
    · rw [q2, q3, if_pos rfl, if_pos rfl] at hrun
      rw [q1]
      have em : nI (h k) - 1 = nI (h k - 1) := pk_sub (a := h k) (b := 1) q4
      rw [em]
      refine brN (by decide) (brN (by decide) (brY rfl ⟨vp_in_nI (by omega) (by omega), ?_⟩))
      have key : ∀ v, v = (if (run N X (tb + 4) k).1 (h k - 1) = 0 then (1 : Int32) else 0) → wX0_reckon_99 (fun z0 z1 z2 z3 => wX0_reckon_4 Q (r + 1) z0 z1 z2 z3) w (nI (h k)) (nI k) v (nI (h k - 1)) V' Q := by
        intro v hv
        refine ⟨vp_in_nI (by omega) (by omega), ?_⟩
        unfold wX0_reckon_133
        rw [e1, nI_clamp (by omega), show nI (h k) = nI (h (k + 1)) by rw [q5]]
        refine ih (k + 1) (by omega) _ (hev.tr (evV_sA (Or.inl rfl))) ((hst15 _ _ _).trans h15) (fun j hj => ?_)
        rw [hst4, hrun, hv]
        by_cases e : j = h k - 1
        · rw [e, upd_s, upd_s]
        · rw [upd_n e, upd_n e]
          exact hst j (by omega)
      rw [nI_clamp (by omega), hst _ (by omega)]
      exact brI (fun z => key 1 (by rw [if_pos z])) (fun z => key 0 (by rw [if_neg z]))
    · rw [q2, q3, if_pos rfl, if_neg (tch_ne o1 o2)] at hrun
      rw [q1]
      have ne : ∀ m, m < 4 → nI o ≠ nI m := fun m hm z => by rw [nI_eq (by omega) (by omega)] at z; omega
      have em : nI (h k) + (-1) = nI (h k - 1) := by rw [show h k = h k - 1 + 1 by omega, pk_m1]; rfl
      have em2 : nI (h k - 1) - 1 = nI (h k - 2) := pk_sub (a := h k - 1) (b := 1) (by omega)
      rw [em, em2]
      refine brN (ne 1 (by omega)) (brN (ne 2 (by omega)) (brN (ne 3 (by omega)) ⟨vp_in_nI (by omega) (by omega), vp_in_nI (by omega) (by omega), ?_⟩))
      rw [nI_clamp (show h k - 2 < 2 ^ 31 by omega), nI_clamp (show h k - 1 < 2 ^ 31 by omega), hst _ (show h k - 2 < h k by omega), hst _ (show h k - 1 < h k by omega)]
      refine jn0 o1 o2 ⟨vp_in_nI (by omega) (by omega), ?_⟩
      unfold wX0_reckon_133
      rw [e1, show h k - 1 = h (k + 1) by omega]
      refine ih (k + 1) (by omega) _ (hev.tr (evV_sA (Or.inl rfl))) ((hst15 _ _ _).trans h15) (fun j hj => ?_)
      rw [hst4, hrun, show h k - 1 = h (k + 1) by omega]
      by_cases e : j = h k - 2
      · rw [e, upd_s, upd_s]
      · rw [upd_n e, upd_n e]
        exact hst j (by omega)
