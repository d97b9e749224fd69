set_option maxRecDepth 100000
/-! ===== sheets and slots change ===== -/
def tg (e : va_E) : Nat := match e with
  | .inl p => 100 + (p.1 : Nat)
  | .inr p => p.1
theorem tg_ne {M : HM} {a b : Nat} {e e' : va_E} (h : M a = some e) (h' : M b = some e') (ht : tg e ≠ tg e') : a ≠ b := by
  rintro rfl
  exact ht (congrArg tg (Option.some.inj (h.symm.trans h')))
theorem no_ne {M : HM} {a b : Nat} {e : va_E} (h : M a = some e) (h' : M b = none) : a ≠ b := by
  rintro rfl
  rw [h] at h'
  cases h'
def shE (e : va_E) : Prop := tg e = 4 ∨ tg e = 102 ∨ tg e = 103
theorem RowR.tag {M : HM} {row n : Nat} {so : Int32} {g : Nat → Int32} (h : RowR M row so n g) : ∃ e, M row = some e ∧ (tg e = 102 ∨ tg e = 103) := by
  rcases h.2 with ⟨-, f, h, -⟩ | ⟨-, f, h, -⟩
  · exact ⟨_, h, Or.inl rfl⟩
  · exact ⟨_, h, Or.inr rfl⟩
theorem RowR.cg {M M' : HM} {row n : Nat} {so : Int32} {g g' : Nat → Int32} (h : RowR M row so n g) (hm : M' row = M row) (hg : ∀ j, j < n → g' j = g j) : RowR M' row so n g' := by
  obtain ⟨h1, h2⟩ := h
  refine ⟨h1, ?_⟩
  rw [hm]
  rcases h2 with ⟨e, f, hf, h⟩ | ⟨e, f, hf, h⟩
  · exact Or.inl ⟨e, f, hf, fun j hj => by rw [hg j hj]; exact h j hj⟩
  · exact Or.inr ⟨e, f, hf, fun j hj => by rw [hg j hj]; exact h j hj⟩
def bV (V V' : CV) : Prop := vS V' = vS V ∧ vSA V' = vSA V ∧ vSp V' = vSp V ∧ vTx V' = vTx V ∧ vD V' = vD V ∧ vSh V' = vSh V ∧ vI V' = vI V ∧ vA V' = vA V ∧ vFl V' = vFl V
def bT (T T' : TS) : Prop := T'.1 = T.1 ∧ ∀ k, (k = 0 ∨ k = 1 ∨ k = 13 ∨ k = 28) → T'.2 k = T.2 k
theorem RS.shl {V V' : CV} (hv : bV V V') (hk : ∀ a e, vM V a = some e → ¬ shE e → vM V' a = some e) {i : Nat} {X : Nat → Int32} {n dn tn : Nat} (h : RS V i X n dn tn) : RS V' i X n dn tn := by
  obtain ⟨s1, s2, s3, s4, s5, -⟩ := hv
  obtain ⟨h1, h2, h3, h4, h5, h6, h7, h8, h9, h10, h11, h12⟩ := h
  refine ⟨h1, by rw [s1]; exact h2, by rw [s1]; exact h3, by rw [s1]; exact h4, by rw [s1]; exact h5, by rw [s1]; exact h6, fun p hpn => ?_, by rw [s2]; exact h8, h9, by rw [s5]; exact h10, h11, fun t ht => ?_⟩
  · obtain ⟨a, kn, g1, g2, g3, g4⟩ := h7 p hpn
    refine ⟨a, kn, g1, g2, by rw [s3]; exact g3, hk _ _ g4 ?_⟩
    show ¬ (7 + kn = 4 ∨ 7 + kn = 102 ∨ 7 + kn = 103)
    omega
  · rw [s4]
    obtain ⟨a, key, w, mn, wa, va, n, f, g, hh, h1, h2, h3, h4, h5, h6, h7, h8, h9, h10, h11⟩ := h12 t ht
    exact ⟨a, key, w, mn, wa, va, n, f, g, hh, h1, hk _ _ h2 (show ¬ (14 = 4 ∨ 14 = 102 ∨ 14 = 103) by omega), h3, h4, h5, h6, h7, hk _ _ h8 (show ¬ (13 = 4 ∨ 13 = 102 ∨ 13 = 103) by omega), hk _ _ h9 (show ¬ (100 = 4 ∨ 100 = 102 ∨ 100 = 103) by omega), hk _ _ h10 (show ¬ (100 = 4 ∨ 100 = 102 ∨ 100 = 103) by omega), h11⟩
theorem Rel.shl {V V' : CV} {T T' : TS} (hr : Rel V T) (hv : bV V V') (ht : bT T T') (hk : ∀ a e, vM V a = some e → ¬ shE e → vM V' a = some e) (hsh : ∀ k, k < 4 → ShR V' T' k) (hsl : ∀ q, q < 5 → SlR V' T' q) (hrow : ∀ k k' a a' row, k < 4 → k' < 4 → vSh V k = some a → vSh V k' = some a' → vM V' a = some (eSh (some row)) → vM V' a' = some (eSh (some row)) → k = k') : Rel V' T' := by
  obtain ⟨⟨n, dn, tn, r1⟩, r2, r3, r4, r5, -, -, r8⟩ := hr
  obtain ⟨t1, t4⟩ := ht
  obtain ⟨-, -, v3, v4, -, v6, v7, v8, v9⟩ := id hv
  have e0 := t4 0 (by simp)
  have e1 := t4 1 (by simp)
  refine ⟨⟨n, dn, tn, by rw [e0]; exact r1.shl hv hk⟩, ?_, ?_, ?_, ?_, hsh, hsl, ?_⟩
  · rw [v7, t1]; exact r2
  · rw [t1, e1]
    rcases r3 with r | ⟨r, n', dn', tn', r'⟩
    · exact Or.inl r
    · exact Or.inr ⟨r, n', dn', tn', r'.shl hv hk⟩
  · unfold RT at r4 ⊢
    rw [v7, v8, t1, t4 13 (by simp)]
    exact r4
  · unfold RW at r5 ⊢
    rw [v7, v8, t1, t4 28 (by simp)]
    exact r5
  · obtain ⟨w1, w2, w3, -, w5, w6⟩ := r8
    refine ⟨fun i p a hi hp h => ?_, by rw [v3]; exact w2, by rw [v6]; exact w3, by rw [v6]; exact hrow, fun i t a hi ht h => ?_, by rw [v9]; exact w6⟩
    · rw [v3] at h
      obtain ⟨kn, b, h1, h2⟩ := w1 i p a hi hp h
      refine ⟨kn, b, h1, hk _ _ h2 ?_⟩
      show ¬ (7 + kn = 4 ∨ 7 + kn = 102 ∨ 7 + kn = 103)
      omega
    · rw [v4] at h
      obtain ⟨x, y, z, h2⟩ := w5 i t a hi ht h
      exact ⟨x, y, z, hk _ _ h2 (show ¬ (14 = 4 ∨ 14 = 102 ∨ 14 = 103) by omega)⟩
/-- the contents of one sheet's row change -/
theorem Rel.row {V V' : CV} {T T' : TS} {k a row n : Nat} {e e' : va_E} (hr : Rel V T) (hv : bV V V') (hHe : vHe V' = vHe V) (ht : T'.1 = T.1 ∧ ∀ j, j ≠ 6 → j ≠ 27 → T'.2 j = T.2 j) (hk : k < 4) (ha : vSh V k = some a) (hm : vM V a = some (eSh (some row))) (he : vM V row = some e) (hte : tg e = 102 ∨ tg e = 103) (hM : vM V' = hset (vM V) row e') (hn : T.2 5 k = nI n) (hR : RowR (vM V') row (T.2 4 k) n (fun j => T'.2 6 (24 * k + j))) (hG : ∀ j, ¬ (24 * k ≤ j ∧ j < 24 * k + 24) → T'.2 6 j = T.2 6 j) : Rel V' T' := by
  have r6 := hr.2.2.2.2.2.1
  have r7 := hr.2.2.2.2.2.2.1
  have r8 := hr.2.2.2.2.2.2.2
  have hnr : ∀ b x, vM V b = some x → tg x ≠ 102 → tg x ≠ 103 → vM V' b = some x := fun b x h h1 h2 => by
    rw [hM, hset_n (tg_ne h he (by omega))]
    exact h
  have hnr' : ∀ b, b ≠ row → vM V' b = vM V b := fun b h => by rw [hM, hset_n h]
  have hshc : ∀ k' a', k' < 4 → vSh V k' = some a' → vM V' a' = vM V a' := fun k' a' hk' h => by
    obtain ⟨a1, r1, g1, g2, -⟩ := r6 k' hk'
    cases h.symm.trans g1
    rw [g2]
    exact hnr _ _ g2 (show (4 : Nat) ≠ 102 by omega) (show (4 : Nat) ≠ 103 by omega)
  obtain ⟨-, -, v3, -, -, v6, -⟩ := id hv
  refine hr.shl hv ⟨ht.1, fun j hj => ht.2 j (by omega) (by omega)⟩ (fun b x h hx => hnr b x h (fun q => hx (Or.inr (Or.inl q))) (fun q => hx (Or.inr (Or.inr q)))) (fun k' hk' => ?_) (fun q hq => ?_) (fun k1 k2 a1 a2 row' h1 h2 h3 h4 h5 h6 => ?_)
  · by_cases e2 : k' = k
    · subst e2
      refine ⟨a, some row, by rw [v6]; exact ha, by rw [hshc k' a hk ha]; exact hm, Or.inr ⟨row, n, rfl, ?_, ?_⟩⟩
      · rw [ht.2 5 (by omega) (by omega)]; exact hn
      · rw [ht.2 4 (by omega) (by omega)]; exact hR
    · obtain ⟨a1, r1, g1, g2, g3⟩ := r6 k' hk'
      refine ⟨a1, r1, by rw [v6]; exact g1, by rw [hshc k' a1 hk' g1]; exact g2, ?_⟩
      rw [ht.2 5 (by omega) (by omega), ht.2 4 (by omega) (by omega)]
      rcases g3 with g3 | ⟨row1, n1, rfl, g4, g5⟩
      · exact Or.inl g3
      · refine Or.inr ⟨row1, n1, rfl, g4, g5.cg (hnr' row1 (fun q => ?_)) (fun j hj => hG _ ?_)⟩
        · subst q
          exact e2 (r8.2.2.2.1 k' k a1 a row1 hk' hk g1 ha g2 hm)
        · have := g5.1
          omega
  · have := r7 q hq
    unfold SlR at this ⊢
    rw [hHe, v6, v3, ht.2 7 (by omega) (by omega), ht.2 8 (by omega) (by omega), ht.2 9 (by omega) (by omega), ht.2 10 (by omega) (by omega), ht.2 11 (by omega) (by omega)]
    rcases this with h | ⟨b, h1, h2⟩
    · exact Or.inl h
    · refine Or.inr ⟨b, h1, ?_⟩
      rcases h2 with ⟨h7, kn, bb, g1, g2, g3⟩ | ⟨h7, row1, n1, so, g1, g2, g3, g4, g5⟩ | ⟨h7, g1⟩
      · refine Or.inl ⟨h7, kn, bb, g1, hnr _ _ g2 ?_ ?_, g3⟩
        · show 7 + kn ≠ 102
          omega
        · show 7 + kn ≠ 103
          omega
      · refine Or.inr (Or.inl ⟨h7, row1, n1, so, hnr _ _ g1 (show (4 : Nat) ≠ 102 by omega) (show (4 : Nat) ≠ 103 by omega), g2, g3.cg (hnr' row1 (fun q => ?_)) (fun j hj => rfl), g4, fun k' b' hk' h => ?_⟩)
        · subst q
          exact g5 k a hk ha hm
        · rw [hshc k' b' hk' h]
          exact g5 k' b' hk' h
      · exact Or.inr (Or.inr ⟨h7, hnr _ _ g1 (show (15 : Nat) ≠ 102 by omega) (show (15 : Nat) ≠ 103 by omega)⟩)
  · rw [hshc k1 a1 h1 h3] at h5
    rw [hshc k2 a2 h2 h4] at h6
    exact r8.2.2.2.1 k1 k2 a1 a2 row' h1 h2 h3 h4 h5 h6
/-- one sheet gets another row, or none -/
theorem Rel.sht {V V' : CV} {T T' : TS} {k a : Nat} {r : Option Nat} (hr : Rel V T) (hv : bV V V') (hHe : vHe V' = vHe V) (ht : T'.1 = T.1 ∧ ∀ j, j ≠ 4 → j ≠ 5 → j ≠ 6 → T'.2 j = T.2 j) (hk : k < 4) (ha : vSh V k = some a) (hM : ∀ b, b ≠ a → ∀ e, vM V b = some e → vM V' b = some e) (hMa : vM V' a = some (eSh r)) (hnew : (r = none ∧ T'.2 4 k = -1) ∨ ∃ row n, r = some row ∧ vM V row = none ∧ T'.2 5 k = nI n ∧ RowR (vM V') row (T'.2 4 k) n (fun j => T'.2 6 (24 * k + j))) (hT : ∀ k', k' < 4 → k' ≠ k → T'.2 4 k' = T.2 4 k' ∧ T'.2 5 k' = T.2 5 k' ∧ ∀ j, j < 24 → T'.2 6 (24 * k' + j) = T.2 6 (24 * k' + j)) : Rel V' T' := by
  have r6 := hr.2.2.2.2.2.1
  have r7 := hr.2.2.2.2.2.2.1
  have r8 := hr.2.2.2.2.2.2.2
  obtain ⟨-, -, v3, -, -, v6, -⟩ := id hv
  obtain ⟨a0, r0, q1, q2, -⟩ := r6 k hk
  cases ha.symm.trans q1
  have hna : ∀ b x, vM V b = some x → tg x ≠ 4 → vM V' b = some x := fun b x h h1 => hM b (tg_ne h q2 h1) x h
  have hshc : ∀ k' a', k' < 4 → k' ≠ k → vSh V k' = some a' → vM V' a' = vM V a' := fun k' a' hk' hkk h => by
    obtain ⟨a1, r1, g1, g2, -⟩ := r6 k' hk'
    cases h.symm.trans g1
    rw [g2]
    refine hM _ (fun q => ?_) _ g2
    subst q
    exact hkk (r8.2.2.1 k' k a' hk' hk h ha)
  have hrow0 : ∀ row1 n1 so g, RowR (vM V) row1 so n1 g → vM V' row1 = vM V row1 := fun row1 n1 so g h => by
    obtain ⟨e, h1, h2⟩ := h.tag
    rw [h1]
    exact hna _ _ h1 (by omega)
  have hfr : ∀ row1 n1 so g, RowR (vM V) row1 so n1 g → r ≠ some row1 := fun row1 n1 so g h q => by
    rcases hnew with ⟨e, -⟩ | ⟨row, n, e, e2, -⟩
    · rw [e] at q
      cases q
    · rw [e] at q
      cases q
      obtain ⟨x, h1, -⟩ := h.tag
      rw [e2] at h1
      cases h1
  refine hr.shl hv ⟨ht.1, fun j hj => ht.2 j (by omega) (by omega) (by omega)⟩ (fun b x h hx => hna b x h (fun q => hx (Or.inl q))) (fun k' hk' => ?_) (fun q hq => ?_) (fun k1 k2 a1 a2 row' h1 h2 h3 h4 h5 h6 => ?_)
  · by_cases e2 : k' = k
    · subst e2
      refine ⟨a, r, by rw [v6]; exact ha, hMa, ?_⟩
      rcases hnew with h | ⟨row, n, e1, -, e3, e4⟩
      · exact Or.inl h
      · exact Or.inr ⟨row, n, e1, e3, e4⟩
    · obtain ⟨a1, r1, g1, g2, g3⟩ := r6 k' hk'
      obtain ⟨f1, f2, f3⟩ := hT k' hk' e2
      refine ⟨a1, r1, by rw [v6]; exact g1, by rw [hshc k' a1 hk' e2 g1]; exact g2, ?_⟩
      rw [f1, f2]
      rcases g3 with g3 | ⟨row1, n1, rfl, g4, g5⟩
      · exact Or.inl g3
      · exact Or.inr ⟨row1, n1, rfl, g4, g5.cg (hrow0 _ _ _ _ g5) (fun j hj => f3 j (by have := g5.1; omega))⟩
  · have := r7 q hq
    unfold SlR at this ⊢
    rw [hHe, v6, v3, ht.2 7 (by omega) (by omega) (by omega), ht.2 8 (by omega) (by omega) (by omega), ht.2 9 (by omega) (by omega) (by omega), ht.2 10 (by omega) (by omega) (by omega), ht.2 11 (by omega) (by omega) (by omega)]
    rcases this with h | ⟨b, h1, h2⟩
    · exact Or.inl h
    · refine Or.inr ⟨b, h1, ?_⟩
      rcases h2 with ⟨h7, kn, bb, g1, g2, g3⟩ | ⟨h7, row1, n1, so, g1, g2, g3, g4, g5⟩ | ⟨h7, g1⟩
      · refine Or.inl ⟨h7, kn, bb, g1, hna _ _ g2 ?_, g3⟩
        show 7 + kn ≠ 4
        omega
      · refine Or.inr (Or.inl ⟨h7, row1, n1, so, hM _ (fun q => ?_) _ g1, g2, g3.cg (hrow0 _ _ _ _ g3) (fun j hj => rfl), g4, fun k' b' hk' h => ?_⟩)
        · subst q
          exact g4 k hk ha
        · by_cases e2 : k' = k
          · subst e2
            cases h.symm.trans ha
            rw [hMa]
            intro q
            exact hfr _ _ _ _ g3 (eSh_inj q)
          · rw [hshc k' b' hk' e2 h]
            exact g5 k' b' hk' h
      · exact Or.inr (Or.inr ⟨h7, hna _ _ g1 (show (15 : Nat) ≠ 4 by omega)⟩)
  · have hothers : ∀ k1 a1, k1 < 4 → k1 ≠ k → vSh V k1 = some a1 → vM V' a1 = some (eSh (some row')) → r ≠ some row' := fun k1 a1 h1 hne h3 h5 => by
      obtain ⟨b1, s1, g1, g2, g3⟩ := r6 k1 h1
      cases h3.symm.trans g1
      rw [hshc k1 a1 h1 hne h3, g2] at h5
      have e := eSh_inj h5
      rcases g3 with ⟨g3, -⟩ | ⟨row1, n1, g3, -, g5⟩
      · rw [g3] at e
        cases e
      · rw [g3] at e
        cases e
        exact hfr _ _ _ _ g5
    by_cases e1 : k1 = k
    · by_cases e2 : k2 = k
      · rw [e1, e2]
      · subst e1
        cases h3.symm.trans ha
        rw [hMa] at h5
        exact absurd (eSh_inj h5) (hothers k2 a2 h2 e2 h4 h6)
    · by_cases e2 : k2 = k
      · subst e2
        cases h4.symm.trans ha
        rw [hMa] at h6
        exact absurd (eSh_inj h6) (hothers k1 a1 h1 e1 h3 h5)
      · rw [hshc k1 a1 h1 e1 h3] at h5
        rw [hshc k2 a2 h2 e2 h4] at h6
        exact r8.2.2.2.1 k1 k2 a1 a2 row' h1 h2 h3 h4 h5 h6
/-- a slot gets another thing -/
theorem Rel.lay {V V' : CV} {T T' : TS} {q : Nat} {r : Option Nat} (hr : Rel V T) (hv : bV V V') (hHe : ∀ q', vHe V' q' = if q' = q then r else vHe V q') (ht : T'.1 = T.1 ∧ (∀ j, j ≠ 7 → j ≠ 8 → j ≠ 9 → j ≠ 10 → j ≠ 11 → T'.2 j = T.2 j) ∧ (∀ j, j = 7 ∨ j = 8 ∨ j = 9 ∨ j = 10 → ∀ q', q' ≠ q → T'.2 j q' = T.2 j q') ∧ ∀ j, ¬ (24 * q ≤ j ∧ j < 24 * q + 24) → T'.2 11 j = T.2 11 j) (hM : ∀ b e, vM V b = some e → vM V' b = some e) (hnew : SlR V' T' q) : Rel V' T' := by
  have r6 := hr.2.2.2.2.2.1
  have r7 := hr.2.2.2.2.2.2.1
  have r8 := hr.2.2.2.2.2.2.2
  obtain ⟨-, -, v3, -, -, v6, -⟩ := id hv
  have hshc : ∀ k' a', k' < 4 → vSh V k' = some a' → vM V' a' = vM V a' := fun k' a' hk' h => by
    obtain ⟨a1, r1, g1, g2, -⟩ := r6 k' hk'
    cases h.symm.trans g1
    rw [g2]
    exact hM _ _ g2
  have hrow0 : ∀ row1 n1 so g, RowR (vM V) row1 so n1 g → vM V' row1 = vM V row1 := fun row1 n1 so g h => by
    obtain ⟨e, h1, h2⟩ := h.tag
    rw [h1]
    exact hM _ _ h1
  refine hr.shl hv ⟨ht.1, fun j hj => ht.2.1 j (by omega) (by omega) (by omega) (by omega) (by omega)⟩ (fun b x h _ => hM b x h) (fun k' hk' => ?_) (fun q' hq => ?_) (fun k1 k2 a1 a2 row' h1 h2 h3 h4 h5 h6 => ?_)
  · obtain ⟨a1, r1, g1, g2, g3⟩ := r6 k' hk'
    refine ⟨a1, r1, by rw [v6]; exact g1, hM _ _ g2, ?_⟩
    rw [ht.2.1 4 (by omega) (by omega) (by omega) (by omega) (by omega), ht.2.1 5 (by omega) (by omega) (by omega) (by omega) (by omega), ht.2.1 6 (by omega) (by omega) (by omega) (by omega) (by omega)]
    rcases g3 with g3 | ⟨row1, n1, rfl, g4, g5⟩
    · exact Or.inl g3
    · exact Or.inr ⟨row1, n1, rfl, g4, g5.cg (hrow0 _ _ _ _ g5) (fun j hj => rfl)⟩
  · by_cases e : q' = q
    · subst e
      exact hnew
    · have := r7 q' hq
      unfold SlR at this ⊢
      rw [hHe, if_neg e, v6, v3, ht.2.2.1 7 (by omega) q' e, ht.2.2.1 8 (by omega) q' e, ht.2.2.1 9 (by omega) q' e, ht.2.2.1 10 (by omega) q' e]
      rcases this with h | ⟨b, h1, h2⟩
      · exact Or.inl h
      · refine Or.inr ⟨b, h1, ?_⟩
        rcases h2 with ⟨h7, kn, bb, g1, g2, g3⟩ | ⟨h7, row1, n1, so, g1, g2, g3, g4, g5⟩ | ⟨h7, g1⟩
        · exact Or.inl ⟨h7, kn, bb, g1, hM _ _ g2, g3⟩
        · refine Or.inr (Or.inl ⟨h7, row1, n1, so, hM _ _ g1, g2, g3.cg (hrow0 _ _ _ _ g3) (fun j hj => ht.2.2.2 _ ?_), g4, fun k' b' hk' h => ?_⟩)
          · have := g3.1
            omega
          · rw [hshc k' b' hk' h]
            exact g5 k' b' hk' h
        · exact Or.inr (Or.inr ⟨h7, hM _ _ g1⟩)
  · rw [hshc k1 a1 h1 h3] at h5
    rw [hshc k2 a2 h2 h4] at h6
    exact r8.2.2.2.1 k1 k2 a1 a2 row' h1 h2 h3 h4 h5 h6
