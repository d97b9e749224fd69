set_option maxRecDepth 100000
/-! ===== copy, lay ===== -/
theorem sub_T {n m : Nat} (hn : n < 2 ^ 30) (hm : m < 2 ^ 31) : (nI n - nI m).toInt = (n : Int) - m := by
  rw [Int32.toInt_sub, nI_toInt (by omega), nI_toInt hm, Int.bmod_def]
  split <;> omega
theorem cpN (x y : Nat) (hx : x < 2 ^ 63) (hy : y < 2 ^ 63) : lg_cmp (lN x) (lN y) = if y < x then 1 else if x = y then 0 else -1 := by
  unfold lg_cmp
  simp only [GT.gt, pk_lLT hy hx, pk_lEQ hx hy]
theorem cpN_gt {x y : Nat} (hx : x < 2 ^ 63) (hy : y < 2 ^ 63) : 0 < lg_cmp (lN x) (lN y) ↔ y < x := by
  rw [cpN x y hx hy]
  by_cases h : y < x
  · rw [if_pos h]
    exact ⟨fun _ => h, fun _ => by decide⟩
  · rw [if_neg h]
    by_cases e : x = y
    · rw [if_pos e]
      exact ⟨fun q => absurd q (by decide), fun q => absurd q h⟩
    · rw [if_neg e]
      exact ⟨fun q => absurd q (by decide), fun q => absurd q h⟩
theorem cpN_le {x y : Nat} (hx : x < 2 ^ 63) (hy : y < 2 ^ 63) : lg_cmp (lN x) (lN y) ≤ 0 ↔ x ≤ y := by
  have := cpN_gt hx hy
  rw [← i_nlt]
  constructor
  · intro h
    exact Nat.le_of_not_lt (fun q => h (this.mpr q))
  · intro h q
    have := this.mp q
    omega
theorem cpy_0 {α : Type} (f g : Nat → α) (s d : Nat) : va_cpy f g s d 0 = g := by
  funext j
  exact if_neg (by omega)
theorem cpy_1 (f g : Nat → Int32) (s d i : Nat) : upd (va_cpy f g s d i) (d + i) (f (s + i)) = va_cpy f g s d (i + 1) := by
  funext j
  by_cases e : j = d + i
  · subst e
    rw [upd_s, pk_cpy_in (by omega) (by omega), Nat.add_sub_cancel_left]
  · rw [upd_n e]
    by_cases h : d ≤ j ∧ j < d + i
    · rw [pk_cpy_in h.1 h.2, pk_cpy_in h.1 (by omega)]
    · rw [pk_cpy_out (by omega), pk_cpy_out (by omega)]
theorem cpy_f {α : Type} (f g : Nat → α) (s d i : Nat) : vf_upd (va_cpy f g s d i) (d + i) (f (s + i)) = va_cpy f g s d (i + 1) := by
  funext j
  unfold vf_upd
  by_cases e : j = d + i
  · subst e
    rw [if_pos rfl, pk_cpy_in (by omega) (by omega), Nat.add_sub_cancel_left]
  · rw [if_neg e]
    by_cases h : d ≤ j ∧ j < d + i
    · rw [pk_cpy_in h.1 h.2, pk_cpy_in h.1 (by omega)]
    · rw [pk_cpy_out (by omega), pk_cpy_out (by omega)]
theorem cpy_cpy {α : Type} (f c g : Nat → α) (s d m : Nat) : va_cpy (va_cpy f c s 0 m) g 0 d m = va_cpy f g s d m := by
  funext j
  by_cases h : d ≤ j ∧ j < d + m
  · rw [pk_cpy_in h.1 h.2, pk_cpy_in h.1 h.2, pk_cpy_in (by omega) (by omega)]
    congr 1
    omega
  · rw [pk_cpy_out (by omega), pk_cpy_out (by omega)]
def setF (V : CV) (F : Nat → UInt32) : CV := (V.1, V.2.1, V.2.2.1, F, V.2.2.2.2)
theorem sF_set (V : CV) (F : Nat → UInt32) (j : Nat) (v : UInt32) : sF (setF V F) j v = setF V (vf_upd F j v) := rfl
theorem vF_set (V : CV) (F : Nat → UInt32) : vF (setF V F) = F := rfl
theorem setF_self (V : CV) : setF V (vF V) = V := rfl
theorem carry0 {V : CV} {a b row rowb n nb p t m : Nat} {so : Int32} {g gb : Nat → Int32} {Q : CV → Prop} (ha : vM V a = some (eSh (some row))) (hR : RowR (vM V) row so n g) (hb : vM V b = some (eSh (some rowb))) (hRb : RowR (vM V) rowb so nb gb) (hp : p + m ≤ n) (ht : t + m ≤ nb) (hq : ∀ V' e', bV V V' → vHe V' = vHe V → vM V' = hset (vM V) rowb e' → RowR (vM V') rowb so nb (va_cpy g gb p t m) → Q V') : wX0_carries a (nI p) b (nI t) (nI m) V Q := by
  have hn := hR.1
  have hnb := hRb.1
  refine ⟨_, ha, fl0 ha hR ?_⟩
  rcases hR.2 with ⟨rfl, f, hf, hg⟩ | ⟨rfl, f, hf, hg⟩
  · rcases hRb.2 with ⟨-, fb, hfb, hgb⟩ | ⟨q, -⟩
    · refine br0 ⟨_, ha, row, rfl, n, f, hf, _, hb, rowb, rfl, nb, fb, hfb, nI_pos (by omega), nI_pos (by omega), nI_pos (by omega), ?_⟩
      rw [nI_clamp (by omega), nI_clamp (by omega), nI_clamp (by omega)]
      refine ⟨hp, ht, fun i hi => ?_, hq _ _ ⟨rfl, rfl, rfl, rfl, rfl, rfl, rfl, rfl, rfl⟩ rfl rfl ⟨hnb, Or.inl ⟨rfl, _, hset_s _ _ _, fun j hj => ?_⟩⟩⟩
      · obtain ⟨h1, h2⟩ := hg (p + i) (by omega)
        rw [h1, ← h2]
        exact pk_fs _
      · by_cases h : t ≤ j ∧ j < t + m
        · rw [pk_cpy_in h.1 h.2, pk_cpy_in h.1 h.2]
          exact hg _ (by omega)
        · rw [pk_cpy_out (by omega), pk_cpy_out (by omega)]
          exact hgb _ hj
    · exact absurd q (by decide)
  · rcases hRb.2 with ⟨q, -⟩ | ⟨-, fb, hfb, hgb⟩
    · exact absurd q (by decide)
    · refine br1 ⟨_, ha, row, rfl, n, f, hf, _, hb, rowb, rfl, nb, fb, hfb, m + 1, ?_⟩
      have l2 : ∀ (V1 : CV), (∀ V', vM V' = hset (vM V1) rowb (eFA nb (va_cpy (vF V1) fb 0 t m)) → V' = sM V1 (hset (vM V1) rowb (eFA nb (va_cpy (vF V1) fb 0 t m))) → Q V') → ∀ j i, i + j = m → wX0_carries_81 Q (j + 1) (nI t) (nI m) rowb (nI i) (sM V1 (hset (vM V1) rowb (eFA nb (va_cpy (vF V1) fb 0 t i)))) := by
        intro V1 hQ j
        induction j with
        | zero =>
          intro i hi
          have : i = m := by omega
          subst this
          unfold wX0_carries_81
          exact brY (nI_le (by omega) (by omega)) (hQ _ rfl rfl)
        | succ j ih =>
          intro i hi
          unfold wX0_carries_81
          refine brN (nI_ge (by omega) (by omega)) ⟨vp_in_nI (by omega) (by omega), nb, _, hset_s _ _ _, ?_⟩
          rw [nI_add, nI_clamp (by omega), nI_clamp (by omega), nI_1]
          refine ⟨vp_in_nI (by omega) (by omega), ?_⟩
          have := ih (i + 1) (by omega)
          have e : sM (sM V1 (hset (vM V1) rowb (eFA nb (va_cpy (vF V1) fb 0 t i)))) (hset (vM (sM V1 (hset (vM V1) rowb (eFA nb (va_cpy (vF V1) fb 0 t i))))) rowb (eFA nb (vf_upd (va_cpy (vF V1) fb 0 t i) (t + i) (vF (sM V1 (hset (vM V1) rowb (eFA nb (va_cpy (vF V1) fb 0 t i)))) i)))) = sM V1 (hset (vM V1) rowb (eFA nb (va_cpy (vF V1) fb 0 t (i + 1)))) := by
            show sM V1 (hset (hset (vM V1) rowb _) rowb (eFA nb (vf_upd (va_cpy (vF V1) fb 0 t i) (t + i) (vF V1 i)))) = _
            rw [hset_hset]
            have e3 := cpy_f (vF V1) fb 0 t i
            rw [Nat.zero_add] at e3
            rw [e3]
          rw [e]
          exact this
      have l1 : ∀ j i, i + j = m → wX0_carries_51 Q (j + 1) (nI p) (nI t) (nI m) row rowb (nI i) (setF V (va_cpy f (vF V) p 0 i)) := by
        intro j
        induction j with
        | zero =>
          intro i hi
          have : i = m := by omega
          subst this
          unfold wX0_carries_51
          refine brY (nI_le (by omega) (by omega)) ⟨i + 1, ?_⟩
          have h := l2 (setF V (va_cpy f (vF V) p 0 i)) (fun V' h1 h2 => ?_) i 0 (by omega)
          · rw [cpy_0] at h
            have e : sM (setF V (va_cpy f (vF V) p 0 i)) (hset (vM (setF V (va_cpy f (vF V) p 0 i))) rowb (eFA nb fb)) = setF V (va_cpy f (vF V) p 0 i) := by
              have e2 : hset (vM V) rowb (eFA nb fb) = vM V := by
                funext x
                by_cases e3 : x = rowb
                · subst e3
                  rw [hset_s, hfb]
                · rw [hset_n e3]
              show sM (setF V (va_cpy f (vF V) p 0 i)) (hset (vM V) rowb (eFA nb fb)) = _
              rw [e2]
              rfl
            rw [e] at h
            exact h
          · subst h2
            rw [vF_set, cpy_cpy] at h1
            refine hq _ _ ⟨rfl, rfl, rfl, rfl, rfl, rfl, rfl, rfl, rfl⟩ rfl h1 ⟨hnb, Or.inr ⟨rfl, va_cpy f fb p t i, ?_, fun j hj => ?_⟩⟩
            · rw [h1]
              exact hset_s _ _ _
            · by_cases h : t ≤ j ∧ j < t + i
              · rw [pk_cpy_in h.1 h.2, pk_cpy_in h.1 h.2]
                exact hg _ (by omega)
              · rw [pk_cpy_out (by omega), pk_cpy_out (by omega)]
                exact hgb _ hj
        | succ j ih =>
          intro i hi
          unfold wX0_carries_51
          refine brN (nI_ge (by omega) (by omega)) ⟨n, f, hf, ?_⟩
          rw [nI_add, nI_clamp (by omega), nI_clamp (by omega), nI_1, sF_set]
          refine ⟨vp_in_nI (by omega) (by omega), vp_in_nI (by omega) (by omega), ?_⟩
          have := cpy_f f (vF V) p 0 i
          rw [Nat.zero_add] at this
          rw [this]
          exact ih (i + 1) (by omega)
      have := l1 m 0 (by omega)
      rw [cpy_0, setF_self] at this
      exact this
theorem copy6 {T : TS} {k p t d m : Nat} {Q : Int32 → TS → Prop} (hk : k < 4) (hd : d < 4) (hp : p + m ≤ 24) (ht : t + m ≤ 24) (hq : ∀ T', T'.1 = T.1 → (∀ j, j ≠ 6 → j ≠ 27 → T'.2 j = T.2 j) → T'.2 6 = va_cpy (T.2 6) (T.2 6) (24 * k + p) (24 * d + t) m → Q (nI m) T') : wX6_copy_113 Q (m + 1) (nI k) (nI p) (nI d) (nI t) (nI m) 0 T := by
  have l2 : ∀ (T1 : TS), Q (nI m) (tA T1 6 (va_cpy (T1.2 27) (T1.2 6) 0 (24 * d + t) m)) → ∀ j i, i + j = m → wX6_copy_150 Q (j + 1) (nI d) (nI t) (nI m) (nI i) (tA T1 6 (va_cpy (T1.2 27) (T1.2 6) 0 (24 * d + t) i)) := by
    intro T1 h j
    induction j with
    | zero =>
      intro i hi
      have : i = m := by omega
      subst this
      unfold wX6_copy_150
      exact brY (nI_le (by omega) (by omega)) h
    | succ j ih =>
      intro i hi
      unfold wX6_copy_150
      rw [sl_x, nI_add, nI_clamp (n := 24 * d + t + i) (by omega), nI_clamp (n := i) (by omega), tA_n (j := 27) (by decide), ts_tA, nI_1]
      refine brN (nI_ge (by omega) (by omega)) ⟨vp_in_nI (by omega) (by omega), vp_in_nI (by omega) (by omega), ?_⟩
      have := cpy_1 (T1.2 27) (T1.2 6) 0 (24 * d + t) i
      rw [Nat.zero_add] at this
      rw [this]
      exact ih (i + 1) (by omega)
  have l1 : ∀ j i, i + j = m → wX6_copy_113 Q (j + 1) (nI k) (nI p) (nI d) (nI t) (nI m) (nI i) (tA T 27 (va_cpy (T.2 6) (T.2 27) (24 * k + p) 0 i)) := by
    intro j
    induction j with
    | zero =>
      intro i hi
      have : i = m := by omega
      subst this
      unfold wX6_copy_113
      refine brY (nI_le (by omega) (by omega)) ⟨i + 1, ?_⟩
      have h := l2 (tA T 27 (va_cpy (T.2 6) (T.2 27) (24 * k + p) 0 i)) (hq _ rfl (fun j h1 h2 => by rw [tA_n h1, tA_n h2]) (by rw [tA_s, tA_s, tA_n (by decide), cpy_cpy])) i 0 (by omega)
      rw [cpy_0, tA_self] at h
      exact h
    | succ j ih =>
      intro i hi
      unfold wX6_copy_113
      rw [sl_x, nI_add, nI_clamp (n := 24 * k + p + i) (by omega), nI_clamp (n := i) (by omega), tA_n (j := 6) (by decide), ts_tA, nI_1]
      refine brN (nI_ge (by omega) (by omega)) ⟨vp_in_nI (by omega) (by omega), vp_in_nI (by omega) (by omega), ?_⟩
      have := cpy_1 (T.2 6) (T.2 27) (24 * k + p) 0 i
      rw [Nat.zero_add] at this
      rw [this]
      exact ih (i + 1) (by omega)
  have := l1 m 0 (by omega)
  rw [cpy_0, tA_self] at this
  exact this
theorem op_copy {V : CV} {T : TS} (hr : Rel V T) (a p c t m : Int32) : wX0_copy a p c t m V (fun r V1 => wX6_copy a p c t m T (fun r2 T2 => r = r2 ∧ Rel V1 T2)) := by
  unfold wX0_copy
  by_cases ha : inI a 0 3
  · have ha' := ha
    obtain ⟨k, hk, rfl⟩ := (in_lit (M := 3) (by omega)).mp ha
    have hv : vp_in (nI k) 4 := vp_in_nI (by omega) (by omega)
    refine she_y0 ha' (br1 ?_)
    by_cases hc : inI c 0 3
    · have hc' := hc
      obtain ⟨d, hd, rfl⟩ := (in_lit (M := 3) (by omega)).mp hc
      have hw : vp_in (nI d) 4 := vp_in_nI (by omega) (by omega)
      refine she_y0 hc' (br1 ⟨hv, hw, ?_⟩)
      rw [nI_clamp (n := k) (by omega), nI_clamp (n := d) (by omega)]
      obtain ⟨ad, r, e1, e2, h⟩ := hr.2.2.2.2.2.1 k (by omega)
      obtain ⟨bd, r', f1, f2, h'⟩ := hr.2.2.2.2.2.1 d (by omega)
      have y6 : ∀ {Q : Int32 → Prop}, Q 1 → wX6_isSheet (nI k) Q := fun h => she_y6 ha' h
      have y6' : ∀ {Q : Int32 → Prop}, Q 1 → wX6_isSheet (nI d) Q := fun h => she_y6 hc' h
      rcases h with ⟨rfl, h4⟩ | ⟨row, n, rfl, h5, hR⟩
      · refine ⟨ad, e1, _, e2, thereN e2 (br0 (y6 (br1 (y6' (br1 ⟨hv, ?_⟩)))))⟩
        rw [h4]
        exact brY (by decide) ⟨rfl, hr⟩
      · refine ⟨ad, e1, _, e2, there0 e2 (br1 ⟨bd, f1, _, f2, ?_⟩)⟩
        have n4 : ¬ T.2 4 k < 0 := by
          rcases hR.2 with ⟨e, -⟩ | ⟨e, -⟩ <;> rw [e] <;> decide
        rcases h' with ⟨rfl, h4⟩ | ⟨row', n', rfl, h5', hR'⟩
        · refine thereN f2 (br0 (y6 (br1 (y6' (br1 ⟨hv, brN n4 ⟨hw, ?_⟩⟩)))))
          rw [h4]
          exact brN (by decide) ⟨rfl, hr⟩
        · have n4' : 0 ≤ T.2 4 d := by
            rcases hR'.2 with ⟨e, -⟩ | ⟨e, -⟩ <;> rw [e] <;> decide
          have hn := hR.1
          have hn' := hR'.1
          refine there0 f2 (br1 ⟨ad, e1, _, e2, fl0 e2 hR ⟨bd, f1, _, f2, fl0 f2 hR' ?_⟩⟩)
          have z6 : ∀ {Q : Int32 → TS → Prop}, (((T.2 4 k) = (T.2 4 d) → (p < 0 → Q (-1000000013 : Int32) T) ∧ (¬ p < 0 → (t < 0 → Q (-1000000013 : Int32) T) ∧ (¬ t < 0 → (m < 0 → Q (-1000000013 : Int32) T) ∧ (¬ m < 0 → vp_in (nI k) 4 ∧ ((0 < (lg_cmp (p.toInt64 + m.toInt64) ((nI n).toInt64)) → Q (-1000000013 : Int32) T) ∧ (¬ 0 < (lg_cmp (p.toInt64 + m.toInt64) ((nI n).toInt64)) → vp_in (nI d) 4 ∧ (((lg_cmp (t.toInt64 + m.toInt64) ((nI n').toInt64)) ≤ 0 → ∃ f_113, wX6_copy_113 Q f_113 (nI k) p (nI d) t m (0 : Int32) T) ∧ (¬ (lg_cmp (t.toInt64 + m.toInt64) ((nI n').toInt64)) ≤ 0 → Q (-1000000013 : Int32) T)))))))) ∧ (¬ (T.2 4 k) = (T.2 4 d) → Q (-1000000012 : Int32) T)) → wX6_copy (nI k) p (nI d) t m T Q := by
            intro Q h
            refine y6 (br1 (y6' (br1 ⟨hv, ?_⟩)))
            rw [nI_clamp (n := k) (by omega), nI_clamp (n := d) (by omega), h5, h5']
            exact brN n4 ⟨hw, brY n4' ⟨hv, hw, h⟩⟩
          refine brI (fun es => ?_) (fun es => z6 (brN es ⟨rfl, hr⟩))
          refine brI (fun h => z6 (brY es (brY h ⟨rfl, hr⟩))) (fun hp0 => ?_)
          refine brI (fun h => z6 (brY es (brN hp0 (brY h ⟨rfl, hr⟩)))) (fun ht0 => ?_)
          refine brI (fun h => z6 (brY es (brN hp0 (brN ht0 (brY h ⟨rfl, hr⟩))))) (fun hm0 => ?_)
          obtain ⟨p', hp', rfl⟩ := nI_of hp0
          obtain ⟨t', ht', rfl⟩ := nI_of ht0
          obtain ⟨m', hm', rfl⟩ := nI_of hm0
          have l1 : (nI p').toInt64 + (nI m').toInt64 = lN (p' + m') := by rw [nI_l hp', nI_l hm', lN_add]
          have l2 : (nI t').toInt64 + (nI m').toInt64 = lN (t' + m') := by rw [nI_l ht', nI_l hm', lN_add]
          rw [l1, l2, nI_l (n := n) (by omega), nI_l (n := n') (by omega)] at z6
          refine ⟨ad, e1, _, e2, size0 e2 hR ?_⟩
          have c1 : (nI n - nI m') < nI p' ↔ n < p' + m' := by
            rw [i_lt, sub_T (by omega) hm', nI_toInt hp']
            omega
          have c2 : nI t' ≤ (nI n' - nI m') ↔ t' + m' ≤ n' := by
            rw [i_le, sub_T (by omega) hm', nI_toInt ht']
            omega
          refine brI (fun h => z6 (brY es (brN hp0 (brN ht0 (brN hm0 ⟨hv, brY ((cpN_gt (by omega) (by omega)).mpr (c1.mp h)) ⟨rfl, hr⟩⟩))))) (fun hA => ?_)
          have hA' : ¬ n < p' + m' := fun q => hA (c1.mpr q)
          have z6b : ∀ {Q : Int32 → TS → Prop}, (((lg_cmp (lN (t' + m')) (lN n')) ≤ 0 → ∃ f_113, wX6_copy_113 Q f_113 (nI k) (nI p') (nI d) (nI t') (nI m') (0 : Int32) T) ∧ (¬ (lg_cmp (lN (t' + m')) (lN n')) ≤ 0 → Q (-1000000013 : Int32) T)) → wX6_copy (nI k) (nI p') (nI d) (nI t') (nI m') T Q := fun h => z6 (brY es (brN hp0 (brN ht0 (brN hm0 ⟨hv, brN (fun q => hA' ((cpN_gt (by omega) (by omega)).mp q)) ⟨hw, h⟩⟩))))
          refine ⟨bd, f1, _, f2, size0 f2 hR' ?_⟩
          refine brI (fun hB => ?_) (fun hB => z6b (brN (fun q => hB (c2.mpr ((cpN_le (by omega) (by omega)).mp q))) ⟨rfl, hr⟩))
          have hB' := c2.mp hB
          rw [← es] at hR'
          refine ⟨ad, e1, bd, f1, carry0 e2 hR f2 hR' (by omega) hB' (fun V' e' v1 v2 v3 v4 => ?_)⟩
          refine z6b (brY ((cpN_le (by omega) (by omega)).mpr hB') ⟨m' + 1, copy6 (by omega) (by omega) (by omega) (by omega) (fun T' t1 t2 t3 => ⟨rfl, ?_⟩)⟩)
          obtain ⟨x, x1, x2⟩ := hR'.tag
          refine hr.row (k := d) (a := bd) (row := row') (n := n') (e' := e') v1 v2 ⟨t1, t2⟩ (by omega) f1 f2 x1 x2 v3 h5' ?_ (fun j hj => ?_)
          · rw [← es, t3]
            refine v4.cg rfl (fun j hj => ?_)
            by_cases h : t' ≤ j ∧ j < t' + m'
            · rw [pk_cpy_in (by omega) (by omega), pk_cpy_in h.1 h.2]
              congr 1
              omega
            · rw [pk_cpy_out (by omega), pk_cpy_out (by omega)]
          · rw [t3, pk_cpy_out (by omega)]
    · exact she_n0 hc (br0 (she_y6 ha' (br1 (she_n6 hc (br0 ⟨rfl, hr⟩)))))
  · exact she_n0 ha (br0 (she_n6 ha (br0 ⟨rfl, hr⟩)))
