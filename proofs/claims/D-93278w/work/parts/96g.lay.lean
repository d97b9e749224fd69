set_option maxRecDepth 100000
/-! ===== lay ===== -/
theorem thing0 {V : CV} {T : TS} {q : Nat} {Q : Int32 → CV → Prop} (hq : q < 5) (hs : SlR V T q) (h : Q (T.2 7 q) V) : wX5_thing q V Q := by
  refine ⟨hq, ?_⟩
  rcases hs with ⟨e1, e2⟩ | ⟨a, e1, ⟨h7, kn, b, g1, g2, -⟩ | ⟨h7, row, n, so, g1, -⟩ | ⟨h7, g1⟩⟩
  · rw [e2] at h
    exact brY e1 h
  · rw [h7] at h
    exact brN (by rw [e1]; simp) (Or.inr (Or.inl ⟨a, 7 + kn, b, e1, ⟨by omega, by omega⟩, g2, br1 h⟩))
  · rw [h7] at h
    exact brN (by rw [e1]; simp) (Or.inr (Or.inr (Or.inl ⟨a, _, e1, g1, br0 (Or.inr (Or.inr (Or.inl ⟨a, _, e1, g1, br1 h⟩)))⟩)))
  · rw [h7] at h
    exact brN (by rw [e1]; simp) (Or.inr (Or.inr (Or.inr ⟨a, _, e1, g1, br0 (Or.inr (Or.inr (Or.inr ⟨a, _, e1, g1, br0 h⟩)))⟩)))
theorem lay6 {T : TS} {k q : Nat} {r : Int32} {Q : Int32 → TS → Prop} (hk : k < 4) (hq : q < 5) (h : Q r (tA T 11 (va_cpy (T.2 6) (T.2 11) (24 * k) (24 * q) 24))) : wX6_lay_160 Q 25 (nI q) (nI k) r 0 T := by
  have l : ∀ j i, i + j = 24 → wX6_lay_160 Q (j + 1) (nI q) (nI k) r (nI i) (tA T 11 (va_cpy (T.2 6) (T.2 11) (24 * k) (24 * q) i)) := by
    intro j
    induction j with
    | zero =>
      intro i hi
      have : i = 24 := by omega
      subst this
      unfold wX6_lay_160
      exact brY (by decide) h
    | succ j ih =>
      intro i hi
      unfold wX6_lay_160
      rw [sl_x, sl_x, nI_clamp (n := 24 * k + i) (by omega), nI_clamp (n := 24 * q + i) (by omega), tA_n (j := 6) (by decide), ts_tA, nI_1, cpy_1]
      exact brN (nI_ge (a := i) (b := 24) (by omega) (by omega)) ⟨vp_in_nI (by omega) (by omega), vp_in_nI (by omega) (by omega), ih (i + 1) (by omega)⟩
  have := l 24 0 (by omega)
  rw [cpy_0, tA_self] at this
  exact this
theorem own0 {V : CV} {a row n : Nat} {so : Int32} {g : Nat → Int32} {Q : Nat → CV → Prop} (ha : vM V a = some (eSh (some row))) (hR : RowR (vM V) row so n g) (hq : ∀ q1 row1 V', vM V q1 = none → vM V row1 = none → bV V V' → vHe V' = vHe V → (∀ b e, vM V b = some e → vM V' b = some e) → vM V' q1 = some (eSh (some row1)) → RowR (vM V') row1 so n g → Q q1 V') : wX0_own a V Q := by
  intro q1 hq1
  have hn := hR.1
  have haq : a ≠ q1 := no_ne ha hq1
  have ha1 : vM (sM V (hset (vM V) q1 (eSh none))) a = some (eSh (some row)) := (hset_n haq).trans ha
  obtain ⟨x, hx, -⟩ := hR.tag
  have hR1 : RowR (vM (sM V (hset (vM V) q1 (eSh none)))) row so n g := hR.cg (hset_n (no_ne hx hq1)) (fun _ _ => rfl)
  refine ⟨_, ha1, fl0 ha1 hR1 ⟨_, ha1, size0 ha1 hR1 ?_⟩⟩
  have key : ∀ (r13 : Nat) (e : va_E), hset (vM V) q1 (eSh none) r13 = none → (∀ M : HM, M r13 = some e → RowR M r13 so n (fun _ => 0)) → ∃ f15, vM (sM (sM V (hset (vM V) q1 (eSh none))) (hset (vM (sM V (hset (vM V) q1 (eSh none)))) r13 e)) q1 = some (eSh f15) ∧ (∃ f18, vM (sM (sM (sM V (hset (vM V) q1 (eSh none))) (hset (vM (sM V (hset (vM V) q1 (eSh none)))) r13 e)) (hset (vM (sM (sM V (hset (vM V) q1 (eSh none))) (hset (vM (sM V (hset (vM V) q1 (eSh none)))) r13 e))) q1 (eSh (some r13)))) a = some (eSh f18) ∧ (wX4_size a (sM (sM (sM V (hset (vM V) q1 (eSh none))) (hset (vM (sM V (hset (vM V) q1 (eSh none)))) r13 e)) (hset (vM (sM (sM V (hset (vM V) q1 (eSh none))) (hset (vM (sM V (hset (vM V) q1 (eSh none)))) r13 e))) q1 (eSh (some r13)))) (fun r17 V20 => wX0_carries a (0 : Int32) q1 (0 : Int32) r17 V20 (fun V22 => Q q1 V22)))) := by
    intro r13 e hr13 hz
    have hne : r13 ≠ q1 := by
      rintro rfl
      rw [hset_s] at hr13
      cases hr13
    have hr0 : vM V r13 = none := (hset_n hne).symm.trans hr13
    have hold : ∀ b x, vM V b = some x → hset (hset (hset (vM V) q1 (eSh none)) r13 e) q1 (eSh (some r13)) b = some x := fun b x h => by
      rw [hset_n (no_ne h hq1), hset_n (no_ne h hr0), hset_n (no_ne h hq1)]
      exact h
    refine ⟨none, ?_, some row, hold _ _ ha, ?_⟩
    · exact (hset_n (Ne.symm hne)).trans (hset_s _ _ _)
    have hR3 : RowR (hset (hset (hset (vM V) q1 (eSh none)) r13 e) q1 (eSh (some r13))) row so n g := hR.cg (by rw [hold _ _ hx, hx]) (fun _ _ => rfl)
    refine size0 (V := sM (sM (sM V (hset (vM V) q1 (eSh none))) (hset (vM (sM V (hset (vM V) q1 (eSh none)))) r13 e)) (hset (vM (sM (sM V (hset (vM V) q1 (eSh none))) (hset (vM (sM V (hset (vM V) q1 (eSh none)))) r13 e))) q1 (eSh (some r13)))) (hold _ _ ha) hR3 ?_
    refine carry0 (p := 0) (t := 0) (hold _ _ ha) hR3 (hset_s _ _ _) (hz _ ?_) (by omega) (by omega) (fun V' e' v1 v2 v3 v4 => ?_)
    · exact (hset_n hne).trans (hset_s _ _ _)
    · refine hq q1 r13 V' hq1 hr0 v1 v2 (fun b x h => ?_) ?_ (v4.cg rfl (fun j hj => ?_))
      · rw [v3, hset_n (no_ne h hr0)]
        exact hold _ _ h
      · rw [v3, hset_n (Ne.symm hne)]
        exact hset_s _ _ _
      · rw [pk_cpy_in (by omega) (by omega)]
        congr 1
        omega
  have c24 : (nI n).toNatClampNeg ≤ 24 := by rw [nI_clamp (by omega)]; exact hn
  rcases hR.2 with ⟨rfl, f, hf, hg⟩ | ⟨rfl, f, hf, hg⟩
  · refine brY rfl (brN (nI_pos (by omega)) ⟨c24, fun r13 hr13 => ?_⟩)
    rw [nI_clamp (by omega)]
    exact key r13 _ hr13 (fun M hM => ⟨hn, Or.inl ⟨rfl, _, hM, fun j hj => ⟨rfl, rfl⟩⟩⟩)
  · refine brN (by decide) (brN (nI_pos (by omega)) ⟨c24, fun r13 hr13 => ?_⟩)
    rw [nI_clamp (by omega)]
    exact key r13 _ hr13 (fun M hM => ⟨hn, Or.inr ⟨rfl, _, hM, fun j hj => fl_0⟩⟩)
theorem lay_arr {T : TS} {q : Nat} {c x y : Int32} : (ts (ts (ts T 7 q c) 8 q x) 9 q y).1 = T.1 ∧ (∀ j, j ≠ 7 → j ≠ 8 → j ≠ 9 → j ≠ 10 → j ≠ 11 → (ts (ts (ts T 7 q c) 8 q x) 9 q y).2 j = T.2 j) ∧ (∀ j, j = 7 ∨ j = 8 ∨ j = 9 ∨ j = 10 → ∀ q', q' ≠ q → (ts (ts (ts T 7 q c) 8 q x) 9 q y).2 j q' = T.2 j q') ∧ (ts (ts (ts T 7 q c) 8 q x) 9 q y).2 7 q = c ∧ (ts (ts (ts T 7 q c) 8 q x) 9 q y).2 8 q = x ∧ (ts (ts (ts T 7 q c) 8 q x) 9 q y).2 9 q = y ∧ (ts (ts (ts T 7 q c) 8 q x) 9 q y).2 11 = T.2 11 ∧ (ts (ts (ts T 7 q c) 8 q x) 9 q y).2 5 = T.2 5 ∧ (ts (ts (ts T 7 q c) 8 q x) 9 q y).2 6 = T.2 6 := by
  refine ⟨rfl, fun j h1 h2 h3 _ _ => ?_, fun j hj q' hne => ?_, ?_, ?_, ?_, ?_, ?_, ?_⟩
  · rw [ts_n h3, ts_n h2, ts_n h1]
  · rcases hj with rfl | rfl | rfl | rfl
    · rw [ts_n (by decide), ts_n (by decide), ts_s, upd_n hne]
    · rw [ts_n (by decide), ts_s, upd_n hne, ts_n (by decide)]
    · rw [ts_s, upd_n hne, ts_n (by decide), ts_n (by decide)]
    · rw [ts_n (by decide), ts_n (by decide), ts_n (by decide)]
  · rw [ts_n (by decide), ts_n (by decide), ts_s, upd_s]
  · rw [ts_n (by decide), ts_s, upd_s]
  · rw [ts_s, upd_s]
  · rw [ts_n (by decide), ts_n (by decide), ts_n (by decide)]
  · rw [ts_n (by decide), ts_n (by decide), ts_n (by decide)]
  · rw [ts_n (by decide), ts_n (by decide), ts_n (by decide)]
theorem in03 {c : Int32} (h : inI c 0 3) : c = 0 ∨ c = 1 ∨ c = 2 ∨ c = 3 := by
  obtain ⟨p, hp, rfl⟩ := (in_lit (M := 3) (by omega)).mp h
  have : p = 0 ∨ p = 1 ∨ p = 2 ∨ p = 3 := by omega
  rcases this with rfl | rfl | rfl | rfl
  · exact Or.inl rfl
  · exact Or.inr (Or.inl rfl)
  · exact Or.inr (Or.inr (Or.inl rfl))
  · exact Or.inr (Or.inr (Or.inr rfl))
theorem op_lay {V : CV} {T : TS} (hr : Rel V T) (a c z : Int32) : wX0_lay a c z V (fun r V1 => wX6_lay a c z T (fun r2 T2 => r = r2 ∧ Rel V1 T2)) := by
  obtain ⟨n, dn, tn, h0⟩ := hr.1
  have hn := h0.1.1
  have bad38 : ∀ {Q : Int32 → TS → Prop}, Q (-1000000001) T → wX6_lay_38 a c z T Q := fun h => by
    unfold wX6_lay_38 wX6_lay_39
    by_cases ha : inI a 0 4
    · exact slo_y6 ha (br1 (br0 h))
    · exact slo_n6 ha (br0 h)
  have bad34 : ∀ {Q : Int32 → TS → Prop}, ¬ inI a 0 4 → Q (-1000000001) T → wX6_lay_34 a c z T Q := fun ha h => by
    unfold wX6_lay_34 wX6_lay_39
    exact slo_n6 ha (br0 h)
  have bad22 : ∀ {Q : Int32 → TS → Prop}, (c = 2 → ¬ inI z 0 3 ∨ ¬ inI a 0 4) → Q (-1000000001) T → wX6_lay_22 a c z T Q := fun hc h => by
    unfold wX6_lay_22
    refine brI (fun e => ?_) (fun _ => bad38 h)
    by_cases hz : inI z 0 3
    · rcases hc e with q | q
      · exact absurd hz q
      · exact she_y6 hz (br1 (bad34 q h))
    · exact she_n6 hz (br0 (bad38 h))
  by_cases ha : inI a 0 4
  · by_cases hc : inI c 0 3
    · have ha' := ha
      obtain ⟨q, hq, rfl⟩ := (in_lit (M := 4) (by omega)).mp ha
      have hv : vp_in (nI q) 5 := vp_in_nI (by omega) (by omega)
      have hsl := hr.2.2.2.2.2.2.1 q (by omega)
      have c34 : ∀ {Q : Int32 → TS → Prop}, c ≠ 2 → wX6_lay_74 (nI q) c z T Q → wX6_lay_34 (nI q) c z T Q := fun h2 h => by
        unfold wX6_lay_34 wX6_lay_39
        exact slo_y6 ha' (br1 (br1 (brN h2 h)))
      unfold wX0_lay
      refine slo_y0 ha' (br1 (isIn0_y hc (br1 ?_)))
      rcases in03 hc with rfl | rfl | rfl | rfl
      · refine brN (by decide) (brN (by decide) (brN (by decide) ⟨hv, ?_⟩))
        rw [nI_clamp (by omega)]
        refine thing0 (by omega) hsl ⟨hv, brY rfl (brY rfl (c34 (by decide) ⟨hv, hv, brN (by decide) ⟨hv, brN (by decide) ⟨hv, brN (by decide) ?_⟩⟩⟩))⟩
        rw [nI_clamp (by omega)]
        obtain ⟨t1, t2, t3, t4, t5, t6, t7, -⟩ := @lay_arr T q 0 z 0
        refine ⟨rfl, hr.lay (q := q) (r := none) ⟨rfl, rfl, rfl, rfl, rfl, rfl, rfl, rfl, rfl⟩ (fun q' => by simp [cvs]) ⟨t1, t2, t3, fun j _ => by rw [t7]⟩ (fun b e h => h) (Or.inl ⟨by simp [cvs], t4⟩)⟩
      · refine brY rfl ?_
        by_cases hz : ∃ p, p < n ∧ z = nI p
        · obtain ⟨p, hp, rfl⟩ := hz
          obtain ⟨ad, kn, g1, g2, g3, g4⟩ := h0.2.2.2.2.2.2.1 p hp
          have hsp : isSpk (7 + kn) := ⟨by omega, by omega⟩
          refine per_y0 h0.n0.1 hn hp (br1 (brN (by decide) (brN (by decide) ⟨hv, ?_⟩)))
          rw [nI_clamp (by omega)]
          refine thing0 (by omega) hsl ⟨hv, brN (by decide) (brY rfl ⟨vp_in_nI (by omega) (by omega), ?_⟩)⟩
          rw [nI_clamp (by omega)]
          refine ⟨ad, g3, 7 + kn, _, hsp, g4, 7 + kn, _, hsp, g4, fun q1 hq1 => ?_⟩
          refine ⟨7 + kn, _, hsp, (hset_n (no_ne g4 hq1)).trans g4, 7 + kn, _, hsp, hset_s _ _ _, ?_⟩
          unfold wX0_lay_136
          refine brN (by decide) (brN (by decide) (brY rfl (per_y6 h0.n0.2 hn hp (br1 (c34 (by decide) ⟨hv, hv, brY rfl (of6 0 (by omega) (by omega) ⟨hv, brY rfl (of6 0 (by omega) (by omega) (of6 1 (by omega) (by omega) ?_))⟩)⟩)))))
          rw [nI_clamp (by omega), nI_clamp (by omega), ts_n (by decide), ts_n (by decide), show T.2 0 (6 + 5 * p + 0) = nI kn from g2]
          refine worth6 g1 ⟨hv, brN (by decide) ?_⟩
          obtain ⟨t1, t2, t3, t4, t5, t6, t7, -⟩ := @lay_arr T q 1 (nI kn) (worth kn (T.2 0 (6 + 5 * p + 1)))
          refine ⟨rfl, hr.lay (q := q) (r := some q1) ⟨rfl, rfl, rfl, rfl, rfl, rfl, rfl, rfl, rfl⟩ (fun q' => by simp [cvs]) ⟨t1, t2, t3, fun j _ => by rw [t7]⟩ (fun b e h => ?_) (Or.inr ⟨q1, by simp [cvs], Or.inl ⟨t4, kn, _, g1, hset_s _ _ _, t5, t6, fun i p' hi hp' => ?_⟩⟩)⟩
          · exact (hset_n (no_ne h hq1)).trans ((hset_n (no_ne h hq1)).trans h)
          · intro e
            obtain ⟨kn', b', -, q2⟩ := hr.2.2.2.2.2.2.2.1 i p' q1 hi hp' e
            rw [hq1] at q2
            cases q2
        · refine per_n0 h0.n0.1 hn hz (br0 ?_)
          exact brN (by decide) (brN (by decide) (brY rfl (per_n6 h0.n0.2 hn hz (br0 (bad22 (fun e => absurd e (by decide)) ⟨rfl, hr⟩)))))
      · refine brN (by decide) (brY rfl ?_)
        by_cases hz : inI z 0 3
        · have hz' := hz
          obtain ⟨k, hk, rfl⟩ := (in_lit (M := 3) (by omega)).mp hz
          have hw : vp_in (nI k) 4 := vp_in_nI (by omega) (by omega)
          refine she_y0 hz' (br1 (brY rfl ⟨hw, ?_⟩))
          rw [nI_clamp (n := k) (by omega)]
          have c39 : ∀ {Q : Int32 → TS → Prop}, ((0 ≤ (T.2 4 k) → wX6_lay_74 (nI q) 2 (nI k) T Q) ∧ (¬ 0 ≤ (T.2 4 k) → Q (-1000000011 : Int32) T)) → wX6_lay (nI q) 2 (nI k) T Q := fun h => by
            refine brN (by decide) (brN (by decide) (brN (by decide) (brY rfl (she_y6 hz' (br1 ?_)))))
            unfold wX6_lay_34 wX6_lay_39
            rw [nI_clamp (n := k) (by omega)]
            exact slo_y6 ha' (br1 (br1 (brY rfl ⟨hw, h⟩)))
          obtain ⟨ad, r, e1, e2, h⟩ := hr.2.2.2.2.2.1 k (by omega)
          rcases h with ⟨rfl, h4⟩ | ⟨row, m, rfl, h5, hR⟩
          · refine ⟨ad, e1, _, e2, thereN e2 (br0 (c39 ?_))⟩
            rw [h4]
            exact brN (by decide) ⟨rfl, hr⟩
          · have n4 : 0 ≤ T.2 4 k := by
              rcases hR.2 with ⟨e, -⟩ | ⟨e, -⟩ <;> rw [e] <;> decide
            refine ⟨ad, e1, _, e2, there0 e2 (br1 ⟨hv, ?_⟩)⟩
            rw [nI_clamp (n := q) (by omega)]
            refine thing0 (by omega) hsl ⟨hv, brN (by decide) (brN (by decide) (brY rfl ⟨hw, ?_⟩))⟩
            rw [nI_clamp (n := k) (by omega)]
            refine ⟨ad, e1, own0 e2 hR (fun q1 row1 V' u1 u2 v1 v2 v3 v4 v5 => ?_)⟩
            unfold wX0_lay_136
            refine c39 (brY n4 ⟨hv, hv, brN (by decide) ⟨hv, brN (by decide) ⟨hv, brY rfl ⟨hw, hv, 25, ?_⟩⟩⟩⟩)
            rw [nI_clamp (n := q) (by omega), nI_clamp (n := k) (by omega)]
            obtain ⟨t1, t2, t3, t4, t5, t6, t7, t8, t9⟩ := @lay_arr T q 2 (nI k) 0
            refine lay6 (by omega) (by omega) ⟨rfl, ?_⟩
            rw [ts_n (j := 6) (by decide), ts_n (j := 11) (by decide), t7, t8, t9, h5]
            refine hr.lay (q := q) (r := some q1) v1 (fun q' => by rw [← v2]; simp [cvs]) ⟨t1, fun j h1 h2 h3 h4 h5 => ?_, fun j hj q' hne => ?_, fun j hj => ?_⟩ (fun b e h => v3 b e h) (Or.inr ⟨q1, by simp [cvs], Or.inr (Or.inl ⟨?_, row1, m, T.2 4 k, v4, ?_, v5.cg rfl (fun j hj => ?_), fun k' hk' e => ?_, fun k' b hk' e e3 => ?_⟩)⟩)
            · rw [tA_n h5, ts_n h4]
              exact t2 j h1 h2 h3 h4 h5
            · rw [tA_n (by omega)]
              by_cases e10 : j = 10
              · subst e10
                rw [ts_s, upd_n hne]
                exact t3 10 hj q' hne
              · rw [ts_n e10]
                exact t3 j hj q' hne
            · rw [tA_s, pk_cpy_out (by omega)]
            · rw [tA_n (by decide), ts_n (by decide)]
              exact t4
            · rw [tA_n (by decide), ts_s, upd_s]
            · have := hR.1
              rw [tA_s, pk_cpy_in (by omega) (by omega)]
              congr 1
              omega
            · obtain ⟨a1, r1, w1, w2, -⟩ := hr.2.2.2.2.2.1 k' hk'
              rw [show vSh (sHe V' q (some q1)) = vSh V' from rfl, v1.2.2.2.2.2.1] at e
              cases e.symm.trans w1
              rw [u1] at w2
              cases w2
            · obtain ⟨a1, r1, w1, w2, w3⟩ := hr.2.2.2.2.2.1 k' hk'
              rw [show vSh (sHe V' q (some q1)) = vSh V' from rfl, v1.2.2.2.2.2.1] at e
              cases e.symm.trans w1
              have e4 : vM V' b = some (eSh (some row1)) := e3
              rw [v3 _ _ w2] at e4
              have e5 := eSh_inj e4
              rcases w3 with ⟨w3, -⟩ | ⟨row2, n2, w3, -, w5⟩
              · rw [w3] at e5
                cases e5
              · rw [w3] at e5
                cases e5
                obtain ⟨x, x1, -⟩ := w5.tag
                rw [u2] at x1
                cases x1
        · refine she_n0 hz (br0 ?_)
          exact brN (by decide) (brN (by decide) (brN (by decide) (bad22 (fun _ => Or.inl hz) ⟨rfl, hr⟩)))
      · refine brN (by decide) (brN (by decide) (brN (by decide) ⟨hv, ?_⟩))
        rw [nI_clamp (by omega)]
        refine thing0 (by omega) hsl ⟨hv, brN (by decide) (brN (by decide) (brN (by decide) (fun q1 hq1 => ⟨_, hset_s _ _ _, Nat.one_pos, ?_⟩)))⟩
        unfold wX0_lay_136
        refine brN (by decide) (brY rfl (c34 (by decide) ⟨hv, hv, brN (by decide) ⟨hv, brN (by decide) ⟨hv, brN (by decide) ?_⟩⟩⟩))
        rw [nI_clamp (by omega)]
        obtain ⟨t1, t2, t3, t4, t5, t6, t7, -⟩ := @lay_arr T q 3 z 0
        refine ⟨rfl, hr.lay (q := q) (r := some q1) ⟨rfl, rfl, rfl, rfl, rfl, rfl, rfl, rfl, rfl⟩ (fun q' => by simp [cvs]) ⟨t1, t2, t3, fun j _ => by rw [t7]⟩ (fun b e h => ?_) (Or.inr ⟨q1, by simp [cvs], Or.inr (Or.inr ⟨t4, ?_⟩)⟩)⟩
        · exact (hset_n (no_ne h hq1)).trans ((hset_n (no_ne h hq1)).trans h)
        · rw [t5]
          exact hset_s _ _ _
    · have c0 : ¬ c = 0 := by
        rintro rfl
        exact hc ⟨by decide, by decide⟩
      have c1 : ¬ c = 1 := by
        rintro rfl
        exact hc ⟨by decide, by decide⟩
      have c2 : ¬ c = 2 := by
        rintro rfl
        exact hc ⟨by decide, by decide⟩
      have c3 : ¬ c = 3 := by
        rintro rfl
        exact hc ⟨by decide, by decide⟩
      exact slo_y0 ha (br1 (isIn0_n hc (br0 (brN c0 (brN c3 (brN c1 (bad22 (fun e => absurd e c2) ⟨rfl, hr⟩)))))))
  · refine slo_n0 ha (br0 ?_)
    refine brI (fun e => bad34 ha ⟨rfl, hr⟩) (fun _ => brI (fun e => bad34 ha ⟨rfl, hr⟩) (fun _ => brI (fun e => ?_) (fun _ => bad22 (fun _ => Or.inr ha) ⟨rfl, hr⟩)))
    by_cases hz : ∃ p, p < n ∧ z = nI p
    · obtain ⟨p, hp, rfl⟩ := hz
      exact per_y6 h0.n0.2 hn hp (br1 (bad34 ha ⟨rfl, hr⟩))
    · exact per_n6 h0.n0.2 hn hz (br0 (bad22 (fun _ => Or.inr ha) ⟨rfl, hr⟩))
