set_option maxRecDepth 100000
/-! ===== sheet, mark, pour ===== -/
def tA (T : TS) (k : Nat) (g : Nat → Int32) : TS := (T.1, va_up T.2 k g)
theorem tA_1 (T : TS) (k : Nat) (g : Nat → Int32) : (tA T k g).1 = T.1 := rfl
theorem tA_s (T : TS) (k : Nat) (g : Nat → Int32) : (tA T k g).2 k = g := if_pos rfl
theorem tA_n {T : TS} {k j : Nat} {g : Nat → Int32} (h : j ≠ k) : (tA T k g).2 j = T.2 j := if_neg h
theorem ts_tA (T : TS) (k i : Nat) (g : Nat → Int32) (v : Int32) : ts (tA T k g) k i v = tA T k (upd g i v) := by
  unfold ts
  rw [tA_s]
  unfold tA
  rw [bx_uu]
theorem tA_self (T : TS) (k : Nat) : tA T k (T.2 k) = T := by
  unfold tA va_up
  have : (fun j => if j = k then T.2 k else T.2 j) = T.2 := by
    funext j
    by_cases e : j = k
    · rw [if_pos e, e]
    · rw [if_neg e]
  rw [this]
def zr (g : Nat → Int32) (k i : Nat) : Nat → Int32 := fun j => if 24 * k ≤ j ∧ j < 24 * k + i then 0 else g j
theorem zr_0 (g : Nat → Int32) (k : Nat) : zr g k 0 = g := by
  funext j
  exact if_neg (by omega)
theorem zr_1 (g : Nat → Int32) (k i : Nat) : upd (zr g k i) (24 * k + i) 0 = zr g k (i + 1) := by
  funext j
  by_cases e : j = 24 * k + i
  · subst e
    rw [upd_s]
    exact (if_pos ⟨by omega, by omega⟩).symm
  · rw [upd_n e]
    unfold zr
    by_cases h : 24 * k ≤ j ∧ j < 24 * k + i
    · rw [if_pos h, if_pos ⟨h.1, by omega⟩]
    · rw [if_neg h, if_neg (by omega)]
theorem zero6 {T : TS} {Q : Int32 → TS → Prop} {k : Nat} {g : Nat → Int32} (hk : k < 4) (hq : Q (T.2 5 k) (tA T 6 (zr g k 24))) : ∀ j i, i + j = 24 → wX6_sheet_69 Q (j + 1) (nI k) (nI i) (tA T 6 (zr g k i)) := by
  have hv : vp_in (nI k) 4 := vp_in_nI hk (by omega)
  intro j
  induction j with
  | zero =>
    intro i hi
    have : i = 24 := by omega
    subst this
    unfold wX6_sheet_69
    rw [nI_clamp (by omega), tA_n (by decide)]
    exact brY (by decide) ⟨hv, hq⟩
  | succ j ih =>
    intro i hi
    unfold wX6_sheet_69
    rw [sl_x, nI_clamp (n := 24 * k + i) (by omega), ts_tA, zr_1, nI_1]
    exact brN (nI_ge (a := i) (b := 24) (by omega) (by omega)) ⟨vp_in_nI (by omega) (by omega), ih (i + 1) (by omega)⟩
theorem in11 {c : Int32} (h : inI c (-1) 1) : c = -1 ∨ c = 0 ∨ c = 1 := by
  have h1 := (i_le _ _).mp h.1
  have h2 := (i_le _ _).mp h.2
  have e1 : (-1 : Int32).toInt = -1 := by decide
  have e0 : (0 : Int32).toInt = 0 := by decide
  have e2 : (1 : Int32).toInt = 1 := by decide
  rw [e1] at h1
  rw [e2] at h2
  rw [i_eq, i_eq, i_eq, e1, e0, e2]
  omega
theorem fl_0 : flR 0 0 := Or.inr ⟨⟨by decide, by decide⟩, by decide +kernel⟩
theorem op_sheet {V : CV} {T : TS} (hr : Rel V T) (a c z : Int32) : wX0_sheet a c z V (fun r V1 => wX6_sheet a c z T (fun r2 T2 => r = r2 ∧ Rel V1 T2)) := by
  unfold wX0_sheet
  by_cases ha : inI a 0 3
  · have ha' := ha
    obtain ⟨k, hk, rfl⟩ := (in_lit (M := 3) (by omega)).mp ha
    have hv : vp_in (nI k) 4 := vp_in_nI (by omega) (by omega)
    refine she_y0 ha' (br1 ?_)
    by_cases hc : inI c (-1) 1
    · refine isIn0_y hc (br1 ?_)
      obtain ⟨ad, r, e1, e2, -⟩ := hr.2.2.2.2.2.1 k (by omega)
      have y6 : ∀ {Q : Int32 → TS → Prop}, ((c < 0 → wX6_sheet_32 (nI k) c z T Q) ∧ (¬ c < 0 → (z ≤ (24 : Int32) → wX6_sheet_32 (nI k) c z T Q) ∧ (¬ z ≤ (24 : Int32) → Q (-1000000001 : Int32) T))) → wX6_sheet (nI k) c z T Q := fun h => she_y6 ha' (br1 (isIn6_y hc (br1 h)))
      have hTT : ∀ v : Int32, (∀ j, j ≠ 4 → j ≠ 5 → j ≠ 6 → (tA (ts (ts T 4 k c) 5 k v) 6 (zr (T.2 6) k 24)).2 j = T.2 j) ∧ (tA (ts (ts T 4 k c) 5 k v) 6 (zr (T.2 6) k 24)).2 4 k = c ∧ (tA (ts (ts T 4 k c) 5 k v) 6 (zr (T.2 6) k 24)).2 5 k = v ∧ (∀ j, j < 24 → (tA (ts (ts T 4 k c) 5 k v) 6 (zr (T.2 6) k 24)).2 6 (24 * k + j) = 0) ∧ ∀ k', k' < 4 → k' ≠ k → (tA (ts (ts T 4 k c) 5 k v) 6 (zr (T.2 6) k 24)).2 4 k' = T.2 4 k' ∧ (tA (ts (ts T 4 k c) 5 k v) 6 (zr (T.2 6) k 24)).2 5 k' = T.2 5 k' ∧ ∀ j, j < 24 → (tA (ts (ts T 4 k c) 5 k v) 6 (zr (T.2 6) k 24)).2 6 (24 * k' + j) = T.2 6 (24 * k' + j) := by
        intro v
        refine ⟨fun j h1 h2 h3 => ?_, ?_, ?_, fun j hj => ?_, fun k' hk' hne => ⟨?_, ?_, fun j hj => ?_⟩⟩
        · rw [tA_n h3, ts_n h2, ts_n h1]
        · rw [tA_n (by decide), ts_n (by decide), ts_s, upd_s]
        · rw [tA_n (by decide), ts_s, upd_s]
        · rw [tA_s]
          exact if_pos ⟨by omega, by omega⟩
        · rw [tA_n (by decide), ts_n (by decide), ts_s, upd_n hne]
        · rw [tA_n (by decide), ts_s, upd_n hne, ts_n (by decide)]
        · rw [tA_s]
          exact if_neg (by omega)
      have z6 : ∀ {Q : Int32 → TS → Prop} (v : Int32), Q v (tA (ts (ts T 4 k c) 5 k v) 6 (zr (T.2 6) k 24)) → wX6_sheet_65 (nI k) v (nI k) (ts T 4 k c) Q := by
        intro Q v h
        unfold wX6_sheet_65
        rw [nI_clamp (by omega)]
        refine ⟨hv, 25, ?_⟩
        have e6 : (ts (ts T 4 k c) 5 k v).2 6 = T.2 6 := by rw [ts_n (by decide), ts_n (by decide)]
        have := zero6 (T := ts (ts T 4 k c) 5 k v) (Q := Q) (k := k) (g := T.2 6) (by omega) (by rw [ts_s, upd_s]; exact h) 24 0 (by omega)
        rw [zr_0, ← e6, tA_self] at this
        exact this
      rcases in11 hc with rfl | rfl | rfl
      · refine brY (by decide) (brN (by decide) ⟨hv, ?_⟩)
        rw [nI_clamp (by omega)]
        refine ⟨ad, e1, r, e2, y6 (brY (by decide) (brY (by decide) ⟨hv, brN (by decide) ?_⟩))⟩
        rw [nI_clamp (by omega)]
        refine z6 0 ⟨rfl, ?_⟩
        obtain ⟨t1, t2, t3, t4, t5⟩ := hTT 0
        exact hr.sht (k := k) (a := ad) (r := none) ⟨rfl, rfl, rfl, rfl, rfl, rfl, rfl, rfl, rfl⟩ rfl ⟨rfl, t1⟩ (by omega) e1 (fun b hb e h => (hset_n hb).trans h) (hset_s _ _ _) (Or.inl ⟨rfl, t2⟩) t5
      all_goals
        refine brN (by decide) ?_
        by_cases hz : z ≤ 24
        · refine brY hz (brY (by decide) ⟨hv, ?_⟩)
          rw [nI_clamp (by omega)]
          have y6' : ∀ {Q : Int32 → TS → Prop}, ((0 ≤ z → wX6_sheet_44 (nI k) _ z T Q) ∧ (¬ 0 ≤ z → Q (-1000000014 : Int32) T)) → wX6_sheet (nI k) _ z T Q := fun h => y6 (brN (by decide) (brY hz (brN (by decide) h)))
          by_cases hz0 : z < 0
          · have n6 : ¬ (0 : Int32) ≤ z := i_nle.mpr hz0
            first
              | exact brY rfl (brN (by decide) (brY hz0 (y6' (brN n6 ⟨rfl, hr⟩))))
              | exact brN (by decide) (brY rfl (brY hz0 (y6' (brN n6 ⟨rfl, hr⟩))))
          · obtain ⟨m, hm, rfl⟩ := nI_of2 (x := z) (M := 24) (n := 24) (by decide) hz0 hz
            have c24 : (nI m).toNatClampNeg ≤ 24 := by rw [nI_clamp (by omega)]; exact hm
            obtain ⟨t1, t2, t3, t4, t5⟩ := hTT (nI m)
            have fin : ∀ (q : Nat) (e : va_E), vM V q = none → (∀ M : HM, M q = some e → RowR M q ((tA (ts (ts T 4 k _) 5 k (nI m)) 6 (zr (T.2 6) k 24)).2 4 k) m (fun j => (tA (ts (ts T 4 k _) 5 k (nI m)) 6 (zr (T.2 6) k 24)).2 6 (24 * k + j))) → Rel (sM (sM V (hset (vM V) q e)) (hset (vM (sM V (hset (vM V) q e))) ad (eSh (some q)))) (tA (ts (ts T 4 k _) 5 k (nI m)) 6 (zr (T.2 6) k 24)) := by
              intro q e hq hR
              have hne : ad ≠ q := no_ne e2 hq
              refine hr.sht (k := k) (a := ad) (r := some q) ⟨rfl, rfl, rfl, rfl, rfl, rfl, rfl, rfl, rfl⟩ rfl ⟨rfl, t1⟩ (by omega) e1 (fun b hb x h => ?_) (hset_s _ _ _) (Or.inr ⟨q, m, rfl, hq, t3, hR _ ?_⟩) t5
              · exact (hset_n hb).trans ((hset_n (no_ne h hq)).trans h)
              · exact (hset_n (Ne.symm hne)).trans (hset_s _ _ _)
            first
              | refine brY rfl (brN (by decide) (brN hz0 ⟨c24, fun q hq => ⟨ad, e1, r, (hset_n (no_ne e2 hq)).trans e2, y6' (brY (nn0 (by omega)) ⟨hv, brY (by decide) ?_⟩)⟩⟩))
                rw [nI_clamp (n := k) (by omega), nI_clamp (n := m) (by omega)]
                refine z6 (nI m) ⟨rfl, fin q _ hq (fun M hMq => ⟨hm, Or.inr ⟨t2, _, hMq, fun j hj => ?_⟩⟩)⟩
                rw [t4 j (by omega)]
                exact fl_0
              | refine brN (by decide) (brY rfl (brN hz0 ⟨c24, fun q hq => ⟨ad, e1, r, (hset_n (no_ne e2 hq)).trans e2, y6' (brY (nn0 (by omega)) ⟨hv, brY (by decide) ?_⟩)⟩⟩))
                rw [nI_clamp (n := k) (by omega), nI_clamp (n := m) (by omega)]
                refine z6 (nI m) ⟨rfl, fin q _ hq (fun M hMq => ⟨hm, Or.inl ⟨t2, _, hMq, fun j hj => ?_⟩⟩)⟩
                rw [t4 j (by omega)]
                exact ⟨rfl, rfl⟩
        · exact brN hz (y6 (brN (by decide) (brN hz ⟨rfl, hr⟩)))
    · exact isIn0_n hc (br0 (she_y6 ha' (br1 (isIn6_n hc (br0 ⟨rfl, hr⟩)))))
  · exact she_n0 ha (br0 (she_n6 ha (br0 ⟨rfl, hr⟩)))
theorem sh16 (v : Int32) : (v <<< ((16 : Int32) &&& 31)) >>> ((16 : Int32) &&& 31) = v.toInt16.toInt32 := by
  apply b_ext
  intro i hi
  have h1 := b_sshr 16 (by decide) (v <<< ((16 : Int32) &&& 31)) hi
  have h2 : ∀ {i}, i < 32 → bt (v <<< ((16 : Int32) &&& 31)) i = (decide (16 ≤ i) && bt v (i - 16)) := fun {i} hi => b_shl 16 (by decide) v hi
  have e16 : nI 16 = 16 := rfl
  rw [e16] at h1
  rw [h1]
  have h3 : bt (v.toInt16.toInt32) i = if i < 16 then bt v i else bt v 15 := by
    show (BitVec.signExtend 32 (BitVec.signExtend 16 v.toBitVec)).getLsbD i = _
    rw [BitVec.getLsbD_signExtend, BitVec.msb_eq_getLsbD_last, BitVec.getLsbD_signExtend, BitVec.getLsbD_signExtend]
    unfold bt
    by_cases h : i < 16
    · simp [h, hi]
    · simp [h, hi]
  rw [h3]
  by_cases h : i < 16
  · rw [if_pos (by omega), if_pos h, h2 (by omega)]
    simp
  · rw [if_neg (by omega), if_neg h, h2 (by omega)]
    simp
theorem s16 (v : Int32) : (v.toInt16.toInt32).toInt16.toInt32 = v.toInt16.toInt32 := by
  simp
theorem op_mark {V : CV} {T : TS} (hr : Rel V T) (a c z : Int32) : wX0_mark a c z V (fun r V1 => wX6_mark a c z T (fun r2 T2 => r = r2 ∧ Rel V1 T2)) := by
  unfold wX0_mark
  by_cases ha : inI a 0 3
  · have ha' := ha
    obtain ⟨k, hk, rfl⟩ := (in_lit (M := 3) (by omega)).mp ha
    have hv : vp_in (nI k) 4 := vp_in_nI (by omega) (by omega)
    refine she_y0 ha' (br1 ⟨hv, ?_⟩)
    rw [nI_clamp (by omega)]
    obtain ⟨ad, r, e1, e2, h⟩ := hr.2.2.2.2.2.1 k (by omega)
    rcases h with ⟨rfl, h4⟩ | ⟨row, m, rfl, h5, hR⟩
    · refine ⟨ad, e1, _, e2, thereN e2 (br0 (she_y6 ha' (br1 ⟨hv, ?_⟩)))⟩
      rw [h4]
      exact brN (by decide) ⟨rfl, hr⟩
    · refine ⟨ad, e1, _, e2, there0 e2 (br1 ⟨ad, e1, _, e2, size0 e2 hR ?_⟩)⟩
      have hm := hR.1
      have y6 : ∀ {Q : Int32 → TS → Prop}, (wX6_isIn c.toInt64 (0 : Int64) ((nI m - (1 : Int32)).toInt64) (fun r2 => (r2 = 0 → Q (-1000000013 : Int32) T) ∧ (¬ r2 = 0 → vp_in (nI k) 4 ∧ (((T.2 4 k) = 0 → (z = (-1000000005 : Int32) → Q (-1000000012 : Int32) T) ∧ (¬ z = (-1000000005 : Int32) → wX6_mark_63 (nI k) c z T Q)) ∧ (¬ (T.2 4 k) = 0 → wX6_mark_63 (nI k) c z T Q))))) → wX6_mark (nI k) c z T Q := by
        intro Q h
        refine she_y6 ha' (br1 ⟨hv, ?_⟩)
        rw [nI_clamp (by omega), h5]
        refine brY ?_ ⟨hv, h⟩
        rcases hR.2 with ⟨e, -⟩ | ⟨e, -⟩ <;> rw [e] <;> decide
      by_cases hc : inI c 0 (nI m - 1)
      · have hc' := hc
        obtain ⟨j, hj, rfl⟩ := (in_n (by omega) c).mp hc
        refine isIn0_y hc' (br1 ⟨ad, e1, ?_⟩)
        obtain ⟨e0, he0, hte⟩ := hR.tag
        have fin : ∀ (e' : va_E) (x : Int32), RowR (hset (vM V) row e') row (T.2 4 k) m (fun i => upd (T.2 6) (24 * k + j) x (24 * k + i)) → Rel (sM V (hset (vM V) row e')) (ts T 6 (24 * k + j) x) := by
          intro e' x h
          refine hr.row (k := k) (a := ad) (row := row) (n := m) (e' := e') ⟨rfl, rfl, rfl, rfl, rfl, rfl, rfl, rfl, rfl⟩ rfl ⟨rfl, fun i h1 h2 => ts_n h1⟩ (by omega) e1 e2 he0 hte rfl h5 ?_ (fun i hi => ?_)
          · rw [ts_s]
            exact h
          · rw [ts_s, upd_n (by omega)]
        have ux : ∀ (x : Int32) i, i < m → upd (T.2 6) (24 * k + j) x (24 * k + i) = if i = j then x else T.2 6 (24 * k + i) := fun x i hi => by
          by_cases e : i = j
          · subst e
            rw [upd_s, if_pos rfl]
          · rw [upd_n (by omega), if_neg e]
        have st6 : ∀ {Q : Int32 → TS → Prop} (x : Int32), Q 1 (ts T 6 (24 * k + j) x) → wX6_mark_126 x (((24 : Int32) * nI k) + nI j) T Q := by
          intro Q x h
          unfold wX6_mark_126
          rw [sl_x, nI_clamp (by omega)]
          exact ⟨vp_in_nI (by omega) (by omega), h⟩
        obtain ⟨h1, h2⟩ := id hR
        rcases h2 with ⟨so, f, hf, hg⟩ | ⟨so, f, hf, hg⟩
        · refine brI (fun e => ⟨_, e2, fl0 e2 hR ?_⟩) (fun e => ⟨_, e2, fl0 e2 hR ?_⟩)
          · rw [so]
            refine br0 (y6 (isIn6_y hc' (br1 ⟨hv, brY so (brY e ⟨rfl, hr⟩)⟩)))
          · rw [so]
            refine br0 ⟨_, e2, _, e2, fl0 e2 hR ?_⟩
            rw [so]
            refine br0 ⟨_, e2, row, rfl, m, f, hf, vp_in_nI hj (by omega), ?_⟩
            rw [nI_clamp (by omega), pk_vs]
            refine y6 (isIn6_y hc' (br1 ⟨hv, brY so (brN e ⟨hv, ?_⟩)⟩))
            rw [nI_clamp (by omega)]
            refine brN (by rw [so]; decide) ⟨hv, ?_⟩
            rw [nI_clamp (by omega)]
            refine brY so ?_
            rw [sh16]
            refine st6 _ ⟨rfl, fin _ _ ⟨h1, Or.inl ⟨so, _, hset_s _ _ _, fun i hi => ?_⟩⟩⟩
            rw [ux _ i hi]
            by_cases e3 : i = j
            · subst e3
              rw [upd_s, if_pos rfl]
              exact ⟨rfl, s16 z⟩
            · rw [upd_n e3, if_neg e3]
              exact hg i hi
        · have n0 : ¬ T.2 4 k = 0 := by rw [so]; decide
          refine brI (fun e => ⟨_, e2, fl0 e2 hR ?_⟩) (fun e => ⟨_, e2, fl0 e2 hR ?_⟩)
          · rw [so]
            refine br1 ⟨_, e2, row, rfl, m, f, hf, vp_in_nI hj (by omega), ?_⟩
            rw [nI_clamp (by omega)]
            refine y6 (isIn6_y hc' (br1 ⟨hv, brN n0 ⟨hv, ?_⟩⟩))
            rw [nI_clamp (by omega)]
            refine brY so (brY e ⟨hv, ?_⟩)
            rw [nI_clamp (by omega)]
            refine brN n0 (st6 _ ⟨rfl, fin _ _ ⟨h1, Or.inr ⟨so, _, hset_s _ _ _, fun i hi => ?_⟩⟩⟩)
            rw [ux _ i hi]
            unfold vf_upd
            by_cases e3 : i = j
            · rw [if_pos e3, if_pos e3]
              exact Or.inl ⟨e, rfl⟩
            · rw [if_neg e3, if_neg e3]
              exact hg i hi
          · rw [so]
            refine br1 ?_
            by_cases hz : inI z (-99999) 99999
            · refine isIn0_y hz (br1 ⟨_, e2, _, e2, fl0 e2 hR ?_⟩)
              rw [so]
              refine br1 ⟨_, e2, row, rfl, m, f, hf, vp_in_nI hj (by omega), ?_⟩
              rw [nI_clamp (by omega)]
              refine y6 (isIn6_y hc' (br1 ⟨hv, brN n0 ⟨hv, ?_⟩⟩))
              rw [nI_clamp (by omega)]
              refine brY so (brN e (isIn6_y hz (br1 ⟨hv, ?_⟩)))
              rw [nI_clamp (by omega)]
              refine brN n0 (st6 _ ⟨rfl, fin _ _ ⟨h1, Or.inr ⟨so, _, hset_s _ _ _, fun i hi => ?_⟩⟩⟩)
              rw [ux _ i hi]
              unfold vf_upd
              by_cases e3 : i = j
              · rw [if_pos e3, if_pos e3]
                exact Or.inr ⟨hz, rfl⟩
              · rw [if_neg e3, if_neg e3]
                exact hg i hi
            · refine isIn0_n hz (br0 (y6 (isIn6_y hc' (br1 ⟨hv, brN n0 ⟨hv, ?_⟩⟩))))
              rw [nI_clamp (by omega)]
              exact brY so (brN e (isIn6_n hz (br0 ⟨rfl, hr⟩)))
      · exact isIn0_n hc (br0 (y6 (isIn6_n hc (br0 ⟨rfl, hr⟩))))
  · exact she_n0 ha (br0 (she_n6 ha (br0 ⟨rfl, hr⟩)))
theorem bold_set {V : CV} {T : TS} {n dn tn p ad kn : Nat} {b0 : Int32} (hr : Rel V T) (h0 : RS V 0 (T.2 0) n dn tn) (hp : p < n) (g1 : kn ≤ 5) (g2 : T.2 0 (6 + 5 * p) = nI kn) (g3 : vSp V 0 p = some ad) (g4 : vM V ad = some (eSp (7 + kn) b0)) (b : Int32) : Rel (sM V (hset (vM V) ad (eSp (7 + kn) b))) (ts T 0 (6 + 5 * p + 1) b) ∧ RS (sM V (hset (vM V) ad (eSp (7 + kn) b))) 0 ((ts T 0 (6 + 5 * p + 1) b).2 0) n dn tn := by
  have hn := h0.1.1
  have hM : ∀ a e, vM V a = some e → ¬ spE e → vM (sM V (hset (vM V) ad (eSp (7 + kn) b))) a = some e := fun a e h hne => by
    show hset (vM V) ad (eSp (7 + kn) b) a = some e
    rw [hset_n (fun q => by subst q; exact hne ⟨kn, _, g1, Option.some.inj (h.symm.trans g4)⟩)]
    exact h
  have hRS : RS (sM V (hset (vM V) ad (eSp (7 + kn) b))) 0 ((ts T 0 (6 + 5 * p + 1) b).2 0) n dn tn := by
    rw [ts_s]
    refine RS_per h0 (fun j hj => upd_n (by omega)) rfl rfl rfl hM (fun p' hp' => ?_) (fun p' hp' => ?_) (fun p' hp' => ?_)
    · rw [upd_n (by omega)]
      by_cases hpp : p' = p
      · subst hpp
        rw [upd_s]
        exact ⟨ad, kn, g1, g2, g3, hset_s _ _ _⟩
      · rw [upd_n (by omega)]
        obtain ⟨ad', kn', f1, f2, f3, f4⟩ := h0.2.2.2.2.2.2.1 p' hp'
        refine ⟨ad', kn', f1, f2, f3, (hset_n (fun q => ?_)).trans f4⟩
        subst q
        exact hpp (hr.2.2.2.2.2.2.2.2.1 0 p' 0 p ad' (by decide) (by omega) (by decide) (by omega) f3 g3).2
    · rw [upd_n (by omega), upd_n (by omega), upd_n (by omega)]
      exact h0.2.2.2.2.2.2.2.1 p' hp'
    · obtain ⟨f1, f2, f3⟩ := h0.2.2.2.2.2.2.2.2.1 p' hp'
      rw [upd_n (by omega), upd_n (by omega)]
      exact ⟨f1, f2, fun q hq => by rw [upd_n (by omega)]; exact f3 q hq⟩
  refine ⟨hr.st0 restV_M restT_ts (fun x e h => ?_) (fun p' hp' x h => Or.inl h) (fun p1 p2 x h1 h2 hx h _ => ?_) (fun t x ht h => ?_) ⟨n, dn, tn, hRS⟩, hRS⟩
  · by_cases hx : x = ad
    · subst hx
      exact Or.inr ⟨p, by omega, g3, _, hset_s _ _ _, kn, b, g1, rfl⟩
    · exact Or.inl ((hset_n hx).trans h)
  · obtain ⟨kn', b', -, q⟩ := hr.2.2.2.2.2.2.2.1 0 p1 x (by decide) h1 h
    rw [hx] at q
    cases q
  · obtain ⟨x1, x2, x3, q⟩ := hr.2.2.2.2.2.2.2.2.2.2.2.1 0 t x (by decide) ht h
    exact ⟨x1, x2, x3, hM _ _ q ns_tx⟩
theorem pour_both {q n m : Nat} (hq : q < 4) (hn : n ≤ 12) (hm : m ≤ 24) : ∀ j k, k + j = min n m → ∀ (T : TS) (acc : Int32), T.2 0 0 = nI n → T.2 5 q = nI m → T.2 4 q ≠ -1 → ∃ r T', (∀ (Q : Int32 → TS → Prop), Q r T' → wX6_pour_27 Q (j + 1) (nI q) acc (nI k) T) ∧ ∀ (V : CV) (dn tn ad : Nat), Rel V T → RS V 0 (T.2 0) n dn tn → vSh V q = some ad → ∀ (Q : Int32 → CV → Prop), (∀ V', Rel V' T' → Q r V') → wX0_pour_33 Q (j + 1) (some ad) acc (nI k) V := by
  have hv : vp_in (nI q) 4 := vp_in_nI hq (by omega)
  have row : ∀ {V : CV} {T : TS} {ad : Nat}, Rel V T → T.2 5 q = nI m → T.2 4 q ≠ -1 → vSh V q = some ad → ∃ row, vM V ad = some (eSh (some row)) ∧ RowR (vM V) row (T.2 4 q) m (fun j => T.2 6 (24 * q + j)) := by
    intro V T ad hr h5 h4 hs
    obtain ⟨ad', r, e1, e2, h⟩ := hr.2.2.2.2.2.1 q hq
    cases hs.symm.trans e1
    rcases h with ⟨-, h⟩ | ⟨row, m', rfl, g1, g2⟩
    · exact absurd h h4
    · have : m' = m := by
        have := g2.1
        exact (nI_eq (a := m') (b := m) (by omega) (by omega)).mp (g1.symm.trans h5)
      subst this
      exact ⟨row, e2, g2⟩
  intro j
  induction j with
  | zero =>
    intro k hk T acc h0 h5 h4
    refine ⟨acc, T, fun Q h => ?_, fun V dn tn ad hr hR hs Q h => ?_⟩
    · unfold wX6_pour_27
      rw [nI_clamp (by omega), h5]
      refine ⟨hv, ?_⟩
      by_cases hkm : m ≤ k
      · exact brY (nI_le hkm (by omega)) h
      · refine brN (nI_ge (by omega) (by omega)) ⟨pk_in 0 3114 (by omega), ?_⟩
        rw [show T.2 0 (0 : Int32).toNatClampNeg = nI n from h0]
        exact brY (nI_le (by omega) (by omega)) h
    · unfold wX0_pour_33
      rw [hR.n0.1]
      by_cases hkn : n ≤ k
      · exact brY (nI_le hkn (by omega)) (h V hr)
      · obtain ⟨rw', g1, g2⟩ := row hr h5 h4 hs
        exact brN (nI_ge (by omega) (by omega)) ⟨ad, rfl, _, g1, size0 g1 g2 (brY (nI_le (by omega) (by omega)) (h V hr))⟩
  | succ j ih =>
    intro k hk T acc h0 h5 h4
    have hkn : k < n := by omega
    have hkm : k < m := by omega
    obtain ⟨v, hvv⟩ : ∃ v, v = if T.2 6 (24 * q + k) = cNONE then T.2 0 (6 + 5 * k + 1) else wi (T.2 6 (24 * q + k)) 100 := ⟨_, rfl⟩
    obtain ⟨r, T', i6, i0⟩ := ih (k + 1) (by omega) (ts T 0 (6 + 5 * k + 1) v) (acc + if T.2 0 (6 + 5 * k + 1) = v then 0 else 1) (by rw [ts_s, upd_n (by omega)]; exact h0) (by rw [ts_n (by decide)]; exact h5) (by rw [ts_n (by decide)]; exact h4)
    refine ⟨r, T', fun Q h => ?_, fun V dn tn ad hr hR hs Q h => ?_⟩
    · have nx : wX6_pour_87 (fun z0 z1 z2 z3 => wX6_pour_27 Q (j + 1) z0 z1 z2 z3) (nI q) acc (nI k) v T Q := by
        unfold wX6_pour_87
        refine bec6 (6 + 5 * k + 1) (of_1 k) (by omega) ?_
        have := i6 Q h
        by_cases e : T.2 0 (6 + 5 * k + 1) = v
        · rw [if_pos e] at this
          refine brY e ?_
          unfold wX6_pour_114
          rw [nI_1]
          exact this
        · rw [if_neg e] at this
          refine brN e ?_
          unfold wX6_pour_114
          rw [nI_1]
          exact this
      unfold wX6_pour_27
      rw [sl_x, nI_clamp (n := q) (by omega), nI_clamp (n := 24 * q + k) (by omega), h5]
      refine ⟨hv, brN (nI_ge hkm (by omega)) ⟨pk_in 0 3114 (by omega), ?_⟩⟩
      rw [show T.2 0 (0 : Int32).toNatClampNeg = nI n from h0]
      refine brN (nI_ge hkn (by omega)) ⟨vp_in_nI (by omega) (by omega), of6 1 (by omega) (by omega) ?_⟩
      by_cases e : T.2 6 (24 * q + k) = cNONE
      · rw [if_pos e] at hvv
        rw [hvv] at nx
        exact brY e nx
      · rw [if_neg e] at hvv
        rw [hvv] at nx
        exact brN e (wi6 nx)
    · obtain ⟨rw', g1, g2⟩ := row hr h5 h4 hs
      obtain ⟨sp, kn, s1, s2, s3, s4⟩ := hR.2.2.2.2.2.2.1 k hkn
      have hsp : isSpk (7 + kn) := ⟨by omega, by omega⟩
      have hvk : vp_in (nI k) 12 := vp_in_nI (by omega) (by omega)
      obtain ⟨b1, b2⟩ := bold_set hr hR hkn s1 s2 s3 s4 v
      have nx : wX0_pour_105 (fun z0 z1 z2 z3 => wX0_pour_33 Q (j + 1) z0 z1 z2 z3) (some ad) acc (nI k) (T.2 0 (6 + 5 * k + 1)) v (some sp) V Q := by
        refine ⟨sp, rfl, 7 + kn, _, hsp, s4, hvk, ?_⟩
        rw [nI_clamp (by omega)]
        refine ⟨sp, s3, 7 + kn, v, hsp, hset_s _ _ _, ?_⟩
        have := i0 _ dn tn ad b1 b2 hs Q h
        by_cases e : T.2 0 (6 + 5 * k + 1) = v
        · rw [if_pos e] at this
          refine brY e.symm ?_
          unfold wX0_pour_132
          rw [nI_1]
          exact this
        · rw [if_neg e] at this
          refine brN (fun q => e q.symm) ?_
          unfold wX0_pour_132
          rw [nI_1]
          exact this
      unfold wX0_pour_33
      rw [hR.n0.1]
      refine brN (nI_ge hkn (by omega)) ⟨ad, rfl, _, g1, size0 g1 g2 (brN (nI_ge hkm (by omega)) ⟨hvk, ?_⟩)⟩
      rw [nI_clamp (by omega), s3]
      refine ⟨sp, rfl, 7 + kn, _, hsp, s4, hvk, ad, rfl, _, g1, num0 g1 g2 hkm ?_⟩
      by_cases e : T.2 6 (24 * q + k) = cNONE
      · rw [if_pos e] at hvv
        rw [hvv] at nx
        rw [if_pos e]
        exact br0 nx
      · rw [if_neg e] at hvv
        rw [hvv] at nx
        rw [if_neg e]
        exact br1 ⟨ad, rfl, _, g1, at0 g1 g2 hkm e (wi0 (by decide) nx)⟩
theorem op_pour {V : CV} {T : TS} (hr : Rel V T) (a : Int32) : wX0_pour a V (fun r V1 => wX6_pour a T (fun r2 T2 => r = r2 ∧ Rel V1 T2)) := by
  obtain ⟨n, dn, tn, h0⟩ := hr.1
  unfold wX0_pour wX6_pour
  by_cases ha : inI a 0 3
  · have ha' := ha
    obtain ⟨q, hq, rfl⟩ := (in_lit (M := 3) (by omega)).mp ha
    have hv : vp_in (nI q) 4 := vp_in_nI (by omega) (by omega)
    refine she_y0 ha' (br1 ⟨hv, ?_⟩)
    rw [nI_clamp (by omega)]
    obtain ⟨ad, r, e1, e2, h⟩ := hr.2.2.2.2.2.1 q (by omega)
    rcases h with ⟨rfl, h4⟩ | ⟨row, m, rfl, h5, hR⟩
    · refine ⟨ad, e1, _, e2, thereN e2 (br0 (she_y6 ha' (br1 ⟨hv, ?_⟩)))⟩
      rw [h4]
      exact brN (by decide) ⟨rfl, hr⟩
    · refine ⟨ad, e1, _, e2, there0 e2 (br1 ?_)⟩
      have h4 : (0 : Int32) ≤ T.2 4 q := by
        rcases hR.2 with ⟨e, -⟩ | ⟨e, -⟩ <;> rw [e] <;> decide
      have h4' : T.2 4 q ≠ -1 := by
        rcases hR.2 with ⟨e, -⟩ | ⟨e, -⟩ <;> rw [e] <;> decide
      obtain ⟨r, T', p6, p0⟩ := pour_both (q := q) (n := n) (m := m) (by omega) h0.1.1 hR.1 (min n m) 0 (by omega) T 0 h0.n0.2 h5 h4'
      rw [e1]
      refine ⟨min n m + 1, p0 V dn tn ad hr h0 e1 _ (fun V' hV' => ?_)⟩
      refine she_y6 ha' (br1 ⟨hv, ?_⟩)
      exact brY h4 ⟨min n m + 1, p6 _ ⟨rfl, hV'⟩⟩
  · exact she_n0 ha (br0 (she_n6 ha (br0 ⟨rfl, hr⟩)))
