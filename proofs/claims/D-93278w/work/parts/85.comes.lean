set_option maxRecDepth 100000
def drawX (T : TS) : Int32 := T.2 0 4 * 1103515245 + 12345
def drawT (T : TS) : TS := ts T 0 4 (drawX T)
def drawR (T : TS) : Int32 := ((drawX T).toUInt32 >>> ((8 : Int32).toUInt32 &&& Int32.toUInt32 31)).toInt32
theorem draw6 {T : TS} {Q : Int32 → TS → Prop} (hq : Q (drawR T) (drawT T)) : wX6_drawn T Q := by
  refine ⟨pk_in 4 3114 (by omega), pk_in 4 3114 (by omega), pk_in 4 3114 (by omega), ?_⟩
  show Q (((ts T 0 4 (drawX T)).2 0 4).toUInt32 >>> _).toInt32 (drawT T)
  rw [ts_s, upd_s]
  exact hq
theorem draw0 {V : CV} {T : TS} {n dn tn : Nat} (hr : Rel V T) (h0 : RS V 0 (T.2 0) n dn tn) {Q : Int32 → CV → Prop} (hq : ∀ V', Rel V' (drawT T) → RS V' 0 ((drawT T).2 0) n dn tn → Q (drawR T) V') : wX1_draw 0 V Q := by
  have e : vS V 0 0 = T.2 0 4 := h0.2.2.2.2.2.1
  have hR : RS (sS V 0 0 (vS V 0 0 * 1103515245 + 12345)) 0 ((drawT T).2 0) n dn tn := by
    unfold drawT drawX
    rw [ts_s, e]
    exact RS_seed h0 _
  refine ⟨by decide, ?_⟩
  have : vS (sS V 0 0 (vS V 0 0 * 1103515245 + 12345)) 0 0 = drawX T := by simp [cvs, e, drawX]
  rw [this]
  exact hq _ (hr.st0s restV_S restT_ts rfl rfl rfl ⟨n, dn, tn, hR⟩) hR
theorem drawR_n (T : TS) : ∃ k : Nat, k < 2 ^ 24 ∧ drawR T = nI k := by
  unfold drawR
  generalize drawX T = y
  have h1 := pk_ushr y 8 8 (by decide +kernel)
  refine ⟨y.toBitVec.toNat / 2 ^ 8, ?_, ?_⟩
  · have := y.toBitVec.isLt
    omega
  · apply Int32.toBitVec_inj.mp
    apply BitVec.eq_of_toNat_eq
    rw [h1, pk_tn (by have := y.toBitVec.isLt; omega)]
theorem drawT_0 (T : TS) {j : Nat} (h : j ≠ 4) : (drawT T).2 0 j = T.2 0 j := by
  unfold drawT
  rw [ts_s, upd_n h]
/-! ===== a person comes ===== -/
def setD (V : CV) (F : Nat → Nat → Nat → Int32) : CV := (V.1, V.2.1, V.2.2.1, V.2.2.2.1, V.2.2.2.2.1, V.2.2.2.2.2.1, V.2.2.2.2.2.2.1, V.2.2.2.2.2.2.2.1, F, V.2.2.2.2.2.2.2.2.2)
theorem comes_loop {V : CV} {n dn : Nat} {Q : Int32 → CV → Prop} (h : vS V 0 7 = nI dn) (hdn : dn ≤ 8) : ∀ k, k ≤ dn → ∀ F, Q (nI n) (setD V (fun i d j => if i = 0 ∧ (dn - k ≤ d ∧ d < dn) ∧ j = 3 then F i d j ||| one n else F i d j)) → wX0_comes_86 Q (k + 1) (nI n) (nI (dn - k)) (setD V F) := by
  intro k
  induction k with
  | zero =>
    intro _ F hq
    show ((vS V 0 7) ≤ _ → _) ∧ (¬ (vS V 0 7) ≤ _ → _)
    rw [h]
    refine brY (nI_le (a := dn) (b := dn - 0) (by omega) (by omega)) ?_
    have e : (fun i d j => if i = 0 ∧ (dn - 0 ≤ d ∧ d < dn) ∧ j = 3 then F i d j ||| one n else F i d j) = F := by
      funext i d j
      exact if_neg (by omega)
    rw [e] at hq
    exact hq
  | succ k ih =>
    intro hk F hq
    show ((vS V 0 7) ≤ _ → _) ∧ (¬ (vS V 0 7) ≤ _ → _)
    rw [h]
    refine brN (nI_ge (by omega) (by omega)) ⟨vp_in_nI (by omega) (by omega), ?_⟩
    rw [nI_clamp (by omega)]
    have e1 : nI (dn - (k + 1)) + 1 = nI (dn - k) := by rw [nI_1]; congr 1; omega
    rw [e1]
    refine ih (by omega) (fun i' d' k' => if i' = 0 ∧ d' = dn - (k + 1) ∧ k' = 3 then F 0 (dn - (k + 1)) 3 ||| one n else F i' d' k') ?_
    have e : (fun i d j => if i = 0 ∧ (dn - k ≤ d ∧ d < dn) ∧ j = 3 then (if i = 0 ∧ d = dn - (k + 1) ∧ j = 3 then F 0 (dn - (k + 1)) 3 ||| one n else F i d j) ||| one n else (if i = 0 ∧ d = dn - (k + 1) ∧ j = 3 then F 0 (dn - (k + 1)) 3 ||| one n else F i d j)) = (fun i d j => if i = 0 ∧ (dn - (k + 1) ≤ d ∧ d < dn) ∧ j = 3 then F i d j ||| one n else F i d j) := by
      funext i d j
      by_cases h1 : i = 0 ∧ d = dn - (k + 1) ∧ j = 3
      · obtain ⟨rfl, rfl, rfl⟩ := h1
        rw [if_neg (by omega), if_pos ⟨rfl, rfl, rfl⟩, if_pos (by omega)]
      · rw [if_neg h1]
        by_cases h2 : i = 0 ∧ (dn - k ≤ d ∧ d < dn) ∧ j = 3
        · rw [if_pos h2, if_pos (by omega)]
        · rw [if_neg h2, if_neg (by omega)]
    rw [e]
    exact hq
def comeX (X : Nat → Int32) (n kn : Nat) (b w : Int32) : Nat → Int32 := fun j => if j = 0 then nI (n + 1) else if j = 6 + 5 * n then nI kn else if j = 6 + 5 * n + 1 then b else if j = 6 + 5 * n + 2 then w else if j = 6 + 5 * n + 3 then 0 else if j = 6 + 5 * n + 4 then 0 else X j
theorem comeX_o {X : Nat → Int32} {n kn : Nat} {b w : Int32} {j : Nat} (h0 : j ≠ 0) (h : j < 6 + 5 * n ∨ 6 + 5 * n + 5 ≤ j) : comeX X n kn b w j = X j := by
  unfold comeX
  rw [if_neg h0, if_neg (by omega), if_neg (by omega), if_neg (by omega), if_neg (by omega), if_neg (by omega)]
def comeT (T : TS) (n kn : Nat) (b w : Int32) : TS := (T.1, va_up T.2 0 (comeX (T.2 0) n kn b w))
theorem ts5 (T : TS) (n kn : Nat) (b w : Int32) (h : T.2 0 0 = nI n) : ts (ts (ts (ts (ts (ts T 0 (6 + 5 * n) (nI kn)) 0 (6 + 5 * n + 1) b) 0 (6 + 5 * n + 2) w) 0 (6 + 5 * n + 3) 0) 0 (6 + 5 * n + 4) 0) 0 0 ((ts (ts (ts (ts (ts T 0 (6 + 5 * n) (nI kn)) 0 (6 + 5 * n + 1) b) 0 (6 + 5 * n + 2) w) 0 (6 + 5 * n + 3) 0) 0 (6 + 5 * n + 4) 0).2 0 0 + 1) = comeT T n kn b w := by
  have e : (ts (ts (ts (ts (ts T 0 (6 + 5 * n) (nI kn)) 0 (6 + 5 * n + 1) b) 0 (6 + 5 * n + 2) w) 0 (6 + 5 * n + 3) 0) 0 (6 + 5 * n + 4) 0).2 0 0 = nI n := by
    rw [ts_s, ts_s, ts_s, ts_s, ts_s, upd_n (by omega), upd_n (by omega), upd_n (by omega), upd_n (by omega), upd_n (by omega), h]
  rw [e, nI_1]
  refine Prod.ext rfl ?_
  funext k
  show _ = va_up T.2 0 _ k
  by_cases hk : k = 0
  · subst hk
    rw [ts_s, ts_s, ts_s, ts_s, ts_s, ts_s]
    show _ = if 0 = 0 then _ else _
    rw [if_pos rfl]
    funext j
    by_cases h0 : j = 0
    · subst h0
      rw [upd_s]
      exact (if_pos rfl).symm
    · rw [upd_n h0]
      unfold comeX
      rw [if_neg h0]
      by_cases h5 : j = 6 + 5 * n + 4
      · rw [if_neg (by omega), if_neg (by omega), if_neg (by omega), if_neg (by omega), if_pos h5, h5, upd_s]
      · rw [upd_n h5]
        by_cases h4 : j = 6 + 5 * n + 3
        · rw [if_neg (by omega), if_neg (by omega), if_neg (by omega), if_pos h4, h4, upd_s]
        · rw [upd_n h4]
          by_cases h3 : j = 6 + 5 * n + 2
          · rw [if_neg (by omega), if_neg (by omega), if_pos h3, h3, upd_s]
          · rw [upd_n h3]
            by_cases h2 : j = 6 + 5 * n + 1
            · rw [if_neg (by omega), if_pos h2, h2, upd_s]
            · rw [upd_n h2, if_neg h2, if_neg h3, if_neg h4, if_neg h5]
              by_cases h1 : j = 6 + 5 * n
              · rw [if_pos h1, h1, upd_s]
              · rw [upd_n h1, if_neg h1]
  · rw [ts_n hk, ts_n hk, ts_n hk, ts_n hk, ts_n hk, ts_n hk]
    show _ = if k = 0 then _ else _
    rw [if_neg hk]
theorem nI_l2 (a : Nat) : nI a + 2 = nI (a + 2) := nI_add a 2
theorem nI_l3 (a : Nat) : nI a + 3 = nI (a + 3) := nI_add a 3
theorem nI_l4 (a : Nat) : nI a + 4 = nI (a + 4) := nI_add a 4
theorem nI_l5 (a : Nat) : nI a + 5 = nI (a + 5) := nI_add a 5
theorem comes6 {T : TS} {n kn : Nat} {b w : Int32} {Q : TS → Prop} (h : T.2 0 0 = nI n) (hn : n < 12) (hq : Q (comeT T n kn b w)) : wX6_comes (nI kn) b w T Q := by
  unfold wX6_comes
  simp only [show (0 : Int32).toNatClampNeg = 0 from rfl, h, of_x, nI_1, nI_l2, nI_l3, nI_l4]
  rw [nI_clamp (show 6 + 5 * n < 2 ^ 31 by omega), nI_clamp (show 6 + 5 * n + 1 < 2 ^ 31 by omega), nI_clamp (show 6 + 5 * n + 2 < 2 ^ 31 by omega), nI_clamp (show 6 + 5 * n + 3 < 2 ^ 31 by omega), nI_clamp (show 6 + 5 * n + 4 < 2 ^ 31 by omega), ts5 T n kn b w h]
  exact ⟨pk_in 0 3114 (by omega), vp_in_nI (by omega) (by omega), vp_in_nI (by omega) (by omega), vp_in_nI (by omega) (by omega), vp_in_nI (by omega) (by omega), vp_in_nI (by omega) (by omega), pk_in 0 3114 (by omega), pk_in 0 3114 (by omega), hq⟩
theorem ev_or {n : Nat} {x : Int32} (hn : n < 12) (h : subn n x) : (ev n &&& cmpl x) ||| one n = ev (n + 1) &&& cmpl x := by
  apply b_ext
  intro i hi
  rw [b_or, b_and, b_and, b_cmpl _ hi, b_ev (by omega) hi, b_ev (by omega) hi, b_one (by omega) hi]
  by_cases h1 : i = n
  · subst h1
    rw [h i (Nat.le_refl _)]
    simp
  · by_cases h2 : i < n
    · simp [h1, h2, Nat.lt_succ_of_lt h2]
    · simp [h1, h2, show ¬ i < n + 1 by omega]
theorem comeT_0 (T : TS) (n kn : Nat) (b w : Int32) : (comeT T n kn b w).2 0 = comeX (T.2 0) n kn b w := rfl
theorem comes0 {V : CV} {T : TS} {n dn tn kn : Nat} {b w : Int32} (hr : Rel V T) (h0 : RS V 0 (T.2 0) n dn tn) (hn : n < 12) (hk : kn ≤ 5) {Q : Int32 → CV → Prop} (hq : ∀ V', Rel V' (comeT T n kn b w) → RS V' 0 ((comeT T n kn b w).2 0) (n + 1) dn tn → Q (nI n) V') : wX0_comes (nI kn) b w V Q := by
  have hnn := h0.n0.1
  have hin : vp_in (nI n) 12 := vp_in_nI hn (by omega)
  have hsp : isSpk (7 + kn) := ⟨by omega, by omega⟩
  refine spk_of hk (fun q hqn => ?_)
  rw [hnn, nI_clamp (by omega)]
  refine ⟨7 + kn, 0, hsp, hset_s _ _ _, hin, hin, q, by simp [cvs], 7 + kn, 0, hsp, hset_s _ _ _, hin, hin, hin, dn + 1, ?_⟩
  generalize hV3 : (sS (sSA (sSA (sSA (sM (sSp (sM V (hset (vM V) q (eSp (7 + kn) 0))) 0 n (some q)) (hset (vM (sSp (sM V (hset (vM V) q (eSp (7 + kn) 0))) 0 n (some q))) q (eSp (7 + kn) b))) 0 4 n w) 0 5 n 0) 0 6 n 0) 0 2 (vS (sSA (sSA (sSA (sM (sSp (sM V (hset (vM V) q (eSp (7 + kn) 0))) 0 n (some q)) (hset (vM (sSp (sM V (hset (vM V) q (eSp (7 + kn) 0))) 0 n (some q))) q (eSp (7 + kn) b))) 0 4 n w) 0 5 n 0) 0 6 n 0) 0 2 + 1)) = V3
  have hS7 : vS V3 0 7 = nI dn := by rw [← hV3]; simpa [cvs] using h0.d0.1
  have := comes_loop (V := V3) (n := n) (Q := Q) hS7 h0.1.2.1 dn (Nat.le_refl _) (vD V3)
  rw [Nat.sub_self] at this
  refine this ?_
  have hM : vM V3 = hset (vM V) q (eSp (7 + kn) b) := by rw [← hV3]; exact hset_hset _ _ _ _
  have hP : ∀ p', vSp V3 0 p' = if p' = n then some q else vSp V 0 p' := fun p' => by rw [← hV3]; simp [cvs]
  have hTx : vTx V3 0 = vTx V 0 := by rw [← hV3]; rfl
  have hD : vD V3 = vD V := by rw [← hV3]; rfl
  have hS : ∀ k, vS V3 0 k = if k = 2 then nI (n + 1) else vS V 0 k := fun k => by
    rw [← hV3]
    by_cases h : k = 2
    · subst h
      rw [if_pos rfl, ← nI_1, ← hnn]
      simp [cvs]
    · simp [cvs, h]
  have hA : ∀ k j, vSA V3 0 k j = if k = 6 ∧ j = n then 0 else if k = 5 ∧ j = n then 0 else if k = 4 ∧ j = n then w else vSA V 0 k j := fun k j => by rw [← hV3]; simp [cvs]
  have hrest : restV V V3 := by
    rw [← hV3]
    exact (((((restV_M.tr restV_Sp).tr restV_M).tr restV_SA).tr restV_SA).tr restV_SA).tr restV_S
  clear hV3
  generalize hV4 : setD V3 (fun i d j => if i = 0 ∧ (0 ≤ d ∧ d < dn) ∧ j = 3 then vD V3 i d j ||| one n else vD V3 i d j) = V4
  have hM4 : vM V4 = vM V3 := by rw [← hV4]; rfl
  have hP4 : vSp V4 0 = vSp V3 0 := by rw [← hV4]; rfl
  have hTx4 : vTx V4 0 = vTx V3 0 := by rw [← hV4]; rfl
  have hS4 : vS V4 0 = vS V3 0 := by rw [← hV4]; rfl
  have hA4 : vSA V4 0 = vSA V3 0 := by rw [← hV4]; rfl
  have hD4 : ∀ d j, d < dn → vD V4 0 d j = if j = 3 then vD V 0 d 3 ||| one n else vD V 0 d j := fun d j hd => by
    rw [← hV4]
    show (if 0 = 0 ∧ (0 ≤ d ∧ d < dn) ∧ j = 3 then vD V3 0 d j ||| one n else vD V3 0 d j) = _
    rw [hD]
    by_cases h : j = 3
    · subst h
      rw [if_pos ⟨rfl, ⟨Nat.zero_le _, hd⟩, rfl⟩, if_pos rfl]
    · rw [if_neg (by omega), if_neg h]
  have hrest4 : restV V V4 := hrest.tr (by
    rw [← hV4]
    refine ⟨rfl, rfl, rfl, rfl, rfl, rfl, rfl, rfl, fun i hi => ⟨rfl, rfl, rfl, rfl, ?_⟩⟩
    funext d j
    exact if_neg (by omega))
  clear hV4
  have hR : RS V4 0 ((comeT T n kn b w).2 0) (n + 1) dn tn := by
    rw [comeT_0]
    obtain ⟨h1, h2, h3, h4, h5, h6, h7, h8, h9, h10, h11, h12⟩ := h0
    refine ⟨⟨by omega, h1.2⟩, ?_, ?_, ?_, ?_, ?_, fun p hp => ?_, fun p hp => ?_, fun p hp => ?_, fun d hd => ?_, fun d hd => ?_, fun t ht => ?_⟩
    · rw [hS4, hS, if_pos rfl]
      exact ⟨rfl, if_pos rfl⟩
    · rw [hS4, hS, if_neg (by omega), comeX_o (by omega) (by omega)]; exact h3
    · rw [hS4, hS, if_neg (by omega), comeX_o (by omega) (by omega)]; exact h4
    · rw [hS4, hS, if_neg (by omega), comeX_o (by omega) (by omega)]; exact h5
    · rw [hS4, hS, if_neg (by omega), comeX_o (by omega) (by omega)]; exact h6
    · by_cases hpn : p = n
      · subst hpn
        refine ⟨q, kn, hk, ?_, ?_, ?_⟩
        · unfold comeX; rw [if_neg (by omega), if_pos rfl]
        · rw [hP4, hP, if_pos rfl]
        · rw [hM4, hM, hset_s]
          unfold comeX
          rw [if_neg (by omega), if_neg (by omega), if_pos rfl]
      · obtain ⟨a', kn', f1, f2, f3, f4⟩ := h7 p (by omega)
        rw [comeX_o (by omega) (by omega), comeX_o (by omega) (by omega)]
        exact ⟨a', kn', f1, f2, by rw [hP4, hP, if_neg hpn]; exact f3, by rw [hM4, hM]; exact new_keep hqn f4⟩
    · rw [hA4, hA, hA, hA]
      by_cases hpn : p = n
      · subst hpn
        unfold comeX
        refine ⟨?_, ?_, ?_⟩
        · rw [if_neg (by omega), if_neg (by omega), if_pos ⟨rfl, rfl⟩, if_neg (by omega), if_neg (by omega), if_neg (by omega), if_pos rfl]
        · rw [if_neg (by omega), if_pos ⟨rfl, rfl⟩, if_neg (by omega), if_neg (by omega), if_neg (by omega), if_neg (by omega), if_pos rfl]
        · rw [if_pos ⟨rfl, rfl⟩, if_neg (by omega), if_neg (by omega), if_neg (by omega), if_neg (by omega), if_neg (by omega), if_pos rfl]
      · rw [if_neg (by omega), if_neg (by omega), if_neg (by omega), if_neg (by omega), if_neg (by omega), if_neg (by omega), if_neg (by omega), if_neg (by omega), if_neg (by omega), comeX_o (by omega) (by omega), comeX_o (by omega) (by omega), comeX_o (by omega) (by omega)]
        exact h8 p (by omega)
    · have hz3 : comeX (T.2 0) n kn b w (6 + 5 * n + 3) = 0 := by
        unfold comeX
        rw [if_neg (by omega), if_neg (by omega), if_neg (by omega), if_neg (by omega), if_pos rfl]
      have hz4 : comeX (T.2 0) n kn b w (6 + 5 * n + 4) = 0 := by
        unfold comeX
        rw [if_neg (by omega), if_neg (by omega), if_neg (by omega), if_neg (by omega), if_neg (by omega), if_pos rfl]
      by_cases hpn : p = n
      · subst hpn
        rw [hz3, hz4]
        refine ⟨subn_0, subn_0, fun i hi => ?_⟩
        rw [b_0]
        by_cases hip : i = p
        · subst hip
          rw [hz3, b_0]
        · rw [comeX_o (by omega) (by omega)]
          exact ((h9 i (by omega)).1 p (Nat.le_refl _)).symm
      · obtain ⟨f1, f2, f3⟩ := h9 p (by omega)
        rw [comeX_o (by omega) (by omega), comeX_o (by omega) (by omega)]
        refine ⟨subn_up f1 (by omega), subn_up f2 (by omega), fun i hi => ?_⟩
        by_cases hip : i = n
        · subst hip
          rw [hz3, b_0]
          exact f1 i (Nat.le_refl _)
        · rw [comeX_o (by omega) (by omega)]
          exact f3 i (by omega)
    · obtain ⟨f0, f1, f2, f3, f4, f5⟩ := h10 d hd
      have g := h11 d hd
      rw [hD4 d 0 hd, hD4 d 1 hd, hD4 d 2 hd, hD4 d 3 hd, hD4 d 4 hd, hD4 d 5 hd, if_neg (by omega), if_neg (by omega), if_neg (by omega), if_pos rfl, if_neg (by omega), if_neg (by omega), comeX_o (by omega) (by omega), comeX_o (by omega) (by omega), comeX_o (by omega) (by omega), comeX_o (by omega) (by omega), comeX_o (by omega) (by omega), comeX_o (by omega) (by omega)]
      exact ⟨f0, f1, f2, by rw [f3]; exact ev_or hn g.2.2, f4, f5⟩
    · obtain ⟨f0, f1, f2⟩ := h11 d hd
      rw [comeX_o (by omega) (by omega), comeX_o (by omega) (by omega), comeX_o (by omega) (by omega)]
      exact ⟨subn_up f0 (by omega), f1, subn_up f2 (by omega)⟩
    · rw [hTx4, hTx]
      exact ((h12 t ht).X (by omega) (fun j hj => comeX_o (by omega) (by omega))).keep (fun x e h _ => by rw [hM4, hM]; exact new_keep hqn h)
  refine hq V4 (hr.st0 hrest4 ⟨rfl, rfl, rfl, fun k hk => if_neg (by omega)⟩ (fun x e h => Or.inl (by rw [hM4, hM]; exact new_keep hqn h)) (fun p' hp' x h => ?_) (fun p1 p2 x h1 h2 hx h h' => ?_) (fun t x ht h => ?_) ⟨n + 1, dn, tn, hR⟩) hR
  · rw [hP4, hP] at h
    by_cases hpp : p' = n
    · rw [if_pos hpp] at h
      cases h
      exact Or.inr ⟨hqn, _, by rw [hM4, hM]; exact hset_s _ _ _, kn, _, hk, rfl⟩
    · rw [if_neg hpp] at h
      exact Or.inl h
  · have hs : ∀ p', p' < 12 → vSp V 0 p' ≠ some x := fun p' hp' e => by
      obtain ⟨kn', b', -, q⟩ := hr.2.2.2.2.2.2.2.1 0 p' x (by decide) hp' e
      rw [hx] at q
      cases q
    rw [hP4, hP] at h h'
    by_cases e1 : p1 = n
    · by_cases e2 : p2 = n
      · omega
      · rw [if_neg e2] at h'
        exact absurd h' (hs p2 h2)
    · rw [if_neg e1] at h
      exact absurd h (hs p1 h1)
  · rw [hTx4, hTx] at h
    obtain ⟨x1, x2, x3, g⟩ := hr.2.2.2.2.2.2.2.2.2.2.2.1 0 t x (by decide) ht h
    exact ⟨x1, x2, x3, by rw [hM4, hM]; exact new_keep hqn g⟩
theorem op_person {V : CV} {T : TS} (hr : Rel V T) (a b : Int32) : wX0_person a b V (fun r V1 => wX6_person a b T (fun r2 T2 => r = r2 ∧ Rel V1 T2)) := by
  obtain ⟨n, dn, tn, h0⟩ := hr.1
  have hn := h0.1.1
  unfold wX0_person wX6_person wX0_isBold
  by_cases ha : inI a 0 5
  · obtain ⟨kn, hkn, rfl⟩ := (in_lit (M := 5) (by decide)).mp ha
    refine isIn0_y ha (br1 ?_)
    by_cases hb : inI b 0 100
    · refine isIn0_y hb ⟨nar1, br1 ?_⟩
      rw [h0.n0.1]
      have h6 : ∀ {A B : Prop}, ((T.2 0 0 = 12 → A) ∧ (¬ T.2 0 0 = 12 → B)) ↔ ((n = 12 → A) ∧ (n ≠ 12 → B)) := by
        intro A B
        rw [h0.n0.2, show (12 : Int32) = nI 12 from rfl, nI_eq (by omega) (by omega)]
      refine pk_eq n 12 (fun e => ?_) (fun e => ?_)
      · refine isIn6_y ha (br1 (isIn6_y hb (br1 ⟨pk_in 0 3114 (by omega), ?_⟩)))
        exact h6.mpr ⟨fun _ => ⟨rfl, hr⟩, fun q => absurd e q⟩
      · refine comes0 hr h0 (by omega) hkn (fun V' hr' h0' => ?_)
        refine isIn6_y ha (br1 (isIn6_y hb (br1 ⟨pk_in 0 3114 (by omega), ?_⟩)))
        refine h6.mpr ⟨fun q => absurd q e, fun _ => comes6 h0.n0.2 (by omega) ⟨pk_in 0 3114 (by omega), ?_, hr'⟩⟩
        show nI n = (comeT T n kn b 0).2 0 0 - 1
        rw [h0'.n0.2, nI_pred]
    · exact isIn0_n hb ⟨nar0, br0 (isIn6_y ha (br1 (isIn6_n hb (br0 ⟨rfl, hr⟩))))⟩
  · exact isIn0_n ha (br0 (isIn6_n ha (br0 ⟨rfl, hr⟩)))
theorem deal_both (m : Nat) (hm : m ≤ 12) : ∀ (k j : Nat), j + k = m → ∀ (T : TS) (n : Nat), T.2 0 0 = nI n → n ≤ 12 → ∃ r T', (∀ (f : Nat) (Q : Int32 → TS → Prop), Q r T' → wX6_deal_17 Q (f + k + 1) (nI m) (nI j) T) ∧ ∀ (V : CV) (dn tn : Nat), Rel V T → RS V 0 (T.2 0) n dn tn → ∀ (f : Nat) (Q : Int32 → CV → Prop), (∀ V', Rel V' T' → Q r V') → wX0_deal_15 Q (f + k + 1) (nI m) (nI j) V := by
  intro k
  induction k with
  | zero =>
    intro j hj T n h hn
    refine ⟨nI j, T, fun f Q hq => ?_, fun V dn tn hr h0 f Q hq => ?_⟩
    · exact brY (nI_le (by omega) (by omega)) hq
    · exact brY (nI_le (by omega) (by omega)) (hq V hr)
  | succ k ih =>
    intro j hj T n h hn
    by_cases h12 : n = 12
    · subst h12
      refine ⟨nI j, T, fun f Q hq => ?_, fun V dn tn hr h0 f Q hq => ?_⟩
      · refine brN (nI_ge (by omega) (by omega)) ⟨pk_in 0 3114 (by omega), ?_⟩
        show ((12 : Int32) ≤ T.2 0 0 → _) ∧ (¬ (12 : Int32) ≤ T.2 0 0 → _)
        rw [h]
        exact brY (by decide) hq
      · refine brN (nI_ge (by omega) (by omega)) ?_
        rw [h0.n0.1]
        exact brY (by decide) (hq V hr)
    · obtain ⟨k1, hk1, e1⟩ := drawR_n T
      obtain ⟨k2, hk2, e2⟩ := drawR_n (drawT T)
      have hx4 : (drawT (drawT (drawT (drawT T)))).2 0 0 = nI n := by rw [drawT_0 _ (by omega), drawT_0 _ (by omega), drawT_0 _ (by omega), drawT_0 _ (by omega), h]
      have em : drawR T - drawR T / 6 * 6 = nI (k1 % 6) := by rw [e1]; exact pk_rem (d := 6) (by omega) (by omega) (by omega)
      obtain ⟨r, T', g1, g2⟩ := ih (j + 1) (by omega) (comeT (drawT (drawT (drawT (drawT T)))) n (k1 % 6) (drawR (drawT T) - drawR (drawT T) / 101 * 101) (drawR (drawT (drawT T)) &&& drawR (drawT (drawT (drawT T))))) (n + 1) (by rw [comeT_0]; exact if_pos rfl) (by omega)
      have ej : nI j + 1 = nI (j + 1) := nI_1 j
      refine ⟨r, T', fun f Q hq => ?_, fun V dn tn hr h0 f Q hq => ?_⟩
      · refine brN (nI_ge (by omega) (by omega)) ⟨pk_in 0 3114 (by omega), ?_⟩
        show ((12 : Int32) ≤ T.2 0 0 → _) ∧ (¬ (12 : Int32) ≤ T.2 0 0 → _)
        rw [h]
        refine brN (nI_ge (b := 12) (by omega) (by omega)) (draw6 (draw6 (draw6 (draw6 ?_))))
        rw [em, ej]
        refine comes6 hx4 (by omega) ?_
        have := g1 f Q hq
        rw [show f + (k + 1) = f + k + 1 by omega]
        exact this
      · refine brN (nI_ge (by omega) (by omega)) ?_
        rw [h0.n0.1]
        refine brN (nI_ge (b := 12) (by omega) (by omega)) (draw0 hr h0 (fun V1 hr1 r1 => draw0 hr1 r1 (fun V2 hr2 r2 => draw0 hr2 r2 (fun V3 hr3 r3 => draw0 hr3 r3 (fun V4 hr4 r4 => ?_)))))
        rw [em, ej]
        refine comes0 hr4 r4 (by omega) (by omega) (fun V5 hr5 r5 => ?_)
        have := g2 V5 dn tn hr5 r5 f Q hq
        rw [show f + (k + 1) = f + k + 1 by omega]
        exact this
theorem op_deal {V : CV} {T : TS} (hr : Rel V T) (a : Int32) : wX0_deal a V (fun r V1 => wX6_deal a T (fun r2 T2 => r = r2 ∧ Rel V1 T2)) := by
  obtain ⟨n, dn, tn, h0⟩ := hr.1
  have hn := h0.1.1
  unfold wX0_deal wX6_deal
  by_cases ha : inI a 1 12
  · have ha0 : inI a 0 (nI 12) := ⟨by have := ha.1; rw [i_le] at this ⊢; exact Int.le_trans (by decide) this, ha.2⟩
    obtain ⟨m, hm, rfl⟩ := (in_lit (M := 12) (by decide)).mp ha0
    obtain ⟨r, T', g1, g2⟩ := deal_both m hm m 0 (by omega) T n h0.n0.2 hn
    refine isIn0_y ha (br1 ?_)
    have := g2 V dn tn hr h0 (12 - m)
    rw [show 12 - m + m + 1 = 13 by omega] at this
    refine this _ (fun V' hr' => isIn6_y ha (br1 ⟨0 + m + 1, g1 0 _ ⟨rfl, hr'⟩⟩))
  · exact isIn0_n ha (br0 (isIn6_n ha (br0 ⟨rfl, hr⟩)))
