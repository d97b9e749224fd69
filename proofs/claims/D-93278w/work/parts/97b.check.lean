set_option maxRecDepth 100000
/-! ===== check ===== -/
/-- the component behind some rounds, its rows as before -/
def atW (V V' : CV) (X' : Nat → Int32) (n dn tn : Nat) : Prop := atV V V' X' n dn tn ∧ vA V' 24 = vA V 24
theorem atW.ev {V V' V'' : CV} {X : Nat → Int32} {n dn tn : Nat} (h : atW V V' X n dn tn) (e : evV V' V'') : atW V V'' X n dn tn := ⟨h.1.ev e, (e.a (by decide) (by decide)).trans h.2⟩
theorem ffW {V : CV} {X : Nat → Int32} {n dn tn : Nat} (h0 : RS V 0 X n dn tn) {Q : CV → Prop} (hq : ∀ V', sameV V V' → vA V' 24 = vA V 24 → FF V' X n → Q V') : wX0_findFollowers V Q := by
  have hn := h0.1.1
  have hJ : Jf (FX0 X) (fun j => if j < 12 then vSA V 0 6 j else vA V 16 j) n := by
    intro p hp
    have e : (if p < 12 then vSA V 0 6 p else vA V 16 p) = FX0 X p := by
      rw [if_pos (by omega)]
      exact (h0.2.2.2.2.2.2.2.1 p hp).2.2
    show sub (FX0 X p) (if p < 12 then vSA V 0 6 p else vA V 16 p) ∧ subn n (if p < 12 then vSA V 0 6 p else vA V 16 p) ∧ ∀ z, _ → _ → sub (if p < 12 then vSA V 0 6 p else vA V 16 p) z
    rw [e]
    exact ⟨sub_rf, (h0.2.2.2.2.2.2.2.2.1 p hp).2.1, fun z hz _ => hz⟩
  refine ⟨n * 4096 + 1 + 1, ff_out (F := FX0 X) h0.n0.1 hn (fun A hA => hq _ (sAA_same (by decide)) (by funext j; simp [cvs]) (fun p hp => ?_)) _ _ (by omega) hJ⟩
  rw [vA_sAA]
  exact (clo_is (hA p hp)).symm
theorem turnW {V V' : CV} {X : Nat → Int32} {n dn tn d p : Nat} (hat : atW V V' X n dn tn) (hp : p < n) (hd : d < dn) {k8 : Nat → Nat → Int32 → Int32 → CV → Prop} {Q : Int32 → CV → Prop} {l2 : Int32} (hk : ∀ V2, atW V V2 (turnX X n tn d p).1 n dn tn → k8 0 d (l2 + (turnX X n tn d p).2) (nI p + 1) V2) :
    wX1_draw 0 V' (fun r1 V2 => wX0_boldOf (nI p) 0 d V2 (fun r3 V4 => ((r1 - r1 / (100 : Int32) * (100 : Int32)) < r3 → wX0_choiceOf (nI p) 0 d V4 (fun r5 V6 => (r5 = (-1 : Int32) → wX0_round_68 k8 0 d l2 (nI p) V6 Q) ∧ (¬ r5 = (-1 : Int32) → wX0_saysOf 0 d r5 V6 (fun V8 => wX0_round_68 k8 0 d (l2 + (1 : Int32)) (nI p) V8 Q)))) ∧ (¬ (r1 - r1 / (100 : Int32) * (100 : Int32)) < r3 → wX0_round_68 k8 0 d l2 (nI p) V4 Q))) := by
  have h0 := hat.1.1
  have hn := h0.1.1
  have e4 : vS V' 0 0 = X 4 := h0.2.2.2.2.2.1
  have h1 : RS (sS V' 0 0 (X 4 * 1103515245 + 12345)) 0 (drX X) n dn tn := RS_seed h0 _
  have hat1 : atW V (sS V' 0 0 (X 4 * 1103515245 + 12345)) (drX X) n dn tn := ⟨⟨h1, hat.1.2.1.X rfl (fun i hi => dr_ne X (by omega)), hat.1.2.2.1.tr restV_S, hat.1.2.2.2.1, hat.1.2.2.2.2.1, hat.1.2.2.2.2.2⟩, hat.2⟩
  refine ⟨by decide, ?_⟩
  have er : vS (sS V' 0 0 (vS V' 0 0 * 1103515245 + 12345)) 0 0 = X 4 * 1103515245 + 12345 := by simp [cvs, e4]
  rw [er, e4]
  refine bold0 h1 hp hd (fun V4 hV4 => ?_)
  have hat4 := hat1.ev hV4
  unfold turnX at hk
  have hc : ∀ {A B : Prop} {x y : Int32}, ((y ≤ x → B) ∧ (¬ y ≤ x → A)) → ((x < y → A) ∧ (¬ x < y → B)) := fun h => ⟨fun q => h.2 (i_nle.mpr q), fun q => h.1 (i_nlt.mp q)⟩
  refine hc (brI (fun z => ?_) (fun z => ?_))
  · rw [if_pos (show boldX (drX X) n tn p d ≤ drV X - drV X / 100 * 100 from z)] at hk
    have := hk V4 hat4
    rw [Int32.add_zero] at this
    exact this
  · rw [if_neg (show ¬ boldX (drX X) n tn p d ≤ drV X - drV X / 100 * 100 from z)] at hk
    refine ch0 hat4.1.1 hat4.1.2.1 hp hd (fun V6 hV6 => ?_)
    have hat6 := hat4.ev hV6
    rcases chK_or _ _ _ _ _ _ with e | ⟨q, hq12, e⟩
    · have e' : chX (drX X) n tn p d = -1 := e
      rw [e', if_pos rfl] at hk
      rw [e']
      refine brY rfl ?_
      have := hk V6 hat6
      rw [Int32.add_zero] at this
      exact this
    · have e' : chX (drX X) n tn p d = nI q := e
      rw [e', if_neg (nI_m1 (by omega)), nI_clamp (by omega)] at hk
      rw [e']
      have hqn : q < n := chX_lt hn e'
      refine brN (nI_m1 (by omega)) (says0 hat6.1.1 hat6.1.2.1 hd hqn (gb_sX hat6.1.1 hqn) (fun V8 hR hrest hM hSp hTx hA _ _ _ => ?_))
      exact hk V8 ⟨⟨hR, hat6.1.2.1.X (by rw [hA]) (fun i hi => sayX_o (by omega)), hat6.1.2.2.1.tr hrest, hM.trans hat6.1.2.2.2.1, hSp.trans hat6.1.2.2.2.2.1, hTx.trans hat6.1.2.2.2.2.2⟩, by rw [hA]; exact hat6.2⟩
theorem rdW {V V' : CV} {X : Nat → Int32} {n dn tn d : Nat} (h0 : RS V' 0 X n dn tn) (hv : restV V V' ∧ vM V' = vM V ∧ vSp V' 0 = vSp V 0 ∧ vTx V' 0 = vTx V 0) (h24 : vA V' 24 = vA V 24) (hd : d < dn) {Q : Int32 → CV → Prop} (hQ : ∀ V2, atW V V2 (rdX X n tn d n).1 n dn tn → Q (rdX X n tn d n).2 V2) : wX0_round 0 d V' Q := by
  have hn := h0.1.1
  have hdn := h0.1.2.1
  refine ⟨by decide, by omega, ffW h0 (fun V1 hV1 h241 hf => ?_)⟩
  suffices H : ∀ r p, p + r = n → ∀ V2, atW V V2 (rdX X n tn d p).1 n dn tn → wX0_round_8 Q (r + 1) 0 d (rdX X n tn d p).2 (nI p) V2 from ⟨n + 1, H n 0 (by omega) V1 ⟨⟨h0.same hV1, hf, hv.1.tr hV1.rest, hV1.2.2.2.2.2.1.trans hv.2.1, by rw [hV1.2.2.1]; exact hv.2.2.1, by rw [hV1.2.2.2.1]; exact hv.2.2.2⟩, h241.trans h24⟩⟩
  intro r
  induction r with
  | zero =>
    intro p e V2 hV2
    have e2 : p = n := by omega
    subst e2
    unfold wX0_round_8
    rw [hV2.1.1.n0.1]
    exact brY (nI_le (Nat.le_refl _) (by omega)) (hQ V2 hV2)
  | succ r ih =>
    intro p e V2 hV2
    unfold wX0_round_8
    rw [hV2.1.1.n0.1]
    refine brN (nI_ge (by omega) (by omega)) (turnW hV2 (by omega) hd (fun V3 hV3 => ?_))
    rw [nI_1, ← rdX_2]
    rw [← rdX_1] at hV3
    exact ih (p + 1) (by omega) V3 hV3
/-- what rounds leave of all but the States -/
theorem Cor.rest {V V' : CV} {T T' : TS} (hr : Cor V T) (hv : restV V V') (hM : vM V' = vM V) (hSp : vSp V' 0 = vSp V 0) (hTx : vTx V' 0 = vTx V 0) (ht : T'.1 14 = T.1 14 ∧ T'.1 29 = T.1 29 ∧ ∀ k, (k = 4 ∨ k = 5 ∨ k = 6 ∨ k = 7 ∨ k = 8 ∨ k = 9 ∨ k = 10 ∨ k = 11 ∨ k = 13 ∨ k = 28) → T'.2 k = T.2 k) : Cor V' T' := by
  obtain ⟨r4, r5, r6, r7, r8⟩ := hr
  obtain ⟨v1, v2, v3, v4, v5, v6, v7, v8, v9⟩ := hv
  obtain ⟨t2, t3, t4⟩ := ht
  have e1 : vSp V' = vSp V := by
    funext i
    rcases Nat.eq_zero_or_pos i with h | h
    · subst h
      exact hSp
    · exact (v9 i h).2.2.1
  have e2 : vTx V' = vTx V := by
    funext i
    rcases Nat.eq_zero_or_pos i with h | h
    · subst h
      exact hTx
    · exact (v9 i h).2.2.2.1
  refine ⟨?_, ?_, ?_, ?_, ?_⟩
  · unfold RT at r4 ⊢
    rw [v2, v4, t2, t4 13 (by simp)]
    exact r4
  · unfold RW at r5 ⊢
    rw [v3, v5, t3, t4 28 (by simp)]
    exact r5
  · intro k hk
    have := r6 k hk
    unfold ShR at this ⊢
    rw [v6, hM, t4 4 (by simp), t4 5 (by simp), t4 6 (by simp)]
    exact this
  · intro q hq
    have := r7 q hq
    unfold SlR at this ⊢
    rw [v7, v6, hM, e1, t4 7 (by simp), t4 8 (by simp), t4 9 (by simp), t4 10 (by simp), t4 11 (by simp)]
    exact this
  · unfold WF at r8 ⊢
    rw [v6, hM, e1, e2, v8]
    exact r8
theorem RS.rest {V V' : CV} {i n dn tn : Nat} {X : Nat → Int32} (h : RS V i X n dn tn) (hi : 0 < i) (hv : restV V V') (hM : vM V' = vM V) : RS V' i X n dn tn :=
  h.keep (hv.2.2.2.2.2.2.2.2 i hi) (fun a e ha _ => by rw [hM]; exact ha) (fun p a _ _ => by rw [hM])
/-- where what was told and what is due differ -/
def ckX (w r : Nat → Int32) (m du : Nat) : Nat → Nat → Int32
  | 0, k => if m ≤ k then (if du ≤ m then 0 else nI (1 + m)) else nI (1 + k)
  | j + 1, k => if w k = r k then ckX w r m du j (k + 1) else nI (1 + k)
theorem ck0 {V : CV} {Q : Int32 → CV → Prop} {m du : Nat} (hm : m ≤ 60) (hdu : du ≤ 60) : ∀ j k, k + j = min m du → Q (ckX (vA V 22) (vA V 24) m du j k) V → wX0_check_65 Q (j + 1) (nI m) (nI du) (nI k) V := by
  intro j
  induction j with
  | zero =>
    intro k hk hq
    unfold ckX at hq
    unfold wX0_check_65
    rw [show (1 : Int32) = nI 1 from rfl, nI_add, nI_add]
    by_cases h : m ≤ k
    · rw [if_pos h] at hq
      refine brY (nI_le h (by omega)) ?_
      by_cases h2 : du ≤ m
      · rw [if_pos h2] at hq
        exact brY (nI_le h2 (by omega)) hq
      · rw [if_neg h2] at hq
        exact brN (nI_ge (by omega) (by omega)) hq
    · rw [if_neg h] at hq
      exact brN (nI_ge (by omega) (by omega)) (brY (nI_le (by omega) (by omega)) hq)
  | succ j ih =>
    intro k hk hq
    unfold ckX at hq
    unfold wX0_check_65
    rw [nI_clamp (by omega), nI_1, show (1 : Int32) = nI 1 from rfl, nI_add, nI_add]
    have hv : vp_in (nI k) 60 := vp_in_nI (by omega) (by omega)
    refine brN (nI_ge (by omega) (by omega)) (brN (nI_ge (by omega) (by omega)) ⟨hv, hv, ?_⟩)
    by_cases e : vA V 22 k = vA V 24 k
    · rw [if_pos e] at hq
      exact brY e (ih (k + 1) (by omega) hq)
    · rw [if_neg e] at hq
      exact brN e hq
theorem ck6 {T : TS} {Q : Int32 → TS → Prop} {m c : Nat} (hm : m ≤ 60) (hdu : 2 * c ≤ 60) : ∀ j k, k + j = min m (2 * c) → Q (ckX (T.2 28) (T.2 30) m (2 * c) j k) T → wX6_check_151 Q (j + 1) (nI c) (nI m) (nI k) T := by
  have e2 : (2 : Int32) * nI c = nI (2 * c) := by rw [show (2 : Int32) = nI 2 from rfl, pk_mul]
  intro j
  induction j with
  | zero =>
    intro k hk hq
    unfold ckX at hq
    unfold wX6_check_151 wX6_check_188
    rw [e2, show (1 : Int32) + nI k = nI (1 + k) by rw [show (1 : Int32) = nI 1 from rfl, nI_add]]
    by_cases h : m ≤ k
    · have ekm : k = m := by omega
      subst ekm
      rw [if_pos h] at hq
      refine brY (nI_le h (by omega)) (brY rfl ?_)
      by_cases h2 : 2 * c ≤ k
      · rw [if_pos h2] at hq
        exact brY (by rw [show 2 * c = k by omega]) hq
      · rw [if_neg h2] at hq
        exact brN (fun q => h2 (by have := (nI_eq (a := k) (b := 2 * c) (by omega) (by omega)).mp q; omega)) hq
    · rw [if_neg h] at hq
      exact brN (nI_ge (by omega) (by omega)) (brY (nI_le (by omega) (by omega)) (brN (fun q => h (by have := (nI_eq (a := k) (b := m) (by omega) (by omega)).mp q; omega)) hq))
  | succ j ih =>
    intro k hk hq
    unfold ckX at hq
    unfold wX6_check_151 wX6_check_188
    rw [e2, nI_clamp (by omega), nI_1, show (1 : Int32) + nI k = nI (1 + k) by rw [show (1 : Int32) = nI 1 from rfl, nI_add]]
    have hv : vp_in (nI k) 60 := vp_in_nI (by omega) (by omega)
    refine brN (nI_ge (by omega) (by omega)) (brN (nI_ge (by omega) (by omega)) ⟨hv, hv, ?_⟩)
    by_cases e : T.2 28 k = T.2 30 k
    · rw [if_pos e] at hq
      exact brY e (ih (k + 1) (by omega) hq)
    · rw [if_neg e] at hq
      exact brN e (brN (fun q => by have := (nI_eq (a := k) (b := m) (by omega) (by omega)).mp q; omega) hq)
theorem ck_cg {w r w' r' : Nat → Int32} {m du : Nat} : ∀ j k, k + j ≤ m → k + j ≤ du → (∀ x, x < m → w x = w' x) → (∀ x, x < du → r x = r' x) → ckX w r m du j k = ckX w' r' m du j k := by
  intro j
  induction j with
  | zero => intro k _ _ _ _; rfl
  | succ j ih =>
    intro k h1 h2 hw hr
    unfold ckX
    rw [hw k (by omega), hr k (by omega), ih (k + 1) (by omega) (by omega) hw hr]
/-- the rows that rounds make -/
def rowsR (A : Nat → Int32) (X : Nat → Int32) (n tn d k : Nat) : Prop := ∀ j, j < k → A (2 * j) = pcI (lf (rsX X n tn d (j + 1)).1 n d) ∧ A (2 * j + 1) = (rsX X n tn d (j + 1)).1 (66 + 6 * d + 5)
theorem rowsR_eq {A B X : Nat → Int32} {n tn d k : Nat} (h : rowsR A X n tn d k) (g : rowsR B X n tn d k) : ∀ x, x < 2 * k → A x = B x := by
  intro x hx
  have hj := h (x / 2) (by omega)
  have gj := g (x / 2) (by omega)
  by_cases e : x % 2 = 0
  · have : x = 2 * (x / 2) := by omega
    rw [this]
    exact hj.1.trans gj.1.symm
  · have : x = 2 * (x / 2) + 1 := by omega
    rw [this]
    exact hj.2.trans gj.2.symm
theorem two_x (k : Nat) : (2 : Int32) * nI k = nI (2 * k) := by rw [show (2 : Int32) = nI 2 from rfl, pk_mul]
theorem rows0 {V : CV} {X : Nat → Int32} {n dn tn d m : Nat} {Q : Int32 → CV → Prop} (hd : d < dn) (hm : m ≤ 30) (hq : ∀ W, RS W 0 (rsX X n tn d m).1 n dn tn → restV V W → vM W = vM V → vSp W 0 = vSp V 0 → vTx W 0 = vTx V 0 → rowsR (vA W 24) X n tn d m → wX1_copyOf 0 2 W (fun V2 => Q (nI (2 * m)) V2)) : ∀ j k, k + j = m → ∀ W, RS W 0 (rsX X n tn d k).1 n dn tn → restV V W → vM W = vM V → vSp W 0 = vSp V 0 → vTx W 0 = vTx V 0 → rowsR (vA W 24) X n tn d k → wX0_rowsOfRounds_35 Q (j + 1) (nI m) d (nI k) W := by
  intro j
  induction j with
  | zero =>
    intro k hk W w1 w2 w3 w4 w5 w6
    have : k = m := by omega
    subst this
    unfold wX0_rowsOfRounds_35
    rw [two_x]
    exact brY (nI_le (by omega) (by omega)) (hq W w1 w2 w3 w4 w5 w6)
  | succ j ih =>
    intro k hk W w1 w2 w3 w4 w5 w6
    unfold wX0_rowsOfRounds_35
    rw [two_x, show nI (2 * k) + (1 : Int32) = nI (2 * k + 1) from nI_1 _]
    refine brN (nI_ge (by omega) (by omega)) (rdW (V := W) w1 ⟨restV.rf, rfl, rfl, rfl⟩ rfl hd (fun W2 hW2 => ?_))
    obtain ⟨⟨a1, -, a3, a4, a5, a6⟩, a7⟩ := hW2
    rw [← rsX_1] at a1
    refine lm0 a1 hd ⟨vp_in_nI (by omega) (by omega), vp_in_nI (by omega) (by omega), ?_⟩
    rw [nI_clamp (by omega), nI_clamp (by omega), nI_1]
    have eD : vD W2 0 d 5 = (rsX X n tn d (k + 1)).1 (66 + 6 * d + 5) := (a1.2.2.2.2.2.2.2.2.2.1 d hd).2.2.2.2.2
    have sm : sameV W2 (sA (sA W2 24 (2 * k) (pcI (lf (rsX X n tn d (k + 1)).1 n d))) 24 (2 * k + 1) (vD (sA W2 24 (2 * k) (pcI (lf (rsX X n tn d (k + 1)).1 n d))) 0 d 5)) := (sA_same (by decide)).tr (sA_same (by decide))
    refine ih (k + 1) (by omega) _ (a1.same sm) ((w2.tr a3).tr sm.rest) (a4.trans w3) (a5.trans w4) (a6.trans w5) (fun i hi => ?_)
    have e24 : ∀ x, vA (sA (sA W2 24 (2 * k) (pcI (lf (rsX X n tn d (k + 1)).1 n d))) 24 (2 * k + 1) (vD (sA W2 24 (2 * k) (pcI (lf (rsX X n tn d (k + 1)).1 n d))) 0 d 5)) 24 x = if x = 2 * k + 1 then vD W2 0 d 5 else if x = 2 * k then pcI (lf (rsX X n tn d (k + 1)).1 n d) else vA W2 24 x := fun x => by simp [cvs]
    rw [e24, e24]
    by_cases e : i = k
    · subst e
      rw [if_neg (by omega), if_pos rfl, if_pos rfl]
      exact ⟨rfl, eD⟩
    · rw [if_neg (by omega), if_neg (by omega), if_neg (by omega), if_neg (by omega), a7]
      exact w6 i (by omega)
theorem rows6 {V : CV} {T : TS} {X : Nat → Int32} {n dn tn d m : Nat} {l3 : Int32} {Q : Int32 → TS → Prop} (h0 : RS V 0 X n dn tn) (hd : d < dn) (hm : m ≤ 30) (hq : ∀ T', T'.1 = T.1 → (∀ j, j ≠ 0 → j ≠ 25 → j ≠ 26 → j ≠ 30 → T'.2 j = T.2 j) → rowsR (T'.2 30) X n tn d m → wX6_setAside 2 0 T' (fun T2 => ∃ f_151, wX6_check_151 Q f_151 (nI m) l3 (0 : Int32) T2)) : ∀ j k, k + j = m → ∀ T', T'.1 = T.1 → T'.2 0 = (rsX X n tn d k).1 → (∀ j, j ≠ 0 → j ≠ 25 → j ≠ 26 → j ≠ 30 → T'.2 j = T.2 j) → rowsR (T'.2 30) X n tn d k → wX6_check_83 Q (j + 1) (nI d) (nI m) l3 (nI k) T' := by
  have hn := h0.1.1
  have hdn := h0.1.2.1
  intro j
  induction j with
  | zero =>
    intro k hk T' t1 t2 t3 t4
    have : k = m := by omega
    subst this
    unfold wX6_check_83
    exact brY (nI_le (by omega) (by omega)) (hq T' t1 t3 t4)
  | succ j ih =>
    intro k hk T' t1 t2 t3 t4
    obtain ⟨V1, hV1⟩ := rs_RS h0 hd k
    obtain ⟨V2, hV2⟩ := rs_RS h0 hd (k + 1)
    unfold wX6_check_83
    rw [two_x, show nI (2 * k) + (1 : Int32) = nI (2 * k + 1) from nI_1 _]
    refine brN (nI_ge (by omega) (by omega)) (rd6 (T := T') hV1 ⟨rfl, t2, fun _ _ _ _ => rfl⟩ hd (fun T2 hT2 => ?_))
    obtain ⟨a1, a2, a3⟩ := hT2
    rw [← rsX_1] at a2
    have hR2 : RS V2 0 (T2.2 0) n dn tn := by rw [a2]; exact hV2
    refine lf6 hR2 hd (ones_set (subn_up (lf_s hn) hn) ⟨vp_in_nI (by omega) (by omega), dee6 5 (by omega) (by omega) ⟨vp_in_nI (by omega) (by omega), ?_⟩⟩)
    rw [nI_clamp (by omega), nI_clamp (by omega), nI_1, ts_n (j := 0) (by decide), a2]
    refine ih (k + 1) (by omega) _ (a1.trans t1) (by rw [ts_n (by decide), ts_n (by decide)]; exact a2) (fun j h1 h2 h3 h4 => ?_) (fun i hi => ?_)
    · rw [ts_n h4, ts_n h4, a3 j h1 h2 h3]
      exact t3 j h1 h2 h3 h4
    · rw [ts_s, ts_s]
      by_cases e : i = k
      · subst e
        rw [upd_n (by omega), upd_s, upd_s]
        exact ⟨rfl, rfl⟩
      · rw [upd_n (by omega), upd_n (by omega), upd_n (by omega), upd_n (by omega), a3 30 (by decide) (by decide) (by decide)]
        exact t4 i (by omega)
theorem op_check {V : CV} {T : TS} (hr : Rel V T) (a c : Int32) : wX0_check a c V (fun r V1 => wX6_check a c T (fun r2 T2 => r = r2 ∧ Rel V1 T2)) := by
  obtain ⟨⟨n0, dn0, tn0, h0⟩, r2, r3, cor⟩ := id hr
  obtain ⟨w, hw1, hw2, hw3, hw4⟩ := id cor.2.1
  have hr0 : Rel (sI V 23 0) (tf T 29 0) := by
    refine hr.off ⟨rfl, rfl, rfl, rfl, rfl, rfl, rfl, rfl, by simp [cvs], rfl⟩ ⟨tf_n (by decide), fun k hk => rfl⟩ ?_ ⟨0, by omega, by simp [cvs]; rfl, tf_s _ _ _, fun k hk => absurd hk (by omega)⟩
    obtain ⟨q, g1, g2, g3, g4⟩ := cor.1
    exact ⟨q, g1, by rw [← g2]; simp [cvs], by rw [tf_n (by decide)]; exact g3, g4⟩
  have e3 : (tf T 29 0).1 3 = T.1 3 := tf_n (by decide)
  have e3' : vI (sI V 23 0) 3 = T.1 3 := by rw [← r2]; simp [cvs]
  unfold wX0_check wX6_check
  rw [e3, e3']
  by_cases hc : inI c 1 30
  · refine isIn0_y hc (br1 ?_)
    rcases r3 with r | ⟨r, n, dn, tn, hI⟩
    · exact brY r (isIn6_y hc (br1 (brY r ⟨rfl, hr0⟩)))
    · have rn : ¬ T.1 3 = 0 := by rw [r]; decide
      refine brN rn ?_
      have hdn := hI.1.2.1
      have e7 : vS (sI V 23 0) 1 7 = nI dn := hI.d0.1
      have x7 : (tf T 29 0).2 1 (1 : Int32).toNatClampNeg = nI dn := hI.d0.2
      have hi1 : vp_in (1 : Int32) 3114 := pk_in 1 3114 (by omega)
      rw [e7, x7]
      by_cases ha : inI a 0 (nI dn - 1)
      · have ha' := ha
        obtain ⟨d, hd, rfl⟩ := (in_n (by omega) a).mp ha
        have hc0 : inI c 0 (nI 30) := ⟨by have := hc.1; rw [i_le] at this ⊢; exact Int.le_trans (by decide) this, hc.2⟩
        obtain ⟨m, hm, rfl⟩ := (in_lit (M := 30) (by decide)).mp hc0
        refine isIn0_y ha' (br1 ?_)
        have hw0 := hr0.wsp
        have h00 : RS (sI V 23 0) 0 (T.2 0) n0 dn0 tn0 := h0
        have hI0 : RS (sI V 23 0) 1 (T.2 1) n dn tn := hI
        refine copy0 hw0 h00 (hr0.tx (by decide)) (by decide) (by decide) (by decide) (fun V1 c1 R1 X1 => ?_)
        have hw1' := hw0.chg (by decide) c1
        have hI1 := hI0.chg hw0 (by decide) (by decide) (by decide) c1
        have tx1 : ∀ t a, t < 14 → vTx V1 1 t = some a → ∃ x y z, vM V1 a = some (eTx x y z) := fun t a ht h => by
          rw [(c1.2.1 1 (by decide)).2.2.2.1] at h
          obtain ⟨x, y, z, g⟩ := hr0.tx (i := 1) (by decide) t a ht h
          exact ⟨x, y, z, c1.ns hw0 (by decide) _ _ g ns_tx⟩
        refine copy0 hw1' hI1 tx1 (by decide) (by decide) (by decide) (fun V2 c2 R2 X2 => ⟨vp_in_nI (by omega) (by omega), m + 1, ?_⟩)
        rw [nI_clamp (by omega)]
        have hw2' := hw1'.chg (by decide) c2
        have hI2 := hI1.chg hw1' (by decide) (by decide) (by decide) c2
        have hK2 := R1.chg hw1' (by decide) (by decide) (by decide) c2
        have tx2 : ∀ t a, t < 14 → vTx V2 2 t = some a → ∃ x y z, vM V2 a = some (eTx x y z) := fun t a ht h => by
          rw [(c2.2.1 2 (by decide)).2.2.2.1] at h
          obtain ⟨x, y, z, g⟩ := X1 t a ht h
          exact ⟨x, y, z, c2.ns hw1' (by decide) _ _ g ns_tx⟩
        obtain ⟨Y, hY⟩ : ∃ Y, Y = (asT (asT (tf T 29 0) 0 2) 1 0).2 0 := ⟨_, rfl⟩
        have hYx : ∀ j, j < 2914 → Y j = T.2 1 j := fun j hj => by
          rw [hY, asT_s _ _ _ hj, asT_n (by decide)]
        have RY : RS V2 0 Y n dn tn := R2.up hYx
        refine rows0 (V := V2) (X := Y) hd hm (fun W w1 w2 w3 w4 w5 w6 => ?_) m 0 (by omega) V2 RY restV.rf rfl rfl rfl (fun i hi => absurd hi (by omega))
        have hIW := hI2.rest (by decide) w2 w3
        have hKW := hK2.rest (by decide) w2 w3
        have hwW : Wsp W := by
          have e1 : vSp W = vSp V2 := by
            funext i
            rcases Nat.eq_zero_or_pos i with h | h
            · subst h
              exact w4
            · exact (w2.2.2.2.2.2.2.2.2 i h).2.2.1
          unfold Wsp at hw2' ⊢
          rw [e1, w3]
          exact hw2'
        have txW : ∀ t a, t < 14 → vTx W 2 t = some a → ∃ x y z, vM W a = some (eTx x y z) := fun t a ht h => by
          rw [(w2.2.2.2.2.2.2.2.2 2 (by decide)).2.2.2.1] at h
          rw [w3]
          exact tx2 t a ht h
        refine copy0 hwW hKW txW (by decide) (by decide) (by decide) (fun V5 c5 R5 X5 => ?_)
        have hI5 := hIW.chg hwW (by decide) (by decide) (by decide) c5
        have a22 : ∀ k, vA V5 22 k = vA V 22 k := fun k => by
          rw [c5.1.2.1, w2.2.2.2.2.1, c2.1.2.1, c1.1.2.1]
          rfl
        have a24 : vA V5 24 = vA W 24 := by rw [c5.1.2.1]
        have em : vI V 23 = nI w := hw2
        rw [em]
        refine ⟨min w (2 * m) + 1, ck0 hw1 (by omega) (min w (2 * m)) 0 (by omega) ?_⟩
        refine isIn6_y hc (br1 (brN rn ⟨hi1, isIn6_y ha' (br1 ?_)⟩))
        refine aside6e (by decide) (by decide) (by decide) (aside6e (by decide) (by decide) (by decide) ⟨m + 1, ?_⟩)
        rw [hw3]
        refine rows6 (T := asT (asT (tf T 29 0) 0 2) 1 0) (X := Y) RY hd hm (fun T' t1 t2 t3 => ?_) m 0 (by omega) _ rfl hY.symm (fun j _ _ _ _ => rfl) (fun i hi => absurd hi (by omega))
        refine aside6 (by decide) (by decide) (by decide) (fun T5 s1 s2 s3 => ⟨min w (2 * m) + 1, ck6 hw1 (by omega) (min w (2 * m)) 0 (by omega) ⟨?_, ?_⟩⟩)
        · refine ck_cg (min w (2 * m)) 0 (by omega) (by omega) (fun x hx => ?_) (fun x hx => ?_)
          · rw [a22, hw4 x hx, s2 28 (by decide), t2 28 (by decide) (by decide) (by decide) (by decide), asT_n (by decide), asT_n (by decide)]
            rfl
          · rw [a24, s2 30 (by decide)]
            exact rowsR_eq w6 t3 x hx
        · have f1 : T5.1 = (tf T 29 0).1 := by rw [s1, t1]; rfl
          have fo : ∀ j, j ≠ 0 → j ≠ 2 → j ≠ 25 → j ≠ 26 → j ≠ 30 → T5.2 j = T.2 j := fun j h0 h2 h25 h26 h30 => by
            rw [s2 j h0, t2 j h0 h25 h26 h30, asT_n h0, asT_n h2]
            rfl
          have f0 : ∀ k, k < 2914 → T5.2 0 k = T.2 0 k := fun k hk => by
            rw [s3 k hk, t2 2 (by decide) (by decide) (by decide) (by decide), asT_n (by decide), asT_s _ _ _ hk]
            rfl
          have k1 : Cor V1 (tf T 29 0) := Cor.chg hr0.2.2.2 (by decide) c1 X1 ⟨rfl, rfl, fun _ _ => rfl⟩
          have k2 : Cor V2 (tf T 29 0) := k1.chg (by decide) c2 X2 ⟨rfl, rfl, fun _ _ => rfl⟩
          have k3 : Cor W (tf T 29 0) := k2.rest w2 w3 w4 w5 ⟨rfl, rfl, fun _ _ => rfl⟩
          have k5 : Cor V5 T5 := k3.chg (by decide) c5 X5 ⟨by rw [f1], by rw [f1], fun k hk => (fo k (by omega) (by omega) (by omega) (by omega) (by omega)).trans rfl⟩
          refine ⟨⟨n0, dn0, tn0, R5.up f0⟩, ?_, Or.inr ⟨by rw [f1, e3]; exact r, n, dn, tn, by rw [fo 1 (by decide) (by decide) (by decide) (by decide) (by decide)]; exact hI5⟩, k5⟩
          rw [f1, c5.1.1, w2.1, c2.1.1, c1.1.1]
          exact hr0.2.1
      · exact isIn0_n ha (br0 (isIn6_y hc (br1 (brN rn ⟨hi1, isIn6_n ha (br0 ⟨rfl, hr0⟩)⟩))))
  · exact isIn0_n hc (br0 (isIn6_n hc (br0 ⟨rfl, hr0⟩)))
