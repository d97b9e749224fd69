set_option maxRecDepth 100000
/-! MAY a person say so, and what saying does -/
noncomputable def gb (X : Nat → Int32) (n q : Nat) : Int32 := clo (FX0 X) n q ||| one q
theorem gb_s {V : CV} {T : TS} {n dn tn q : Nat} (h0 : RS V 0 (T.2 0) n dn tn) (hq : q < n) : subn n (gb (T.2 0) n q) := by
  have := h0.1.1
  exact subn_or (fol6' h0 hq).1.2.2.1 (subn_one hq (by omega))
theorem gb6 {V : CV} {T : TS} {n dn tn q : Nat} (h0 : RS V 0 (T.2 0) n dn tn) (hq : q < n) {Q : Int32 → TS → Prop} (h : Q (gb (T.2 0) n q) T) : wX6_goBy (nI q) T Q := (fol6' h0 hq).2 _ h
/-- the followers stand in the component's array -/
def FF (V : CV) (X : Nat → Int32) (n : Nat) : Prop := ∀ p, p < n → vA V 16 p = clo (FX0 X) n p
theorem FF.ev {V V' : CV} {X : Nat → Int32} {n : Nat} (h : FF V X n) (e : evV V V') : FF V' X n := fun p hp => by rw [e.a (by decide) (by decide)]; exact h p hp
theorem gb0 {V : CV} {X : Nat → Int32} {n q : Nat} (hf : FF V X n) (hn : n ≤ 12) (hq : q < n) {Q : Int32 → CV → Prop} (h : Q (gb X n q) V) : wX0_goBy (nI q) V Q := by
  refine ⟨vp_in_nI (by omega) (by omega), ?_⟩
  rw [nI_clamp (by omega), hf q hq]
  exact h
def mayN (X : Nat → Int32) (p q d : Nat) : Nat → Int32 := fun c => if c = 115 then nI p else if c = 112 then nI q else X (66 + 6 * d + 2)
noncomputable def mayX (X : Nat → Int32) (n tn p d q : Nat) : Int32 := if bt (lf X n d) q = true then (if X 3 ≤ pcI (lf X n d &&& cmpl (gb X n q)) then (if cnt X 0 tn = -1 then 1 else if tv (mayN X p q d) X (cnt X 0 tn).toNatClampNeg = 0 then 0 else 1) else 0) else 0
theorem mayX_01 (X : Nat → Int32) (n tn p d q : Nat) : mayX X n tn p d q = 0 ∨ mayX X n tn p d q = 1 := by
  unfold mayX
  repeat' split
  all_goals first | exact Or.inl rfl | exact Or.inr rfl
theorem may6 {V : CV} {T : TS} {n dn tn p d q : Nat} (h0 : RS V 0 (T.2 0) n dn tn) (hd : d < dn) (hq : q < n) {Q : Int32 → TS → Prop} (hQ : ∀ T', evT T T' → Q (mayX (T.2 0) n tn p d q) T') : wX6_mayBe (nI p) (nI d) (nI q) T Q := by
  have hn := h0.1.1
  have hdn := h0.1.2.1
  have htn := h0.1.2.2
  refine lf6 h0 hd ?_
  unfold mayX at hQ
  cases hb : bt (lf (T.2 0) n d) q
  · rw [hb, if_neg (by decide)] at hQ
    exact brY ((bt_z _ (by omega)).mpr hb) (hQ T evT.rf)
  · rw [hb, if_pos rfl] at hQ
    refine brN (fun z => by rw [(bt_z _ (by omega)).mp z] at hb; cases hb) (lf6 h0 hd (gb6 h0 hq (ones_set (subn_and (subn_up (lf_s hn) hn)) ⟨pk_in 3 3114 (by omega), ?_⟩)))
    show ((T.2 0 3) ≤ pcI (lf (T.2 0) n d &&& cmpl (gb (T.2 0) n q)) → _) ∧ (¬ (T.2 0 3) ≤ pcI (lf (T.2 0) n d &&& cmpl (gb (T.2 0) n q)) → _)
    refine brI (fun h3 => ?_) (fun h3 => ?_)
    · rw [if_pos h3] at hQ
      refine cnt6 h0 ?_
      rcases cnt_or (T.2 0) 0 tn with e | ⟨t, ht, e, hk⟩
      · rw [if_pos e] at hQ
        rw [e]
        exact brN (by decide) (hQ T evT.rf)
      · rw [e, if_neg (nI_m1 (by omega)), nI_clamp (by omega)] at hQ
        rw [e]
        refine brY (nn0 (by omega)) ⟨pk_in 115 128 (by omega), pk_in 112 128 (by omega), ?_⟩
        have v2 : evT T (ts (ts T 25 (115 : Int32).toNatClampNeg (nI p)) 25 (112 : Int32).toNatClampNeg (nI q)) := (evT_ts (Or.inl rfl)).tr (evT_ts (Or.inl rfl))
        refine dee6 2 (by omega) (by omega) ⟨pk_in 119 128 (by omega), ?_⟩
        rw [v2.2 0 (by decide) (by decide)]
        have v3 := v2.tr (evT_ts (k := 25) (i := (119 : Int32).toNatClampNeg) (v := T.2 0 (66 + 6 * d + 2)) (Or.inl rfl))
        refine tv6 (N := mayN (T.2 0) p q d) (kn := 0) (h0.ev6 v3) ht (by rw [v3.2 0 (by decide) (by decide)]; exact hk) (by decide) (fun c hc => ?_) (fun T' hT' => ?_)
        · rw [ts_s, ts_s, ts_s]
          have hc3 : c = 115 ∨ c = 112 ∨ c = 119 := by unfold nmOK at hc; omega
          rcases hc3 with rfl | rfl | rfl
          · rw [upd_n (by decide), upd_n (by decide)]; exact upd_s _ _ _
          · rw [upd_n (by decide)]; exact upd_s _ _ _
          · exact upd_s _ _ _
        · rw [v3.2 0 (by decide) (by decide)]
          have := hQ T' (v3.tr hT')
          refine brI (fun z => ?_) (fun z => ?_)
          · rw [if_pos z] at this; exact this
          · rw [if_neg z] at this; exact this
    · rw [if_neg h3] at hQ
      exact hQ T evT.rf
theorem may0 {V : CV} {X : Nat → Int32} {n dn tn p d q : Nat} (h0 : RS V 0 X n dn tn) (hf : FF V X n) (hd : d < dn) (hq : q < n) {Q : Int32 → CV → Prop} (hQ : ∀ V', evV V V' → Q (mayX X n tn p d q) V') : wX0_mayBe (nI p) 0 d (nI q) V Q := by
  have hn := h0.1.1
  have hdn := h0.1.2.1
  have htn := h0.1.2.2
  obtain ⟨d0, d1, d2, d3, d4, d5⟩ := h0.2.2.2.2.2.2.2.2.2.1 d hd
  have d3' : vD V 0 d 3 = lf X n d := d3
  refine ⟨by decide, by omega, ?_⟩
  rw [d3']
  refine has0 (by omega) ?_
  unfold mayX at hQ
  cases hb : bt (lf X n d) q
  · rw [hb, if_neg (by decide)] at hQ
    exact br0 (hQ V evV.rf)
  · rw [hb, if_pos rfl] at hQ
    refine br1 (gb0 hf hn hq (bc_set (subn_and (subn_up (lf_s hn) hn)) ?_))
    have e3 : vS V 0 1 = X 3 := h0.2.2.2.2.1
    rw [e3]
    refine brI (fun h3 => ?_) (fun h3 => ?_)
    · rw [if_pos (show X 3 ≤ pcI (lf X n d &&& cmpl (gb X n q)) from h3)] at hQ
      refine cnt0 h0 ?_
      rcases cnt_or X 0 tn with e | ⟨t, ht, e, hk⟩
      · rw [if_pos e] at hQ
        rw [e]
        exact brY rfl (hQ V evV.rf)
      · rw [e, if_neg (nI_m1 (by omega)), nI_clamp (by omega)] at hQ
        rw [e]
        refine brN (nI_m1 (by omega)) ⟨pk_in 115 128 (by omega), pk_in 112 128 (by omega), pk_in 119 128 (by omega), vp_in_nI (by omega) (by omega), ?_⟩
        have v3 : evV V (sA (sA (sA V 15 (115 : Int32).toNatClampNeg (nI p)) 15 (112 : Int32).toNatClampNeg (nI q)) 15 (119 : Int32).toNatClampNeg (vD (sA (sA V 15 (115 : Int32).toNatClampNeg (nI p)) 15 (112 : Int32).toNatClampNeg (nI q)) 0 d 2)) := ((evV_sA (Or.inr rfl)).tr (evV_sA (Or.inr rfl))).tr (evV_sA (Or.inr rfl))
        rw [nI_clamp (by omega)]
        refine tv0 (N := mayN X p q d) (kn := 0) (h0.ev0 v3) ht hk (by decide) (fun c hc => ?_) (fun V' hV' => ?_)
        · rw [sA_15]
          have hc3 : c = 115 ∨ c = 112 ∨ c = 119 := by unfold nmOK at hc; omega
          rcases hc3 with rfl | rfl | rfl
          · rw [upd_n (by decide), sA_15, upd_n (by decide), sA_15]
            exact upd_s _ _ _
          · rw [upd_n (by decide), sA_15]
            exact upd_s _ _ _
          · exact (upd_s _ _ _).trans d2
        · have := hQ V' (v3.tr hV')
          refine brI (fun z => ?_) (fun z => ?_)
          · rw [if_pos z] at this; exact this
          · rw [if_neg z] at this; exact this
    · rw [if_neg (show ¬ X 3 ≤ pcI (lf X n d &&& cmpl (gb X n q)) from h3)] at hQ
      exact hQ V evV.rf
/-! ===== deeds change ===== -/
theorem RS_dee {V V' : CV} {X X' : Nat → Int32} {n dn tn dn' : Nat} (h : RS V 0 X n dn tn) (hd : dn' ≤ 8) (hX : ∀ j, j ≠ 1 → j < 66 ∨ 114 ≤ j → X' j = X j) (hX1 : X' 1 = nI dn') (hS7 : vS V' 0 7 = nI dn') (hS : ∀ k, k ≠ 7 → vS V' 0 k = vS V 0 k) (hA : vSA V' 0 = vSA V 0) (hP : vSp V' 0 = vSp V 0) (hT : vTx V' 0 = vTx V 0) (hM : vM V' = vM V)
    (h10 : ∀ d, d < dn' → vD V' 0 d 0 = X' (66 + 6 * d) ∧ vD V' 0 d 1 = X' (66 + 6 * d + 1) ∧ vD V' 0 d 2 = X' (66 + 6 * d + 2) ∧ vD V' 0 d 3 = ev n &&& cmpl (X' (66 + 6 * d + 3)) ∧ vD V' 0 d 4 = X' (66 + 6 * d + 4) ∧ vD V' 0 d 5 = X' (66 + 6 * d + 5)) (h11 : ∀ d, d < dn' → subn n (X' (66 + 6 * d)) ∧ (∃ h, h < 24 ∧ X' (66 + 6 * d + 1) = nI h) ∧ subn n (X' (66 + 6 * d + 3))) : RS V' 0 X' n dn' tn := by
  obtain ⟨h1, h2, h3, h4, h5, h6, h7, h8, h9, -, -, h12⟩ := h
  have hn := h1.1
  refine ⟨⟨h1.1, hd, h1.2.2⟩, ?_, ⟨hS7, hX1⟩, ?_, ?_, ?_, fun p hp => ?_, fun p hp => ?_, fun p hp => ?_, h10, h11, fun t ht => ?_⟩
  · rw [hX _ (by omega) (by omega), hS _ (by decide)]; exact h2
  · rw [hX _ (by omega) (by omega), hS _ (by decide)]; exact h4
  · rw [hX _ (by omega) (by omega), hS _ (by decide)]; exact h5
  · rw [hX _ (by omega) (by omega), hS _ (by decide)]; exact h6
  · rw [hX _ (by omega) (by omega), hX _ (by omega) (by omega)]
    obtain ⟨a, kn, f1, f2, f3, f4⟩ := h7 p hp
    exact ⟨a, kn, f1, f2, by rw [hP]; exact f3, by rw [hM]; exact f4⟩
  · rw [hX _ (by omega) (by omega), hX _ (by omega) (by omega), hX _ (by omega) (by omega), hA]
    exact h8 p hp
  · obtain ⟨f1, f2, f3⟩ := h9 p hp
    rw [hX _ (by omega) (by omega), hX _ (by omega) (by omega)]
    exact ⟨f1, f2, fun q hq => by rw [hX _ (by omega) (by omega)]; exact f3 q hq⟩
  · rw [hT]
    exact ((h12 t ht).X (by omega) (fun j hj => hX j (by omega) (by omega))).keep (fun a e h _ => by rw [hM]; exact h)
def sayX (X : Nat → Int32) (d : Nat) (r : Int32) : Nat → Int32 := fun j => if j = 66 + 6 * d + 3 then X j ||| r else if j = 66 + 6 * d + 4 then X j + 1 else if j = 66 + 6 * d + 5 then X j + (if r &&& X (66 + 6 * d) = 0 then 0 else 1) else X j
theorem sayX_o {X : Nat → Int32} {d j : Nat} {r : Int32} (h : j < 66 + 6 * d + 3 ∨ 66 + 6 * d + 6 ≤ j) : sayX X d r j = X j := by
  unfold sayX
  rw [if_neg (by omega), if_neg (by omega), if_neg (by omega)]
theorem sayX_3 {X : Nat → Int32} {d : Nat} {r : Int32} : sayX X d r (66 + 6 * d + 3) = X (66 + 6 * d + 3) ||| r := if_pos rfl
theorem sayX_4 {X : Nat → Int32} {d : Nat} {r : Int32} : sayX X d r (66 + 6 * d + 4) = X (66 + 6 * d + 4) + 1 := by
  unfold sayX
  rw [if_neg (by omega), if_pos rfl]
theorem sayX_5 {X : Nat → Int32} {d : Nat} {r : Int32} : sayX X d r (66 + 6 * d + 5) = X (66 + 6 * d + 5) + (if r &&& X (66 + 6 * d) = 0 then 0 else 1) := by
  unfold sayX
  rw [if_neg (by omega), if_neg (by omega), if_pos rfl]
def sayT (T : TS) (d : Nat) (r : Int32) : TS := (T.1, va_up T.2 0 (sayX (T.2 0) d r))
theorem sayT_0 (T : TS) (d : Nat) (r : Int32) : (sayT T d r).2 0 = sayX (T.2 0) d r := rfl
theorem sayT_o {T : TS} {d k : Nat} {r : Int32} (h : k ≠ 0) : (sayT T d r).2 k = T.2 k := if_neg h
theorem sayT_is (T : TS) (d : Nat) (r : Int32) : ts (ts (ts T 0 (66 + 6 * d + 3) (T.2 0 (66 + 6 * d + 3) ||| r)) 0 (66 + 6 * d + 4) (T.2 0 (66 + 6 * d + 4) + 1)) 0 (66 + 6 * d + 5) (T.2 0 (66 + 6 * d + 5) + (if r &&& T.2 0 (66 + 6 * d) = 0 then 0 else 1)) = sayT T d r := by
  refine Prod.ext rfl ?_
  funext k
  by_cases hk : k = 0
  · subst hk
    rw [ts_s, ts_s, ts_s, sayT_0]
    funext j
    unfold sayX
    by_cases h5 : j = 66 + 6 * d + 5
    · rw [h5, upd_s, if_neg (show ¬ 66 + 6 * d + 5 = 66 + 6 * d + 3 by omega), if_neg (show ¬ 66 + 6 * d + 5 = 66 + 6 * d + 4 by omega), if_pos rfl]
    · rw [upd_n h5]
      by_cases h4 : j = 66 + 6 * d + 4
      · rw [h4, upd_s, if_neg (by omega), if_pos rfl]
      · rw [upd_n h4]
        by_cases h3 : j = 66 + 6 * d + 3
        · rw [h3, upd_s, if_pos rfl]
        · rw [upd_n h3, if_neg h3, if_neg h4, if_neg h5]
  · rw [ts_n hk, ts_n hk, ts_n hk, sayT_o hk]
theorem de_0 (p : Nat) : ((66 : Int32) + ((6 : Int32) * nI p)) + (0 : Int32) = nI (66 + 6 * p) := by rw [de_x, show (0 : Int32) = nI 0 from rfl, nI_add]; rfl
theorem says6 {V : CV} {T : TS} {n dn tn d q : Nat} (h0 : RS V 0 (T.2 0) n dn tn) (hd : d < dn) (hq : q < n) {Q : TS → Prop} (hQ : Q (sayT T d (gb (T.2 0) n q))) : wX6_says (nI d) (nI q) T Q := by
  have hdn := h0.1.2.1
  refine gb6 h0 hq ?_
  generalize gb (T.2 0) n q = r at hQ ⊢
  have c3 : (nI (66 + 6 * d + 3)).toNatClampNeg = 66 + 6 * d + 3 := nI_clamp (by omega)
  have c4 : (nI (66 + 6 * d + 4)).toNatClampNeg = 66 + 6 * d + 4 := nI_clamp (by omega)
  have c5 : (nI (66 + 6 * d + 5)).toNatClampNeg = 66 + 6 * d + 5 := nI_clamp (by omega)
  have c0 : (nI (66 + 6 * d)).toNatClampNeg = 66 + 6 * d := nI_clamp (by omega)
  unfold wX6_says_68
  simp only [de_0, de_3, de_4, de_5, c3, c4, c5, c0]
  have e4 : (ts T 0 (66 + 6 * d + 3) (T.2 0 (66 + 6 * d + 3) ||| r)).2 0 (66 + 6 * d + 4) = T.2 0 (66 + 6 * d + 4) := by rw [ts_s, upd_n (by omega)]
  rw [e4]
  have e5 : (ts (ts T 0 (66 + 6 * d + 3) (T.2 0 (66 + 6 * d + 3) ||| r)) 0 (66 + 6 * d + 4) (T.2 0 (66 + 6 * d + 4) + 1)).2 0 (66 + 6 * d + 5) = T.2 0 (66 + 6 * d + 5) := by rw [ts_s, ts_s, upd_n (by omega), upd_n (by omega)]
  have e0 : (ts (ts T 0 (66 + 6 * d + 3) (T.2 0 (66 + 6 * d + 3) ||| r)) 0 (66 + 6 * d + 4) (T.2 0 (66 + 6 * d + 4) + 1)).2 0 (66 + 6 * d) = T.2 0 (66 + 6 * d) := by rw [ts_s, ts_s, upd_n (by omega), upd_n (by omega)]
  rw [e5, e0]
  have hin : ∀ j, j < 6 → vp_in (nI (66 + 6 * d + j)) 3114 := fun j hj => vp_in_nI (by omega) (by omega)
  rw [← sayT_is] at hQ
  refine ⟨hin 3 (by omega), hin 3 (by omega), hin 4 (by omega), hin 4 (by omega), hin 5 (by omega), hin 0 (by omega), brI (fun z => ⟨hin 5 (by omega), ?_⟩) (fun z => ⟨hin 5 (by omega), ?_⟩)⟩
  · rw [if_pos z] at hQ; exact hQ
  · rw [if_neg z] at hQ; exact hQ
theorem lf_say {n d : Nat} {X : Nat → Int32} {r : Int32} : lf X n d &&& cmpl r = ev n &&& cmpl (X (66 + 6 * d + 3) ||| r) := by
  apply b_ext
  intro i hi
  unfold lf
  rw [b_and, b_and, b_and, b_cmpl _ hi, b_cmpl _ hi, b_cmpl _ hi, b_or]
  cases bt (ev n) i <;> cases bt (X (66 + 6 * d + 3)) i <;> cases bt r i <;> rfl
/-- the component's saying: V' has its deeds changed alone -/
theorem says0 {V : CV} {X : Nat → Int32} {n dn tn d q : Nat} (h0 : RS V 0 X n dn tn) (hf : FF V X n) (hd : d < dn) (hq : q < n) (hs : subn n (gb X n q)) {Q : CV → Prop} (hQ : ∀ V', RS V' 0 (sayX X d (gb X n q)) n dn tn → restV V V' → vM V' = vM V → vSp V' 0 = vSp V 0 → vTx V' 0 = vTx V 0 → vA V' = vA V → vI V' = vI V → vF V' = vF V → vJ V' = vJ V → Q V') : wX0_saysOf 0 d (nI q) V Q := by
  have hn := h0.1.1
  have hdn := h0.1.2.1
  refine ⟨by decide, by omega, gb0 hf hn hq ?_⟩
  obtain ⟨d0, d1, d2, d3, d4, d5⟩ := h0.2.2.2.2.2.2.2.2.2.1 d hd
  generalize gb X n q = r at hs hQ ⊢
  rw [d0]
  have key : ∀ k0, k0 = (if r &&& X (66 + 6 * d) = 0 then (0 : Int32) else 1) → wX0_saysOf_25 0 d r k0 (vD V 0 d 5) 0 d V Q := by
    intro k0 hk0
    refine hQ _ ?_ ((restV_D.tr restV_D).tr restV_D) rfl rfl rfl rfl rfl rfl rfl
    refine RS_dee h0 hdn (fun j h1 h2 => sayX_o (by omega)) ?_ h0.d0.1 (fun _ _ => rfl) rfl rfl rfl rfl (fun d' hd' => ?_) (fun d' hd' => ?_)
    · rw [sayX_o (by omega)]; exact h0.d0.2
    · by_cases e : d' = d
      · subst e
        rw [sayX_o (by omega), sayX_o (by omega), sayX_o (by omega), sayX_3, sayX_4, sayX_5, ← lf_say]
        refine ⟨by simpa [cvs] using d0, by simpa [cvs] using d1, by simpa [cvs] using d2, ?_, ?_, ?_⟩
        · have : vD V 0 d' 3 = lf X n d' := d3
          simp only [cvs]
          simp
          rw [this]
          unfold cmpl
          simp
        · simp only [cvs]
          simp
          rw [d4]
        · simp only [cvs]
          simp
          rw [d5, hk0]
      · have := h0.2.2.2.2.2.2.2.2.2.1 d' hd'
        rw [sayX_o (by omega), sayX_o (by omega), sayX_o (by omega), sayX_o (by omega), sayX_o (by omega), sayX_o (by omega)]
        simpa [cvs, e] using this
    · obtain ⟨f1, f2, f3⟩ := h0.2.2.2.2.2.2.2.2.2.2.1 d' hd'
      rw [sayX_o (j := 66 + 6 * d') (by omega), sayX_o (j := 66 + 6 * d' + 1) (by omega)]
      refine ⟨f1, f2, ?_⟩
      by_cases e : d' = d
      · subst e
        rw [sayX_3]
        exact subn_or f3 hs
      · rw [sayX_o (by omega)]
        exact f3
  exact brI (fun z => key 0 (by rw [if_pos z])) (fun z => key 1 (by rw [if_neg z]))
