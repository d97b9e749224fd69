set_option maxRecDepth 100000
theorem gb_sX {V : CV} {X : Nat → Int32} {n dn tn q : Nat} (h0 : RS V 0 X n dn tn) (hq : q < n) : subn n (gb X n q) := gb_s (T := (fun _ => 0, fun _ => X)) h0 hq
theorem ffX {V : CV} {X : Nat → Int32} {n dn tn : Nat} (h0 : RS V 0 X n dn tn) {Q : CV → Prop} (hq : ∀ V', sameV V V' → FF V' X n → Q V') : wX0_findFollowers V Q := ff0 (T := (fun _ => 0, fun _ => X)) h0 hq
theorem turn_RS {V : CV} {X : Nat → Int32} {n dn tn d : Nat} (h0 : RS V 0 X n dn tn) (hd : d < dn) (p : Nat) : ∃ V', RS V' 0 (turnX X n tn d p).1 n dn tn := by
  have hn := h0.1.1
  have h1 : RS (sS V 0 0 (X 4 * 1103515245 + 12345)) 0 (drX X) n dn tn := RS_seed h0 _
  unfold turnX
  split
  · exact ⟨_, h1⟩
  · split
    · exact ⟨_, h1⟩
    · rename_i z
      rcases chK_or _ _ _ _ _ _ with e | ⟨q, hq12, e⟩
      · exact absurd e z
      · have e' : chX (drX X) n tn p d = nI q := e
        have hqn : q < n := chX_lt hn e'
        rw [e', nI_clamp (by omega)]
        exact ⟨_, RS_say h1 hd (gb_sX h1 hqn)⟩
theorem fst_mk {α β : Type} (a : α) (b : β) : (a, b).1 = a := rfl
theorem snd_mk {α β : Type} (a : α) (b : β) : (a, b).2 = b := rfl
theorem rdX_e (X : Nat → Int32) (n tn d p : Nat) : rdX X n tn d (p + 1) = ((turnX (rdX X n tn d p).1 n tn d p).1, (rdX X n tn d p).2 + (turnX (rdX X n tn d p).1 n tn d p).2) := rfl
theorem rdX_1 (X : Nat → Int32) (n tn d p : Nat) : (rdX X n tn d (p + 1)).1 = (turnX (rdX X n tn d p).1 n tn d p).1 := (congrArg Prod.fst (rdX_e X n tn d p)).trans (fst_mk _ _)
theorem rdX_2 (X : Nat → Int32) (n tn d p : Nat) : (rdX X n tn d (p + 1)).2 = (rdX X n tn d p).2 + (turnX (rdX X n tn d p).1 n tn d p).2 := (congrArg Prod.snd (rdX_e X n tn d p)).trans (snd_mk _ _)
theorem rd_RS {V : CV} {X : Nat → Int32} {n dn tn d : Nat} (h0 : RS V 0 X n dn tn) (hd : d < dn) : ∀ p, ∃ V', RS V' 0 (rdX X n tn d p).1 n dn tn := by
  intro p
  induction p with
  | zero => exact ⟨V, h0⟩
  | succ p ih =>
    obtain ⟨V', h⟩ := ih
    rw [rdX_1]
    exact turn_RS h hd p
theorem rd6 {V : CV} {T T' : TS} {X : Nat → Int32} {n dn tn d : Nat} (h0 : RS V 0 X n dn tn) (hat : atT T T' X) (hd : d < dn) {Q : Int32 → TS → Prop} (hQ : ∀ T2, atT T T2 (rdX X n tn d n).1 → Q (rdX X n tn d n).2 T2) : wX6_rounded (nI d) T' Q := by
  have hn := h0.1.1
  suffices H : ∀ r p, p + r = n → ∀ T2, atT T T2 (rdX X n tn d p).1 → wX6_rounded_4 Q (r + 1) (nI d) (rdX X n tn d p).2 (nI p) T2 from ⟨n + 1, H n 0 (by omega) T' hat⟩
  intro r
  induction r with
  | zero =>
    intro p e T2 hT2
    have e2 : p = n := by omega
    subst e2
    obtain ⟨V', hR⟩ := rd_RS h0 hd p
    refine ⟨pk_in 0 3114 (by omega), ?_⟩
    rw [X0' (V := V') (n := p) (dn := dn) (tn := tn) (by rw [hT2.2.1]; exact hR)]
    exact brY (nI_le (Nat.le_refl _) (by omega)) (hQ T2 hT2)
  | succ r ih =>
    intro p e T2 hT2
    obtain ⟨V', hR⟩ := rd_RS h0 hd p
    refine ⟨pk_in 0 3114 (by omega), ?_⟩
    rw [X0' (V := V') (n := n) (dn := dn) (tn := tn) (by rw [hT2.2.1]; exact hR)]
    refine brN (nI_ge (by omega) (by omega)) (turn6 hR hT2 (by omega) hd (fun T3 hT3 => ?_))
    rw [nI_1, ← rdX_2]
    rw [← rdX_1] at hT3
    exact ih (p + 1) (by omega) T3 hT3
theorem turn0 {V V' : CV} {X : Nat → Int32} {n dn tn d p : Nat} (hat : atV V V' X n dn tn) (hp : p < n) (hd : d < dn) {k8 : Nat → Nat → Int32 → Int32 → CV → Prop} {Q : Int32 → CV → Prop} {l2 : Int32} (hk : ∀ V2, atV V V2 (turnX X n tn d p).1 n dn tn → k8 0 d (l2 + (turnX X n tn d p).2) (nI p + 1) V2) :
    wX1_draw 0 V' (fun r1 V2 => wX0_boldOf (nI p) 0 d V2 (fun r3 V4 => ((r1 - r1 / (100 : Int32) * (100 : Int32)) < r3 → wX0_choiceOf (nI p) 0 d V4 (fun r5 V6 => (r5 = (-1 : Int32) → wX0_round_68 k8 0 d l2 (nI p) V6 Q) ∧ (¬ r5 = (-1 : Int32) → wX0_saysOf 0 d r5 V6 (fun V8 => wX0_round_68 k8 0 d (l2 + (1 : Int32)) (nI p) V8 Q)))) ∧ (¬ (r1 - r1 / (100 : Int32) * (100 : Int32)) < r3 → wX0_round_68 k8 0 d l2 (nI p) V4 Q))) := by
  have h0 := hat.1
  have hn := h0.1.1
  have e4 : vS V' 0 0 = X 4 := h0.2.2.2.2.2.1
  have h1 : RS (sS V' 0 0 (X 4 * 1103515245 + 12345)) 0 (drX X) n dn tn := RS_seed h0 _
  have hat1 : atV V (sS V' 0 0 (X 4 * 1103515245 + 12345)) (drX X) n dn tn := ⟨h1, hat.2.1.X rfl (fun i hi => dr_ne X (by omega)), hat.2.2.1.tr restV_S, hat.2.2.2.1, hat.2.2.2.2.1, hat.2.2.2.2.2⟩
  refine ⟨by decide, ?_⟩
  have er : vS (sS V' 0 0 (vS V' 0 0 * 1103515245 + 12345)) 0 0 = X 4 * 1103515245 + 12345 := by simp [cvs, e4]
  rw [er, e4]
  refine bold0 h1 hp hd (fun V4 hV4 => ?_)
  have hat4 := hat1.ev hV4
  unfold turnX at hk
  have hc : ∀ {A B : Prop} {x y : Int32}, ((y ≤ x → B) ∧ (¬ y ≤ x → A)) → ((x < y → A) ∧ (¬ x < y → B)) := fun h => ⟨fun q => h.2 (i_nle.mpr q), fun q => h.1 (i_nlt.mp q)⟩
  refine hc (brI (fun z => ?_) (fun z => ?_))
  · rw [if_pos (show boldX (drX X) n tn p d ≤ drV X - drV X / 100 * 100 from z)] at hk
    have := hk V4 hat4
    rw [Int32.add_zero] at this
    exact this
  · rw [if_neg (show ¬ boldX (drX X) n tn p d ≤ drV X - drV X / 100 * 100 from z)] at hk
    refine ch0 hat4.1 hat4.2.1 hp hd (fun V6 hV6 => ?_)
    have hat6 := hat4.ev hV6
    rcases chK_or _ _ _ _ _ _ with e | ⟨q, hq12, e⟩
    · have e' : chX (drX X) n tn p d = -1 := e
      rw [e', if_pos rfl] at hk
      rw [e']
      refine brY rfl ?_
      have := hk V6 hat6
      rw [Int32.add_zero] at this
      exact this
    · have e' : chX (drX X) n tn p d = nI q := e
      rw [e', if_neg (nI_m1 (by omega)), nI_clamp (by omega)] at hk
      rw [e']
      have hqn : q < n := chX_lt hn e'
      refine brN (nI_m1 (by omega)) (says0 hat6.1 hat6.2.1 hd hqn (gb_sX hat6.1 hqn) (fun V8 hR hrest hM hSp hTx hA _ _ _ => ?_))
      exact hk V8 ⟨hR, hat6.2.1.X (by rw [hA]) (fun i hi => sayX_o (by omega)), hat6.2.2.1.tr hrest, hM.trans hat6.2.2.2.1, hSp.trans hat6.2.2.2.2.1, hTx.trans hat6.2.2.2.2.2⟩
theorem rd0 {V V' : CV} {X : Nat → Int32} {n dn tn d : Nat} (h0 : RS V' 0 X n dn tn) (hv : restV V V' ∧ vM V' = vM V ∧ vSp V' 0 = vSp V 0 ∧ vTx V' 0 = vTx V 0) (hd : d < dn) {Q : Int32 → CV → Prop} (hQ : ∀ V2, atV V V2 (rdX X n tn d n).1 n dn tn → Q (rdX X n tn d n).2 V2) : wX0_round 0 d V' Q := by
  have hn := h0.1.1
  have hdn := h0.1.2.1
  refine ⟨by decide, by omega, ffX h0 (fun V1 hV1 hf => ?_)⟩
  suffices H : ∀ r p, p + r = n → ∀ V2, atV V V2 (rdX X n tn d p).1 n dn tn → wX0_round_8 Q (r + 1) 0 d (rdX X n tn d p).2 (nI p) V2 from ⟨n + 1, H n 0 (by omega) V1 ⟨h0.same hV1, hf, hv.1.tr hV1.rest, hV1.2.2.2.2.2.1.trans hv.2.1, by rw [hV1.2.2.1]; exact hv.2.2.1, by rw [hV1.2.2.2.1]; exact hv.2.2.2⟩⟩
  intro r
  induction r with
  | zero =>
    intro p e V2 hV2
    have e2 : p = n := by omega
    subst e2
    unfold wX0_round_8
    rw [hV2.1.n0.1]
    exact brY (nI_le (Nat.le_refl _) (by omega)) (hQ V2 hV2)
  | succ r ih =>
    intro p e V2 hV2
    unfold wX0_round_8
    rw [hV2.1.n0.1]
    refine brN (nI_ge (by omega) (by omega)) (turn0 hV2 (by omega) hd (fun V3 hV3 => ?_))
    rw [nI_1, ← rdX_2]
    rw [← rdX_1] at hV3
    exact ih (p + 1) (by omega) V3 hV3
noncomputable def rsX (X : Nat → Int32) (n tn d : Nat) : Nat → (Nat → Int32) × Int32
  | 0 => (X, 0)
  | k + 1 => ((rdX (rsX X n tn d k).1 n tn d n).1, (rsX X n tn d k).2 + (rdX (rsX X n tn d k).1 n tn d n).2)
theorem rsX_e (X : Nat → Int32) (n tn d k : Nat) : rsX X n tn d (k + 1) = ((rdX (rsX X n tn d k).1 n tn d n).1, (rsX X n tn d k).2 + (rdX (rsX X n tn d k).1 n tn d n).2) := rfl
theorem rsX_1 (X : Nat → Int32) (n tn d k : Nat) : (rsX X n tn d (k + 1)).1 = (rdX (rsX X n tn d k).1 n tn d n).1 := (congrArg Prod.fst (rsX_e X n tn d k)).trans (fst_mk _ _)
theorem rsX_2 (X : Nat → Int32) (n tn d k : Nat) : (rsX X n tn d (k + 1)).2 = (rsX X n tn d k).2 + (rdX (rsX X n tn d k).1 n tn d n).2 := (congrArg Prod.snd (rsX_e X n tn d k)).trans (snd_mk _ _)
theorem rs_RS {V : CV} {X : Nat → Int32} {n dn tn d : Nat} (h0 : RS V 0 X n dn tn) (hd : d < dn) : ∀ k, ∃ V', RS V' 0 (rsX X n tn d k).1 n dn tn := by
  intro k
  induction k with
  | zero => exact ⟨V, h0⟩
  | succ k ih =>
    obtain ⟨V', h⟩ := ih
    rw [rsX_1]
    exact rd_RS h hd n
theorem op_rounds {V : CV} {T : TS} (hr : Rel V T) (a c : Int32) : wX0_rounds a c V (fun r V1 => wX6_rounds a c T (fun r2 T2 => r = r2 ∧ Rel V1 T2)) := by
  obtain ⟨n, dn, tn, h0⟩ := hr.1
  have hn := h0.1.1
  have hdn := h0.1.2.1
  unfold wX0_rounds wX6_rounds
  by_cases ha : ∃ p, p < dn ∧ a = nI p
  · obtain ⟨d, hd, rfl⟩ := ha
    refine dee_y0 h0.d0.1 hdn hd (br1 ?_)
    by_cases hc : inI c 1 40
    · have hc0 : inI c 0 (nI 40) := ⟨by have := hc.1; rw [i_le] at this ⊢; exact Int.le_trans (by decide) this, hc.2⟩
      obtain ⟨m, hm, rfl⟩ := (in_lit (M := 40) (by decide)).mp hc0
      have H6 : ∀ {Q : Int32 → TS → Prop}, (∀ T2, atT T T2 (rsX (T.2 0) n tn d m).1 → Q (rsX (T.2 0) n tn d m).2 T2) → ∃ f, wX6_rounds_28 Q f (nI d) (nI m) 0 0 T := by
        intro Q hQ
        suffices H : ∀ r k, k + r = m → ∀ T2, atT T T2 (rsX (T.2 0) n tn d k).1 → wX6_rounds_28 Q (r + 1) (nI d) (nI m) (rsX (T.2 0) n tn d k).2 (nI k) T2 from ⟨m + 1, H m 0 (by omega) T ⟨rfl, rfl, fun _ _ _ _ => rfl⟩⟩
        intro r
        induction r with
        | zero =>
          intro k e T2 hT2
          have e2 : k = m := by omega
          subst e2
          exact brY (nI_le (Nat.le_refl _) (by omega)) (hQ T2 hT2)
        | succ r ih =>
          intro k e T2 hT2
          obtain ⟨V', hR⟩ := rs_RS h0 hd k
          refine brN (nI_ge (by omega) (by omega)) (rd6 hR hT2 hd (fun T3 hT3 => ?_))
          rw [nI_1, ← rsX_2]
          rw [← rsX_1] at hT3
          exact ih (k + 1) (by omega) T3 hT3
      refine isIn0_y hc (br1 ?_)
      suffices H : ∀ r k, k + r = m → ∀ V2, (RS V2 0 (rsX (T.2 0) n tn d k).1 n dn tn ∧ restV V V2 ∧ vM V2 = vM V ∧ vSp V2 0 = vSp V 0 ∧ vTx V2 0 = vTx V 0) → wX0_rounds_26 (fun r V1 => wX6_isDeed (nI d) T (fun r1 T2 => (r1 = 0 → (fun r2 T2 => r = r2 ∧ Rel V1 T2) (-1000000001 : Int32) T2) ∧ (¬ r1 = 0 → wX6_isIn (nI m).toInt64 (1 : Int64) (40 : Int64) (fun r3 => (r3 = 0 → (fun r2 T2 => r = r2 ∧ Rel V1 T2) (-1000000001 : Int32) T2) ∧ (¬ r3 = 0 → ∃ f_28, wX6_rounds_28 (fun r2 T2 => r = r2 ∧ Rel V1 T2) f_28 (nI d) (nI m) (0 : Int32) (0 : Int32) T2))))) (r + 1) (nI d) (nI m) (rsX (T.2 0) n tn d k).2 (nI k) V2 from ⟨m + 1, H m 0 (by omega) V ⟨h0, restV.rf, rfl, rfl, rfl⟩⟩
      intro r
      induction r with
      | zero =>
        intro k e V2 hV2
        have e2 : k = m := by omega
        subst e2
        refine brY (nI_le (Nat.le_refl _) (by omega)) (dee_y6 h0.d0.2 hdn hd (br1 (isIn6_y hc (br1 (H6 (fun T2 hT2 => ⟨rfl, ?_⟩))))))
        exact hr.st0s hV2.2.1 hT2.rest hV2.2.2.1 hV2.2.2.2.1 hV2.2.2.2.2 ⟨n, dn, tn, by rw [hT2.2.1]; exact hV2.1⟩
      | succ r ih =>
        intro k e V2 hV2
        refine brN (nI_ge (by omega) (by omega)) ⟨vp_in_nI (by omega) (by omega), ?_⟩
        rw [nI_clamp (by omega)]
        refine rd0 hV2.1 hV2.2 hd (fun V3 hV3 => ?_)
        rw [nI_1, ← rsX_2]
        rw [← rsX_1] at hV3
        exact ih (k + 1) (by omega) V3 ⟨hV3.1, hV3.2.2⟩
    · exact isIn0_n hc (br0 (dee_y6 h0.d0.2 hdn hd (br1 (isIn6_n hc (br0 ⟨rfl, hr⟩)))))
  · exact dee_n0 h0.d0.1 hdn ha (br0 (dee_n6 h0.d0.2 hdn ha (br0 ⟨rfl, hr⟩)))
