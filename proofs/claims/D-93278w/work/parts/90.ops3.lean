set_option maxRecDepth 100000
theorem X1 {V : CV} {T : TS} {n dn tn : Nat} (h0 : RS V 0 (T.2 0) n dn tn) : T.2 0 (1 : Int32).toNatClampNeg = nI dn := h0.d0.2
theorem X0' {V : CV} {T : TS} {n dn tn : Nat} (h0 : RS V 0 (T.2 0) n dn tn) : T.2 0 (0 : Int32).toNatClampNeg = nI n := h0.n0.2
def gone (X : Nat → Int32) (p : Nat) : Nat → Int32
  | 0 => 0
  | d + 1 => gone X p d + b01 (bt (X (66 + 6 * d + 3)) p)
theorem gone6 {V : CV} {T : TS} {n dn tn p : Nat} (h0 : RS V 0 (T.2 0) n dn tn) (hp : p < 32) {Q : Int32 → TS → Prop} (hq : Q (gone (T.2 0) p dn) T) : wX6_goneOn (nI p) T Q := by
  have hdn := h0.1.2.1
  suffices H : ∀ r d, d + r = dn → wX6_goneOn_4 Q (r + 1) (nI p) (gone (T.2 0) p d) (nI d) T from ⟨dn + 1, H dn 0 (by omega)⟩
  intro r
  induction r with
  | zero =>
    intro d e
    have e2 : d = dn := by omega
    subst e2
    refine ⟨pk_in 1 3114 (by omega), ?_⟩
    rw [X1 h0]
    exact brY (nI_le (Nat.le_refl _) (by omega)) hq
  | succ r ih =>
    intro d e
    refine ⟨pk_in 1 3114 (by omega), ?_⟩
    rw [X1 h0]
    refine brN (nI_ge (by omega) (by omega)) (dee6 3 (by omega) (by omega) ?_)
    rw [bt_test _ hp, nI_1]
    exact ih (d + 1) (by omega)
theorem b_lf {V : CV} {X : Nat → Int32} {n dn tn p d : Nat} (h0 : RS V 0 X n dn tn) (hp : p < n) (hd : d < dn) : bt (vD V 0 d 3) p = !bt (X (66 + 6 * d + 3)) p := by
  have hn := h0.1.1
  rw [(h0.2.2.2.2.2.2.2.2.2.1 d hd).2.2.2.1, b_and, b_ev hn (by omega), b_cmpl _ (by omega)]
  simp [hp]
theorem gone0 {V : CV} {X : Nat → Int32} {n dn tn p : Nat} (h0 : RS V 0 X n dn tn) (hp : p < n) {Q : Int32 → CV → Prop} (hq : Q (gone X p dn) V) : wX0_goneOn (nI p) V Q := by
  have hn := h0.1.1
  have hdn := h0.1.2.1
  suffices H : ∀ r d, d + r = dn → wX0_goneOn_4 Q (r + 1) (nI p) (gone X p d) (nI d) V from ⟨dn + 1, H dn 0 (by omega)⟩
  intro r
  induction r with
  | zero =>
    intro d e
    have e2 : d = dn := by omega
    subst e2
    unfold wX0_goneOn_4
    rw [h0.d0.1]
    exact brY (nI_le (Nat.le_refl _) (by omega)) hq
  | succ r ih =>
    intro d e
    unfold wX0_goneOn_4
    rw [h0.d0.1]
    refine brN (nI_ge (by omega) (by omega)) ⟨vp_in_nI (by omega) (by omega), has0 (by omega) ?_⟩
    unfold wX0_goneOn_40
    rw [nI_clamp (by omega), b_lf h0 hp (by omega), nI_1]
    have := ih (d + 1) (by omega)
    unfold gone at this
    cases hb : bt (X (66 + 6 * d + 3)) p
    · rw [hb] at this
      exact br1 this
    · rw [hb] at this
      exact br0 this
theorem spW {kn : Nat} (h : kn ≤ 5) (b : Int32) : spWorth (7 + kn) b = worth kn b := by
  match kn, h with
  | 0, _ => rfl
  | 1, _ => rfl
  | 2, _ => rfl
  | 3, _ => rfl
  | 4, _ =>
    show (100 : Int32) - b - 7 = 93 - b
    rw [Int32.sub_eq_add_neg, Int32.sub_eq_add_neg, Int32.add_assoc, Int32.add_comm (-b), ← Int32.add_assoc, show (100 : Int32) + -7 = 93 by decide, ← Int32.sub_eq_add_neg]
  | 5, _ => rfl
theorem worth6 {kn : Nat} (h : kn ≤ 5) {b : Int32} {Q : Int32 → Prop} (hq : Q (worth kn b)) : wX6_worthOf (nI kn) b Q := by
  unfold wX6_worthOf
  match kn, h with
  | 0, _ => exact brN (by decide) (brN (by decide) (brN (by decide) (brN (by decide) (brN (by decide) hq))))
  | 1, _ => exact brY rfl hq
  | 2, _ => exact brN (by decide) (brY rfl hq)
  | 3, _ => exact brN (by decide) (brN (by decide) (brY rfl hq))
  | 4, _ => exact brN (by decide) (brN (by decide) (brN (by decide) (brY rfl hq)))
  | 5, _ => exact brN (by decide) (brN (by decide) (brN (by decide) (brN (by decide) (brY rfl hq))))
theorem op_told {V : CV} {T : TS} (hr : Rel V T) (a c : Int32) : wX0_told a c V (fun r V1 => wX6_told a c T (fun r2 T2 => r = r2 ∧ Rel V1 T2)) := by
  obtain ⟨n, dn, tn, h0⟩ := hr.1
  have hn := h0.1.1
  unfold wX0_told wX6_told
  by_cases ha : ∃ p, p < n ∧ a = nI p
  · obtain ⟨p, hp, rfl⟩ := ha
    obtain ⟨ad, kn, g1, g2, g3, g4⟩ := h0.2.2.2.2.2.2.1 p hp
    obtain ⟨s4, s5, s6⟩ := h0.2.2.2.2.2.2.2.1 p hp
    have hsp : isSpk (7 + kn) := ⟨by omega, by omega⟩
    have hin : vp_in (nI p) 12 := vp_in_nI (by omega) (by omega)
    have y6 : ∀ {Q : Int32 → TS → Prop}, Q 1 T → wX6_isPerson (nI p) T Q := fun h => per_y6 h0.n0.2 hn hp h
    refine per_y0 h0.n0.1 hn hp (br1 ⟨hin, ?_⟩)
    rw [nI_clamp (by omega)]
    refine brI (fun e => ⟨ad, g3, 7 + kn, _, hsp, g4, y6 (br1 (brY e (of6 0 (by omega) (by omega) ⟨by rw [spK g1, ← g2]; rfl, hr⟩ e)))⟩) (fun e0 => ?_)
    refine brI (fun e => ⟨ad, g3, 7 + kn, _, hsp, g4, y6 (br1 (brN e0 (brY e (of6 1 (by omega) (by omega) ⟨rfl, hr⟩ e))))⟩) (fun e1 => ?_)
    refine brI (fun e => ⟨hin, y6 (br1 (brN e0 (brN e1 (brY e (of6 2 (by omega) (by omega) ⟨s4, hr⟩ e)))))⟩) (fun e2 => ?_)
    refine brI (fun e => ⟨hin, y6 (br1 (brN e0 (brN e1 (brN e2 (brY e (of6 3 (by omega) (by omega) ⟨s5, hr⟩ e))))))⟩) (fun e3 => ?_)
    refine brI (fun e => ff0 h0 (fun V' hV hf => ⟨hin, y6 (br1 (brN e0 (brN e1 (brN e2 (brN e3 (brY e ((fol6' h0 hp).2 _ ⟨hf p hp, hr.same hV sameT.rf⟩)))))))⟩)) (fun e4 => ?_)
    refine brI (fun e => ⟨ad, g3, 7 + kn, _, hsp, g4, y6 (br1 (brN e0 (brN e1 (brN e2 (brN e3 (brN e4 (brY e (of6 0 (by omega) (by omega) (of6 1 (by omega) (by omega) ?_)))))))))⟩) (fun e5 => ?_)
    · rw [show T.2 0 (6 + 5 * p + 0) = nI kn from g2]
      exact worth6 g1 ⟨spW g1 _, hr⟩
    refine brI (fun e => gone0 h0 hp (y6 (br1 (brN e0 (brN e1 (brN e2 (brN e3 (brN e4 (brN e5 (brY e (gone6 h0 (by omega) ⟨rfl, hr⟩)))))))))) ) (fun e6 => ?_)
    exact y6 (br1 (brN e0 (brN e1 (brN e2 (brN e3 (brN e4 (brN e5 (brN e6 ⟨rfl, hr⟩))))))))
  · exact per_n0 h0.n0.1 hn ha (br0 (per_n6 h0.n0.2 hn ha (br0 ⟨rfl, hr⟩)))
theorem op_deedTold {V : CV} {T : TS} (hr : Rel V T) (a c : Int32) : wX0_deedTold a c V (fun r V1 => wX6_deedTold a c T (fun r2 T2 => r = r2 ∧ Rel V1 T2)) := by
  obtain ⟨n, dn, tn, h0⟩ := hr.1
  have hdn := h0.1.2.1
  unfold wX0_deedTold wX6_deedTold
  by_cases ha : ∃ p, p < dn ∧ a = nI p
  · obtain ⟨d, hd, rfl⟩ := ha
    obtain ⟨d0, d1, d2, d3, d4, d5⟩ := h0.2.2.2.2.2.2.2.2.2.1 d hd
    have y6 : ∀ {Q : Int32 → TS → Prop}, Q 1 T → wX6_isDeed (nI d) T Q := fun h => dee_y6 h0.d0.2 hdn hd h
    refine dee_y0 h0.d0.1 hdn hd (br1 ⟨vp_in_nI (by omega) (by omega), ?_⟩)
    rw [nI_clamp (by omega)]
    refine brI (fun e => y6 (br1 (brY e (dee6 0 (by omega) (by omega) ⟨d0, hr⟩ e)))) (fun e0 => ?_)
    refine brI (fun e => y6 (br1 (brN e0 (brY e (dee6 1 (by omega) (by omega) ⟨d1, hr⟩ e))))) (fun e1 => ?_)
    refine brI (fun e => y6 (br1 (brN e0 (brN e1 (brY e (dee6 2 (by omega) (by omega) ⟨d2, hr⟩ e)))))) (fun e2 => ?_)
    refine brI (fun e => y6 (br1 (brN e0 (brN e1 (brN e2 (brY e (lf6 h0 hd ⟨d3, hr⟩))))))) (fun e3 => ?_)
    refine brI (fun e => y6 (br1 (brN e0 (brN e1 (brN e2 (brN e3 (brY e (dee6 4 (by omega) (by omega) ⟨d4, hr⟩ e)))))))) (fun e4 => ?_)
    refine brI (fun e => y6 (br1 (brN e0 (brN e1 (brN e2 (brN e3 (brN e4 (brY e (dee6 5 (by omega) (by omega) ⟨d5, hr⟩ e))))))))) (fun e5 => ?_)
    refine brI (fun e => cost0 h0 hd (fun V' hV => y6 (br1 (brN e0 (brN e1 (brN e2 (brN e3 (brN e4 (brN e5 (brY e (cost6 h0 hd (fun T' hT => ⟨rfl, hr.same hV.same hT.same⟩)))))))))))) (fun e6 => ?_)
    refine brI (fun e => ?_) (fun e7 => ?_)
    · rw [show vD V 0 d 3 = lf (T.2 0) n d from d3, d0]
      exact brI (fun q => y6 (br1 (brN e0 (brN e1 (brN e2 (brN e3 (brN e4 (brN e5 (brN e6 (brY e (lf6 h0 hd (dee6 0 (by omega) (by omega) (brY q ⟨rfl, hr⟩))))))))))))) (fun q => y6 (br1 (brN e0 (brN e1 (brN e2 (brN e3 (brN e4 (brN e5 (brN e6 (brY e (lf6 h0 hd (dee6 0 (by omega) (by omega) (brN q ⟨rfl, hr⟩)))))))))))))
    · exact y6 (br1 (brN e0 (brN e1 (brN e2 (brN e3 (brN e4 (brN e5 (brN e6 (brN e7 ⟨rfl, hr⟩)))))))))
  · exact dee_n0 h0.d0.1 hdn ha (br0 (dee_n6 h0.d0.2 hdn ha (br0 ⟨rfl, hr⟩)))
/-! ===== silent, count, proved ===== -/
def sil (X : Nat → Int32) (n : Nat) : Nat → Int32
  | 0 => ev n
  | d + 1 => sil X n d &&& lf X n d
theorem op_silent {V : CV} {T : TS} (hr : Rel V T) : wX0_silent V (fun r V1 => wX6_silent T (fun r2 T2 => r = r2 ∧ Rel V1 T2)) := by
  obtain ⟨n, dn, tn, h0⟩ := hr.1
  have hdn := h0.1.2.1
  have H6 : ∀ {Q : Int32 → TS → Prop}, Q (sil (T.2 0) n dn) T → wX6_silent T Q := by
    intro Q hq
    refine evb6 h0 ?_
    suffices H : ∀ r d, d + r = dn → wX6_silent_7 Q (r + 1) (sil (T.2 0) n d) (nI d) T from ⟨dn + 1, H dn 0 (by omega)⟩
    intro r
    induction r with
    | zero =>
      intro d e
      have e2 : d = dn := by omega
      subst e2
      refine ⟨pk_in 1 3114 (by omega), ?_⟩
      rw [X1 h0]
      exact brY (nI_le (Nat.le_refl _) (by omega)) hq
    | succ r ih =>
      intro d e
      refine ⟨pk_in 1 3114 (by omega), ?_⟩
      rw [X1 h0]
      refine brN (nI_ge (by omega) (by omega)) (lf6 h0 (by omega) ?_)
      rw [nI_1]
      exact ih (d + 1) (by omega)
  refine ⟨by decide, ?_⟩
  rw [h0.n0.1]
  suffices H : ∀ r d, d + r = dn → wX0_silent_10 (fun r V1 => wX6_silent T (fun r2 T2 => r = r2 ∧ Rel V1 T2)) (r + 1) (sil (T.2 0) n d) (nI d) V from ⟨dn + 1, H dn 0 (by omega)⟩
  intro r
  induction r with
  | zero =>
    intro d e
    have e2 : d = dn := by omega
    subst e2
    unfold wX0_silent_10
    rw [h0.d0.1]
    exact brY (nI_le (Nat.le_refl _) (by omega)) (H6 ⟨rfl, hr⟩)
  | succ r ih =>
    intro d e
    unfold wX0_silent_10
    rw [h0.d0.1]
    refine brN (nI_ge (by omega) (by omega)) ⟨vp_in_nI (by omega) (by omega), ?_⟩
    rw [nI_1, nI_clamp (by omega), (h0.2.2.2.2.2.2.2.2.2.1 d (by omega)).2.2.2.1]
    exact ih (d + 1) (by omega)
def sm (X : Nat → Int32) (k : Nat) : Nat → Int32
  | 0 => 0
  | d + 1 => sm X k d + X (66 + 6 * d + k)
theorem sm6 {V : CV} {T : TS} {n dn tn k : Nat} (h0 : RS V 0 (T.2 0) n dn tn) (hk : k < 6) {Q : Int32 → TS → Prop} (hq : Q (sm (T.2 0) k dn) T) : wX6_ofAll (nI k) T Q := by
  have hdn := h0.1.2.1
  suffices H : ∀ r d, d + r = dn → wX6_ofAll_4 Q (r + 1) (nI k) (sm (T.2 0) k d) (nI d) T from ⟨dn + 1, H dn 0 (by omega)⟩
  intro r
  induction r with
  | zero =>
    intro d e
    have e2 : d = dn := by omega
    subst e2
    refine ⟨pk_in 1 3114 (by omega), ?_⟩
    rw [X1 h0]
    exact brY (nI_le (Nat.le_refl _) (by omega)) hq
  | succ r ih =>
    intro d e
    refine ⟨pk_in 1 3114 (by omega), ?_⟩
    rw [X1 h0]
    refine brN (nI_ge (by omega) (by omega)) (dee6 k (by omega) hk ?_)
    rw [nI_1]
    exact ih (d + 1) (by omega)
theorem sm0 {V : CV} {X : Nat → Int32} {n dn tn k : Nat} (h0 : RS V 0 X n dn tn) {z : Int32} (hk : (k = 4 ∧ z = 0) ∨ (k = 5 ∧ z = 1)) {Q : Int32 → CV → Prop} (hq : Q (sm X k dn) V) : wX0_sumOf z V Q := by
  have hdn := h0.1.2.1
  suffices H : ∀ r d, d + r = dn → wX0_sumOf_4 Q (r + 1) z (sm X k d) (nI d) V from ⟨dn + 1, H dn 0 (by omega)⟩
  intro r
  induction r with
  | zero =>
    intro d e
    have e2 : d = dn := by omega
    subst e2
    unfold wX0_sumOf_4
    rw [h0.d0.1]
    exact brY (nI_le (Nat.le_refl _) (by omega)) hq
  | succ r ih =>
    intro d e
    unfold wX0_sumOf_4 wX0_sumOf_47
    obtain ⟨-, -, -, -, d4, d5⟩ := h0.2.2.2.2.2.2.2.2.2.1 d (by omega)
    rw [h0.d0.1, nI_clamp (by omega), nI_1, d4, d5]
    have := ih (d + 1) (by omega)
    refine brN (nI_ge (by omega) (by omega)) ?_
    rcases hk with ⟨rfl, rfl⟩ | ⟨rfl, rfl⟩
    · exact brY rfl ⟨vp_in_nI (by omega) (by omega), this⟩
    · exact brN (by decide) ⟨vp_in_nI (by omega) (by omega), this⟩
theorem op_count {V : CV} {T : TS} (hr : Rel V T) (a : Int32) : wX0_count a V (fun r V1 => wX6_count a T (fun r2 T2 => r = r2 ∧ Rel V1 T2)) := by
  obtain ⟨n, dn, tn, h0⟩ := hr.1
  obtain ⟨m, -, hm1, hm2, -⟩ := hr.2.2.2.1
  obtain ⟨m', -, hw1, hw2, -⟩ := hr.2.2.2.2.1
  unfold wX0_count wX6_count
  refine brI (fun e => brY e ⟨pk_in 0 3114 (by omega), h0.n0.1.trans h0.n0.2.symm, hr⟩) (fun e0 => ?_)
  refine brI (fun e => brN e0 (brY e ⟨pk_in 1 3114 (by omega), h0.d0.1.trans h0.d0.2.symm, hr⟩)) (fun e1 => ?_)
  refine brI (fun e => brN e0 (brN e1 (brY e ⟨pk_in 3 3114 (by omega), h0.2.2.2.2.1, hr⟩))) (fun e2 => ?_)
  refine brI (fun e => sm0 (k := 4) h0 (Or.inl ⟨rfl, rfl⟩) (brN e0 (brN e1 (brN e2 (brY e (sm6 (k := 4) h0 (by omega) ⟨rfl, hr⟩)))))) (fun e3 => ?_)
  refine brI (fun e => sm0 (k := 5) h0 (Or.inr ⟨rfl, rfl⟩) (brN e0 (brN e1 (brN e2 (brN e3 (brY e (sm6 (k := 5) h0 (by omega) ⟨rfl, hr⟩))))))) (fun e4 => ?_)
  refine brI (fun e => brN e0 (brN e1 (brN e2 (brN e3 (brN e4 (brY e ⟨pk_in 2 3114 (by omega), h0.2.2.2.1.1.trans h0.2.2.2.1.2.symm, hr⟩)))))) (fun e5 => ?_)
  refine brI (fun e => brN e0 (brN e1 (brN e2 (brN e3 (brN e4 (brN e5 (brY e ⟨hw1.trans hw2.symm, hr⟩))))))) (fun e6 => ?_)
  refine brI (fun e => brN e0 (brN e1 (brN e2 (brN e3 (brN e4 (brN e5 (brN e6 (brY e ⟨hm1.trans hm2.symm, hr⟩)))))))) (fun e7 => ?_)
  refine brI (fun e => brN e0 (brN e1 (brN e2 (brN e3 (brN e4 (brN e5 (brN e6 (brN e7 (brY e ⟨pk_in 4 3114 (by omega), h0.2.2.2.2.2.1, hr⟩))))))))) (fun e8 => ?_)
  exact brN e0 (brN e1 (brN e2 (brN e3 (brN e4 (brN e5 (brN e6 (brN e7 (brN e8 ⟨rfl, hr⟩))))))))
noncomputable def prv (X : Nat → Int32) (n d : Nat) : Nat → Int32
  | 0 => lf X n d
  | p + 1 => prv X n d p &&& (if ((X (6 + 5 * p + 2) >>> (X (66 + 6 * d + 1) &&& 31)) &&& (1 : Int32)) = 1 then cmpl (gb X n p) else -1)
theorem op_proved {V : CV} {T : TS} (hr : Rel V T) (a : Int32) : wX0_proved a V (fun r V1 => wX6_proved a T (fun r2 T2 => r = r2 ∧ Rel V1 T2)) := by
  obtain ⟨n, dn, tn, h0⟩ := hr.1
  have hn := h0.1.1
  have hdn := h0.1.2.1
  unfold wX0_proved wX6_proved
  by_cases ha : ∃ p, p < dn ∧ a = nI p
  · obtain ⟨d, hd, rfl⟩ := ha
    refine dee_y0 h0.d0.1 hdn hd (br1 (ff0 h0 (fun V' hV hf => ⟨vp_in_nI (by omega) (by omega), ?_⟩)))
    rw [nI_clamp (by omega)]
    have h0' := h0.same hV
    obtain ⟨d0, d1, d2, d3, d4, d5⟩ := h0'.2.2.2.2.2.2.2.2.2.1 d hd
    have H6 : ∀ {Q : Int32 → TS → Prop}, Q (prv (T.2 0) n d n) T → ∃ f, wX6_proved_19 Q f (nI d) (lf (T.2 0) n d) 0 T := by
      intro Q hq
      suffices H : ∀ r p, p + r = n → wX6_proved_19 Q (r + 1) (nI d) (prv (T.2 0) n d p) (nI p) T from ⟨n + 1, H n 0 (by omega)⟩
      intro r
      induction r with
      | zero =>
        intro p e
        have e2 : p = n := by omega
        subst e2
        refine ⟨pk_in 0 3114 (by omega), ?_⟩
        rw [X0' h0]
        exact brY (nI_le (Nat.le_refl _) (by omega)) hq
      | succ r ih =>
        intro p e
        refine ⟨pk_in 0 3114 (by omega), ?_⟩
        rw [X0' h0]
        refine brN (nI_ge (by omega) (by omega)) (of6 2 (by omega) (by omega) (dee6 1 (by omega) (by omega) ?_))
        have := ih (p + 1) (by omega)
        unfold prv at this
        unfold wX6_proved_60
        rw [nI_1]
        refine brI (fun z => gb6 h0 (by omega) ?_) (fun z => ?_)
        · rw [if_pos z] at this; exact this
        · rw [if_neg z] at this; exact this
    rw [d3]
    suffices H : ∀ r p, p + r = n → wX0_proved_33 _ (r + 1) d (prv (T.2 0) n d p) (nI p) V' from ⟨n + 1, H n 0 (by omega)⟩
    intro r
    induction r with
    | zero =>
      intro p e
      have e2 : p = n := by omega
      subst e2
      unfold wX0_proved_33
      rw [h0'.n0.1]
      exact brY (nI_le (Nat.le_refl _) (by omega)) (dee_y6 h0.d0.2 hdn hd (br1 (lf6 h0 hd (H6 ⟨rfl, hr.same hV sameT.rf⟩))))
    | succ r ih =>
      intro p e
      unfold wX0_proved_33
      rw [h0'.n0.1]
      refine brN (nI_ge (by omega) (by omega)) ⟨vp_in_nI (by omega) (by omega), ?_⟩
      have := ih (p + 1) (by omega)
      unfold prv at this
      rw [nI_clamp (by omega), (h0'.2.2.2.2.2.2.2.1 p (by omega)).1, d1]
      unfold wX0_has wX0_proved_78
      rw [nI_1]
      refine brI (fun z => br1 (gb0 hf hn (by omega) ?_)) (fun z => br0 ?_)
      · rw [if_pos z] at this; exact this
      · rw [if_neg z] at this; exact this
  · exact dee_n0 h0.d0.1 hdn ha (br0 (dee_n6 h0.d0.2 hdn ha (br0 ⟨rfl, hr⟩)))
