set_option maxRecDepth 100000
theorem cP_add {a b c : Nat → Bool} : ∀ l : List Nat, (∀ i, i ∈ l → ((a i = true ∧ b i = false ∧ c i = true) ∨ (a i = false ∧ b i = true ∧ c i = true) ∨ (a i = false ∧ b i = false ∧ c i = false))) → l.countP a + l.countP b = l.countP c := by
  intro l
  induction l with
  | nil => intro _; rfl
  | cons x l ih =>
    intro h
    have h1 := ih (fun i hi => h i (List.mem_cons_of_mem _ hi))
    rw [List.countP_cons, List.countP_cons, List.countP_cons]
    rcases h x List.mem_cons_self with ⟨q1, q2, q3⟩ | ⟨q1, q2, q3⟩ | ⟨q1, q2, q3⟩ <;> simp [q1, q2, q3] <;> omega
theorem pc_ev : ∀ n, n < 13 → (List.range 12).countP (fun i => decide (i < n)) = n := by decide
theorem pc_split {n : Nat} {x : Int32} (hn : n ≤ 12) (h : subn n x) : pc (nu (ev n &&& cmpl x)) + pc (nu x) = n := by
  unfold pc
  rw [cP_add (c := fun i => decide (i < n)) (List.range 12) (fun i hi => ?_), pc_ev n (by omega)]
  have hi2 : i < 12 := List.mem_range.mp hi
  rw [nu_bit, nu_bit, b_and, b_ev hn (by omega), b_cmpl _ (by omega)]
  by_cases h1 : i < n
  · cases hb : bt x i <;> simp [h1]
  · rw [h i (by omega)]
    simp [h1]
theorem pcI_split {n : Nat} {x : Int32} (hn : n ≤ 12) (h : subn n x) : nI n - pcI (ev n &&& cmpl x) = pcI x := by
  have := pc_split hn h
  unfold pcI
  rw [pk_sub (by omega)]
  congr 1
  omega
/-- a deed's numbers change, the deed stays -/
def setX (X : Nat → Int32) (d : Nat) (y3 y4 y5 : Int32) : Nat → Int32 := upd (upd (upd X (66 + 6 * d + 4) y4) (66 + 6 * d + 5) y5) (66 + 6 * d + 3) y3
theorem op_again {V : CV} {T : TS} (hr : Rel V T) (a : Int32) : wX0_again a V (fun r V1 => wX6_again a T (fun r2 T2 => r = r2 ∧ Rel V1 T2)) := by
  obtain ⟨n, dn, tn, h0⟩ := hr.1
  have hn := h0.1.1
  have hdn := h0.1.2.1
  unfold wX0_again wX6_again
  by_cases ha : ∃ p, p < dn ∧ a = nI p
  · obtain ⟨d, hd, rfl⟩ := ha
    have hin : vp_in (nI d) 8 := vp_in_nI (by omega) (by omega)
    obtain ⟨f0, f1, f2⟩ := h0.2.2.2.2.2.2.2.2.2.2.1 d hd
    refine dee_y0 h0.d0.1 hdn hd (br1 ⟨hin, ?_⟩)
    rw [nI_clamp (by omega)]
    refine lm0 h0 hd ⟨hin, by decide, by omega, by decide, ?_⟩
    refine dee_y6 h0.d0.2 hdn hd (br1 ?_)
    rw [de_4, de_5, nI_clamp (by omega), nI_clamp (by omega)]
    refine ⟨vp_in_nI (by omega) (by omega), vp_in_nI (by omega) (by omega), bec6 (66 + 6 * d + 3) (de_3 d) (by omega) ?_⟩
    have e3 : (ts (ts T 0 (66 + 6 * d + 4) 0) 0 (66 + 6 * d + 5) 0).2 0 (66 + 6 * d + 3) = T.2 0 (66 + 6 * d + 3) := by rw [ts_s, ts_s, upd_n (by omega), upd_n (by omega)]
    rw [e3, h0.n0.1]
    refine ones_set (subn_up f2 hn) ⟨pcI_split hn f2, hr.st0s ((restV_D.tr restV_D).tr restV_D) ((restT_ts.tr restT_ts).tr restT_ts) rfl rfl rfl ⟨n, dn, tn, ?_⟩⟩
    rw [ts_s, ts_s, ts_s]
    have hev : ((1 : Int32) <<< (nI n &&& 31)) - 1 = ev n &&& cmpl 0 := by
      show ev n = _
      apply b_ext
      intro i hi
      rw [b_and, b_cmpl _ hi, b_0]
      simp
    refine RS_dee h0 hdn (fun j h1 h2 => by rw [upd_n (by omega), upd_n (by omega), upd_n (by omega)]) (by rw [upd_n (by omega), upd_n (by omega), upd_n (by omega)]; exact h0.d0.2) h0.d0.1 (fun _ _ => rfl) rfl rfl rfl rfl (fun d' hd' => ?_) (fun d' hd' => ?_)
    · obtain ⟨d0, d1, d2, d3, d4, d5⟩ := h0.2.2.2.2.2.2.2.2.2.1 d' hd'
      rw [upd_n (j := 66 + 6 * d') (by omega), upd_n (j := 66 + 6 * d') (by omega), upd_n (j := 66 + 6 * d') (by omega), upd_n (j := 66 + 6 * d' + 1) (by omega), upd_n (j := 66 + 6 * d' + 1) (by omega), upd_n (j := 66 + 6 * d' + 1) (by omega), upd_n (j := 66 + 6 * d' + 2) (by omega), upd_n (j := 66 + 6 * d' + 2) (by omega), upd_n (j := 66 + 6 * d' + 2) (by omega)]
      refine ⟨by simpa [cvs] using d0, by simpa [cvs] using d1, by simpa [cvs] using d2, ?_, ?_, ?_⟩
      · by_cases e : d' = d
        · subst e
          rw [upd_s, ← hev]
          simp [cvs]
        · rw [upd_n (by omega), upd_n (by omega), upd_n (by omega)]
          simpa [cvs, e] using d3
      · by_cases e : d' = d
        · subst e
          rw [upd_n (by omega), upd_n (by omega), upd_s]
          simp [cvs]
        · rw [upd_n (by omega), upd_n (by omega), upd_n (by omega)]
          simpa [cvs, e] using d4
      · by_cases e : d' = d
        · subst e
          rw [upd_n (by omega), upd_s]
          simp [cvs]
        · rw [upd_n (by omega), upd_n (by omega), upd_n (by omega)]
          simpa [cvs, e] using d5
    · obtain ⟨g0, g1, g2⟩ := h0.2.2.2.2.2.2.2.2.2.2.1 d' hd'
      rw [upd_n (j := 66 + 6 * d') (by omega), upd_n (j := 66 + 6 * d') (by omega), upd_n (j := 66 + 6 * d') (by omega), upd_n (j := 66 + 6 * d' + 1) (by omega), upd_n (j := 66 + 6 * d' + 1) (by omega), upd_n (j := 66 + 6 * d' + 1) (by omega)]
      refine ⟨g0, g1, ?_⟩
      by_cases e : d' = d
      · subst e
        rw [upd_s]
        exact subn_0
      · rw [upd_n (by omega), upd_n (by omega), upd_n (by omega)]
        exact g2
  · exact dee_n0 h0.d0.1 hdn ha (br0 (dee_n6 h0.d0.2 hdn ha (br0 ⟨rfl, hr⟩)))
theorem op_say {V : CV} {T : TS} (hr : Rel V T) (a c z : Int32) : wX0_say a c z V (fun r V1 => wX6_say a c z T (fun r2 T2 => r = r2 ∧ Rel V1 T2)) := by
  obtain ⟨n, dn, tn, h0⟩ := hr.1
  have hn := h0.1.1
  have hdn := h0.1.2.1
  unfold wX0_say wX6_say
  by_cases ha : ∃ p, p < n ∧ a = nI p
  · obtain ⟨p, hp, rfl⟩ := ha
    refine per_y0 h0.n0.1 hn hp (br1 ?_)
    by_cases hc : ∃ p, p < dn ∧ c = nI p
    · obtain ⟨d, hd, rfl⟩ := hc
      refine dee_y0 h0.d0.1 hdn hd (br1 ?_)
      by_cases hz : ∃ p, p < n ∧ z = nI p
      · obtain ⟨q, hq, rfl⟩ := hz
        refine per_y0 h0.n0.1 hn hq (br1 (ff0 h0 (fun V1 hV1 hf => ⟨vp_in_nI (by omega) (by omega), ?_⟩)))
        rw [nI_clamp (by omega)]
        have h1 := h0.same hV1
        refine may0 h1 hf hd hq (fun V2 hV2 => ?_)
        have h2 := h1.ev0 hV2
        have hr2 := hr.same (hV1.tr hV2.same) sameT.rf
        refine brI (fun e => per_y6 h0.n0.2 hn hp (br1 (dee_y6 h0.d0.2 hdn hd (br1 (per_y6 h0.n0.2 hn hq (br1 (may6 h0 hd hq (fun T' hT => brY e ⟨rfl, hr2.same sameV.rf hT.same⟩)))))))) (fun e => ?_)
        refine says0 h2 (FF.ev hf hV2) hd hq (gb_s h0 hq) (fun V3 hR3 hrest hM hSp hTx _ _ _ _ => lm0 hR3 hd (per_y6 h0.n0.2 hn hp (br1 (dee_y6 h0.d0.2 hdn hd (br1 (per_y6 h0.n0.2 hn hq (br1 (may6 h0 hd hq (fun T' hT => brN e ?_)))))))))
        have h0' := h0.ev6 hT
        have eT : T'.2 0 = T.2 0 := hT.2 0 (by decide) (by decide)
        refine says6 h0' hd hq ?_
        rw [eT]
        have hR3' : RS V3 0 ((sayT T' d (gb (T.2 0) n q)).2 0) n dn tn := by rw [sayT_0, eT]; exact hR3
        refine lf6 hR3' hd (ones_set (subn_up (lf_s hn) hn) ⟨by rw [sayT_0, eT], ?_⟩)
        exact (hr2.same sameV.rf hT.same).st0s hrest ⟨rfl, rfl, rfl, fun k hk => sayT_o (by omega)⟩ hM hSp hTx ⟨n, dn, tn, hR3'⟩
      · exact per_n0 h0.n0.1 hn hz (br0 (per_y6 h0.n0.2 hn hp (br1 (dee_y6 h0.d0.2 hdn hd (br1 (per_n6 h0.n0.2 hn hz (br0 ⟨rfl, hr⟩)))))))
    · exact dee_n0 h0.d0.1 hdn hc (br0 (per_y6 h0.n0.2 hn hp (br1 (dee_n6 h0.d0.2 hdn hc (br0 ⟨rfl, hr⟩)))))
  · exact per_n0 h0.n0.1 hn ha (br0 (per_n6 h0.n0.2 hn ha (br0 ⟨rfl, hr⟩)))
theorem op_meant {V : CV} {T : TS} (hr : Rel V T) (a : Int32) : wX0_meant a V (fun r V1 => wX6_meant a T (fun r2 T2 => r = r2 ∧ Rel V1 T2)) := by
  obtain ⟨n, dn, tn, h0⟩ := hr.1
  have hn := h0.1.1
  have hdn := h0.1.2.1
  unfold wX0_meant wX6_meant
  by_cases ha : ∃ p, p < dn ∧ a = nI p
  · obtain ⟨d, hd, rfl⟩ := ha
    obtain ⟨f0, f1, f2⟩ := h0.2.2.2.2.2.2.2.2.2.2.1 d hd
    refine dee_y0 h0.d0.1 hdn hd (br1 ⟨vp_in_nI (by omega) (by omega), by decide, ?_⟩)
    rw [nI_clamp (by omega), h0.n0.1, (h0.2.2.2.2.2.2.2.2.2.1 d hd).2.2.2.1]
    have e : (((1 : Int32) <<< (nI n &&& 31)) - 1) &&& ((ev n &&& cmpl (T.2 0 (66 + 6 * d + 3))) ^^^ (-1 : Int32)) = T.2 0 (66 + 6 * d + 3) := by
      show ev n &&& cmpl (ev n &&& cmpl (T.2 0 (66 + 6 * d + 3))) = _
      apply b_ext
      intro i hi
      rw [b_and, b_cmpl _ hi, b_and, b_cmpl _ hi, b_ev hn hi]
      by_cases h1 : i < n
      · simp [h1]
      · rw [f2 i (by omega)]
        simp [h1]
    show wJ5_highestOneBit ((((1 : Int32) <<< (nI n &&& 31)) - 1) &&& ((ev n &&& cmpl (T.2 0 (66 + 6 * d + 3))) ^^^ (-1 : Int32))) _
    rw [e]
    have y6 : ∀ {Q : Int32 → TS → Prop}, Q 1 T → wX6_isDeed (nI d) T Q := fun h => dee_y6 h0.d0.2 hdn hd h
    refine hob0 (subn_up f2 hn) ?_
    cases hg : grN (nu (T.2 0 (66 + 6 * d + 3))) 12 with
    | none =>
      refine br0 (y6 (br1 (dee6 3 (by omega) (by omega) (gr6 ?_))))
      rw [hg]
      exact brN (by decide) ⟨rfl, hr⟩
    | some k =>
      have hk := (grN_lt 12 k hg).1
      refine brN (fun z => ?_) (y6 (br1 (dee6 3 (by omega) (by omega) (gr6 ?_))))
      · have z1 : one k = 0 := z
        have := b_one (p := k) (i := k) (by omega) (by omega)
        rw [z1, b_0] at this
        simp at this
      · rw [hg]
        exact brY (nn0 (by omega)) (lf6 h0 hd ⟨rfl, hr⟩)
  · exact dee_n0 h0.d0.1 hdn ha (br0 (dee_n6 h0.d0.2 hdn ha (br0 ⟨rfl, hr⟩)))
