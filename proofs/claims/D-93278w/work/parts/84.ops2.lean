set_option maxRecDepth 100000
theorem subn_bset {n q : Nat} {x : Int32} (h : subn n x) (hq : q < n) (hn : n ≤ 32) (b : Bool) : subn n (bset x q b) := by
  unfold bset
  cases b
  · exact subn_and h
  · exact subn_or h (subn_one hq hn)
theorem op_away {V : CV} {T : TS} (hr : Rel V T) (a c z : Int32) : wX0_away a c z V (fun r V1 => wX6_away a c z T (fun r2 T2 => r = r2 ∧ Rel V1 T2)) := by
  obtain ⟨n, dn, tn, h0⟩ := hr.1
  have hn := h0.1.1
  unfold wX0_away wX6_away
  by_cases ha : ∃ p, p < n ∧ a = nI p
  · obtain ⟨p, hp, rfl⟩ := ha
    refine per_y0 h0.n0.1 hn hp (br1 ?_)
    by_cases hb : inI c 0 23
    · obtain ⟨q, hq, rfl⟩ := (in_lit (M := 23) (by decide)).mp hb
      refine isIn0_y hb (br1 ?_)
      by_cases hz : inI z 0 1
      · obtain ⟨bb, rfl⟩ := in01.mp hz
        refine isIn0_y hz (br1 (bec0 (Or.inl rfl) (by omega) (by omega) ?_))
        refine per_y6 h0.n0.2 hn hp (br1 (isIn6_y hb (br1 (isIn6_y hz (br1 (bit6 (6 + 5 * p + 2) (of_2 p) (by omega) (by omega) ?_))))))
        have e1 := (h0.2.2.2.2.2.2.2.1 p hp).1
        refine ⟨by rw [e1], hr.st0s restV_SA restT_ts rfl rfl rfl ⟨n, dn, tn, ?_⟩⟩
        rw [ts_s]
        refine RS_per h0 (fun j hj => upd_n (by omega)) rfl rfl rfl (fun _ _ h _ => h) (fun p' hp' => ?_) (fun p' hp' => ?_) (fun p' hp' => ?_)
        · rw [upd_n (by omega), upd_n (by omega)]
          exact h0.2.2.2.2.2.2.1 p' hp'
        · have e2 := h0.2.2.2.2.2.2.2.1 p' hp'
          rw [upd_n (j := 6 + 5 * p' + 3) (by omega), upd_n (j := 6 + 5 * p' + 4) (by omega)]
          refine ⟨?_, by simpa [cvs] using e2.2.1, by simpa [cvs] using e2.2.2⟩
          by_cases hpp : p' = p
          · subst hpp
            rw [upd_s, ← e1]
            simp [cvs]
          · rw [upd_n (by omega), ← e2.1]
            simp [cvs, hpp]
        · obtain ⟨f1, f2, f3⟩ := h0.2.2.2.2.2.2.2.2.1 p' hp'
          rw [upd_n (by omega), upd_n (by omega)]
          exact ⟨f1, f2, fun q hq => by rw [upd_n (by omega)]; exact f3 q hq⟩
      · exact isIn0_n hz (br0 (per_y6 h0.n0.2 hn hp (br1 (isIn6_y hb (br1 (isIn6_n hz (br0 ⟨rfl, hr⟩)))))))
    · exact isIn0_n hb (br0 (per_y6 h0.n0.2 hn hp (br1 (isIn6_n hb (br0 ⟨rfl, hr⟩)))))
  · exact per_n0 h0.n0.1 hn ha (br0 (per_n6 h0.n0.2 hn ha (br0 ⟨rfl, hr⟩)))
def TWO (n : Nat) (a c z : Int32) : Prop := (∃ p, p < n ∧ a = nI p) ∧ (∃ p, p < n ∧ c = nI p) ∧ a ≠ c ∧ inI z 0 1
theorem two_y0 {V : CV} {n : Nat} {a c z : Int32} {Q : Int32 → CV → Prop} (h : vS V 0 2 = nI n) (hn : n ≤ 12) (ht : TWO n a c z) (hq : Q 1 V) : wX0_areTwo a c z V Q := by
  obtain ⟨⟨p, hp, rfl⟩, ⟨q, hq', rfl⟩, hne, hz⟩ := ht
  exact per_y0 h hn hp (br1 (per_y0 h hn hq' (br1 (brN hne (isIn0_y hz (br1 hq))))))
theorem two_n0 {V : CV} {n : Nat} {a c z : Int32} {Q : Int32 → CV → Prop} (h : vS V 0 2 = nI n) (hn : n ≤ 12) (ht : ¬ TWO n a c z) (hq : Q 0 V) : wX0_areTwo a c z V Q := by
  unfold wX0_areTwo
  by_cases ha : ∃ p, p < n ∧ a = nI p
  · obtain ⟨p, hp, rfl⟩ := ha
    refine per_y0 h hn hp (br1 ?_)
    by_cases hc : ∃ p, p < n ∧ c = nI p
    · obtain ⟨q, hq', rfl⟩ := hc
      refine per_y0 h hn hq' (br1 (brI (fun _ => hq) (fun hne => ?_)))
      by_cases hz : inI z 0 1
      · exact absurd ⟨⟨p, hp, rfl⟩, ⟨q, hq', rfl⟩, hne, hz⟩ ht
      · exact isIn0_n hz (br0 hq)
    · exact per_n0 h hn hc (br0 hq)
  · exact per_n0 h hn ha (br0 hq)
theorem two_y6 {T : TS} {n : Nat} {a c z : Int32} {Q : Int32 → TS → Prop} (h : T.2 0 0 = nI n) (hn : n ≤ 12) (ht : TWO n a c z) (hq : Q 1 T) : wX6_areTwo a c z T Q := by
  obtain ⟨⟨p, hp, rfl⟩, ⟨q, hq', rfl⟩, hne, hz⟩ := ht
  exact per_y6 h hn hp (br1 (per_y6 h hn hq' (br1 (brN hne (isIn6_y hz (br1 hq))))))
theorem two_n6 {T : TS} {n : Nat} {a c z : Int32} {Q : Int32 → TS → Prop} (h : T.2 0 0 = nI n) (hn : n ≤ 12) (ht : ¬ TWO n a c z) (hq : Q 0 T) : wX6_areTwo a c z T Q := by
  unfold wX6_areTwo
  by_cases ha : ∃ p, p < n ∧ a = nI p
  · obtain ⟨p, hp, rfl⟩ := ha
    refine per_y6 h hn hp (br1 ?_)
    by_cases hc : ∃ p, p < n ∧ c = nI p
    · obtain ⟨q, hq', rfl⟩ := hc
      refine per_y6 h hn hq' (br1 (brI (fun _ => hq) (fun hne => ?_)))
      by_cases hz : inI z 0 1
      · exact absurd ⟨⟨p, hp, rfl⟩, ⟨q, hq', rfl⟩, hne, hz⟩ ht
      · exact isIn6_n hz (br0 hq)
    · exact per_n6 h hn hc (br0 hq)
  · exact per_n6 h hn ha (br0 hq)
theorem op_follow {V : CV} {T : TS} (hr : Rel V T) (a c z : Int32) : wX0_follow a c z V (fun r V1 => wX6_follow a c z T (fun r2 T2 => r = r2 ∧ Rel V1 T2)) := by
  obtain ⟨n, dn, tn, h0⟩ := hr.1
  have hn := h0.1.1
  unfold wX0_follow wX6_follow
  by_cases ht : TWO n a c z
  · refine two_y0 h0.n0.1 hn ht (br1 ?_)
    have ht2 := ht
    obtain ⟨⟨p, hp, rfl⟩, ⟨q, hq, rfl⟩, hne, hz⟩ := ht
    obtain ⟨bb, rfl⟩ := in01.mp hz
    refine bec0 (Or.inr (Or.inr rfl)) (by omega) (by omega) ?_
    refine two_y6 h0.n0.2 hn ht2 (br1 (bit6 (6 + 5 * p + 4) (of_4 p) (by omega) (by omega) ?_))
    have e1 := (h0.2.2.2.2.2.2.2.1 p hp).2.2
    refine ⟨by rw [e1], hr.st0s restV_SA restT_ts rfl rfl rfl ⟨n, dn, tn, ?_⟩⟩
    rw [ts_s]
    refine RS_per h0 (fun j hj => upd_n (by omega)) rfl rfl rfl (fun _ _ h _ => h) (fun p' hp' => ?_) (fun p' hp' => ?_) (fun p' hp' => ?_)
    · rw [upd_n (by omega), upd_n (by omega)]
      exact h0.2.2.2.2.2.2.1 p' hp'
    · have e2 := h0.2.2.2.2.2.2.2.1 p' hp'
      rw [upd_n (j := 6 + 5 * p' + 2) (by omega), upd_n (j := 6 + 5 * p' + 3) (by omega)]
      refine ⟨by simpa [cvs] using e2.1, by simpa [cvs] using e2.2.1, ?_⟩
      by_cases hpp : p' = p
      · subst hpp
        rw [upd_s, ← e1]
        simp [cvs]
      · rw [upd_n (by omega), ← e2.2.2]
        simp [cvs, hpp]
    · obtain ⟨f1, f2, f3⟩ := h0.2.2.2.2.2.2.2.2.1 p' hp'
      rw [upd_n (by omega)]
      refine ⟨f1, ?_, fun q hq => by rw [upd_n (by omega)]; exact f3 q hq⟩
      by_cases hpp : p' = p
      · subst hpp
        rw [upd_s]
        exact subn_bset f2 hq (by omega) bb
      · rw [upd_n (by omega)]
        exact f2
  · exact two_n0 h0.n0.1 hn ht (br0 (two_n6 h0.n0.2 hn ht (br0 ⟨rfl, hr⟩)))
theorem b01_and (b : Bool) : b01 b &&& b01 b = b01 b := by cases b <;> decide
theorem op_friend {V : CV} {T : TS} (hr : Rel V T) (a c z : Int32) : wX0_friend a c z V (fun r V1 => wX6_friend a c z T (fun r2 T2 => r = r2 ∧ Rel V1 T2)) := by
  obtain ⟨n, dn, tn, h0⟩ := hr.1
  have hn := h0.1.1
  unfold wX0_friend wX6_friend
  by_cases ht : TWO n a c z
  · refine two_y0 h0.n0.1 hn ht (br1 ?_)
    have ht2 := ht
    obtain ⟨⟨p, hp, rfl⟩, ⟨q, hq, rfl⟩, hne, hz⟩ := ht
    have hpq : p ≠ q := fun e => hne (by rw [e])
    obtain ⟨bb, rfl⟩ := in01.mp hz
    refine bec0 (Or.inr (Or.inl rfl)) (by omega) (by omega) ?_
    refine bec0 (Or.inr (Or.inl rfl)) (by omega) (by omega) ?_
    refine two_y6 h0.n0.2 hn ht2 (br1 (bit6 (6 + 5 * p + 3) (of_3 p) (by omega) (by omega) (bit6 (6 + 5 * q + 3) (of_3 q) (by omega) (by omega) ?_)))
    have ep := (h0.2.2.2.2.2.2.2.1 p hp).2.1
    have eq := (h0.2.2.2.2.2.2.2.1 q hq).2.1
    have es := (h0.2.2.2.2.2.2.2.2.1 p hp).2.2 q hq
    have v1 : vSA (sSA V 0 5 p (bset (vSA V 0 5 p) q bb)) 0 5 q = T.2 0 (6 + 5 * q + 3) := by rw [← eq]; simp [cvs, Ne.symm hpq]
    have t1 : (ts T 0 (6 + 5 * p + 3) (bset (T.2 0 (6 + 5 * p + 3)) q bb)).2 0 (6 + 5 * q + 3) = T.2 0 (6 + 5 * q + 3) := by rw [ts_s, upd_n (by omega)]
    rw [v1, t1, ep]
    refine ⟨by rw [es]; exact b01_and _, hr.st0s (restV_SA.tr restV_SA) (restT_ts.tr restT_ts) rfl rfl rfl ⟨n, dn, tn, ?_⟩⟩
    rw [ts_s, ts_s]
    have hx : ∀ i, i < n → upd (upd (T.2 0) (6 + 5 * p + 3) (bset (T.2 0 (6 + 5 * p + 3)) q bb)) (6 + 5 * q + 3) (bset (T.2 0 (6 + 5 * q + 3)) p bb) (6 + 5 * i + 3) = if i = q then bset (T.2 0 (6 + 5 * q + 3)) p bb else if i = p then bset (T.2 0 (6 + 5 * p + 3)) q bb else T.2 0 (6 + 5 * i + 3) := by
      intro i hi
      by_cases hiq : i = q
      · subst hiq
        rw [upd_s, if_pos rfl]
      · rw [upd_n (by omega), if_neg hiq]
        by_cases hip : i = p
        · subst hip
          rw [upd_s, if_pos rfl]
        · rw [upd_n (by omega), if_neg hip]
    refine RS_per h0 (fun j hj => by rw [upd_n (by omega), upd_n (by omega)]) rfl rfl rfl (fun _ _ h _ => h) (fun p' hp' => ?_) (fun p' hp' => ?_) (fun p' hp' => ?_)
    · rw [upd_n (by omega), upd_n (by omega), upd_n (by omega), upd_n (by omega)]
      exact h0.2.2.2.2.2.2.1 p' hp'
    · have e2 := h0.2.2.2.2.2.2.2.1 p' hp'
      rw [hx p' hp', upd_n (j := 6 + 5 * p' + 2) (by omega), upd_n (j := 6 + 5 * p' + 2) (by omega), upd_n (j := 6 + 5 * p' + 4) (by omega), upd_n (j := 6 + 5 * p' + 4) (by omega)]
      refine ⟨by simpa [cvs] using e2.1, ?_, by simpa [cvs] using e2.2.2⟩
      by_cases hiq : p' = q
      · subst hiq
        rw [if_pos rfl]
        simp [cvs]
      · rw [if_neg hiq]
        by_cases hip : p' = p
        · subst hip
          rw [if_pos rfl]
          simp [cvs, hiq]
        · rw [if_neg hip, ← e2.2.1]
          simp [cvs, hiq, hip]
    · obtain ⟨f1, f2, f3⟩ := h0.2.2.2.2.2.2.2.2.1 p' hp'
      have gp := h0.2.2.2.2.2.2.2.2.1 p hp
      have gq := h0.2.2.2.2.2.2.2.2.1 q hq
      rw [hx p' hp', upd_n (j := 6 + 5 * p' + 4) (by omega), upd_n (j := 6 + 5 * p' + 4) (by omega)]
      refine ⟨?_, f2, fun i hi => ?_⟩
      · by_cases hiq : p' = q
        · rw [if_pos hiq]
          exact subn_bset gq.1 hp (by omega) bb
        · rw [if_neg hiq]
          by_cases hip : p' = p
          · rw [if_pos hip]
            exact subn_bset gp.1 hq (by omega) bb
          · rw [if_neg hip]
            exact f1
      · rw [hx i hi]
        by_cases h1 : p' = q
        · subst h1
          rw [if_pos rfl]
          by_cases h2 : i = p'
          · subst h2
            rw [if_pos rfl]
          · rw [if_neg h2]
            by_cases h3 : i = p
            · subst h3
              rw [if_pos rfl, b_bset (by omega) bb (by omega), b_bset (by omega) bb (by omega), if_pos rfl, if_pos rfl]
            · rw [if_neg h3, b_bset (by omega) bb (by omega), if_neg h3]
              exact f3 i hi
        · rw [if_neg h1]
          by_cases h2 : p' = p
          · subst h2
            rw [if_pos rfl]
            by_cases h3 : i = q
            · subst h3
              rw [if_pos rfl, b_bset (by omega) bb (by omega), b_bset (by omega) bb (by omega), if_pos rfl, if_pos rfl]
            · rw [if_neg h3, b_bset (by omega) bb (by omega), if_neg h3]
              by_cases h4 : i = p'
              · subst h4
                rw [if_pos rfl, b_bset (by omega) bb (by omega), if_neg h3]
              · rw [if_neg h4]
                exact f3 i hi
          · rw [if_neg h2]
            by_cases h3 : i = q
            · subst h3
              rw [if_pos rfl, b_bset (by omega) bb (by omega), if_neg h2]
              exact f3 i hi
            · rw [if_neg h3]
              by_cases h4 : i = p
              · subst h4
                rw [if_pos rfl, b_bset (by omega) bb (by omega), if_neg h1]
                exact f3 i hi
              · rw [if_neg h4]
                exact f3 i hi
  · exact two_n0 h0.n0.1 hn ht (br0 (two_n6 h0.n0.2 hn ht (br0 ⟨rfl, hr⟩)))
theorem spK {kn : Nat} (h : kn ≤ 5) : spKind (7 + kn) = nI kn := by
  match kn, h with
  | 0, _ => rfl
  | 1, _ => rfl
  | 2, _ => rfl
  | 3, _ => rfl
  | 4, _ => rfl
  | 5, _ => rfl
theorem spk_of {V : CV} {kn : Nat} {Q : Nat → CV → Prop} (h : kn ≤ 5) (hq : ∀ q, vM V q = none → Q q (sM V (hset (vM V) q (eSp (7 + kn) 0)))) : wX0_speakerOf (nI kn) V Q := by
  unfold wX0_speakerOf
  match kn, h with
  | 0, _ => exact brN (by decide) (brN (by decide) (brN (by decide) (brN (by decide) (brN (by decide) (fun q hn => hq q hn)))))
  | 1, _ => exact brY rfl (fun q hn => hq q hn)
  | 2, _ => exact brN (by decide) (brY rfl (fun q hn => hq q hn))
  | 3, _ => exact brN (by decide) (brN (by decide) (brY rfl (fun q hn => hq q hn)))
  | 4, _ => exact brN (by decide) (brN (by decide) (brN (by decide) (brY rfl (fun q hn => hq q hn))))
  | 5, _ => exact brN (by decide) (brN (by decide) (brN (by decide) (brN (by decide) (brY rfl (fun q hn => hq q hn)))))
theorem hset_hset (M : HM) (a : Nat) (e e' : va_E) : hset (hset M a e) a e' = hset M a e' := by
  funext q
  by_cases h : q = a
  · subst h; rw [hset_s, hset_s]
  · rw [hset_n h, hset_n h, hset_n h]
/-- a new cell: nothing that was there changes -/
theorem new_keep {M : HM} {q : Nat} {e : va_E} (hq : M q = none) {a : Nat} {e' : va_E} (h : M a = some e') : hset M q e a = some e' := by
  rw [hset_n (fun z => by subst z; rw [hq] at h; cases h)]
  exact h
theorem op_turns {V : CV} {T : TS} (hr : Rel V T) (a c : Int32) : wX0_turns a c V (fun r V1 => wX6_turns a c T (fun r2 T2 => r = r2 ∧ Rel V1 T2)) := by
  obtain ⟨n, dn, tn, h0⟩ := hr.1
  have hn := h0.1.1
  unfold wX0_turns wX6_turns
  by_cases ha : ∃ p, p < n ∧ a = nI p
  · obtain ⟨p, hp, rfl⟩ := ha
    refine per_y0 h0.n0.1 hn hp (br1 ?_)
    by_cases hb : inI c 0 5
    · obtain ⟨kn, hkn, rfl⟩ := (in_lit (M := 5) (by decide)).mp hb
      have hin : vp_in (nI p) 12 := vp_in_nI (by omega) (by omega)
      refine isIn0_y hb (br1 ⟨hin, spk_of hkn (fun q hq => ?_)⟩)
      obtain ⟨ad, kk, g1, g2, g3, g4⟩ := h0.2.2.2.2.2.2.1 p hp
      have hadq : ad ≠ q := fun e => by subst e; rw [hq] at g4; cases g4
      have hsp : ∀ {k}, k ≤ 5 → isSpk (7 + k) := fun h => ⟨by omega, by omega⟩
      rw [nI_clamp (by omega)]
      refine ⟨7 + kn, 0, hsp hkn, hset_s _ _ _, hin, hin, ad, g3, 7 + kk, _, hsp g1, (hset_n hadq).trans g4, q, by simp [cvs], 7 + kn, 0, hsp hkn, hset_s _ _ _, ad, g3, 7 + kk, T.2 0 (6 + 5 * p + 1), hsp g1, ?_, ?_⟩
      · show hset (hset (vM V) q _) q _ ad = _
        rw [hset_hset, hset_n hadq]
        exact g4
      refine per_y6 h0.n0.2 hn hp (br1 (isIn6_y hb (br1 (bec6 (6 + 5 * p) (of_x p) (by omega) ⟨by rw [spK g1, g2], ?_⟩))))
      have hM : vM (sM (sSp (sM V (hset (vM V) q (eSp (7 + kn) 0))) 0 p (some q)) (hset (vM (sSp (sM V (hset (vM V) q (eSp (7 + kn) 0))) 0 p (some q))) q (eSp (7 + kn) (T.2 0 (6 + 5 * p + 1))))) = hset (vM V) q (eSp (7 + kn) (T.2 0 (6 + 5 * p + 1))) := hset_hset _ _ _ _
      have hP : ∀ p', vSp (sM (sSp (sM V (hset (vM V) q (eSp (7 + kn) 0))) 0 p (some q)) (hset (vM (sSp (sM V (hset (vM V) q (eSp (7 + kn) 0))) 0 p (some q))) q (eSp (7 + kn) (T.2 0 (6 + 5 * p + 1))))) 0 p' = if p' = p then some q else vSp V 0 p' := fun p' => by simp [cvs]
      refine hr.st0 ((restV_M.tr restV_Sp).tr restV_M) restT_ts (fun x e h => Or.inl ?_) (fun p' hp' x h => ?_) (fun p1 p2 x h1 h2 hx h h' => ?_) (fun t x ht h => ?_) ⟨n, dn, tn, ?_⟩
      · rw [hM]; exact new_keep hq h
      · rw [hP] at h
        by_cases hpp : p' = p
        · rw [if_pos hpp] at h
          cases h
          exact Or.inr ⟨hq, _, by rw [hM]; exact hset_s _ _ _, kn, _, hkn, rfl⟩
        · rw [if_neg hpp] at h
          exact Or.inl h
      · have hs : ∀ p', p' < 12 → vSp V 0 p' ≠ some x := fun p' hp' e => by
          obtain ⟨kn', b', -, q⟩ := hr.2.2.2.2.2.2.2.1 0 p' x (by decide) hp' e
          rw [hx] at q
          cases q
        rw [hP] at h h'
        by_cases e1 : p1 = p
        · by_cases e2 : p2 = p
          · omega
          · rw [if_neg e2] at h'
            exact absurd h' (hs p2 h2)
        · rw [if_neg e1] at h
          exact absurd h (hs p1 h1)
      · obtain ⟨x1, x2, x3, g⟩ := hr.2.2.2.2.2.2.2.2.2.2.2.1 0 t x (by decide) ht h
        exact ⟨x1, x2, x3, by rw [hM]; exact new_keep hq g⟩
      · rw [ts_s]
        refine RS_per h0 (fun j hj => upd_n (by omega)) rfl rfl rfl (fun x e h _ => by rw [hM]; exact new_keep hq h) (fun p' hp' => ?_) (fun p' hp' => ?_) (fun p' hp' => ?_)
        · rw [upd_n (j := 6 + 5 * p' + 1) (by omega)]
          by_cases hpp : p' = p
          · subst hpp
            rw [upd_s]
            exact ⟨q, kn, hkn, rfl, by rw [hP, if_pos rfl], by rw [hM]; exact hset_s _ _ _⟩
          · rw [upd_n (by omega)]
            obtain ⟨ad', kn', f1, f2, f3, f4⟩ := h0.2.2.2.2.2.2.1 p' hp'
            exact ⟨ad', kn', f1, f2, by rw [hP, if_neg hpp]; exact f3, by rw [hM]; exact new_keep hq f4⟩
        · rw [upd_n (by omega), upd_n (by omega), upd_n (by omega)]
          exact h0.2.2.2.2.2.2.2.1 p' hp'
        · obtain ⟨f1, f2, f3⟩ := h0.2.2.2.2.2.2.2.2.1 p' hp'
          rw [upd_n (by omega), upd_n (by omega)]
          exact ⟨f1, f2, fun q hq => by rw [upd_n (by omega)]; exact f3 q hq⟩
    · exact isIn0_n hb (br0 (per_y6 h0.n0.2 hn hp (br1 (isIn6_n hb (br0 ⟨rfl, hr⟩)))))
  · exact per_n0 h0.n0.1 hn ha (br0 (per_n6 h0.n0.2 hn ha (br0 ⟨rfl, hr⟩)))
