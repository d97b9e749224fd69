set_option maxRecDepth 100000
/-! ===== fewest ===== -/
theorem bt_nI {k i : Nat} (h : k < 2 ^ 32) : bt (nI k) i = k.testBit i := by
  rw [← nu_bit]
  unfold nu
  rw [pk_tn h]
theorem nu_nI {k : Nat} (h : k < 2 ^ 32) : nu (nI k) = k := pk_tn h
theorem p12 {n : Nat} (h : n ≤ 12) : 2 ^ n ≤ 4096 := Nat.pow_le_pow_right (by omega) h
theorem nI_subn {k n : Nat} (hn : n ≤ 12) (h : k < 2 ^ n) : subn n (nI k) := fun i hi => by
  have := p12 hn
  rw [bt_nI (by omega)]
  exact Nat.testBit_lt_two_pow (Nat.lt_of_lt_of_le h (Nat.pow_le_pow_right (by omega) hi))
theorem ev_nI : ∀ n, n < 13 → ev n = nI (2 ^ n - 1) := by decide +kernel
noncomputable def goS (X : Nat → Int32) (n : Nat) (x : Int32) : Nat → Int32
  | 0 => 0
  | p + 1 => goS X n x p ||| (if bt x p = true then gb X n p else 0)
theorem goS_mono {X : Nat → Int32} {n : Nat} {x : Int32} {i : Nat} {p : Nat} (h : bt (goS X n x p) i = true) : ∀ k, bt (goS X n x (p + k)) i = true := by
  intro k
  induction k with
  | zero => exact h
  | succ k ih =>
    show bt (goS X n x (p + k) ||| _) i = true
    rw [b_or, ih]
    rfl
theorem goS_has {X : Nat → Int32} {n : Nat} {x : Int32} {p : Nat} (hn : n ≤ 12) (hp : p < n) (h : bt x p = true) : bt (goS X n x n) p = true := by
  have h1 : bt (goS X n x (p + 1)) p = true := by
    show bt (goS X n x p ||| (if bt x p = true then gb X n p else 0)) p = true
    rw [if_pos h, b_or]
    unfold gb
    rw [b_or, b_one (by omega) (by omega)]
    simp
  have := goS_mono h1 (n - (p + 1))
  rw [show p + 1 + (n - (p + 1)) = n by omega] at this
  exact this
noncomputable def fwS (X : Nat → Int32) (n : Nat) (oth : Int32) : Nat → Int32
  | 0 => -1
  | k + 1 => if goS X n (nI k) n = oth ∧ (fwS X n oth k = -1 ∨ pc k < pc (nu (fwS X n oth k))) then nI k else fwS X n oth k
theorem fwS_or (X : Nat → Int32) (n : Nat) (oth : Int32) : ∀ k, fwS X n oth k = -1 ∨ ∃ m, m < k ∧ fwS X n oth k = nI m := by
  intro k
  induction k with
  | zero => exact Or.inl rfl
  | succ k ih =>
    unfold fwS
    by_cases h : goS X n (nI k) n = oth ∧ (fwS X n oth k = -1 ∨ pc k < pc (nu (fwS X n oth k)))
    · rw [if_pos h]
      exact Or.inr ⟨k, by omega, rfl⟩
    · rw [if_neg h]
      rcases ih with ih | ⟨m, hm, e⟩
      · exact Or.inl ih
      · exact Or.inr ⟨m, by omega, e⟩
theorem fw_sub {X : Nat → Int32} {n k : Nat} {oth : Int32} (hn : n ≤ 12) (hk : k < 2 ^ n) (h : goS X n (nI k) n = oth) : sub (nI k) oth := fun i hi => by
  rw [← h]
  exact goS_has hn (Nat.lt_of_not_le (fun q => by rw [nI_subn hn hk i q] at hi; cases hi)) hi
theorem fwS_stay {X : Nat → Int32} {n : Nat} {oth : Int32} (hn : n ≤ 12) {A : Nat} (hA : oth = nI A) (hA2 : A < 2 ^ n) : ∀ j, A + 1 + j ≤ 2 ^ n → fwS X n oth (A + 1 + j) = fwS X n oth (A + 1) := by
  intro j
  induction j with
  | zero => intro _; rfl
  | succ j ih =>
    intro hj
    have := p12 hn
    rw [← ih (by omega)]
    show fwS X n oth (A + 1 + j + 1) = _
    rw [fwS, if_neg]
    rintro ⟨h, -⟩
    have := nu_le (fw_sub hn (by omega) h)
    rw [hA, nu_nI (by omega), nu_nI (by omega)] at this
    omega
theorem few_in0 {V : CV} {X : Nat → Int32} {n d : Nat} {oth best x D : Int32} {k24 : Nat → Nat → Int32 → Int32 → Int32 → CV → Prop} {Q : Int32 → CV → Prop} (hN : vS V 0 2 = nI n) (hf : FF V X n) (hn : n ≤ 12) (hD : vD V 0 d 0 = D) (ho : oth &&& D = 0) (hq : k24 0 d oth (if goS X n x n = oth then x else best) (x + 1) V) : ∀ j p, p + j = n → goS X n x p &&& D = 0 → wX0_fewestOf_66 k24 Q (j + 1) 0 d oth best x (goS X n x p) (nI p) V := by
  intro j
  induction j with
  | zero =>
    intro p hp h0
    have : p = n := by omega
    subst this
    unfold wX0_fewestOf_66
    rw [hN]
    refine brY (nI_le (by omega) (by omega)) ?_
    by_cases e : goS X p x p = oth
    · rw [if_pos e] at hq
      exact brY e hq
    · rw [if_neg e] at hq
      exact brN e hq
  | succ j ih =>
    intro p hp h0
    have st : wX0_fewestOf_100 k24 (fun z0 z1 z2 z3 z4 z5 z6 z7 => wX0_fewestOf_66 k24 Q (j + 1) z0 z1 z2 z3 z4 z5 z6 z7) 0 d oth best x (nI p) (if bt x p = true then gb X n p else 0) (goS X n x p) V Q := by
      unfold wX0_fewestOf_100
      rw [hD]
      refine brI (fun e => ?_) (fun e => ?_)
      · rw [nI_1]
        exact ih (p + 1) (by omega) e
      · have hne : ¬ goS X n x n = oth := fun q => e (z_ext.mpr (fun i hi => by
          rw [b_and]
          by_cases hb : bt (goS X n x (p + 1)) i = true
          · have := goS_mono hb (n - (p + 1))
            rw [show p + 1 + (n - (p + 1)) = n by omega, q] at this
            have h2 := z_ext.mp ho i hi
            rw [b_and, this] at h2
            simp at h2
            rw [h2]
            simp
          · have : bt (goS X n x (p + 1)) i = false := by simpa using hb
            show (bt (goS X n x (p + 1)) i && _) = false
            rw [this]
            rfl))
        rw [if_neg hne] at hq
        exact hq
    unfold wX0_fewestOf_66
    rw [hN]
    refine brN (nI_ge (by omega) (by omega)) (has0 (by omega) ?_)
    by_cases hb : bt x p = true
    · rw [if_pos hb] at st
      rw [hb]
      exact br1 (gb0 hf hn (by omega) st)
    · rw [if_neg hb] at st
      have : bt x p = false := by simpa using hb
      rw [this]
      exact br0 st
theorem few_out0 {V : CV} {X : Nat → Int32} {n d A : Nat} {oth D : Int32} {Q : Int32 → CV → Prop} (hN : vS V 0 2 = nI n) (hf : FF V X n) (hn : n ≤ 12) (hD : vD V 0 d 0 = D) (ho : oth &&& D = 0) (hA : oth = nI A) (hA2 : A < 2 ^ n) (hq : Q (fwS X n oth (A + 1)) V) : ∀ j k, k + j = A + 1 → wX0_fewestOf_24 Q (j + 1) 0 d oth (fwS X n oth k) (nI k) V := by
  have hp := p12 hn
  intro j
  induction j with
  | zero =>
    intro k hk
    have : k = A + 1 := by omega
    subst this
    unfold wX0_fewestOf_24
    exact brY (by rw [hA]; exact nI_lt (by omega) (by omega)) hq
  | succ j ih =>
    intro k hk
    have nx := ih (k + 1) (by omega)
    have e1 : nI k + 1 = nI (k + 1) := nI_1 k
    unfold wX0_fewestOf_24
    rw [hD]
    refine brN (by rw [hA]; exact nI_nlt (by omega) (by omega)) ?_
    have inn : (fwS X n oth k = -1 ∨ pc k < pc (nu (fwS X n oth k))) → wX0_fewestOf_60 (fun z0 z1 z2 z3 z4 z5 => wX0_fewestOf_24 Q (j + 1) z0 z1 z2 z3 z4 z5) 0 d oth (fwS X n oth k) (nI k) V Q := by
      intro h
      refine ⟨n + 1, few_in0 hN hf hn hD ho ?_ n 0 (by omega) ?_⟩
      · rw [e1]
        have : fwS X n oth (k + 1) = if goS X n (nI k) n = oth then nI k else fwS X n oth k := by
          rw [fwS]
          by_cases e : goS X n (nI k) n = oth
          · rw [if_pos ⟨e, h⟩, if_pos e]
          · rw [if_neg (fun q => e q.1), if_neg e]
        rw [← this]
        exact nx
      · show (0 : Int32) &&& D = 0
        exact z_ext.mpr (fun i _ => by rw [b_and, b_0]; rfl)
    have skip : (¬ (goS X n (nI k) n = oth ∧ (fwS X n oth k = -1 ∨ pc k < pc (nu (fwS X n oth k))))) → wX0_fewestOf_135 (fun z0 z1 z2 z3 z4 z5 => wX0_fewestOf_24 Q (j + 1) z0 z1 z2 z3 z4 z5) 0 d oth (fwS X n oth k) (nI k) V Q := by
      intro h
      unfold wX0_fewestOf_135
      rw [fwS, if_neg h] at nx
      rw [e1]
      exact nx
    refine brI (fun _ => ?_) (fun e => skip (fun q => e (z_ext.mpr (fun i hi => ?_))))
    · refine brI (fun e => inn (Or.inl e)) (fun e => ?_)
      have hk12 : subn 12 (nI k) := subn_up (nI_subn hn (by omega)) hn
      rcases fwS_or X n oth k with h | ⟨m, hm, h⟩
      · exact absurd h e
      · have hm12 : subn 12 (fwS X n oth k) := by rw [h]; exact subn_up (nI_subn hn (by omega)) hn
        refine bc_set hk12 (bc_set hm12 ?_)
        have ek : pcI (nI k) = nI (pc k) := by unfold pcI; rw [nu_nI (by omega)]
        have l1 := pc_le k
        have l2 := pc_le (nu (fwS X n oth k))
        rw [ek]
        refine brI (fun q => inn (Or.inr ((nI_ltI (by omega) (by omega)).mp q))) (fun q => skip (fun s => ?_))
        rcases s.2 with s | s
        · exact e s
        · exact q (nI_lt s (by omega))
    · rw [b_and]
      by_cases hb : bt (nI k) i = true
      · have h2 := z_ext.mp ho i hi
        rw [b_and, fw_sub hn (by omega) q.1 i hb] at h2
        simp at h2
        rw [h2]
        simp
      · have : bt (nI k) i = false := by simpa using hb
        rw [this]
        rfl
theorem few_in6 {T : TS} {X : Nat → Int32} {n : Nat} {what oth best few x many : Int32} {k78 : Int32 → Int32 → Int32 → Int32 → Int32 → TS → Prop} {Q : Int32 → TS → Prop} (hN : T.2 0 0 = nI n) (hG : ∀ p, p < n → T.2 12 p = gb X n p) (hn : n ≤ 12) (hq : k78 what oth (if goS X n x n = oth then x else best) (if goS X n x n = oth then many else few) (x + 1) T) : ∀ j p, p + j = n → wX6_fewest_107 k78 Q (j + 1) what oth best few x many (goS X n x p) (nI p) T := by
  have hi0 : vp_in (0 : Int32) 3114 := pk_in 0 3114 (by omega)
  have e0 : T.2 0 (0 : Int32).toNatClampNeg = nI n := hN
  intro j
  induction j with
  | zero =>
    intro p hp
    have : p = n := by omega
    subst this
    unfold wX6_fewest_107
    rw [e0]
    refine ⟨hi0, brY (nI_le (by omega) (by omega)) ?_⟩
    by_cases e : goS X p x p = oth
    · rw [if_pos e, if_pos e] at hq
      exact brY e (brY e hq)
    · rw [if_neg e, if_neg e] at hq
      exact brN e (brN e hq)
  | succ j ih =>
    intro p hp
    have st := ih (p + 1) (by omega)
    unfold wX6_fewest_107
    rw [e0]
    refine ⟨hi0, brN (nI_ge (by omega) (by omega)) ?_⟩
    by_cases hb : bt x p = true
    · refine brY ((bt_1 x (by omega)).mpr hb) ⟨vp_in_nI (by omega) (by omega), ?_⟩
      unfold wX6_fewest_142
      rw [nI_clamp (by omega), hG p (by omega), nI_1]
      rw [goS, if_pos hb] at st
      exact st
    · refine brN (fun q => hb ((bt_1 x (by omega)).mp q)) ?_
      unfold wX6_fewest_142
      rw [nI_1]
      rw [goS, if_neg hb] at st
      exact st
theorem few_out6 {V : CV} {T : TS} {n dn tn : Nat} {what oth : Int32} {Q : Int32 → TS → Prop} (h0 : RS V 0 (T.2 0) n dn tn) (hG : ∀ p, p < n → T.2 12 p = gb (T.2 0) n p) (hq : Q (if fwS (T.2 0) n oth (2 ^ n) = -1 then -1000000005 else if what = 0 then pcI (fwS (T.2 0) n oth (2 ^ n)) else fwS (T.2 0) n oth (2 ^ n)) T) : ∀ j k, k + j = 2 ^ n → wX6_fewest_78 Q (j + 1) what oth (fwS (T.2 0) n oth k) (if fwS (T.2 0) n oth k = -1 then 13 else pcI (fwS (T.2 0) n oth k)) (nI k) T := by
  have hn := h0.1.1
  have hp := p12 hn
  have hpp : 0 < 2 ^ n := Nat.pow_pos (by omega)
  have hev := ev_nI n (by omega)
  intro j
  induction j with
  | zero =>
    intro k hk
    have hk' : k = 2 ^ n := by omega
    unfold wX6_fewest_78
    refine evb6 h0 ?_
    rw [hev]
    refine brY (nI_lt (by omega) (by omega)) ?_
    rw [hk']
    rcases fwS_or (T.2 0) n oth (2 ^ n) with h | ⟨m, hm, h⟩
    · rw [if_pos h] at hq
      rw [h]
      exact brN (by decide) hq
    · have hne : ¬ fwS (T.2 0) n oth (2 ^ n) = -1 := by rw [h]; exact nI_m1 (by omega)
      rw [if_neg hne] at hq ⊢
      refine brY (by rw [h]; exact nn0 (by omega)) ?_
      by_cases hw : what = 0
      · rw [if_pos hw] at hq
        exact brY hw hq
      · rw [if_neg hw] at hq
        exact brN hw hq
  | succ j ih =>
    intro k hk
    have nx := ih (k + 1) (by omega)
    have e1 : nI k + 1 = nI (k + 1) := nI_1 k
    have ek : pcI (nI k) = nI (pc k) := by unfold pcI; rw [nu_nI (by omega)]
    have l1 := pc_le k
    unfold wX6_fewest_78
    refine evb6 h0 ?_
    rw [hev]
    refine brN (nI_nlt (by omega) (by omega)) (ones_set (subn_up (nI_subn hn (by omega)) hn) ?_)
    rw [ek]
    have l2 := pc_le (nu (fwS (T.2 0) n oth k))
    have hc : ((if fwS (T.2 0) n oth k = -1 then 13 else pcI (fwS (T.2 0) n oth k)) ≤ nI (pc k)) ↔ ¬ (fwS (T.2 0) n oth k = -1 ∨ pc k < pc (nu (fwS (T.2 0) n oth k))) := by
      by_cases h : fwS (T.2 0) n oth k = -1
      · rw [if_pos h]
        constructor
        · intro q
          have := (nI_leI (a := 13) (b := pc k) (by omega) (by omega)).mp q
          omega
        · intro q
          exact absurd (Or.inl h) q
      · rw [if_neg h]
        unfold pcI
        rw [nI_leI (by omega) (by omega)]
        constructor
        · rintro q (s | s)
          · exact h s
          · omega
        · intro q
          exact Nat.le_of_not_lt (fun s => q (Or.inr s))
    refine brI (fun q => ?_) (fun q => ?_)
    · have hno : ¬ (goS (T.2 0) n (nI k) n = oth ∧ (fwS (T.2 0) n oth k = -1 ∨ pc k < pc (nu (fwS (T.2 0) n oth k)))) := fun s => hc.mp q s.2
      unfold wX6_fewest_181
      rw [fwS, if_neg hno] at nx
      rw [e1]
      exact nx
    · have hyes : fwS (T.2 0) n oth k = -1 ∨ pc k < pc (nu (fwS (T.2 0) n oth k)) := Classical.byContradiction (fun s => q (hc.mpr s))
      refine ⟨n + 1, few_in6 h0.n0.2 hG hn ?_ n 0 (by omega)⟩
      rw [e1]
      by_cases e : goS (T.2 0) n (nI k) n = oth
      · rw [fwS, if_pos ⟨e, hyes⟩, if_neg (nI_m1 (by omega)), ek] at nx
        rw [if_pos e, if_pos e]
        exact nx
      · rw [fwS, if_neg (fun s => e s.1)] at nx
        rw [if_neg e, if_neg e]
        exact nx
theorem few_go6 {V : CV} {T : TS} {n dn tn : Nat} {what oth : Int32} {Q : Int32 → TS → Prop} (h0 : RS V 0 (T.2 0) n dn tn) (hq : ∀ T', sameT T T' → T'.2 0 = T.2 0 → (∀ p, p < n → T'.2 12 p = gb (T.2 0) n p) → ∃ f_78, wX6_fewest_78 Q f_78 what oth (-1) 13 0 T') : ∀ j i, i + j = n → ∀ T', sameT T T' → T'.2 0 = T.2 0 → (∀ p, p < i → T'.2 12 p = gb (T.2 0) n p) → wX6_fewest_38 Q (j + 1) what oth (nI i) T' := by
  have hn := h0.1.1
  have hi0 : vp_in (0 : Int32) 3114 := pk_in 0 3114 (by omega)
  intro j
  induction j with
  | zero =>
    intro i hi T' hs h1 h2
    have : i = n := by omega
    subst this
    unfold wX6_fewest_38
    rw [show T'.2 0 (0 : Int32).toNatClampNeg = nI i by rw [h1]; exact h0.n0.2]
    exact ⟨hi0, brY (nI_le (by omega) (by omega)) (hq T' hs h1 h2)⟩
  | succ j ih =>
    intro i hi T' hs h1 h2
    unfold wX6_fewest_38
    rw [show T'.2 0 (0 : Int32).toNatClampNeg = nI n by rw [h1]; exact h0.n0.2]
    refine ⟨hi0, brN (nI_ge (by omega) (by omega)) ?_⟩
    have h0' : RS V 0 (T'.2 0) n dn tn := by rw [h1]; exact h0
    refine gb6 h0' (by omega) ⟨vp_in_nI (by omega) (by omega), ?_⟩
    rw [nI_clamp (by omega), nI_1, h1]
    refine ih (i + 1) (by omega) _ (hs.tr (ts_same (by simp))) (by rw [ts_n (by decide)]; exact h1) (fun p hp => ?_)
    rw [ts_s]
    by_cases e : p = i
    · subst e
      rw [upd_s]
    · rw [upd_n e]
      exact h2 p (by omega)
theorem op_fewest {V : CV} {T : TS} (hr : Rel V T) (a c : Int32) : wX0_fewest a c V (fun r V1 => wX6_fewest a c T (fun r2 T2 => r = r2 ∧ Rel V1 T2)) := by
  obtain ⟨n, dn, tn, h0⟩ := hr.1
  have hn := h0.1.1
  have hdn := h0.1.2.1
  unfold wX0_fewest
  by_cases ha : ∃ p, p < dn ∧ a = nI p
  · obtain ⟨d, hd, rfl⟩ := ha
    refine dee_y0 h0.d0.1 hdn hd (br1 ?_)
    by_cases hc : inI c 0 1
    · refine isIn0_y hc (br1 ⟨vp_in_nI (by omega) (by omega), ?_⟩)
      rw [nI_clamp (by omega)]
      refine ⟨by decide, by omega, ff0 h0 (fun V1 hV1 hf => ?_)⟩
      have h1 := h0.same hV1
      obtain ⟨d0, -⟩ := h1.2.2.2.2.2.2.2.2.2.1 d hd
      obtain ⟨s0, -, -⟩ := h1.2.2.2.2.2.2.2.2.2.2.1 d hd
      refine ⟨by decide, ?_⟩
      rw [h1.n0.1, d0]
      obtain ⟨D, hD⟩ : ∃ D, D = T.2 0 (66 + 6 * d) := ⟨_, rfl⟩
      rw [← hD]
      have eoth : (((1 : Int32) <<< (nI n &&& 31)) - 1) &&& (D ^^^ (-1 : Int32)) = ev n &&& cmpl D := rfl
      rw [eoth]
      obtain ⟨oth, hoth⟩ : ∃ o, o = ev n &&& cmpl D := ⟨_, rfl⟩
      rw [← hoth]
      have hso : subn n oth := by rw [hoth]; exact subn_and (subn_ev hn)
      have ho : oth &&& D = 0 := z_ext.mpr (fun i hi => by
        rw [hoth, b_and, b_and, b_cmpl _ hi]
        cases bt D i <;> simp)
      have hA2 := nu_lt hso
      have hp := p12 hn
      have fin : ∀ {r : Int32} {V2 : CV}, V2 = V1 → r = (if fwS (T.2 0) n oth (2 ^ n) = -1 then -1000000005 else if c = 0 then pcI (fwS (T.2 0) n oth (2 ^ n)) else fwS (T.2 0) n oth (2 ^ n)) → wX6_fewest (nI d) c T (fun r2 T2 => r = r2 ∧ Rel V2 T2) := by
        rintro r V2 rfl rfl
        refine dee_y6 h0.d0.2 hdn hd (br1 (isIn6_y hc (br1 (evb6 h0 (dee6 0 (by omega) (by omega) ⟨n + 1, ?_⟩)))))
        have e2 : ev n &&& (T.2 0 (66 + 6 * d + 0) ^^^ (-1 : Int32)) = oth := by rw [hoth, hD]; rfl
        rw [e2]
        refine few_go6 h0 (fun T' hs t1 t2 => ⟨2 ^ n + 1, ?_⟩) n 0 (by omega) T sameT.rf rfl (fun p hp => absurd hp (by omega))
        have h0' : RS V 0 (T'.2 0) n dn tn := by rw [t1]; exact h0
        rw [← t1] at t2
        have := few_out6 (what := c) (oth := oth) (Q := fun r2 T2 => (if fwS (T.2 0) n oth (2 ^ n) = -1 then -1000000005 else if c = 0 then pcI (fwS (T.2 0) n oth (2 ^ n)) else fwS (T.2 0) n oth (2 ^ n)) = r2 ∧ Rel V2 T2) h0' t2 (by rw [t1]; exact ⟨rfl, hr.same hV1 hs⟩) (2 ^ n) 0 (by omega)
        exact this
      refine ⟨nu oth + 2, ?_⟩
      have := few_out0 (Q := fun r5 V6 => (r5 = (-1 : Int32) → wX6_fewest (nI d) c T (fun r2 T2 => (-1000000005 : Int32) = r2 ∧ Rel V6 T2)) ∧ (¬ r5 = (-1 : Int32) → (c = 0 → wJ5_bitCount r5 (fun r7 => wX6_fewest (nI d) c T (fun r2 T2 => r7 = r2 ∧ Rel V6 T2))) ∧ (¬ c = 0 → wX6_fewest (nI d) c T (fun r2 T2 => r5 = r2 ∧ Rel V6 T2)))) (oth := oth) (D := D) h1.n0.1 (fun p hp => hf p hp) hn (by rw [d0, hD]) ho (nu_I oth) hA2 ?_ (nu oth + 1) 0 (by omega)
      · exact this
      · have est : fwS (T.2 0) n oth (2 ^ n) = fwS (T.2 0) n oth (nu oth + 1) := by
          have := fwS_stay (X := T.2 0) hn (nu_I oth) hA2 (2 ^ n - (nu oth + 1)) (by omega)
          rw [show nu oth + 1 + (2 ^ n - (nu oth + 1)) = 2 ^ n by omega] at this
          exact this
        rw [est] at fin
        refine brI (fun e => fin rfl (by rw [if_pos e])) (fun e => ?_)
        rcases fwS_or (T.2 0) n oth (nu oth + 1) with h | ⟨m, hm, h⟩
        · exact absurd h e
        · refine brI (fun ec => bc_set (by rw [h]; exact subn_up (nI_subn hn (by omega)) hn) (fin rfl (by rw [if_neg e, if_pos ec]))) (fun ec => fin rfl (by rw [if_neg e, if_neg ec]))
    · exact isIn0_n hc (br0 (dee_y6 h0.d0.2 hdn hd (br1 (isIn6_n hc (br0 ⟨rfl, hr⟩)))))
  · exact dee_n0 h0.d0.1 hdn ha (br0 (dee_n6 h0.d0.2 hdn ha (br0 ⟨rfl, hr⟩)))
