set_option maxRecDepth 100000
/-! ===== falls, most ===== -/
theorem lN0 : (0 : Int64) = lN 0 := rfl
theorem cmp0 {x : Nat} (hx : x < 2 ^ 63) : lg_cmp (lN x) 0 = 0 ↔ x = 0 := by
  rw [lN0, cpN x 0 hx (by omega), if_neg_or x]
where
  if_neg_or (x : Nat) : (if 0 < x then (1 : Int32) else if x = 0 then 0 else -1) = 0 ↔ x = 0 := by
    by_cases h : 0 < x
    · rw [if_pos h]
      exact ⟨fun q => absurd q (by decide), fun q => by omega⟩
    · rw [if_neg h, if_pos (by omega)]
      exact ⟨fun _ => by omega, fun _ => rfl⟩
theorem div0 {Q : Int64 → Prop} : ∀ (j d a b : Nat), 2 * j + 1 ≤ d → b < 2 ^ j → a < 2 ^ 62 → b < 2 ^ 62 → Q (lN (Nat.gcd a b)) → wX0_divisor d (lN a) (lN b) Q := by
  have one : ∀ (d a b : Nat) {Q : Int64 → Prop}, 0 < b → a < 2 ^ 62 → b < 2 ^ 62 → wX0_divisor d (lN b) (lN (a % b)) Q → wX0_divisor (d + 1) (lN a) (lN b) Q := by
    intro d a b Q hb ha hb2 h
    refine brN (fun q => ?_) ⟨fun q => ?_, ?_⟩
    · have := (cmp0 (by omega)).mp q
      omega
    · have := (pk_lEQ (a := b) (b := 0) (by omega) (by omega)).mp q
      omega
    · rw [pk_lRem (by omega) hb (by omega)]
      exact h
  have zero : ∀ (d a : Nat) {Q : Int64 → Prop}, Q (lN a) → wX0_divisor (d + 1) (lN a) (lN 0) Q := by
    intro d a Q h
    exact brY ((cmp0 (x := 0) (by omega)).mpr rfl) h
  intro j
  induction j with
  | zero =>
    intro d a b hd hb _ _ hq
    have e : b = 0 := by simpa using hb
    subst e
    obtain ⟨d', rfl⟩ : ∃ d', d = d' + 1 := ⟨d - 1, by omega⟩
    rw [Nat.gcd_zero_right] at hq
    exact zero d' a hq
  | succ j ih =>
    intro d a b hd hb ha hb2 hq
    obtain ⟨d', rfl⟩ : ∃ d', d = d' + 1 := ⟨d - 1, by omega⟩
    by_cases e : b = 0
    · subst e
      rw [Nat.gcd_zero_right] at hq
      exact zero d' a hq
    · have hr := Nat.mod_lt a (show 0 < b by omega)
      have g1 : Nat.gcd a b = Nat.gcd b (a % b) := by rw [Nat.gcd_comm a b, Nat.gcd_rec b a, Nat.gcd_comm]
      refine one d' a b (by omega) ha hb2 ?_
      obtain ⟨d'', rfl⟩ : ∃ d'', d' = d'' + 1 := ⟨d' - 1, by omega⟩
      rw [g1] at hq
      by_cases e2 : a % b = 0
      · rw [e2] at hq ⊢
        rw [Nat.gcd_zero_right] at hq
        exact zero d'' b hq
      · have hr2 := Nat.mod_lt b (show 0 < a % b by omega)
        have g2 : Nat.gcd b (a % b) = Nat.gcd (a % b) (b % (a % b)) := by rw [Nat.gcd_comm b (a % b), Nat.gcd_rec (a % b) b, Nat.gcd_comm]
        refine one d'' b (a % b) (by omega) hb2 (by omega) ?_
        rw [g2] at hq
        refine ih d'' (a % b) (b % (a % b)) (by omega) ?_ (by omega) (by omega) hq
        have h3 := Nat.div_add_mod b (a % b)
        have h4 : 1 ≤ b / (a % b) := Nat.div_pos (by omega) (by omega)
        have h5 : a % b * 1 ≤ a % b * (b / (a % b)) := Nat.mul_le_mul_left _ h4
        have : 2 ^ (j + 1) = 2 * 2 ^ j := by rw [Nat.pow_succ]; omega
        omega
def falS (X : Nat → Int32) (n p : Nat) : Nat → Nat
  | 0 => 0
  | d + 1 => falS X n p d + (if bt (lf X n d) p = true then 27720 / pc (nu (lf X n d)) else 0)
theorem falS_le (X : Nat → Int32) (n p : Nat) : ∀ d, falS X n p d ≤ 27720 * d := by
  intro d
  induction d with
  | zero => exact Nat.le_refl _
  | succ d ih =>
    unfold falS
    have : (if bt (lf X n d) p = true then 27720 / pc (nu (lf X n d)) else 0) ≤ 27720 := by
      by_cases h : bt (lf X n d) p = true
      · rw [if_pos h]
        exact Nat.div_le_self _ _
      · rw [if_neg h]
        omega
    omega
theorem dv : ∀ k, k < 12 → 27720 / (k + 1) * (k + 1) = 27720 := by decide
theorem pc_pos {x : Int32} {p : Nat} (hp : p < 12) (h : bt x p = true) : 0 < pc (nu x) := by
  unfold pc
  rw [List.countP_pos_iff]
  exact ⟨p, List.mem_range.mpr hp, h⟩
/-- the fraction a / b in lowest terms is S parts of 27720 -/
def frR (S a b : Nat) : Prop := a * 27720 = S * b ∧ Nat.gcd a b = 1 ∧ 0 < b
theorem frR_le {S a b : Nat} (h : frR S a b) : a ≤ S ∧ b ≤ 27720 := by
  obtain ⟨h1, h2, h3⟩ := h
  have hd : b ∣ 27720 := by
    have : b ∣ a * 27720 := ⟨S, by rw [h1, Nat.mul_comm]⟩
    exact (Nat.Coprime.symm h2).dvd_of_dvd_mul_left this
  have hb : b ≤ 27720 := Nat.le_of_dvd (by omega) hd
  refine ⟨?_, hb⟩
  have : S * b ≤ S * 27720 := Nat.mul_le_mul_left S hb
  have : a * 27720 ≤ S * 27720 := by omega
  exact Nat.le_of_mul_le_mul_right this (by omega)
theorem frR_step {S a b k : Nat} (h : frR S a b) (hk : 0 < k) (hk2 : k ≤ 12) : frR (S + 27720 / k) ((a * k + b) / Nat.gcd (a * k + b) (b * k)) (b * k / Nat.gcd (a * k + b) (b * k)) := by
  obtain ⟨h1, h2, h3⟩ := h
  have hbk : 0 < b * k := Nat.mul_pos h3 hk
  have hg : 0 < Nat.gcd (a * k + b) (b * k) := Nat.gcd_pos_of_pos_right _ hbk
  obtain ⟨g, hgg⟩ : ∃ g, g = Nat.gcd (a * k + b) (b * k) := ⟨_, rfl⟩
  have d1 : g ∣ a * k + b := by rw [hgg]; exact Nat.gcd_dvd_left _ _
  have d2 : g ∣ b * k := by rw [hgg]; exact Nat.gcd_dvd_right _ _
  rw [← hgg] at hg ⊢
  obtain ⟨x, hx⟩ := d1
  obtain ⟨y, hy⟩ := d2
  have hdv := dv (k - 1) (by omega)
  rw [show k - 1 + 1 = k by omega] at hdv
  rw [hx, hy, Nat.mul_div_cancel_left _ hg, Nat.mul_div_cancel_left _ hg]
  refine ⟨?_, ?_, ?_⟩
  · have e : (a * k + b) * 27720 = (S + 27720 / k) * (b * k) := by
      have e1 : (a * k + b) * 27720 = a * 27720 * k + b * 27720 := by
        rw [Nat.add_mul, Nat.mul_right_comm]
      have e2 : (S + 27720 / k) * (b * k) = S * b * k + b * (27720 / k * k) := by
        rw [Nat.add_mul, Nat.mul_assoc S b k, Nat.mul_comm b k, ← Nat.mul_assoc (27720 / k) k b, Nat.mul_comm (27720 / k * k) b]
      rw [e1, e2, h1, hdv]
    rw [hx, hy] at e
    have : g * (x * 27720) = g * ((S + 27720 / k) * y) := by
      rw [← Nat.mul_assoc, e, Nat.mul_left_comm]
    exact Nat.eq_of_mul_eq_mul_left hg this
  · have : g * Nat.gcd x y = g * 1 := by
      rw [← Nat.gcd_mul_left, ← hx, ← hy, ← hgg, Nat.mul_one]
    exact Nat.eq_of_mul_eq_mul_left hg this
  · rcases Nat.eq_zero_or_pos y with e | e
    · rw [e, Nat.mul_zero] at hy
      omega
    · exact e
theorem frR_is {S a b : Nat} (h : frR S a b) : a = S / Nat.gcd S 27720 ∧ b = 27720 / Nat.gcd S 27720 := by
  obtain ⟨h1, h2, h3⟩ := h
  have hg : 0 < Nat.gcd S 27720 := Nat.gcd_pos_of_pos_right _ (by omega)
  have e : b * Nat.gcd S 27720 = 27720 := by
    rw [← Nat.gcd_mul_left, Nat.mul_comm b S, ← h1, Nat.gcd_mul_right, h2, Nat.one_mul]
  have e2 : a * Nat.gcd S 27720 = S := by
    have : a * Nat.gcd S 27720 * b = S * b := by
      rw [Nat.mul_assoc, Nat.mul_comm (Nat.gcd S 27720) b, e, h1]
    exact Nat.eq_of_mul_eq_mul_right h3 this
  constructor
  · conv => rhs; lhs; rw [← e2]
    rw [Nat.mul_div_cancel _ hg]
  · conv => rhs; lhs; rw [← e]
    rw [Nat.mul_div_cancel _ hg]
theorem fal0 {V : CV} {X : Nat → Int32} {n dn tn p : Nat} {Q : CV → Prop} (h0 : RS V 0 X n dn tn) (hp : p < n) (hq : ∀ V' a b, sameV V V' → vA V' = vA V → vJ V' 17 = lN a → vJ V' 18 = lN b → frR (falS X n p dn) a b → Q V') : wX0_findFalls (nI p) V Q := by
  have hn := h0.1.1
  have hdn := h0.1.2.1
  have l : ∀ j d, d + j = dn → ∀ V' a b, sameV V V' → vA V' = vA V → vJ V' 17 = lN a → vJ V' 18 = lN b → frR (falS X n p d) a b → wX0_findFalls_12 Q (j + 1) (nI p) (nI d) V' := by
    intro j
    induction j with
    | zero =>
      intro d hd V' a b hs hA h17 h18 hf
      have : d = dn := by omega
      subst this
      unfold wX0_findFalls_12
      rw [(h0.same hs).d0.1]
      exact brY (nI_le (by omega) (by omega)) (hq V' a b hs hA h17 h18 hf)
    | succ j ih =>
      intro d hd V' a b hs hA h17 h18 hf
      have h1 := h0.same hs
      unfold wX0_findFalls_12
      rw [h1.d0.1, nI_clamp (by omega)]
      refine brN (nI_ge (by omega) (by omega)) ⟨vp_in_nI (by omega) (by omega), has0 (by omega) ?_⟩
      have eD : vD V' 0 d 3 = lf X n d := (h1.2.2.2.2.2.2.2.2.2.1 d (by omega)).2.2.2.1
      rw [eD]
      by_cases hb : bt (lf X n d) p = true
      · rw [hb]
        refine br1 (lm0 h1 (by omega) ?_)
        have hk := pc_pos (by omega) hb
        have hk2 := pc_le (nu (lf X n d))
        obtain ⟨k, hkk⟩ : ∃ k, k = pc (nu (lf X n d)) := ⟨_, rfl⟩
        have e3 : (pcI (lf X n d)).toInt64 = lN k := by unfold pcI; rw [nI_l (by omega), hkk]
        rw [← hkk] at hk hk2
        have hle := frR_le hf
        have hS := falS_le X n p d
        have ev1 : ∀ (x y : Int64), vJ (sJ (sJ V' 17 x) 18 y) 17 = x ∧ vJ (sJ (sJ V' 17 x) 18 y) 18 = y ∧ vJ (sJ V' 17 x) 18 = vJ V' 18 := fun x y => ⟨by simp [cvs], by simp [cvs], by simp [cvs]⟩
        rw [(ev1 _ 0).2.2, (ev1 _ _).1, (ev1 _ _).2.1, e3, h17, h18, lN_mul, lN_mul, lN_add]
        unfold wX0_divisorC
        have hak : a * k ≤ 221760 * 12 := Nat.mul_le_mul (by omega) hk2
        have hbk : b * k ≤ 27720 * 12 := Nat.mul_le_mul hle.2 hk2
        refine div0 19 64 _ _ (by omega) (by omega) (by omega) (by omega) ?_
        have st := frR_step hf hk hk2
        obtain ⟨g, hg⟩ : ∃ g, g = Nat.gcd (a * k + b) (b * k) := ⟨_, rfl⟩
        rw [← hg] at st ⊢
        have hgp : 0 < g := by rw [hg]; exact Nat.gcd_pos_of_pos_right _ (Nat.mul_pos hf.2.2 hk)
        have hgl : g ≤ b * k := by rw [hg]; exact Nat.le_of_dvd (Nat.mul_pos hf.2.2 hk) (Nat.gcd_dvd_right _ _)
        have ng : ¬ lN g = 0 := fun q => by
          have := (pk_lEQ (a := g) (b := 0) (by omega) (by omega)).mp q
          omega
        have ev2 : ∀ (x y z w : Int64), vJ (sJ (sJ (sJ V' 17 x) 18 y) 17 z) 18 = y := fun x y z w => by simp [cvs]
        rw [ev2 _ _ _ 0, pk_lDiv (by omega) hgp (by omega), pk_lDiv (by omega) hgp (by omega)]
        refine ⟨ng, ng, ?_⟩
        unfold wX0_findFalls_117
        rw [nI_1]
        refine ih (d + 1) (by omega) _ _ _ ((((hs.tr sJ_same).tr sJ_same).tr sJ_same).tr sJ_same) hA (by simp [cvs]) (by simp [cvs]) ?_
        have e4 : falS X n p (d + 1) = falS X n p d + 27720 / k := by
          rw [falS, if_pos hb, hkk]
        rw [e4]
        exact st
      · have hb' : bt (lf X n d) p = false := by simpa using hb
        rw [hb']
        refine br0 ?_
        unfold wX0_findFalls_117
        rw [nI_1]
        refine ih (d + 1) (by omega) V' a b hs hA h17 h18 ?_
        have e4 : falS X n p (d + 1) = falS X n p d := by
          rw [falS, if_neg hb]
          rfl
        rw [e4]
        exact hf
  refine ⟨dn + 1, l dn 0 (by omega) _ 0 1 (sJ_same.tr sJ_same) rfl ?_ ?_ ⟨?_, rfl, by omega⟩⟩
  · simp [cvs]
    rfl
  · simp [cvs]
    rfl
  · show 0 * 27720 = 0 * 1
    rfl
theorem fal6 {V : CV} {T : TS} {n dn tn p : Nat} {Q : Int32 → TS → Prop} (h0 : RS V 0 (T.2 0) n dn tn) (hp : p < n) (hq : Q (nI (falS (T.2 0) n p dn)) T) : wX6_fallsOn (nI p) T Q := by
  have hn := h0.1.1
  have hdn := h0.1.2.1
  have hi1 : vp_in (1 : Int32) 3114 := pk_in 1 3114 (by omega)
  have l : ∀ j d, d + j = dn → wX6_fallsOn_4 Q (j + 1) (nI p) (nI (falS (T.2 0) n p d)) (nI d) T := by
    intro j
    induction j with
    | zero =>
      intro d hd
      have : d = dn := by omega
      subst this
      unfold wX6_fallsOn_4
      rw [X1 h0]
      exact ⟨hi1, brY (nI_le (by omega) (by omega)) hq⟩
    | succ j ih =>
      intro d hd
      have st := ih (d + 1) (by omega)
      unfold wX6_fallsOn_4
      rw [X1 h0]
      refine ⟨hi1, brN (nI_ge (by omega) (by omega)) (lf6 h0 (by omega) ?_)⟩
      by_cases hb : bt (lf (T.2 0) n d) p = true
      · refine brY ((bt_1 _ (by omega)).mpr hb) (lf6 h0 (by omega) (ones_set (subn_up (lf_s hn) hn) ?_))
        have hk := pc_pos (by omega) hb
        have hk2 := pc_le (nu (lf (T.2 0) n d))
        unfold pcI
        refine ⟨nI_ne0 hk (by omega), ?_⟩
        unfold wX6_fallsOn_44
        rw [show (27720 : Int32) = nI 27720 from rfl, pk_div (by omega) hk (by omega), nI_add, nI_1]
        rw [falS, if_pos hb] at st
        exact st
      · refine brN (fun q => hb ((bt_1 _ (by omega)).mp q)) ?_
        unfold wX6_fallsOn_44
        rw [show (0 : Int32) = nI 0 from rfl, nI_add, nI_1]
        rw [falS, if_neg hb] at st
        exact st
  exact ⟨dn + 1, l dn 0 (by omega)⟩
theorem gcd6 {T : TS} {Q : Int64 → TS → Prop} {c : Int32} {S : Nat} (hS : S < 2 ^ 30) : ∀ N x y, y ≤ N → x < 2 ^ 30 → y < 2 ^ 30 → 0 < Nat.gcd x y → (Q (if c = 0 then lN (S / Nat.gcd x y) else lN (27720 / Nat.gcd x y)) T) → ∃ f, wX6_falls_36 Q f c (nI S) (nI x) (nI y) T := by
  have zero : ∀ x, x < 2 ^ 30 → 0 < x → (Q (if c = 0 then lN (S / x) else lN (27720 / x)) T) → ∃ f, wX6_falls_36 Q f c (nI S) (nI x) (nI 0) T := by
    intro x hx hx0 h
    refine ⟨1, ?_⟩
    unfold wX6_falls_36
    refine brY (by decide) ?_
    have hne := nI_ne0 hx0 (by omega)
    by_cases hc : c = 0
    · rw [if_pos hc] at h
      refine brY hc ⟨hne, ?_⟩
      rw [pk_div (by omega) hx0 (by omega), nI_l (Nat.lt_of_le_of_lt (Nat.div_le_self _ _) (by omega))]
      exact h
    · rw [if_neg hc] at h
      refine brN hc ⟨hne, ?_⟩
      rw [show (27720 : Int32) = nI 27720 from rfl, pk_div (by omega) hx0 (by omega), nI_l (Nat.lt_of_le_of_lt (Nat.div_le_self _ _) (by omega))]
      exact h
  intro N
  induction N with
  | zero =>
    intro x y hy hx _ hg h
    have : y = 0 := by omega
    subst this
    rw [Nat.gcd_zero_right] at hg h
    exact zero x hx hg h
  | succ N ih =>
    intro x y hy hx hy2 hg h
    by_cases e : y = 0
    · subst e
      rw [Nat.gcd_zero_right] at hg h
      exact zero x hx hg h
    · have hr := Nat.mod_lt x (show 0 < y by omega)
      have g1 : Nat.gcd x y = Nat.gcd y (x % y) := by rw [Nat.gcd_comm x y, Nat.gcd_rec y x, Nat.gcd_comm]
      rw [g1] at hg h
      obtain ⟨f, hf⟩ := ih y (x % y) (by omega) hy2 (by omega) hg h
      refine ⟨f + 1, ?_⟩
      unfold wX6_falls_36
      refine brN (nI_nle (by omega) (by omega)) ⟨nI_ne0 (by omega) (by omega), ?_⟩
      rw [pk_rem (by omega) (by omega) (by omega)]
      exact hf
theorem op_falls {V : CV} {T : TS} (hr : Rel V T) (a c : Int32) : wX0_falls a c V (fun r V1 => wX6_falls a c T (fun r2 T2 => r = r2 ∧ Rel V1 T2)) := by
  obtain ⟨n, dn, tn, h0⟩ := hr.1
  have hn := h0.1.1
  have hdn := h0.1.2.1
  unfold wX0_falls
  by_cases ha : ∃ p, p < n ∧ a = nI p
  · obtain ⟨p, hp, rfl⟩ := ha
    refine per_y0 h0.n0.1 hn hp (br1 ?_)
    by_cases hc : inI c 0 1
    · refine isIn0_y hc (br1 (fal0 h0 hp (fun V' x y hs _ h17 h18 hf => ?_)))
      obtain ⟨e1, e2⟩ := frR_is hf
      have hS := falS_le (T.2 0) n p dn
      have fin : ∀ {r : Int64}, r = (if c = 0 then lN x else lN y) → wX6_falls (nI p) c T (fun r2 T2 => r = r2 ∧ Rel V' T2) := by
        rintro r rfl
        refine per_y6 h0.n0.2 hn hp (br1 (isIn6_y hc (br1 (fal6 h0 hp ?_))))
        refine gcd6 (by omega) 27720 _ 27720 (by omega) (by omega) (by omega) (Nat.gcd_pos_of_pos_right _ (by omega)) ⟨?_, hr.same hs sameT.rf⟩
        rw [e1, e2]
      exact brI (fun e => fin (by rw [if_pos e, h17])) (fun e => fin (by rw [if_neg e, h18]))
    · exact isIn0_n hc (br0 (per_y6 h0.n0.2 hn hp (br1 (isIn6_n hc (br0 ⟨rfl, hr⟩)))))
  · exact per_n0 h0.n0.1 hn ha (br0 (per_n6 h0.n0.2 hn ha (br0 ⟨rfl, hr⟩)))
theorem fr_cmp {S a b S' a' b' : Nat} (h : frR S a b) (h' : frR S' a' b') : a * b' ≤ a' * b ↔ S ≤ S' := by
  obtain ⟨h1, -, h3⟩ := h
  obtain ⟨g1, -, g3⟩ := h'
  have hp : 0 < b * b' := Nat.mul_pos h3 g3
  have e1 : a * b' * 27720 = S * (b * b') := by
    rw [Nat.mul_right_comm, h1, Nat.mul_assoc]
  have e2 : a' * b * 27720 = S' * (b * b') := by
    rw [Nat.mul_right_comm, g1, Nat.mul_assoc, Nat.mul_comm b' b]
  constructor
  · intro h
    have := Nat.mul_le_mul_right 27720 h
    rw [e1, e2] at this
    exact Nat.le_of_mul_le_mul_right this hp
  · intro h
    have := Nat.mul_le_mul_right (b * b') h
    rw [← e1, ← e2] at this
    exact Nat.le_of_mul_le_mul_right this (by omega)
/-- on whom the most falls, after k people -/
def moS (X : Nat → Int32) (n dn : Nat) : Nat → Option Nat
  | 0 => none
  | k + 1 => match moS X n dn k with
    | none => some k
    | some b => if falS X n k dn ≤ falS X n b dn then some b else some k
theorem moS_lt (X : Nat → Int32) (n dn : Nat) : ∀ k b, moS X n dn k = some b → b < k := by
  intro k
  induction k with
  | zero => intro b h; cases h
  | succ k ih =>
    intro b h
    unfold moS at h
    cases e : moS X n dn k with
    | none =>
      rw [e] at h
      cases h
      omega
    | some b' =>
      rw [e] at h
      have := ih b' e
      dsimp only at h
      by_cases hc : falS X n k dn ≤ falS X n b' dn
      · rw [if_pos hc] at h
        cases h
        omega
      · rw [if_neg hc] at h
        cases h
        omega
theorem op_most {V : CV} {T : TS} (hr : Rel V T) : wX0_most V (fun r V1 => wX6_most T (fun r2 T2 => r = r2 ∧ Rel V1 T2)) := by
  obtain ⟨n, dn, tn, h0⟩ := hr.1
  have hn := h0.1.1
  have hdn := h0.1.2.1
  have hi0 : vp_in (0 : Int32) 3114 := pk_in 0 3114 (by omega)
  have m6 : ∀ {Q : Int32 → TS → Prop}, Q (orN (oI (moS (T.2 0) n dn n))) T → ∀ j k, k + j = n → wX6_most_4 Q (j + 1) (oI (moS (T.2 0) n dn k)) (nI k) T := by
    intro Q hq j
    induction j with
    | zero =>
      intro k hk
      have : k = n := by omega
      subst this
      unfold wX6_most_4
      rw [X0' h0]
      refine ⟨hi0, brY (nI_le (by omega) (by omega)) (orN6' ?_ hq)⟩
      cases e : moS (T.2 0) k dn k with
      | none => exact Or.inl rfl
      | some b => exact Or.inr ⟨b, by have := moS_lt _ _ _ k b e; omega, rfl⟩
    | succ j ih =>
      intro k hk
      have st := ih (k + 1) (by omega)
      unfold wX6_most_4
      rw [X0' h0]
      refine ⟨hi0, brN (nI_ge (by omega) (by omega)) ?_⟩
      unfold moS at st
      cases e : moS (T.2 0) n dn k with
      | none =>
        rw [e] at st
        refine brY (show oI none < 0 by decide) ?_
        unfold wX6_most_31 wX6_most_36
        rw [nI_1]
        exact st
      | some b =>
        have hb := moS_lt _ _ _ k b e
        rw [e] at st
        dsimp only at st
        refine brN (show ¬ nI b < 0 from nI_pos (by omega)) (fal6 h0 (by omega) (fal6 h0 (p := b) (by omega) ?_))
        have s1 := falS_le (T.2 0) n k dn
        have s2 := falS_le (T.2 0) n b dn
        by_cases hc : falS (T.2 0) n k dn ≤ falS (T.2 0) n b dn
        · rw [if_pos hc] at st
          refine brY (nI_le hc (by omega)) ?_
          unfold wX6_most_36
          rw [nI_1]
          exact st
        · rw [if_neg hc] at st
          refine brN (nI_ge (by omega) (by omega)) ?_
          unfold wX6_most_31 wX6_most_36
          rw [nI_1]
          exact st
  have m0 : ∀ {Q : Int32 → CV → Prop}, (∀ V', sameV V V' → Q (orN (oI (moS (T.2 0) n dn n))) V') → ∀ j k, k + j = n → ∀ V' x y, sameV V V' → (∀ b, moS (T.2 0) n dn k = some b → frR (falS (T.2 0) n b dn) x y) → wX0_most_10 Q (j + 1) (oI (moS (T.2 0) n dn k)) (lN x) (lN y) (nI k) V' := by
    intro Q hq j
    induction j with
    | zero =>
      intro k hk V' x y hs hf
      have : k = n := by omega
      subst this
      unfold wX0_most_10
      rw [(h0.same hs).n0.1]
      exact brY (nI_le (by omega) (by omega)) (orN0 (hq V' hs))
    | succ j ih =>
      intro k hk V' x y hs hf
      have h1 := h0.same hs
      unfold wX0_most_10
      rw [h1.n0.1]
      refine brN (nI_ge (by omega) (by omega)) (fal0 h1 (by omega) (fun V2 x2 y2 hs2 _ h17 h18 hf2 => ?_))
      have hs3 := hs.tr hs2
      have st := fun x y h => ih (k + 1) (by omega) V2 x y hs3 h
      unfold moS at st
      cases e : moS (T.2 0) n dn k with
      | none =>
        rw [e] at st
        refine brY rfl ?_
        unfold wX0_most_50 wX0_most_64
        rw [nI_1, h17, h18]
        exact st x2 y2 (fun b hb => by cases hb; exact hf2)
      | some b =>
        have hb := moS_lt _ _ _ k b e
        rw [e] at st
        dsimp only at st
        have hfb := hf b e
        have s1 := falS_le (T.2 0) n k dn
        have s2 := falS_le (T.2 0) n b dn
        have b1 := frR_le hfb
        have b2 := frR_le hf2
        have p1 : x2 * y ≤ 221760 * 27720 := Nat.mul_le_mul (by omega) b1.2
        have p2 : x * y2 ≤ 221760 * 27720 := Nat.mul_le_mul (by omega) b2.2
        refine brN (show ¬ nI b = -1 from nI_m1 (by omega)) ?_
        rw [h17, h18, lN_mul, lN_mul]
        by_cases hc : falS (T.2 0) n k dn ≤ falS (T.2 0) n b dn
        · rw [if_pos hc] at st
          refine brY ((cpN_le (by omega) (by omega)).mpr ((fr_cmp hf2 hfb).mpr hc)) ?_
          unfold wX0_most_64
          rw [nI_1]
          exact st x y (fun b' hb' => by cases hb'; exact hfb)
        · rw [if_neg hc] at st
          refine brN (fun q => hc ((fr_cmp hf2 hfb).mp ((cpN_le (by omega) (by omega)).mp q))) ?_
          unfold wX0_most_50 wX0_most_64
          rw [nI_1, h17, h18]
          exact st x2 y2 (fun b' hb' => by cases hb'; exact hf2)
  exact ⟨n + 1, m0 (fun V' hs => ⟨n + 1, m6 ⟨rfl, hr.same hs sameT.rf⟩ n 0 (by omega)⟩) n 0 (by omega) V 0 1 sameV.rf (fun b hb => by cases hb)⟩
