set_option maxRecDepth 100000
/-! WHOM A PERSON WOULD NAME -/
noncomputable def mS (X : Nat → Int32) (n tn p d : Nat) : Nat → Int32
  | 0 => 0
  | k + 1 => mS X n tn p d k ||| (if mayX X n tn p d k = 0 then 0 else one k)
noncomputable def gS (X : Nat → Int32) (n d : Nat) : Nat → Int32
  | 0 => 0
  | k + 1 => gS X n d k ||| (if gb X n k &&& X (66 + 6 * d) = 0 then 0 else one k)
noncomputable def tS (X : Nat → Int32) (n tn p d : Nat) : Nat → Int32
  | 0 => 0
  | k + 1 => if mayX X n tn p d k = 0 then tS X n tn p d k else tS X n tn p d k ||| (if gb X n k &&& X (66 + 6 * d) = 0 then 0 else one k)
theorem or_0 (x : Int32) : x ||| 0 = x := b_ext (fun i _ => by rw [b_or, b_0]; simp)
theorem tS_is (X : Nat → Int32) (n tn p d : Nat) : ∀ k, k ≤ 12 → subn k (mS X n tn p d k) ∧ subn k (gS X n d k) ∧ tS X n tn p d k = mS X n tn p d k &&& gS X n d k := by
  intro k
  induction k with
  | zero => intro _; exact ⟨subn_0, subn_0, b_ext (fun i _ => by show bt 0 i = _; rw [b_and, b_0]; show false = (bt 0 i && bt 0 i); rw [b_0]; rfl)⟩
  | succ k ih =>
    intro hk
    obtain ⟨h1, h2, h3⟩ := ih (by omega)
    have ho : subn (k + 1) (one k) := subn_one (by omega) (by omega)
    refine ⟨?_, ?_, ?_⟩
    · unfold mS
      refine subn_or (subn_up h1 (by omega)) ?_
      split
      · exact subn_0
      · exact ho
    · unfold gS
      refine subn_or (subn_up h2 (by omega)) ?_
      split
      · exact subn_0
      · exact ho
    · unfold tS mS gS
      by_cases hm : mayX X n tn p d k = 0
      · rw [if_pos hm, if_pos hm, or_0, h3]
        apply b_ext
        intro i hi
        rw [b_and, b_and, b_or]
        by_cases hg : gb X n k &&& X (66 + 6 * d) = 0
        · rw [if_pos hg, b_0]
          simp
        · rw [if_neg hg, b_one (by omega) hi]
          by_cases e : i = k
          · subst e
            rw [h1 i (Nat.le_refl _)]
            rfl
          · simp [e]
      · rw [if_neg hm, if_neg hm, h3]
        apply b_ext
        intro i hi
        rw [b_or, b_and, b_and, b_or, b_or, b_one (by omega) hi]
        by_cases hg : gb X n k &&& X (66 + 6 * d) = 0
        · rw [if_pos hg, b_0]
          by_cases e : i = k
          · subst e
            rw [h1 i (Nat.le_refl _), h2 i (Nat.le_refl _)]
            simp
          · simp [e]
        · rw [if_neg hg, b_one (by omega) hi]
          by_cases e : i = k
          · simp [e]
          · simp [e]
def ls (x : Int32) : Int32 := oI (lsN (nu x) 12)
def gr (x : Int32) : Int32 := oI (grN (nu x) 12)
def fr (x y : Int32) : Int32 := if x &&& y = 0 then x else x &&& y
/-- by the kind of the speaker: whom out of M, G being whose saying would hit -/
def chK (kind M G f w b : Int32) : Int32 := if kind = 1 then ls (M &&& cmpl G) else if kind = 2 then ls (fr M f) else if kind = 3 then gr (M &&& cmpl G) else if kind = 4 then (if w ≤ b then ls (fr M f) else -1) else if kind = 5 then ls (fr M G) else ls M
noncomputable def chX (X : Nat → Int32) (n tn p d : Nat) : Int32 := chK (X (6 + 5 * p)) (mS X n tn p d n) (gS X n d n) (X (6 + 5 * p + 3)) (X (66 + 6 * d + 2)) (X (6 + 5 * p + 1))
theorem gr_not {M G : Int32} : M &&& cmpl (M &&& G) = M &&& cmpl G := b_ext (fun i hi => by
  rw [b_and, b_and, b_cmpl _ hi, b_cmpl _ hi, b_and]
  cases bt M i <;> cases bt G i <;> rfl)
theorem ch6 {V : CV} {T : TS} {n dn tn p d : Nat} (h0 : RS V 0 (T.2 0) n dn tn) (hp : p < n) (hd : d < dn) {Q : Int32 → TS → Prop} (hQ : ∀ T', evT T T' → Q (chX (T.2 0) n tn p d) T') : wX6_choiceOf (nI p) (nI d) T Q := by
  have hn := h0.1.1
  have hdn := h0.1.2.1
  suffices H : ∀ r k, k + r = n → ∀ T', evT T T' → wX6_choiceOf_8 Q (r + 1) (nI p) (nI d) (mS (T.2 0) n tn p d k) (tS (T.2 0) n tn p d k) (nI k) T' from ⟨n + 1, H n 0 (by omega) T evT.rf⟩
  intro r
  induction r with
  | zero =>
    intro k e T' hT
    have e2 : k = n := by omega
    subst e2
    have eT : T'.2 0 = T.2 0 := hT.2 0 (by decide) (by decide)
    refine ⟨pk_in 0 3114 (by omega), ?_⟩
    rw [X0' (h0.ev6 hT)]
    have ets := (tS_is (T.2 0) k tn p d k hn).2.2
    rw [ets]
    have hq := hQ T' hT
    unfold chX chK at hq
    generalize mS (T.2 0) k tn p d k = M at hq ⊢
    generalize gS (T.2 0) k d k = G at hq ⊢
    refine brY (nI_le (Nat.le_refl _) (by omega)) (of6 3 (by omega) (by omega) ?_)
    rw [eT]
    have h93 : ∀ k0, k0 = fr M (T.2 0 (6 + 5 * p + 3)) → wX6_choiceOf_93 (nI p) (nI d) M (M &&& G) k0 T' Q := by
      intro k0 hk0
      refine ls6 (of6 0 (by omega) (by omega) ?_)
      rw [eT, hk0]
      show (T.2 0 (6 + 5 * p) = 1 → _) ∧ (¬ T.2 0 (6 + 5 * p) = 1 → (T.2 0 (6 + 5 * p) = 2 → _) ∧ (¬ T.2 0 (6 + 5 * p) = 2 → (T.2 0 (6 + 5 * p) = 3 → _) ∧ (¬ T.2 0 (6 + 5 * p) = 3 → (T.2 0 (6 + 5 * p) = 4 → _) ∧ (¬ T.2 0 (6 + 5 * p) = 4 → (T.2 0 (6 + 5 * p) = 5 → _) ∧ (¬ T.2 0 (6 + 5 * p) = 5 → _)))))
      refine brI (fun q => ?_) (fun q1 => brI (fun q => ?_) (fun q2 => brI (fun q => ?_) (fun q3 => brI (fun q => ?_) (fun q4 => brI (fun q => ?_) (fun q5 => ?_)))))
      · rw [if_pos q] at hq
        refine ls6 ?_
        show Q (ls (M &&& cmpl (M &&& G))) T'
        rw [gr_not]
        exact hq
      · rw [if_neg q1, if_pos q] at hq
        exact hq
      · rw [if_neg q1, if_neg q2, if_pos q] at hq
        refine gr6 ?_
        show Q (gr (M &&& cmpl (M &&& G))) T'
        rw [gr_not]
        exact hq
      · rw [if_neg q1, if_neg q2, if_neg q3, if_pos q] at hq
        refine dee6 2 (by omega) (by omega) (of6 1 (by omega) (by omega) ?_)
        rw [eT]
        refine brI (fun z => ?_) (fun z => ?_)
        · rw [if_pos z] at hq; exact hq
        · rw [if_neg z] at hq; exact hq
      · rw [if_neg q1, if_neg q2, if_neg q3, if_neg q4, if_pos q] at hq
        unfold fr at hq
        refine brI (fun z => ls6 ?_) (fun z => ls6 ?_)
        · rw [if_pos z] at hq; exact hq
        · rw [if_neg z] at hq; exact hq
      · rw [if_neg q1, if_neg q2, if_neg q3, if_neg q4, if_neg q5] at hq
        exact ls6 hq
    exact brI (fun z => h93 _ (by unfold fr; rw [if_pos z])) (fun z => h93 _ (by unfold fr; rw [if_neg z]))
  | succ r ih =>
    intro k e T' hT
    refine ⟨pk_in 0 3114 (by omega), ?_⟩
    have h0' := h0.ev6 hT
    have eT : T'.2 0 = T.2 0 := hT.2 0 (by decide) (by decide)
    rw [X0' h0']
    refine brN (nI_ge (by omega) (by omega)) (may6 h0' hd (by omega) (fun T2 hT2 => ?_))
    have hT3 := hT.tr hT2
    have eT2 : T2.2 0 = T.2 0 := hT3.2 0 (by decide) (by decide)
    have := ih (k + 1) (by omega) T2 hT3
    unfold mS tS at this
    rw [eT]
    unfold wX6_choiceOf_63 wX6_choiceOf_66
    rw [nI_1]
    refine brI (fun z => ?_) (fun z => gb6 (h0.ev6 hT3) (by omega) (dee6 0 (by omega) (by omega) ?_))
    · rw [if_pos z, if_pos z, or_0] at this; exact this
    · rw [if_neg z, if_neg z] at this
      rw [eT2]
      refine brI (fun w => ?_) (fun w => ?_)
      · rw [if_pos (show gb (T.2 0) n k &&& T.2 0 (66 + 6 * d) = 0 from w)] at this; exact this
      · rw [if_neg (show ¬ gb (T.2 0) n k &&& T.2 0 (66 + 6 * d) = 0 from w)] at this; exact this
/-- the component's picks -/
theorem pk17 {a : Nat} {x : Int32} {V : CV} {Q : Int32 → CV → Prop} (hs : subn 12 x) (hq : Q (ls x) V) : wX17_pick a x V Q := by
  refine brI (fun z => ?_) (fun z => tz0 hs z hq)
  subst z
  have : ls 0 = -1 := by decide +kernel
  rw [this] at hq
  exact hq
theorem ls_one : ∀ k, k < 12 → ls (one k) = nI k := by decide +kernel
theorem pk10 {a : Nat} {b x : Int32} {V : CV} {Q : Int32 → CV → Prop} (hm : vM V a = some (eSp 10 b)) (hs : subn 12 x) (hq : Q (gr x) V) : wX10_pick a x V Q := by
  refine hob0 hs ⟨10, b, ⟨by omega, by omega⟩, hm, ?_⟩
  unfold gr at hq
  cases hg : grN (nu x) 12 with
  | none =>
    rw [hg] at hq
    exact brY rfl hq
  | some k =>
    rw [hg] at hq
    have hk := (grN_lt 12 k hg).1
    refine pk17 (subn_one hk (by omega)) ?_
    show Q (ls (one k)) V
    rw [ls_one k hk]
    exact hq
theorem ch0K {a kn : Nat} {M G f w b : Int32} {V : CV} {Q : Int32 → CV → Prop} (hk : kn ≤ 5) (hm : vM V a = some (eSp (7 + kn) b)) (hM : subn 12 M) (hQ : Q (chK (nI kn) M G f w b) V) : wSp_choice a M G f w V Q := by
  have hsp : isSpk (7 + kn) := ⟨by omega, by omega⟩
  have h9 : ∀ {c}, (c = 9 ∨ c = 11) → vM V a = some (eSp c b) → Q (ls (fr M f)) V → wX9_choice a M G f w V Q := by
    intro c hc hm hq
    have hsc : isSpk c := by rcases hc with rfl | rfl <;> exact ⟨by omega, by omega⟩
    unfold fr at hq
    refine brI (fun z => ?_) (fun z => ?_)
    · rw [if_pos z] at hq
      exact ⟨c, b, hsc, hm, c, b, hsc, hm, fun q => by omega, fun _ => pk17 hM hq⟩
    · rw [if_neg z] at hq
      exact ⟨c, b, hc, hm, pk17 (subn_and hM) hq⟩
  refine ⟨7 + kn, b, hsp, hm, fun q => ?_, fun q => ?_, fun q => ?_, fun q => ?_, fun q => ?_, fun q => ?_⟩
  · have e : kn = 0 := by omega
    subst e
    exact ⟨7, b, hsp, hm, fun q => by omega, fun _ => pk17 hM hQ⟩
  · have e : kn = 1 := by omega
    subst e
    exact ⟨8, b, hsp, hm, 8, b, hsp, hm, fun q => by omega, fun _ => pk17 (subn_and hM) hQ⟩
  · have e : kn = 2 := by omega
    subst e
    exact h9 (Or.inl rfl) hm hQ
  · have e : kn = 3 := by omega
    subst e
    exact ⟨10, b, hsp, hm, 10, b, hsp, hm, fun _ => pk10 hm (subn_and hM) hQ, fun q => absurd rfl q⟩
  · have e : kn = 4 := by omega
    subst e
    have hQ2 : Q (if w ≤ b then ls (fr M f) else -1) V := hQ
    refine ⟨b, hm, brI (fun z => ?_) (fun z => ?_)⟩
    · rw [if_pos z] at hQ2
      exact ⟨11, b, hsp, hm, h9 (Or.inr rfl) hm hQ2⟩
    · rw [if_neg z] at hQ2
      exact hQ2
  · have e : kn = 5 := by omega
    subst e
    have hQ2 : Q (ls (fr M G)) V := hQ
    unfold fr at hQ2
    refine brI (fun z => ?_) (fun z => ?_)
    · rw [if_pos z] at hQ2
      exact ⟨12, b, hsp, hm, 12, b, hsp, hm, fun q => by omega, fun _ => pk17 hM hQ2⟩
    · rw [if_neg z] at hQ2
      exact ⟨b, hm, pk17 (subn_and hM) hQ2⟩
theorem ch0 {V : CV} {X : Nat → Int32} {n dn tn p d : Nat} (h0 : RS V 0 X n dn tn) (hf : FF V X n) (hp : p < n) (hd : d < dn) {Q : Int32 → CV → Prop} (hQ : ∀ V', evV V V' → Q (chX X n tn p d) V') : wX0_choiceOf (nI p) 0 d V Q := by
  have hn := h0.1.1
  have hdn := h0.1.2.1
  refine ⟨by decide, by omega, ?_⟩
  suffices H : ∀ r k, k + r = n → ∀ V', evV V V' → wX0_choiceOf_8 Q (r + 1) (nI p) 0 d (mS X n tn p d k) (gS X n d k) (nI k) V' from ⟨n + 1, H n 0 (by omega) V evV.rf⟩
  intro r
  induction r with
  | zero =>
    intro k e V' hV
    have e2 : k = n := by omega
    subst e2
    have h1 := h0.ev0 hV
    obtain ⟨ad, kn, g1, g2, g3, g4⟩ := h1.2.2.2.2.2.2.1 p hp
    unfold wX0_choiceOf_8
    rw [h1.n0.1]
    refine brY (nI_le (Nat.le_refl _) (by omega)) ⟨vp_in_nI (by omega) (by omega), vp_in_nI (by omega) (by omega), ?_⟩
    rw [nI_clamp (by omega), (h1.2.2.2.2.2.2.2.1 p hp).2.1, (h1.2.2.2.2.2.2.2.2.2.1 d hd).2.2.1]
    refine ⟨ad, g3, ch0K g1 g4 (subn_up (tS_is X k tn p d k hn).1 hn) ?_⟩
    have := hQ V' hV
    unfold chX at this
    rw [g2] at this
    exact this
  | succ r ih =>
    intro k e V' hV
    have h1 := h0.ev0 hV
    unfold wX0_choiceOf_8
    rw [h1.n0.1]
    refine brN (nI_ge (by omega) (by omega)) (may0 h1 (hf.ev hV) hd (by omega) (fun V2 hV2 => ?_))
    have hV3 := hV.tr hV2
    have h2 := h0.ev0 hV3
    have := ih (k + 1) (by omega) V2 hV3
    unfold mS gS at this
    have key : ∀ k0, k0 = (if mayX X n tn p d k = 0 then 0 else one k) → wX0_choiceOf_40 (fun z0 z1 z2 z3 z4 z5 z6 => wX0_choiceOf_8 Q (r + 1) z0 z1 z2 z3 z4 z5 z6) (nI p) 0 d (gS X n d k) (nI k) k0 (mS X n tn p d k) V2 Q := by
      intro k0 hk0
      rw [← hk0] at this
      refine gb0 (hf.ev hV3) hn (by omega) ?_
      rw [(h2.2.2.2.2.2.2.2.2.2.1 d hd).1]
      unfold wX0_choiceOf_66
      rw [nI_1]
      refine brI (fun w => ?_) (fun w => ?_)
      · rw [if_pos w] at this; exact this
      · rw [if_neg w] at this; exact this
    exact brI (fun z => key 0 (by rw [if_pos z])) (fun z => key _ (by rw [if_neg z]; rfl))
theorem oI_or (o : Option Nat) : (oI o = -1) ∨ ∃ k, o = some k ∧ oI o = nI k := by
  cases o with
  | none => exact Or.inl rfl
  | some k => exact Or.inr ⟨k, rfl, rfl⟩
theorem lsN_lt {m : Nat} : ∀ k j, k ≤ 12 → lsN m k = some j → j < 12 := by
  intro k
  induction k with
  | zero => intro j _ h; cases h
  | succ k ih =>
    intro j hk h
    unfold lsN at h
    by_cases hb : m.testBit (11 - k) = true
    · rw [if_pos hb] at h
      cases h
      omega
    · rw [if_neg hb] at h
      exact ih j (by omega) h
theorem ls_or (x : Int32) : ls x = -1 ∨ ∃ k, k < 12 ∧ ls x = nI k := by
  rcases oI_or (lsN (nu x) 12) with h | ⟨k, h1, h2⟩
  · exact Or.inl h
  · exact Or.inr ⟨k, lsN_lt 12 k (by omega) h1, h2⟩
theorem gr_or (x : Int32) : gr x = -1 ∨ ∃ k, k < 12 ∧ gr x = nI k := by
  rcases oI_or (grN (nu x) 12) with h | ⟨k, h1, h2⟩
  · exact Or.inl h
  · exact Or.inr ⟨k, (grN_lt 12 k h1).1, h2⟩
theorem chK_or (kind M G f w b : Int32) : chK kind M G f w b = -1 ∨ ∃ k, k < 12 ∧ chK kind M G f w b = nI k := by
  unfold chK
  repeat' split
  all_goals first | exact ls_or _ | exact gr_or _ | exact Or.inl rfl
def orN (r : Int32) : Int32 := if r = -1 then -1000000005 else r
theorem orN0 {r : Int32} {Q : Int32 → Prop} (hq : Q (orN r)) : wX0_orNone r Q := by
  unfold orN at hq
  exact bcq hq id id
theorem orN6 {r : Int32} (h : r = -1 ∨ ∃ k, k < 12 ∧ r = nI k) {Q : Int32 → Prop} (hq : Q (orN r)) : wX6_orNone r Q := by
  unfold orN at hq
  rcases h with rfl | ⟨k, hk, rfl⟩
  · exact brN (by decide) hq
  · rw [if_neg (nI_m1 (by omega))] at hq
    exact brY (nn0 (by omega)) hq
theorem op_choice {V : CV} {T : TS} (hr : Rel V T) (a c : Int32) : wX0_choice a c V (fun r V1 => wX6_choice a c T (fun r2 T2 => r = r2 ∧ Rel V1 T2)) := by
  obtain ⟨n, dn, tn, h0⟩ := hr.1
  have hn := h0.1.1
  have hdn := h0.1.2.1
  unfold wX0_choice wX6_choice
  by_cases ha : ∃ p, p < n ∧ a = nI p
  · obtain ⟨p, hp, rfl⟩ := ha
    refine per_y0 h0.n0.1 hn hp (br1 ?_)
    by_cases hc : ∃ p, p < dn ∧ c = nI p
    · obtain ⟨d, hd, rfl⟩ := hc
      refine dee_y0 h0.d0.1 hdn hd (br1 (ff0 h0 (fun V1 hV1 hf => ⟨vp_in_nI (by omega) (by omega), ?_⟩)))
      rw [nI_clamp (by omega)]
      refine ch0 (h0.same hV1) hf hp hd (fun V2 hV2 => orN0 ?_)
      refine per_y6 h0.n0.2 hn hp (br1 (dee_y6 h0.d0.2 hdn hd (br1 (ch6 h0 hp hd (fun T' hT => orN6 (chK_or _ _ _ _ _ _) ⟨rfl, hr.same (hV1.tr hV2.same) hT.same⟩)))))
    · exact dee_n0 h0.d0.1 hdn hc (br0 (per_y6 h0.n0.2 hn hp (br1 (dee_n6 h0.d0.2 hdn hc (br0 ⟨rfl, hr⟩)))))
  · exact per_n0 h0.n0.1 hn ha (br0 (per_n6 h0.n0.2 hn ha (br0 ⟨rfl, hr⟩)))
