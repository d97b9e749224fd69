set_option maxRecDepth 100000
/-! ROUNDS: what a round makes of the row X -/
theorem isCl_congr {F F' : Nat → Int32} {n p : Nat} (h : ∀ i, i < n → F i = F' i) (hp : p < n) {y : Int32} (hc : isCl F n p y) : isCl F' n p y := by
  obtain ⟨h1, h2, h3, h4⟩ := hc
  refine ⟨by rw [← h p hp]; exact h1, fun q hq hb => by rw [← h q hq]; exact h2 q hq hb, h3, fun z hz1 hz2 => h4 z (by rw [h p hp]; exact hz1) (fun q hq hb => by rw [h q hq]; exact hz2 q hq hb)⟩
theorem clo_congr {F F' : Nat → Int32} {n p : Nat} (h : ∀ i, i < n → F i = F' i) (hp : p < n) : clo F n p = clo F' n p := by
  by_cases hx : ∃ y, isCl F n p y
  · obtain ⟨y, hy⟩ := hx
    rw [clo_is hy, clo_is (isCl_congr h hp hy)]
  · have hx' : ¬ ∃ y, isCl F' n p y := fun ⟨y, hy⟩ => hx ⟨y, isCl_congr (fun i hi => (h i hi).symm) hp hy⟩
    unfold clo
    rw [dif_neg hx, dif_neg hx']
theorem FF.X {V V' : CV} {X X' : Nat → Int32} {n : Nat} (h : FF V X n) (ha : vA V' 16 = vA V 16) (hX : ∀ i, i < n → X' (6 + 5 * i + 4) = X (6 + 5 * i + 4)) : FF V' X' n := fun p hp => by
  rw [ha, h p hp]
  exact clo_congr (fun i hi => (hX i hi).symm) hp
def drX (X : Nat → Int32) : Nat → Int32 := upd X 4 (X 4 * 1103515245 + 12345)
def drV (X : Nat → Int32) : Int32 := ((X 4 * 1103515245 + 12345).toUInt32 >>> ((8 : Int32).toUInt32 &&& Int32.toUInt32 31)).toInt32
def sayV (V : CV) (d : Nat) (r k0 : Int32) : CV := sD (sD (sD V 0 d 5 (vD V 0 d 5 + k0)) 0 d 3 ((vD V 0 d 3) &&& cmpl r)) 0 d 4 (vD V 0 d 4 + 1)
theorem RS_say {V : CV} {X : Nat → Int32} {n dn tn d : Nat} {r : Int32} (h0 : RS V 0 X n dn tn) (hd : d < dn) (hs : subn n r) : RS (sayV V d r (if r &&& X (66 + 6 * d) = 0 then 0 else 1)) 0 (sayX X d r) n dn tn := by
  have hdn := h0.1.2.1
  obtain ⟨d0, d1, d2, d3, d4, d5⟩ := h0.2.2.2.2.2.2.2.2.2.1 d hd
  unfold sayV
  refine RS_dee h0 hdn (fun j h1 h2 => sayX_o (by omega)) ?_ h0.d0.1 (fun _ _ => rfl) rfl rfl rfl rfl (fun d' hd' => ?_) (fun d' hd' => ?_)
  · rw [sayX_o (by omega)]; exact h0.d0.2
  · by_cases e : d' = d
    · subst e
      rw [sayX_o (by omega), sayX_o (by omega), sayX_o (by omega), sayX_3, sayX_4, sayX_5, ← lf_say]
      have : vD V 0 d' 3 = lf X n d' := d3
      refine ⟨by simpa [cvs] using d0, by simpa [cvs] using d1, by simpa [cvs] using d2, ?_, ?_, ?_⟩
      · rw [← this]
        simp [cvs]
      · rw [← d4]
        simp [cvs]
      · rw [← d5]
        simp [cvs]
    · have := h0.2.2.2.2.2.2.2.2.2.1 d' hd'
      rw [sayX_o (by omega), sayX_o (by omega), sayX_o (by omega), sayX_o (by omega), sayX_o (by omega), sayX_o (by omega)]
      simpa [cvs, e] using this
  · obtain ⟨f1, f2, f3⟩ := h0.2.2.2.2.2.2.2.2.2.2.1 d' hd'
    rw [sayX_o (j := 66 + 6 * d') (by omega), sayX_o (j := 66 + 6 * d' + 1) (by omega)]
    refine ⟨f1, f2, ?_⟩
    by_cases e : d' = d
    · subst e
      rw [sayX_3]
      exact subn_or f3 hs
    · rw [sayX_o (by omega)]
      exact f3
/-- whom a choice names is one of the people -/
theorem lsN_bit {m : Nat} : ∀ k j, lsN m k = some j → m.testBit j = true := by
  intro k
  induction k with
  | zero => intro j h; cases h
  | succ k ih =>
    intro j h
    unfold lsN at h
    by_cases hb : m.testBit (11 - k) = true
    · rw [if_pos hb] at h
      cases h
      exact hb
    · rw [if_neg hb] at h
      exact ih j h
theorem in_of_bit {n q : Nat} {x : Int32} (h : subn n x) (hb : bt x q = true) : q < n := by
  rcases Nat.lt_or_ge q n with h1 | h1
  · exact h1
  · rw [h q h1] at hb; cases hb
theorem ls_in {n q : Nat} {x : Int32} (h : subn n x) (hq : q < 12) (e : ls x = nI q) : q < n := by
  unfold ls at e
  rcases oI_or (lsN (nu x) 12) with h1 | ⟨k, h1, h2⟩
  · rw [h1] at e; exact absurd e.symm (nI_m1 (by omega))
  · have hk := lsN_lt 12 k (by omega) h1
    rw [h2, nI_eq (by omega) (by omega)] at e
    subst e
    exact in_of_bit h (lsN_bit 12 k h1)
theorem gr_in {n q : Nat} {x : Int32} (h : subn n x) (hq : q < 12) (e : gr x = nI q) : q < n := by
  unfold gr at e
  rcases oI_or (grN (nu x) 12) with h1 | ⟨k, h1, h2⟩
  · rw [h1] at e; exact absurd e.symm (nI_m1 (by omega))
  · have hk := grN_lt 12 k h1
    rw [h2, nI_eq (by omega) (by omega)] at e
    subst e
    exact in_of_bit h hk.2
theorem fr_s {n : Nat} {x y : Int32} (h : subn n x) : subn n (fr x y) := by
  unfold fr
  split
  · exact h
  · exact subn_and h
theorem chX_lt {X : Nat → Int32} {n tn p d q : Nat} (hn : n ≤ 12) (e : chX X n tn p d = nI q) (hq : q < 12 := by omega) : q < n := by
  have hM := (tS_is X n tn p d n hn).1
  unfold chX chK at e
  split at e
  · exact ls_in (subn_and hM) hq e
  split at e
  · exact ls_in (fr_s hM) hq e
  split at e
  · exact gr_in (subn_and hM) hq e
  split at e
  · split at e
    · exact ls_in (fr_s hM) hq e
    · exact absurd e.symm (nI_m1 (by omega))
  split at e
  · exact ls_in (fr_s hM) hq e
  · exact ls_in hM hq e
/-- one person's turn in a round -/
noncomputable def turnX (X : Nat → Int32) (n tn d p : Nat) : (Nat → Int32) × Int32 :=
  if boldX (drX X) n tn p d ≤ drV X - drV X / 100 * 100 then (drX X, 0)
  else if chX (drX X) n tn p d = -1 then (drX X, 0) else (sayX (drX X) d (gb (drX X) n (chX (drX X) n tn p d).toNatClampNeg), 1)
noncomputable def rdX (X : Nat → Int32) (n tn d : Nat) : Nat → (Nat → Int32) × Int32
  | 0 => (X, 0)
  | p + 1 => ((turnX (rdX X n tn d p).1 n tn d p).1, (rdX X n tn d p).2 + (turnX (rdX X n tn d p).1 n tn d p).2)
/-- the twin behind some rounds: the row is X', the rest as before -/
def atT (T T' : TS) (X' : Nat → Int32) : Prop := T'.1 = T.1 ∧ T'.2 0 = X' ∧ ∀ k, k ≠ 0 → k ≠ 25 → k ≠ 26 → T'.2 k = T.2 k
theorem atT.ev {T T' T'' : TS} {X : Nat → Int32} (h : atT T T' X) (e : evT T' T'') : atT T T'' X := ⟨e.1.trans h.1, (e.2 0 (by decide) (by decide)).trans h.2.1, fun k h0 h1 h2 => (e.2 k h1 h2).trans (h.2.2 k h0 h1 h2)⟩
theorem atT.rest {T T' : TS} {X : Nat → Int32} (h : atT T T' X) : restT T T' := ⟨by rw [h.1], by rw [h.1], by rw [h.1], fun k hk => h.2.2 k (by omega) (by omega) (by omega)⟩
/-- the component behind some rounds -/
def atV (V V' : CV) (X' : Nat → Int32) (n dn tn : Nat) : Prop := RS V' 0 X' n dn tn ∧ FF V' X' n ∧ restV V V' ∧ vM V' = vM V ∧ vSp V' 0 = vSp V 0 ∧ vTx V' 0 = vTx V 0
theorem atV.ev {V V' V'' : CV} {X : Nat → Int32} {n dn tn : Nat} (h : atV V V' X n dn tn) (e : evV V' V'') : atV V V'' X n dn tn := by
  obtain ⟨h1, h2, h3, h4, h5, h6⟩ := h
  refine ⟨h1.ev0 e, h2.ev e, h3.tr e.same.rest, ?_, ?_, ?_⟩
  · obtain ⟨A, -, rfl⟩ := e; exact h4
  · obtain ⟨A, -, rfl⟩ := e; exact h5
  · obtain ⟨A, -, rfl⟩ := e; exact h6
theorem dr_ne (X : Nat → Int32) {j : Nat} (h : j ≠ 4) : drX X j = X j := upd_n h
theorem turn6 {V : CV} {T T' : TS} {X : Nat → Int32} {n dn tn d p : Nat} (h0 : RS V 0 X n dn tn) (hat : atT T T' X) (hp : p < n) (hd : d < dn) {k4 : Int32 → Int32 → Int32 → TS → Prop} {Q : Int32 → TS → Prop} {l2 : Int32} (hk : ∀ T2, atT T T2 (turnX X n tn d p).1 → k4 (nI d) (l2 + (turnX X n tn d p).2) (nI p + 1) T2) :
    wX6_drawn T' (fun r1 T2 => wX6_boldness (nI p) (nI d) T2 (fun r3 T4 => (r3 ≤ (r1 - r1 / (100 : Int32) * (100 : Int32)) → wX6_rounded_44 k4 (nI d) l2 (nI p) (-1 : Int32) T4 Q) ∧ (¬ r3 ≤ (r1 - r1 / (100 : Int32) * (100 : Int32)) → wX6_choiceOf (nI p) (nI d) T4 (fun r5 T6 => wX6_rounded_44 k4 (nI d) l2 (nI p) r5 T6 Q)))) := by
  have hn := h0.1.1
  have h1 : RS (sS V 0 0 (X 4 * 1103515245 + 12345)) 0 (drX X) n dn tn := RS_seed h0 _
  have hd1 : (drawT T').2 0 = drX X := by
    unfold drawT drawX
    rw [ts_s, hat.2.1]
    rfl
  have hat1 : atT T (drawT T') (drX X) := ⟨hat.1, hd1, fun k h0 h1 h2 => (ts_n h0).trans (hat.2.2 k h0 h1 h2)⟩
  refine draw6 ?_
  have er : drawR T' = drV X := by
    unfold drawR drawX
    rw [hat.2.1]
    rfl
  rw [er]
  have h1' : RS (sS V 0 0 (X 4 * 1103515245 + 12345)) 0 ((drawT T').2 0) n dn tn := by rw [hd1]; exact h1
  refine bold6 h1' hp hd (fun T4 hT4 => ?_)
  rw [hd1]
  have hat4 := hat1.ev hT4
  unfold turnX at hk
  refine brI (fun z => ?_) (fun z => ?_)
  · rw [if_pos z] at hk
    refine brY (by decide) ?_
    have := hk T4 hat4
    rw [Int32.add_zero] at this
    exact this
  · rw [if_neg z] at hk
    have h4 : RS (sS V 0 0 (X 4 * 1103515245 + 12345)) 0 (T4.2 0) n dn tn := by rw [hat4.2.1]; exact h1
    refine ch6 h4 hp hd (fun T6 hT6 => ?_)
    have hat6 := hat4.ev hT6
    rw [hat4.2.1]
    rcases chK_or _ _ _ _ _ _ with e | ⟨q, hq12, e⟩
    · have e' : chX (drX X) n tn p d = -1 := e
      rw [e', if_pos rfl] at hk
      rw [e']
      refine brY (by decide) ?_
      have := hk T6 hat6
      rw [Int32.add_zero] at this
      exact this
    · have e' : chX (drX X) n tn p d = nI q := e
      rw [e', if_neg (nI_m1 (by omega)), nI_clamp (by omega)] at hk
      rw [e']
      have hqn : q < n := chX_lt hn e'
      have h6 : RS (sS V 0 0 (X 4 * 1103515245 + 12345)) 0 (T6.2 0) n dn tn := by rw [hat6.2.1]; exact h1
      refine brN (nI_pos (by omega)) (says6 h6 hd hqn ?_)
      rw [hat6.2.1]
      exact hk _ ⟨hat6.1, by rw [sayT_0, hat6.2.1], fun k h0 h1 h2 => (sayT_o h0).trans (hat6.2.2 k h0 h1 h2)⟩
