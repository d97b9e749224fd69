set_option maxRecDepth 100000
/-! ===== a State becomes as another one ===== -/
def Wsp (V : CV) : Prop := (∀ i p a, i < 3 → p < 12 → vSp V i p = some a → ∃ kn b, kn ≤ 5 ∧ vM V a = some (eSp (7 + kn) b)) ∧ (∀ i p i' p' a, i < 3 → p < 12 → i' < 3 → p' < 12 → vSp V i p = some a → vSp V i' p' = some a → i = i' ∧ p = p')
def sti (V V' : CV) (j : Nat) : Prop := vS V' j = vS V j ∧ vSA V' j = vSA V j ∧ vSp V' j = vSp V j ∧ vTx V' j = vTx V j ∧ vD V' j = vD V j
def c1V (V V' : CV) : Prop := vI V' = vI V ∧ vA V' = vA V ∧ vSh V' = vSh V ∧ vHe V' = vHe V ∧ vFl V' = vFl V
def chg (V V' : CV) (i : Nat) : Prop := c1V V V' ∧ (∀ j, j ≠ i → sti V V' j) ∧
  (∀ a e, vM V a = some e → vM V' a = some e ∨ (∃ p, p < 12 ∧ vSp V i p = some a ∧ ∃ e', vM V' a = some e' ∧ spE e')) ∧
  (∀ p, p < 12 → ∀ a, vSp V' i p = some a → vSp V i p = some a ∨ (vM V a = none ∧ ∃ e, vM V' a = some e ∧ spE e)) ∧
  (∀ p p' a, p < 12 → p' < 12 → vM V a = none → vSp V' i p = some a → vSp V' i p' = some a → p = p')
theorem sti.rf {V : CV} {j : Nat} : sti V V j := ⟨rfl, rfl, rfl, rfl, rfl⟩
theorem sti.tr {V V' V'' : CV} {j : Nat} (h : sti V V' j) (g : sti V' V'' j) : sti V V'' j := ⟨g.1.trans h.1, g.2.1.trans h.2.1, g.2.2.1.trans h.2.2.1, g.2.2.2.1.trans h.2.2.2.1, g.2.2.2.2.trans h.2.2.2.2⟩
theorem c1V.tr {V V' V'' : CV} (h : c1V V V') (g : c1V V' V'') : c1V V V'' := ⟨g.1.trans h.1, g.2.1.trans h.2.1, g.2.2.1.trans h.2.2.1, g.2.2.2.1.trans h.2.2.2.1, g.2.2.2.2.trans h.2.2.2.2⟩
theorem chg.tr {V V' V'' : CV} {i : Nat} (h : chg V V' i) (g : chg V' V'' i) : chg V V'' i := by
  obtain ⟨h1, h2, h3, h4, h5⟩ := h
  obtain ⟨g1, g2, g3, g4, g5⟩ := g
  have hnn : ∀ a, vM V' a = none → vM V a = none := fun a ha => by
    cases e : vM V a with
    | none => rfl
    | some x =>
      rcases h3 a x e with q | ⟨p, -, -, e', q, -⟩
      · rw [ha] at q; cases q
      · rw [ha] at q; cases q
  refine ⟨h1.tr g1, fun j hj => (h2 j hj).tr (g2 j hj), fun a e ha => ?_, fun p hp a ha => ?_, fun p p' a hp hp' hn ha ha' => ?_⟩
  · rcases h3 a e ha with q | ⟨p, hp, hs, e', q, hq⟩
    · rcases g3 a e q with r | ⟨p, hp, hs, e', r, hr⟩
      · exact Or.inl r
      · rcases h4 p hp a hs with s | ⟨s, -⟩
        · exact Or.inr ⟨p, hp, s, e', r, hr⟩
        · rw [s] at ha; cases ha
    · rcases g3 a e' q with r | ⟨p', hp', hs', e'', r, hr⟩
      · exact Or.inr ⟨p, hp, hs, e', r, hq⟩
      · exact Or.inr ⟨p, hp, hs, e'', r, hr⟩
  · rcases g4 p hp a ha with q | ⟨q, e, r, hr⟩
    · rcases h4 p hp a q with s | ⟨s, e, r, hr⟩
      · exact Or.inl s
      · refine Or.inr ⟨s, ?_⟩
        rcases g3 a e r with t | ⟨p', -, -, e', t, ht⟩
        · exact ⟨e, t, hr⟩
        · exact ⟨e', t, ht⟩
    · exact Or.inr ⟨hnn a q, e, r, hr⟩
  · rcases g4 p hp a ha with q | ⟨q, -⟩ <;> rcases g4 p' hp' a ha' with q' | ⟨q', -⟩
    · exact h5 p p' a hp hp' hn q q'
    · exact g5 p p' a hp hp' q' ha ha'
    · exact g5 p p' a hp hp' q ha ha'
    · exact g5 p p' a hp hp' q ha ha'
theorem Wsp.chg {V V' : CV} {i : Nat} (hw : Wsp V) (hi : i < 3) (h : chg V V' i) : Wsp V' := by
  obtain ⟨w1, w2⟩ := hw
  obtain ⟨-, h2, h3, h4, h5⟩ := h
  have hsome : ∀ i p a, i < 3 → p < 12 → vSp V i p = some a → vM V a ≠ none := fun i p a hi hp h q => by
    obtain ⟨kn, b, -, h2⟩ := w1 i p a hi hp h
    rw [q] at h2
    cases h2
  have hspE : ∀ i p a, i < 3 → p < 12 → vSp V i p = some a → ∃ kn b, kn ≤ 5 ∧ vM V' a = some (eSp (7 + kn) b) := fun i p a hi hp h => by
    obtain ⟨kn, b, g1, g2⟩ := w1 i p a hi hp h
    rcases h3 a _ g2 with h1 | ⟨p', hp', h1, e', h2, kn', b', h3, h4⟩
    · exact ⟨kn, b, g1, h1⟩
    · exact ⟨kn', b', h3, by rw [h2, h4]⟩
  refine ⟨fun j p a hj hp h => ?_, fun j p j' p' a hj hp hj' hp' h h' => ?_⟩
  · by_cases e : j = i
    · subst e
      rcases h4 p hp a h with h1 | ⟨h1, e, h2, kn, b, h3, h4⟩
      · exact hspE j p a hj hp h1
      · exact ⟨kn, b, h3, by rw [h2, h4]⟩
    · rw [(h2 j e).2.2.1] at h
      exact hspE j p a hj hp h
  · by_cases e : j = i <;> by_cases e' : j' = i
    · subst e
      subst e'
      rcases h4 p hp a h with h1 | ⟨h1, -⟩ <;> rcases h4 p' hp' a h' with h2 | ⟨h2, -⟩
      · exact w2 _ p _ p' a hj hp hj' hp' h1 h2
      · exact absurd h2 (hsome _ p a hj hp h1)
      · exact absurd h1 (hsome _ p' a hj hp' h2)
      · exact ⟨rfl, h5 p p' a hp hp' h1 h h'⟩
    · subst e
      rw [(h2 j' e').2.2.1] at h'
      rcases h4 p hp a h with h1 | ⟨h1, -⟩
      · exact w2 _ p j' p' a hj hp hj' hp' h1 h'
      · exact absurd h1 (hsome j' p' a hj' hp' h')
    · subst e'
      rw [(h2 j e).2.2.1] at h
      rcases h4 p' hp' a h' with h1 | ⟨h1, -⟩
      · exact w2 j p _ p' a hj hp hj' hp' h h1
      · exact absurd h1 (hsome j p a hj hp h)
    · rw [(h2 j e).2.2.1] at h
      rw [(h2 j' e').2.2.1] at h'
      exact w2 j p j' p' a hj hp hj' hp' h h'
theorem chg.ns {V V' : CV} {i : Nat} (hw : Wsp V) (hi : i < 3) (h : chg V V' i) : ∀ a e, vM V a = some e → ¬ spE e → vM V' a = some e := fun a e ha hn => by
  rcases h.2.2.1 a e ha with h1 | ⟨p, hp, h1, -⟩
  · exact h1
  · obtain ⟨kn, b, hk, h2⟩ := hw.1 i p a hi hp h1
    exact absurd ⟨kn, b, hk, Option.some.inj (ha.symm.trans h2)⟩ hn
theorem RS.chg {V V' : CV} {i j : Nat} {X : Nat → Int32} {n dn tn : Nat} (h : RS V j X n dn tn) (hw : Wsp V) (hi : i < 3) (hj : j < 3) (hne : j ≠ i) (hc : chg V V' i) : RS V' j X n dn tn := by
  refine h.keep (hc.2.1 j hne) (hc.ns hw hi) (fun p a hp hpa => ?_)
  obtain ⟨kn, b, g1, g2⟩ := hw.1 j p a hj (by have := h.1.1; omega) hpa
  rcases hc.2.2.1 a _ g2 with h1 | ⟨p', hp', h1, -⟩
  · rw [h1, g2]
  · exact absurd (hw.2 j p i p' a hj (by have := h.1.1; omega) hi hp' hpa h1).1 hne
/-- all but the two States -/
def Cor (V : CV) (T : TS) : Prop := RT V T ∧ RW V T ∧ (∀ k, k < 4 → ShR V T k) ∧ (∀ q, q < 5 → SlR V T q) ∧ WF V
theorem Cor.chg {V V' : CV} {T T' : TS} {i : Nat} (hr : Cor V T) (hi : i < 3) (hc : chg V V' i) (htx : ∀ t a, t < 14 → vTx V' i t = some a → ∃ x y z, vM V' a = some (eTx x y z)) (ht : T'.1 14 = T.1 14 ∧ T'.1 29 = T.1 29 ∧ ∀ k, (k = 4 ∨ k = 5 ∨ k = 6 ∨ k = 7 ∨ k = 8 ∨ k = 9 ∨ k = 10 ∨ k = 11 ∨ k = 13 ∨ k = 28) → T'.2 k = T.2 k) : Cor V' T' := by
  obtain ⟨r4, r5, r6, r7, r8⟩ := hr
  have hw : Wsp V := ⟨r8.1, r8.2.1⟩
  have hk := hc.ns hw hi
  obtain ⟨⟨v1, v2, v6, v7, v8⟩, v9, h3, hsp, -⟩ := id hc
  obtain ⟨t2, t3, t4⟩ := ht
  have hsh : ∀ k a r, k < 4 → vSh V k = some a → vM V' a = some (eSh (some r)) → vM V a = some (eSh (some r)) := fun k a r hk4 h1 h2 => by
    obtain ⟨a', r', g1, g2, -⟩ := r6 k hk4
    cases h1.symm.trans g1
    rw [← h2, hk _ _ g2 ns_sh]
    exact g2
  refine ⟨?_, ?_, ?_, ?_, ?_⟩
  · unfold RT at r4 ⊢
    rw [v1, v2, t2, t4 13 (by simp)]
    exact r4
  · unfold RW at r5 ⊢
    rw [v1, v2, t3, t4 28 (by simp)]
    exact r5
  · intro k hk4
    obtain ⟨a, r, g1, g2, g3⟩ := r6 k hk4
    refine ⟨a, r, by rw [v6]; exact g1, hk _ _ g2 ns_sh, ?_⟩
    rw [t4 4 (by simp), t4 5 (by simp), t4 6 (by simp)]
    rcases g3 with g3 | ⟨row, n, g3, g4, g5⟩
    · exact Or.inl g3
    · exact Or.inr ⟨row, n, g3, g4, g5.keep hk⟩
  · intro q hq
    have := r7 q hq
    unfold SlR at this ⊢
    rw [v7, t4 7 (by simp), t4 8 (by simp), t4 9 (by simp), t4 10 (by simp), t4 11 (by simp)]
    rcases this with h | ⟨a, ha, h | h | h⟩
    · exact Or.inl h
    · obtain ⟨g1, kn, b, g2, g3, g4, g5, g6⟩ := h
      refine Or.inr ⟨a, ha, Or.inl ⟨g1, kn, b, g2, ?_, g4, g5, fun j p hj hp => ?_⟩⟩
      · rcases h3 a _ g3 with h1 | ⟨p', hp', h1, -⟩
        · exact h1
        · exact absurd h1 (g6 i p' hi hp')
      · by_cases e : j = i
        · subst e
          intro hs
          rcases hsp p hp a hs with h1 | ⟨h1, -⟩
          · exact g6 j p hj hp h1
          · rw [h1] at g3; cases g3
        · rw [(v9 j e).2.2.1]
          exact g6 j p hj hp
    · obtain ⟨g1, row, n, so, g2, g3, g4, g5, g6⟩ := h
      refine Or.inr ⟨a, ha, Or.inr (Or.inl ⟨g1, row, n, so, hk _ _ g2 ns_sh, g3, g4.keep hk, by rw [v6]; exact g5, fun k b hk4 hb hq => ?_⟩)⟩
      rw [v6] at hb
      exact g6 k b hk4 hb (hsh k b row hk4 hb hq)
    · exact Or.inr ⟨a, ha, Or.inr (Or.inr ⟨h.1, hk _ _ h.2 ns_fg⟩)⟩
  · have hw' := hw.chg hi hc
    obtain ⟨-, -, w3, w4, w5, w6⟩ := r8
    refine ⟨hw'.1, hw'.2, by rw [v6]; exact w3, fun k k' a a' row hk hk' h1 h2 h3 h4 => ?_, fun j t a hj ht h => ?_, by rw [v8]; exact w6⟩
    · rw [v6] at h1 h2
      exact w4 k k' a a' row hk hk' h1 h2 (hsh k a row hk h1 h3) (hsh k' a' row hk' h2 h4)
    · by_cases e : j = i
      · subst e
        exact htx t a ht h
      · rw [(v9 j e).2.2.2.1] at h
        obtain ⟨x, y, z, g⟩ := w5 j t a hj ht h
        exact ⟨x, y, z, hk _ _ g ns_tx⟩
/-- plain changes -/
theorem chg_pl {V V' : CV} {i : Nat} (hw : Wsp V) (hi : i < 3) (h1 : c1V V V') (h2 : ∀ j, j ≠ i → sti V V' j) (hm : vM V' = vM V) (hs : vSp V' i = vSp V i) : chg V V' i := by
  refine ⟨h1, h2, fun a e h => Or.inl (by rw [hm]; exact h), fun p hp a h => Or.inl (by rw [← hs]; exact h), fun p p' a hp hp' hn h h' => ?_⟩
  rw [hs] at h
  obtain ⟨kn, b, -, q⟩ := hw.1 i p a hi hp h
  rw [hn] at q
  cases q
/-- a speaker's boldness -/
theorem chg_bo {V : CV} {i p a kn : Nat} {b b' : Int32} (hw : Wsp V) (hi : i < 3) (hp : p < 12) (hs : vSp V i p = some a) (hk : kn ≤ 5) (hm : vM V a = some (eSp (7 + kn) b)) : chg V (sM V (hset (vM V) a (eSp (7 + kn) b'))) i := by
  refine ⟨⟨rfl, rfl, rfl, rfl, rfl⟩, fun j _ => sti.rf, fun x e h => ?_, fun p hp a h => Or.inl h, fun p p' a hp hp' hn h h' => ?_⟩
  · by_cases e2 : x = a
    · subst e2
      exact Or.inr ⟨p, hp, hs, _, hset_s _ _ _, kn, b', hk, rfl⟩
    · exact Or.inl ((hset_n e2).trans h)
  · obtain ⟨kn, b, -, q⟩ := hw.1 i p a hi hp h
    rw [hn] at q
    cases q
/-- another speaker -/
theorem chg_nw {V V' : CV} {i p a kn : Nat} {b : Int32} (hw : Wsp V) (hi : i < 3) (hp : p < 12) (ha : vM V a = none) (hk : kn ≤ 5) (hV : V' = sM (sSp V i p (some a)) (hset (vM V) a (eSp (7 + kn) b))) : chg V V' i := by
  subst hV
  have es : ∀ p', vSp (sM (sSp V i p (some a)) (hset (vM V) a (eSp (7 + kn) b))) i p' = if p' = p then some a else vSp V i p' := fun p' => by simp [cvs]
  refine ⟨⟨rfl, rfl, rfl, rfl, rfl⟩, fun j hj => ⟨rfl, rfl, ?_, rfl, rfl⟩, fun x e h => Or.inl ((hset_n (no_ne h ha)).trans h), fun p' hp' x h => ?_, fun p1 p2 x h1 h2 hn h h' => ?_⟩
  · funext x
    simp [cvs, hj]
  · rw [es] at h
    by_cases e : p' = p
    · rw [if_pos e] at h
      cases h
      exact Or.inr ⟨ha, _, hset_s _ _ _, kn, b, hk, rfl⟩
    · rw [if_neg e] at h
      exact Or.inl h
  · have key : ∀ p', p' < 12 → vSp (sM (sSp V i p (some a)) (hset (vM V) a (eSp (7 + kn) b))) i p' = some x → p' = p := fun p' hp' h => by
      rw [es] at h
      by_cases e : p' = p
      · exact e
      · rw [if_neg e] at h
        obtain ⟨kn', b', -, q⟩ := hw.1 i p' x hi hp' h
        rw [hn] at q
        cases q
    rw [key p1 h1 h, key p2 h2 h']
theorem spK_inj {k k' : Nat} (h : k ≤ 5) (h' : k' ≤ 5) (e : spKind (7 + k) = spKind (7 + k')) : k = k' := by
  rw [spK h, spK h'] at e
  exact (nI_eq (by omega) (by omega)).mp e
/-- one speaker becomes as another one -/
theorem take_sp {V : CV} {i p a kn : Nat} {b : Int32} {Q : CV → Prop} (hw : Wsp V) (hi : i < 3) (hp : p < 12) (hk : kn ≤ 5) (hm : vM V a = some (eSp (7 + kn) b)) (hna : vSp V i p ≠ some a) (hq : ∀ V', chg V V' i → vS V' = vS V → SpR V' i p (nI kn) b → (∀ p', p' ≠ p → p' < 12 → ∀ k c, SpR V i p' k c → SpR V' i p' k c) → Q V') : wX1_takesSpeaker i (nI p) a V Q := by
  have hv : vp_in (nI p) 12 := vp_in_nI hp (by omega)
  have hsp : isSpk (7 + kn) := ⟨by omega, by omega⟩
  have new : wX1_takesSpeaker_25 i (nI p) a V Q := by
    refine ⟨7 + kn, b, hsp, hm, fun q hqn => ⟨7 + kn, 0, hsp, hset_s _ _ _, hv, hv, 7 + kn, b, hsp, ?_, q, ?_, 7 + kn, 0, hsp, hset_s _ _ _, ?_⟩⟩
    · exact (hset_n (no_ne hm hqn)).trans hm
    · rw [nI_clamp (by omega)]
      simp [cvs]
    · rw [nI_clamp (by omega)]
      have eV : sM (sSp (sM V (hset (vM V) q (eSp (7 + kn) 0))) i p (some q)) (hset (vM (sSp (sM V (hset (vM V) q (eSp (7 + kn) 0))) i p (some q))) q (eSp (7 + kn) b)) = sM (sSp V i p (some q)) (hset (vM V) q (eSp (7 + kn) b)) := by
        show sM (sSp V i p (some q)) (hset (hset (vM V) q (eSp (7 + kn) 0)) q (eSp (7 + kn) b)) = _
        rw [hset_hset]
      rw [eV]
      refine hq _ (chg_nw hw hi hp hqn hk rfl) rfl ⟨q, kn, hk, rfl, by simp [cvs], hset_s _ _ _⟩ (fun p' hne hp' k c hs => ?_)
      obtain ⟨x, kx, s1, s2, s3, s4⟩ := hs
      exact ⟨x, kx, s1, s2, by simpa [cvs, hne] using s3, (hset_n (no_ne s4 hqn)).trans s4⟩
  refine ⟨hi, hv, ?_⟩
  rw [nI_clamp (by omega)]
  cases e : vSp V i p with
  | none => exact brY rfl new
  | some y =>
    refine brN (by simp) ⟨hv, y, rfl, ?_⟩
    obtain ⟨ky, by', g1, g2⟩ := hw.1 i p y hi hp e
    refine ⟨7 + ky, by', ⟨by omega, by omega⟩, g2, 7 + kn, b, hsp, hm, ?_⟩
    refine brI (fun q => ?_) (fun _ => new)
    have := spK_inj g1 hk q
    subst this
    refine ⟨hv, 7 + ky, b, hsp, hm, y, ?_, 7 + ky, by', hsp, g2, ?_⟩
    · rw [nI_clamp (by omega)]
      exact e
    · refine hq _ (chg_bo hw hi hp e g1 g2) rfl ⟨y, ky, g1, rfl, e, hset_s _ _ _⟩ (fun p' hne hp' k c hs => ?_)
      obtain ⟨x, kx, s1, s2, s3, s4⟩ := hs
      refine ⟨x, kx, s1, s2, s3, (hset_n (fun q2 => ?_)).trans s4⟩
      subst q2
      exact hne (hw.2 i p' i p x hi hp' hi hp s3 e).2
theorem d_copy {V : CV} {i s d : Nat} {Q : CV → Prop} (hi : i < 3) (hs : s < 3) (hd : d < 8) (hne : s ≠ i) (hq : ∀ V', c1V V V' → vM V' = vM V → vSp V' = vSp V → vS V' = vS V → vSA V' = vSA V → vTx V' = vTx V → (∀ j, j ≠ i → vD V' j = vD V j) → (∀ d', d' ≠ d → vD V' i d' = vD V i d') → (∀ j, j < 6 → vD V' i d j = vD V s d j) → Q V') : wX2_copyOf i d s d V Q := by
  refine ⟨hi, hd, hs, hd, ?_⟩
  refine hq _ ⟨rfl, rfl, rfl, rfl, rfl⟩ rfl rfl rfl rfl rfl (fun j hj => ?_) (fun d' hd' => ?_) (fun j hj => ?_)
  · funext x y
    simp [cvs, hj]
  · funext y
    simp [cvs, hd']
  · have : j = 0 ∨ j = 1 ∨ j = 2 ∨ j = 3 ∨ j = 4 ∨ j = 5 := by omega
    rcases this with rfl | rfl | rfl | rfl | rfl | rfl <;> simp [cvs, hne]
theorem RS.up {V : CV} {i : Nat} {X X' : Nat → Int32} {n dn tn : Nat} (h : RS V i X n dn tn) (hX : ∀ j, j < 2914 → X' j = X j) : RS V i X' n dn tn := by
  obtain ⟨h1, h2, h3, h4, h5, h6, h7, h8, h9, h10, h11, h12⟩ := h
  refine ⟨h1, ⟨h2.1, by rw [hX 0 (by omega)]; exact h2.2⟩, ⟨h3.1, by rw [hX 1 (by omega)]; exact h3.2⟩, ⟨h4.1, by rw [hX 2 (by omega)]; exact h4.2⟩, by rw [hX 3 (by omega)]; exact h5, by rw [hX 4 (by omega)]; exact h6, fun p hp => ?_, fun p hp => ?_, fun p hp => ?_, fun d hd => ?_, fun d hd => ?_, fun t ht => ?_⟩
  · rw [hX _ (by omega), hX _ (by omega)]
    exact h7 p hp
  · rw [hX _ (by omega), hX _ (by omega), hX _ (by omega)]
    exact h8 p hp
  · rw [hX _ (by omega), hX _ (by omega)]
    obtain ⟨g1, g2, g3⟩ := h9 p hp
    exact ⟨g1, g2, fun q hq => by rw [hX _ (by omega)]; exact g3 q hq⟩
  · rw [hX _ (by omega), hX _ (by omega), hX _ (by omega), hX _ (by omega), hX _ (by omega), hX _ (by omega)]
    exact h10 d hd
  · rw [hX _ (by omega), hX _ (by omega), hX _ (by omega)]
    exact h11 d hd
  · obtain ⟨a, kn, w, mn, wa, va, m, f, g, hh, g1, g2, g3, g4, g5, g6, g7, g8, g9, g10, g11, g12⟩ := h12 t ht
    refine ⟨a, kn, w, mn, wa, va, m, f, g, hh, g1, g2, g3, by rw [hX _ (by omega)]; exact g4, by rw [hX _ (by omega)]; exact g5, by rw [hX _ (by omega)]; exact g6, g7, g8, g9, g10, fun k hk => ?_, g12⟩
    rw [hX _ (by omega), hX _ (by omega)]
    exact g11 k hk
/-- State i becomes as State s -/
theorem copy0 {V : CV} {i s n dn tn : Nat} {X : Nat → Int32} {Q : CV → Prop} (hw : Wsp V) (hR : RS V s X n dn tn) (hT : ∀ t a, t < 14 → vTx V s t = some a → ∃ x y z, vM V a = some (eTx x y z)) (hi : i < 3) (hs : s < 3) (hne : s ≠ i) (hq : ∀ V', chg V V' i → RS V' i X n dn tn → (∀ t a, t < 14 → vTx V' i t = some a → ∃ x y z, vM V' a = some (eTx x y z)) → Q V') : wX1_copyOf i s V Q := by
  have hn := hR.1.1
  have hdn := hR.1.2.1
  refine ⟨hi, hs, ?_⟩
  -- the deeds and the texts
  have deeds : ∀ j d, d + j = dn → ∀ W, chg V W i → vS W i 0 = vS V s 0 → vS W i 1 = vS V s 1 → vS W i 2 = nI n → vS W i 7 = nI dn → (∀ p, p < n → SpR W i p (X (6 + 5 * p)) (X (6 + 5 * p + 1))) → (∀ p, p < n → vSA W i 4 p = vSA V s 4 p ∧ vSA W i 5 p = vSA V s 5 p ∧ vSA W i 6 p = vSA V s 6 p) → (∀ d', d' < d → ∀ j, j < 6 → vD W i d' j = vD V s d' j) → wX1_copyOf_94 Q (j + 1) i s (nI d) W := by
    intro j
    induction j with
    | zero =>
      intro d hd W c s0 s1 s2 s7 hS hA hD
      have : d = dn := by omega
      subst this
      have hwW := hw.chg hi c
      have hRW := hR.chg hw hi hs hne c
      have hns := c.ns hw hi
      unfold wX1_copyOf_94
      rw [s7]
      have esT : ∀ j, vTx (sS W i 9 (vS W s 9)) s j = vTx V s j := fun j => by
        show vTx W s j = _
        rw [(c.2.1 s hne).2.2.2.1]
      refine brY (nI_le (by omega) (by omega)) ⟨fun j hj y hy => ?_, ?_⟩
      · rw [esT] at hy
        obtain ⟨x, y', z, g⟩ := hT j y hj hy
        exact ⟨x, y', z, hns _ _ g ns_tx⟩
      · have eT : ∀ t, t < 14 → vTx (sTxA (sS W i 9 (vS W s 9)) i (fun j => if j < 14 then vTx (sS W i 9 (vS W s 9)) s j else vTx (sS W i 9 (vS W s 9)) i j)) i t = vTx V s t := fun t ht => by
          have : vTx (sTxA (sS W i 9 (vS W s 9)) i (fun j => if j < 14 then vTx (sS W i 9 (vS W s 9)) s j else vTx (sS W i 9 (vS W s 9)) i j)) i t = if t < 14 then vTx (sS W i 9 (vS W s 9)) s t else vTx (sS W i 9 (vS W s 9)) i t := by simp [cvs]
          rw [this, if_pos ht, esT]
        have c2 : chg W (sTxA (sS W i 9 (vS W s 9)) i (fun j => if j < 14 then vTx (sS W i 9 (vS W s 9)) s j else vTx (sS W i 9 (vS W s 9)) i j)) i := by
          refine chg_pl hwW hi ⟨rfl, rfl, rfl, rfl, rfl⟩ (fun j hj => ⟨?_, rfl, rfl, ?_, rfl⟩) rfl rfl
          · funext k
            simp [cvs, hj]
          · funext k
            simp [cvs, hj]
        refine hq _ (c.tr c2) ?_ (fun t a ht h => ?_)
        · obtain ⟨g1, g2, g3, g4, g5, g6, g7, g8, g9, g10, g11, g12⟩ := hRW
          obtain ⟨f1, f2, f3, f4, f5, f6, f7, f8, f9, f10, f11, f12⟩ := hR
          have eS : ∀ k, k ≠ 9 → vS (sTxA (sS W i 9 (vS W s 9)) i (fun j => if j < 14 then vTx (sS W i 9 (vS W s 9)) s j else vTx (sS W i 9 (vS W s 9)) i j)) i k = vS W i k := fun k hk => by simp [cvs, hk]
          refine ⟨g1, ⟨by rw [eS 2 (by decide)]; exact s2, g2.2⟩, ⟨by rw [eS 7 (by decide)]; exact s7, g3.2⟩, ⟨?_, g4.2⟩, by rw [eS 1 (by decide), s1]; exact f5, by rw [eS 0 (by decide), s0]; exact f6, fun p hp => hS p hp, fun p hp => ?_, g9, fun d' hd' => ?_, g11, fun t ht => ?_⟩
          · rw [← g4.1]
            simp [cvs]
          · obtain ⟨a1, a2, a3⟩ := hA p hp
            obtain ⟨b1, b2, b3⟩ := f8 p hp
            exact ⟨a1.trans b1, a2.trans b2, a3.trans b3⟩
          · obtain ⟨b0, b1, b2, b3, b4, b5⟩ := f10 d' hd'
            exact ⟨(hD d' hd' 0 (by omega)).trans b0, (hD d' hd' 1 (by omega)).trans b1, (hD d' hd' 2 (by omega)).trans b2, (hD d' hd' 3 (by omega)).trans b3, (hD d' hd' 4 (by omega)).trans b4, (hD d' hd' 5 (by omega)).trans b5⟩
          · rw [eT t (by omega)]
            exact (f12 t ht).keep hns
        · rw [eT t ht] at h
          obtain ⟨x, y, z, g⟩ := hT t a ht h
          exact ⟨x, y, z, hns _ _ g ns_tx⟩
    | succ j ih =>
      intro d hd W c s0 s1 s2 s7 hS hA hD
      have hwW := hw.chg hi c
      unfold wX1_copyOf_94
      rw [s7, nI_clamp (by omega)]
      have hv : vp_in (nI d) 8 := vp_in_nI (by omega) (by omega)
      refine brN (nI_ge (by omega) (by omega)) ⟨hv, hv, d_copy hi hs (by omega) hne (fun V' w1 w2 w3 w4 w5 w6 w7 w8 w9 => ?_)⟩
      have c2 : chg W V' i := chg_pl hwW hi w1 (fun j hj => ⟨by rw [w4], by rw [w5], by rw [w3], by rw [w6], w7 j hj⟩) w2 (by rw [w3])
      rw [nI_1]
      refine ih (d + 1) (by omega) V' (c.tr c2) (by rw [w4]; exact s0) (by rw [w4]; exact s1) (by rw [w4]; exact s2) (by rw [w4]; exact s7) (fun p hp => ?_) (by rw [w5]; exact hA) (fun d' hd' j hj => ?_)
      · obtain ⟨a, kn, q1, q2, q3, q4⟩ := hS p hp
        exact ⟨a, kn, q1, q2, by rw [w3]; exact q3, by rw [w2]; exact q4⟩
      · by_cases e : d' = d
        · subst e
          rw [w9 j hj, (c.2.1 s hne).2.2.2.2]
        · rw [w8 d' e]
          exact hD d' (by omega) j hj
  -- the speakers
  have spks : ∀ j p, p + j = n → ∀ W, chg V W i → vS W i 0 = vS V s 0 → vS W i 1 = vS V s 1 → vS W i 2 = nI n → (∀ p', p' < p → SpR W i p' (X (6 + 5 * p')) (X (6 + 5 * p' + 1))) → ∀ f, wX1_copyOf_26 Q (f + j + 1) i s (nI p) W := by
    intro j
    induction j with
    | zero =>
      intro p hp W c s0 s1 s2 hS f
      have : p = n := by omega
      subst this
      have hwW := hw.chg hi c
      unfold wX1_copyOf_26
      rw [s2]
      have r4 : (4 : Nat) = 4 ∨ 4 = 5 ∨ 4 = 6 := by omega
      have r5 : (5 : Nat) = 4 ∨ 5 = 5 ∨ 5 = 6 := by omega
      have r6 : (6 : Nat) = 4 ∨ 6 = 5 ∨ 6 = 6 := by omega
      refine brY (nI_le (by omega) (by omega)) ⟨hs, r4, hi, r4, hs, r5, hi, r5, hs, r6, hi, r6, dn + 1, ?_⟩
      generalize hG : sSAA (sSAA (sSAA W i 4 (fun j => if j < 12 then vSA W s 4 j else vSA W i 4 j)) i 5 (fun j => if j < 12 then vSA (sSAA W i 4 (fun j => if j < 12 then vSA W s 4 j else vSA W i 4 j)) s 5 j else vSA (sSAA W i 4 (fun j => if j < 12 then vSA W s 4 j else vSA W i 4 j)) i 5 j)) i 6 (fun j => if j < 12 then vSA (sSAA (sSAA W i 4 (fun j => if j < 12 then vSA W s 4 j else vSA W i 4 j)) i 5 (fun j => if j < 12 then vSA (sSAA W i 4 (fun j => if j < 12 then vSA W s 4 j else vSA W i 4 j)) s 5 j else vSA (sSAA W i 4 (fun j => if j < 12 then vSA W s 4 j else vSA W i 4 j)) i 5 j)) s 6 j else vSA (sSAA (sSAA W i 4 (fun j => if j < 12 then vSA W s 4 j else vSA W i 4 j)) i 5 (fun j => if j < 12 then vSA (sSAA W i 4 (fun j => if j < 12 then vSA W s 4 j else vSA W i 4 j)) s 5 j else vSA (sSAA W i 4 (fun j => if j < 12 then vSA W s 4 j else vSA W i 4 j)) i 5 j)) i 6 j) = G
      have gS : vS G = vS W := by rw [← hG]; rfl
      have gM : vM G = vM W := by rw [← hG]; rfl
      have gP : vSp G = vSp W := by rw [← hG]; rfl
      have gT : vTx G = vTx W := by rw [← hG]; rfl
      have gD : vD G = vD W := by rw [← hG]; rfl
      have g1 : c1V W G := by rw [← hG]; exact ⟨rfl, rfl, rfl, rfl, rfl⟩
      have gA : ∀ j, j ≠ i → vSA G j = vSA W j := fun j hj => by
        rw [← hG]
        funext x y
        simp [cvs, hj]
      have gA4 : ∀ x, x < 12 → vSA G i 4 x = vSA W s 4 x ∧ vSA G i 5 x = vSA W s 5 x ∧ vSA G i 6 x = vSA W s 6 x := fun x hx => by
        rw [← hG]
        simp [cvs, hne, hx]
      clear hG
      have c2 : chg W (sS G i 7 (vS G s 7)) i := by
        refine chg_pl hwW hi g1 (fun j hj => ⟨?_, gA j hj, congrFun gP j, congrFun gT j, congrFun gD j⟩) gM (congrFun gP i)
        rw [← gS]
        funext k
        simp [cvs, hj]
      have e7 : vS (sS G i 7 (vS G s 7)) i 7 = nI dn := by
        have : vS (sS G i 7 (vS G s 7)) i 7 = vS G s 7 := by simp [cvs]
        rw [this, gS, (c.2.1 s hne).1]
        exact hR.d0.1
      have eS : ∀ k, k ≠ 7 → vS (sS G i 7 (vS G s 7)) i k = vS W i k := fun k hk => by
        rw [← gS]
        simp [cvs, hk]
      refine deeds dn 0 (by omega) _ (c.tr c2) (by rw [eS 0 (by decide)]; exact s0) (by rw [eS 1 (by decide)]; exact s1) (by rw [eS 2 (by decide)]; exact s2) e7 (fun p' hp' => ?_) (fun p' hp' => ?_) (fun d' hd' => absurd hd' (by omega))
      · obtain ⟨a, kn, q1, q2, q3, q4⟩ := hS p' hp'
        exact ⟨a, kn, q1, q2, (congrFun (congrFun gP i) p').trans q3, by rw [← q4]; exact congrFun gM a⟩
      · obtain ⟨a1, a2, a3⟩ := gA4 p' (by omega)
        have eV := (c.2.1 s hne).2.1
        rw [eV] at a1 a2 a3
        exact ⟨a1, a2, a3⟩
    | succ j ih =>
      intro p hp W c s0 s1 s2 hS f
      have hwW := hw.chg hi c
      have hRW := hR.chg hw hi hs hne c
      obtain ⟨a, kn, q1, q2, q3, q4⟩ := hRW.2.2.2.2.2.2.1 p (by omega)
      show wX1_copyOf_26 Q (f + j + 1 + 1) i s (nI p) W
      unfold wX1_copyOf_26
      rw [s2, nI_clamp (by omega)]
      refine brN (nI_ge (by omega) (by omega)) ⟨vp_in_nI (by omega) (by omega), a, q3, take_sp hwW hi (by omega) q1 q4 (fun e => hne (hwW.2 s p i p a hs (by omega) hi (by omega) q3 e).1) (fun V' c2 t1 t2 t3 => ?_)⟩
      rw [nI_1]
      refine ih (p + 1) (by omega) V' (c.tr c2) (by rw [t1]; exact s0) (by rw [t1]; exact s1) (by rw [t1]; exact s2) (fun p' hp' => ?_) f
      by_cases e : p' = p
      · subst e
        rw [q2]
        exact t2
      · exact t3 p' e (by omega) _ _ (hS p' (by omega))
  have e1 : vS (sS V i 0 (vS V s 0)) s 1 = vS V s 1 := by simp [cvs, hne]
  have e2 : vS (sS (sS V i 0 (vS V s 0)) i 1 (vS V s 1)) s 2 = nI n := by
    rw [← hR.n0.1]
    simp [cvs, hne]
  rw [e1, e2]
  have c0 : chg V (sS (sS (sS V i 0 (vS V s 0)) i 1 (vS V s 1)) i 2 (nI n)) i := by
    refine chg_pl hw hi ⟨rfl, rfl, rfl, rfl, rfl⟩ (fun j hj => ⟨?_, rfl, rfl, rfl, rfl⟩) rfl rfl
    funext k
    simp [cvs, hj]
  have := spks n 0 (by omega) _ c0 (by simp [cvs]) (by simp [cvs]) (by simp [cvs]) (fun p' hp' => absurd hp' (by omega)) (12 - n)
  rw [show 12 - n + n + 1 = 13 by omega] at this
  exact this
def asT (T : TS) (a b : Nat) : TS := tA T b (va_cpy (T.2 a) (T.2 b) 0 0 2914)
theorem asT_n {T : TS} {a b j : Nat} (h : j ≠ b) : (asT T a b).2 j = T.2 j := tA_n h
theorem asT_s (T : TS) (a b : Nat) {k : Nat} (h : k < 2914) : (asT T a b).2 b k = T.2 a k := by
  unfold asT
  rw [tA_s, pk_cpy_in (by omega) (by omega)]
  congr 1
  omega
theorem aside6e {T : TS} {a b : Nat} {Q : TS → Prop} (ha : a < 3) (hb : b < 3) (hne : a ≠ b) (hq : Q (asT T a b)) : wX6_setAside a b T Q := by
  have ta : tArr a = true ∧ tLen a = 3114 := by
    have : a = 0 ∨ a = 1 ∨ a = 2 := by omega
    rcases this with rfl | rfl | rfl <;> exact ⟨rfl, rfl⟩
  have tb : tArr b = true ∧ tLen b = 3114 := by
    have : b = 0 ∨ b = 1 ∨ b = 2 := by omega
    rcases this with rfl | rfl | rfl <;> exact ⟨rfl, rfl⟩
  have l : ∀ j i, i + j = 2914 → wX6_setAside_2 Q (j + 1) a b (nI i) (tA T b (va_cpy (T.2 a) (T.2 b) 0 0 i)) := by
    intro j
    induction j with
    | zero =>
      intro i hi
      have : i = 2914 := by omega
      subst this
      unfold wX6_setAside_2
      exact brY (by decide) hq
    | succ j ih =>
      intro i hi
      unfold wX6_setAside_2
      rw [ta.1, ta.2, tb.1, tb.2, nI_clamp (n := i) (by omega), tA_n hne, ts_tA, nI_1]
      have := cpy_1 (T.2 a) (T.2 b) 0 0 i
      rw [Nat.zero_add] at this
      rw [this]
      exact brN (nI_ge (a := i) (b := 2914) (by omega) (by omega)) ⟨rfl, vp_in_nI (by omega) (by omega), rfl, vp_in_nI (by omega) (by omega), ih (i + 1) (by omega)⟩
  have := l 2914 0 (by omega)
  rw [cpy_0, tA_self] at this
  exact ⟨2915, this⟩
theorem aside6 {T : TS} {a b : Nat} {Q : TS → Prop} (ha : a < 3) (hb : b < 3) (hne : a ≠ b) (hq : ∀ T', T'.1 = T.1 → (∀ j, j ≠ b → T'.2 j = T.2 j) → (∀ k, k < 2914 → T'.2 b k = T.2 a k) → Q T') : wX6_setAside a b T Q :=
  aside6e ha hb hne (hq _ rfl (fun j hj => asT_n hj) (fun k hk => asT_s T a b hk))
theorem Rel.tx {V : CV} {T : TS} (hr : Rel V T) {i : Nat} (hi : i < 3) : ∀ t a, t < 14 → vTx V i t = some a → ∃ x y z, vM V a = some (eTx x y z) := fun t a ht h => hr.2.2.2.2.2.2.2.2.2.2.2.1 i t a hi ht h
theorem Rel.wsp {V : CV} {T : TS} (hr : Rel V T) : Wsp V := ⟨hr.2.2.2.2.2.2.2.1, hr.2.2.2.2.2.2.2.2.1⟩
theorem op_keep {V : CV} {T : TS} (hr : Rel V T) : wX0_keep V (fun r V1 => wX6_keep T (fun r2 T2 => r = r2 ∧ Rel V1 T2)) := by
  obtain ⟨n, dn, tn, h0⟩ := hr.1
  refine copy0 hr.wsp h0 (hr.tx (by decide)) (by decide) (by decide) (by decide) (fun V' c hR hT => ?_)
  refine aside6 (by decide) (by decide) (by decide) (fun T' t1 t2 t3 => ⟨pk_in 0 3114 (by omega), ?_⟩)
  have e0 : T'.2 0 = T.2 0 := (t2 0 (by decide)).trans rfl
  have h0' := h0.chg hr.wsp (by decide) (by decide) (by decide) c
  refine ⟨?_, ?_⟩
  · rw [show T'.2 0 (0 : Int32).toNatClampNeg = nI n by rw [e0]; exact h0.n0.2]
    exact h0'.n0.1
  · have hs : sameV V' (sI V' 3 1) → True := fun _ => trivial
    have cor : Cor V' T' := Cor.chg (T := T) hr.2.2.2 (by decide) c hT ⟨by rw [t1]; exact tf_n (by decide), by rw [t1]; exact tf_n (by decide), fun k hk => (t2 k (by omega)).trans rfl⟩
    have e3 : ∀ j, vS (sI V' 3 1) j = vS V' j := fun _ => rfl
    refine ⟨⟨n, dn, tn, by rw [e0]; exact h0'⟩, ?_, Or.inr ⟨by rw [t1, tf_s], n, dn, tn, ?_⟩, ?_⟩
    · rw [t1, tf_s]
      simp [cvs]
    · exact RS.up (show RS (sI V' 3 1) 1 (T.2 0) n dn tn from hR) (fun j hj => t3 j hj)
    · obtain ⟨r4, r5, r6⟩ := cor
      refine ⟨?_, ?_, r6⟩
      · obtain ⟨m, m1, m2, m3, m4⟩ := r4
        exact ⟨m, m1, by rw [← m2]; simp [cvs], m3, m4⟩
      · obtain ⟨m, m1, m2, m3, m4⟩ := r5
        exact ⟨m, m1, by rw [← m2]; simp [cvs], m3, m4⟩
theorem op_back {V : CV} {T : TS} (hr : Rel V T) : wX0_back V (fun r V1 => wX6_back T (fun r2 T2 => r = r2 ∧ Rel V1 T2)) := by
  obtain ⟨r1, r2, r3, cor0⟩ := id hr
  unfold wX0_back wX6_back
  rw [r2]
  rcases r3 with r | ⟨r, n, dn, tn, hI⟩
  · exact brY r (brY r ⟨rfl, hr⟩)
  · have rn : ¬ T.1 3 = 0 := by rw [r]; decide
    refine brN rn (copy0 hr.wsp hI (hr.tx (by decide)) (by decide) (by decide) (by decide) (fun V' c hR hT => ?_))
    refine brN rn (aside6 (by decide) (by decide) (by decide) (fun T' t1 t2 t3 => ⟨pk_in 0 3114 (by omega), ?_⟩))
    have e1 : T'.2 1 = T.2 1 := t2 1 (by decide)
    have hI' := hI.chg hr.wsp (by decide) (by decide) (by decide) c
    have hR' : RS V' 0 (T'.2 0) n dn tn := hR.up (fun j hj => t3 j hj)
    refine ⟨?_, ⟨n, dn, tn, hR'⟩, ?_, Or.inr ⟨by rw [t1]; exact r, n, dn, tn, by rw [e1]; exact hI'⟩, cor0.chg (by decide) c hT ⟨by rw [t1], by rw [t1], fun k hk => t2 k (by omega)⟩⟩
    · exact hR'.n0.1.trans hR'.n0.2.symm
    · rw [t1, c.1.1]
      exact r2
