set_option maxRecDepth 100000
/-! WHAT CHANGES IN STATE 0 ALONE (and its speakers' cells, and new cells) keeps the rest of Rel -/
def restV (V V' : CV) : Prop := vI V' 3 = vI V 3 ∧ vI V' 6 = vI V 6 ∧ vI V' 23 = vI V 23 ∧ vA V' 5 = vA V 5 ∧ vA V' 22 = vA V 22 ∧ vSh V' = vSh V ∧ vHe V' = vHe V ∧ (vFl V').length = (vFl V).length ∧ ∀ i, 0 < i → (vS V' i = vS V i ∧ vSA V' i = vSA V i ∧ vSp V' i = vSp V i ∧ vTx V' i = vTx V i ∧ vD V' i = vD V i)
def restT (T T' : TS) : Prop := T'.1 3 = T.1 3 ∧ T'.1 14 = T.1 14 ∧ T'.1 29 = T.1 29 ∧ ∀ k, (k = 1 ∨ k = 4 ∨ k = 5 ∨ k = 6 ∨ k = 7 ∨ k = 8 ∨ k = 9 ∨ k = 10 ∨ k = 11 ∨ k = 13 ∨ k = 28) → T'.2 k = T.2 k
def spE (e : va_E) : Prop := ∃ kn b, kn ≤ 5 ∧ e = eSp (7 + kn) b
def cellsV (V V' : CV) : Prop := ∀ a e, vM V a = some e → vM V' a = some e ∨ (∃ p, p < 12 ∧ vSp V 0 p = some a ∧ ∃ e', vM V' a = some e' ∧ spE e')
theorem ns_tx {x z : Int32} {y : Nat} : ¬ spE (eTx x y z) := by rintro ⟨kn, b, h, e⟩; injection e with e; injection e with e1 e2; omega
theorem ns_wd {x y : Nat} {z : Int32} : ¬ spE (eWd x y z) := by rintro ⟨kn, b, h, e⟩; injection e with e; injection e with e1 e2; omega
theorem ns_sh {r : Option Nat} : ¬ spE (eSh r) := by rintro ⟨kn, b, h, e⟩; injection e with e; injection e with e1 e2; omega
theorem ns_fg {v : Int32} : ¬ spE (eFg v) := by rintro ⟨kn, b, h, e⟩; injection e with e; injection e with e1 e2; omega
theorem ns_l {x : ClassId × vp_A} : ¬ spE (.inl x) := by rintro ⟨kn, b, h, e⟩; cases e
theorem eSh_inj {r r' : Option Nat} (h : (some (eSh r) : Option va_E) = some (eSh r')) : r = r' := by
  have e1 := Option.some.inj h
  injection e1 with e2
  injection e2 with e3 e4
  injection e4 with e5 e6
  cases r <;> cases r' <;> simp [va_rf] at e5 ⊢
  exact e5
theorem eSp_inj {c c' : Nat} {b b' : Int32} (h : (some (eSp c b) : Option va_E) = some (eSp c' b')) : c = c' ∧ b = b' := by
  have e1 := Option.some.inj h
  injection e1 with e2
  injection e2 with e3 e4
  injection e4 with e5 e6
  injection e5 with e7
  exact ⟨e3, e7⟩
theorem cells_ns {V V' : CV} (hw : WF V) (hc : cellsV V V') {a : Nat} {e : va_E} (h : vM V a = some e) (hn : ¬ spE e) : vM V' a = some e := by
  rcases hc a e h with h1 | ⟨p, hp, h1, -⟩
  · exact h1
  · obtain ⟨kn, b, hk, h2⟩ := hw.1 0 p a (by decide) hp h1
    exact absurd ⟨kn, b, hk, Option.some.inj (h.symm.trans h2)⟩ hn
theorem TxR.keep {V V' : CV} (hk : ∀ a e, vM V a = some e → ¬ spE e → vM V' a = some e) {t : Option Nat} {X : Nat → Int32} {tb : Nat} (h : TxR V t X tb) : TxR V' t X tb := by
  obtain ⟨a, key, w, mn, wa, va, n, f, g, hh, h1, h2, h3, h4, h5, h6, h7, h8, h9, h10, h11⟩ := h
  exact ⟨a, key, w, mn, wa, va, n, f, g, hh, h1, hk _ _ h2 ns_tx, h3, h4, h5, h6, h7, hk _ _ h8 ns_wd, hk _ _ h9 ns_l, hk _ _ h10 ns_l, h11⟩
theorem RowR.keep {M M' : HM} (hk : ∀ a e, M a = some e → ¬ spE e → M' a = some e) {row : Nat} {so : Int32} {n : Nat} {g : Nat → Int32} (h : RowR M row so n g) : RowR M' row so n g := by
  obtain ⟨h1, h2⟩ := h
  refine ⟨h1, ?_⟩
  rcases h2 with ⟨h2, f, h3, h4⟩ | ⟨h2, f, h3, h4⟩
  · exact Or.inl ⟨h2, f, hk _ _ h3 ns_l, h4⟩
  · exact Or.inr ⟨h2, f, hk _ _ h3 ns_l, h4⟩
/-- a State whose fields stay, whose speakers' cells stay, whose texts' cells stay -/
theorem RS.keep {V V' : CV} {i : Nat} (hs : vS V' i = vS V i ∧ vSA V' i = vSA V i ∧ vSp V' i = vSp V i ∧ vTx V' i = vTx V i ∧ vD V' i = vD V i) (hk : ∀ a e, vM V a = some e → ¬ spE e → vM V' a = some e) {X : Nat → Int32} {n dn tn : Nat} (hp : ∀ p a, p < n → vSp V i p = some a → vM V' a = vM V a) (h : RS V i X n dn tn) : RS V' i X n dn tn := by
  obtain ⟨s1, s2, s3, s4, s5⟩ := hs
  obtain ⟨h1, h2, h3, h4, h5, h6, h7, h8, h9, h10, h11, h12⟩ := h
  refine ⟨h1, by rw [s1]; exact h2, by rw [s1]; exact h3, by rw [s1]; exact h4, by rw [s1]; exact h5, by rw [s1]; exact h6, fun p hpn => ?_, by rw [s2]; exact h8, h9, by rw [s5]; exact h10, h11, fun t ht => ?_⟩
  · obtain ⟨a, kn, g1, g2, g3, g4⟩ := h7 p hpn
    exact ⟨a, kn, g1, g2, by rw [s3]; exact g3, by rw [hp p a hpn g3]; exact g4⟩
  · rw [s4]
    exact (h12 t ht).keep hk
theorem Rel.st0 {V V' : CV} {T T' : TS} (hr : Rel V T) (hv : restV V V') (ht : restT T T') (hc : cellsV V V') (hsp : ∀ p, p < 12 → ∀ a, vSp V' 0 p = some a → vSp V 0 p = some a ∨ (vM V a = none ∧ ∃ e, vM V' a = some e ∧ spE e)) (hinj : ∀ p p' a, p < 12 → p' < 12 → vM V a = none → vSp V' 0 p = some a → vSp V' 0 p' = some a → p = p') (htx : ∀ t a, t < 14 → vTx V' 0 t = some a → ∃ x y z, vM V' a = some (eTx x y z)) (h0 : ∃ n dn tn, RS V' 0 (T'.2 0) n dn tn) : Rel V' T' := by
  obtain ⟨-, r2, r3, r4, r5, r6, r7, r8⟩ := hr
  obtain ⟨v1, v2, v3, v4, v5, v6, v7, v8, v9⟩ := hv
  obtain ⟨t1, t2, t3, t4⟩ := ht
  have hk : ∀ a e, vM V a = some e → ¬ spE e → vM V' a = some e := fun a e h hn => cells_ns r8 hc h hn
  have hsome : ∀ i p a, i < 3 → p < 12 → vSp V i p = some a → vM V a ≠ none := fun i p a hi hp h q => by
    obtain ⟨kn, b, -, h2⟩ := r8.1 i p a hi hp h
    rw [q] at h2
    cases h2
  have hsh : ∀ k a r, k < 4 → vSh V k = some a → vM V' a = some (eSh (some r)) → vM V a = some (eSh (some r)) := fun k a r hk4 h1 h2 => by
    obtain ⟨a', r', g1, g2, -⟩ := r6 k hk4
    cases h1.symm.trans g1
    rw [← h2, hk _ _ g2 ns_sh]
    exact g2
  refine ⟨h0, by rw [v1, t1]; exact r2, ?_, ?_, ?_, ?_, ?_, ?_⟩
  · rw [t1, t4 1 (by simp)]
    rcases r3 with r | ⟨r, n, dn, tn, r'⟩
    · exact Or.inl r
    · refine Or.inr ⟨r, n, dn, tn, r'.keep (v9 1 (by decide)) hk (fun p a hp hpa => ?_)⟩
      obtain ⟨a', kn, g1, g2, g3, g4⟩ := r'.2.2.2.2.2.2.1 p hp
      cases hpa.symm.trans g3
      rcases hc a _ g4 with h1 | ⟨p', hp', h1, -⟩
      · rw [h1, g4]
      · have hn := r'.1.1
        exact absurd (r8.2.1 1 p 0 p' a (by decide) (by omega) (by decide) hp' g3 h1).1 (by decide)
  · unfold RT at r4 ⊢
    rw [v2, v4, t2, t4 13 (by simp)]
    exact r4
  · unfold RW at r5 ⊢
    rw [v3, v5, t3, t4 28 (by simp)]
    exact r5
  · intro k hk4
    obtain ⟨a, r, g1, g2, g3⟩ := r6 k hk4
    refine ⟨a, r, by rw [v6]; exact g1, hk _ _ g2 ns_sh, ?_⟩
    rw [t4 4 (by simp), t4 5 (by simp), t4 6 (by simp)]
    rcases g3 with g3 | ⟨row, n, g3, g4, g5⟩
    · exact Or.inl g3
    · exact Or.inr ⟨row, n, g3, g4, g5.keep hk⟩
  · intro q hq
    have := r7 q hq
    unfold SlR at this ⊢
    rw [v7, t4 7 (by simp), t4 8 (by simp), t4 9 (by simp), t4 10 (by simp), t4 11 (by simp)]
    rcases this with h | ⟨a, ha, h | h | h⟩
    · exact Or.inl h
    · obtain ⟨g1, kn, b, g2, g3, g4, g5, g6⟩ := h
      refine Or.inr ⟨a, ha, Or.inl ⟨g1, kn, b, g2, ?_, g4, g5, fun i p hi hp => ?_⟩⟩
      · rcases hc a _ g3 with h1 | ⟨p', hp', h1, -⟩
        · exact h1
        · exact absurd h1 (g6 0 p' (by decide) hp')
      · rcases Nat.eq_zero_or_pos i with h0 | h0
        · subst h0
          intro hs
          rcases hsp p hp a hs with h1 | ⟨h1, -⟩
          · exact g6 0 p (by decide) hp h1
          · rw [h1] at g3; cases g3
        · rw [(v9 i h0).2.2.1]
          exact g6 i p hi hp
    · obtain ⟨g1, row, n, so, g2, g3, g4, g5, g6⟩ := h
      refine Or.inr ⟨a, ha, Or.inr (Or.inl ⟨g1, row, n, so, hk _ _ g2 ns_sh, g3, g4.keep hk, by rw [v6]; exact g5, fun k b hk4 hb hq => ?_⟩)⟩
      rw [v6] at hb
      exact g6 k b hk4 hb (hsh k b row hk4 hb hq)
    · exact Or.inr ⟨a, ha, Or.inr (Or.inr ⟨h.1, hk _ _ h.2 ns_fg⟩)⟩
  · obtain ⟨w1, w2, w3, w4, w5, w6⟩ := r8
    have hspE : ∀ i p a, i < 3 → p < 12 → vSp V i p = some a → ∃ kn b, kn ≤ 5 ∧ vM V' a = some (eSp (7 + kn) b) := fun i p a hi hp h => by
      obtain ⟨kn, b, g1, g2⟩ := w1 i p a hi hp h
      rcases hc a _ g2 with h1 | ⟨p', hp', h1, e', h2, kn', b', h3, h4⟩
      · exact ⟨kn, b, g1, h1⟩
      · exact ⟨kn', b', h3, by rw [h2, h4]⟩
    refine ⟨fun i p a hi hp h => ?_, fun i p i' p' a hi hp hi' hp' h h' => ?_, by rw [v6]; exact w3, fun k k' a a' row hk hk' h1 h2 h3 h4 => ?_, fun i t a hi ht h => ?_, by rw [v8]; exact w6⟩
    · rcases Nat.eq_zero_or_pos i with h0 | h0
      · subst h0
        rcases hsp p hp a h with h1 | ⟨h1, e, h2, kn, b, h3, h4⟩
        · exact hspE 0 p a (by decide) hp h1
        · exact ⟨kn, b, h3, by rw [h2, h4]⟩
      · rw [(v9 i h0).2.2.1] at h
        exact hspE i p a hi hp h
    · rcases Nat.eq_zero_or_pos i with h0 | h0 <;> rcases Nat.eq_zero_or_pos i' with h0' | h0'
      · subst h0; subst h0'
        rcases hsp p hp a h with h1 | ⟨h1, -⟩ <;> rcases hsp p' hp' a h' with h2 | ⟨h2, -⟩
        · exact w2 0 p 0 p' a hi hp hi' hp' h1 h2
        · exact absurd h2 (hsome 0 p a hi hp h1)
        · exact absurd h1 (hsome 0 p' a hi hp' h2)
        · exact ⟨rfl, hinj p p' a hp hp' h1 h h'⟩
      · subst h0
        rw [(v9 i' h0').2.2.1] at h'
        rcases hsp p hp a h with h1 | ⟨h1, -⟩
        · exact w2 0 p i' p' a hi hp hi' hp' h1 h'
        · exact absurd h1 (hsome i' p' a hi' hp' h')
      · subst h0'
        rw [(v9 i h0).2.2.1] at h
        rcases hsp p' hp' a h' with h1 | ⟨h1, -⟩
        · exact w2 i p 0 p' a hi hp hi' hp' h h1
        · exact absurd h1 (hsome i p a hi hp h)
      · rw [(v9 i h0).2.2.1] at h
        rw [(v9 i' h0').2.2.1] at h'
        exact w2 i p i' p' a hi hp hi' hp' h h'
    · rw [v6] at h1 h2
      exact w4 k k' a a' row hk hk' h1 h2 (hsh k a row hk h1 h3) (hsh k' a' row hk' h2 h4)
    · rcases Nat.eq_zero_or_pos i with h0 | h0
      · subst h0
        exact htx t a ht h
      · rw [(v9 i h0).2.2.2.1] at h
        obtain ⟨x, y, z, g⟩ := w5 i t a hi ht h
        exact ⟨x, y, z, hk _ _ g ns_tx⟩
/-- State 0's own small changes: no cell, no speaker, no text -/
theorem Rel.st0s {V V' : CV} {T T' : TS} (hr : Rel V T) (hv : restV V V') (ht : restT T T') (hm : vM V' = vM V) (h1 : vSp V' 0 = vSp V 0) (h2 : vTx V' 0 = vTx V 0) (h0 : ∃ n dn tn, RS V' 0 (T'.2 0) n dn tn) : Rel V' T' := by
  refine hr.st0 hv ht (fun a e h => Or.inl (by rw [hm]; exact h)) (fun p hp a h => Or.inl (by rw [← h1]; exact h)) (fun p p' a hp hp' hn h h' => ?_) (fun t a ht h => ?_) h0
  · rw [h1] at h
    obtain ⟨kn, b, -, h2⟩ := hr.2.2.2.2.2.2.2.1 0 p a (by decide) hp h
    rw [hn] at h2
    cases h2
  · rw [h2] at h
    rw [hm]
    exact hr.2.2.2.2.2.2.2.2.2.2.2.1 0 t a (by decide) ht h
theorem restT_ts {T : TS} {i : Nat} {v : Int32} : restT T (ts T 0 i v) := ⟨rfl, rfl, rfl, fun k hk => ts_n (by omega)⟩
theorem restT.rf {T : TS} : restT T T := ⟨rfl, rfl, rfl, fun _ _ => rfl⟩
theorem restT.tr {T T' T'' : TS} (h : restT T T') (g : restT T' T'') : restT T T'' := ⟨g.1.trans h.1, g.2.1.trans h.2.1, g.2.2.1.trans h.2.2.1, fun k hk => (g.2.2.2 k hk).trans (h.2.2.2 k hk)⟩
theorem restV.rf {V : CV} : restV V V := ⟨rfl, rfl, rfl, rfl, rfl, rfl, rfl, rfl, fun _ _ => ⟨rfl, rfl, rfl, rfl, rfl⟩⟩
theorem restV.tr {V V' V'' : CV} (h : restV V V') (g : restV V' V'') : restV V V'' := by
  obtain ⟨h1, h2, h3, h4, h5, h6, h7, h8, h9⟩ := h
  obtain ⟨g1, g2, g3, g4, g5, g6, g7, g8, g9⟩ := g
  exact ⟨g1.trans h1, g2.trans h2, g3.trans h3, g4.trans h4, g5.trans h5, g6.trans h6, g7.trans h7, g8.trans h8, fun i hi => ⟨(g9 i hi).1.trans (h9 i hi).1, (g9 i hi).2.1.trans (h9 i hi).2.1, (g9 i hi).2.2.1.trans (h9 i hi).2.2.1, (g9 i hi).2.2.2.1.trans (h9 i hi).2.2.2.1, (g9 i hi).2.2.2.2.trans (h9 i hi).2.2.2.2⟩⟩
theorem restV_S {V : CV} {k : Nat} {v : Int32} : restV V (sS V 0 k v) := ⟨rfl, rfl, rfl, rfl, rfl, rfl, rfl, rfl, fun i hi => ⟨by funext x; simp [cvs, Nat.ne_of_gt hi], rfl, rfl, rfl, rfl⟩⟩
theorem restV_SA {V : CV} {k j : Nat} {v : Int32} : restV V (sSA V 0 k j v) := ⟨rfl, rfl, rfl, rfl, rfl, rfl, rfl, rfl, fun i hi => ⟨rfl, by funext x y; simp [cvs, Nat.ne_of_gt hi], rfl, rfl, rfl⟩⟩
theorem restV_Sp {V : CV} {j : Nat} {r : Option Nat} : restV V (sSp V 0 j r) := ⟨rfl, rfl, rfl, rfl, rfl, rfl, rfl, rfl, fun i hi => ⟨rfl, rfl, by funext x; simp [cvs, Nat.ne_of_gt hi], rfl, rfl⟩⟩
theorem restV_Tx {V : CV} {j : Nat} {r : Option Nat} : restV V (sTx V 0 j r) := ⟨rfl, rfl, rfl, rfl, rfl, rfl, rfl, rfl, fun i hi => ⟨rfl, rfl, rfl, by funext x; simp [cvs, Nat.ne_of_gt hi], rfl⟩⟩
theorem restV_D {V : CV} {d k : Nat} {v : Int32} : restV V (sD V 0 d k v) := ⟨rfl, rfl, rfl, rfl, rfl, rfl, rfl, rfl, fun i hi => ⟨rfl, rfl, rfl, rfl, by funext x y; simp [cvs, Nat.ne_of_gt hi]⟩⟩
theorem restV_M {V : CV} {M : HM} : restV V (sM V M) := ⟨rfl, rfl, rfl, rfl, rfl, rfl, rfl, rfl, fun _ _ => ⟨rfl, rfl, rfl, rfl, rfl⟩⟩
theorem sameV.rest {V V' : CV} (h : sameV V V') : restV V V' := by
  obtain ⟨h1, h2, h3, h4, h5, h6, h7, h8, h9, h10, h11, h12, h13, h14⟩ := h
  exact ⟨h9, h10, h11, h12, h13, h7, h8, h14, fun i _ => ⟨by rw [h1], by rw [h2], by rw [h3], by rw [h4], by rw [h5]⟩⟩
/-! ===== numbers of places ===== -/
theorem of_x (p : Nat) : (6 : Int32) + ((5 : Int32) * nI p) = nI (6 + 5 * p) := by rw [show (6 : Int32) = nI 6 from rfl, show (5 : Int32) = nI 5 from rfl, pk_mul, nI_add]
theorem de_x (p : Nat) : (66 : Int32) + ((6 : Int32) * nI p) = nI (66 + 6 * p) := by rw [show (66 : Int32) = nI 66 from rfl, show (6 : Int32) = nI 6 from rfl, pk_mul, nI_add]
theorem of_1 (p : Nat) : ((6 : Int32) + ((5 : Int32) * nI p)) + (1 : Int32) = nI (6 + 5 * p + 1) := by rw [of_x, show (1 : Int32) = nI 1 from rfl, nI_add]
theorem of_2 (p : Nat) : ((6 : Int32) + ((5 : Int32) * nI p)) + (2 : Int32) = nI (6 + 5 * p + 2) := by rw [of_x, show (2 : Int32) = nI 2 from rfl, nI_add]
theorem of_3 (p : Nat) : ((6 : Int32) + ((5 : Int32) * nI p)) + (3 : Int32) = nI (6 + 5 * p + 3) := by rw [of_x, show (3 : Int32) = nI 3 from rfl, nI_add]
theorem of_4 (p : Nat) : ((6 : Int32) + ((5 : Int32) * nI p)) + (4 : Int32) = nI (6 + 5 * p + 4) := by rw [of_x, show (4 : Int32) = nI 4 from rfl, nI_add]
theorem de_1 (p : Nat) : ((66 : Int32) + ((6 : Int32) * nI p)) + (1 : Int32) = nI (66 + 6 * p + 1) := by rw [de_x, show (1 : Int32) = nI 1 from rfl, nI_add]
theorem de_2 (p : Nat) : ((66 : Int32) + ((6 : Int32) * nI p)) + (2 : Int32) = nI (66 + 6 * p + 2) := by rw [de_x, show (2 : Int32) = nI 2 from rfl, nI_add]
theorem de_3 (p : Nat) : ((66 : Int32) + ((6 : Int32) * nI p)) + (3 : Int32) = nI (66 + 6 * p + 3) := by rw [de_x, show (3 : Int32) = nI 3 from rfl, nI_add]
theorem de_4 (p : Nat) : ((66 : Int32) + ((6 : Int32) * nI p)) + (4 : Int32) = nI (66 + 6 * p + 4) := by rw [de_x, show (4 : Int32) = nI 4 from rfl, nI_add]
theorem de_5 (p : Nat) : ((66 : Int32) + ((6 : Int32) * nI p)) + (5 : Int32) = nI (66 + 6 * p + 5) := by rw [de_x, show (5 : Int32) = nI 5 from rfl, nI_add]
