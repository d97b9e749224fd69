set_option maxRecDepth 100000
/-! ===== the tape, what waits: feed, trim, tell, why, textTold ===== -/
def offV (V V' : CV) : Prop := vS V' = vS V ∧ vSA V' = vSA V ∧ vSp V' = vSp V ∧ vTx V' = vTx V ∧ vD V' = vD V ∧ vM V' = vM V ∧ vSh V' = vSh V ∧ vHe V' = vHe V ∧ vI V' 3 = vI V 3 ∧ (vFl V').length = (vFl V).length
def offT (T T' : TS) : Prop := T'.1 3 = T.1 3 ∧ ∀ k, (k = 0 ∨ k = 1 ∨ k = 4 ∨ k = 5 ∨ k = 6 ∨ k = 7 ∨ k = 8 ∨ k = 9 ∨ k = 10 ∨ k = 11) → T'.2 k = T.2 k
theorem RS.off {V V' : CV} (h : offV V V') {i : Nat} {X : Nat → Int32} {n dn tn : Nat} (hr : RS V i X n dn tn) : RS V' i X n dn tn := by
  obtain ⟨h1, h2, h3, h4, h5, h6, -⟩ := h
  unfold RS SpR TxR at hr ⊢
  rw [h1, h2, h3, h4, h5, h6]
  exact hr
theorem Rel.off {V V' : CV} {T T' : TS} (hr : Rel V T) (h : offV V V') (g : offT T T') (rt : RT V' T') (rw' : RW V' T') : Rel V' T' := by
  obtain ⟨⟨n, dn, tn, r1⟩, r2, r3, -, -, r6, r7, r8⟩ := hr
  obtain ⟨t1, t4⟩ := g
  have e0 := t4 0 (by simp)
  have e1 := t4 1 (by simp)
  obtain ⟨-, -, h3, h4, -, h6, h7, h8, h9, h10⟩ := id h
  refine ⟨⟨n, dn, tn, by rw [e0]; exact r1.off h⟩, ?_, ?_, rt, rw', ?_, ?_, ?_⟩
  · rw [h9, t1]; exact r2
  · rw [t1, e1]
    rcases r3 with r | ⟨r, n', dn', tn', r'⟩
    · exact Or.inl r
    · exact Or.inr ⟨r, n', dn', tn', r'.off h⟩
  · intro k hk
    have := r6 k hk
    unfold ShR at this ⊢
    rw [h7, h6, t4 4 (by simp), t4 5 (by simp), t4 6 (by simp)]
    exact this
  · intro q hq
    have := r7 q hq
    unfold SlR at this ⊢
    rw [h8, h7, h6, h3, t4 7 (by simp), t4 8 (by simp), t4 9 (by simp), t4 10 (by simp), t4 11 (by simp)]
    exact this
  · unfold WF at r8 ⊢
    rw [h7, h6, h3, h4, h10]
    exact r8
theorem by255 (x : Int32) : (x &&& 255).toInt8.toInt32 = x.toInt8.toInt32 := by
  have : (x &&& 255).toInt8 = x.toInt8 := by
    apply Int8.toBitVec_inj.mp
    show BitVec.signExtend 8 (x &&& 255).toBitVec = BitVec.signExtend 8 x.toBitVec
    apply BitVec.eq_of_getLsbD_eq
    intro i hi
    have h32 : i < 32 := by omega
    rw [BitVec.getLsbD_signExtend, BitVec.getLsbD_signExtend, if_pos h32, if_pos h32]
    show (decide (i < 8) && bt (x &&& 255) i) = (decide (i < 8) && bt x i)
    rw [b_and, b_255]
    simp [hi]
  rw [this]
theorem and255 (x : Int32) : ∃ ch, ch < 256 ∧ x &&& 255 = nI ch := by
  obtain ⟨j, hj, e⟩ := pk_andE x (m := 255) 8 (by decide)
  exact ⟨j, hj, e⟩
def RTn (V : CV) (T : TS) (n : Nat) : Prop := n ≤ 96 ∧ vI V 6 = nI n ∧ T.1 14 = nI n ∧ ∀ k, k < n → ∃ ch, ch < 256 ∧ T.2 13 k = nI ch ∧ vA V 5 k = (nI ch).toInt8.toInt32
def stepV (V : CV) (m : Nat) (x : Int32) : CV := sI (sA V 5 m x.toInt8.toInt32) 6 (nI (m + 1))
def stepT (T : TS) (m : Nat) (x : Int32) : TS := tf (ts T 13 m (x &&& 255)) 14 (nI (m + 1))
theorem RTn.step {V : CV} {T : TS} {m : Nat} (h : RTn V T m) (hm : m < 96) (x : Int32) : RTn (stepV V m x) (stepT T m x) (m + 1) := by
  obtain ⟨h1, h2, h3, h4⟩ := h
  refine ⟨by omega, by simp [stepV, cvs], by unfold stepT; rw [tf_s], fun k hk => ?_⟩
  have e2 : (stepT T m x).2 13 = upd (T.2 13) m (x &&& 255) := by unfold stepT; rw [tf_2, ts_s]
  have e1 : vA (stepV V m x) 5 k = if k = m then x.toInt8.toInt32 else vA V 5 k := by simp [stepV, cvs]
  rw [e2, e1]
  by_cases e : k = m
  · subst e
    obtain ⟨ch, hc, q⟩ := and255 x
    rw [upd_s, if_pos rfl]
    exact ⟨ch, hc, q, by rw [← q, by255]⟩
  · rw [upd_n e, if_neg e]
    exact h4 k (by omega)
def tpV (V V' : CV) : Prop := offV V V' ∧ vI V' 23 = vI V 23 ∧ vA V' 22 = vA V 22
def tpT (T T' : TS) : Prop := offT T T' ∧ T'.1 29 = T.1 29 ∧ T'.2 28 = T.2 28
theorem tpV_step {V V' : CV} {m : Nat} {x : Int32} (h : tpV V V') : tpV V (stepV V' m x) := by
  refine ⟨h.1, ?_, ?_⟩
  · rw [← h.2.1]; simp [stepV, cvs]
  · rw [← h.2.2]; funext j; simp [stepV, cvs]
theorem tpT_step {T T' : TS} {m : Nat} {x : Int32} (h : tpT T T') : tpT T (stepT T' m x) := by
  unfold stepT
  refine ⟨⟨?_, fun k hk => ?_⟩, ?_, ?_⟩
  · rw [tf_n (by decide)]; exact h.1.1
  · rw [tf_2, ts_n (by omega)]; exact h.1.2 k hk
  · rw [tf_n (by decide)]; exact h.2.1
  · rw [tf_2, ts_n (by omega)]; exact h.2.2
theorem Rel.tp {V V' : CV} {T T' : TS} {n : Nat} (hr : Rel V T) (hv : tpV V V') (ht : tpT T T') (h : RTn V' T' n) : Rel V' T' := by
  refine hr.off hv.1 ht.1 ⟨n, h⟩ ?_
  have := hr.2.2.2.2.1
  unfold RW at this ⊢
  rw [hv.2.1, hv.2.2, ht.2.1, ht.2.2]
  exact this
theorem four_step {V : CV} {Q : CV → Prop} {n m : Nat} {a l2 l3 : Int32} (h : vI V 6 = nI m) (hm : m < 96) (hl : ¬ l2 < 0) (e : l2 + (-8) = l3) (hq : wX0_four_3 Q n a l3 (stepV V m (a >>> (l2 &&& 31)))) : wX0_four_3 Q (n + 1) a l2 V := by
  unfold wX0_four_3
  rw [h, nI_clamp (by omega), e, vp_nar_byte]
  refine brN hl ⟨vp_in_nI hm (by omega), ?_⟩
  have e1 : vI (sA V 5 m ((a >>> (l2 &&& 31)).toInt8.toInt32).toInt8.toInt32) 6 + 1 = nI (m + 1) := by
    rw [← nI_1, ← h]; rfl
  rw [e1, show ((a >>> (l2 &&& 31)).toInt8.toInt32).toInt8.toInt32 = (a >>> (l2 &&& 31)).toInt8.toInt32 by simp]
  exact hq
def fourV (V : CV) (m : Nat) (a : Int32) : CV := stepV (stepV (stepV (stepV V m (a >>> ((24 : Int32) &&& 31))) (m + 1) (a >>> ((16 : Int32) &&& 31))) (m + 2) (a >>> ((8 : Int32) &&& 31))) (m + 3) (a >>> ((0 : Int32) &&& 31))
theorem stepV_6 (V : CV) (m : Nat) (x : Int32) : vI (stepV V m x) 6 = nI (m + 1) := by simp [stepV, cvs]
theorem stepT_14 (T : TS) (m : Nat) (x : Int32) : (stepT T m x).1 14 = nI (m + 1) := by unfold stepT; rw [tf_s]
theorem four0 {V : CV} {Q : CV → Prop} {m : Nat} {a : Int32} (h : vI V 6 = nI m) (hm : m + 4 ≤ 96) (hq : Q (fourV V m a)) : wX0_four a V Q := by
  refine ⟨5, ?_⟩
  refine four_step h (by omega) (by decide) (l3 := 16) (by decide) ?_
  refine four_step (stepV_6 _ _ _) (by omega) (by decide) (l3 := 8) (by decide) ?_
  refine four_step (stepV_6 _ _ _) (by omega) (by decide) (l3 := 0) (by decide) ?_
  refine four_step (stepV_6 _ _ _) (by omega) (by decide) (l3 := -8) (by decide) ?_
  unfold wX0_four_3
  exact brY (by decide) hq
theorem feed_step {T : TS} {Q : Int32 → TS → Prop} {n m k : Nat} {l1 l2 l3 s v : Int32} (hk : k < 12) (hv : v = if k < 4 then l1 else if k < 8 then l2 else l3) (hs : ((24 : Int32) - ((8 : Int32) * (nI k - nI k / (4 : Int32) * (4 : Int32)))) &&& 31 = s &&& 31) (h : T.1 14 = nI m) (hm : m < 96) (hq : wX6_feed_18 Q n l1 l2 l3 (nI (k + 1)) (stepT T m (v >>> (s &&& 31)))) : wX6_feed_18 Q (n + 1) l1 l2 l3 (nI k) T := by
  have core : ∀ w, w = v → wX6_feed_47 (fun z0 z1 z2 z3 z4 => wX6_feed_18 Q n z0 z1 z2 z3 z4) l1 l2 l3 (nI k) w T Q := by
    rintro w rfl
    unfold wX6_feed_47
    rw [hs, h, nI_clamp (by omega), nI_1]
    refine ⟨vp_in_nI hm (by omega), ?_⟩
    have e1 : (ts T 13 m (w >>> (s &&& 31) &&& 255)).1 14 + 1 = nI (m + 1) := by rw [ts_1, h, nI_1]
    rw [e1]
    exact hq
  unfold wX6_feed_18
  refine brN (nI_ge (a := k) (b := 12) hk (by omega)) ?_
  by_cases h4 : k < 4
  · rw [if_pos h4] at hv
    exact brN (nI_ge (a := k) (b := 4) h4 (by omega)) (core _ hv.symm)
  · rw [if_neg h4] at hv
    refine brY (nI_le (a := 4) (b := k) (by omega) (by omega)) ?_
    by_cases h8 : k < 8
    · rw [if_pos h8] at hv
      exact brN (nI_ge (a := k) (b := 8) h8 (by omega)) (core _ hv.symm)
    · rw [if_neg h8] at hv
      exact brY (nI_le (a := 8) (b := k) (by omega) (by omega)) (core _ hv.symm)
def fourT (T : TS) (m : Nat) (a : Int32) : TS := stepT (stepT (stepT (stepT T m (a >>> ((24 : Int32) &&& 31))) (m + 1) (a >>> ((16 : Int32) &&& 31))) (m + 2) (a >>> ((8 : Int32) &&& 31))) (m + 3) (a >>> ((0 : Int32) &&& 31))
theorem feed6 {T : TS} {Q : Int32 → TS → Prop} {m : Nat} {a c z : Int32} (h : T.1 14 = nI m) (hm : m + 12 ≤ 96) (hq : Q (nI (m + 12)) (fourT (fourT (fourT T m a) (m + 4) c) (m + 8) z)) : wX6_feed_18 Q 13 a c z 0 T := by
  refine feed_step (k := 0) (s := 24) (v := a) (by omega) (by simp) (by decide) h (by omega) ?_
  refine feed_step (k := 1) (s := 16) (v := a) (by omega) (by simp) (by decide) (stepT_14 _ _ _) (by omega) ?_
  refine feed_step (k := 2) (s := 8) (v := a) (by omega) (by simp) (by decide) (stepT_14 _ _ _) (by omega) ?_
  refine feed_step (k := 3) (s := 0) (v := a) (by omega) (by simp) (by decide) (stepT_14 _ _ _) (by omega) ?_
  refine feed_step (k := 4) (s := 24) (v := c) (by omega) (by simp) (by decide) (stepT_14 _ _ _) (by omega) ?_
  refine feed_step (k := 5) (s := 16) (v := c) (by omega) (by simp) (by decide) (stepT_14 _ _ _) (by omega) ?_
  refine feed_step (k := 6) (s := 8) (v := c) (by omega) (by simp) (by decide) (stepT_14 _ _ _) (by omega) ?_
  refine feed_step (k := 7) (s := 0) (v := c) (by omega) (by simp) (by decide) (stepT_14 _ _ _) (by omega) ?_
  refine feed_step (k := 8) (s := 24) (v := z) (by omega) (by simp) (by decide) (stepT_14 _ _ _) (by omega) ?_
  refine feed_step (k := 9) (s := 16) (v := z) (by omega) (by simp) (by decide) (stepT_14 _ _ _) (by omega) ?_
  refine feed_step (k := 10) (s := 8) (v := z) (by omega) (by simp) (by decide) (stepT_14 _ _ _) (by omega) ?_
  refine feed_step (k := 11) (s := 0) (v := z) (by omega) (by simp) (by decide) (stepT_14 _ _ _) (by omega) ?_
  unfold wX6_feed_18
  refine brY (by decide) ?_
  rw [stepT_14]
  exact hq
theorem RTn.four {V : CV} {T : TS} {m : Nat} (h : RTn V T m) (hm : m + 4 ≤ 96) (a : Int32) : RTn (fourV V m a) (fourT T m a) (m + 4) :=
  (((h.step (by omega) _).step (by omega) _).step (by omega) _).step (by omega) _
theorem tpV_four {V V' : CV} {m : Nat} {x : Int32} (h : tpV V V') : tpV V (fourV V' m x) := tpV_step (tpV_step (tpV_step (tpV_step h)))
theorem tpT_four {T T' : TS} {m : Nat} {x : Int32} (h : tpT T T') : tpT T (fourT T' m x) := tpT_step (tpT_step (tpT_step (tpT_step h)))
theorem tpV.rf {V : CV} : tpV V V := ⟨⟨rfl, rfl, rfl, rfl, rfl, rfl, rfl, rfl, rfl, rfl⟩, rfl, rfl⟩
theorem tpT.rf {T : TS} : tpT T T := ⟨⟨rfl, fun _ _ => rfl⟩, rfl, rfl⟩
theorem op_feed {V : CV} {T : TS} (hr : Rel V T) (a c z : Int32) : wX0_feed a c z V (fun r V1 => wX6_feed a c z T (fun r2 T2 => r = r2 ∧ Rel V1 T2)) := by
  obtain ⟨m, h⟩ := hr.2.2.2.1
  have h' : RTn V T m := h
  obtain ⟨h1, h2, h3, -⟩ := h
  have e12 : nI m + 12 = nI (m + 12) := nI_add m 12
  unfold wX0_feed wX6_feed
  rw [h2, h3, e12]
  by_cases hm : m + 12 ≤ 96
  · have c1 : nI (m + 12) ≤ 96 := nI_le (b := 96) hm (by omega)
    refine brY c1 (four0 h2 (by omega) (four0 (stepV_6 _ _ _) (by omega) (four0 (stepV_6 _ _ _) (by omega) ?_)))
    refine brY c1 ⟨13, feed6 h3 hm ⟨?_, ?_⟩⟩
    · exact stepV_6 _ _ _
    · exact hr.tp (tpV_four (tpV_four (tpV_four tpV.rf))) (tpT_four (tpT_four (tpT_four tpT.rf))) (((h'.four (by omega) a).four (by omega) c).four (by omega) z)
  · have c1 : ¬ nI (m + 12) ≤ 96 := fun q => hm ((nI_leI (b := 96) (by omega) (by omega)).mp q)
    exact brN c1 (brN c1 ⟨rfl, hr⟩)
theorem op_trim {V : CV} {T : TS} (hr : Rel V T) (a : Int32) : wX0_trim a V (fun r V1 => wX6_trim a T (fun r2 T2 => r = r2 ∧ Rel V1 T2)) := by
  obtain ⟨m, h1, h2, h3, h4⟩ := hr.2.2.2.1
  unfold wX0_trim wX6_trim
  rw [h2, h3]
  by_cases ha : inI a 0 (nI m)
  · refine isIn0_y ha (br1 (isIn6_y ha (br1 ⟨rfl, ?_⟩)))
    obtain ⟨p, hp, rfl⟩ := (in_lit (by omega)).mp ha
    refine hr.tp (n := p) ⟨⟨rfl, rfl, rfl, rfl, rfl, rfl, rfl, rfl, ?_, rfl⟩, ?_, rfl⟩ ⟨⟨tf_n (by decide), fun k hk => rfl⟩, tf_n (by decide), rfl⟩ ⟨by omega, ?_, tf_s _ _ _, fun k hk => h4 k (by omega)⟩
    · simp [cvs]
    · simp [cvs]
    · simp [cvs]
  · exact isIn0_n ha (br0 (isIn6_n ha (br0 ⟨rfl, hr⟩)))
theorem op_tell {V : CV} {T : TS} (hr : Rel V T) (a : Int32) : wX0_tell a V (fun r V1 => wX6_tell a T (fun r2 T2 => r = r2 ∧ Rel V1 T2)) := by
  obtain ⟨m, h1, h2, h3, h4⟩ := hr.2.2.2.2.1
  unfold wX0_tell wX6_tell
  rw [h2, h3]
  refine pk_eq m 60 (fun e => brY (by rw [e]; rfl) ⟨rfl, hr⟩) (fun e => ?_)
  refine ⟨vp_in_nI (by omega) (by omega), brN (fun q => e ((nI_eq (b := 60) (by omega) (by omega)).mp q)) ⟨vp_in_nI (by omega) (by omega), ?_⟩⟩
  rw [nI_clamp (by omega)]
  have e1 : vI (sA V 22 m a) 23 + 1 = nI (m + 1) := by rw [← nI_1, ← h2]; rfl
  have e2 : (ts T 28 m a).1 29 + 1 = nI (m + 1) := by rw [ts_1, h3, nI_1]
  rw [e1, e2, tf_s]
  refine ⟨by simp [cvs], ?_⟩
  refine hr.off ⟨rfl, rfl, rfl, rfl, rfl, rfl, rfl, rfl, by simp [cvs], rfl⟩ ⟨tf_n (by decide), fun k hk => by rw [tf_2, ts_n (by omega)]⟩ ?_ ⟨m + 1, by omega, by simp [cvs], tf_s _ _ _, fun k hk => ?_⟩
  · obtain ⟨q, g1, g2, g3, g4⟩ := hr.2.2.2.1
    refine ⟨q, g1, ?_, ?_, ?_⟩
    · rw [← g2]; simp [cvs]
    · rw [tf_n (by decide)]; exact g3
    · rw [tf_2, ts_n (by decide)]
      intro k hk
      obtain ⟨ch, c1, c2, c3⟩ := g4 k hk
      exact ⟨ch, c1, c2, by rw [← c3]; simp [cvs]⟩
  · rw [tf_2, ts_s]
    by_cases e : k = m
    · subst e
      rw [upd_s]
      simp [cvs]
    · rw [upd_n e, ← h4 k (by omega)]
      simp [cvs, e]
theorem orN6' {r : Int32} (h : r = -1 ∨ ∃ k, k < 2 ^ 31 ∧ r = nI k) {Q : Int32 → Prop} (hq : Q (orN r)) : wX6_orNone r Q := by
  unfold orN at hq
  rcases h with rfl | ⟨k, hk, rfl⟩
  · exact brN (by decide) hq
  · rw [if_neg (nI_m1 hk)] at hq
    exact brY (nn0 hk) hq
theorem op_why {V : CV} {T : TS} (hr : Rel V T) (a : Int32) : wX0_why a V (fun r V1 => wX6_why a T (fun r2 T2 => r = r2 ∧ Rel V1 T2)) := by
  obtain ⟨n, dn, tn, h0⟩ := hr.1
  have htn := h0.1.2.2
  unfold wX0_why wX6_why
  by_cases ha : inI a 0 2
  · refine isIn0_y ha (br1 (cnt0 h0 (orN0 (isIn6_y ha (br1 (cnt6 h0 (orN6' ?_ ⟨rfl, hr⟩)))))))
    rcases cnt_or (T.2 0) a tn with h | ⟨t, ht, h, -⟩
    · exact Or.inl h
    · exact Or.inr ⟨t, by omega, h⟩
  · exact isIn0_n ha (br0 (isIn6_n ha (br0 ⟨rfl, hr⟩)))
theorem op_textTold {V : CV} {T : TS} (hr : Rel V T) (a c : Int32) : wX0_textTold a c V (fun r V1 => wX6_textTold a c T (fun r2 T2 => r = r2 ∧ Rel V1 T2)) := by
  obtain ⟨n, dn, tn, h0⟩ := hr.1
  have htn := h0.1.2.2
  obtain ⟨t1, t2⟩ := h0.2.2.2.1
  unfold wX0_textTold wX6_textTold wX6_isText wX6_textAt
  rw [t1, show T.2 0 (2 : Int32).toNatClampNeg = nI tn from t2]
  have hin2 : vp_in (2 : Int32) 3114 := pk_in 2 3114 (by omega)
  by_cases ha : inI a 0 (nI tn - 1)
  · by_cases hc : inI c 0 1
    · refine isIn0_y ha (br1 (isIn0_y hc (br1 ?_)))
      have ha' := ha
      obtain ⟨t, ht, rfl⟩ := (in_n (by omega) a).mp ha
      obtain ⟨ad, kn, w, mn, wa, va, m, f, g, h, x1, x2, x3, x4, x5, -⟩ := h0.2.2.2.2.2.2.2.2.2.2.2 t ht
      have hv : vp_in (nI t) 14 := vp_in_nI (by omega) (by omega)
      rw [nI_clamp (by omega)]
      obtain ⟨b, hb⟩ := in01.mp hc
      refine brI (fun e => ⟨hv, ad, x1, nI kn, w, mn, x2, ?_⟩) (fun e => ⟨hv, ad, x1, nI kn, w, mn, x2, ?_⟩)
      · refine ⟨hin2, isIn6_y ha' ⟨nar1, br1 (isIn6_y hc (br1 ?_))⟩⟩
        subst e
        dsimp only
        rw [tx_x, show (0 : Int32) = nI 0 from rfl, nI_add]
        refine ⟨vp_in_nI (by omega) (by omega), ?_⟩
        rw [nI_clamp (by omega)]
        exact ⟨x4.symm, hr⟩
      · refine ⟨hin2, isIn6_y ha' ⟨nar1, br1 (isIn6_y hc (br1 ?_))⟩⟩
        have e1 : c = 1 := by
          cases b
          · exact absurd hb e
          · exact hb
        subst e1
        dsimp only
        rw [tx_x, show (1 : Int32) = nI 1 from rfl, nI_add]
        refine ⟨vp_in_nI (by omega) (by omega), ?_⟩
        rw [nI_clamp (by omega)]
        exact ⟨x5.symm, hr⟩
    · exact isIn0_y ha (br1 (isIn0_n hc (br0 ⟨hin2, isIn6_y ha ⟨nar1, br1 (isIn6_n hc (br0 ⟨rfl, hr⟩))⟩⟩)))
  · exact isIn0_n ha (br0 ⟨hin2, isIn6_n ha ⟨nar0, br0 ⟨rfl, hr⟩⟩⟩)
