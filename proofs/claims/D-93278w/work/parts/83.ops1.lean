set_option maxRecDepth 100000
/-! GUARDS of both sides -/
theorem per_y0 {V : CV} {n p : Nat} {Q : Int32 → CV → Prop} (h : vS V 0 2 = nI n) (hn : n ≤ 12) (hp : p < n) (hq : Q 1 V) : wX0_isPerson (nI p) V Q := by
  unfold wX0_isPerson
  rw [h]
  exact isIn0_y ((in_n (by omega) _).mpr ⟨p, hp, rfl⟩) ⟨nar1, hq⟩
theorem per_n0 {V : CV} {n : Nat} {a : Int32} {Q : Int32 → CV → Prop} (h : vS V 0 2 = nI n) (hn : n ≤ 12) (ha : ¬ ∃ p, p < n ∧ a = nI p) (hq : Q 0 V) : wX0_isPerson a V Q := by
  unfold wX0_isPerson
  rw [h]
  exact isIn0_n (fun q => ha ((in_n (by omega) _).mp q)) ⟨nar0, hq⟩
theorem per_y6 {T : TS} {n p : Nat} {Q : Int32 → TS → Prop} (h : T.2 0 0 = nI n) (hn : n ≤ 12) (hp : p < n) (hq : Q 1 T) : wX6_isPerson (nI p) T Q := by
  unfold wX6_isPerson
  refine ⟨pk_in 0 3114 (by omega), ?_⟩
  show wX6_isIn _ _ ((T.2 0 0 - 1).toInt64) _
  rw [h]
  exact isIn6_y ((in_n (by omega) _).mpr ⟨p, hp, rfl⟩) ⟨nar1, hq⟩
theorem per_n6 {T : TS} {n : Nat} {a : Int32} {Q : Int32 → TS → Prop} (h : T.2 0 0 = nI n) (hn : n ≤ 12) (ha : ¬ ∃ p, p < n ∧ a = nI p) (hq : Q 0 T) : wX6_isPerson a T Q := by
  unfold wX6_isPerson
  refine ⟨pk_in 0 3114 (by omega), ?_⟩
  show wX6_isIn _ _ ((T.2 0 0 - 1).toInt64) _
  rw [h]
  exact isIn6_n (fun q => ha ((in_n (by omega) _).mp q)) ⟨nar0, hq⟩
theorem dee_y0 {V : CV} {n p : Nat} {Q : Int32 → CV → Prop} (h : vS V 0 7 = nI n) (hn : n ≤ 8) (hp : p < n) (hq : Q 1 V) : wX0_isDeed (nI p) V Q := by
  unfold wX0_isDeed
  rw [h]
  exact isIn0_y ((in_n (by omega) _).mpr ⟨p, hp, rfl⟩) ⟨nar1, hq⟩
theorem dee_n0 {V : CV} {n : Nat} {a : Int32} {Q : Int32 → CV → Prop} (h : vS V 0 7 = nI n) (hn : n ≤ 8) (ha : ¬ ∃ p, p < n ∧ a = nI p) (hq : Q 0 V) : wX0_isDeed a V Q := by
  unfold wX0_isDeed
  rw [h]
  exact isIn0_n (fun q => ha ((in_n (by omega) _).mp q)) ⟨nar0, hq⟩
theorem dee_y6 {T : TS} {n p : Nat} {Q : Int32 → TS → Prop} (h : T.2 0 1 = nI n) (hn : n ≤ 8) (hp : p < n) (hq : Q 1 T) : wX6_isDeed (nI p) T Q := by
  unfold wX6_isDeed
  refine ⟨pk_in 1 3114 (by omega), ?_⟩
  show wX6_isIn _ _ ((T.2 0 1 - 1).toInt64) _
  rw [h]
  exact isIn6_y ((in_n (by omega) _).mpr ⟨p, hp, rfl⟩) ⟨nar1, hq⟩
theorem dee_n6 {T : TS} {n : Nat} {a : Int32} {Q : Int32 → TS → Prop} (h : T.2 0 1 = nI n) (hn : n ≤ 8) (ha : ¬ ∃ p, p < n ∧ a = nI p) (hq : Q 0 T) : wX6_isDeed a T Q := by
  unfold wX6_isDeed
  refine ⟨pk_in 1 3114 (by omega), ?_⟩
  show wX6_isIn _ _ ((T.2 0 1 - 1).toInt64) _
  rw [h]
  exact isIn6_n (fun q => ha ((in_n (by omega) _).mp q)) ⟨nar0, hq⟩
theorem bec6 {T : TS} {x v : Int32} {Q : Int32 → TS → Prop} (a : Nat) (hx : x = nI a) (ha : a < 3114) (hq : Q (T.2 0 a) (ts T 0 a v)) : wX6_becomes x v T Q := by
  subst hx
  unfold wX6_becomes
  rw [nI_clamp (by omega)]
  exact ⟨vp_in_nI ha (by omega), vp_in_nI ha (by omega), hq⟩
theorem of6 {T : TS} {p : Nat} {y : Int32} {Q : Int32 → TS → Prop} (j : Nat) (hp : p < 12) (hj : j < 5) (hq : Q (T.2 0 (6 + 5 * p + j)) T) (hy : y = nI j := by rfl) : wX6_of (nI p) y T Q := by
  subst hy
  unfold wX6_of
  rw [of_x, nI_add, nI_clamp (by omega)]
  exact ⟨vp_in_nI (by omega) (by omega), hq⟩
theorem dee6 {T : TS} {p : Nat} {y : Int32} {Q : Int32 → TS → Prop} (j : Nat) (hp : p < 8) (hj : j < 6) (hq : Q (T.2 0 (66 + 6 * p + j)) T) (hy : y = nI j := by rfl) : wX6_dee (nI p) y T Q := by
  subst hy
  unfold wX6_dee
  rw [de_x, nI_add, nI_clamp (by omega)]
  exact ⟨vp_in_nI (by omega) (by omega), hq⟩
/-! ===== one bit ===== -/
def b01 (b : Bool) : Int32 := if b = true then 1 else 0
def bset (x : Int32) (q : Nat) (b : Bool) : Int32 := if b = true then x ||| one q else x &&& cmpl (one q)
theorem b_bset {x : Int32} {q : Nat} (hq : q < 32) (b : Bool) {i : Nat} (hi : i < 32) : bt (bset x q b) i = if i = q then b else bt x i := by
  unfold bset
  cases b
  · rw [if_neg (by decide), b_and, b_cmpl _ hi, b_one hq hi]
    by_cases h : i = q <;> simp [h]
  · rw [if_pos rfl, b_or, b_one hq hi]
    by_cases h : i = q <;> simp [h]
theorem b01_0 {b : Bool} : b01 b = 0 ↔ b = false := by cases b <;> simp [b01]
theorem bset_x {x : Int32} {q : Nat} (hq : q < 32) (b : Bool) : x ^^^ ((((x >>> (nI q &&& 31)) &&& (1 : Int32)) ^^^ b01 b) <<< (nI q &&& 31)) = bset x q b := by
  rw [bt_test x hq]
  apply b_ext
  intro i hi
  rw [b_bset hq b hi, b_xor, b_shl q hq _ hi, b_xor]
  have h1 : ∀ j, bt (1 : Int32) j = decide (j = 0) := fun j => by
    rcases Nat.lt_or_ge j 32 with h | h
    · exact (by decide +kernel : ∀ j, j < 32 → bt (1 : Int32) j = decide (j = 0)) j h
    · rw [b_big h, decide_eq_false (by omega)]
  by_cases h : i = q
  · subst h
    cases hx : bt x i <;> cases b <;> simp [b01, h1, b_0]
  · by_cases h2 : q ≤ i
    · have h3 : i - q ≠ 0 := by omega
      cases hx : bt x q <;> cases b <;> simp [b01, h1, b_0, h, h2, h3]
    · simp [h, h2]
theorem bit6 {T : TS} {x : Int32} {q : Nat} {b : Bool} {Q : Int32 → TS → Prop} (a : Nat) (hx : x = nI a) (ha : a < 3114) (hq : q < 32) (h : Q (b01 (bt (T.2 0 a) q)) (ts T 0 a (bset (T.2 0 a) q b))) : wX6_bitBecomes x (nI q) (b01 b) T Q := by
  subst hx
  unfold wX6_bitBecomes
  rw [nI_clamp (by omega), bset_x hq, bt_test _ hq]
  exact ⟨vp_in_nI ha (by omega), vp_in_nI ha (by omega), vp_in_nI ha (by omega), h⟩
theorem has0 {x : Int32} {q : Nat} {Q : Int32 → Prop} (hq : q < 32) (h : Q (b01 (bt x q))) : wX0_has x (nI q) Q := by
  unfold wX0_has
  cases hb : bt x q
  · rw [hb] at h
    exact brN (fun z => by rw [(bt_1 x hq).mp z] at hb; cases hb) h
  · rw [hb] at h
    exact brY ((bt_1 x hq).mpr hb) h
theorem bec0 {V : CV} {k p q : Nat} {b : Bool} {Q : Int32 → CV → Prop} (hk : k = 4 ∨ k = 5 ∨ k = 6) (hp : p < 12) (hq : q < 32) (h : Q (b01 (bt (vSA V 0 k p) q)) (sSA V 0 k p (bset (vSA V 0 k p) q b))) : wX0_becomes 0 k (nI p) (nI q) (b01 b) V Q := by
  have hin : vp_in (nI p) 12 := vp_in_nI hp (by omega)
  have h15 : ∀ z, Q z (sSA V 0 k p (bset (vSA V 0 k p) q b)) → wX0_becomes_15 0 k (nI p) (nI q) (b01 b) z V Q := by
    intro z hz
    unfold wX0_becomes_15 wX0_becomes_43
    rw [nI_clamp (by omega)]
    cases b
    · exact brN (by decide) ⟨hin, hin, hz⟩
    · exact brY rfl ⟨hin, hin, hz⟩
  refine ⟨by decide, hk, hin, ?_⟩
  rw [nI_clamp (by omega)]
  refine has0 hq ?_
  cases hb : bt (vSA V 0 k p) q
  · rw [hb] at h
    exact br0 (h15 _ h)
  · rw [hb] at h
    exact br1 (h15 _ h)
theorem in01 {x : Int32} : inI x 0 1 ↔ ∃ b, x = b01 b := by
  rw [show (1 : Int32) = nI 1 from rfl, in_lit (by decide)]
  constructor
  · rintro ⟨p, hp, rfl⟩
    match p, hp with
    | 0, _ => exact ⟨false, rfl⟩
    | 1, _ => exact ⟨true, rfl⟩
  · rintro ⟨b, rfl⟩
    cases b
    · exact ⟨0, by omega, rfl⟩
    · exact ⟨1, by omega, rfl⟩
/-! ===== State 0 and the twin's row: what a change of one number keeps ===== -/
theorem TxR.X {V : CV} {t : Option Nat} {X X' : Nat → Int32} {tb : Nat} (hb : 114 ≤ tb) (hX : ∀ j, 114 ≤ j → X' j = X j) (h : TxR V t X tb) : TxR V t X' tb := by
  obtain ⟨a, key, w, mn, wa, va, n, f, g, hh, h1, h2, h3, h4, h5, h6, h7, h8, h9, h10, h11, h12⟩ := h
  refine ⟨a, key, w, mn, wa, va, n, f, g, hh, h1, h2, h3, ?_, ?_, ?_, h7, h8, h9, h10, fun k hk => ?_, h12⟩
  · rw [hX _ hb]; exact h4
  · rw [hX _ (by omega)]; exact h5
  · rw [hX _ (by omega)]; exact h6
  · rw [hX _ (by omega), hX _ (by omega)]; exact h11 k hk
theorem RS.n0 {V : CV} {i : Nat} {X : Nat → Int32} {n dn tn : Nat} (h : RS V i X n dn tn) : vS V i 2 = nI n ∧ X 0 = nI n := h.2.1
theorem RS.d0 {V : CV} {i : Nat} {X : Nat → Int32} {n dn tn : Nat} (h : RS V i X n dn tn) : vS V i 7 = nI dn ∧ X 1 = nI dn := h.2.2.1
theorem RS_stop {V : CV} {X : Nat → Int32} {n dn tn : Nat} (h : RS V 0 X n dn tn) (v : Int32) : RS (sS V 0 1 v) 0 (upd X 3 v) n dn tn := by
  obtain ⟨h1, h2, h3, h4, h5, h6, h7, h8, h9, h10, h11, h12⟩ := h
  refine ⟨h1, ?_, ?_, ?_, ?_, ?_, fun p hp => ?_, fun p hp => ?_, fun p hp => ?_, fun d hd => ?_, fun d hd => ?_, fun t ht => (h12 t ht).X (by omega) (fun j hj => upd_n (by omega))⟩
  · rw [upd_n (by omega)]; simpa [cvs] using h2
  · rw [upd_n (by omega)]; simpa [cvs] using h3
  · rw [upd_n (by omega)]; simpa [cvs] using h4
  · rw [upd_s]; simp [cvs]
  · rw [upd_n (by omega)]; simpa [cvs] using h6
  · rw [upd_n (by omega), upd_n (by omega)]; exact h7 p hp
  · rw [upd_n (by omega), upd_n (by omega), upd_n (by omega)]; exact h8 p hp
  · obtain ⟨g1, g2, g3⟩ := h9 p hp
    rw [upd_n (by omega), upd_n (by omega)]
    exact ⟨g1, g2, fun q hq => by rw [upd_n (by omega)]; exact g3 q hq⟩
  · have := h10 d hd
    rw [upd_n (by omega), upd_n (by omega), upd_n (by omega), upd_n (by omega), upd_n (by omega), upd_n (by omega)]
    exact this
  · have := h11 d hd
    rw [upd_n (by omega), upd_n (by omega), upd_n (by omega)]
    exact this
theorem RS_seed {V : CV} {X : Nat → Int32} {n dn tn : Nat} (h : RS V 0 X n dn tn) (v : Int32) : RS (sS V 0 0 v) 0 (upd X 4 v) n dn tn := by
  obtain ⟨h1, h2, h3, h4, h5, h6, h7, h8, h9, h10, h11, h12⟩ := h
  refine ⟨h1, ?_, ?_, ?_, ?_, ?_, fun p hp => ?_, fun p hp => ?_, fun p hp => ?_, fun d hd => ?_, fun d hd => ?_, fun t ht => (h12 t ht).X (by omega) (fun j hj => upd_n (by omega))⟩
  · rw [upd_n (by omega)]; simpa [cvs] using h2
  · rw [upd_n (by omega)]; simpa [cvs] using h3
  · rw [upd_n (by omega)]; simpa [cvs] using h4
  · rw [upd_n (by omega)]; simpa [cvs] using h5
  · rw [upd_s]; simp [cvs]
  · rw [upd_n (by omega), upd_n (by omega)]; exact h7 p hp
  · rw [upd_n (by omega), upd_n (by omega), upd_n (by omega)]; exact h8 p hp
  · obtain ⟨g1, g2, g3⟩ := h9 p hp
    rw [upd_n (by omega), upd_n (by omega)]
    exact ⟨g1, g2, fun q hq => by rw [upd_n (by omega)]; exact g3 q hq⟩
  · have := h10 d hd
    rw [upd_n (by omega), upd_n (by omega), upd_n (by omega), upd_n (by omega), upd_n (by omega), upd_n (by omega)]
    exact this
  · have := h11 d hd
    rw [upd_n (by omega), upd_n (by omega), upd_n (by omega)]
    exact this
/-- a person's numbers change: X' and V' differ at the persons alone -/
theorem RS_per {V V' : CV} {X X' : Nat → Int32} {n dn tn : Nat} (h : RS V 0 X n dn tn) (hX : ∀ j, j < 6 ∨ 66 ≤ j → X' j = X j) (hS : vS V' 0 = vS V 0) (hD : vD V' 0 = vD V 0) (hT : vTx V' 0 = vTx V 0) (hk : ∀ a e, vM V a = some e → ¬ spE e → vM V' a = some e)
    (h7 : ∀ p, p < n → SpR V' 0 p (X' (6 + 5 * p)) (X' (6 + 5 * p + 1))) (h8 : ∀ p, p < n → vSA V' 0 4 p = X' (6 + 5 * p + 2) ∧ vSA V' 0 5 p = X' (6 + 5 * p + 3) ∧ vSA V' 0 6 p = X' (6 + 5 * p + 4)) (h9 : ∀ p, p < n → subn n (X' (6 + 5 * p + 3)) ∧ subn n (X' (6 + 5 * p + 4)) ∧ ∀ q, q < n → bt (X' (6 + 5 * p + 3)) q = bt (X' (6 + 5 * q + 3)) p) : RS V' 0 X' n dn tn := by
  obtain ⟨h1, h2, h3, h4, h5, h6, -, -, -, h10, h11, h12⟩ := h
  refine ⟨h1, ?_, ?_, ?_, ?_, ?_, h7, h8, h9, fun d hd => ?_, fun d hd => ?_, fun t ht => ?_⟩
  · rw [hX _ (by omega), hS]; exact h2
  · rw [hX _ (by omega), hS]; exact h3
  · rw [hX _ (by omega), hS]; exact h4
  · rw [hX _ (by omega), hS]; exact h5
  · rw [hX _ (by omega), hS]; exact h6
  · rw [hX _ (by omega), hX _ (by omega), hX _ (by omega), hX _ (by omega), hX _ (by omega), hX _ (by omega), hD]
    exact h10 d hd
  · rw [hX _ (by omega), hX _ (by omega), hX _ (by omega)]
    exact h11 d hd
  · rw [hT]
    exact ((h12 t ht).X (by omega) (fun j hj => hX j (by omega))).keep hk
theorem op_stop {V : CV} {T : TS} (hr : Rel V T) (a : Int32) : wX0_stop a V (fun r V1 => wX6_stop a T (fun r2 T2 => r = r2 ∧ Rel V1 T2)) := by
  obtain ⟨n, dn, tn, h0⟩ := hr.1
  unfold wX0_stop wX6_stop
  by_cases ha : inI a 0 4
  · refine isIn0_y ha (br1 (isIn6_y ha (br1 (bec6 3 rfl (by omega) ⟨h0.2.2.2.2.1, hr.st0s restV_S restT_ts rfl rfl rfl ⟨n, dn, tn, ?_⟩⟩))))
    rw [ts_s]
    exact RS_stop h0 a
  · exact isIn0_n ha (br0 (isIn6_n ha (br0 ⟨rfl, hr⟩)))
theorem op_seed {V : CV} {T : TS} (hr : Rel V T) (a : Int32) : wX0_seed a V (fun r V1 => wX6_seed a T (fun r2 T2 => r = r2 ∧ Rel V1 T2)) := by
  obtain ⟨n, dn, tn, h0⟩ := hr.1
  unfold wX0_seed wX6_seed
  refine bec6 4 rfl (by omega) ⟨h0.2.2.2.2.2.1, hr.st0s restV_S restT_ts rfl rfl rfl ⟨n, dn, tn, ?_⟩⟩
  rw [ts_s]
  exact RS_seed h0 a
/-- both draw the same number -/
theorem draw_both {V : CV} {T : TS} {n dn tn : Nat} (hr : Rel V T) (h0 : RS V 0 (T.2 0) n dn tn) : ∃ r V' T', (∀ Q, Q r V' → wX1_draw 0 V Q) ∧ (∀ Q, Q r T' → wX6_drawn T Q) ∧ Rel V' T' ∧ RS V' 0 (T'.2 0) n dn tn ∧ (∃ k : Nat, k < 2 ^ 24 ∧ r = nI k) := by
  have e : vS V 0 0 = T.2 0 4 := h0.2.2.2.2.2.1
  have hx : (ts T 0 4 (T.2 0 4 * 1103515245 + 12345)).2 0 4 = T.2 0 4 * 1103515245 + 12345 := by rw [ts_s, upd_s]
  have hR : RS (sS V 0 0 (vS V 0 0 * 1103515245 + 12345)) 0 ((ts T 0 4 (T.2 0 4 * 1103515245 + 12345)).2 0) n dn tn := by
    rw [ts_s, e]
    exact RS_seed h0 _
  refine ⟨((T.2 0 4 * 1103515245 + 12345).toUInt32 >>> ((8 : Int32).toUInt32 &&& Int32.toUInt32 31)).toInt32, sS V 0 0 (vS V 0 0 * 1103515245 + 12345), ts T 0 4 (T.2 0 4 * 1103515245 + 12345), fun Q hq => ?_, fun Q hq => ?_, hr.st0s restV_S restT_ts rfl rfl rfl ⟨n, dn, tn, hR⟩, hR, ?_⟩
  · refine ⟨by decide, ?_⟩
    have : vS (sS V 0 0 (vS V 0 0 * 1103515245 + 12345)) 0 0 = T.2 0 4 * 1103515245 + 12345 := by simp [cvs, e]
    rw [this]
    exact hq
  · refine ⟨pk_in 4 3114 (by omega), pk_in 4 3114 (by omega), pk_in 4 3114 (by omega), ?_⟩
    show Q (((ts T 0 4 (T.2 0 4 * 1103515245 + 12345)).2 0 4).toUInt32 >>> _).toInt32 _
    rw [hx]
    exact hq
  · generalize T.2 0 4 * 1103515245 + 12345 = y
    have h1 := pk_ushr y 8 8 (by decide +kernel)
    refine ⟨y.toBitVec.toNat / 2 ^ 8, ?_, ?_⟩
    · have := y.toBitVec.isLt
      omega
    · apply Int32.toBitVec_inj.mp
      apply BitVec.eq_of_toNat_eq
      rw [h1, pk_tn (by have := y.toBitVec.isLt; omega)]
/-- the cell of a person's speaker changes its boldness -/
theorem op_bolder {V : CV} {T : TS} (hr : Rel V T) (a b : Int32) : wX0_bolder a b V (fun r V1 => wX6_bolder a b T (fun r2 T2 => r = r2 ∧ Rel V1 T2)) := by
  obtain ⟨n, dn, tn, h0⟩ := hr.1
  have hn := h0.1.1
  unfold wX0_bolder wX6_bolder wX0_isBold
  by_cases ha : ∃ p, p < n ∧ a = nI p
  · obtain ⟨p, hp, rfl⟩ := ha
    refine per_y0 h0.n0.1 hn hp (br1 ?_)
    by_cases hb : inI b 0 100
    · refine isIn0_y hb ⟨nar1, br1 ⟨vp_in_nI (by omega) (by omega), ?_⟩⟩
      obtain ⟨ad, kn, g1, g2, g3, g4⟩ := h0.2.2.2.2.2.2.1 p hp
      have hsp : isSpk (7 + kn) := ⟨by omega, by omega⟩
      rw [nI_clamp (by omega)]
      refine ⟨ad, g3, 7 + kn, _, hsp, g4, vp_in_nI (by omega) (by omega), ad, g3, 7 + kn, _, hsp, g4, ?_⟩
      refine per_y6 h0.n0.2 hn hp (br1 (isIn6_y hb (br1 (bec6 (6 + 5 * p + 1) (of_1 p) (by omega) ⟨rfl, ?_⟩))))
      have hM : ∀ a e, vM V a = some e → ¬ spE e → vM (sM V (hset (vM V) ad (eSp (7 + kn) b))) a = some e := fun a e h hne => by
        show hset (vM V) ad (eSp (7 + kn) b) a = some e
        rw [hset_n (fun q => by subst q; exact hne ⟨kn, _, g1, Option.some.inj (h.symm.trans g4)⟩)]
        exact h
      refine hr.st0 restV_M restT_ts (fun x e h => ?_) (fun p' hp' x h => Or.inl h) (fun p1 p2 x h1 h2 hx h _ => ?_) (fun t x ht h => ?_) ⟨n, dn, tn, ?_⟩
      · by_cases hx : x = ad
        · subst hx
          exact Or.inr ⟨p, by omega, g3, _, hset_s _ _ _, kn, b, g1, rfl⟩
        · exact Or.inl ((hset_n hx).trans h)
      · obtain ⟨kn', b', -, q⟩ := hr.2.2.2.2.2.2.2.1 0 p1 x (by decide) h1 h
        rw [hx] at q
        cases q
      · obtain ⟨x1, x2, x3, q⟩ := hr.2.2.2.2.2.2.2.2.2.2.2.1 0 t x (by decide) ht h
        exact ⟨x1, x2, x3, hM _ _ q ns_tx⟩
      · rw [ts_s]
        refine RS_per h0 (fun j hj => upd_n (by omega)) rfl rfl rfl hM (fun p' hp' => ?_) (fun p' hp' => ?_) (fun p' hp' => ?_)
        · rw [upd_n (by omega)]
          by_cases hpp : p' = p
          · subst hpp
            rw [upd_s]
            exact ⟨ad, kn, g1, g2, g3, hset_s _ _ _⟩
          · rw [upd_n (by omega)]
            obtain ⟨ad', kn', f1, f2, f3, f4⟩ := h0.2.2.2.2.2.2.1 p' hp'
            refine ⟨ad', kn', f1, f2, f3, (hset_n (fun q => ?_)).trans f4⟩
            subst q
            exact hpp (hr.2.2.2.2.2.2.2.2.1 0 p' 0 p ad' (by decide) (by omega) (by decide) (by omega) f3 g3).2
        · rw [upd_n (by omega), upd_n (by omega), upd_n (by omega)]
          exact h0.2.2.2.2.2.2.2.1 p' hp'
        · obtain ⟨f1, f2, f3⟩ := h0.2.2.2.2.2.2.2.2.1 p' hp'
          rw [upd_n (by omega), upd_n (by omega)]
          exact ⟨f1, f2, fun q hq => by rw [upd_n (by omega)]; exact f3 q hq⟩
    · exact isIn0_n hb ⟨nar0, br0 (per_y6 h0.n0.2 hn hp (br1 (isIn6_n hb (br0 ⟨rfl, hr⟩))))⟩
  · exact per_n0 h0.n0.1 hn ha (br0 (per_n6 h0.n0.2 hn ha (br0 ⟨rfl, hr⟩)))
