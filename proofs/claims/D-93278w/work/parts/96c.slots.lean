set_option maxRecDepth 100000
/-! ===== sheets and slots are read: rest, as, ask, item, reads ===== -/
theorem fl_rnd {s : Bool} {m : Nat} (h0 : m ≠ 0) (h : m < 2 ^ 17) : ∃ k : Nat, k ≤ 16 ∧ 2 ^ k ≤ m ∧ m < 2 ^ (k + 1) ∧ FP.Core.round FP.Core.b32 (.fin s m 0) = .fin s (m * 2 ^ (23 - k)) ((k : Int) - 23) := by
  have hk1 : 2 ^ m.log2 ≤ m := Nat.log2_self_le h0
  have hk2 : m < 2 ^ (m.log2 + 1) := Nat.lt_log2_self
  have hk : m.log2 < 17 := (Nat.pow_lt_pow_iff_right (by omega)).mp (Nat.lt_of_le_of_lt hk1 h)
  refine ⟨m.log2, by omega, hk1, hk2, ?_⟩
  have hl : FP.Core.leading m 1 = (m.log2 : Int) := by
    have e0 : Nat.log2 1 = 0 := by decide
    have e1 : ((m.log2 : Int) - (0 : Nat)) = (m.log2 : Int) := by omega
    have e2 : ((m.log2 : Int)).toNat = m.log2 := by omega
    have e3 : (-(m.log2 : Int)).toNat = 0 := by omega
    unfold FP.Core.leading
    rw [e0, e1]
    dsimp only
    rw [e2, e3, if_pos (by omega)]
  have hqm : FP.Core.b32.qmin = -149 := by decide
  have hqx : FP.Core.b32.qmax = 104 := by decide
  have hp : ((FP.Core.b32.p : Nat) : Int) = 24 := by decide
  have hq : FP.Core.quantum FP.Core.b32 m 1 0 = (m.log2 : Int) - 23 := by
    unfold FP.Core.quantum
    rw [hl, hqm, hp]
    omega
  unfold FP.Core.round FP.Core.roundRatio
  dsimp only
  rw [if_neg h0, hq]
  unfold FP.Core.roundAt FP.Core.unitsNum FP.Core.unitsDen
  have f1 : (0 - ((m.log2 : Int) - 23)).toNat = 23 - m.log2 := by omega
  have f2 : (((m.log2 : Int) - 23) - 0).toNat = 0 := by omega
  rw [f1, f2]
  have hP : 2 ^ m.log2 * 2 ^ (23 - m.log2) = 2 ^ 23 := by rw [← Nat.pow_add, show m.log2 + (23 - m.log2) = 23 by omega]
  have hP1 : 0 < 2 ^ (23 - m.log2) := Nat.pow_pos (by omega)
  have hc : m * 2 ^ (23 - m.log2) < 2 ^ 24 := by
    have := Nat.mul_lt_mul_of_pos_right hk2 hP1
    rw [Nat.pow_succ, Nat.mul_right_comm, hP] at this
    omega
  have hn : FP.Core.nearest (m * 2 ^ (23 - m.log2)) (1 * 2 ^ 0) = m * 2 ^ (23 - m.log2) := by
    have e1 : (1 * 2 ^ 0 : Nat) = 1 := rfl
    rw [e1]
    unfold FP.Core.nearest
    rw [if_pos (by rw [Nat.mod_one]; omega), Nat.div_one]
  rw [hn]
  unfold FP.Core.settle FP.Core.bound
  rw [if_pos (show m * 2 ^ (23 - m.log2) < 2 ^ FP.Core.b32.p from hc), if_pos (by rw [hqx]; omega)]
theorem fl_dec {v : Int32} (h0 : v.toInt.natAbs ≠ 0) (h : v.toInt.natAbs < 2 ^ 17) : ∃ s c q, FP.Core.decode FP.Core.b32 (FP.i2f v).toNat = .fin s c q ∧ FP.Core.truncate s c q = v.toInt := by
  obtain ⟨m, hm⟩ : ∃ m, m = v.toInt.natAbs := ⟨_, rfl⟩
  obtain ⟨s, hs⟩ : ∃ s, s = decide (v.toInt < 0) := ⟨_, rfl⟩
  rw [← hm] at h0 h
  obtain ⟨k, hk, hk1, hk2, hr⟩ := fl_rnd (s := s) h0 h
  have hP : 2 ^ k * 2 ^ (23 - k) = 2 ^ 23 := by rw [← Nat.pow_add, show k + (23 - k) = 23 by omega]
  have hP1 : 0 < 2 ^ (23 - k) := Nat.pow_pos (by omega)
  obtain ⟨c, hcc⟩ : ∃ c, c = m * 2 ^ (23 - k) := ⟨_, rfl⟩
  have hc1 : 2 ^ 23 ≤ c := by
    rw [hcc, ← hP]
    exact Nat.mul_le_mul_right _ hk1
  have hc2 : c < 2 ^ 24 := by
    have := Nat.mul_lt_mul_of_pos_right hk2 hP1
    rw [Nat.pow_succ, Nat.mul_right_comm, hP] at this
    rw [hcc]
    omega
  rw [← hcc] at hr
  have hqm : FP.Core.b32.qmin = -149 := by decide
  have hta : FP.Core.b32.tails = 8388608 := by decide
  have hex : FP.Core.b32.exps = 256 := by decide
  have henc : FP.Core.fromInt FP.Core.b32 v.toInt = (s.toNat * 256 + (k + 127)) * 8388608 + (c - 8388608) := by
    unfold FP.Core.fromInt FP.Core.ofInt
    rw [← hm, ← hs, hr]
    unfold FP.Core.encode FP.Core.assemble
    rw [hta, hex, hqm]
    dsimp only
    rw [if_neg (by omega)]
    have : ((k : Int) - 23 - -149).toNat + 1 = k + 127 := by omega
    rw [this]
  have hsb : s.toNat ≤ 1 := by cases s <;> decide
  obtain ⟨N, hN⟩ : ∃ N, N = (s.toNat * 256 + (k + 127)) * 8388608 + (c - 8388608) := ⟨_, rfl⟩
  have hto : (FP.i2f v).toNat = N := by
    show (UInt32.ofNat (FP.Core.fromInt FP.Core.b32 v.toInt)).toNat = N
    rw [henc, ← hN]
    have hlt : N < 2 ^ 32 := by omega
    first
      | rw [UInt32.toNat_ofNat']; exact Nat.mod_eq_of_lt hlt
      | exact (Nat.mod_eq_of_lt hlt : N % 2 ^ 32 = N)
  refine ⟨s, c, (k : Int) - 23, ?_, ?_⟩
  · rw [hto]
    have hT : FP.Core.fieldT FP.Core.b32 N = c - 8388608 := by
      unfold FP.Core.fieldT
      rw [hta]
      omega
    have hE : FP.Core.fieldE FP.Core.b32 N = k + 127 := by
      unfold FP.Core.fieldE
      rw [hta, hex]
      omega
    have hS : FP.Core.fieldS FP.Core.b32 N = s := by
      unfold FP.Core.fieldS
      rw [hta, hex]
      have : N / 8388608 / 256 % 2 = s.toNat := by omega
      rw [this]
      cases s <;> rfl
    unfold FP.Core.decode
    rw [hT, hE, hS, hta, hex, hqm, if_neg (by omega), if_neg (by omega)]
    have e1 : 8388608 + (c - 8388608) = c := by omega
    have e2 : (-149 : Int) + (((k + 127 : Nat) : Int) - 1) = (k : Int) - 23 := by omega
    rw [e1, e2]
  · unfold FP.Core.truncate
    have f1 : ((k : Int) - 23).toNat = 0 := by omega
    have f2 : (-((k : Int) - 23)).toNat = 23 - k := by omega
    rw [f1, f2, hcc, Nat.pow_zero, Nat.mul_one, Nat.mul_div_cancel _ hP1]
    unfold FP.Core.signed
    rw [hs, hm]
    by_cases hneg : v.toInt < 0
    · rw [if_pos (decide_eq_true hneg)]
      omega
    · rw [if_neg (by simpa using hneg)]
      omega
theorem far_abs {v : Int32} (h : inI v (-99999) 99999) : v.toInt.natAbs < 2 ^ 17 := by
  have h1 := (i_le _ _).mp h.1
  have h2 := (i_le _ _).mp h.2
  have e1 : (-99999 : Int32).toInt = -99999 := by decide
  have e2 : (99999 : Int32).toInt = 99999 := by decide
  rw [e1] at h1
  rw [e2] at h2
  omega
theorem fl_self {a : UInt32} {s : Bool} {c : Nat} {q : Int} (h : FP.Core.decode FP.Core.b32 a.toNat = .fin s c q) : FP.fcmp a a = some .eq := by
  show FP.Core.order (FP.Core.decode FP.Core.b32 a.toNat) (FP.Core.decode FP.Core.b32 a.toNat) = _
  rw [h]
  unfold FP.Core.order
  simp
theorem fl_y {v : Int32} (h : inI v (-99999) 99999) : Op.cmpValue (FP.fcmp (FP.i2f v) (FP.i2f v)) .l = 0 := by
  have : FP.fcmp (FP.i2f v) (FP.i2f v) = some .eq := by
    by_cases e : v.toInt.natAbs = 0
    · have : v = 0 := Int32.toInt_inj.mp (by rw [show (0 : Int32).toInt = 0 by decide]; omega)
      subst this
      decide +kernel
    · obtain ⟨s, c, q, h1, -⟩ := fl_dec e (far_abs h)
      exact fl_self h1
  rw [this]
  rfl
theorem fl_n : ¬ Op.cmpValue (FP.fcmp fNaN fNaN) .l = 0 := by
  have : FP.fcmp fNaN fNaN = none := by decide +kernel
  rw [this]
  decide
theorem f2i_far {v : Int32} (h : inI v (-99999) 99999) : FP.f2i (FP.i2f v) = v := by
  have hb := far_abs h
  by_cases e : v.toInt.natAbs = 0
  · have : v = 0 := Int32.toInt_inj.mp (by rw [show (0 : Int32).toInt = 0 by decide]; omega)
    subst this
    decide +kernel
  · obtain ⟨s, c, q, h1, h2⟩ := fl_dec e hb
    show FP.Core.toI (FP.Core.decode FP.Core.b32 (FP.i2f v).toNat) = v
    rw [h1]
    unfold FP.Core.toI FP.Core.toInt
    dsimp only
    rw [h2]
    have : max (-2 ^ 31) (min (2 ^ 31 - 1) v.toInt) = v.toInt := by omega
    rw [this]
    exact Int32.ofInt_toInt v
theorem short_ne {x : Int32} (h : x.toInt16.toInt32 = x) : x ≠ cNONE := by
  rintro rfl
  exact absurd h (by decide)
theorem far_ne {x : Int32} (h : inI x (-99999) 99999) : x ≠ cNONE := by
  rintro rfl
  exact absurd h.1 (by decide)
theorem fl0 {V : CV} {a row n : Nat} {so : Int32} {g : Nat → Int32} {Q : Int32 → CV → Prop} (ha : vM V a = some (eSh (some row))) (hr : RowR (vM V) row so n g) (hq : Q so V) : wX4_isFloats a V Q := by
  refine ⟨some row, ha, ?_⟩
  obtain ⟨hn, ⟨rfl, f, hf, -⟩ | ⟨rfl, f, hf, -⟩⟩ := hr
  · exact Or.inr (Or.inr ⟨row, n, f, rfl, hf, hq⟩)
  · exact Or.inr (Or.inl ⟨row, n, f, rfl, hf, hq⟩)
theorem size0 {V : CV} {a row n : Nat} {so : Int32} {g : Nat → Int32} {Q : Int32 → CV → Prop} (ha : vM V a = some (eSh (some row))) (hr : RowR (vM V) row so n g) (hq : Q (nI n) V) : wX4_size a V Q := by
  refine ⟨_, ha, fl0 ha hr ?_⟩
  obtain ⟨hn, ⟨rfl, f, hf, -⟩ | ⟨rfl, f, hf, -⟩⟩ := hr
  · exact br0 ⟨_, ha, row, rfl, n, f, hf, hq⟩
  · exact br1 ⟨_, ha, row, rfl, n, f, hf, hq⟩
theorem num0 {V : CV} {a row n j : Nat} {so : Int32} {g : Nat → Int32} {Q : Int32 → CV → Prop} (ha : vM V a = some (eSh (some row))) (hr : RowR (vM V) row so n g) (hj : j < n) (hq : Q (if g j = cNONE then 0 else 1) V) : wX4_isNumber a (nI j) V Q := by
  refine ⟨_, ha, fl0 ha hr ?_⟩
  obtain ⟨hn, ⟨rfl, f, hf, hg⟩ | ⟨rfl, f, hf, hg⟩⟩ := hr
  · rw [if_neg (short_ne (hg j hj).2)] at hq
    exact br0 hq
  · refine br1 ⟨_, ha, row, rfl, n, f, hf, vp_in_nI hj (by omega), row, rfl, n, f, hf, vp_in_nI hj (by omega), ?_⟩
    rw [nI_clamp (by omega)]
    rcases hg j hj with ⟨e, h⟩ | ⟨e, h⟩
    · rw [if_pos e] at hq
      rw [h]
      exact brN fl_n hq
    · rw [if_neg (far_ne e)] at hq
      rw [h]
      exact brY (fl_y e) hq
theorem at0 {V : CV} {a row n j : Nat} {so : Int32} {g : Nat → Int32} {Q : Int32 → CV → Prop} (ha : vM V a = some (eSh (some row))) (hr : RowR (vM V) row so n g) (hj : j < n) (hg : g j ≠ cNONE) (hq : Q (g j) V) : wX4_at a (nI j) V Q := by
  refine ⟨_, ha, fl0 ha hr ?_⟩
  obtain ⟨hn, ⟨rfl, f, hf, hg'⟩ | ⟨rfl, f, hf, hg'⟩⟩ := hr
  · refine br0 ⟨_, ha, row, rfl, n, f, hf, vp_in_nI hj (by omega), ?_⟩
    rw [nI_clamp (by omega), (hg' j hj).1]
    exact hq
  · refine br1 ⟨_, ha, row, rfl, n, f, hf, vp_in_nI hj (by omega), ?_⟩
    rw [nI_clamp (by omega)]
    rcases hg' j hj with ⟨e, -⟩ | ⟨e, h⟩
    · exact absurd e hg
    · rw [h, f2i_far e]
      exact hq
theorem there0 {V : CV} {a row : Nat} {Q : Int32 → CV → Prop} (ha : vM V a = some (eSh (some row))) (hq : Q 1 V) : wX4_isThere a V Q := ⟨_, ha, brN (by simp) hq⟩
theorem thereN {V : CV} {a : Nat} {Q : Int32 → CV → Prop} (ha : vM V a = some (eSh none)) (hq : Q 0 V) : wX4_isThere a V Q := ⟨_, ha, brY rfl hq⟩
theorem she_y0 {a : Int32} {Q : Int32 → Prop} (h : inI a 0 3) (hq : Q 1) : wX0_isSheet a Q := isIn0_y h ⟨nar1, hq⟩
theorem she_n0 {a : Int32} {Q : Int32 → Prop} (h : ¬ inI a 0 3) (hq : Q 0) : wX0_isSheet a Q := isIn0_n h ⟨nar0, hq⟩
theorem she_y6 {a : Int32} {Q : Int32 → Prop} (h : inI a 0 3) (hq : Q 1) : wX6_isSheet a Q := isIn6_y h ⟨nar1, hq⟩
theorem she_n6 {a : Int32} {Q : Int32 → Prop} (h : ¬ inI a 0 3) (hq : Q 0) : wX6_isSheet a Q := isIn6_n h ⟨nar0, hq⟩
theorem slo_y0 {a : Int32} {Q : Int32 → Prop} (h : inI a 0 4) (hq : Q 1) : wX0_isSlot a Q := isIn0_y h ⟨nar1, hq⟩
theorem slo_n0 {a : Int32} {Q : Int32 → Prop} (h : ¬ inI a 0 4) (hq : Q 0) : wX0_isSlot a Q := isIn0_n h ⟨nar0, hq⟩
theorem slo_y6 {a : Int32} {Q : Int32 → Prop} (h : inI a 0 4) (hq : Q 1) : wX6_isSlot a Q := isIn6_y h ⟨nar1, hq⟩
theorem slo_n6 {a : Int32} {Q : Int32 → Prop} (h : ¬ inI a 0 4) (hq : Q 0) : wX6_isSlot a Q := isIn6_n h ⟨nar0, hq⟩
def isOfP (kn c : Nat) : Prop := kn = c ∨ c = 0 ∨ (c = 1 ∧ kn = 3) ∨ (c = 2 ∧ kn = 4)
theorem take0 {V : CV} {a kn c : Nat} {b : Int32} {Q : Nat → CV → Prop} {E : CV → Prop} (hk : kn ≤ 5) (hm : vM V a = some (eSp (7 + kn) b)) (hc : c ≤ 5) (hq : isOfP kn c → Q a V) (he : ¬ isOfP kn c → E V) : wX0_takenFor a (nI c) V Q E := by
  have hs : isSpk (7 + kn) := ⟨by omega, by omega⟩
  have : c = 0 ∨ c = 1 ∨ c = 2 ∨ c = 3 ∨ c = 4 ∨ c = 5 := by omega
  unfold wX0_takenFor
  unfold isOfP at hq he
  rcases this with rfl | rfl | rfl | rfl | rfl | rfl
  · exact brN (by decide) (brN (by decide) (brN (by decide) (brN (by decide) (brN (by decide) (Or.inl ⟨7 + kn, b, hs, hm, hq (by omega)⟩)))))
  · exact brY rfl (Or.inl ⟨7 + kn, b, hs, hm, brI (fun h => hq (by omega)) (fun h => he (by omega))⟩)
  · exact brN (by decide) (brY rfl (Or.inl ⟨7 + kn, b, hs, hm, brI (fun h => hq (by omega)) (fun h => he (by omega))⟩))
  · exact brN (by decide) (brN (by decide) (brY rfl (Or.inl ⟨7 + kn, b, hs, hm, brI (fun h => hq (by omega)) (fun h => he (by omega))⟩)))
  · exact brN (by decide) (brN (by decide) (brN (by decide) (brY rfl (Or.inl ⟨7 + kn, b, hs, hm, brI (fun h => hq (by omega)) (fun h => he (by omega))⟩))))
  · exact brN (by decide) (brN (by decide) (brN (by decide) (brN (by decide) (brY rfl (Or.inl ⟨7 + kn, b, hs, hm, brI (fun h => hq (by omega)) (fun h => he (by omega))⟩)))))
theorem takeS {V : CV} {a : Nat} {c : Int32} {r : Option Nat} {Q : Nat → CV → Prop} {E : CV → Prop} (hm : vM V a = some (eSh r)) (he : E V) : wX0_takenFor a c V Q E :=
  brI (fun _ => Or.inr (Or.inl ⟨r, hm, he⟩)) (fun _ => brI (fun _ => Or.inr (Or.inl ⟨r, hm, he⟩)) (fun _ => brI (fun _ => Or.inr (Or.inl ⟨r, hm, he⟩)) (fun _ => brI (fun _ => Or.inr (Or.inl ⟨r, hm, he⟩)) (fun _ => brI (fun _ => Or.inr (Or.inl ⟨r, hm, he⟩)) (fun _ => Or.inr (Or.inl ⟨r, hm, he⟩))))))
theorem takeF {V : CV} {a : Nat} {c : Int32} {r : Int32} {Q : Nat → CV → Prop} {E : CV → Prop} (hm : vM V a = some (eFg r)) (he : E V) : wX0_takenFor a c V Q E :=
  brI (fun _ => Or.inr (Or.inr ⟨r, hm, he⟩)) (fun _ => brI (fun _ => Or.inr (Or.inr ⟨r, hm, he⟩)) (fun _ => brI (fun _ => Or.inr (Or.inr ⟨r, hm, he⟩)) (fun _ => brI (fun _ => Or.inr (Or.inr ⟨r, hm, he⟩)) (fun _ => brI (fun _ => Or.inr (Or.inr ⟨r, hm, he⟩)) (fun _ => Or.inr (Or.inr ⟨r, hm, he⟩))))))
theorem isOf6 {kn c : Nat} {Q : Int32 → Prop} (hk : kn ≤ 5) (hc : c ≤ 5) (hq : isOfP kn c → Q 1) (he : ¬ isOfP kn c → Q 0) : wX6_isOf (nI kn) (nI c) Q := by
  have ec : ∀ b, b < 10 → (nI c = nI b ↔ c = b) := fun b hb => nI_eq (by omega) (by omega)
  have ek : ∀ b, b < 10 → (nI kn = nI b ↔ kn = b) := fun b hb => nI_eq (by omega) (by omega)
  unfold isOfP at hq he
  have h19 : ¬ kn = c → ¬ c = 0 → ¬ (c = 1 ∧ kn = 3) → wX6_isOf_19 (nI kn) (nI c) Q := fun n1 n2 n3 =>
    brI (fun h => brI (fun g => hq (Or.inr (Or.inr (Or.inr ⟨(ec 2 (by omega)).mp h, (ek 4 (by omega)).mp g⟩)))) (fun g => he (fun q => by
      have g' : ¬ kn = 4 := fun e => g ((ek 4 (by omega)).mpr e)
      have h' := (ec 2 (by omega)).mp h
      omega))) (fun h => he (fun q => by
      have h' : ¬ c = 2 := fun e => h ((ec 2 (by omega)).mpr e)
      omega))
  refine brI (fun h => hq (Or.inl ((ek c (by omega)).mp h))) (fun h => ?_)
  have n1 : ¬ kn = c := fun e => h ((ek c (by omega)).mpr e)
  refine brI (fun h => hq (Or.inr (Or.inl ((ec 0 (by omega)).mp h)))) (fun h => ?_)
  have n2 : ¬ c = 0 := fun e => h ((ec 0 (by omega)).mpr e)
  refine brI (fun h => brI (fun g => hq (Or.inr (Or.inr (Or.inl ⟨(ec 1 (by omega)).mp h, (ek 3 (by omega)).mp g⟩)))) (fun g => h19 n1 n2 (fun q => g ((ek 3 (by omega)).mpr q.2)))) (fun h => h19 n1 n2 (fun q => h ((ec 1 (by omega)).mpr q.1)))
theorem op_as {V : CV} {T : TS} (hr : Rel V T) (a c : Int32) : wX0_as a c V (fun r V1 => wX6_as a c T (fun r2 T2 => r = r2 ∧ Rel V1 T2)) := by
  obtain ⟨n, dn, tn, h0⟩ := hr.1
  have hn := h0.1.1
  unfold wX0_as
  by_cases ha : ∃ p, p < n ∧ a = nI p
  · obtain ⟨p, hp, rfl⟩ := ha
    refine per_y0 h0.n0.1 hn hp (br1 ?_)
    by_cases hc : inI c 0 5
    · refine isIn0_y hc (br1 ⟨vp_in_nI (by omega) (by omega), ?_⟩)
      have hc' := hc
      obtain ⟨k, hk, rfl⟩ := (in_lit (M := 5) (by omega)).mp hc
      obtain ⟨ad, kn, g1, g2, g3, g4⟩ := h0.2.2.2.2.2.2.1 p hp
      rw [nI_clamp (by omega)]
      have y6 : ∀ {Q : Int32 → TS → Prop}, wX6_isOf (nI kn) (nI k) (fun r6 => (r6 = 0 → Q (-1000000012 : Int32) T) ∧ (¬ r6 = 0 → wX6_of (nI p) (1 : Int32) T (fun r7 T8 => Q r7 T8))) → wX6_as (nI p) (nI k) T Q := fun h => per_y6 h0.n0.2 hn hp (br1 (isIn6_y hc' (br1 (of6 0 (by omega) (by omega) (by rw [show T.2 0 (6 + 5 * p + 0) = nI kn from g2]; exact h)))))
      refine ⟨ad, g3, take0 g1 g4 hk (fun h => ⟨7 + kn, _, ⟨by omega, by omega⟩, g4, ?_⟩) (fun h => ?_)⟩
      · exact y6 (isOf6 g1 hk (fun _ => br1 (of6 1 (by omega) (by omega) ⟨rfl, hr⟩)) (fun q => absurd h q))
      · exact y6 (isOf6 g1 hk (fun q => absurd q h) (fun _ => br0 ⟨rfl, hr⟩))
    · exact isIn0_n hc (br0 (per_y6 h0.n0.2 hn hp (br1 (isIn6_n hc (br0 ⟨rfl, hr⟩)))))
  · exact per_n0 h0.n0.1 hn ha (br0 (per_n6 h0.n0.2 hn ha (br0 ⟨rfl, hr⟩)))
theorem op_ask {V : CV} {T : TS} (hr : Rel V T) (a c : Int32) : wX0_ask a c V (fun r V1 => wX6_ask a c T (fun r2 T2 => r = r2 ∧ Rel V1 T2)) := by
  unfold wX0_ask wX6_ask
  by_cases ha : inI a 0 4
  · refine slo_y0 ha (br1 ?_)
    by_cases hc : inI c 0 5
    · have ha' := ha
      have hc' := hc
      obtain ⟨q, hq, rfl⟩ := (in_lit (M := 4) (by omega)).mp ha
      obtain ⟨k, hk, rfl⟩ := (in_lit (M := 5) (by omega)).mp hc
      have hv : vp_in (nI q) 5 := vp_in_nI (by omega) (by omega)
      refine isIn0_y hc' (br1 ⟨hv, ?_⟩)
      rw [nI_clamp (by omega)]
      rcases hr.2.2.2.2.2.2.1 q (by omega) with ⟨e1, e2⟩ | ⟨ad, e1, h⟩
      · refine brY e1 (slo_y6 ha' (br1 (isIn6_y hc' (br1 ⟨hv, ?_⟩))))
        rw [e2]
        exact brY rfl ⟨rfl, hr⟩
      · refine brN (by rw [e1]; simp) ⟨ad, e1, ?_⟩
        rcases h with ⟨h7, kn, b, g1, g2, g3, g4, -⟩ | ⟨h7, row, n, so, g1, -⟩ | ⟨h7, g1⟩
        · refine take0 g1 g2 hk (fun h => ⟨7 + kn, b, ⟨by omega, by omega⟩, g2, ?_⟩) (fun h => ?_)
          · refine slo_y6 ha' (br1 (isIn6_y hc' (br1 ⟨hv, ?_⟩)))
            rw [h7, g3]
            refine brN (by decide) ⟨hv, brY rfl ⟨hv, isOf6 g1 hk (fun _ => br1 ⟨hv, ?_⟩) (fun q => absurd h q)⟩⟩
            rw [g4]
            exact ⟨spW g1 b, hr⟩
          · refine slo_y6 ha' (br1 (isIn6_y hc' (br1 ⟨hv, ?_⟩)))
            rw [h7, g3]
            exact brN (by decide) ⟨hv, brY rfl ⟨hv, isOf6 g1 hk (fun q => absurd q h) (fun _ => br0 ⟨rfl, hr⟩)⟩⟩
        · refine takeS g1 (slo_y6 ha' (br1 (isIn6_y hc' (br1 ⟨hv, ?_⟩))))
          rw [h7]
          exact brN (by decide) ⟨hv, brN (by decide) ⟨rfl, hr⟩⟩
        · refine takeF g1 (slo_y6 ha' (br1 (isIn6_y hc' (br1 ⟨hv, ?_⟩))))
          rw [h7]
          exact brN (by decide) ⟨hv, brN (by decide) ⟨rfl, hr⟩⟩
    · exact isIn0_n hc (br0 (slo_y6 ha (br1 (isIn6_n hc (br0 ⟨rfl, hr⟩)))))
  · exact slo_n0 ha (br0 (slo_n6 ha (br0 ⟨rfl, hr⟩)))
theorem sl_x (q j : Nat) : ((24 : Int32) * nI q) + nI j = nI (24 * q + j) := by rw [show (24 : Int32) = nI 24 from rfl, pk_mul, nI_add]
theorem op_item {V : CV} {T : TS} (hr : Rel V T) (a c : Int32) : wX0_item a c V (fun r V1 => wX6_item a c T (fun r2 T2 => r = r2 ∧ Rel V1 T2)) := by
  unfold wX0_item
  by_cases ha : inI a 0 4
  · have ha' := ha
    obtain ⟨q, hq, rfl⟩ := (in_lit (M := 4) (by omega)).mp ha
    have hv : vp_in (nI q) 5 := vp_in_nI (by omega) (by omega)
    refine slo_y0 ha' (br1 ⟨hv, ?_⟩)
    rw [nI_clamp (by omega)]
    rcases hr.2.2.2.2.2.2.1 q (by omega) with ⟨e1, e2⟩ | ⟨ad, e1, h⟩
    · refine brY e1 (slo_y6 ha' (br1 ⟨hv, ?_⟩))
      rw [nI_clamp (by omega), e2]
      exact brN (by decide) ⟨hv, brY rfl ⟨rfl, hr⟩⟩
    · refine brN (by rw [e1]; simp) ⟨ad, e1, ?_⟩
      rcases h with ⟨h7, kn, b, g1, g2, g3, g4, -⟩ | ⟨h7, row, n, so, g1, g2, g3, -⟩ | ⟨h7, g1⟩
      · refine Or.inl ⟨7 + kn, b, ⟨by omega, by omega⟩, g2, slo_y6 ha' (br1 ⟨hv, ?_⟩)⟩
        rw [nI_clamp (by omega), h7]
        exact brN (by decide) ⟨hv, brN (by decide) ⟨rfl, hr⟩⟩
      · refine Or.inr (Or.inl ⟨_, g1, size0 g1 g3 ?_⟩)
        have hn := g3.1
        by_cases hc : inI c 0 (nI n - 1)
        · have hc' := hc
          obtain ⟨j, hj, rfl⟩ := (in_n (by omega) c).mp hc
          refine isIn0_y hc' (br1 ⟨_, g1, num0 g1 g3 hj ?_⟩)
          have y6 : ∀ {Q : Int32 → TS → Prop}, (vp_in (((24 : Int32) * nI q) + nI j) 120 ∧ (((T.2 11 (24 * q + j)) = (-1000000005 : Int32) → Q (-1000000012 : Int32) T) ∧ (¬ (T.2 11 (24 * q + j)) = (-1000000005 : Int32) → Q (T.2 11 (24 * q + j)) T))) → wX6_item (nI q) (nI j) T Q := by
            intro Q h
            unfold wX6_item
            refine slo_y6 ha' (br1 ⟨hv, ?_⟩)
            rw [nI_clamp (by omega), h7, g2]
            refine brY rfl ⟨hv, isIn6_y hc' (br1 ?_)⟩
            rw [sl_x, nI_clamp (by omega)]
            rw [sl_x] at h
            exact h
          have hin : vp_in (((24 : Int32) * nI q) + nI j) 120 := by rw [sl_x]; exact vp_in_nI (by omega) (by omega)
          by_cases e : T.2 11 (24 * q + j) = cNONE
          · rw [if_pos e]
            exact br0 (y6 ⟨hin, brY e ⟨rfl, hr⟩⟩)
          · rw [if_neg e]
            exact br1 ⟨_, g1, at0 g1 g3 hj e (y6 ⟨hin, brN e ⟨rfl, hr⟩⟩)⟩
        · refine isIn0_n hc (br0 (slo_y6 ha' (br1 ⟨hv, ?_⟩)))
          rw [nI_clamp (by omega), h7, g2]
          exact brY rfl ⟨hv, isIn6_n hc (br0 ⟨rfl, hr⟩)⟩
      · refine Or.inr (Or.inr ⟨_, g1, slo_y6 ha' (br1 ⟨hv, ?_⟩)⟩)
        rw [nI_clamp (by omega), h7]
        exact brN (by decide) ⟨hv, brN (by decide) ⟨rfl, hr⟩⟩
  · exact slo_n0 ha (br0 (slo_n6 ha (br0 ⟨rfl, hr⟩)))
theorem op_rest {V : CV} {T : TS} (hr : Rel V T) (a c : Int32) : wX0_rest a c V (fun r V1 => wX6_rest a c T (fun r2 T2 => r = r2 ∧ Rel V1 T2)) := by
  unfold wX0_rest wX6_rest
  by_cases ha : inI a 0 4
  · have ha' := ha
    obtain ⟨q, hq, rfl⟩ := (in_lit (M := 4) (by omega)).mp ha
    have hv : vp_in (nI q) 5 := vp_in_nI (by omega) (by omega)
    refine slo_y0 ha' (br1 ⟨hv, ?_⟩)
    rw [nI_clamp (by omega)]
    rcases hr.2.2.2.2.2.2.1 q (by omega) with ⟨e1, e2⟩ | ⟨ad, e1, h⟩
    · refine brY e1 (slo_y6 ha' (br1 ⟨hv, ?_⟩))
      rw [e2]
      exact brN (by decide) ⟨hv, brY rfl ⟨rfl, hr⟩⟩
    · refine brN (by rw [e1]; simp) ?_
      rcases h with ⟨h7, kn, b, g1, g2, g3, g4, -⟩ | ⟨h7, row, n, so, g1, g2, g3, -⟩ | ⟨h7, g1⟩
      · refine Or.inr (Or.inl ⟨ad, 7 + kn, b, e1, ⟨by omega, by omega⟩, g2, br0 (slo_y6 ha' (br1 ⟨hv, ?_⟩))⟩)
        rw [h7]
        exact brN (by decide) ⟨hv, brN (by decide) ⟨rfl, hr⟩⟩
      · refine Or.inr (Or.inr (Or.inl ⟨ad, _, e1, g1, br0 (slo_y6 ha' (br1 ⟨hv, ?_⟩))⟩))
        rw [h7]
        exact brN (by decide) ⟨hv, brN (by decide) ⟨rfl, hr⟩⟩
      · refine Or.inr (Or.inr (Or.inr ⟨ad, _, e1, g1, br1 ⟨ad, e1, _, g1, ?_⟩⟩))
        refine brI (fun e => ?_) (fun e => ⟨e, ?_⟩)
        · refine slo_y6 ha' (br1 ⟨hv, ?_⟩)
          rw [h7]
          exact brY rfl (brY e ⟨rfl, hr⟩)
        · refine slo_y6 ha' (br1 ⟨hv, ?_⟩)
          rw [h7]
          exact brY rfl (brN e ⟨hv, e, rfl, hr⟩)
  · exact slo_n0 ha (br0 (slo_n6 ha (br0 ⟨rfl, hr⟩)))
def rdsX (X : Nat → Int32) (n dn : Nat) (g : Nat → Int32) : Nat → Nat → Int32
  | 0, _ => -1000000005
  | j + 1, k => if g k = cNONE then rdsX X n dn g j (k + 1) else if k < dn then (if g k = pcI (lf X n k) then rdsX X n dn g j (k + 1) else nI k) else nI k
theorem op_reads {V : CV} {T : TS} (hr : Rel V T) (a : Int32) : wX0_reads a V (fun r V1 => wX6_reads a T (fun r2 T2 => r = r2 ∧ Rel V1 T2)) := by
  obtain ⟨n, dn, tn, h0⟩ := hr.1
  have hn := h0.1.1
  have hdn := h0.1.2.1
  unfold wX0_reads wX6_reads
  by_cases ha : inI a 0 3
  · have ha' := ha
    obtain ⟨q, hq, rfl⟩ := (in_lit (M := 3) (by omega)).mp ha
    have hv : vp_in (nI q) 4 := vp_in_nI (by omega) (by omega)
    refine she_y0 ha' (br1 ⟨hv, ?_⟩)
    rw [nI_clamp (by omega)]
    obtain ⟨ad, r, e1, e2, h⟩ := hr.2.2.2.2.2.1 q (by omega)
    rcases h with ⟨rfl, h4⟩ | ⟨row, m, rfl, h5, hR⟩
    · refine ⟨ad, e1, _, e2, thereN e2 (br0 (she_y6 ha' (br1 ⟨hv, ?_⟩)))⟩
      rw [h4]
      exact brN (by decide) ⟨rfl, hr⟩
    · refine ⟨ad, e1, _, e2, there0 e2 (br1 ?_)⟩
      have hm := hR.1
      have h4 : (0 : Int32) ≤ T.2 4 q := by
        rcases hR.2 with ⟨e, -⟩ | ⟨e, -⟩ <;> rw [e] <;> decide
      rw [e1]
      have c0 : ∀ (Q : Int32 → CV → Prop) (j k : Nat), k + j = m → Q (rdsX (T.2 0) n dn (fun j => T.2 6 (24 * q + j)) j k) V → wX0_reads_30 Q (j + 1) (some ad) (nI k) V := by
        intro Q j
        induction j with
        | zero =>
          intro k hk hq
          exact ⟨ad, rfl, _, e2, size0 e2 hR (brY (nI_le (by omega) (by omega)) hq)⟩
        | succ j ih =>
          intro k hk hq
          unfold rdsX at hq
          refine ⟨ad, rfl, _, e2, size0 e2 hR (brN (nI_ge (by omega) (by omega)) ⟨ad, rfl, _, e2, num0 e2 hR (by omega) ?_⟩)⟩
          have nx : Q (rdsX (T.2 0) n dn (fun j => T.2 6 (24 * q + j)) j (k + 1)) V → wX0_reads_76 (fun z0 z1 z2 => wX0_reads_30 Q (j + 1) z0 z1 z2) (some ad) (nI k) V Q := by
            intro h
            unfold wX0_reads_76
            rw [nI_1]
            exact ih (k + 1) (by omega) h
          by_cases e : T.2 6 (24 * q + k) = cNONE
          · rw [if_pos e] at hq ⊢
            exact br0 (nx hq)
          · rw [if_neg e] at hq ⊢
            refine br1 ?_
            by_cases hd : k < dn
            · rw [if_pos hd] at hq
              refine dee_y0 h0.d0.1 hdn hd (br1 ⟨ad, rfl, _, e2, at0 e2 hR (by omega) e ⟨vp_in_nI (by omega) (by omega), ?_⟩⟩)
              rw [nI_clamp (by omega)]
              refine lm0 h0 hd ?_
              by_cases e3 : T.2 6 (24 * q + k) = pcI (lf (T.2 0) n k)
              · rw [if_pos e3] at hq
                exact brY e3 (nx hq)
              · rw [if_neg e3] at hq
                exact brN e3 hq
            · rw [if_neg hd] at hq
              exact dee_n0 h0.d0.1 hdn (fun ⟨p, hp, e3⟩ => hd (by rw [(nI_eq (a := k) (b := p) (by omega) (by omega)).mp e3]; exact hp)) (br0 hq)
      have c6 : ∀ (Q : Int32 → TS → Prop) (j k : Nat), k + j = m → Q (rdsX (T.2 0) n dn (fun j => T.2 6 (24 * q + j)) j k) T → wX6_reads_25 Q (j + 1) (nI q) (nI k) T := by
        intro Q j
        induction j with
        | zero =>
          intro k hk hq
          unfold wX6_reads_25
          rw [nI_clamp (by omega), h5]
          exact ⟨hv, brY (nI_le (by omega) (by omega)) hq⟩
        | succ j ih =>
          intro k hk hq
          unfold rdsX at hq
          unfold wX6_reads_25
          rw [sl_x, nI_clamp (by omega), nI_clamp (by omega), h5]
          refine ⟨hv, brN (nI_ge (by omega) (by omega)) ⟨vp_in_nI (by omega) (by omega), ?_⟩⟩
          have nx : Q (rdsX (T.2 0) n dn (fun j => T.2 6 (24 * q + j)) j (k + 1)) T → wX6_reads_75 (fun z0 z1 z2 => wX6_reads_25 Q (j + 1) z0 z1 z2) (nI q) (nI k) T Q := by
            intro h
            unfold wX6_reads_75
            rw [nI_1]
            exact ih (k + 1) (by omega) h
          by_cases e : T.2 6 (24 * q + k) = cNONE
          · rw [if_pos e] at hq
            exact brY e (nx hq)
          · rw [if_neg e] at hq
            refine brN e ?_
            by_cases hd : k < dn
            · rw [if_pos hd] at hq
              refine dee_y6 h0.d0.2 hdn hd (br1 (lf6 h0 hd (ones_set (subn_up (lf_s hn) hn) ?_)))
              by_cases e3 : T.2 6 (24 * q + k) = pcI (lf (T.2 0) n k)
              · rw [if_pos e3] at hq
                exact brY e3 (nx hq)
              · rw [if_neg e3] at hq
                exact brN e3 hq
            · rw [if_neg hd] at hq
              exact dee_n6 h0.d0.2 hdn (fun ⟨p, hp, e3⟩ => hd (by rw [(nI_eq (a := k) (b := p) (by omega) (by omega)).mp e3]; exact hp)) (br0 hq)
      refine ⟨m + 1, c0 _ m 0 (by omega) ?_⟩
      refine she_y6 ha' (br1 ⟨hv, ?_⟩)
      exact brY h4 ⟨m + 1, c6 _ m 0 (by omega) ⟨rfl, hr⟩⟩
  · exact she_n0 ha (br0 (she_n6 ha (br0 ⟨rfl, hr⟩)))
