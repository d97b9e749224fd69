set_option maxRecDepth 100000
theorem neg_bit (a : Int32) : a < 0 ↔ bt a 31 = true := by
  rw [i_lt, show (0 : Int32).toInt = 0 by decide]
  unfold bt
  rw [← BitVec.msb_eq_getLsbD_last (x := a.toBitVec), BitVec.msb_eq_toInt]
  simp
theorem set_iff {n : Nat} (hn : n ≤ 12) (a : Int32) : subn n a ↔ (¬ a < 0 ∧ (a >>> (nI n &&& 31)) = 0) := by
  constructor
  · intro h
    refine ⟨fun z => (by rw [neg_bit, h 31 (by omega)] at z; cases z), z_ext.mpr (fun i hi => ?_)⟩
    rw [b_sshr n (by omega) a hi]
    split
    · exact h _ (by omega)
    · exact h 31 (by omega)
  · rintro ⟨h1, h2⟩ i hi
    rcases Nat.lt_or_ge i 32 with h | h
    · have := z_ext.mp h2 (i - n) (by omega)
      rw [b_sshr n (by omega) a (by omega), if_pos (by omega), show n + (i - n) = i by omega] at this
      exact this
    · exact b_big h
theorem set0_y {V : CV} {n : Nat} {a : Int32} {Q : Int32 → CV → Prop} (h : vS V 0 2 = nI n) (hn : n ≤ 12) (hs : subn n a) (hq : Q 1 V) : wX0_isSet a V Q := by
  obtain ⟨h1, h2⟩ := (set_iff hn a).mp hs
  unfold wX0_isSet
  rw [h]
  exact brN h1 (brY h2 hq)
theorem set0_n {V : CV} {n : Nat} {a : Int32} {Q : Int32 → CV → Prop} (h : vS V 0 2 = nI n) (hn : n ≤ 12) (hs : ¬ subn n a) (hq : Q 0 V) : wX0_isSet a V Q := by
  unfold wX0_isSet
  rw [h]
  exact brI (fun _ => hq) (fun h1 => brI (fun h2 => absurd ((set_iff hn a).mpr ⟨h1, h2⟩) hs) (fun _ => hq))
theorem set6 {n : Nat} (hn : n ≤ 12) (a : Int32) : (a &&& (ev n ^^^ (-1 : Int32))) = 0 ↔ subn n a := by
  show (a &&& cmpl (ev n)) = 0 ↔ _
  rw [z_ext]
  constructor
  · intro h i hi
    rcases Nat.lt_or_ge i 32 with h1 | h1
    · have := h i h1
      rw [b_and, b_cmpl _ h1, b_ev hn h1, decide_eq_false (by omega)] at this
      simpa using this
    · exact b_big h1
  · intro h i hi
    rw [b_and, b_cmpl _ hi, b_ev hn hi]
    by_cases h1 : i < n
    · simp [h1]
    · rw [h i (by omega)]; rfl
def deedX (X : Nat → Int32) (dn : Nat) (a c z : Int32) : Nat → Int32 := fun j => if j = 1 then nI (dn + 1) else if j = 66 + 6 * dn then a else if j = 66 + 6 * dn + 1 then c else if j = 66 + 6 * dn + 2 then z else if j = 66 + 6 * dn + 3 then 0 else if j = 66 + 6 * dn + 4 then 0 else if j = 66 + 6 * dn + 5 then 0 else X j
theorem deedX_o {X : Nat → Int32} {dn j : Nat} {a c z : Int32} (h0 : j ≠ 1) (h : j < 66 + 6 * dn ∨ 66 + 6 * dn + 6 ≤ j) : deedX X dn a c z j = X j := by
  unfold deedX
  rw [if_neg h0, if_neg (by omega), if_neg (by omega), if_neg (by omega), if_neg (by omega), if_neg (by omega), if_neg (by omega)]
def deedT (T : TS) (dn : Nat) (a c z : Int32) : TS := (T.1, va_up T.2 0 (deedX (T.2 0) dn a c z))
theorem deedT_0 (T : TS) (dn : Nat) (a c z : Int32) : (deedT T dn a c z).2 0 = deedX (T.2 0) dn a c z := rfl
theorem ts7 (T : TS) (dn : Nat) (a c z : Int32) (h : T.2 0 1 = nI dn) : ts (ts (ts (ts (ts (ts (ts T 0 (66 + 6 * dn) a) 0 (66 + 6 * dn + 1) c) 0 (66 + 6 * dn + 2) z) 0 (66 + 6 * dn + 3) 0) 0 (66 + 6 * dn + 4) 0) 0 (66 + 6 * dn + 5) 0) 0 1 ((ts (ts (ts (ts (ts (ts T 0 (66 + 6 * dn) a) 0 (66 + 6 * dn + 1) c) 0 (66 + 6 * dn + 2) z) 0 (66 + 6 * dn + 3) 0) 0 (66 + 6 * dn + 4) 0) 0 (66 + 6 * dn + 5) 0).2 0 1 + 1) = deedT T dn a c z := by
  have e : (ts (ts (ts (ts (ts (ts T 0 (66 + 6 * dn) a) 0 (66 + 6 * dn + 1) c) 0 (66 + 6 * dn + 2) z) 0 (66 + 6 * dn + 3) 0) 0 (66 + 6 * dn + 4) 0) 0 (66 + 6 * dn + 5) 0).2 0 1 = nI dn := by
    rw [ts_s, ts_s, ts_s, ts_s, ts_s, ts_s, upd_n (by omega), upd_n (by omega), upd_n (by omega), upd_n (by omega), upd_n (by omega), upd_n (by omega), h]
  rw [e, nI_1]
  refine Prod.ext rfl ?_
  funext k
  by_cases hk : k = 0
  · subst hk
    rw [ts_s, ts_s, ts_s, ts_s, ts_s, ts_s, ts_s, deedT_0]
    funext j
    unfold deedX
    by_cases h0 : j = 1
    · rw [h0, upd_s, if_pos rfl]
    · rw [upd_n h0, if_neg h0]
      by_cases h6 : j = 66 + 6 * dn + 5
      · rw [h6, upd_s, if_neg (by omega), if_neg (by omega), if_neg (by omega), if_neg (by omega), if_neg (by omega), if_pos rfl]
      · rw [upd_n h6]
        by_cases h5 : j = 66 + 6 * dn + 4
        · rw [h5, upd_s, if_neg (by omega), if_neg (by omega), if_neg (by omega), if_neg (by omega), if_pos rfl]
        · rw [upd_n h5]
          by_cases h4 : j = 66 + 6 * dn + 3
          · rw [h4, upd_s, if_neg (by omega), if_neg (by omega), if_neg (by omega), if_pos rfl]
          · rw [upd_n h4]
            by_cases h3 : j = 66 + 6 * dn + 2
            · rw [h3, upd_s, if_neg (by omega), if_neg (by omega), if_pos rfl]
            · rw [upd_n h3]
              by_cases h2 : j = 66 + 6 * dn + 1
              · rw [h2, upd_s, if_neg (by omega), if_pos rfl]
              · rw [upd_n h2]
                by_cases h1 : j = 66 + 6 * dn
                · rw [h1, upd_s, if_pos rfl]
                · rw [upd_n h1, if_neg h1, if_neg h2, if_neg h3, if_neg h4, if_neg h5, if_neg h6]
  · rw [ts_n hk, ts_n hk, ts_n hk, ts_n hk, ts_n hk, ts_n hk, ts_n hk]
    exact (if_neg hk).symm
theorem pc_0 {a : Int32} (h : subn 12 a) : pc (nu a) = 0 ↔ a = 0 := by
  constructor
  · intro h1
    refine z_ext.mpr (fun i hi => ?_)
    rcases Nat.lt_or_ge i 12 with h2 | h2
    · unfold pc at h1
      have := List.countP_eq_zero.mp h1 i (List.mem_range.mpr h2)
      rw [nu_bit] at this
      simpa using this
    · exact h i h2
  · rintro rfl
    decide +kernel
/-- whose deed it may be -/
def who (n : Nat) (a : Int32) : Prop := subn n a ∧ a ≠ 0 ∧ pc (nu a) ≤ 2
def deedV (V : CV) (dn : Nat) (a c z e : Int32) : CV := sS (sD (sD (sD (sD (sD (sD V 0 dn 0 a) 0 dn 1 c) 0 dn 2 z) 0 dn 3 e) 0 dn 4 0) 0 dn 5 0) 0 7 (nI (dn + 1))
theorem deedV_r (V : CV) (dn : Nat) (a c z e : Int32) : restV V (deedV V dn a c z e) := (((((restV_D (V := V)).tr restV_D).tr restV_D).tr restV_D).tr restV_D).tr (restV_D.tr restV_S)
theorem deedV_M (V : CV) (dn : Nat) (a c z e : Int32) : vM (deedV V dn a c z e) = vM V := rfl
theorem deedV_Sp (V : CV) (dn : Nat) (a c z e : Int32) : vSp (deedV V dn a c z e) = vSp V := rfl
theorem deedV_SA (V : CV) (dn : Nat) (a c z e : Int32) : vSA (deedV V dn a c z e) = vSA V := rfl
theorem deedV_Tx (V : CV) (dn : Nat) (a c z e : Int32) : vTx (deedV V dn a c z e) = vTx V := rfl
theorem deedV_7 (V : CV) (dn : Nat) (a c z e : Int32) : vS (deedV V dn a c z e) 0 7 = nI (dn + 1) := by simp [deedV, cvs]
theorem deedV_S (V : CV) (dn : Nat) (a c z e : Int32) {k : Nat} (hk : k ≠ 7) : vS (deedV V dn a c z e) 0 k = vS V 0 k := by simp [deedV, cvs, hk]
theorem deedV_D (V : CV) (dn : Nat) (a c z e : Int32) : vD (deedV V dn a c z e) 0 dn 0 = a ∧ vD (deedV V dn a c z e) 0 dn 1 = c ∧ vD (deedV V dn a c z e) 0 dn 2 = z ∧ vD (deedV V dn a c z e) 0 dn 3 = e ∧ vD (deedV V dn a c z e) 0 dn 4 = 0 ∧ vD (deedV V dn a c z e) 0 dn 5 = 0 := by simp [deedV, cvs]
theorem deedV_Dn (V : CV) (dn : Nat) (a c z e : Int32) {d k : Nat} (h : d ≠ dn) : vD (deedV V dn a c z e) 0 d k = vD V 0 d k := by simp [deedV, cvs, h]
theorem deedT_r (T : TS) (dn : Nat) (a c z : Int32) : restT T (deedT T dn a c z) := ⟨rfl, rfl, rfl, fun k hk => if_neg (by omega)⟩
theorem deed_fin {V V' : CV} {T : TS} {n dn tn : Nat} {a c z : Int32} (hr : Rel V T) (h0 : RS V 0 (T.2 0) n dn tn) (hd8 : dn < 8) (hw : subn n a) (hc : inI c 0 23) (hV : V' = deedV V dn a c z (((1 : Int32) <<< ((vS V 0 2) &&& 31)) - (1 : Int32))) : Rel V' (deedT T dn a c z) := by
  have hev : ((1 : Int32) <<< ((vS V 0 2) &&& 31)) - (1 : Int32) = ev n &&& cmpl 0 := by
    rw [h0.n0.1]
    show ev n = _
    apply b_ext
    intro i hi
    rw [b_and, b_cmpl _ hi, b_0]
    simp
  rw [hev] at hV
  subst hV
  refine hr.st0s (deedV_r _ _ _ _ _ _) (deedT_r _ _ _ _ _) (deedV_M _ _ _ _ _ _) (congrFun (deedV_Sp _ _ _ _ _ _) 0) (congrFun (deedV_Tx _ _ _ _ _ _) 0) ⟨n, dn + 1, tn, ?_⟩
  rw [deedT_0]
  have x0 : deedX (T.2 0) dn a c z (66 + 6 * dn) = a := by unfold deedX; rw [if_neg (by omega), if_pos rfl]
  have x1 : deedX (T.2 0) dn a c z (66 + 6 * dn + 1) = c := by unfold deedX; rw [if_neg (by omega), if_neg (by omega), if_pos rfl]
  have x2 : deedX (T.2 0) dn a c z (66 + 6 * dn + 2) = z := by unfold deedX; rw [if_neg (by omega), if_neg (by omega), if_neg (by omega), if_pos rfl]
  have x3 : deedX (T.2 0) dn a c z (66 + 6 * dn + 3) = 0 := by unfold deedX; rw [if_neg (by omega), if_neg (by omega), if_neg (by omega), if_neg (by omega), if_pos rfl]
  have x4 : deedX (T.2 0) dn a c z (66 + 6 * dn + 4) = 0 := by unfold deedX; rw [if_neg (by omega), if_neg (by omega), if_neg (by omega), if_neg (by omega), if_neg (by omega), if_pos rfl]
  have x5 : deedX (T.2 0) dn a c z (66 + 6 * dn + 5) = 0 := by unfold deedX; rw [if_neg (by omega), if_neg (by omega), if_neg (by omega), if_neg (by omega), if_neg (by omega), if_neg (by omega), if_pos rfl]
  refine RS_dee h0 (by omega) (fun j h1 h2 => deedX_o h1 (by omega)) (if_pos rfl) (deedV_7 _ _ _ _ _ _) (fun k hk => deedV_S _ _ _ _ _ _ hk) (congrFun (deedV_SA _ _ _ _ _ _) 0) (congrFun (deedV_Sp _ _ _ _ _ _) 0) (congrFun (deedV_Tx _ _ _ _ _ _) 0) (deedV_M _ _ _ _ _ _) (fun d' hd' => ?_) (fun d' hd' => ?_)
  · by_cases e2 : d' = dn
    · subst e2
      rw [x0, x1, x2, x3, x4, x5]
      exact deedV_D _ _ _ _ _ _
    · have := h0.2.2.2.2.2.2.2.2.2.1 d' (by omega)
      rw [deedX_o (by omega) (by omega), deedX_o (by omega) (by omega), deedX_o (by omega) (by omega), deedX_o (by omega) (by omega), deedX_o (by omega) (by omega), deedX_o (by omega) (by omega)]
      rw [deedV_Dn _ _ _ _ _ _ e2, deedV_Dn _ _ _ _ _ _ e2, deedV_Dn _ _ _ _ _ _ e2, deedV_Dn _ _ _ _ _ _ e2, deedV_Dn _ _ _ _ _ _ e2, deedV_Dn _ _ _ _ _ _ e2]
      exact this
  · by_cases e2 : d' = dn
    · subst e2
      rw [x0, x1, x3]
      obtain ⟨q, hq, e3⟩ := (in_lit (M := 23) (by decide)).mp hc
      exact ⟨hw, ⟨q, by omega, e3⟩, subn_0⟩
    · rw [deedX_o (by omega) (by omega), deedX_o (by omega) (by omega), deedX_o (by omega) (by omega)]
      exact h0.2.2.2.2.2.2.2.2.2.2.1 d' (by omega)
theorem op_deed {V : CV} {T : TS} (hr : Rel V T) (a c z : Int32) : wX0_deed a c z V (fun r V1 => wX6_deed a c z T (fun r2 T2 => r = r2 ∧ Rel V1 T2)) := by
  obtain ⟨n, dn, tn, h0⟩ := hr.1
  have hn := h0.1.1
  have hdn := h0.1.2.1
  have D6 : ∀ {k0 : Int32} {Q : Int32 → TS → Prop}, ((k0 = 0 → wX6_deed_27 a c z T Q) ∧ (¬ k0 = 0 → wX6_deed_28 a c z 1 T Q)) → ((who n a → k0 = 1) ∧ (¬ who n a → k0 = 0)) → wX6_deed a c z T Q := by
    intro k0 Q hh hk
    have bad : ¬ who n a → wX6_deed_27 a c z T Q := fun w => hh.1 (hk.2 w)
    refine brI (fun z0 => bad (fun w => ?_)) (fun z0 => evb6 h0 (brI (fun z1 => ?_) (fun z1 => bad (fun w => z1 ((set6 hn a).mpr w.1)))))
    · have h1 := ((set_iff hn a).mp w.1).1
      have h2 : a = 0 := by
        rw [i_lt] at h1
        rw [i_le] at z0
        rw [i_eq]
        omega
      exact w.2.1 h2
    · have hs := (set6 hn a).mp z1
      refine ones_set (subn_up hs hn) ?_
      have hp := pc_le (nu a)
      refine pk_lt 2 (pc (nu a)) (fun q => bad (fun w => by have := w.2.2; omega)) (fun q => ?_)
      have w : who n a := ⟨hs, fun e => z0 (by rw [e]; decide), q⟩
      exact hh.2 (by rw [hk.1 w]; decide)
  unfold wX0_deed
  by_cases hw : who n a
  · refine set0_y h0.n0.1 hn hw.1 (br1 (bc_set (subn_up hw.1 hn) ?_))
    have hp := pc_le (nu a)
    have hp0 : pc (nu a) ≠ 0 := fun e => hw.2.1 ((pc_0 (subn_up hw.1 hn)).mp e)
    have hin : inI (pcI a) 1 2 := ⟨nI_le (a := 1) (by omega) (by omega), nI_le (b := 2) hw.2.2 (by omega)⟩
    refine isIn0_y hin (br1 ?_)
    have Y6 : ∀ {Q : Int32 → TS → Prop}, wX6_deed_28 a c z 1 T Q → wX6_deed a c z T Q := fun h => D6 (k0 := 1) ⟨fun q => absurd q (by decide), fun _ => h⟩ ⟨fun _ => rfl, fun w => absurd hw w⟩
    by_cases hc : inI c 0 23
    · refine isIn0_y hc (br1 ?_)
      by_cases hz : inI z 0 99
      · refine isIn0_y hz (br1 ?_)
        rw [h0.d0.1]
        refine pk_eq dn 8 (fun e => ?_) (fun e => ?_)
        · refine Y6 (brN (by decide) (isIn6_y hc (br1 (isIn6_y hz (br1 ⟨pk_in 1 3114 (by omega), ?_⟩)))))
          rw [X1 h0, e]
          exact brY rfl ⟨rfl, hr⟩
        · have hd8 : dn < 8 := by omega
          refine ⟨vp_in_nI hd8 (by omega), ?_⟩
          rw [nI_clamp (by omega)]
          refine ⟨by decide, hd8, by decide, ?_⟩
          have e7 : ∀ V9 : CV, vS V9 0 7 = nI dn → vS (sS V9 0 7 (vS V9 0 7 + 1)) 0 7 - 1 = nI dn ∧ sS V9 0 7 (vS V9 0 7 + 1) = sS V9 0 7 (nI (dn + 1)) := fun V9 h9 => by
            rw [h9, nI_1]
            refine ⟨?_, rfl⟩
            simp only [cvs]
            simp
            exact nI_pred dn
          obtain ⟨q1, q2⟩ := e7 _ (show vS (sD (sD (sD (sD (sD (sD V 0 dn 0 a) 0 dn 1 c) 0 dn 2 z) 0 dn 3 (((1 : Int32) <<< ((vS (sD (sD (sD V 0 dn 0 a) 0 dn 1 c) 0 dn 2 z) 0 2) &&& 31)) - (1 : Int32))) 0 dn 4 0) 0 dn 5 0) 0 7 = nI dn from h0.d0.1)
          dsimp only
          rw [q1, q2]
          refine Y6 (brN (by decide) (isIn6_y hc (br1 (isIn6_y hz (br1 ⟨pk_in 1 3114 (by omega), ?_⟩)))))
          have i1 : (1 : Int32).toNatClampNeg = 1 := rfl
          simp only [i1, h0.d0.2, de_x, de_0, de_1, de_2, de_3, de_4, de_5]
          have n8 : ¬ nI dn = 8 := fun q => e ((nI_eq (b := 8) (by omega) (by omega)).mp q)
          refine brN n8 ?_
          have hj : ∀ j, j < 6 → vp_in (nI (66 + 6 * dn) + nI j) 3114 := fun j hj => by rw [nI_add]; exact vp_in_nI (by omega) (by omega)
          have g0 : nI (66 + 6 * dn) + 0 = nI (66 + 6 * dn) := by rw [show (0 : Int32) = nI 0 from rfl, nI_add]; rfl
          rw [g0, nI_1, nI_l2, nI_l3, nI_l4, nI_l5, nI_clamp (by omega), nI_clamp (by omega), nI_clamp (by omega), nI_clamp (by omega), nI_clamp (by omega), nI_clamp (by omega), ts7 T dn a c z h0.d0.2]
          have hin1 : vp_in (1 : Int32) 3114 := pk_in 1 3114 (by omega)
          have hiv : ∀ j, j < 6 → vp_in (nI (66 + 6 * dn + j)) 3114 := fun j hj => vp_in_nI (by omega) (by omega)
          refine ⟨hin1, hiv 0 (by omega), hiv 1 (by omega), hiv 2 (by omega), hiv 3 (by omega), hiv 4 (by omega), hiv 5 (by omega), hin1, hin1, hin1, ?_, ?_⟩
          · rw [deedT_0]
            show nI dn = (if 1 = 1 then nI (dn + 1) else _) - 1
            rw [if_pos rfl, nI_pred]
          · exact deed_fin hr h0 hd8 hw.1 hc rfl
      · exact isIn0_n hz (br0 (Y6 (brN (by decide) (isIn6_y hc (br1 (isIn6_n hz (br0 ⟨rfl, hr⟩)))))))
    · exact isIn0_n hc (br0 (Y6 (brN (by decide) (isIn6_n hc (br0 ⟨rfl, hr⟩)))))
  · have N6 : ∀ {Q : Int32 → TS → Prop}, Q (-1000000001) T → wX6_deed a c z T Q := fun h => D6 (k0 := 0) ⟨fun _ => brY rfl h, fun q => absurd rfl q⟩ ⟨fun w => absurd w hw, fun _ => rfl⟩
    by_cases hs : subn n a
    · refine set0_y h0.n0.1 hn hs (br1 (bc_set (subn_up hs hn) ?_))
      refine isIn0_n (fun q => hw ?_) (br0 (N6 ⟨rfl, hr⟩))
      have hp := pc_le (nu a)
      have q1 := (nI_leI (a := 1) (b := pc (nu a)) (by omega) (by omega)).mp q.1
      have q2 := (nI_leI (a := pc (nu a)) (b := 2) (by omega) (by omega)).mp q.2
      exact ⟨hs, fun e => by rw [(pc_0 (subn_up hs hn)).mpr e] at q1; omega, q2⟩
    · exact set0_n h0.n0.1 hn hs (br0 (N6 ⟨rfl, hr⟩))
