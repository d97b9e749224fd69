set_option maxRecDepth 100000
def lw_P (b : Addr) (xs : List Int32) (args : Array Value) (s : State) : Prop := args = #[.ref b] ∧ s.IntsAt b xs ∧ xs.length ≤ 384 ∧ (Jvm.Cond.and given_1 narrow_1).before args s = true
def lw_Q (_ : Array Value) (s : State) (o : Outcome) (t : State) : Prop := o = .returned (some (.int 1)) ∧ Framed s o t [] 603072 7262314
def lw_Z (below : List Frame) (a : Array Value) (s : State) : State → Prop := fun t => ∃ o, t.status = .running ∧ Ended t below o ∧ lw_Q a s o t
/-- the law's own end, with 1 on the stack, nothing written that was there before, its room as the claim has it -/
theorem lw_ret {p : Program} {l : Launch} {e : Env} {s : State} {m : MethodId} {below : List Frame} {meth : Method} {c : Code} {b : Nat} (hx : p.tables.exec = Jvm.exec) (hb : c.code = code) (hr : meth.sig.returnType = ret) (hlocks : meth.locks = false) {pc : Nat} {H : Heap} {ls : Array Slot} (hdg : decode code pc = .ok (.ireturn, 1)) : W p l e room_1 s m #[Value.ref b] below meth c H [] 603072 7262314 (lw_Z below #[Value.ref b] s) (F0 m pc ls [.int 1]) := by
  intro T hT X
  obtain ⟨fs, hret, hrun, hended, hW, hframe⟩ := X.leave (v := some (.int 1)) (hlocks := hlocks) (fun h => by rw [hr] at h; cases h)
  have hmeth' : T.vm.method? m = some meth := X.method'
  refine ⟨T.setFrames fs, ?_, .returned (some (.int 1)), hrun, hended, rfl, ⟨_, rfl⟩, hW, hframe⟩
  jvm_step X.here [X.here.top, hx, hb, hdg, hmeth', hr, ret, narrow_b1]
  (try refine ⟨rfl, ?_⟩); (try refine ⟨rfl, ?_⟩)
  first | (intro acts; rw [hret _ acts rfl rfl rfl]) | rw [hret _ _ rfl rfl rfl]
  exact Steps.refl _
section LOOP
variable {p : Program} {l : Launch} {e : Env} {s : State} {m : MethodId} {below : List Frame} {meth : Method} {c : Code} {b L : Nat} {xs : Nat → Int32} {D : DD} {Ac At : Nat → Prop} {ad ad2 : AD}
theorem law_end (C : LC p l s m meth c D Ac At b L xs) {H : Heap} {locs : List Loc} {cells slots : Nat} {ls : Array Slot} (hS : va_S (fun q => s.heap.size ≤ q) s.heap H locs) (h1 : cells ≤ 603072) (h2 : slots ≤ 7262314) : W p l e room_1 s m #[Value.ref b] below meth c H locs cells slots (lw_Z below #[Value.ref b] s) (F0 m 1509 ls []) := by
  have hx := C.1.1.x
  have hb := C.1.1.b
  refine lv_iconst (v := 1) hx hb dL_law_1509 (by decide) ?_
  refine va_forget hS.2.2 ?_
  refine W.widen (k := 603072) (n := 7262314) h1 h2 ?_
  exact lw_ret hx hb C.1.1.r C.1.1.k dL_law_1510
theorem law_loop {Pv : CV → TS → Prop} (C : LC p l s m meth c D Ac At b L xs) (hsim : ∀ V T x, Pv V T → SIM Pv x V T) : ∀ (k j : Nat), j + k = 65 → ∀ (V : CV) (T : TS) (H : Heap) (locs : List Loc) (ls : Array Slot), Pv V T → lB D Ac At ad ad2 V T H → va_S (fun q => s.heap.size ≤ q) s.heap H locs → lv_has ls 4 [(3, .int (nI (6 * j))), (2, .ref (ad2 0 0 0)), (1, .ref (ad 0 0 0)), (0, .ref b)] → W p l e room_1 s m #[Value.ref b] below meth c H locs (100 + 39 * j) (12000 + 900 * j) (lw_Z below #[Value.ref b] s) (F0 m 18 ls []) := by
  have hx := C.1.1.x
  have hb := C.1.1.b
  obtain ⟨-, -, hX, hbl, -, -, -, hL⟩ := id C
  have hend : ∀ (j : Nat) (H : Heap) (locs : List Loc) (ls : Array Slot), j ≤ 65 → va_S (fun q => s.heap.size ≤ q) s.heap H locs → lv_has ls 4 [(3, .int (nI (6 * j))), (2, .ref (ad2 0 0 0)), (1, .ref (ad 0 0 0)), (0, .ref b)] → (6 * j + 6 ≤ L → W p l e room_1 s m #[Value.ref b] below meth c H locs (100 + 39 * j) (12000 + 900 * j) (lw_Z below #[Value.ref b] s) (F0 m 27 ls [])) → W p l e room_1 s m #[Value.ref b] below meth c H locs (100 + 39 * j) (12000 + 900 * j) (lw_Z below #[Value.ref b] s) (F0 m 18 ls []) := by
    intro j H locs ls hj hS hl hk
    refine lv_iload_n hx hb dL_law_18 rfl (lv_at hl 0 rfl) ?_
    refine lv_aload_n hx hb dL_law_19 rfl (lv_at hl 3 rfl) ?_
    refine va_slen (A := fun q => s.heap.size ≤ q) hx hb hX hbl (Nat.not_le.mpr hbl) hS dL_law_20 ?_
    refine lv_bipush (v := 6) hx hb dL_law_21 (by decide) ?_
    refine lv_isub hx hb dL_law_23 ?_
    have e1 : (Int32.ofNat L - 6 : Int32).toInt = (L : Int) - 6 := pk_sub_toInt (a := L) (b := 6) (by omega) (by decide)
    have e2 : (nI (6 * j)).toInt = ((6 * j : Nat) : Int) := nI_toInt (by omega)
    refine lv_icmp_gt (tgt := 1509) hx hb dL_law_24 (by decide) (fun q => ?_) (fun q => ?_)
    · exact law_end C hS (by omega) (by omega)
    · refine hk ?_
      have q2 : ¬ (Int32.ofNat L - 6 : Int32) < nI (6 * j) := q
      rw [Int32.lt_iff_toInt_lt, e1, e2] at q2
      omega
  intro k
  induction k with
  | zero =>
    intro j hj V T H locs ls hP hB hS hl
    refine hend j H locs ls (by omega) hS hl (fun h => absurd h (by omega))
  | succ k ih =>
    intro j hj V T H locs ls hP hB hS hl
    refine hend j H locs ls (by omega) hS hl (fun h => ?_)
    refine lv_aload_n hx hb dL_law_27 rfl (lv_at hl 3 rfl) ?_
    refine lv_iload_n hx hb dL_law_28 rfl (lv_at hl 0 rfl) ?_
    refine va_sld (A := fun q => s.heap.size ≤ q) hx hb hX hbl (Nat.not_le.mpr hbl) hS (vp_in_nI (by omega) (by omega)) dL_law_29 ?_
    rw [nI_clamp (show 6 * j < 2 ^ 31 by omega)]
    refine lv_bipush (v := 63) hx hb dL_law_30 (by decide) ?_
    refine lv_iand hx hb dL_law_32 ?_
    refine law_switch C hB hS h hl hP (hsim V T _ hP) ⟨by show _ ≤ 603072; omega, by show _ ≤ 7262314; omega⟩ (fun V1 T2 H2 locs2 hP2 hB2 hS2 => ?_)
    refine lv_iinc (v := nI (6 * (j + 1))) (lv' := [(3, .int (nI (6 * (j + 1)))), (2, .ref (ad2 0 0 0)), (1, .ref (ad 0 0 0)), (0, .ref b)]) hx hb dL_law_1503 hl (k := 0) rfl ?_ (by decide) rfl (fun ls hl => ?_)
    · rw [show 6 * (j + 1) = 6 * j + 6 by omega, ← nI_add]
      rfl
    refine lv_goto (tgt := 18) hx hb dL_law_1506 (by decide) ?_
    have := ih (j + 1) (by omega) V1 T2 H2 locs2 ls hP2 hB2 hS2 hl
    rw [show 100 + 39 * (j + 1) = 100 + 39 * j + 39 by omega, show 12000 + 900 * (j + 1) = 12000 + 900 * j + 900 by omega] at this
    exact this
end LOOP
