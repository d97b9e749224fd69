set_option maxRecDepth 100000
def SIM (Pv : CV → TS → Prop) (x : Nat → Int32) (V : CV) (T : TS) : Prop :=
  ((x 0 &&& 63) = 0 → wX0_person (x 1) (x 2) V (fun r V1 => wX6_person (x 1) (x 2) T (fun r2 T2 => r = r2 ∧ Pv V1 T2))) ∧
  ((x 0 &&& 63) = 1 → wX0_told (x 1) (x 2) V (fun r V1 => wX6_told (x 1) (x 2) T (fun r2 T2 => r = r2 ∧ Pv V1 T2))) ∧
  ((x 0 &&& 63) = 2 → wX0_as (x 1) (x 2) V (fun r V1 => wX6_as (x 1) (x 2) T (fun r2 T2 => r = r2 ∧ Pv V1 T2))) ∧
  ((x 0 &&& 63) = 3 → wX0_turns (x 1) (x 2) V (fun r V1 => wX6_turns (x 1) (x 2) T (fun r2 T2 => r = r2 ∧ Pv V1 T2))) ∧
  ((x 0 &&& 63) = 4 → wX0_bolder (x 1) (x 2) V (fun r V1 => wX6_bolder (x 1) (x 2) T (fun r2 T2 => r = r2 ∧ Pv V1 T2))) ∧
  ((x 0 &&& 63) = 5 → wX0_away (x 1) (x 2) (x 3) V (fun r V1 => wX6_away (x 1) (x 2) (x 3) T (fun r2 T2 => r = r2 ∧ Pv V1 T2))) ∧
  ((x 0 &&& 63) = 6 → wX0_friend (x 1) (x 2) (x 3) V (fun r V1 => wX6_friend (x 1) (x 2) (x 3) T (fun r2 T2 => r = r2 ∧ Pv V1 T2))) ∧
  ((x 0 &&& 63) = 7 → wX0_follow (x 1) (x 2) (x 3) V (fun r V1 => wX6_follow (x 1) (x 2) (x 3) T (fun r2 T2 => r = r2 ∧ Pv V1 T2))) ∧
  ((x 0 &&& 63) = 8 → wX0_deal (x 1) V (fun r V1 => wX6_deal (x 1) T (fun r2 T2 => r = r2 ∧ Pv V1 T2))) ∧
  ((x 0 &&& 63) = 9 → wX0_seed (x 1) V (fun r V1 => wX6_seed (x 1) T (fun r2 T2 => r = r2 ∧ Pv V1 T2))) ∧
  ((x 0 &&& 63) = 10 → wX0_deed (x 1) (x 2) (x 3) V (fun r V1 => wX6_deed (x 1) (x 2) (x 3) T (fun r2 T2 => r = r2 ∧ Pv V1 T2))) ∧
  ((x 0 &&& 63) = 11 → wX0_deedTold (x 1) (x 2) V (fun r V1 => wX6_deedTold (x 1) (x 2) T (fun r2 T2 => r = r2 ∧ Pv V1 T2))) ∧
  ((x 0 &&& 63) = 12 → wX0_again (x 1) V (fun r V1 => wX6_again (x 1) T (fun r2 T2 => r = r2 ∧ Pv V1 T2))) ∧
  ((x 0 &&& 63) = 13 → wX0_stop (x 1) V (fun r V1 => wX6_stop (x 1) T (fun r2 T2 => r = r2 ∧ Pv V1 T2))) ∧
  ((x 0 &&& 63) = 14 → wX0_say (x 1) (x 2) (x 3) V (fun r V1 => wX6_say (x 1) (x 2) (x 3) T (fun r2 T2 => r = r2 ∧ Pv V1 T2))) ∧
  ((x 0 &&& 63) = 15 → wX0_choice (x 1) (x 2) V (fun r V1 => wX6_choice (x 1) (x 2) T (fun r2 T2 => r = r2 ∧ Pv V1 T2))) ∧
  ((x 0 &&& 63) = 16 → wX0_rounds (x 1) (x 2) V (fun r V1 => wX6_rounds (x 1) (x 2) T (fun r2 T2 => r = r2 ∧ Pv V1 T2))) ∧
  ((x 0 &&& 63) = 17 → wX0_fewest (x 1) (x 2) V (fun r V1 => wX6_fewest (x 1) (x 2) T (fun r2 T2 => r = r2 ∧ Pv V1 T2))) ∧
  ((x 0 &&& 63) = 18 → wX0_silent V (fun r V1 => wX6_silent T (fun r2 T2 => r = r2 ∧ Pv V1 T2))) ∧
  ((x 0 &&& 63) = 19 → wX0_meant (x 1) V (fun r V1 => wX6_meant (x 1) T (fun r2 T2 => r = r2 ∧ Pv V1 T2))) ∧
  ((x 0 &&& 63) = 20 → wX0_proved (x 1) V (fun r V1 => wX6_proved (x 1) T (fun r2 T2 => r = r2 ∧ Pv V1 T2))) ∧
  ((x 0 &&& 63) = 21 → wX0_falls (x 1) (x 2) V (fun r V1 => wX6_falls (x 1) (x 2) T (fun r2 T2 => r = r2 ∧ Pv V1 T2))) ∧
  ((x 0 &&& 63) = 22 → wX0_most V (fun r V1 => wX6_most T (fun r2 T2 => r = r2 ∧ Pv V1 T2))) ∧
  ((x 0 &&& 63) = 23 → wX0_feed (x 1) (x 2) (x 3) V (fun r V1 => wX6_feed (x 1) (x 2) (x 3) T (fun r2 T2 => r = r2 ∧ Pv V1 T2))) ∧
  ((x 0 &&& 63) = 24 → wX0_trim (x 1) V (fun r V1 => wX6_trim (x 1) T (fun r2 T2 => r = r2 ∧ Pv V1 T2))) ∧
  ((x 0 &&& 63) = 25 → wX0_text V (fun r V1 => wX6_text T (fun r2 T2 => r = r2 ∧ Pv V1 T2))) ∧
  ((x 0 &&& 63) = 26 → wX0_textTold (x 1) (x 2) V (fun r V1 => wX6_textTold (x 1) (x 2) T (fun r2 T2 => r = r2 ∧ Pv V1 T2))) ∧
  ((x 0 &&& 63) = 27 → wX0_why (x 1) V (fun r V1 => wX6_why (x 1) T (fun r2 T2 => r = r2 ∧ Pv V1 T2))) ∧
  ((x 0 &&& 63) = 28 → wX0_sheet (x 1) (x 2) (x 3) V (fun r V1 => wX6_sheet (x 1) (x 2) (x 3) T (fun r2 T2 => r = r2 ∧ Pv V1 T2))) ∧
  ((x 0 &&& 63) = 29 → wX0_mark (x 1) (x 2) (x 3) V (fun r V1 => wX6_mark (x 1) (x 2) (x 3) T (fun r2 T2 => r = r2 ∧ Pv V1 T2))) ∧
  ((x 0 &&& 63) = 30 → wX0_pour (x 1) V (fun r V1 => wX6_pour (x 1) T (fun r2 T2 => r = r2 ∧ Pv V1 T2))) ∧
  ((x 0 &&& 63) = 31 → wX0_reads (x 1) V (fun r V1 => wX6_reads (x 1) T (fun r2 T2 => r = r2 ∧ Pv V1 T2))) ∧
  ((x 0 &&& 63) = 32 → wX0_copy (x 1) (x 2) (x 3) (x 4) (x 5) V (fun r V1 => wX6_copy (x 1) (x 2) (x 3) (x 4) (x 5) T (fun r2 T2 => r = r2 ∧ Pv V1 T2))) ∧
  ((x 0 &&& 63) = 33 → wX0_lay (x 1) (x 2) (x 3) V (fun r V1 => wX6_lay (x 1) (x 2) (x 3) T (fun r2 T2 => r = r2 ∧ Pv V1 T2))) ∧
  ((x 0 &&& 63) = 34 → wX0_ask (x 1) (x 2) V (fun r V1 => wX6_ask (x 1) (x 2) T (fun r2 T2 => r = r2 ∧ Pv V1 T2))) ∧
  ((x 0 &&& 63) = 35 → wX0_item (x 1) (x 2) V (fun r V1 => wX6_item (x 1) (x 2) T (fun r2 T2 => r = r2 ∧ Pv V1 T2))) ∧
  ((x 0 &&& 63) = 36 → wX0_rest (x 1) (x 2) V (fun r V1 => wX6_rest (x 1) (x 2) T (fun r2 T2 => r = r2 ∧ Pv V1 T2))) ∧
  ((x 0 &&& 63) = 37 → wX0_tell (x 1) V (fun r V1 => wX6_tell (x 1) T (fun r2 T2 => r = r2 ∧ Pv V1 T2))) ∧
  ((x 0 &&& 63) = 38 → wX0_check (x 1) (x 2) V (fun r V1 => wX6_check (x 1) (x 2) T (fun r2 T2 => r = r2 ∧ Pv V1 T2))) ∧
  ((x 0 &&& 63) = 39 → wX0_keep V (fun r V1 => wX6_keep T (fun r2 T2 => r = r2 ∧ Pv V1 T2))) ∧
  ((x 0 &&& 63) = 40 → wX0_back V (fun r V1 => wX6_back T (fun r2 T2 => r = r2 ∧ Pv V1 T2))) ∧
  ((x 0 &&& 63) = 41 → wX0_count (x 1) V (fun r V1 => wX6_count (x 1) T (fun r2 T2 => r = r2 ∧ Pv V1 T2)))
set_option maxHeartbeats 4000000 in
theorem lawc_0 {p : Program} {l : Launch} {e : Env} {s : State} {m : MethodId} {below : List Frame} {meth : Method} {c : Code} {H : Heap} {locs : List Loc} {cells slots : Nat} {Q : State → Prop} {b L i : Nat} {xs : Nat → Int32} {ls : Array Slot} {D : DD} {Ac At : Nat → Prop} {ad ad2 : AD} {V : CV} {T : TS} {Pv : CV → TS → Prop} (C : LC p l s m meth c D Ac At b L xs) (hB : lB D Ac At ad ad2 V T H) (hS : va_S (fun q => s.heap.size ≤ q) s.heap H locs) (hi : i + 6 ≤ L) (hl : lv_has ls 4 [(3, .int (nI i)), (2, .ref (ad2 0 0 0)), (1, .ref (ad 0 0 0)), (0, .ref b)]) (hw : wX0_person (xs (i + 1)) (xs (i + 2)) V (fun r V1 => wX6_person (xs (i + 1)) (xs (i + 2)) T (fun r2 T2 => r = r2 ∧ Pv V1 T2))) (hc : cells + 39 ≤ room_1.cells ∧ slots + 900 ≤ room_1.slots) (kk : ∀ (V1 : CV) (T2 : TS) (H2 : Heap) (locs2 : List Loc), Pv V1 T2 → lB D Ac At ad ad2 V1 T2 H2 → va_S (fun q => s.heap.size ≤ q) s.heap H2 locs2 → W p l e room_1 s m #[Value.ref b] below meth c H2 locs2 (cells + 39) (slots + 900) Q (F0 m 1503 ls [])) : W p l e room_1 s m #[Value.ref b] below meth c H locs cells slots Q (F0 m 216 ls []) := by
  obtain ⟨Fc, Ft, hX, hbl, hAc, hAt, hAB, hL⟩ := C
  have hx := Fc.1.x
  have hb := Fc.1.b
  refine lv_aload_n hx hb dL_law_216 rfl (lv_at hl 2 rfl) ?_
  refine l_arg (k := 1) (z := 1) hx hb hX hbl hL hS hl (by omega) (by decide) dL_law_217 dL_law_218 rfl dL_law_220 dL_law_221 (fun h => lv_iconst (v := 1) hx hb dL_law_219 (by decide) h) ?_
  refine l_arg (k := 2) (z := 2) hx hb hX hbl hL hS hl (by omega) (by decide) dL_law_222 dL_law_223 rfl dL_law_225 dL_law_226 (fun h => lv_iconst (v := 2) hx hb dL_law_224 (by decide) h) ?_
  refine l_i (Bw := cB D Ac ad) (l_runV (A0 := fun q => s.heap.size ≤ q) (Bw := cB D Ac ad) (n := 2) (As := [.int (xs (i + 1)), .int (xs (i + 2))]) Fc hB.1 (fun _ h => h) hS (c_at Fc (hB.1.pic cpic0) rfl) (mX0_person hw) q572 q573 q574 q83 q575 (by decide +kernel) ⟨Nat.le_of_ble_eq_true rfl, Nat.le_of_ble_eq_true rfl⟩ ⟨rfl, rfl⟩ ⟨by have := hc.1; omega, by have := hc.2; omega⟩ rfl hl.1 rfl (Nat.le_of_ble_eq_true rfl) dL_law_227) hAc hS (fun r V1 H1 locs1 hw hB1 hz1 hk1 hS1 => ?_)
  have hT1 := tB.out hB.2 hAB hk1
  refine lv_aload_n hx hb dL_law_230 rfl (lv_at hl 1 rfl) ?_
  refine l_arg (k := 1) (z := 1) hx hb hX hbl hL hS1 hl (by omega) (by decide) dL_law_231 dL_law_232 rfl dL_law_234 dL_law_235 (fun h => lv_iconst (v := 1) hx hb dL_law_233 (by decide) h) ?_
  refine l_arg (k := 2) (z := 2) hx hb hX hbl hL hS1 hl (by omega) (by decide) dL_law_236 dL_law_237 rfl dL_law_239 dL_law_240 (fun h => lv_iconst (v := 2) hx hb dL_law_238 (by decide) h) ?_
  refine l_i (Bw := tB D At ad2) (l_runV (A0 := fun q => s.heap.size ≤ q) (Bw := tB D At ad2) (n := 2) (As := [.int (xs (i + 1)), .int (xs (i + 2))]) Ft hT1 (fun _ h => h) hS1 (c_at Ft (gH.pic hT1 tpic0) rfl) (mX6_person hw) q1317 q1318 q1319 q92 q1320 (by decide +kernel) ⟨Nat.le_of_ble_eq_true rfl, Nat.le_of_ble_eq_true rfl⟩ ⟨rfl, rfl⟩ ⟨by have := hc.1; omega, by have := hc.2; omega⟩ rfl hl.1 rfl (Nat.le_of_ble_eq_true rfl) dL_law_241) hAt hS1 (fun r2 T2 H2 locs2 hw hB2 hz2 hk2 hS2 => ?_)
  obtain ⟨rfl, hw⟩ := hw
  refine lv_icmp_eq (tgt := 1503) hx hb dL_law_244 (by decide) (fun _ => ?_) (fun q => absurd rfl q)
  refine W.widen (k := cells + 39) (n := slots + 900) (by omega) (by omega) ?_
  exact kk V1 T2 H2 locs2 hw ⟨cB.out hB1 (fun q h1 h2 => hAB q h2 h1) hz2 hk2, hB2⟩ hS2
set_option maxHeartbeats 4000000 in
theorem lawc_1 {p : Program} {l : Launch} {e : Env} {s : State} {m : MethodId} {below : List Frame} {meth : Method} {c : Code} {H : Heap} {locs : List Loc} {cells slots : Nat} {Q : State → Prop} {b L i : Nat} {xs : Nat → Int32} {ls : Array Slot} {D : DD} {Ac At : Nat → Prop} {ad ad2 : AD} {V : CV} {T : TS} {Pv : CV → TS → Prop} (C : LC p l s m meth c D Ac At b L xs) (hB : lB D Ac At ad ad2 V T H) (hS : va_S (fun q => s.heap.size ≤ q) s.heap H locs) (hi : i + 6 ≤ L) (hl : lv_has ls 4 [(3, .int (nI i)), (2, .ref (ad2 0 0 0)), (1, .ref (ad 0 0 0)), (0, .ref b)]) (hw : wX0_told (xs (i + 1)) (xs (i + 2)) V (fun r V1 => wX6_told (xs (i + 1)) (xs (i + 2)) T (fun r2 T2 => r = r2 ∧ Pv V1 T2))) (hc : cells + 39 ≤ room_1.cells ∧ slots + 900 ≤ room_1.slots) (kk : ∀ (V1 : CV) (T2 : TS) (H2 : Heap) (locs2 : List Loc), Pv V1 T2 → lB D Ac At ad ad2 V1 T2 H2 → va_S (fun q => s.heap.size ≤ q) s.heap H2 locs2 → W p l e room_1 s m #[Value.ref b] below meth c H2 locs2 (cells + 39) (slots + 900) Q (F0 m 1503 ls [])) : W p l e room_1 s m #[Value.ref b] below meth c H locs cells slots Q (F0 m 249 ls []) := by
  obtain ⟨Fc, Ft, hX, hbl, hAc, hAt, hAB, hL⟩ := C
  have hx := Fc.1.x
  have hb := Fc.1.b
  refine lv_aload_n hx hb dL_law_249 rfl (lv_at hl 2 rfl) ?_
  refine l_arg (k := 1) (z := 1) hx hb hX hbl hL hS hl (by omega) (by decide) dL_law_250 dL_law_251 rfl dL_law_253 dL_law_254 (fun h => lv_iconst (v := 1) hx hb dL_law_252 (by decide) h) ?_
  refine l_arg (k := 2) (z := 2) hx hb hX hbl hL hS hl (by omega) (by decide) dL_law_255 dL_law_256 rfl dL_law_258 dL_law_259 (fun h => lv_iconst (v := 2) hx hb dL_law_257 (by decide) h) ?_
  refine l_i (Bw := cB D Ac ad) (l_runV (A0 := fun q => s.heap.size ≤ q) (Bw := cB D Ac ad) (n := 2) (As := [.int (xs (i + 1)), .int (xs (i + 2))]) Fc hB.1 (fun _ h => h) hS (c_at Fc (hB.1.pic cpic0) rfl) (mX0_told hw) q640 q641 q642 q83 q643 (by decide +kernel) ⟨Nat.le_of_ble_eq_true rfl, Nat.le_of_ble_eq_true rfl⟩ ⟨rfl, rfl⟩ ⟨by have := hc.1; omega, by have := hc.2; omega⟩ rfl hl.1 rfl (Nat.le_of_ble_eq_true rfl) dL_law_260) hAc hS (fun r V1 H1 locs1 hw hB1 hz1 hk1 hS1 => ?_)
  have hT1 := tB.out hB.2 hAB hk1
  refine lv_aload_n hx hb dL_law_263 rfl (lv_at hl 1 rfl) ?_
  refine l_arg (k := 1) (z := 1) hx hb hX hbl hL hS1 hl (by omega) (by decide) dL_law_264 dL_law_265 rfl dL_law_267 dL_law_268 (fun h => lv_iconst (v := 1) hx hb dL_law_266 (by decide) h) ?_
  refine l_arg (k := 2) (z := 2) hx hb hX hbl hL hS1 hl (by omega) (by decide) dL_law_269 dL_law_270 rfl dL_law_272 dL_law_273 (fun h => lv_iconst (v := 2) hx hb dL_law_271 (by decide) h) ?_
  refine l_i (Bw := tB D At ad2) (l_runV (A0 := fun q => s.heap.size ≤ q) (Bw := tB D At ad2) (n := 2) (As := [.int (xs (i + 1)), .int (xs (i + 2))]) Ft hT1 (fun _ h => h) hS1 (c_at Ft (gH.pic hT1 tpic0) rfl) (mX6_told hw) q1332 q1333 q1334 q92 q1335 (by decide +kernel) ⟨Nat.le_of_ble_eq_true rfl, Nat.le_of_ble_eq_true rfl⟩ ⟨rfl, rfl⟩ ⟨by have := hc.1; omega, by have := hc.2; omega⟩ rfl hl.1 rfl (Nat.le_of_ble_eq_true rfl) dL_law_274) hAt hS1 (fun r2 T2 H2 locs2 hw hB2 hz2 hk2 hS2 => ?_)
  obtain ⟨rfl, hw⟩ := hw
  refine lv_icmp_eq (tgt := 1503) hx hb dL_law_277 (by decide) (fun _ => ?_) (fun q => absurd rfl q)
  refine W.widen (k := cells + 39) (n := slots + 900) (by omega) (by omega) ?_
  exact kk V1 T2 H2 locs2 hw ⟨cB.out hB1 (fun q h1 h2 => hAB q h2 h1) hz2 hk2, hB2⟩ hS2
set_option maxHeartbeats 4000000 in
theorem lawc_2 {p : Program} {l : Launch} {e : Env} {s : State} {m : MethodId} {below : List Frame} {meth : Method} {c : Code} {H : Heap} {locs : List Loc} {cells slots : Nat} {Q : State → Prop} {b L i : Nat} {xs : Nat → Int32} {ls : Array Slot} {D : DD} {Ac At : Nat → Prop} {ad ad2 : AD} {V : CV} {T : TS} {Pv : CV → TS → Prop} (C : LC p l s m meth c D Ac At b L xs) (hB : lB D Ac At ad ad2 V T H) (hS : va_S (fun q => s.heap.size ≤ q) s.heap H locs) (hi : i + 6 ≤ L) (hl : lv_has ls 4 [(3, .int (nI i)), (2, .ref (ad2 0 0 0)), (1, .ref (ad 0 0 0)), (0, .ref b)]) (hw : wX0_as (xs (i + 1)) (xs (i + 2)) V (fun r V1 => wX6_as (xs (i + 1)) (xs (i + 2)) T (fun r2 T2 => r = r2 ∧ Pv V1 T2))) (hc : cells + 39 ≤ room_1.cells ∧ slots + 900 ≤ room_1.slots) (kk : ∀ (V1 : CV) (T2 : TS) (H2 : Heap) (locs2 : List Loc), Pv V1 T2 → lB D Ac At ad ad2 V1 T2 H2 → va_S (fun q => s.heap.size ≤ q) s.heap H2 locs2 → W p l e room_1 s m #[Value.ref b] below meth c H2 locs2 (cells + 39) (slots + 900) Q (F0 m 1503 ls [])) : W p l e room_1 s m #[Value.ref b] below meth c H locs cells slots Q (F0 m 282 ls []) := by
  obtain ⟨Fc, Ft, hX, hbl, hAc, hAt, hAB, hL⟩ := C
  have hx := Fc.1.x
  have hb := Fc.1.b
  refine lv_aload_n hx hb dL_law_282 rfl (lv_at hl 2 rfl) ?_
  refine l_arg (k := 1) (z := 1) hx hb hX hbl hL hS hl (by omega) (by decide) dL_law_283 dL_law_284 rfl dL_law_286 dL_law_287 (fun h => lv_iconst (v := 1) hx hb dL_law_285 (by decide) h) ?_
  refine l_arg (k := 2) (z := 2) hx hb hX hbl hL hS hl (by omega) (by decide) dL_law_288 dL_law_289 rfl dL_law_291 dL_law_292 (fun h => lv_iconst (v := 2) hx hb dL_law_290 (by decide) h) ?_
  refine l_i (Bw := cB D Ac ad) (yRun.plain (l_runVY (A0 := fun q => s.heap.size ≤ q) (Bw := cB D Ac ad) (n := 2) (As := [.int (xs (i + 1)), .int (xs (i + 2))]) Fc hB.1 (fun _ h => h) hS (c_at Fc (hB.1.pic cpic0) rfl) (mX0_as hw) codeOfW (lw_methW q712) q709 q710 q711 (by decide +kernel) ⟨Nat.le_of_ble_eq_true rfl, Nat.le_of_ble_eq_true rfl⟩ ⟨rfl, rfl⟩ ⟨by have := hc.1; omega, by have := hc.2; omega⟩ rfl hl.1 rfl (Nat.le_of_ble_eq_true rfl) dL_law_293) (fun _ _ _ h => by obtain ⟨⟨_, _, h, _⟩, _⟩ := h; exact ⟨_, h⟩)) hAc hS (fun r V1 H1 locs1 hw hB1 hz1 hk1 hS1 => ?_)
  have hT1 := tB.out hB.2 hAB hk1
  refine lv_aload_n hx hb dL_law_296 rfl (lv_at hl 1 rfl) ?_
  refine l_arg (k := 1) (z := 1) hx hb hX hbl hL hS1 hl (by omega) (by decide) dL_law_297 dL_law_298 rfl dL_law_300 dL_law_301 (fun h => lv_iconst (v := 1) hx hb dL_law_299 (by decide) h) ?_
  refine l_arg (k := 2) (z := 2) hx hb hX hbl hL hS1 hl (by omega) (by decide) dL_law_302 dL_law_303 rfl dL_law_305 dL_law_306 (fun h => lv_iconst (v := 2) hx hb dL_law_304 (by decide) h) ?_
  refine l_i (Bw := tB D At ad2) (l_runV (A0 := fun q => s.heap.size ≤ q) (Bw := tB D At ad2) (n := 2) (As := [.int (xs (i + 1)), .int (xs (i + 2))]) Ft hT1 (fun _ h => h) hS1 (c_at Ft (gH.pic hT1 tpic0) rfl) (mX6_as hw) q1359 q1360 q1361 q92 q1362 (by decide +kernel) ⟨Nat.le_of_ble_eq_true rfl, Nat.le_of_ble_eq_true rfl⟩ ⟨rfl, rfl⟩ ⟨by have := hc.1; omega, by have := hc.2; omega⟩ rfl hl.1 rfl (Nat.le_of_ble_eq_true rfl) dL_law_307) hAt hS1 (fun r2 T2 H2 locs2 hw hB2 hz2 hk2 hS2 => ?_)
  obtain ⟨rfl, hw⟩ := hw
  refine lv_icmp_eq (tgt := 1503) hx hb dL_law_310 (by decide) (fun _ => ?_) (fun q => absurd rfl q)
  refine W.widen (k := cells + 39) (n := slots + 900) (by omega) (by omega) ?_
  exact kk V1 T2 H2 locs2 hw ⟨cB.out hB1 (fun q h1 h2 => hAB q h2 h1) hz2 hk2, hB2⟩ hS2
set_option maxHeartbeats 4000000 in
theorem lawc_3 {p : Program} {l : Launch} {e : Env} {s : State} {m : MethodId} {below : List Frame} {meth : Method} {c : Code} {H : Heap} {locs : List Loc} {cells slots : Nat} {Q : State → Prop} {b L i : Nat} {xs : Nat → Int32} {ls : Array Slot} {D : DD} {Ac At : Nat → Prop} {ad ad2 : AD} {V : CV} {T : TS} {Pv : CV → TS → Prop} (C : LC p l s m meth c D Ac At b L xs) (hB : lB D Ac At ad ad2 V T H) (hS : va_S (fun q => s.heap.size ≤ q) s.heap H locs) (hi : i + 6 ≤ L) (hl : lv_has ls 4 [(3, .int (nI i)), (2, .ref (ad2 0 0 0)), (1, .ref (ad 0 0 0)), (0, .ref b)]) (hw : wX0_turns (xs (i + 1)) (xs (i + 2)) V (fun r V1 => wX6_turns (xs (i + 1)) (xs (i + 2)) T (fun r2 T2 => r = r2 ∧ Pv V1 T2))) (hc : cells + 39 ≤ room_1.cells ∧ slots + 900 ≤ room_1.slots) (kk : ∀ (V1 : CV) (T2 : TS) (H2 : Heap) (locs2 : List Loc), Pv V1 T2 → lB D Ac At ad ad2 V1 T2 H2 → va_S (fun q => s.heap.size ≤ q) s.heap H2 locs2 → W p l e room_1 s m #[Value.ref b] below meth c H2 locs2 (cells + 39) (slots + 900) Q (F0 m 1503 ls [])) : W p l e room_1 s m #[Value.ref b] below meth c H locs cells slots Q (F0 m 315 ls []) := by
  obtain ⟨Fc, Ft, hX, hbl, hAc, hAt, hAB, hL⟩ := C
  have hx := Fc.1.x
  have hb := Fc.1.b
  refine lv_aload_n hx hb dL_law_315 rfl (lv_at hl 2 rfl) ?_
  refine l_arg (k := 1) (z := 1) hx hb hX hbl hL hS hl (by omega) (by decide) dL_law_316 dL_law_317 rfl dL_law_319 dL_law_320 (fun h => lv_iconst (v := 1) hx hb dL_law_318 (by decide) h) ?_
  refine l_arg (k := 2) (z := 2) hx hb hX hbl hL hS hl (by omega) (by decide) dL_law_321 dL_law_322 rfl dL_law_324 dL_law_325 (fun h => lv_iconst (v := 2) hx hb dL_law_323 (by decide) h) ?_
  refine l_i (Bw := cB D Ac ad) (l_runV (A0 := fun q => s.heap.size ≤ q) (Bw := cB D Ac ad) (n := 2) (As := [.int (xs (i + 1)), .int (xs (i + 2))]) Fc hB.1 (fun _ h => h) hS (c_at Fc (hB.1.pic cpic0) rfl) (mX0_turns hw) q744 q745 q746 q83 q747 (by decide +kernel) ⟨Nat.le_of_ble_eq_true rfl, Nat.le_of_ble_eq_true rfl⟩ ⟨rfl, rfl⟩ ⟨by have := hc.1; omega, by have := hc.2; omega⟩ rfl hl.1 rfl (Nat.le_of_ble_eq_true rfl) dL_law_326) hAc hS (fun r V1 H1 locs1 hw hB1 hz1 hk1 hS1 => ?_)
  have hT1 := tB.out hB.2 hAB hk1
  refine lv_aload_n hx hb dL_law_329 rfl (lv_at hl 1 rfl) ?_
  refine l_arg (k := 1) (z := 1) hx hb hX hbl hL hS1 hl (by omega) (by decide) dL_law_330 dL_law_331 rfl dL_law_333 dL_law_334 (fun h => lv_iconst (v := 1) hx hb dL_law_332 (by decide) h) ?_
  refine l_arg (k := 2) (z := 2) hx hb hX hbl hL hS1 hl (by omega) (by decide) dL_law_335 dL_law_336 rfl dL_law_338 dL_law_339 (fun h => lv_iconst (v := 2) hx hb dL_law_337 (by decide) h) ?_
  refine l_i (Bw := tB D At ad2) (l_runV (A0 := fun q => s.heap.size ≤ q) (Bw := tB D At ad2) (n := 2) (As := [.int (xs (i + 1)), .int (xs (i + 2))]) Ft hT1 (fun _ h => h) hS1 (c_at Ft (gH.pic hT1 tpic0) rfl) (mX6_turns hw) q1367 q1368 q1369 q92 q1370 (by decide +kernel) ⟨Nat.le_of_ble_eq_true rfl, Nat.le_of_ble_eq_true rfl⟩ ⟨rfl, rfl⟩ ⟨by have := hc.1; omega, by have := hc.2; omega⟩ rfl hl.1 rfl (Nat.le_of_ble_eq_true rfl) dL_law_340) hAt hS1 (fun r2 T2 H2 locs2 hw hB2 hz2 hk2 hS2 => ?_)
  obtain ⟨rfl, hw⟩ := hw
  refine lv_icmp_eq (tgt := 1503) hx hb dL_law_343 (by decide) (fun _ => ?_) (fun q => absurd rfl q)
  refine W.widen (k := cells + 39) (n := slots + 900) (by omega) (by omega) ?_
  exact kk V1 T2 H2 locs2 hw ⟨cB.out hB1 (fun q h1 h2 => hAB q h2 h1) hz2 hk2, hB2⟩ hS2
set_option maxHeartbeats 4000000 in
theorem lawc_4 {p : Program} {l : Launch} {e : Env} {s : State} {m : MethodId} {below : List Frame} {meth : Method} {c : Code} {H : Heap} {locs : List Loc} {cells slots : Nat} {Q : State → Prop} {b L i : Nat} {xs : Nat → Int32} {ls : Array Slot} {D : DD} {Ac At : Nat → Prop} {ad ad2 : AD} {V : CV} {T : TS} {Pv : CV → TS → Prop} (C : LC p l s m meth c D Ac At b L xs) (hB : lB D Ac At ad ad2 V T H) (hS : va_S (fun q => s.heap.size ≤ q) s.heap H locs) (hi : i + 6 ≤ L) (hl : lv_has ls 4 [(3, .int (nI i)), (2, .ref (ad2 0 0 0)), (1, .ref (ad 0 0 0)), (0, .ref b)]) (hw : wX0_bolder (xs (i + 1)) (xs (i + 2)) V (fun r V1 => wX6_bolder (xs (i + 1)) (xs (i + 2)) T (fun r2 T2 => r = r2 ∧ Pv V1 T2))) (hc : cells + 39 ≤ room_1.cells ∧ slots + 900 ≤ room_1.slots) (kk : ∀ (V1 : CV) (T2 : TS) (H2 : Heap) (locs2 : List Loc), Pv V1 T2 → lB D Ac At ad ad2 V1 T2 H2 → va_S (fun q => s.heap.size ≤ q) s.heap H2 locs2 → W p l e room_1 s m #[Value.ref b] below meth c H2 locs2 (cells + 39) (slots + 900) Q (F0 m 1503 ls [])) : W p l e room_1 s m #[Value.ref b] below meth c H locs cells slots Q (F0 m 348 ls []) := by
  obtain ⟨Fc, Ft, hX, hbl, hAc, hAt, hAB, hL⟩ := C
  have hx := Fc.1.x
  have hb := Fc.1.b
  refine lv_aload_n hx hb dL_law_348 rfl (lv_at hl 2 rfl) ?_
  refine l_arg (k := 1) (z := 1) hx hb hX hbl hL hS hl (by omega) (by decide) dL_law_349 dL_law_350 rfl dL_law_352 dL_law_353 (fun h => lv_iconst (v := 1) hx hb dL_law_351 (by decide) h) ?_
  refine l_arg (k := 2) (z := 2) hx hb hX hbl hL hS hl (by omega) (by decide) dL_law_354 dL_law_355 rfl dL_law_357 dL_law_358 (fun h => lv_iconst (v := 2) hx hb dL_law_356 (by decide) h) ?_
  refine l_i (Bw := cB D Ac ad) (l_runV (A0 := fun q => s.heap.size ≤ q) (Bw := cB D Ac ad) (n := 2) (As := [.int (xs (i + 1)), .int (xs (i + 2))]) Fc hB.1 (fun _ h => h) hS (c_at Fc (hB.1.pic cpic0) rfl) (mX0_bolder hw) q748 q749 q750 q83 q751 (by decide +kernel) ⟨Nat.le_of_ble_eq_true rfl, Nat.le_of_ble_eq_true rfl⟩ ⟨rfl, rfl⟩ ⟨by have := hc.1; omega, by have := hc.2; omega⟩ rfl hl.1 rfl (Nat.le_of_ble_eq_true rfl) dL_law_359) hAc hS (fun r V1 H1 locs1 hw hB1 hz1 hk1 hS1 => ?_)
  have hT1 := tB.out hB.2 hAB hk1
  refine lv_aload_n hx hb dL_law_362 rfl (lv_at hl 1 rfl) ?_
  refine l_arg (k := 1) (z := 1) hx hb hX hbl hL hS1 hl (by omega) (by decide) dL_law_363 dL_law_364 rfl dL_law_366 dL_law_367 (fun h => lv_iconst (v := 1) hx hb dL_law_365 (by decide) h) ?_
  refine l_arg (k := 2) (z := 2) hx hb hX hbl hL hS1 hl (by omega) (by decide) dL_law_368 dL_law_369 rfl dL_law_371 dL_law_372 (fun h => lv_iconst (v := 2) hx hb dL_law_370 (by decide) h) ?_
  refine l_i (Bw := tB D At ad2) (l_runV (A0 := fun q => s.heap.size ≤ q) (Bw := tB D At ad2) (n := 2) (As := [.int (xs (i + 1)), .int (xs (i + 2))]) Ft hT1 (fun _ h => h) hS1 (c_at Ft (gH.pic hT1 tpic0) rfl) (mX6_bolder hw) q1375 q1376 q1377 q92 q1378 (by decide +kernel) ⟨Nat.le_of_ble_eq_true rfl, Nat.le_of_ble_eq_true rfl⟩ ⟨rfl, rfl⟩ ⟨by have := hc.1; omega, by have := hc.2; omega⟩ rfl hl.1 rfl (Nat.le_of_ble_eq_true rfl) dL_law_373) hAt hS1 (fun r2 T2 H2 locs2 hw hB2 hz2 hk2 hS2 => ?_)
  obtain ⟨rfl, hw⟩ := hw
  refine lv_icmp_eq (tgt := 1503) hx hb dL_law_376 (by decide) (fun _ => ?_) (fun q => absurd rfl q)
  refine W.widen (k := cells + 39) (n := slots + 900) (by omega) (by omega) ?_
  exact kk V1 T2 H2 locs2 hw ⟨cB.out hB1 (fun q h1 h2 => hAB q h2 h1) hz2 hk2, hB2⟩ hS2
set_option maxHeartbeats 4000000 in
theorem lawc_5 {p : Program} {l : Launch} {e : Env} {s : State} {m : MethodId} {below : List Frame} {meth : Method} {c : Code} {H : Heap} {locs : List Loc} {cells slots : Nat} {Q : State → Prop} {b L i : Nat} {xs : Nat → Int32} {ls : Array Slot} {D : DD} {Ac At : Nat → Prop} {ad ad2 : AD} {V : CV} {T : TS} {Pv : CV → TS → Prop} (C : LC p l s m meth c D Ac At b L xs) (hB : lB D Ac At ad ad2 V T H) (hS : va_S (fun q => s.heap.size ≤ q) s.heap H locs) (hi : i + 6 ≤ L) (hl : lv_has ls 4 [(3, .int (nI i)), (2, .ref (ad2 0 0 0)), (1, .ref (ad 0 0 0)), (0, .ref b)]) (hw : wX0_away (xs (i + 1)) (xs (i + 2)) (xs (i + 3)) V (fun r V1 => wX6_away (xs (i + 1)) (xs (i + 2)) (xs (i + 3)) T (fun r2 T2 => r = r2 ∧ Pv V1 T2))) (hc : cells + 39 ≤ room_1.cells ∧ slots + 900 ≤ room_1.slots) (kk : ∀ (V1 : CV) (T2 : TS) (H2 : Heap) (locs2 : List Loc), Pv V1 T2 → lB D Ac At ad ad2 V1 T2 H2 → va_S (fun q => s.heap.size ≤ q) s.heap H2 locs2 → W p l e room_1 s m #[Value.ref b] below meth c H2 locs2 (cells + 39) (slots + 900) Q (F0 m 1503 ls [])) : W p l e room_1 s m #[Value.ref b] below meth c H locs cells slots Q (F0 m 381 ls []) := by
  obtain ⟨Fc, Ft, hX, hbl, hAc, hAt, hAB, hL⟩ := C
  have hx := Fc.1.x
  have hb := Fc.1.b
  refine lv_aload_n hx hb dL_law_381 rfl (lv_at hl 2 rfl) ?_
  refine l_arg (k := 1) (z := 1) hx hb hX hbl hL hS hl (by omega) (by decide) dL_law_382 dL_law_383 rfl dL_law_385 dL_law_386 (fun h => lv_iconst (v := 1) hx hb dL_law_384 (by decide) h) ?_
  refine l_arg (k := 2) (z := 2) hx hb hX hbl hL hS hl (by omega) (by decide) dL_law_387 dL_law_388 rfl dL_law_390 dL_law_391 (fun h => lv_iconst (v := 2) hx hb dL_law_389 (by decide) h) ?_
  refine l_arg (k := 3) (z := 3) hx hb hX hbl hL hS hl (by omega) (by decide) dL_law_392 dL_law_393 rfl dL_law_395 dL_law_396 (fun h => lv_iconst (v := 3) hx hb dL_law_394 (by decide) h) ?_
  refine l_i (Bw := cB D Ac ad) (l_runV (A0 := fun q => s.heap.size ≤ q) (Bw := cB D Ac ad) (n := 3) (As := [.int (xs (i + 1)), .int (xs (i + 2)), .int (xs (i + 3))]) Fc hB.1 (fun _ h => h) hS (c_at Fc (hB.1.pic cpic0) rfl) (mX0_away hw) q752 q753 q754 q83 q755 (by decide +kernel) ⟨Nat.le_of_ble_eq_true rfl, Nat.le_of_ble_eq_true rfl⟩ ⟨rfl, rfl⟩ ⟨by have := hc.1; omega, by have := hc.2; omega⟩ rfl hl.1 rfl (Nat.le_of_ble_eq_true rfl) dL_law_397) hAc hS (fun r V1 H1 locs1 hw hB1 hz1 hk1 hS1 => ?_)
  have hT1 := tB.out hB.2 hAB hk1
  refine lv_aload_n hx hb dL_law_400 rfl (lv_at hl 1 rfl) ?_
  refine l_arg (k := 1) (z := 1) hx hb hX hbl hL hS1 hl (by omega) (by decide) dL_law_401 dL_law_402 rfl dL_law_404 dL_law_405 (fun h => lv_iconst (v := 1) hx hb dL_law_403 (by decide) h) ?_
  refine l_arg (k := 2) (z := 2) hx hb hX hbl hL hS1 hl (by omega) (by decide) dL_law_406 dL_law_407 rfl dL_law_409 dL_law_410 (fun h => lv_iconst (v := 2) hx hb dL_law_408 (by decide) h) ?_
  refine l_arg (k := 3) (z := 3) hx hb hX hbl hL hS1 hl (by omega) (by decide) dL_law_411 dL_law_412 rfl dL_law_414 dL_law_415 (fun h => lv_iconst (v := 3) hx hb dL_law_413 (by decide) h) ?_
  refine l_i (Bw := tB D At ad2) (l_runV (A0 := fun q => s.heap.size ≤ q) (Bw := tB D At ad2) (n := 3) (As := [.int (xs (i + 1)), .int (xs (i + 2)), .int (xs (i + 3))]) Ft hT1 (fun _ h => h) hS1 (c_at Ft (gH.pic hT1 tpic0) rfl) (mX6_away hw) q1379 q1380 q1381 q92 q1382 (by decide +kernel) ⟨Nat.le_of_ble_eq_true rfl, Nat.le_of_ble_eq_true rfl⟩ ⟨rfl, rfl⟩ ⟨by have := hc.1; omega, by have := hc.2; omega⟩ rfl hl.1 rfl (Nat.le_of_ble_eq_true rfl) dL_law_416) hAt hS1 (fun r2 T2 H2 locs2 hw hB2 hz2 hk2 hS2 => ?_)
  obtain ⟨rfl, hw⟩ := hw
  refine lv_icmp_eq (tgt := 1503) hx hb dL_law_419 (by decide) (fun _ => ?_) (fun q => absurd rfl q)
  refine W.widen (k := cells + 39) (n := slots + 900) (by omega) (by omega) ?_
  exact kk V1 T2 H2 locs2 hw ⟨cB.out hB1 (fun q h1 h2 => hAB q h2 h1) hz2 hk2, hB2⟩ hS2
set_option maxHeartbeats 4000000 in
theorem lawc_6 {p : Program} {l : Launch} {e : Env} {s : State} {m : MethodId} {below : List Frame} {meth : Method} {c : Code} {H : Heap} {locs : List Loc} {cells slots : Nat} {Q : State → Prop} {b L i : Nat} {xs : Nat → Int32} {ls : Array Slot} {D : DD} {Ac At : Nat → Prop} {ad ad2 : AD} {V : CV} {T : TS} {Pv : CV → TS → Prop} (C : LC p l s m meth c D Ac At b L xs) (hB : lB D Ac At ad ad2 V T H) (hS : va_S (fun q => s.heap.size ≤ q) s.heap H locs) (hi : i + 6 ≤ L) (hl : lv_has ls 4 [(3, .int (nI i)), (2, .ref (ad2 0 0 0)), (1, .ref (ad 0 0 0)), (0, .ref b)]) (hw : wX0_friend (xs (i + 1)) (xs (i + 2)) (xs (i + 3)) V (fun r V1 => wX6_friend (xs (i + 1)) (xs (i + 2)) (xs (i + 3)) T (fun r2 T2 => r = r2 ∧ Pv V1 T2))) (hc : cells + 39 ≤ room_1.cells ∧ slots + 900 ≤ room_1.slots) (kk : ∀ (V1 : CV) (T2 : TS) (H2 : Heap) (locs2 : List Loc), Pv V1 T2 → lB D Ac At ad ad2 V1 T2 H2 → va_S (fun q => s.heap.size ≤ q) s.heap H2 locs2 → W p l e room_1 s m #[Value.ref b] below meth c H2 locs2 (cells + 39) (slots + 900) Q (F0 m 1503 ls [])) : W p l e room_1 s m #[Value.ref b] below meth c H locs cells slots Q (F0 m 424 ls []) := by
  obtain ⟨Fc, Ft, hX, hbl, hAc, hAt, hAB, hL⟩ := C
  have hx := Fc.1.x
  have hb := Fc.1.b
  refine lv_aload_n hx hb dL_law_424 rfl (lv_at hl 2 rfl) ?_
  refine l_arg (k := 1) (z := 1) hx hb hX hbl hL hS hl (by omega) (by decide) dL_law_425 dL_law_426 rfl dL_law_428 dL_law_429 (fun h => lv_iconst (v := 1) hx hb dL_law_427 (by decide) h) ?_
  refine l_arg (k := 2) (z := 2) hx hb hX hbl hL hS hl (by omega) (by decide) dL_law_430 dL_law_431 rfl dL_law_433 dL_law_434 (fun h => lv_iconst (v := 2) hx hb dL_law_432 (by decide) h) ?_
  refine l_arg (k := 3) (z := 3) hx hb hX hbl hL hS hl (by omega) (by decide) dL_law_435 dL_law_436 rfl dL_law_438 dL_law_439 (fun h => lv_iconst (v := 3) hx hb dL_law_437 (by decide) h) ?_
  refine l_i (Bw := cB D Ac ad) (l_runV (A0 := fun q => s.heap.size ≤ q) (Bw := cB D Ac ad) (n := 3) (As := [.int (xs (i + 1)), .int (xs (i + 2)), .int (xs (i + 3))]) Fc hB.1 (fun _ h => h) hS (c_at Fc (hB.1.pic cpic0) rfl) (mX0_friend hw) q759 q760 q761 q83 q762 (by decide +kernel) ⟨Nat.le_of_ble_eq_true rfl, Nat.le_of_ble_eq_true rfl⟩ ⟨rfl, rfl⟩ ⟨by have := hc.1; omega, by have := hc.2; omega⟩ rfl hl.1 rfl (Nat.le_of_ble_eq_true rfl) dL_law_440) hAc hS (fun r V1 H1 locs1 hw hB1 hz1 hk1 hS1 => ?_)
  have hT1 := tB.out hB.2 hAB hk1
  refine lv_aload_n hx hb dL_law_443 rfl (lv_at hl 1 rfl) ?_
  refine l_arg (k := 1) (z := 1) hx hb hX hbl hL hS1 hl (by omega) (by decide) dL_law_444 dL_law_445 rfl dL_law_447 dL_law_448 (fun h => lv_iconst (v := 1) hx hb dL_law_446 (by decide) h) ?_
  refine l_arg (k := 2) (z := 2) hx hb hX hbl hL hS1 hl (by omega) (by decide) dL_law_449 dL_law_450 rfl dL_law_452 dL_law_453 (fun h => lv_iconst (v := 2) hx hb dL_law_451 (by decide) h) ?_
  refine l_arg (k := 3) (z := 3) hx hb hX hbl hL hS1 hl (by omega) (by decide) dL_law_454 dL_law_455 rfl dL_law_457 dL_law_458 (fun h => lv_iconst (v := 3) hx hb dL_law_456 (by decide) h) ?_
  refine l_i (Bw := tB D At ad2) (l_runV (A0 := fun q => s.heap.size ≤ q) (Bw := tB D At ad2) (n := 3) (As := [.int (xs (i + 1)), .int (xs (i + 2)), .int (xs (i + 3))]) Ft hT1 (fun _ h => h) hS1 (c_at Ft (gH.pic hT1 tpic0) rfl) (mX6_friend hw) q1388 q1389 q1390 q92 q1391 (by decide +kernel) ⟨Nat.le_of_ble_eq_true rfl, Nat.le_of_ble_eq_true rfl⟩ ⟨rfl, rfl⟩ ⟨by have := hc.1; omega, by have := hc.2; omega⟩ rfl hl.1 rfl (Nat.le_of_ble_eq_true rfl) dL_law_459) hAt hS1 (fun r2 T2 H2 locs2 hw hB2 hz2 hk2 hS2 => ?_)
  obtain ⟨rfl, hw⟩ := hw
  refine lv_icmp_eq (tgt := 1503) hx hb dL_law_462 (by decide) (fun _ => ?_) (fun q => absurd rfl q)
  refine W.widen (k := cells + 39) (n := slots + 900) (by omega) (by omega) ?_
  exact kk V1 T2 H2 locs2 hw ⟨cB.out hB1 (fun q h1 h2 => hAB q h2 h1) hz2 hk2, hB2⟩ hS2
set_option maxHeartbeats 4000000 in
theorem lawc_7 {p : Program} {l : Launch} {e : Env} {s : State} {m : MethodId} {below : List Frame} {meth : Method} {c : Code} {H : Heap} {locs : List Loc} {cells slots : Nat} {Q : State → Prop} {b L i : Nat} {xs : Nat → Int32} {ls : Array Slot} {D : DD} {Ac At : Nat → Prop} {ad ad2 : AD} {V : CV} {T : TS} {Pv : CV → TS → Prop} (C : LC p l s m meth c D Ac At b L xs) (hB : lB D Ac At ad ad2 V T H) (hS : va_S (fun q => s.heap.size ≤ q) s.heap H locs) (hi : i + 6 ≤ L) (hl : lv_has ls 4 [(3, .int (nI i)), (2, .ref (ad2 0 0 0)), (1, .ref (ad 0 0 0)), (0, .ref b)]) (hw : wX0_follow (xs (i + 1)) (xs (i + 2)) (xs (i + 3)) V (fun r V1 => wX6_follow (xs (i + 1)) (xs (i + 2)) (xs (i + 3)) T (fun r2 T2 => r = r2 ∧ Pv V1 T2))) (hc : cells + 39 ≤ room_1.cells ∧ slots + 900 ≤ room_1.slots) (kk : ∀ (V1 : CV) (T2 : TS) (H2 : Heap) (locs2 : List Loc), Pv V1 T2 → lB D Ac At ad ad2 V1 T2 H2 → va_S (fun q => s.heap.size ≤ q) s.heap H2 locs2 → W p l e room_1 s m #[Value.ref b] below meth c H2 locs2 (cells + 39) (slots + 900) Q (F0 m 1503 ls [])) : W p l e room_1 s m #[Value.ref b] below meth c H locs cells slots Q (F0 m 467 ls []) := by
  obtain ⟨Fc, Ft, hX, hbl, hAc, hAt, hAB, hL⟩ := C
  have hx := Fc.1.x
  have hb := Fc.1.b
  refine lv_aload_n hx hb dL_law_467 rfl (lv_at hl 2 rfl) ?_
  refine l_arg (k := 1) (z := 1) hx hb hX hbl hL hS hl (by omega) (by decide) dL_law_468 dL_law_469 rfl dL_law_471 dL_law_472 (fun h => lv_iconst (v := 1) hx hb dL_law_470 (by decide) h) ?_
  refine l_arg (k := 2) (z := 2) hx hb hX hbl hL hS hl (by omega) (by decide) dL_law_473 dL_law_474 rfl dL_law_476 dL_law_477 (fun h => lv_iconst (v := 2) hx hb dL_law_475 (by decide) h) ?_
  refine l_arg (k := 3) (z := 3) hx hb hX hbl hL hS hl (by omega) (by decide) dL_law_478 dL_law_479 rfl dL_law_481 dL_law_482 (fun h => lv_iconst (v := 3) hx hb dL_law_480 (by decide) h) ?_
  refine l_i (Bw := cB D Ac ad) (l_runV (A0 := fun q => s.heap.size ≤ q) (Bw := cB D Ac ad) (n := 3) (As := [.int (xs (i + 1)), .int (xs (i + 2)), .int (xs (i + 3))]) Fc hB.1 (fun _ h => h) hS (c_at Fc (hB.1.pic cpic0) rfl) (mX0_follow hw) q767 q768 q769 q83 q770 (by decide +kernel) ⟨Nat.le_of_ble_eq_true rfl, Nat.le_of_ble_eq_true rfl⟩ ⟨rfl, rfl⟩ ⟨by have := hc.1; omega, by have := hc.2; omega⟩ rfl hl.1 rfl (Nat.le_of_ble_eq_true rfl) dL_law_483) hAc hS (fun r V1 H1 locs1 hw hB1 hz1 hk1 hS1 => ?_)
  have hT1 := tB.out hB.2 hAB hk1
  refine lv_aload_n hx hb dL_law_486 rfl (lv_at hl 1 rfl) ?_
  refine l_arg (k := 1) (z := 1) hx hb hX hbl hL hS1 hl (by omega) (by decide) dL_law_487 dL_law_488 rfl dL_law_490 dL_law_491 (fun h => lv_iconst (v := 1) hx hb dL_law_489 (by decide) h) ?_
  refine l_arg (k := 2) (z := 2) hx hb hX hbl hL hS1 hl (by omega) (by decide) dL_law_492 dL_law_493 rfl dL_law_495 dL_law_496 (fun h => lv_iconst (v := 2) hx hb dL_law_494 (by decide) h) ?_
  refine l_arg (k := 3) (z := 3) hx hb hX hbl hL hS1 hl (by omega) (by decide) dL_law_497 dL_law_498 rfl dL_law_500 dL_law_501 (fun h => lv_iconst (v := 3) hx hb dL_law_499 (by decide) h) ?_
  refine l_i (Bw := tB D At ad2) (l_runV (A0 := fun q => s.heap.size ≤ q) (Bw := tB D At ad2) (n := 3) (As := [.int (xs (i + 1)), .int (xs (i + 2)), .int (xs (i + 3))]) Ft hT1 (fun _ h => h) hS1 (c_at Ft (gH.pic hT1 tpic0) rfl) (mX6_follow hw) q1396 q1397 q1398 q92 q1399 (by decide +kernel) ⟨Nat.le_of_ble_eq_true rfl, Nat.le_of_ble_eq_true rfl⟩ ⟨rfl, rfl⟩ ⟨by have := hc.1; omega, by have := hc.2; omega⟩ rfl hl.1 rfl (Nat.le_of_ble_eq_true rfl) dL_law_502) hAt hS1 (fun r2 T2 H2 locs2 hw hB2 hz2 hk2 hS2 => ?_)
  obtain ⟨rfl, hw⟩ := hw
  refine lv_icmp_eq (tgt := 1503) hx hb dL_law_505 (by decide) (fun _ => ?_) (fun q => absurd rfl q)
  refine W.widen (k := cells + 39) (n := slots + 900) (by omega) (by omega) ?_
  exact kk V1 T2 H2 locs2 hw ⟨cB.out hB1 (fun q h1 h2 => hAB q h2 h1) hz2 hk2, hB2⟩ hS2
set_option maxHeartbeats 4000000 in
theorem lawc_8 {p : Program} {l : Launch} {e : Env} {s : State} {m : MethodId} {below : List Frame} {meth : Method} {c : Code} {H : Heap} {locs : List Loc} {cells slots : Nat} {Q : State → Prop} {b L i : Nat} {xs : Nat → Int32} {ls : Array Slot} {D : DD} {Ac At : Nat → Prop} {ad ad2 : AD} {V : CV} {T : TS} {Pv : CV → TS → Prop} (C : LC p l s m meth c D Ac At b L xs) (hB : lB D Ac At ad ad2 V T H) (hS : va_S (fun q => s.heap.size ≤ q) s.heap H locs) (hi : i + 6 ≤ L) (hl : lv_has ls 4 [(3, .int (nI i)), (2, .ref (ad2 0 0 0)), (1, .ref (ad 0 0 0)), (0, .ref b)]) (hw : wX0_deal (xs (i + 1)) V (fun r V1 => wX6_deal (xs (i + 1)) T (fun r2 T2 => r = r2 ∧ Pv V1 T2))) (hc : cells + 39 ≤ room_1.cells ∧ slots + 900 ≤ room_1.slots) (kk : ∀ (V1 : CV) (T2 : TS) (H2 : Heap) (locs2 : List Loc), Pv V1 T2 → lB D Ac At ad ad2 V1 T2 H2 → va_S (fun q => s.heap.size ≤ q) s.heap H2 locs2 → W p l e room_1 s m #[Value.ref b] below meth c H2 locs2 (cells + 39) (slots + 900) Q (F0 m 1503 ls [])) : W p l e room_1 s m #[Value.ref b] below meth c H locs cells slots Q (F0 m 510 ls []) := by
  obtain ⟨Fc, Ft, hX, hbl, hAc, hAt, hAB, hL⟩ := C
  have hx := Fc.1.x
  have hb := Fc.1.b
  refine lv_aload_n hx hb dL_law_510 rfl (lv_at hl 2 rfl) ?_
  refine l_arg (k := 1) (z := 1) hx hb hX hbl hL hS hl (by omega) (by decide) dL_law_511 dL_law_512 rfl dL_law_514 dL_law_515 (fun h => lv_iconst (v := 1) hx hb dL_law_513 (by decide) h) ?_
  refine l_i (Bw := cB D Ac ad) (l_runV (A0 := fun q => s.heap.size ≤ q) (Bw := cB D Ac ad) (n := 1) (As := [.int (xs (i + 1))]) Fc hB.1 (fun _ h => h) hS (c_at Fc (hB.1.pic cpic0) rfl) (mX0_deal hw) q771 q772 q773 q83 q774 (by decide +kernel) ⟨Nat.le_of_ble_eq_true rfl, Nat.le_of_ble_eq_true rfl⟩ ⟨rfl, rfl⟩ ⟨by have := hc.1; omega, by have := hc.2; omega⟩ rfl hl.1 rfl (Nat.le_of_ble_eq_true rfl) dL_law_516) hAc hS (fun r V1 H1 locs1 hw hB1 hz1 hk1 hS1 => ?_)
  have hT1 := tB.out hB.2 hAB hk1
  refine lv_aload_n hx hb dL_law_519 rfl (lv_at hl 1 rfl) ?_
  refine l_arg (k := 1) (z := 1) hx hb hX hbl hL hS1 hl (by omega) (by decide) dL_law_520 dL_law_521 rfl dL_law_523 dL_law_524 (fun h => lv_iconst (v := 1) hx hb dL_law_522 (by decide) h) ?_
  refine l_i (Bw := tB D At ad2) (l_runV (A0 := fun q => s.heap.size ≤ q) (Bw := tB D At ad2) (n := 1) (As := [.int (xs (i + 1))]) Ft hT1 (fun _ h => h) hS1 (c_at Ft (gH.pic hT1 tpic0) rfl) (mX6_deal hw) q1400 q1401 q1402 q92 q1403 (by decide +kernel) ⟨Nat.le_of_ble_eq_true rfl, Nat.le_of_ble_eq_true rfl⟩ ⟨rfl, rfl⟩ ⟨by have := hc.1; omega, by have := hc.2; omega⟩ rfl hl.1 rfl (Nat.le_of_ble_eq_true rfl) dL_law_525) hAt hS1 (fun r2 T2 H2 locs2 hw hB2 hz2 hk2 hS2 => ?_)
  obtain ⟨rfl, hw⟩ := hw
  refine lv_icmp_eq (tgt := 1503) hx hb dL_law_528 (by decide) (fun _ => ?_) (fun q => absurd rfl q)
  refine W.widen (k := cells + 39) (n := slots + 900) (by omega) (by omega) ?_
  exact kk V1 T2 H2 locs2 hw ⟨cB.out hB1 (fun q h1 h2 => hAB q h2 h1) hz2 hk2, hB2⟩ hS2
set_option maxHeartbeats 4000000 in
theorem lawc_9 {p : Program} {l : Launch} {e : Env} {s : State} {m : MethodId} {below : List Frame} {meth : Method} {c : Code} {H : Heap} {locs : List Loc} {cells slots : Nat} {Q : State → Prop} {b L i : Nat} {xs : Nat → Int32} {ls : Array Slot} {D : DD} {Ac At : Nat → Prop} {ad ad2 : AD} {V : CV} {T : TS} {Pv : CV → TS → Prop} (C : LC p l s m meth c D Ac At b L xs) (hB : lB D Ac At ad ad2 V T H) (hS : va_S (fun q => s.heap.size ≤ q) s.heap H locs) (hi : i + 6 ≤ L) (hl : lv_has ls 4 [(3, .int (nI i)), (2, .ref (ad2 0 0 0)), (1, .ref (ad 0 0 0)), (0, .ref b)]) (hw : wX0_seed (xs (i + 1)) V (fun r V1 => wX6_seed (xs (i + 1)) T (fun r2 T2 => r = r2 ∧ Pv V1 T2))) (hc : cells + 39 ≤ room_1.cells ∧ slots + 900 ≤ room_1.slots) (kk : ∀ (V1 : CV) (T2 : TS) (H2 : Heap) (locs2 : List Loc), Pv V1 T2 → lB D Ac At ad ad2 V1 T2 H2 → va_S (fun q => s.heap.size ≤ q) s.heap H2 locs2 → W p l e room_1 s m #[Value.ref b] below meth c H2 locs2 (cells + 39) (slots + 900) Q (F0 m 1503 ls [])) : W p l e room_1 s m #[Value.ref b] below meth c H locs cells slots Q (F0 m 533 ls []) := by
  obtain ⟨Fc, Ft, hX, hbl, hAc, hAt, hAB, hL⟩ := C
  have hx := Fc.1.x
  have hb := Fc.1.b
  refine lv_aload_n hx hb dL_law_533 rfl (lv_at hl 2 rfl) ?_
  refine l_arg (k := 1) (z := 1) hx hb hX hbl hL hS hl (by omega) (by decide) dL_law_534 dL_law_535 rfl dL_law_537 dL_law_538 (fun h => lv_iconst (v := 1) hx hb dL_law_536 (by decide) h) ?_
  refine l_i (Bw := cB D Ac ad) (l_runV (A0 := fun q => s.heap.size ≤ q) (Bw := cB D Ac ad) (n := 1) (As := [.int (xs (i + 1))]) Fc hB.1 (fun _ h => h) hS (c_at Fc (hB.1.pic cpic0) rfl) (mX0_seed hw) q780 q781 q782 q83 q783 (by decide +kernel) ⟨Nat.le_of_ble_eq_true rfl, Nat.le_of_ble_eq_true rfl⟩ ⟨rfl, rfl⟩ ⟨by have := hc.1; omega, by have := hc.2; omega⟩ rfl hl.1 rfl (Nat.le_of_ble_eq_true rfl) dL_law_539) hAc hS (fun r V1 H1 locs1 hw hB1 hz1 hk1 hS1 => ?_)
  have hT1 := tB.out hB.2 hAB hk1
  refine lv_aload_n hx hb dL_law_542 rfl (lv_at hl 1 rfl) ?_
  refine l_arg (k := 1) (z := 1) hx hb hX hbl hL hS1 hl (by omega) (by decide) dL_law_543 dL_law_544 rfl dL_law_546 dL_law_547 (fun h => lv_iconst (v := 1) hx hb dL_law_545 (by decide) h) ?_
  refine l_i (Bw := tB D At ad2) (l_runV (A0 := fun q => s.heap.size ≤ q) (Bw := tB D At ad2) (n := 1) (As := [.int (xs (i + 1))]) Ft hT1 (fun _ h => h) hS1 (c_at Ft (gH.pic hT1 tpic0) rfl) (mX6_seed hw) q1410 q1411 q1412 q92 q1413 (by decide +kernel) ⟨Nat.le_of_ble_eq_true rfl, Nat.le_of_ble_eq_true rfl⟩ ⟨rfl, rfl⟩ ⟨by have := hc.1; omega, by have := hc.2; omega⟩ rfl hl.1 rfl (Nat.le_of_ble_eq_true rfl) dL_law_548) hAt hS1 (fun r2 T2 H2 locs2 hw hB2 hz2 hk2 hS2 => ?_)
  obtain ⟨rfl, hw⟩ := hw
  refine lv_icmp_eq (tgt := 1503) hx hb dL_law_551 (by decide) (fun _ => ?_) (fun q => absurd rfl q)
  refine W.widen (k := cells + 39) (n := slots + 900) (by omega) (by omega) ?_
  exact kk V1 T2 H2 locs2 hw ⟨cB.out hB1 (fun q h1 h2 => hAB q h2 h1) hz2 hk2, hB2⟩ hS2
set_option maxHeartbeats 4000000 in
theorem lawc_10 {p : Program} {l : Launch} {e : Env} {s : State} {m : MethodId} {below : List Frame} {meth : Method} {c : Code} {H : Heap} {locs : List Loc} {cells slots : Nat} {Q : State → Prop} {b L i : Nat} {xs : Nat → Int32} {ls : Array Slot} {D : DD} {Ac At : Nat → Prop} {ad ad2 : AD} {V : CV} {T : TS} {Pv : CV → TS → Prop} (C : LC p l s m meth c D Ac At b L xs) (hB : lB D Ac At ad ad2 V T H) (hS : va_S (fun q => s.heap.size ≤ q) s.heap H locs) (hi : i + 6 ≤ L) (hl : lv_has ls 4 [(3, .int (nI i)), (2, .ref (ad2 0 0 0)), (1, .ref (ad 0 0 0)), (0, .ref b)]) (hw : wX0_deed (xs (i + 1)) (xs (i + 2)) (xs (i + 3)) V (fun r V1 => wX6_deed (xs (i + 1)) (xs (i + 2)) (xs (i + 3)) T (fun r2 T2 => r = r2 ∧ Pv V1 T2))) (hc : cells + 39 ≤ room_1.cells ∧ slots + 900 ≤ room_1.slots) (kk : ∀ (V1 : CV) (T2 : TS) (H2 : Heap) (locs2 : List Loc), Pv V1 T2 → lB D Ac At ad ad2 V1 T2 H2 → va_S (fun q => s.heap.size ≤ q) s.heap H2 locs2 → W p l e room_1 s m #[Value.ref b] below meth c H2 locs2 (cells + 39) (slots + 900) Q (F0 m 1503 ls [])) : W p l e room_1 s m #[Value.ref b] below meth c H locs cells slots Q (F0 m 556 ls []) := by
  obtain ⟨Fc, Ft, hX, hbl, hAc, hAt, hAB, hL⟩ := C
  have hx := Fc.1.x
  have hb := Fc.1.b
  refine lv_aload_n hx hb dL_law_556 rfl (lv_at hl 2 rfl) ?_
  refine l_arg (k := 1) (z := 1) hx hb hX hbl hL hS hl (by omega) (by decide) dL_law_557 dL_law_558 rfl dL_law_560 dL_law_561 (fun h => lv_iconst (v := 1) hx hb dL_law_559 (by decide) h) ?_
  refine l_arg (k := 2) (z := 2) hx hb hX hbl hL hS hl (by omega) (by decide) dL_law_562 dL_law_563 rfl dL_law_565 dL_law_566 (fun h => lv_iconst (v := 2) hx hb dL_law_564 (by decide) h) ?_
  refine l_arg (k := 3) (z := 3) hx hb hX hbl hL hS hl (by omega) (by decide) dL_law_567 dL_law_568 rfl dL_law_570 dL_law_571 (fun h => lv_iconst (v := 3) hx hb dL_law_569 (by decide) h) ?_
  refine l_i (Bw := cB D Ac ad) (l_runV (A0 := fun q => s.heap.size ≤ q) (Bw := cB D Ac ad) (n := 3) (As := [.int (xs (i + 1)), .int (xs (i + 2)), .int (xs (i + 3))]) Fc hB.1 (fun _ h => h) hS (c_at Fc (hB.1.pic cpic0) rfl) (mX0_deed hw) q784 q785 q786 q83 q787 (by decide +kernel) ⟨Nat.le_of_ble_eq_true rfl, Nat.le_of_ble_eq_true rfl⟩ ⟨rfl, rfl⟩ ⟨by have := hc.1; omega, by have := hc.2; omega⟩ rfl hl.1 rfl (Nat.le_of_ble_eq_true rfl) dL_law_572) hAc hS (fun r V1 H1 locs1 hw hB1 hz1 hk1 hS1 => ?_)
  have hT1 := tB.out hB.2 hAB hk1
  refine lv_aload_n hx hb dL_law_575 rfl (lv_at hl 1 rfl) ?_
  refine l_arg (k := 1) (z := 1) hx hb hX hbl hL hS1 hl (by omega) (by decide) dL_law_576 dL_law_577 rfl dL_law_579 dL_law_580 (fun h => lv_iconst (v := 1) hx hb dL_law_578 (by decide) h) ?_
  refine l_arg (k := 2) (z := 2) hx hb hX hbl hL hS1 hl (by omega) (by decide) dL_law_581 dL_law_582 rfl dL_law_584 dL_law_585 (fun h => lv_iconst (v := 2) hx hb dL_law_583 (by decide) h) ?_
  refine l_arg (k := 3) (z := 3) hx hb hX hbl hL hS1 hl (by omega) (by decide) dL_law_586 dL_law_587 rfl dL_law_589 dL_law_590 (fun h => lv_iconst (v := 3) hx hb dL_law_588 (by decide) h) ?_
  refine l_i (Bw := tB D At ad2) (l_runV (A0 := fun q => s.heap.size ≤ q) (Bw := tB D At ad2) (n := 3) (As := [.int (xs (i + 1)), .int (xs (i + 2)), .int (xs (i + 3))]) Ft hT1 (fun _ h => h) hS1 (c_at Ft (gH.pic hT1 tpic0) rfl) (mX6_deed hw) q1414 q1415 q1416 q92 q1417 (by decide +kernel) ⟨Nat.le_of_ble_eq_true rfl, Nat.le_of_ble_eq_true rfl⟩ ⟨rfl, rfl⟩ ⟨by have := hc.1; omega, by have := hc.2; omega⟩ rfl hl.1 rfl (Nat.le_of_ble_eq_true rfl) dL_law_591) hAt hS1 (fun r2 T2 H2 locs2 hw hB2 hz2 hk2 hS2 => ?_)
  obtain ⟨rfl, hw⟩ := hw
  refine lv_icmp_eq (tgt := 1503) hx hb dL_law_594 (by decide) (fun _ => ?_) (fun q => absurd rfl q)
  refine W.widen (k := cells + 39) (n := slots + 900) (by omega) (by omega) ?_
  exact kk V1 T2 H2 locs2 hw ⟨cB.out hB1 (fun q h1 h2 => hAB q h2 h1) hz2 hk2, hB2⟩ hS2
set_option maxHeartbeats 4000000 in
theorem lawc_11 {p : Program} {l : Launch} {e : Env} {s : State} {m : MethodId} {below : List Frame} {meth : Method} {c : Code} {H : Heap} {locs : List Loc} {cells slots : Nat} {Q : State → Prop} {b L i : Nat} {xs : Nat → Int32} {ls : Array Slot} {D : DD} {Ac At : Nat → Prop} {ad ad2 : AD} {V : CV} {T : TS} {Pv : CV → TS → Prop} (C : LC p l s m meth c D Ac At b L xs) (hB : lB D Ac At ad ad2 V T H) (hS : va_S (fun q => s.heap.size ≤ q) s.heap H locs) (hi : i + 6 ≤ L) (hl : lv_has ls 4 [(3, .int (nI i)), (2, .ref (ad2 0 0 0)), (1, .ref (ad 0 0 0)), (0, .ref b)]) (hw : wX0_deedTold (xs (i + 1)) (xs (i + 2)) V (fun r V1 => wX6_deedTold (xs (i + 1)) (xs (i + 2)) T (fun r2 T2 => r = r2 ∧ Pv V1 T2))) (hc : cells + 39 ≤ room_1.cells ∧ slots + 900 ≤ room_1.slots) (kk : ∀ (V1 : CV) (T2 : TS) (H2 : Heap) (locs2 : List Loc), Pv V1 T2 → lB D Ac At ad ad2 V1 T2 H2 → va_S (fun q => s.heap.size ≤ q) s.heap H2 locs2 → W p l e room_1 s m #[Value.ref b] below meth c H2 locs2 (cells + 39) (slots + 900) Q (F0 m 1503 ls [])) : W p l e room_1 s m #[Value.ref b] below meth c H locs cells slots Q (F0 m 599 ls []) := by
  obtain ⟨Fc, Ft, hX, hbl, hAc, hAt, hAB, hL⟩ := C
  have hx := Fc.1.x
  have hb := Fc.1.b
  refine lv_aload_n hx hb dL_law_599 rfl (lv_at hl 2 rfl) ?_
  refine l_arg (k := 1) (z := 1) hx hb hX hbl hL hS hl (by omega) (by decide) dL_law_600 dL_law_601 rfl dL_law_603 dL_law_604 (fun h => lv_iconst (v := 1) hx hb dL_law_602 (by decide) h) ?_
  refine l_arg (k := 2) (z := 2) hx hb hX hbl hL hS hl (by omega) (by decide) dL_law_605 dL_law_606 rfl dL_law_608 dL_law_609 (fun h => lv_iconst (v := 2) hx hb dL_law_607 (by decide) h) ?_
  refine l_i (Bw := cB D Ac ad) (l_runV (A0 := fun q => s.heap.size ≤ q) (Bw := cB D Ac ad) (n := 2) (As := [.int (xs (i + 1)), .int (xs (i + 2))]) Fc hB.1 (fun _ h => h) hS (c_at Fc (hB.1.pic cpic0) rfl) (mX0_deedTold hw) q806 q807 q808 q83 q809 (by decide +kernel) ⟨Nat.le_of_ble_eq_true rfl, Nat.le_of_ble_eq_true rfl⟩ ⟨rfl, rfl⟩ ⟨by have := hc.1; omega, by have := hc.2; omega⟩ rfl hl.1 rfl (Nat.le_of_ble_eq_true rfl) dL_law_610) hAc hS (fun r V1 H1 locs1 hw hB1 hz1 hk1 hS1 => ?_)
  have hT1 := tB.out hB.2 hAB hk1
  refine lv_aload_n hx hb dL_law_613 rfl (lv_at hl 1 rfl) ?_
  refine l_arg (k := 1) (z := 1) hx hb hX hbl hL hS1 hl (by omega) (by decide) dL_law_614 dL_law_615 rfl dL_law_617 dL_law_618 (fun h => lv_iconst (v := 1) hx hb dL_law_616 (by decide) h) ?_
  refine l_arg (k := 2) (z := 2) hx hb hX hbl hL hS1 hl (by omega) (by decide) dL_law_619 dL_law_620 rfl dL_law_622 dL_law_623 (fun h => lv_iconst (v := 2) hx hb dL_law_621 (by decide) h) ?_
  refine l_i (Bw := tB D At ad2) (l_runV (A0 := fun q => s.heap.size ≤ q) (Bw := tB D At ad2) (n := 2) (As := [.int (xs (i + 1)), .int (xs (i + 2))]) Ft hT1 (fun _ h => h) hS1 (c_at Ft (gH.pic hT1 tpic0) rfl) (mX6_deedTold hw) q1426 q1427 q1428 q92 q1429 (by decide +kernel) ⟨Nat.le_of_ble_eq_true rfl, Nat.le_of_ble_eq_true rfl⟩ ⟨rfl, rfl⟩ ⟨by have := hc.1; omega, by have := hc.2; omega⟩ rfl hl.1 rfl (Nat.le_of_ble_eq_true rfl) dL_law_624) hAt hS1 (fun r2 T2 H2 locs2 hw hB2 hz2 hk2 hS2 => ?_)
  obtain ⟨rfl, hw⟩ := hw
  refine lv_icmp_eq (tgt := 1503) hx hb dL_law_627 (by decide) (fun _ => ?_) (fun q => absurd rfl q)
  refine W.widen (k := cells + 39) (n := slots + 900) (by omega) (by omega) ?_
  exact kk V1 T2 H2 locs2 hw ⟨cB.out hB1 (fun q h1 h2 => hAB q h2 h1) hz2 hk2, hB2⟩ hS2
set_option maxHeartbeats 4000000 in
theorem lawc_12 {p : Program} {l : Launch} {e : Env} {s : State} {m : MethodId} {below : List Frame} {meth : Method} {c : Code} {H : Heap} {locs : List Loc} {cells slots : Nat} {Q : State → Prop} {b L i : Nat} {xs : Nat → Int32} {ls : Array Slot} {D : DD} {Ac At : Nat → Prop} {ad ad2 : AD} {V : CV} {T : TS} {Pv : CV → TS → Prop} (C : LC p l s m meth c D Ac At b L xs) (hB : lB D Ac At ad ad2 V T H) (hS : va_S (fun q => s.heap.size ≤ q) s.heap H locs) (hi : i + 6 ≤ L) (hl : lv_has ls 4 [(3, .int (nI i)), (2, .ref (ad2 0 0 0)), (1, .ref (ad 0 0 0)), (0, .ref b)]) (hw : wX0_again (xs (i + 1)) V (fun r V1 => wX6_again (xs (i + 1)) T (fun r2 T2 => r = r2 ∧ Pv V1 T2))) (hc : cells + 39 ≤ room_1.cells ∧ slots + 900 ≤ room_1.slots) (kk : ∀ (V1 : CV) (T2 : TS) (H2 : Heap) (locs2 : List Loc), Pv V1 T2 → lB D Ac At ad ad2 V1 T2 H2 → va_S (fun q => s.heap.size ≤ q) s.heap H2 locs2 → W p l e room_1 s m #[Value.ref b] below meth c H2 locs2 (cells + 39) (slots + 900) Q (F0 m 1503 ls [])) : W p l e room_1 s m #[Value.ref b] below meth c H locs cells slots Q (F0 m 632 ls []) := by
  obtain ⟨Fc, Ft, hX, hbl, hAc, hAt, hAB, hL⟩ := C
  have hx := Fc.1.x
  have hb := Fc.1.b
  refine lv_aload_n hx hb dL_law_632 rfl (lv_at hl 2 rfl) ?_
  refine l_arg (k := 1) (z := 1) hx hb hX hbl hL hS hl (by omega) (by decide) dL_law_633 dL_law_634 rfl dL_law_636 dL_law_637 (fun h => lv_iconst (v := 1) hx hb dL_law_635 (by decide) h) ?_
  refine l_i (Bw := cB D Ac ad) (l_runV (A0 := fun q => s.heap.size ≤ q) (Bw := cB D Ac ad) (n := 1) (As := [.int (xs (i + 1))]) Fc hB.1 (fun _ h => h) hS (c_at Fc (hB.1.pic cpic0) rfl) (mX0_again hw) q840 q841 q842 q83 q843 (by decide +kernel) ⟨Nat.le_of_ble_eq_true rfl, Nat.le_of_ble_eq_true rfl⟩ ⟨rfl, rfl⟩ ⟨by have := hc.1; omega, by have := hc.2; omega⟩ rfl hl.1 rfl (Nat.le_of_ble_eq_true rfl) dL_law_638) hAc hS (fun r V1 H1 locs1 hw hB1 hz1 hk1 hS1 => ?_)
  have hT1 := tB.out hB.2 hAB hk1
  refine lv_aload_n hx hb dL_law_641 rfl (lv_at hl 1 rfl) ?_
  refine l_arg (k := 1) (z := 1) hx hb hX hbl hL hS1 hl (by omega) (by decide) dL_law_642 dL_law_643 rfl dL_law_645 dL_law_646 (fun h => lv_iconst (v := 1) hx hb dL_law_644 (by decide) h) ?_
  refine l_i (Bw := tB D At ad2) (l_runV (A0 := fun q => s.heap.size ≤ q) (Bw := tB D At ad2) (n := 1) (As := [.int (xs (i + 1))]) Ft hT1 (fun _ h => h) hS1 (c_at Ft (gH.pic hT1 tpic0) rfl) (mX6_again hw) q1461 q1462 q1463 q92 q1464 (by decide +kernel) ⟨Nat.le_of_ble_eq_true rfl, Nat.le_of_ble_eq_true rfl⟩ ⟨rfl, rfl⟩ ⟨by have := hc.1; omega, by have := hc.2; omega⟩ rfl hl.1 rfl (Nat.le_of_ble_eq_true rfl) dL_law_647) hAt hS1 (fun r2 T2 H2 locs2 hw hB2 hz2 hk2 hS2 => ?_)
  obtain ⟨rfl, hw⟩ := hw
  refine lv_icmp_eq (tgt := 1503) hx hb dL_law_650 (by decide) (fun _ => ?_) (fun q => absurd rfl q)
  refine W.widen (k := cells + 39) (n := slots + 900) (by omega) (by omega) ?_
  exact kk V1 T2 H2 locs2 hw ⟨cB.out hB1 (fun q h1 h2 => hAB q h2 h1) hz2 hk2, hB2⟩ hS2
set_option maxHeartbeats 4000000 in
theorem lawc_13 {p : Program} {l : Launch} {e : Env} {s : State} {m : MethodId} {below : List Frame} {meth : Method} {c : Code} {H : Heap} {locs : List Loc} {cells slots : Nat} {Q : State → Prop} {b L i : Nat} {xs : Nat → Int32} {ls : Array Slot} {D : DD} {Ac At : Nat → Prop} {ad ad2 : AD} {V : CV} {T : TS} {Pv : CV → TS → Prop} (C : LC p l s m meth c D Ac At b L xs) (hB : lB D Ac At ad ad2 V T H) (hS : va_S (fun q => s.heap.size ≤ q) s.heap H locs) (hi : i + 6 ≤ L) (hl : lv_has ls 4 [(3, .int (nI i)), (2, .ref (ad2 0 0 0)), (1, .ref (ad 0 0 0)), (0, .ref b)]) (hw : wX0_stop (xs (i + 1)) V (fun r V1 => wX6_stop (xs (i + 1)) T (fun r2 T2 => r = r2 ∧ Pv V1 T2))) (hc : cells + 39 ≤ room_1.cells ∧ slots + 900 ≤ room_1.slots) (kk : ∀ (V1 : CV) (T2 : TS) (H2 : Heap) (locs2 : List Loc), Pv V1 T2 → lB D Ac At ad ad2 V1 T2 H2 → va_S (fun q => s.heap.size ≤ q) s.heap H2 locs2 → W p l e room_1 s m #[Value.ref b] below meth c H2 locs2 (cells + 39) (slots + 900) Q (F0 m 1503 ls [])) : W p l e room_1 s m #[Value.ref b] below meth c H locs cells slots Q (F0 m 655 ls []) := by
  obtain ⟨Fc, Ft, hX, hbl, hAc, hAt, hAB, hL⟩ := C
  have hx := Fc.1.x
  have hb := Fc.1.b
  refine lv_aload_n hx hb dL_law_655 rfl (lv_at hl 2 rfl) ?_
  refine l_arg (k := 1) (z := 1) hx hb hX hbl hL hS hl (by omega) (by decide) dL_law_656 dL_law_657 rfl dL_law_659 dL_law_660 (fun h => lv_iconst (v := 1) hx hb dL_law_658 (by decide) h) ?_
  refine l_i (Bw := cB D Ac ad) (l_runV (A0 := fun q => s.heap.size ≤ q) (Bw := cB D Ac ad) (n := 1) (As := [.int (xs (i + 1))]) Fc hB.1 (fun _ h => h) hS (c_at Fc (hB.1.pic cpic0) rfl) (mX0_stop hw) q844 q845 q846 q83 q847 (by decide +kernel) ⟨Nat.le_of_ble_eq_true rfl, Nat.le_of_ble_eq_true rfl⟩ ⟨rfl, rfl⟩ ⟨by have := hc.1; omega, by have := hc.2; omega⟩ rfl hl.1 rfl (Nat.le_of_ble_eq_true rfl) dL_law_661) hAc hS (fun r V1 H1 locs1 hw hB1 hz1 hk1 hS1 => ?_)
  have hT1 := tB.out hB.2 hAB hk1
  refine lv_aload_n hx hb dL_law_664 rfl (lv_at hl 1 rfl) ?_
  refine l_arg (k := 1) (z := 1) hx hb hX hbl hL hS1 hl (by omega) (by decide) dL_law_665 dL_law_666 rfl dL_law_668 dL_law_669 (fun h => lv_iconst (v := 1) hx hb dL_law_667 (by decide) h) ?_
  refine l_i (Bw := tB D At ad2) (l_runV (A0 := fun q => s.heap.size ≤ q) (Bw := tB D At ad2) (n := 1) (As := [.int (xs (i + 1))]) Ft hT1 (fun _ h => h) hS1 (c_at Ft (gH.pic hT1 tpic0) rfl) (mX6_stop hw) q1465 q1466 q1467 q92 q1468 (by decide +kernel) ⟨Nat.le_of_ble_eq_true rfl, Nat.le_of_ble_eq_true rfl⟩ ⟨rfl, rfl⟩ ⟨by have := hc.1; omega, by have := hc.2; omega⟩ rfl hl.1 rfl (Nat.le_of_ble_eq_true rfl) dL_law_670) hAt hS1 (fun r2 T2 H2 locs2 hw hB2 hz2 hk2 hS2 => ?_)
  obtain ⟨rfl, hw⟩ := hw
  refine lv_icmp_eq (tgt := 1503) hx hb dL_law_673 (by decide) (fun _ => ?_) (fun q => absurd rfl q)
  refine W.widen (k := cells + 39) (n := slots + 900) (by omega) (by omega) ?_
  exact kk V1 T2 H2 locs2 hw ⟨cB.out hB1 (fun q h1 h2 => hAB q h2 h1) hz2 hk2, hB2⟩ hS2
set_option maxHeartbeats 4000000 in
theorem lawc_14 {p : Program} {l : Launch} {e : Env} {s : State} {m : MethodId} {below : List Frame} {meth : Method} {c : Code} {H : Heap} {locs : List Loc} {cells slots : Nat} {Q : State → Prop} {b L i : Nat} {xs : Nat → Int32} {ls : Array Slot} {D : DD} {Ac At : Nat → Prop} {ad ad2 : AD} {V : CV} {T : TS} {Pv : CV → TS → Prop} (C : LC p l s m meth c D Ac At b L xs) (hB : lB D Ac At ad ad2 V T H) (hS : va_S (fun q => s.heap.size ≤ q) s.heap H locs) (hi : i + 6 ≤ L) (hl : lv_has ls 4 [(3, .int (nI i)), (2, .ref (ad2 0 0 0)), (1, .ref (ad 0 0 0)), (0, .ref b)]) (hw : wX0_say (xs (i + 1)) (xs (i + 2)) (xs (i + 3)) V (fun r V1 => wX6_say (xs (i + 1)) (xs (i + 2)) (xs (i + 3)) T (fun r2 T2 => r = r2 ∧ Pv V1 T2))) (hc : cells + 39 ≤ room_1.cells ∧ slots + 900 ≤ room_1.slots) (kk : ∀ (V1 : CV) (T2 : TS) (H2 : Heap) (locs2 : List Loc), Pv V1 T2 → lB D Ac At ad ad2 V1 T2 H2 → va_S (fun q => s.heap.size ≤ q) s.heap H2 locs2 → W p l e room_1 s m #[Value.ref b] below meth c H2 locs2 (cells + 39) (slots + 900) Q (F0 m 1503 ls [])) : W p l e room_1 s m #[Value.ref b] below meth c H locs cells slots Q (F0 m 678 ls []) := by
  obtain ⟨Fc, Ft, hX, hbl, hAc, hAt, hAB, hL⟩ := C
  have hx := Fc.1.x
  have hb := Fc.1.b
  refine lv_aload_n hx hb dL_law_678 rfl (lv_at hl 2 rfl) ?_
  refine l_arg (k := 1) (z := 1) hx hb hX hbl hL hS hl (by omega) (by decide) dL_law_679 dL_law_680 rfl dL_law_682 dL_law_683 (fun h => lv_iconst (v := 1) hx hb dL_law_681 (by decide) h) ?_
  refine l_arg (k := 2) (z := 2) hx hb hX hbl hL hS hl (by omega) (by decide) dL_law_684 dL_law_685 rfl dL_law_687 dL_law_688 (fun h => lv_iconst (v := 2) hx hb dL_law_686 (by decide) h) ?_
  refine l_arg (k := 3) (z := 3) hx hb hX hbl hL hS hl (by omega) (by decide) dL_law_689 dL_law_690 rfl dL_law_692 dL_law_693 (fun h => lv_iconst (v := 3) hx hb dL_law_691 (by decide) h) ?_
  refine l_i (Bw := cB D Ac ad) (l_runV (A0 := fun q => s.heap.size ≤ q) (Bw := cB D Ac ad) (n := 3) (As := [.int (xs (i + 1)), .int (xs (i + 2)), .int (xs (i + 3))]) Fc hB.1 (fun _ h => h) hS (c_at Fc (hB.1.pic cpic0) rfl) (mX0_say hw) q848 q849 q850 q83 q851 (by decide +kernel) ⟨Nat.le_of_ble_eq_true rfl, Nat.le_of_ble_eq_true rfl⟩ ⟨rfl, rfl⟩ ⟨by have := hc.1; omega, by have := hc.2; omega⟩ rfl hl.1 rfl (Nat.le_of_ble_eq_true rfl) dL_law_694) hAc hS (fun r V1 H1 locs1 hw hB1 hz1 hk1 hS1 => ?_)
  have hT1 := tB.out hB.2 hAB hk1
  refine lv_aload_n hx hb dL_law_697 rfl (lv_at hl 1 rfl) ?_
  refine l_arg (k := 1) (z := 1) hx hb hX hbl hL hS1 hl (by omega) (by decide) dL_law_698 dL_law_699 rfl dL_law_701 dL_law_702 (fun h => lv_iconst (v := 1) hx hb dL_law_700 (by decide) h) ?_
  refine l_arg (k := 2) (z := 2) hx hb hX hbl hL hS1 hl (by omega) (by decide) dL_law_703 dL_law_704 rfl dL_law_706 dL_law_707 (fun h => lv_iconst (v := 2) hx hb dL_law_705 (by decide) h) ?_
  refine l_arg (k := 3) (z := 3) hx hb hX hbl hL hS1 hl (by omega) (by decide) dL_law_708 dL_law_709 rfl dL_law_711 dL_law_712 (fun h => lv_iconst (v := 3) hx hb dL_law_710 (by decide) h) ?_
  refine l_i (Bw := tB D At ad2) (l_runV (A0 := fun q => s.heap.size ≤ q) (Bw := tB D At ad2) (n := 3) (As := [.int (xs (i + 1)), .int (xs (i + 2)), .int (xs (i + 3))]) Ft hT1 (fun _ h => h) hS1 (c_at Ft (gH.pic hT1 tpic0) rfl) (mX6_say hw) q1470 q1471 q1472 q92 q1473 (by decide +kernel) ⟨Nat.le_of_ble_eq_true rfl, Nat.le_of_ble_eq_true rfl⟩ ⟨rfl, rfl⟩ ⟨by have := hc.1; omega, by have := hc.2; omega⟩ rfl hl.1 rfl (Nat.le_of_ble_eq_true rfl) dL_law_713) hAt hS1 (fun r2 T2 H2 locs2 hw hB2 hz2 hk2 hS2 => ?_)
  obtain ⟨rfl, hw⟩ := hw
  refine lv_icmp_eq (tgt := 1503) hx hb dL_law_716 (by decide) (fun _ => ?_) (fun q => absurd rfl q)
  refine W.widen (k := cells + 39) (n := slots + 900) (by omega) (by omega) ?_
  exact kk V1 T2 H2 locs2 hw ⟨cB.out hB1 (fun q h1 h2 => hAB q h2 h1) hz2 hk2, hB2⟩ hS2
set_option maxHeartbeats 4000000 in
theorem lawc_15 {p : Program} {l : Launch} {e : Env} {s : State} {m : MethodId} {below : List Frame} {meth : Method} {c : Code} {H : Heap} {locs : List Loc} {cells slots : Nat} {Q : State → Prop} {b L i : Nat} {xs : Nat → Int32} {ls : Array Slot} {D : DD} {Ac At : Nat → Prop} {ad ad2 : AD} {V : CV} {T : TS} {Pv : CV → TS → Prop} (C : LC p l s m meth c D Ac At b L xs) (hB : lB D Ac At ad ad2 V T H) (hS : va_S (fun q => s.heap.size ≤ q) s.heap H locs) (hi : i + 6 ≤ L) (hl : lv_has ls 4 [(3, .int (nI i)), (2, .ref (ad2 0 0 0)), (1, .ref (ad 0 0 0)), (0, .ref b)]) (hw : wX0_choice (xs (i + 1)) (xs (i + 2)) V (fun r V1 => wX6_choice (xs (i + 1)) (xs (i + 2)) T (fun r2 T2 => r = r2 ∧ Pv V1 T2))) (hc : cells + 39 ≤ room_1.cells ∧ slots + 900 ≤ room_1.slots) (kk : ∀ (V1 : CV) (T2 : TS) (H2 : Heap) (locs2 : List Loc), Pv V1 T2 → lB D Ac At ad ad2 V1 T2 H2 → va_S (fun q => s.heap.size ≤ q) s.heap H2 locs2 → W p l e room_1 s m #[Value.ref b] below meth c H2 locs2 (cells + 39) (slots + 900) Q (F0 m 1503 ls [])) : W p l e room_1 s m #[Value.ref b] below meth c H locs cells slots Q (F0 m 721 ls []) := by
  obtain ⟨Fc, Ft, hX, hbl, hAc, hAt, hAB, hL⟩ := C
  have hx := Fc.1.x
  have hb := Fc.1.b
  refine lv_aload_n hx hb dL_law_721 rfl (lv_at hl 2 rfl) ?_
  refine l_arg (k := 1) (z := 1) hx hb hX hbl hL hS hl (by omega) (by decide) dL_law_722 dL_law_723 rfl dL_law_725 dL_law_726 (fun h => lv_iconst (v := 1) hx hb dL_law_724 (by decide) h) ?_
  refine l_arg (k := 2) (z := 2) hx hb hX hbl hL hS hl (by omega) (by decide) dL_law_727 dL_law_728 rfl dL_law_730 dL_law_731 (fun h => lv_iconst (v := 2) hx hb dL_law_729 (by decide) h) ?_
  refine l_i (Bw := cB D Ac ad) (l_runV (A0 := fun q => s.heap.size ≤ q) (Bw := cB D Ac ad) (n := 2) (As := [.int (xs (i + 1)), .int (xs (i + 2))]) Fc hB.1 (fun _ h => h) hS (c_at Fc (hB.1.pic cpic0) rfl) (mX0_choice hw) q865 q866 q867 q83 q868 (by decide +kernel) ⟨Nat.le_of_ble_eq_true rfl, Nat.le_of_ble_eq_true rfl⟩ ⟨rfl, rfl⟩ ⟨by have := hc.1; omega, by have := hc.2; omega⟩ rfl hl.1 rfl (Nat.le_of_ble_eq_true rfl) dL_law_732) hAc hS (fun r V1 H1 locs1 hw hB1 hz1 hk1 hS1 => ?_)
  have hT1 := tB.out hB.2 hAB hk1
  refine lv_aload_n hx hb dL_law_735 rfl (lv_at hl 1 rfl) ?_
  refine l_arg (k := 1) (z := 1) hx hb hX hbl hL hS1 hl (by omega) (by decide) dL_law_736 dL_law_737 rfl dL_law_739 dL_law_740 (fun h => lv_iconst (v := 1) hx hb dL_law_738 (by decide) h) ?_
  refine l_arg (k := 2) (z := 2) hx hb hX hbl hL hS1 hl (by omega) (by decide) dL_law_741 dL_law_742 rfl dL_law_744 dL_law_745 (fun h => lv_iconst (v := 2) hx hb dL_law_743 (by decide) h) ?_
  refine l_i (Bw := tB D At ad2) (l_runV (A0 := fun q => s.heap.size ≤ q) (Bw := tB D At ad2) (n := 2) (As := [.int (xs (i + 1)), .int (xs (i + 2))]) Ft hT1 (fun _ h => h) hS1 (c_at Ft (gH.pic hT1 tpic0) rfl) (mX6_choice hw) q1487 q1488 q1489 q92 q1490 (by decide +kernel) ⟨Nat.le_of_ble_eq_true rfl, Nat.le_of_ble_eq_true rfl⟩ ⟨rfl, rfl⟩ ⟨by have := hc.1; omega, by have := hc.2; omega⟩ rfl hl.1 rfl (Nat.le_of_ble_eq_true rfl) dL_law_746) hAt hS1 (fun r2 T2 H2 locs2 hw hB2 hz2 hk2 hS2 => ?_)
  obtain ⟨rfl, hw⟩ := hw
  refine lv_icmp_eq (tgt := 1503) hx hb dL_law_749 (by decide) (fun _ => ?_) (fun q => absurd rfl q)
  refine W.widen (k := cells + 39) (n := slots + 900) (by omega) (by omega) ?_
  exact kk V1 T2 H2 locs2 hw ⟨cB.out hB1 (fun q h1 h2 => hAB q h2 h1) hz2 hk2, hB2⟩ hS2
set_option maxHeartbeats 4000000 in
theorem lawc_16 {p : Program} {l : Launch} {e : Env} {s : State} {m : MethodId} {below : List Frame} {meth : Method} {c : Code} {H : Heap} {locs : List Loc} {cells slots : Nat} {Q : State → Prop} {b L i : Nat} {xs : Nat → Int32} {ls : Array Slot} {D : DD} {Ac At : Nat → Prop} {ad ad2 : AD} {V : CV} {T : TS} {Pv : CV → TS → Prop} (C : LC p l s m meth c D Ac At b L xs) (hB : lB D Ac At ad ad2 V T H) (hS : va_S (fun q => s.heap.size ≤ q) s.heap H locs) (hi : i + 6 ≤ L) (hl : lv_has ls 4 [(3, .int (nI i)), (2, .ref (ad2 0 0 0)), (1, .ref (ad 0 0 0)), (0, .ref b)]) (hw : wX0_rounds (xs (i + 1)) (xs (i + 2)) V (fun r V1 => wX6_rounds (xs (i + 1)) (xs (i + 2)) T (fun r2 T2 => r = r2 ∧ Pv V1 T2))) (hc : cells + 39 ≤ room_1.cells ∧ slots + 900 ≤ room_1.slots) (kk : ∀ (V1 : CV) (T2 : TS) (H2 : Heap) (locs2 : List Loc), Pv V1 T2 → lB D Ac At ad ad2 V1 T2 H2 → va_S (fun q => s.heap.size ≤ q) s.heap H2 locs2 → W p l e room_1 s m #[Value.ref b] below meth c H2 locs2 (cells + 39) (slots + 900) Q (F0 m 1503 ls [])) : W p l e room_1 s m #[Value.ref b] below meth c H locs cells slots Q (F0 m 754 ls []) := by
  obtain ⟨Fc, Ft, hX, hbl, hAc, hAt, hAB, hL⟩ := C
  have hx := Fc.1.x
  have hb := Fc.1.b
  refine lv_aload_n hx hb dL_law_754 rfl (lv_at hl 2 rfl) ?_
  refine l_arg (k := 1) (z := 1) hx hb hX hbl hL hS hl (by omega) (by decide) dL_law_755 dL_law_756 rfl dL_law_758 dL_law_759 (fun h => lv_iconst (v := 1) hx hb dL_law_757 (by decide) h) ?_
  refine l_arg (k := 2) (z := 2) hx hb hX hbl hL hS hl (by omega) (by decide) dL_law_760 dL_law_761 rfl dL_law_763 dL_law_764 (fun h => lv_iconst (v := 2) hx hb dL_law_762 (by decide) h) ?_
  refine l_i (Bw := cB D Ac ad) (l_runV (A0 := fun q => s.heap.size ≤ q) (Bw := cB D Ac ad) (n := 2) (As := [.int (xs (i + 1)), .int (xs (i + 2))]) Fc hB.1 (fun _ h => h) hS (c_at Fc (hB.1.pic cpic0) rfl) (mX0_rounds hw) q936 q937 q938 q83 q939 (by decide +kernel) ⟨Nat.le_of_ble_eq_true rfl, Nat.le_of_ble_eq_true rfl⟩ ⟨rfl, rfl⟩ ⟨by have := hc.1; omega, by have := hc.2; omega⟩ rfl hl.1 rfl (Nat.le_of_ble_eq_true rfl) dL_law_765) hAc hS (fun r V1 H1 locs1 hw hB1 hz1 hk1 hS1 => ?_)
  have hT1 := tB.out hB.2 hAB hk1
  refine lv_aload_n hx hb dL_law_768 rfl (lv_at hl 1 rfl) ?_
  refine l_arg (k := 1) (z := 1) hx hb hX hbl hL hS1 hl (by omega) (by decide) dL_law_769 dL_law_770 rfl dL_law_772 dL_law_773 (fun h => lv_iconst (v := 1) hx hb dL_law_771 (by decide) h) ?_
  refine l_arg (k := 2) (z := 2) hx hb hX hbl hL hS1 hl (by omega) (by decide) dL_law_774 dL_law_775 rfl dL_law_777 dL_law_778 (fun h => lv_iconst (v := 2) hx hb dL_law_776 (by decide) h) ?_
  refine l_i (Bw := tB D At ad2) (l_runV (A0 := fun q => s.heap.size ≤ q) (Bw := tB D At ad2) (n := 2) (As := [.int (xs (i + 1)), .int (xs (i + 2))]) Ft hT1 (fun _ h => h) hS1 (c_at Ft (gH.pic hT1 tpic0) rfl) (mX6_rounds hw) q1505 q1506 q1507 q92 q1508 (by decide +kernel) ⟨Nat.le_of_ble_eq_true rfl, Nat.le_of_ble_eq_true rfl⟩ ⟨rfl, rfl⟩ ⟨by have := hc.1; omega, by have := hc.2; omega⟩ rfl hl.1 rfl (Nat.le_of_ble_eq_true rfl) dL_law_779) hAt hS1 (fun r2 T2 H2 locs2 hw hB2 hz2 hk2 hS2 => ?_)
  obtain ⟨rfl, hw⟩ := hw
  refine lv_icmp_eq (tgt := 1503) hx hb dL_law_782 (by decide) (fun _ => ?_) (fun q => absurd rfl q)
  refine W.widen (k := cells + 39) (n := slots + 900) (by omega) (by omega) ?_
  exact kk V1 T2 H2 locs2 hw ⟨cB.out hB1 (fun q h1 h2 => hAB q h2 h1) hz2 hk2, hB2⟩ hS2
set_option maxHeartbeats 4000000 in
theorem lawc_17 {p : Program} {l : Launch} {e : Env} {s : State} {m : MethodId} {below : List Frame} {meth : Method} {c : Code} {H : Heap} {locs : List Loc} {cells slots : Nat} {Q : State → Prop} {b L i : Nat} {xs : Nat → Int32} {ls : Array Slot} {D : DD} {Ac At : Nat → Prop} {ad ad2 : AD} {V : CV} {T : TS} {Pv : CV → TS → Prop} (C : LC p l s m meth c D Ac At b L xs) (hB : lB D Ac At ad ad2 V T H) (hS : va_S (fun q => s.heap.size ≤ q) s.heap H locs) (hi : i + 6 ≤ L) (hl : lv_has ls 4 [(3, .int (nI i)), (2, .ref (ad2 0 0 0)), (1, .ref (ad 0 0 0)), (0, .ref b)]) (hw : wX0_fewest (xs (i + 1)) (xs (i + 2)) V (fun r V1 => wX6_fewest (xs (i + 1)) (xs (i + 2)) T (fun r2 T2 => r = r2 ∧ Pv V1 T2))) (hc : cells + 39 ≤ room_1.cells ∧ slots + 900 ≤ room_1.slots) (kk : ∀ (V1 : CV) (T2 : TS) (H2 : Heap) (locs2 : List Loc), Pv V1 T2 → lB D Ac At ad ad2 V1 T2 H2 → va_S (fun q => s.heap.size ≤ q) s.heap H2 locs2 → W p l e room_1 s m #[Value.ref b] below meth c H2 locs2 (cells + 39) (slots + 900) Q (F0 m 1503 ls [])) : W p l e room_1 s m #[Value.ref b] below meth c H locs cells slots Q (F0 m 787 ls []) := by
  obtain ⟨Fc, Ft, hX, hbl, hAc, hAt, hAB, hL⟩ := C
  have hx := Fc.1.x
  have hb := Fc.1.b
  refine lv_aload_n hx hb dL_law_787 rfl (lv_at hl 2 rfl) ?_
  refine l_arg (k := 1) (z := 1) hx hb hX hbl hL hS hl (by omega) (by decide) dL_law_788 dL_law_789 rfl dL_law_791 dL_law_792 (fun h => lv_iconst (v := 1) hx hb dL_law_790 (by decide) h) ?_
  refine l_arg (k := 2) (z := 2) hx hb hX hbl hL hS hl (by omega) (by decide) dL_law_793 dL_law_794 rfl dL_law_796 dL_law_797 (fun h => lv_iconst (v := 2) hx hb dL_law_795 (by decide) h) ?_
  refine l_i (Bw := cB D Ac ad) (l_runV (A0 := fun q => s.heap.size ≤ q) (Bw := cB D Ac ad) (n := 2) (As := [.int (xs (i + 1)), .int (xs (i + 2))]) Fc hB.1 (fun _ h => h) hS (c_at Fc (hB.1.pic cpic0) rfl) (mX0_fewest hw) q948 q949 q950 q83 q951 (by decide +kernel) ⟨Nat.le_of_ble_eq_true rfl, Nat.le_of_ble_eq_true rfl⟩ ⟨rfl, rfl⟩ ⟨by have := hc.1; omega, by have := hc.2; omega⟩ rfl hl.1 rfl (Nat.le_of_ble_eq_true rfl) dL_law_798) hAc hS (fun r V1 H1 locs1 hw hB1 hz1 hk1 hS1 => ?_)
  have hT1 := tB.out hB.2 hAB hk1
  refine lv_aload_n hx hb dL_law_801 rfl (lv_at hl 1 rfl) ?_
  refine l_arg (k := 1) (z := 1) hx hb hX hbl hL hS1 hl (by omega) (by decide) dL_law_802 dL_law_803 rfl dL_law_805 dL_law_806 (fun h => lv_iconst (v := 1) hx hb dL_law_804 (by decide) h) ?_
  refine l_arg (k := 2) (z := 2) hx hb hX hbl hL hS1 hl (by omega) (by decide) dL_law_807 dL_law_808 rfl dL_law_810 dL_law_811 (fun h => lv_iconst (v := 2) hx hb dL_law_809 (by decide) h) ?_
  refine l_i (Bw := tB D At ad2) (l_runV (A0 := fun q => s.heap.size ≤ q) (Bw := tB D At ad2) (n := 2) (As := [.int (xs (i + 1)), .int (xs (i + 2))]) Ft hT1 (fun _ h => h) hS1 (c_at Ft (gH.pic hT1 tpic0) rfl) (mX6_fewest hw) q1518 q1519 q1520 q92 q1521 (by decide +kernel) ⟨Nat.le_of_ble_eq_true rfl, Nat.le_of_ble_eq_true rfl⟩ ⟨rfl, rfl⟩ ⟨by have := hc.1; omega, by have := hc.2; omega⟩ rfl hl.1 rfl (Nat.le_of_ble_eq_true rfl) dL_law_812) hAt hS1 (fun r2 T2 H2 locs2 hw hB2 hz2 hk2 hS2 => ?_)
  obtain ⟨rfl, hw⟩ := hw
  refine lv_icmp_eq (tgt := 1503) hx hb dL_law_815 (by decide) (fun _ => ?_) (fun q => absurd rfl q)
  refine W.widen (k := cells + 39) (n := slots + 900) (by omega) (by omega) ?_
  exact kk V1 T2 H2 locs2 hw ⟨cB.out hB1 (fun q h1 h2 => hAB q h2 h1) hz2 hk2, hB2⟩ hS2
set_option maxHeartbeats 4000000 in
theorem lawc_18 {p : Program} {l : Launch} {e : Env} {s : State} {m : MethodId} {below : List Frame} {meth : Method} {c : Code} {H : Heap} {locs : List Loc} {cells slots : Nat} {Q : State → Prop} {b L i : Nat} {xs : Nat → Int32} {ls : Array Slot} {D : DD} {Ac At : Nat → Prop} {ad ad2 : AD} {V : CV} {T : TS} {Pv : CV → TS → Prop} (C : LC p l s m meth c D Ac At b L xs) (hB : lB D Ac At ad ad2 V T H) (hS : va_S (fun q => s.heap.size ≤ q) s.heap H locs) (hi : i + 6 ≤ L) (hl : lv_has ls 4 [(3, .int (nI i)), (2, .ref (ad2 0 0 0)), (1, .ref (ad 0 0 0)), (0, .ref b)]) (hw : wX0_silent V (fun r V1 => wX6_silent T (fun r2 T2 => r = r2 ∧ Pv V1 T2))) (hc : cells + 39 ≤ room_1.cells ∧ slots + 900 ≤ room_1.slots) (kk : ∀ (V1 : CV) (T2 : TS) (H2 : Heap) (locs2 : List Loc), Pv V1 T2 → lB D Ac At ad ad2 V1 T2 H2 → va_S (fun q => s.heap.size ≤ q) s.heap H2 locs2 → W p l e room_1 s m #[Value.ref b] below meth c H2 locs2 (cells + 39) (slots + 900) Q (F0 m 1503 ls [])) : W p l e room_1 s m #[Value.ref b] below meth c H locs cells slots Q (F0 m 820 ls []) := by
  obtain ⟨Fc, Ft, hX, hbl, hAc, hAt, hAB, hL⟩ := C
  have hx := Fc.1.x
  have hb := Fc.1.b
  refine lv_aload_n hx hb dL_law_820 rfl (lv_at hl 2 rfl) ?_
  refine l_i (Bw := cB D Ac ad) (l_runV (A0 := fun q => s.heap.size ≤ q) (Bw := cB D Ac ad) (n := 0) (As := []) Fc hB.1 (fun _ h => h) hS (c_at Fc (hB.1.pic cpic0) rfl) (mX0_silent hw) q956 q957 q958 q83 q959 (by decide +kernel) ⟨Nat.le_of_ble_eq_true rfl, Nat.le_of_ble_eq_true rfl⟩ ⟨rfl, rfl⟩ ⟨by have := hc.1; omega, by have := hc.2; omega⟩ rfl hl.1 rfl (Nat.le_of_ble_eq_true rfl) dL_law_821) hAc hS (fun r V1 H1 locs1 hw hB1 hz1 hk1 hS1 => ?_)
  have hT1 := tB.out hB.2 hAB hk1
  refine lv_aload_n hx hb dL_law_824 rfl (lv_at hl 1 rfl) ?_
  refine l_i (Bw := tB D At ad2) (l_runV (A0 := fun q => s.heap.size ≤ q) (Bw := tB D At ad2) (n := 0) (As := []) Ft hT1 (fun _ h => h) hS1 (c_at Ft (gH.pic hT1 tpic0) rfl) (mX6_silent hw) q1522 q1523 q1524 q92 q1525 (by decide +kernel) ⟨Nat.le_of_ble_eq_true rfl, Nat.le_of_ble_eq_true rfl⟩ ⟨rfl, rfl⟩ ⟨by have := hc.1; omega, by have := hc.2; omega⟩ rfl hl.1 rfl (Nat.le_of_ble_eq_true rfl) dL_law_825) hAt hS1 (fun r2 T2 H2 locs2 hw hB2 hz2 hk2 hS2 => ?_)
  obtain ⟨rfl, hw⟩ := hw
  refine lv_icmp_eq (tgt := 1503) hx hb dL_law_828 (by decide) (fun _ => ?_) (fun q => absurd rfl q)
  refine W.widen (k := cells + 39) (n := slots + 900) (by omega) (by omega) ?_
  exact kk V1 T2 H2 locs2 hw ⟨cB.out hB1 (fun q h1 h2 => hAB q h2 h1) hz2 hk2, hB2⟩ hS2
set_option maxHeartbeats 4000000 in
theorem lawc_19 {p : Program} {l : Launch} {e : Env} {s : State} {m : MethodId} {below : List Frame} {meth : Method} {c : Code} {H : Heap} {locs : List Loc} {cells slots : Nat} {Q : State → Prop} {b L i : Nat} {xs : Nat → Int32} {ls : Array Slot} {D : DD} {Ac At : Nat → Prop} {ad ad2 : AD} {V : CV} {T : TS} {Pv : CV → TS → Prop} (C : LC p l s m meth c D Ac At b L xs) (hB : lB D Ac At ad ad2 V T H) (hS : va_S (fun q => s.heap.size ≤ q) s.heap H locs) (hi : i + 6 ≤ L) (hl : lv_has ls 4 [(3, .int (nI i)), (2, .ref (ad2 0 0 0)), (1, .ref (ad 0 0 0)), (0, .ref b)]) (hw : wX0_meant (xs (i + 1)) V (fun r V1 => wX6_meant (xs (i + 1)) T (fun r2 T2 => r = r2 ∧ Pv V1 T2))) (hc : cells + 39 ≤ room_1.cells ∧ slots + 900 ≤ room_1.slots) (kk : ∀ (V1 : CV) (T2 : TS) (H2 : Heap) (locs2 : List Loc), Pv V1 T2 → lB D Ac At ad ad2 V1 T2 H2 → va_S (fun q => s.heap.size ≤ q) s.heap H2 locs2 → W p l e room_1 s m #[Value.ref b] below meth c H2 locs2 (cells + 39) (slots + 900) Q (F0 m 1503 ls [])) : W p l e room_1 s m #[Value.ref b] below meth c H locs cells slots Q (F0 m 833 ls []) := by
  obtain ⟨Fc, Ft, hX, hbl, hAc, hAt, hAB, hL⟩ := C
  have hx := Fc.1.x
  have hb := Fc.1.b
  refine lv_aload_n hx hb dL_law_833 rfl (lv_at hl 2 rfl) ?_
  refine l_arg (k := 1) (z := 1) hx hb hX hbl hL hS hl (by omega) (by decide) dL_law_834 dL_law_835 rfl dL_law_837 dL_law_838 (fun h => lv_iconst (v := 1) hx hb dL_law_836 (by decide) h) ?_
  refine l_i (Bw := cB D Ac ad) (l_runV (A0 := fun q => s.heap.size ≤ q) (Bw := cB D Ac ad) (n := 1) (As := [.int (xs (i + 1))]) Fc hB.1 (fun _ h => h) hS (c_at Fc (hB.1.pic cpic0) rfl) (mX0_meant hw) q960 q961 q962 q83 q963 (by decide +kernel) ⟨Nat.le_of_ble_eq_true rfl, Nat.le_of_ble_eq_true rfl⟩ ⟨rfl, rfl⟩ ⟨by have := hc.1; omega, by have := hc.2; omega⟩ rfl hl.1 rfl (Nat.le_of_ble_eq_true rfl) dL_law_839) hAc hS (fun r V1 H1 locs1 hw hB1 hz1 hk1 hS1 => ?_)
  have hT1 := tB.out hB.2 hAB hk1
  refine lv_aload_n hx hb dL_law_842 rfl (lv_at hl 1 rfl) ?_
  refine l_arg (k := 1) (z := 1) hx hb hX hbl hL hS1 hl (by omega) (by decide) dL_law_843 dL_law_844 rfl dL_law_846 dL_law_847 (fun h => lv_iconst (v := 1) hx hb dL_law_845 (by decide) h) ?_
  refine l_i (Bw := tB D At ad2) (l_runV (A0 := fun q => s.heap.size ≤ q) (Bw := tB D At ad2) (n := 1) (As := [.int (xs (i + 1))]) Ft hT1 (fun _ h => h) hS1 (c_at Ft (gH.pic hT1 tpic0) rfl) (mX6_meant hw) q1526 q1527 q1528 q92 q1529 (by decide +kernel) ⟨Nat.le_of_ble_eq_true rfl, Nat.le_of_ble_eq_true rfl⟩ ⟨rfl, rfl⟩ ⟨by have := hc.1; omega, by have := hc.2; omega⟩ rfl hl.1 rfl (Nat.le_of_ble_eq_true rfl) dL_law_848) hAt hS1 (fun r2 T2 H2 locs2 hw hB2 hz2 hk2 hS2 => ?_)
  obtain ⟨rfl, hw⟩ := hw
  refine lv_icmp_eq (tgt := 1503) hx hb dL_law_851 (by decide) (fun _ => ?_) (fun q => absurd rfl q)
  refine W.widen (k := cells + 39) (n := slots + 900) (by omega) (by omega) ?_
  exact kk V1 T2 H2 locs2 hw ⟨cB.out hB1 (fun q h1 h2 => hAB q h2 h1) hz2 hk2, hB2⟩ hS2
set_option maxHeartbeats 4000000 in
theorem lawc_20 {p : Program} {l : Launch} {e : Env} {s : State} {m : MethodId} {below : List Frame} {meth : Method} {c : Code} {H : Heap} {locs : List Loc} {cells slots : Nat} {Q : State → Prop} {b L i : Nat} {xs : Nat → Int32} {ls : Array Slot} {D : DD} {Ac At : Nat → Prop} {ad ad2 : AD} {V : CV} {T : TS} {Pv : CV → TS → Prop} (C : LC p l s m meth c D Ac At b L xs) (hB : lB D Ac At ad ad2 V T H) (hS : va_S (fun q => s.heap.size ≤ q) s.heap H locs) (hi : i + 6 ≤ L) (hl : lv_has ls 4 [(3, .int (nI i)), (2, .ref (ad2 0 0 0)), (1, .ref (ad 0 0 0)), (0, .ref b)]) (hw : wX0_proved (xs (i + 1)) V (fun r V1 => wX6_proved (xs (i + 1)) T (fun r2 T2 => r = r2 ∧ Pv V1 T2))) (hc : cells + 39 ≤ room_1.cells ∧ slots + 900 ≤ room_1.slots) (kk : ∀ (V1 : CV) (T2 : TS) (H2 : Heap) (locs2 : List Loc), Pv V1 T2 → lB D Ac At ad ad2 V1 T2 H2 → va_S (fun q => s.heap.size ≤ q) s.heap H2 locs2 → W p l e room_1 s m #[Value.ref b] below meth c H2 locs2 (cells + 39) (slots + 900) Q (F0 m 1503 ls [])) : W p l e room_1 s m #[Value.ref b] below meth c H locs cells slots Q (F0 m 856 ls []) := by
  obtain ⟨Fc, Ft, hX, hbl, hAc, hAt, hAB, hL⟩ := C
  have hx := Fc.1.x
  have hb := Fc.1.b
  refine lv_aload_n hx hb dL_law_856 rfl (lv_at hl 2 rfl) ?_
  refine l_arg (k := 1) (z := 1) hx hb hX hbl hL hS hl (by omega) (by decide) dL_law_857 dL_law_858 rfl dL_law_860 dL_law_861 (fun h => lv_iconst (v := 1) hx hb dL_law_859 (by decide) h) ?_
  refine l_i (Bw := cB D Ac ad) (l_runV (A0 := fun q => s.heap.size ≤ q) (Bw := cB D Ac ad) (n := 1) (As := [.int (xs (i + 1))]) Fc hB.1 (fun _ h => h) hS (c_at Fc (hB.1.pic cpic0) rfl) (mX0_proved hw) q965 q966 q967 q83 q968 (by decide +kernel) ⟨Nat.le_of_ble_eq_true rfl, Nat.le_of_ble_eq_true rfl⟩ ⟨rfl, rfl⟩ ⟨by have := hc.1; omega, by have := hc.2; omega⟩ rfl hl.1 rfl (Nat.le_of_ble_eq_true rfl) dL_law_862) hAc hS (fun r V1 H1 locs1 hw hB1 hz1 hk1 hS1 => ?_)
  have hT1 := tB.out hB.2 hAB hk1
  refine lv_aload_n hx hb dL_law_865 rfl (lv_at hl 1 rfl) ?_
  refine l_arg (k := 1) (z := 1) hx hb hX hbl hL hS1 hl (by omega) (by decide) dL_law_866 dL_law_867 rfl dL_law_869 dL_law_870 (fun h => lv_iconst (v := 1) hx hb dL_law_868 (by decide) h) ?_
  refine l_i (Bw := tB D At ad2) (l_runV (A0 := fun q => s.heap.size ≤ q) (Bw := tB D At ad2) (n := 1) (As := [.int (xs (i + 1))]) Ft hT1 (fun _ h => h) hS1 (c_at Ft (gH.pic hT1 tpic0) rfl) (mX6_proved hw) q1530 q1531 q1532 q92 q1533 (by decide +kernel) ⟨Nat.le_of_ble_eq_true rfl, Nat.le_of_ble_eq_true rfl⟩ ⟨rfl, rfl⟩ ⟨by have := hc.1; omega, by have := hc.2; omega⟩ rfl hl.1 rfl (Nat.le_of_ble_eq_true rfl) dL_law_871) hAt hS1 (fun r2 T2 H2 locs2 hw hB2 hz2 hk2 hS2 => ?_)
  obtain ⟨rfl, hw⟩ := hw
  refine lv_icmp_eq (tgt := 1503) hx hb dL_law_874 (by decide) (fun _ => ?_) (fun q => absurd rfl q)
  refine W.widen (k := cells + 39) (n := slots + 900) (by omega) (by omega) ?_
  exact kk V1 T2 H2 locs2 hw ⟨cB.out hB1 (fun q h1 h2 => hAB q h2 h1) hz2 hk2, hB2⟩ hS2
set_option maxHeartbeats 4000000 in
theorem lawc_21 {p : Program} {l : Launch} {e : Env} {s : State} {m : MethodId} {below : List Frame} {meth : Method} {c : Code} {H : Heap} {locs : List Loc} {cells slots : Nat} {Q : State → Prop} {b L i : Nat} {xs : Nat → Int32} {ls : Array Slot} {D : DD} {Ac At : Nat → Prop} {ad ad2 : AD} {V : CV} {T : TS} {Pv : CV → TS → Prop} (C : LC p l s m meth c D Ac At b L xs) (hB : lB D Ac At ad ad2 V T H) (hS : va_S (fun q => s.heap.size ≤ q) s.heap H locs) (hi : i + 6 ≤ L) (hl : lv_has ls 4 [(3, .int (nI i)), (2, .ref (ad2 0 0 0)), (1, .ref (ad 0 0 0)), (0, .ref b)]) (hw : wX0_falls (xs (i + 1)) (xs (i + 2)) V (fun r V1 => wX6_falls (xs (i + 1)) (xs (i + 2)) T (fun r2 T2 => r = r2 ∧ Pv V1 T2))) (hc : cells + 39 ≤ room_1.cells ∧ slots + 900 ≤ room_1.slots) (kk : ∀ (V1 : CV) (T2 : TS) (H2 : Heap) (locs2 : List Loc), Pv V1 T2 → lB D Ac At ad ad2 V1 T2 H2 → va_S (fun q => s.heap.size ≤ q) s.heap H2 locs2 → W p l e room_1 s m #[Value.ref b] below meth c H2 locs2 (cells + 39) (slots + 900) Q (F0 m 1503 ls [])) : W p l e room_1 s m #[Value.ref b] below meth c H locs cells slots Q (F0 m 879 ls []) := by
  obtain ⟨Fc, Ft, hX, hbl, hAc, hAt, hAB, hL⟩ := C
  have hx := Fc.1.x
  have hb := Fc.1.b
  refine lv_aload_n hx hb dL_law_879 rfl (lv_at hl 2 rfl) ?_
  refine l_arg (k := 1) (z := 1) hx hb hX hbl hL hS hl (by omega) (by decide) dL_law_880 dL_law_881 rfl dL_law_883 dL_law_884 (fun h => lv_iconst (v := 1) hx hb dL_law_882 (by decide) h) ?_
  refine l_arg (k := 2) (z := 2) hx hb hX hbl hL hS hl (by omega) (by decide) dL_law_885 dL_law_886 rfl dL_law_888 dL_law_889 (fun h => lv_iconst (v := 2) hx hb dL_law_887 (by decide) h) ?_
  refine l_l (Bw := cB D Ac ad) (l_runV (A0 := fun q => s.heap.size ≤ q) (Bw := cB D Ac ad) (n := 2) (As := [.int (xs (i + 1)), .int (xs (i + 2))]) Fc hB.1 (fun _ h => h) hS (c_at Fc (hB.1.pic cpic0) rfl) (mX0_falls hw) q969 q970 q971 q83 q972 (by decide +kernel) ⟨Nat.le_of_ble_eq_true rfl, Nat.le_of_ble_eq_true rfl⟩ ⟨rfl, rfl⟩ ⟨by have := hc.1; omega, by have := hc.2; omega⟩ rfl hl.1 rfl (Nat.le_of_ble_eq_true rfl) dL_law_890) hAc hS (fun r V1 H1 locs1 hw hB1 hz1 hk1 hS1 => ?_)
  have hT1 := tB.out hB.2 hAB hk1
  refine lv_aload_n hx hb dL_law_893 rfl (lv_at hl 1 rfl) ?_
  refine l_arg (k := 1) (z := 1) hx hb hX hbl hL hS1 hl (by omega) (by decide) dL_law_894 dL_law_895 rfl dL_law_897 dL_law_898 (fun h => lv_iconst (v := 1) hx hb dL_law_896 (by decide) h) ?_
  refine l_arg (k := 2) (z := 2) hx hb hX hbl hL hS1 hl (by omega) (by decide) dL_law_899 dL_law_900 rfl dL_law_902 dL_law_903 (fun h => lv_iconst (v := 2) hx hb dL_law_901 (by decide) h) ?_
  refine l_l (Bw := tB D At ad2) (l_runV (A0 := fun q => s.heap.size ≤ q) (Bw := tB D At ad2) (n := 2) (As := [.int (xs (i + 1)), .int (xs (i + 2))]) Ft hT1 (fun _ h => h) hS1 (c_at Ft (gH.pic hT1 tpic0) rfl) (mX6_falls hw) q1534 q1535 q1536 q92 q1537 (by decide +kernel) ⟨Nat.le_of_ble_eq_true rfl, Nat.le_of_ble_eq_true rfl⟩ ⟨rfl, rfl⟩ ⟨by have := hc.1; omega, by have := hc.2; omega⟩ rfl hl.1 rfl (Nat.le_of_ble_eq_true rfl) dL_law_904) hAt hS1 (fun r2 T2 H2 locs2 hw hB2 hz2 hk2 hS2 => ?_)
  obtain ⟨rfl, hw⟩ := hw
  refine W.lcmp hx hb dL_law_907 ?_
  refine lv_if_eq (tgt := 1503) hx hb dL_law_908 (by decide) (fun _ => ?_) (fun q => absurd (x_lcmp r) q)
  refine W.widen (k := cells + 39) (n := slots + 900) (by omega) (by omega) ?_
  exact kk V1 T2 H2 locs2 hw ⟨cB.out hB1 (fun q h1 h2 => hAB q h2 h1) hz2 hk2, hB2⟩ hS2
set_option maxHeartbeats 4000000 in
theorem lawc_22 {p : Program} {l : Launch} {e : Env} {s : State} {m : MethodId} {below : List Frame} {meth : Method} {c : Code} {H : Heap} {locs : List Loc} {cells slots : Nat} {Q : State → Prop} {b L i : Nat} {xs : Nat → Int32} {ls : Array Slot} {D : DD} {Ac At : Nat → Prop} {ad ad2 : AD} {V : CV} {T : TS} {Pv : CV → TS → Prop} (C : LC p l s m meth c D Ac At b L xs) (hB : lB D Ac At ad ad2 V T H) (hS : va_S (fun q => s.heap.size ≤ q) s.heap H locs) (hi : i + 6 ≤ L) (hl : lv_has ls 4 [(3, .int (nI i)), (2, .ref (ad2 0 0 0)), (1, .ref (ad 0 0 0)), (0, .ref b)]) (hw : wX0_most V (fun r V1 => wX6_most T (fun r2 T2 => r = r2 ∧ Pv V1 T2))) (hc : cells + 39 ≤ room_1.cells ∧ slots + 900 ≤ room_1.slots) (kk : ∀ (V1 : CV) (T2 : TS) (H2 : Heap) (locs2 : List Loc), Pv V1 T2 → lB D Ac At ad ad2 V1 T2 H2 → va_S (fun q => s.heap.size ≤ q) s.heap H2 locs2 → W p l e room_1 s m #[Value.ref b] below meth c H2 locs2 (cells + 39) (slots + 900) Q (F0 m 1503 ls [])) : W p l e room_1 s m #[Value.ref b] below meth c H locs cells slots Q (F0 m 913 ls []) := by
  obtain ⟨Fc, Ft, hX, hbl, hAc, hAt, hAB, hL⟩ := C
  have hx := Fc.1.x
  have hb := Fc.1.b
  refine lv_aload_n hx hb dL_law_913 rfl (lv_at hl 2 rfl) ?_
  refine l_i (Bw := cB D Ac ad) (l_runV (A0 := fun q => s.heap.size ≤ q) (Bw := cB D Ac ad) (n := 0) (As := []) Fc hB.1 (fun _ h => h) hS (c_at Fc (hB.1.pic cpic0) rfl) (mX0_most hw) q981 q982 q983 q83 q984 (by decide +kernel) ⟨Nat.le_of_ble_eq_true rfl, Nat.le_of_ble_eq_true rfl⟩ ⟨rfl, rfl⟩ ⟨by have := hc.1; omega, by have := hc.2; omega⟩ rfl hl.1 rfl (Nat.le_of_ble_eq_true rfl) dL_law_914) hAc hS (fun r V1 H1 locs1 hw hB1 hz1 hk1 hS1 => ?_)
  have hT1 := tB.out hB.2 hAB hk1
  refine lv_aload_n hx hb dL_law_917 rfl (lv_at hl 1 rfl) ?_
  refine l_i (Bw := tB D At ad2) (l_runV (A0 := fun q => s.heap.size ≤ q) (Bw := tB D At ad2) (n := 0) (As := []) Ft hT1 (fun _ h => h) hS1 (c_at Ft (gH.pic hT1 tpic0) rfl) (mX6_most hw) q1543 q1544 q1545 q92 q1546 (by decide +kernel) ⟨Nat.le_of_ble_eq_true rfl, Nat.le_of_ble_eq_true rfl⟩ ⟨rfl, rfl⟩ ⟨by have := hc.1; omega, by have := hc.2; omega⟩ rfl hl.1 rfl (Nat.le_of_ble_eq_true rfl) dL_law_918) hAt hS1 (fun r2 T2 H2 locs2 hw hB2 hz2 hk2 hS2 => ?_)
  obtain ⟨rfl, hw⟩ := hw
  refine lv_icmp_eq (tgt := 1503) hx hb dL_law_921 (by decide) (fun _ => ?_) (fun q => absurd rfl q)
  refine W.widen (k := cells + 39) (n := slots + 900) (by omega) (by omega) ?_
  exact kk V1 T2 H2 locs2 hw ⟨cB.out hB1 (fun q h1 h2 => hAB q h2 h1) hz2 hk2, hB2⟩ hS2
set_option maxHeartbeats 4000000 in
theorem lawc_23 {p : Program} {l : Launch} {e : Env} {s : State} {m : MethodId} {below : List Frame} {meth : Method} {c : Code} {H : Heap} {locs : List Loc} {cells slots : Nat} {Q : State → Prop} {b L i : Nat} {xs : Nat → Int32} {ls : Array Slot} {D : DD} {Ac At : Nat → Prop} {ad ad2 : AD} {V : CV} {T : TS} {Pv : CV → TS → Prop} (C : LC p l s m meth c D Ac At b L xs) (hB : lB D Ac At ad ad2 V T H) (hS : va_S (fun q => s.heap.size ≤ q) s.heap H locs) (hi : i + 6 ≤ L) (hl : lv_has ls 4 [(3, .int (nI i)), (2, .ref (ad2 0 0 0)), (1, .ref (ad 0 0 0)), (0, .ref b)]) (hw : wX0_feed (xs (i + 1)) (xs (i + 2)) (xs (i + 3)) V (fun r V1 => wX6_feed (xs (i + 1)) (xs (i + 2)) (xs (i + 3)) T (fun r2 T2 => r = r2 ∧ Pv V1 T2))) (hc : cells + 39 ≤ room_1.cells ∧ slots + 900 ≤ room_1.slots) (kk : ∀ (V1 : CV) (T2 : TS) (H2 : Heap) (locs2 : List Loc), Pv V1 T2 → lB D Ac At ad ad2 V1 T2 H2 → va_S (fun q => s.heap.size ≤ q) s.heap H2 locs2 → W p l e room_1 s m #[Value.ref b] below meth c H2 locs2 (cells + 39) (slots + 900) Q (F0 m 1503 ls [])) : W p l e room_1 s m #[Value.ref b] below meth c H locs cells slots Q (F0 m 926 ls []) := by
  obtain ⟨Fc, Ft, hX, hbl, hAc, hAt, hAB, hL⟩ := C
  have hx := Fc.1.x
  have hb := Fc.1.b
  refine lv_aload_n hx hb dL_law_926 rfl (lv_at hl 2 rfl) ?_
  refine l_arg (k := 1) (z := 1) hx hb hX hbl hL hS hl (by omega) (by decide) dL_law_927 dL_law_928 rfl dL_law_930 dL_law_931 (fun h => lv_iconst (v := 1) hx hb dL_law_929 (by decide) h) ?_
  refine l_arg (k := 2) (z := 2) hx hb hX hbl hL hS hl (by omega) (by decide) dL_law_932 dL_law_933 rfl dL_law_935 dL_law_936 (fun h => lv_iconst (v := 2) hx hb dL_law_934 (by decide) h) ?_
  refine l_arg (k := 3) (z := 3) hx hb hX hbl hL hS hl (by omega) (by decide) dL_law_937 dL_law_938 rfl dL_law_940 dL_law_941 (fun h => lv_iconst (v := 3) hx hb dL_law_939 (by decide) h) ?_
  refine l_i (Bw := cB D Ac ad) (l_runV (A0 := fun q => s.heap.size ≤ q) (Bw := cB D Ac ad) (n := 3) (As := [.int (xs (i + 1)), .int (xs (i + 2)), .int (xs (i + 3))]) Fc hB.1 (fun _ h => h) hS (c_at Fc (hB.1.pic cpic0) rfl) (mX0_feed hw) q376 q377 q378 q83 q379 (by decide +kernel) ⟨Nat.le_of_ble_eq_true rfl, Nat.le_of_ble_eq_true rfl⟩ ⟨rfl, rfl⟩ ⟨by have := hc.1; omega, by have := hc.2; omega⟩ rfl hl.1 rfl (Nat.le_of_ble_eq_true rfl) dL_law_942) hAc hS (fun r V1 H1 locs1 hw hB1 hz1 hk1 hS1 => ?_)
  have hT1 := tB.out hB.2 hAB hk1
  refine lv_aload_n hx hb dL_law_945 rfl (lv_at hl 1 rfl) ?_
  refine l_arg (k := 1) (z := 1) hx hb hX hbl hL hS1 hl (by omega) (by decide) dL_law_946 dL_law_947 rfl dL_law_949 dL_law_950 (fun h => lv_iconst (v := 1) hx hb dL_law_948 (by decide) h) ?_
  refine l_arg (k := 2) (z := 2) hx hb hX hbl hL hS1 hl (by omega) (by decide) dL_law_951 dL_law_952 rfl dL_law_954 dL_law_955 (fun h => lv_iconst (v := 2) hx hb dL_law_953 (by decide) h) ?_
  refine l_arg (k := 3) (z := 3) hx hb hX hbl hL hS1 hl (by omega) (by decide) dL_law_956 dL_law_957 rfl dL_law_959 dL_law_960 (fun h => lv_iconst (v := 3) hx hb dL_law_958 (by decide) h) ?_
  refine l_i (Bw := tB D At ad2) (l_runV (A0 := fun q => s.heap.size ≤ q) (Bw := tB D At ad2) (n := 3) (As := [.int (xs (i + 1)), .int (xs (i + 2)), .int (xs (i + 3))]) Ft hT1 (fun _ h => h) hS1 (c_at Ft (gH.pic hT1 tpic0) rfl) (mX6_feed hw) q1547 q1548 q1549 q92 q1550 (by decide +kernel) ⟨Nat.le_of_ble_eq_true rfl, Nat.le_of_ble_eq_true rfl⟩ ⟨rfl, rfl⟩ ⟨by have := hc.1; omega, by have := hc.2; omega⟩ rfl hl.1 rfl (Nat.le_of_ble_eq_true rfl) dL_law_961) hAt hS1 (fun r2 T2 H2 locs2 hw hB2 hz2 hk2 hS2 => ?_)
  obtain ⟨rfl, hw⟩ := hw
  refine lv_icmp_eq (tgt := 1503) hx hb dL_law_964 (by decide) (fun _ => ?_) (fun q => absurd rfl q)
  refine W.widen (k := cells + 39) (n := slots + 900) (by omega) (by omega) ?_
  exact kk V1 T2 H2 locs2 hw ⟨cB.out hB1 (fun q h1 h2 => hAB q h2 h1) hz2 hk2, hB2⟩ hS2
set_option maxHeartbeats 4000000 in
theorem lawc_24 {p : Program} {l : Launch} {e : Env} {s : State} {m : MethodId} {below : List Frame} {meth : Method} {c : Code} {H : Heap} {locs : List Loc} {cells slots : Nat} {Q : State → Prop} {b L i : Nat} {xs : Nat → Int32} {ls : Array Slot} {D : DD} {Ac At : Nat → Prop} {ad ad2 : AD} {V : CV} {T : TS} {Pv : CV → TS → Prop} (C : LC p l s m meth c D Ac At b L xs) (hB : lB D Ac At ad ad2 V T H) (hS : va_S (fun q => s.heap.size ≤ q) s.heap H locs) (hi : i + 6 ≤ L) (hl : lv_has ls 4 [(3, .int (nI i)), (2, .ref (ad2 0 0 0)), (1, .ref (ad 0 0 0)), (0, .ref b)]) (hw : wX0_trim (xs (i + 1)) V (fun r V1 => wX6_trim (xs (i + 1)) T (fun r2 T2 => r = r2 ∧ Pv V1 T2))) (hc : cells + 39 ≤ room_1.cells ∧ slots + 900 ≤ room_1.slots) (kk : ∀ (V1 : CV) (T2 : TS) (H2 : Heap) (locs2 : List Loc), Pv V1 T2 → lB D Ac At ad ad2 V1 T2 H2 → va_S (fun q => s.heap.size ≤ q) s.heap H2 locs2 → W p l e room_1 s m #[Value.ref b] below meth c H2 locs2 (cells + 39) (slots + 900) Q (F0 m 1503 ls [])) : W p l e room_1 s m #[Value.ref b] below meth c H locs cells slots Q (F0 m 969 ls []) := by
  obtain ⟨Fc, Ft, hX, hbl, hAc, hAt, hAB, hL⟩ := C
  have hx := Fc.1.x
  have hb := Fc.1.b
  refine lv_aload_n hx hb dL_law_969 rfl (lv_at hl 2 rfl) ?_
  refine l_arg (k := 1) (z := 1) hx hb hX hbl hL hS hl (by omega) (by decide) dL_law_970 dL_law_971 rfl dL_law_973 dL_law_974 (fun h => lv_iconst (v := 1) hx hb dL_law_972 (by decide) h) ?_
  refine l_i (Bw := cB D Ac ad) (l_runV (A0 := fun q => s.heap.size ≤ q) (Bw := cB D Ac ad) (n := 1) (As := [.int (xs (i + 1))]) Fc hB.1 (fun _ h => h) hS (c_at Fc (hB.1.pic cpic0) rfl) (mX0_trim hw) q385 q386 q387 q83 q388 (by decide +kernel) ⟨Nat.le_of_ble_eq_true rfl, Nat.le_of_ble_eq_true rfl⟩ ⟨rfl, rfl⟩ ⟨by have := hc.1; omega, by have := hc.2; omega⟩ rfl hl.1 rfl (Nat.le_of_ble_eq_true rfl) dL_law_975) hAc hS (fun r V1 H1 locs1 hw hB1 hz1 hk1 hS1 => ?_)
  have hT1 := tB.out hB.2 hAB hk1
  refine lv_aload_n hx hb dL_law_978 rfl (lv_at hl 1 rfl) ?_
  refine l_arg (k := 1) (z := 1) hx hb hX hbl hL hS1 hl (by omega) (by decide) dL_law_979 dL_law_980 rfl dL_law_982 dL_law_983 (fun h => lv_iconst (v := 1) hx hb dL_law_981 (by decide) h) ?_
  refine l_i (Bw := tB D At ad2) (l_runV (A0 := fun q => s.heap.size ≤ q) (Bw := tB D At ad2) (n := 1) (As := [.int (xs (i + 1))]) Ft hT1 (fun _ h => h) hS1 (c_at Ft (gH.pic hT1 tpic0) rfl) (mX6_trim hw) q1551 q1552 q1553 q92 q1554 (by decide +kernel) ⟨Nat.le_of_ble_eq_true rfl, Nat.le_of_ble_eq_true rfl⟩ ⟨rfl, rfl⟩ ⟨by have := hc.1; omega, by have := hc.2; omega⟩ rfl hl.1 rfl (Nat.le_of_ble_eq_true rfl) dL_law_984) hAt hS1 (fun r2 T2 H2 locs2 hw hB2 hz2 hk2 hS2 => ?_)
  obtain ⟨rfl, hw⟩ := hw
  refine lv_icmp_eq (tgt := 1503) hx hb dL_law_987 (by decide) (fun _ => ?_) (fun q => absurd rfl q)
  refine W.widen (k := cells + 39) (n := slots + 900) (by omega) (by omega) ?_
  exact kk V1 T2 H2 locs2 hw ⟨cB.out hB1 (fun q h1 h2 => hAB q h2 h1) hz2 hk2, hB2⟩ hS2
set_option maxHeartbeats 4000000 in
theorem lawc_25 {p : Program} {l : Launch} {e : Env} {s : State} {m : MethodId} {below : List Frame} {meth : Method} {c : Code} {H : Heap} {locs : List Loc} {cells slots : Nat} {Q : State → Prop} {b L i : Nat} {xs : Nat → Int32} {ls : Array Slot} {D : DD} {Ac At : Nat → Prop} {ad ad2 : AD} {V : CV} {T : TS} {Pv : CV → TS → Prop} (C : LC p l s m meth c D Ac At b L xs) (hB : lB D Ac At ad ad2 V T H) (hS : va_S (fun q => s.heap.size ≤ q) s.heap H locs) (hi : i + 6 ≤ L) (hl : lv_has ls 4 [(3, .int (nI i)), (2, .ref (ad2 0 0 0)), (1, .ref (ad 0 0 0)), (0, .ref b)]) (hw : wX0_text V (fun r V1 => wX6_text T (fun r2 T2 => r = r2 ∧ Pv V1 T2))) (hc : cells + 39 ≤ room_1.cells ∧ slots + 900 ≤ room_1.slots) (kk : ∀ (V1 : CV) (T2 : TS) (H2 : Heap) (locs2 : List Loc), Pv V1 T2 → lB D Ac At ad ad2 V1 T2 H2 → va_S (fun q => s.heap.size ≤ q) s.heap H2 locs2 → W p l e room_1 s m #[Value.ref b] below meth c H2 locs2 (cells + 39) (slots + 900) Q (F0 m 1503 ls [])) : W p l e room_1 s m #[Value.ref b] below meth c H locs cells slots Q (F0 m 992 ls []) := by
  obtain ⟨Fc, Ft, hX, hbl, hAc, hAt, hAB, hL⟩ := C
  have hx := Fc.1.x
  have hb := Fc.1.b
  refine lv_aload_n hx hb dL_law_992 rfl (lv_at hl 2 rfl) ?_
  refine l_i (Bw := cB D Ac ad) (yRun.plain (l_runVY (A0 := fun q => s.heap.size ≤ q) (Bw := cB D Ac ad) (n := 0) (As := []) Fc hB.1 (fun _ h => h) hS (c_at Fc (hB.1.pic cpic0) rfl) (mX0_text hw) codeOfW (lw_methW q396) q393 q394 q395 (by decide +kernel) ⟨Nat.le_of_ble_eq_true rfl, Nat.le_of_ble_eq_true rfl⟩ ⟨rfl, rfl⟩ ⟨by have := hc.1; omega, by have := hc.2; omega⟩ rfl hl.1 rfl (Nat.le_of_ble_eq_true rfl) dL_law_993) (fun _ _ _ h => by obtain ⟨⟨_, _, h, _⟩, _⟩ := h; exact ⟨_, h⟩)) hAc hS (fun r V1 H1 locs1 hw hB1 hz1 hk1 hS1 => ?_)
  have hT1 := tB.out hB.2 hAB hk1
  refine lv_aload_n hx hb dL_law_996 rfl (lv_at hl 1 rfl) ?_
  refine l_i (Bw := tB D At ad2) (l_runV (A0 := fun q => s.heap.size ≤ q) (Bw := tB D At ad2) (n := 0) (As := []) Ft hT1 (fun _ h => h) hS1 (c_at Ft (gH.pic hT1 tpic0) rfl) (mX6_text hw) q1555 q1556 q1557 q92 q1558 (by decide +kernel) ⟨Nat.le_of_ble_eq_true rfl, Nat.le_of_ble_eq_true rfl⟩ ⟨rfl, rfl⟩ ⟨by have := hc.1; omega, by have := hc.2; omega⟩ rfl hl.1 rfl (Nat.le_of_ble_eq_true rfl) dL_law_997) hAt hS1 (fun r2 T2 H2 locs2 hw hB2 hz2 hk2 hS2 => ?_)
  obtain ⟨rfl, hw⟩ := hw
  refine lv_icmp_eq (tgt := 1503) hx hb dL_law_1000 (by decide) (fun _ => ?_) (fun q => absurd rfl q)
  refine W.widen (k := cells + 39) (n := slots + 900) (by omega) (by omega) ?_
  exact kk V1 T2 H2 locs2 hw ⟨cB.out hB1 (fun q h1 h2 => hAB q h2 h1) hz2 hk2, hB2⟩ hS2
set_option maxHeartbeats 4000000 in
theorem lawc_26 {p : Program} {l : Launch} {e : Env} {s : State} {m : MethodId} {below : List Frame} {meth : Method} {c : Code} {H : Heap} {locs : List Loc} {cells slots : Nat} {Q : State → Prop} {b L i : Nat} {xs : Nat → Int32} {ls : Array Slot} {D : DD} {Ac At : Nat → Prop} {ad ad2 : AD} {V : CV} {T : TS} {Pv : CV → TS → Prop} (C : LC p l s m meth c D Ac At b L xs) (hB : lB D Ac At ad ad2 V T H) (hS : va_S (fun q => s.heap.size ≤ q) s.heap H locs) (hi : i + 6 ≤ L) (hl : lv_has ls 4 [(3, .int (nI i)), (2, .ref (ad2 0 0 0)), (1, .ref (ad 0 0 0)), (0, .ref b)]) (hw : wX0_textTold (xs (i + 1)) (xs (i + 2)) V (fun r V1 => wX6_textTold (xs (i + 1)) (xs (i + 2)) T (fun r2 T2 => r = r2 ∧ Pv V1 T2))) (hc : cells + 39 ≤ room_1.cells ∧ slots + 900 ≤ room_1.slots) (kk : ∀ (V1 : CV) (T2 : TS) (H2 : Heap) (locs2 : List Loc), Pv V1 T2 → lB D Ac At ad ad2 V1 T2 H2 → va_S (fun q => s.heap.size ≤ q) s.heap H2 locs2 → W p l e room_1 s m #[Value.ref b] below meth c H2 locs2 (cells + 39) (slots + 900) Q (F0 m 1503 ls [])) : W p l e room_1 s m #[Value.ref b] below meth c H locs cells slots Q (F0 m 1005 ls []) := by
  obtain ⟨Fc, Ft, hX, hbl, hAc, hAt, hAB, hL⟩ := C
  have hx := Fc.1.x
  have hb := Fc.1.b
  refine lv_aload_n hx hb dL_law_1005 rfl (lv_at hl 2 rfl) ?_
  refine l_arg (k := 1) (z := 1) hx hb hX hbl hL hS hl (by omega) (by decide) dL_law_1006 dL_law_1007 rfl dL_law_1009 dL_law_1010 (fun h => lv_iconst (v := 1) hx hb dL_law_1008 (by decide) h) ?_
  refine l_arg (k := 2) (z := 2) hx hb hX hbl hL hS hl (by omega) (by decide) dL_law_1011 dL_law_1012 rfl dL_law_1014 dL_law_1015 (fun h => lv_iconst (v := 2) hx hb dL_law_1013 (by decide) h) ?_
  refine l_i (Bw := cB D Ac ad) (l_runV (A0 := fun q => s.heap.size ≤ q) (Bw := cB D Ac ad) (n := 2) (As := [.int (xs (i + 1)), .int (xs (i + 2))]) Fc hB.1 (fun _ h => h) hS (c_at Fc (hB.1.pic cpic0) rfl) (mX0_textTold hw) q556 q557 q558 q83 q559 (by decide +kernel) ⟨Nat.le_of_ble_eq_true rfl, Nat.le_of_ble_eq_true rfl⟩ ⟨rfl, rfl⟩ ⟨by have := hc.1; omega, by have := hc.2; omega⟩ rfl hl.1 rfl (Nat.le_of_ble_eq_true rfl) dL_law_1016) hAc hS (fun r V1 H1 locs1 hw hB1 hz1 hk1 hS1 => ?_)
  have hT1 := tB.out hB.2 hAB hk1
  refine lv_aload_n hx hb dL_law_1019 rfl (lv_at hl 1 rfl) ?_
  refine l_arg (k := 1) (z := 1) hx hb hX hbl hL hS1 hl (by omega) (by decide) dL_law_1020 dL_law_1021 rfl dL_law_1023 dL_law_1024 (fun h => lv_iconst (v := 1) hx hb dL_law_1022 (by decide) h) ?_
  refine l_arg (k := 2) (z := 2) hx hb hX hbl hL hS1 hl (by omega) (by decide) dL_law_1025 dL_law_1026 rfl dL_law_1028 dL_law_1029 (fun h => lv_iconst (v := 2) hx hb dL_law_1027 (by decide) h) ?_
  refine l_i (Bw := tB D At ad2) (l_runV (A0 := fun q => s.heap.size ≤ q) (Bw := tB D At ad2) (n := 2) (As := [.int (xs (i + 1)), .int (xs (i + 2))]) Ft hT1 (fun _ h => h) hS1 (c_at Ft (gH.pic hT1 tpic0) rfl) (mX6_textTold hw) q1622 q1623 q1624 q92 q1625 (by decide +kernel) ⟨Nat.le_of_ble_eq_true rfl, Nat.le_of_ble_eq_true rfl⟩ ⟨rfl, rfl⟩ ⟨by have := hc.1; omega, by have := hc.2; omega⟩ rfl hl.1 rfl (Nat.le_of_ble_eq_true rfl) dL_law_1030) hAt hS1 (fun r2 T2 H2 locs2 hw hB2 hz2 hk2 hS2 => ?_)
  obtain ⟨rfl, hw⟩ := hw
  refine lv_icmp_eq (tgt := 1503) hx hb dL_law_1033 (by decide) (fun _ => ?_) (fun q => absurd rfl q)
  refine W.widen (k := cells + 39) (n := slots + 900) (by omega) (by omega) ?_
  exact kk V1 T2 H2 locs2 hw ⟨cB.out hB1 (fun q h1 h2 => hAB q h2 h1) hz2 hk2, hB2⟩ hS2
set_option maxHeartbeats 4000000 in
theorem lawc_27 {p : Program} {l : Launch} {e : Env} {s : State} {m : MethodId} {below : List Frame} {meth : Method} {c : Code} {H : Heap} {locs : List Loc} {cells slots : Nat} {Q : State → Prop} {b L i : Nat} {xs : Nat → Int32} {ls : Array Slot} {D : DD} {Ac At : Nat → Prop} {ad ad2 : AD} {V : CV} {T : TS} {Pv : CV → TS → Prop} (C : LC p l s m meth c D Ac At b L xs) (hB : lB D Ac At ad ad2 V T H) (hS : va_S (fun q => s.heap.size ≤ q) s.heap H locs) (hi : i + 6 ≤ L) (hl : lv_has ls 4 [(3, .int (nI i)), (2, .ref (ad2 0 0 0)), (1, .ref (ad 0 0 0)), (0, .ref b)]) (hw : wX0_why (xs (i + 1)) V (fun r V1 => wX6_why (xs (i + 1)) T (fun r2 T2 => r = r2 ∧ Pv V1 T2))) (hc : cells + 39 ≤ room_1.cells ∧ slots + 900 ≤ room_1.slots) (kk : ∀ (V1 : CV) (T2 : TS) (H2 : Heap) (locs2 : List Loc), Pv V1 T2 → lB D Ac At ad ad2 V1 T2 H2 → va_S (fun q => s.heap.size ≤ q) s.heap H2 locs2 → W p l e room_1 s m #[Value.ref b] below meth c H2 locs2 (cells + 39) (slots + 900) Q (F0 m 1503 ls [])) : W p l e room_1 s m #[Value.ref b] below meth c H locs cells slots Q (F0 m 1038 ls []) := by
  obtain ⟨Fc, Ft, hX, hbl, hAc, hAt, hAB, hL⟩ := C
  have hx := Fc.1.x
  have hb := Fc.1.b
  refine lv_aload_n hx hb dL_law_1038 rfl (lv_at hl 2 rfl) ?_
  refine l_arg (k := 1) (z := 1) hx hb hX hbl hL hS hl (by omega) (by decide) dL_law_1039 dL_law_1040 rfl dL_law_1042 dL_law_1043 (fun h => lv_iconst (v := 1) hx hb dL_law_1041 (by decide) h) ?_
  refine l_i (Bw := cB D Ac ad) (l_runV (A0 := fun q => s.heap.size ≤ q) (Bw := cB D Ac ad) (n := 1) (As := [.int (xs (i + 1))]) Fc hB.1 (fun _ h => h) hS (c_at Fc (hB.1.pic cpic0) rfl) (mX0_why hw) q560 q561 q562 q83 q563 (by decide +kernel) ⟨Nat.le_of_ble_eq_true rfl, Nat.le_of_ble_eq_true rfl⟩ ⟨rfl, rfl⟩ ⟨by have := hc.1; omega, by have := hc.2; omega⟩ rfl hl.1 rfl (Nat.le_of_ble_eq_true rfl) dL_law_1044) hAc hS (fun r V1 H1 locs1 hw hB1 hz1 hk1 hS1 => ?_)
  have hT1 := tB.out hB.2 hAB hk1
  refine lv_aload_n hx hb dL_law_1047 rfl (lv_at hl 1 rfl) ?_
  refine l_arg (k := 1) (z := 1) hx hb hX hbl hL hS1 hl (by omega) (by decide) dL_law_1048 dL_law_1049 rfl dL_law_1051 dL_law_1052 (fun h => lv_iconst (v := 1) hx hb dL_law_1050 (by decide) h) ?_
  refine l_i (Bw := tB D At ad2) (l_runV (A0 := fun q => s.heap.size ≤ q) (Bw := tB D At ad2) (n := 1) (As := [.int (xs (i + 1))]) Ft hT1 (fun _ h => h) hS1 (c_at Ft (gH.pic hT1 tpic0) rfl) (mX6_why hw) q1630 q1631 q1632 q92 q1633 (by decide +kernel) ⟨Nat.le_of_ble_eq_true rfl, Nat.le_of_ble_eq_true rfl⟩ ⟨rfl, rfl⟩ ⟨by have := hc.1; omega, by have := hc.2; omega⟩ rfl hl.1 rfl (Nat.le_of_ble_eq_true rfl) dL_law_1053) hAt hS1 (fun r2 T2 H2 locs2 hw hB2 hz2 hk2 hS2 => ?_)
  obtain ⟨rfl, hw⟩ := hw
  refine lv_icmp_eq (tgt := 1503) hx hb dL_law_1056 (by decide) (fun _ => ?_) (fun q => absurd rfl q)
  refine W.widen (k := cells + 39) (n := slots + 900) (by omega) (by omega) ?_
  exact kk V1 T2 H2 locs2 hw ⟨cB.out hB1 (fun q h1 h2 => hAB q h2 h1) hz2 hk2, hB2⟩ hS2
set_option maxHeartbeats 4000000 in
theorem lawc_28 {p : Program} {l : Launch} {e : Env} {s : State} {m : MethodId} {below : List Frame} {meth : Method} {c : Code} {H : Heap} {locs : List Loc} {cells slots : Nat} {Q : State → Prop} {b L i : Nat} {xs : Nat → Int32} {ls : Array Slot} {D : DD} {Ac At : Nat → Prop} {ad ad2 : AD} {V : CV} {T : TS} {Pv : CV → TS → Prop} (C : LC p l s m meth c D Ac At b L xs) (hB : lB D Ac At ad ad2 V T H) (hS : va_S (fun q => s.heap.size ≤ q) s.heap H locs) (hi : i + 6 ≤ L) (hl : lv_has ls 4 [(3, .int (nI i)), (2, .ref (ad2 0 0 0)), (1, .ref (ad 0 0 0)), (0, .ref b)]) (hw : wX0_sheet (xs (i + 1)) (xs (i + 2)) (xs (i + 3)) V (fun r V1 => wX6_sheet (xs (i + 1)) (xs (i + 2)) (xs (i + 3)) T (fun r2 T2 => r = r2 ∧ Pv V1 T2))) (hc : cells + 39 ≤ room_1.cells ∧ slots + 900 ≤ room_1.slots) (kk : ∀ (V1 : CV) (T2 : TS) (H2 : Heap) (locs2 : List Loc), Pv V1 T2 → lB D Ac At ad ad2 V1 T2 H2 → va_S (fun q => s.heap.size ≤ q) s.heap H2 locs2 → W p l e room_1 s m #[Value.ref b] below meth c H2 locs2 (cells + 39) (slots + 900) Q (F0 m 1503 ls [])) : W p l e room_1 s m #[Value.ref b] below meth c H locs cells slots Q (F0 m 1061 ls []) := by
  obtain ⟨Fc, Ft, hX, hbl, hAc, hAt, hAB, hL⟩ := C
  have hx := Fc.1.x
  have hb := Fc.1.b
  refine lv_aload_n hx hb dL_law_1061 rfl (lv_at hl 2 rfl) ?_
  refine l_arg (k := 1) (z := 1) hx hb hX hbl hL hS hl (by omega) (by decide) dL_law_1062 dL_law_1063 rfl dL_law_1065 dL_law_1066 (fun h => lv_iconst (v := 1) hx hb dL_law_1064 (by decide) h) ?_
  refine l_arg (k := 2) (z := 2) hx hb hX hbl hL hS hl (by omega) (by decide) dL_law_1067 dL_law_1068 rfl dL_law_1070 dL_law_1071 (fun h => lv_iconst (v := 2) hx hb dL_law_1069 (by decide) h) ?_
  refine l_arg (k := 3) (z := 3) hx hb hX hbl hL hS hl (by omega) (by decide) dL_law_1072 dL_law_1073 rfl dL_law_1075 dL_law_1076 (fun h => lv_iconst (v := 3) hx hb dL_law_1074 (by decide) h) ?_
  refine l_i (Bw := cB D Ac ad) (yRun.plain (l_runVY (A0 := fun q => s.heap.size ≤ q) (Bw := cB D Ac ad) (n := 3) (As := [.int (xs (i + 1)), .int (xs (i + 2)), .int (xs (i + 3))]) Fc hB.1 (fun _ h => h) hS (c_at Fc (hB.1.pic cpic0) rfl) (mX0_sheet hw) codeOfW (lw_methW q988) q985 q986 q987 (by decide +kernel) ⟨Nat.le_of_ble_eq_true rfl, Nat.le_of_ble_eq_true rfl⟩ ⟨rfl, rfl⟩ ⟨by have := hc.1; omega, by have := hc.2; omega⟩ rfl hl.1 rfl (Nat.le_of_ble_eq_true rfl) dL_law_1077) (fun _ _ _ h => by obtain ⟨⟨_, _, h, _⟩, _⟩ := h; exact ⟨_, h⟩)) hAc hS (fun r V1 H1 locs1 hw hB1 hz1 hk1 hS1 => ?_)
  have hT1 := tB.out hB.2 hAB hk1
  refine lv_aload_n hx hb dL_law_1080 rfl (lv_at hl 1 rfl) ?_
  refine l_arg (k := 1) (z := 1) hx hb hX hbl hL hS1 hl (by omega) (by decide) dL_law_1081 dL_law_1082 rfl dL_law_1084 dL_law_1085 (fun h => lv_iconst (v := 1) hx hb dL_law_1083 (by decide) h) ?_
  refine l_arg (k := 2) (z := 2) hx hb hX hbl hL hS1 hl (by omega) (by decide) dL_law_1086 dL_law_1087 rfl dL_law_1089 dL_law_1090 (fun h => lv_iconst (v := 2) hx hb dL_law_1088 (by decide) h) ?_
  refine l_arg (k := 3) (z := 3) hx hb hX hbl hL hS1 hl (by omega) (by decide) dL_law_1091 dL_law_1092 rfl dL_law_1094 dL_law_1095 (fun h => lv_iconst (v := 3) hx hb dL_law_1093 (by decide) h) ?_
  refine l_i (Bw := tB D At ad2) (l_runV (A0 := fun q => s.heap.size ≤ q) (Bw := tB D At ad2) (n := 3) (As := [.int (xs (i + 1)), .int (xs (i + 2)), .int (xs (i + 3))]) Ft hT1 (fun _ h => h) hS1 (c_at Ft (gH.pic hT1 tpic0) rfl) (mX6_sheet hw) q1635 q1636 q1637 q92 q1638 (by decide +kernel) ⟨Nat.le_of_ble_eq_true rfl, Nat.le_of_ble_eq_true rfl⟩ ⟨rfl, rfl⟩ ⟨by have := hc.1; omega, by have := hc.2; omega⟩ rfl hl.1 rfl (Nat.le_of_ble_eq_true rfl) dL_law_1096) hAt hS1 (fun r2 T2 H2 locs2 hw hB2 hz2 hk2 hS2 => ?_)
  obtain ⟨rfl, hw⟩ := hw
  refine lv_icmp_eq (tgt := 1503) hx hb dL_law_1099 (by decide) (fun _ => ?_) (fun q => absurd rfl q)
  refine W.widen (k := cells + 39) (n := slots + 900) (by omega) (by omega) ?_
  exact kk V1 T2 H2 locs2 hw ⟨cB.out hB1 (fun q h1 h2 => hAB q h2 h1) hz2 hk2, hB2⟩ hS2
set_option maxHeartbeats 4000000 in
theorem lawc_29 {p : Program} {l : Launch} {e : Env} {s : State} {m : MethodId} {below : List Frame} {meth : Method} {c : Code} {H : Heap} {locs : List Loc} {cells slots : Nat} {Q : State → Prop} {b L i : Nat} {xs : Nat → Int32} {ls : Array Slot} {D : DD} {Ac At : Nat → Prop} {ad ad2 : AD} {V : CV} {T : TS} {Pv : CV → TS → Prop} (C : LC p l s m meth c D Ac At b L xs) (hB : lB D Ac At ad ad2 V T H) (hS : va_S (fun q => s.heap.size ≤ q) s.heap H locs) (hi : i + 6 ≤ L) (hl : lv_has ls 4 [(3, .int (nI i)), (2, .ref (ad2 0 0 0)), (1, .ref (ad 0 0 0)), (0, .ref b)]) (hw : wX0_mark (xs (i + 1)) (xs (i + 2)) (xs (i + 3)) V (fun r V1 => wX6_mark (xs (i + 1)) (xs (i + 2)) (xs (i + 3)) T (fun r2 T2 => r = r2 ∧ Pv V1 T2))) (hc : cells + 39 ≤ room_1.cells ∧ slots + 900 ≤ room_1.slots) (kk : ∀ (V1 : CV) (T2 : TS) (H2 : Heap) (locs2 : List Loc), Pv V1 T2 → lB D Ac At ad ad2 V1 T2 H2 → va_S (fun q => s.heap.size ≤ q) s.heap H2 locs2 → W p l e room_1 s m #[Value.ref b] below meth c H2 locs2 (cells + 39) (slots + 900) Q (F0 m 1503 ls [])) : W p l e room_1 s m #[Value.ref b] below meth c H locs cells slots Q (F0 m 1104 ls []) := by
  obtain ⟨Fc, Ft, hX, hbl, hAc, hAt, hAB, hL⟩ := C
  have hx := Fc.1.x
  have hb := Fc.1.b
  refine lv_aload_n hx hb dL_law_1104 rfl (lv_at hl 2 rfl) ?_
  refine l_arg (k := 1) (z := 1) hx hb hX hbl hL hS hl (by omega) (by decide) dL_law_1105 dL_law_1106 rfl dL_law_1108 dL_law_1109 (fun h => lv_iconst (v := 1) hx hb dL_law_1107 (by decide) h) ?_
  refine l_arg (k := 2) (z := 2) hx hb hX hbl hL hS hl (by omega) (by decide) dL_law_1110 dL_law_1111 rfl dL_law_1113 dL_law_1114 (fun h => lv_iconst (v := 2) hx hb dL_law_1112 (by decide) h) ?_
  refine l_arg (k := 3) (z := 3) hx hb hX hbl hL hS hl (by omega) (by decide) dL_law_1115 dL_law_1116 rfl dL_law_1118 dL_law_1119 (fun h => lv_iconst (v := 3) hx hb dL_law_1117 (by decide) h) ?_
  refine l_i (Bw := cB D Ac ad) (l_runV (A0 := fun q => s.heap.size ≤ q) (Bw := cB D Ac ad) (n := 3) (As := [.int (xs (i + 1)), .int (xs (i + 2)), .int (xs (i + 3))]) Fc hB.1 (fun _ h => h) hS (c_at Fc (hB.1.pic cpic0) rfl) (mX0_mark hw) q1011 q1012 q1013 q83 q1014 (by decide +kernel) ⟨Nat.le_of_ble_eq_true rfl, Nat.le_of_ble_eq_true rfl⟩ ⟨rfl, rfl⟩ ⟨by have := hc.1; omega, by have := hc.2; omega⟩ rfl hl.1 rfl (Nat.le_of_ble_eq_true rfl) dL_law_1120) hAc hS (fun r V1 H1 locs1 hw hB1 hz1 hk1 hS1 => ?_)
  have hT1 := tB.out hB.2 hAB hk1
  refine lv_aload_n hx hb dL_law_1123 rfl (lv_at hl 1 rfl) ?_
  refine l_arg (k := 1) (z := 1) hx hb hX hbl hL hS1 hl (by omega) (by decide) dL_law_1124 dL_law_1125 rfl dL_law_1127 dL_law_1128 (fun h => lv_iconst (v := 1) hx hb dL_law_1126 (by decide) h) ?_
  refine l_arg (k := 2) (z := 2) hx hb hX hbl hL hS1 hl (by omega) (by decide) dL_law_1129 dL_law_1130 rfl dL_law_1132 dL_law_1133 (fun h => lv_iconst (v := 2) hx hb dL_law_1131 (by decide) h) ?_
  refine l_arg (k := 3) (z := 3) hx hb hX hbl hL hS1 hl (by omega) (by decide) dL_law_1134 dL_law_1135 rfl dL_law_1137 dL_law_1138 (fun h => lv_iconst (v := 3) hx hb dL_law_1136 (by decide) h) ?_
  refine l_i (Bw := tB D At ad2) (l_runV (A0 := fun q => s.heap.size ≤ q) (Bw := tB D At ad2) (n := 3) (As := [.int (xs (i + 1)), .int (xs (i + 2)), .int (xs (i + 3))]) Ft hT1 (fun _ h => h) hS1 (c_at Ft (gH.pic hT1 tpic0) rfl) (mX6_mark hw) q1645 q1646 q1647 q92 q1648 (by decide +kernel) ⟨Nat.le_of_ble_eq_true rfl, Nat.le_of_ble_eq_true rfl⟩ ⟨rfl, rfl⟩ ⟨by have := hc.1; omega, by have := hc.2; omega⟩ rfl hl.1 rfl (Nat.le_of_ble_eq_true rfl) dL_law_1139) hAt hS1 (fun r2 T2 H2 locs2 hw hB2 hz2 hk2 hS2 => ?_)
  obtain ⟨rfl, hw⟩ := hw
  refine lv_icmp_eq (tgt := 1503) hx hb dL_law_1142 (by decide) (fun _ => ?_) (fun q => absurd rfl q)
  refine W.widen (k := cells + 39) (n := slots + 900) (by omega) (by omega) ?_
  exact kk V1 T2 H2 locs2 hw ⟨cB.out hB1 (fun q h1 h2 => hAB q h2 h1) hz2 hk2, hB2⟩ hS2
set_option maxHeartbeats 4000000 in
theorem lawc_30 {p : Program} {l : Launch} {e : Env} {s : State} {m : MethodId} {below : List Frame} {meth : Method} {c : Code} {H : Heap} {locs : List Loc} {cells slots : Nat} {Q : State → Prop} {b L i : Nat} {xs : Nat → Int32} {ls : Array Slot} {D : DD} {Ac At : Nat → Prop} {ad ad2 : AD} {V : CV} {T : TS} {Pv : CV → TS → Prop} (C : LC p l s m meth c D Ac At b L xs) (hB : lB D Ac At ad ad2 V T H) (hS : va_S (fun q => s.heap.size ≤ q) s.heap H locs) (hi : i + 6 ≤ L) (hl : lv_has ls 4 [(3, .int (nI i)), (2, .ref (ad2 0 0 0)), (1, .ref (ad 0 0 0)), (0, .ref b)]) (hw : wX0_pour (xs (i + 1)) V (fun r V1 => wX6_pour (xs (i + 1)) T (fun r2 T2 => r = r2 ∧ Pv V1 T2))) (hc : cells + 39 ≤ room_1.cells ∧ slots + 900 ≤ room_1.slots) (kk : ∀ (V1 : CV) (T2 : TS) (H2 : Heap) (locs2 : List Loc), Pv V1 T2 → lB D Ac At ad ad2 V1 T2 H2 → va_S (fun q => s.heap.size ≤ q) s.heap H2 locs2 → W p l e room_1 s m #[Value.ref b] below meth c H2 locs2 (cells + 39) (slots + 900) Q (F0 m 1503 ls [])) : W p l e room_1 s m #[Value.ref b] below meth c H locs cells slots Q (F0 m 1147 ls []) := by
  obtain ⟨Fc, Ft, hX, hbl, hAc, hAt, hAB, hL⟩ := C
  have hx := Fc.1.x
  have hb := Fc.1.b
  refine lv_aload_n hx hb dL_law_1147 rfl (lv_at hl 2 rfl) ?_
  refine l_arg (k := 1) (z := 1) hx hb hX hbl hL hS hl (by omega) (by decide) dL_law_1148 dL_law_1149 rfl dL_law_1151 dL_law_1152 (fun h => lv_iconst (v := 1) hx hb dL_law_1150 (by decide) h) ?_
  refine l_i (Bw := cB D Ac ad) (l_runV (A0 := fun q => s.heap.size ≤ q) (Bw := cB D Ac ad) (n := 1) (As := [.int (xs (i + 1))]) Fc hB.1 (fun _ h => h) hS (c_at Fc (hB.1.pic cpic0) rfl) (mX0_pour hw) q1042 q1043 q1044 q83 q1045 (by decide +kernel) ⟨Nat.le_of_ble_eq_true rfl, Nat.le_of_ble_eq_true rfl⟩ ⟨rfl, rfl⟩ ⟨by have := hc.1; omega, by have := hc.2; omega⟩ rfl hl.1 rfl (Nat.le_of_ble_eq_true rfl) dL_law_1153) hAc hS (fun r V1 H1 locs1 hw hB1 hz1 hk1 hS1 => ?_)
  have hT1 := tB.out hB.2 hAB hk1
  refine lv_aload_n hx hb dL_law_1156 rfl (lv_at hl 1 rfl) ?_
  refine l_arg (k := 1) (z := 1) hx hb hX hbl hL hS1 hl (by omega) (by decide) dL_law_1157 dL_law_1158 rfl dL_law_1160 dL_law_1161 (fun h => lv_iconst (v := 1) hx hb dL_law_1159 (by decide) h) ?_
  refine l_i (Bw := tB D At ad2) (l_runV (A0 := fun q => s.heap.size ≤ q) (Bw := tB D At ad2) (n := 1) (As := [.int (xs (i + 1))]) Ft hT1 (fun _ h => h) hS1 (c_at Ft (gH.pic hT1 tpic0) rfl) (mX6_pour hw) q1653 q1654 q1655 q92 q1656 (by decide +kernel) ⟨Nat.le_of_ble_eq_true rfl, Nat.le_of_ble_eq_true rfl⟩ ⟨rfl, rfl⟩ ⟨by have := hc.1; omega, by have := hc.2; omega⟩ rfl hl.1 rfl (Nat.le_of_ble_eq_true rfl) dL_law_1162) hAt hS1 (fun r2 T2 H2 locs2 hw hB2 hz2 hk2 hS2 => ?_)
  obtain ⟨rfl, hw⟩ := hw
  refine lv_icmp_eq (tgt := 1503) hx hb dL_law_1165 (by decide) (fun _ => ?_) (fun q => absurd rfl q)
  refine W.widen (k := cells + 39) (n := slots + 900) (by omega) (by omega) ?_
  exact kk V1 T2 H2 locs2 hw ⟨cB.out hB1 (fun q h1 h2 => hAB q h2 h1) hz2 hk2, hB2⟩ hS2
set_option maxHeartbeats 4000000 in
theorem lawc_31 {p : Program} {l : Launch} {e : Env} {s : State} {m : MethodId} {below : List Frame} {meth : Method} {c : Code} {H : Heap} {locs : List Loc} {cells slots : Nat} {Q : State → Prop} {b L i : Nat} {xs : Nat → Int32} {ls : Array Slot} {D : DD} {Ac At : Nat → Prop} {ad ad2 : AD} {V : CV} {T : TS} {Pv : CV → TS → Prop} (C : LC p l s m meth c D Ac At b L xs) (hB : lB D Ac At ad ad2 V T H) (hS : va_S (fun q => s.heap.size ≤ q) s.heap H locs) (hi : i + 6 ≤ L) (hl : lv_has ls 4 [(3, .int (nI i)), (2, .ref (ad2 0 0 0)), (1, .ref (ad 0 0 0)), (0, .ref b)]) (hw : wX0_reads (xs (i + 1)) V (fun r V1 => wX6_reads (xs (i + 1)) T (fun r2 T2 => r = r2 ∧ Pv V1 T2))) (hc : cells + 39 ≤ room_1.cells ∧ slots + 900 ≤ room_1.slots) (kk : ∀ (V1 : CV) (T2 : TS) (H2 : Heap) (locs2 : List Loc), Pv V1 T2 → lB D Ac At ad ad2 V1 T2 H2 → va_S (fun q => s.heap.size ≤ q) s.heap H2 locs2 → W p l e room_1 s m #[Value.ref b] below meth c H2 locs2 (cells + 39) (slots + 900) Q (F0 m 1503 ls [])) : W p l e room_1 s m #[Value.ref b] below meth c H locs cells slots Q (F0 m 1170 ls []) := by
  obtain ⟨Fc, Ft, hX, hbl, hAc, hAt, hAB, hL⟩ := C
  have hx := Fc.1.x
  have hb := Fc.1.b
  refine lv_aload_n hx hb dL_law_1170 rfl (lv_at hl 2 rfl) ?_
  refine l_arg (k := 1) (z := 1) hx hb hX hbl hL hS hl (by omega) (by decide) dL_law_1171 dL_law_1172 rfl dL_law_1174 dL_law_1175 (fun h => lv_iconst (v := 1) hx hb dL_law_1173 (by decide) h) ?_
  refine l_i (Bw := cB D Ac ad) (l_runV (A0 := fun q => s.heap.size ≤ q) (Bw := cB D Ac ad) (n := 1) (As := [.int (xs (i + 1))]) Fc hB.1 (fun _ h => h) hS (c_at Fc (hB.1.pic cpic0) rfl) (mX0_reads hw) q1054 q1055 q1056 q83 q1057 (by decide +kernel) ⟨Nat.le_of_ble_eq_true rfl, Nat.le_of_ble_eq_true rfl⟩ ⟨rfl, rfl⟩ ⟨by have := hc.1; omega, by have := hc.2; omega⟩ rfl hl.1 rfl (Nat.le_of_ble_eq_true rfl) dL_law_1176) hAc hS (fun r V1 H1 locs1 hw hB1 hz1 hk1 hS1 => ?_)
  have hT1 := tB.out hB.2 hAB hk1
  refine lv_aload_n hx hb dL_law_1179 rfl (lv_at hl 1 rfl) ?_
  refine l_arg (k := 1) (z := 1) hx hb hX hbl hL hS1 hl (by omega) (by decide) dL_law_1180 dL_law_1181 rfl dL_law_1183 dL_law_1184 (fun h => lv_iconst (v := 1) hx hb dL_law_1182 (by decide) h) ?_
  refine l_i (Bw := tB D At ad2) (l_runV (A0 := fun q => s.heap.size ≤ q) (Bw := tB D At ad2) (n := 1) (As := [.int (xs (i + 1))]) Ft hT1 (fun _ h => h) hS1 (c_at Ft (gH.pic hT1 tpic0) rfl) (mX6_reads hw) q1657 q1658 q1659 q92 q1660 (by decide +kernel) ⟨Nat.le_of_ble_eq_true rfl, Nat.le_of_ble_eq_true rfl⟩ ⟨rfl, rfl⟩ ⟨by have := hc.1; omega, by have := hc.2; omega⟩ rfl hl.1 rfl (Nat.le_of_ble_eq_true rfl) dL_law_1185) hAt hS1 (fun r2 T2 H2 locs2 hw hB2 hz2 hk2 hS2 => ?_)
  obtain ⟨rfl, hw⟩ := hw
  refine lv_icmp_eq (tgt := 1503) hx hb dL_law_1188 (by decide) (fun _ => ?_) (fun q => absurd rfl q)
  refine W.widen (k := cells + 39) (n := slots + 900) (by omega) (by omega) ?_
  exact kk V1 T2 H2 locs2 hw ⟨cB.out hB1 (fun q h1 h2 => hAB q h2 h1) hz2 hk2, hB2⟩ hS2
set_option maxHeartbeats 4000000 in
theorem lawc_32 {p : Program} {l : Launch} {e : Env} {s : State} {m : MethodId} {below : List Frame} {meth : Method} {c : Code} {H : Heap} {locs : List Loc} {cells slots : Nat} {Q : State → Prop} {b L i : Nat} {xs : Nat → Int32} {ls : Array Slot} {D : DD} {Ac At : Nat → Prop} {ad ad2 : AD} {V : CV} {T : TS} {Pv : CV → TS → Prop} (C : LC p l s m meth c D Ac At b L xs) (hB : lB D Ac At ad ad2 V T H) (hS : va_S (fun q => s.heap.size ≤ q) s.heap H locs) (hi : i + 6 ≤ L) (hl : lv_has ls 4 [(3, .int (nI i)), (2, .ref (ad2 0 0 0)), (1, .ref (ad 0 0 0)), (0, .ref b)]) (hw : wX0_copy (xs (i + 1)) (xs (i + 2)) (xs (i + 3)) (xs (i + 4)) (xs (i + 5)) V (fun r V1 => wX6_copy (xs (i + 1)) (xs (i + 2)) (xs (i + 3)) (xs (i + 4)) (xs (i + 5)) T (fun r2 T2 => r = r2 ∧ Pv V1 T2))) (hc : cells + 39 ≤ room_1.cells ∧ slots + 900 ≤ room_1.slots) (kk : ∀ (V1 : CV) (T2 : TS) (H2 : Heap) (locs2 : List Loc), Pv V1 T2 → lB D Ac At ad ad2 V1 T2 H2 → va_S (fun q => s.heap.size ≤ q) s.heap H2 locs2 → W p l e room_1 s m #[Value.ref b] below meth c H2 locs2 (cells + 39) (slots + 900) Q (F0 m 1503 ls [])) : W p l e room_1 s m #[Value.ref b] below meth c H locs cells slots Q (F0 m 1193 ls []) := by
  obtain ⟨Fc, Ft, hX, hbl, hAc, hAt, hAB, hL⟩ := C
  have hx := Fc.1.x
  have hb := Fc.1.b
  refine lv_aload_n hx hb dL_law_1193 rfl (lv_at hl 2 rfl) ?_
  refine l_arg (k := 1) (z := 1) hx hb hX hbl hL hS hl (by omega) (by decide) dL_law_1194 dL_law_1195 rfl dL_law_1197 dL_law_1198 (fun h => lv_iconst (v := 1) hx hb dL_law_1196 (by decide) h) ?_
  refine l_arg (k := 2) (z := 2) hx hb hX hbl hL hS hl (by omega) (by decide) dL_law_1199 dL_law_1200 rfl dL_law_1202 dL_law_1203 (fun h => lv_iconst (v := 2) hx hb dL_law_1201 (by decide) h) ?_
  refine l_arg (k := 3) (z := 3) hx hb hX hbl hL hS hl (by omega) (by decide) dL_law_1204 dL_law_1205 rfl dL_law_1207 dL_law_1208 (fun h => lv_iconst (v := 3) hx hb dL_law_1206 (by decide) h) ?_
  refine l_arg (k := 4) (z := 4) hx hb hX hbl hL hS hl (by omega) (by decide) dL_law_1209 dL_law_1210 rfl dL_law_1212 dL_law_1213 (fun h => lv_iconst (v := 4) hx hb dL_law_1211 (by decide) h) ?_
  refine l_arg (k := 5) (z := 5) hx hb hX hbl hL hS hl (by omega) (by decide) dL_law_1214 dL_law_1215 rfl dL_law_1217 dL_law_1218 (fun h => lv_iconst (v := 5) hx hb dL_law_1216 (by decide) h) ?_
  refine l_i (Bw := cB D Ac ad) (l_runV (A0 := fun q => s.heap.size ≤ q) (Bw := cB D Ac ad) (n := 5) (As := [.int (xs (i + 1)), .int (xs (i + 2)), .int (xs (i + 3)), .int (xs (i + 4)), .int (xs (i + 5))]) Fc hB.1 (fun _ h => h) hS (c_at Fc (hB.1.pic cpic0) rfl) (mX0_copy hw) q1058 q1059 q1060 q83 q1061 (by decide +kernel) ⟨Nat.le_of_ble_eq_true rfl, Nat.le_of_ble_eq_true rfl⟩ ⟨rfl, rfl⟩ ⟨by have := hc.1; omega, by have := hc.2; omega⟩ rfl hl.1 rfl (Nat.le_of_ble_eq_true rfl) dL_law_1219) hAc hS (fun r V1 H1 locs1 hw hB1 hz1 hk1 hS1 => ?_)
  have hT1 := tB.out hB.2 hAB hk1
  refine lv_aload_n hx hb dL_law_1222 rfl (lv_at hl 1 rfl) ?_
  refine l_arg (k := 1) (z := 1) hx hb hX hbl hL hS1 hl (by omega) (by decide) dL_law_1223 dL_law_1224 rfl dL_law_1226 dL_law_1227 (fun h => lv_iconst (v := 1) hx hb dL_law_1225 (by decide) h) ?_
  refine l_arg (k := 2) (z := 2) hx hb hX hbl hL hS1 hl (by omega) (by decide) dL_law_1228 dL_law_1229 rfl dL_law_1231 dL_law_1232 (fun h => lv_iconst (v := 2) hx hb dL_law_1230 (by decide) h) ?_
  refine l_arg (k := 3) (z := 3) hx hb hX hbl hL hS1 hl (by omega) (by decide) dL_law_1233 dL_law_1234 rfl dL_law_1236 dL_law_1237 (fun h => lv_iconst (v := 3) hx hb dL_law_1235 (by decide) h) ?_
  refine l_arg (k := 4) (z := 4) hx hb hX hbl hL hS1 hl (by omega) (by decide) dL_law_1238 dL_law_1239 rfl dL_law_1241 dL_law_1242 (fun h => lv_iconst (v := 4) hx hb dL_law_1240 (by decide) h) ?_
  refine l_arg (k := 5) (z := 5) hx hb hX hbl hL hS1 hl (by omega) (by decide) dL_law_1243 dL_law_1244 rfl dL_law_1246 dL_law_1247 (fun h => lv_iconst (v := 5) hx hb dL_law_1245 (by decide) h) ?_
  refine l_i (Bw := tB D At ad2) (l_runV (A0 := fun q => s.heap.size ≤ q) (Bw := tB D At ad2) (n := 5) (As := [.int (xs (i + 1)), .int (xs (i + 2)), .int (xs (i + 3)), .int (xs (i + 4)), .int (xs (i + 5))]) Ft hT1 (fun _ h => h) hS1 (c_at Ft (gH.pic hT1 tpic0) rfl) (mX6_copy hw) q1661 q1662 q1663 q92 q1664 (by decide +kernel) ⟨Nat.le_of_ble_eq_true rfl, Nat.le_of_ble_eq_true rfl⟩ ⟨rfl, rfl⟩ ⟨by have := hc.1; omega, by have := hc.2; omega⟩ rfl hl.1 rfl (Nat.le_of_ble_eq_true rfl) dL_law_1248) hAt hS1 (fun r2 T2 H2 locs2 hw hB2 hz2 hk2 hS2 => ?_)
  obtain ⟨rfl, hw⟩ := hw
  refine lv_icmp_eq (tgt := 1503) hx hb dL_law_1251 (by decide) (fun _ => ?_) (fun q => absurd rfl q)
  refine W.widen (k := cells + 39) (n := slots + 900) (by omega) (by omega) ?_
  exact kk V1 T2 H2 locs2 hw ⟨cB.out hB1 (fun q h1 h2 => hAB q h2 h1) hz2 hk2, hB2⟩ hS2
set_option maxHeartbeats 4000000 in
theorem lawc_33 {p : Program} {l : Launch} {e : Env} {s : State} {m : MethodId} {below : List Frame} {meth : Method} {c : Code} {H : Heap} {locs : List Loc} {cells slots : Nat} {Q : State → Prop} {b L i : Nat} {xs : Nat → Int32} {ls : Array Slot} {D : DD} {Ac At : Nat → Prop} {ad ad2 : AD} {V : CV} {T : TS} {Pv : CV → TS → Prop} (C : LC p l s m meth c D Ac At b L xs) (hB : lB D Ac At ad ad2 V T H) (hS : va_S (fun q => s.heap.size ≤ q) s.heap H locs) (hi : i + 6 ≤ L) (hl : lv_has ls 4 [(3, .int (nI i)), (2, .ref (ad2 0 0 0)), (1, .ref (ad 0 0 0)), (0, .ref b)]) (hw : wX0_lay (xs (i + 1)) (xs (i + 2)) (xs (i + 3)) V (fun r V1 => wX6_lay (xs (i + 1)) (xs (i + 2)) (xs (i + 3)) T (fun r2 T2 => r = r2 ∧ Pv V1 T2))) (hc : cells + 39 ≤ room_1.cells ∧ slots + 900 ≤ room_1.slots) (kk : ∀ (V1 : CV) (T2 : TS) (H2 : Heap) (locs2 : List Loc), Pv V1 T2 → lB D Ac At ad ad2 V1 T2 H2 → va_S (fun q => s.heap.size ≤ q) s.heap H2 locs2 → W p l e room_1 s m #[Value.ref b] below meth c H2 locs2 (cells + 39) (slots + 900) Q (F0 m 1503 ls [])) : W p l e room_1 s m #[Value.ref b] below meth c H locs cells slots Q (F0 m 1256 ls []) := by
  obtain ⟨Fc, Ft, hX, hbl, hAc, hAt, hAB, hL⟩ := C
  have hx := Fc.1.x
  have hb := Fc.1.b
  refine lv_aload_n hx hb dL_law_1256 rfl (lv_at hl 2 rfl) ?_
  refine l_arg (k := 1) (z := 1) hx hb hX hbl hL hS hl (by omega) (by decide) dL_law_1257 dL_law_1258 rfl dL_law_1260 dL_law_1261 (fun h => lv_iconst (v := 1) hx hb dL_law_1259 (by decide) h) ?_
  refine l_arg (k := 2) (z := 2) hx hb hX hbl hL hS hl (by omega) (by decide) dL_law_1262 dL_law_1263 rfl dL_law_1265 dL_law_1266 (fun h => lv_iconst (v := 2) hx hb dL_law_1264 (by decide) h) ?_
  refine l_arg (k := 3) (z := 3) hx hb hX hbl hL hS hl (by omega) (by decide) dL_law_1267 dL_law_1268 rfl dL_law_1270 dL_law_1271 (fun h => lv_iconst (v := 3) hx hb dL_law_1269 (by decide) h) ?_
  refine l_i (Bw := cB D Ac ad) (l_runV (A0 := fun q => s.heap.size ≤ q) (Bw := cB D Ac ad) (n := 3) (As := [.int (xs (i + 1)), .int (xs (i + 2)), .int (xs (i + 3))]) Fc hB.1 (fun _ h => h) hS (c_at Fc (hB.1.pic cpic0) rfl) (mX0_lay hw) q1067 q1068 q1069 q83 q1070 (by decide +kernel) ⟨Nat.le_of_ble_eq_true rfl, Nat.le_of_ble_eq_true rfl⟩ ⟨rfl, rfl⟩ ⟨by have := hc.1; omega, by have := hc.2; omega⟩ rfl hl.1 rfl (Nat.le_of_ble_eq_true rfl) dL_law_1272) hAc hS (fun r V1 H1 locs1 hw hB1 hz1 hk1 hS1 => ?_)
  have hT1 := tB.out hB.2 hAB hk1
  refine lv_aload_n hx hb dL_law_1275 rfl (lv_at hl 1 rfl) ?_
  refine l_arg (k := 1) (z := 1) hx hb hX hbl hL hS1 hl (by omega) (by decide) dL_law_1276 dL_law_1277 rfl dL_law_1279 dL_law_1280 (fun h => lv_iconst (v := 1) hx hb dL_law_1278 (by decide) h) ?_
  refine l_arg (k := 2) (z := 2) hx hb hX hbl hL hS1 hl (by omega) (by decide) dL_law_1281 dL_law_1282 rfl dL_law_1284 dL_law_1285 (fun h => lv_iconst (v := 2) hx hb dL_law_1283 (by decide) h) ?_
  refine l_arg (k := 3) (z := 3) hx hb hX hbl hL hS1 hl (by omega) (by decide) dL_law_1286 dL_law_1287 rfl dL_law_1289 dL_law_1290 (fun h => lv_iconst (v := 3) hx hb dL_law_1288 (by decide) h) ?_
  refine l_i (Bw := tB D At ad2) (l_runV (A0 := fun q => s.heap.size ≤ q) (Bw := tB D At ad2) (n := 3) (As := [.int (xs (i + 1)), .int (xs (i + 2)), .int (xs (i + 3))]) Ft hT1 (fun _ h => h) hS1 (c_at Ft (gH.pic hT1 tpic0) rfl) (mX6_lay hw) q1665 q1666 q1667 q92 q1668 (by decide +kernel) ⟨Nat.le_of_ble_eq_true rfl, Nat.le_of_ble_eq_true rfl⟩ ⟨rfl, rfl⟩ ⟨by have := hc.1; omega, by have := hc.2; omega⟩ rfl hl.1 rfl (Nat.le_of_ble_eq_true rfl) dL_law_1291) hAt hS1 (fun r2 T2 H2 locs2 hw hB2 hz2 hk2 hS2 => ?_)
  obtain ⟨rfl, hw⟩ := hw
  refine lv_icmp_eq (tgt := 1503) hx hb dL_law_1294 (by decide) (fun _ => ?_) (fun q => absurd rfl q)
  refine W.widen (k := cells + 39) (n := slots + 900) (by omega) (by omega) ?_
  exact kk V1 T2 H2 locs2 hw ⟨cB.out hB1 (fun q h1 h2 => hAB q h2 h1) hz2 hk2, hB2⟩ hS2
set_option maxHeartbeats 4000000 in
theorem lawc_34 {p : Program} {l : Launch} {e : Env} {s : State} {m : MethodId} {below : List Frame} {meth : Method} {c : Code} {H : Heap} {locs : List Loc} {cells slots : Nat} {Q : State → Prop} {b L i : Nat} {xs : Nat → Int32} {ls : Array Slot} {D : DD} {Ac At : Nat → Prop} {ad ad2 : AD} {V : CV} {T : TS} {Pv : CV → TS → Prop} (C : LC p l s m meth c D Ac At b L xs) (hB : lB D Ac At ad ad2 V T H) (hS : va_S (fun q => s.heap.size ≤ q) s.heap H locs) (hi : i + 6 ≤ L) (hl : lv_has ls 4 [(3, .int (nI i)), (2, .ref (ad2 0 0 0)), (1, .ref (ad 0 0 0)), (0, .ref b)]) (hw : wX0_ask (xs (i + 1)) (xs (i + 2)) V (fun r V1 => wX6_ask (xs (i + 1)) (xs (i + 2)) T (fun r2 T2 => r = r2 ∧ Pv V1 T2))) (hc : cells + 39 ≤ room_1.cells ∧ slots + 900 ≤ room_1.slots) (kk : ∀ (V1 : CV) (T2 : TS) (H2 : Heap) (locs2 : List Loc), Pv V1 T2 → lB D Ac At ad ad2 V1 T2 H2 → va_S (fun q => s.heap.size ≤ q) s.heap H2 locs2 → W p l e room_1 s m #[Value.ref b] below meth c H2 locs2 (cells + 39) (slots + 900) Q (F0 m 1503 ls [])) : W p l e room_1 s m #[Value.ref b] below meth c H locs cells slots Q (F0 m 1299 ls []) := by
  obtain ⟨Fc, Ft, hX, hbl, hAc, hAt, hAB, hL⟩ := C
  have hx := Fc.1.x
  have hb := Fc.1.b
  refine lv_aload_n hx hb dL_law_1299 rfl (lv_at hl 2 rfl) ?_
  refine l_arg (k := 1) (z := 1) hx hb hX hbl hL hS hl (by omega) (by decide) dL_law_1300 dL_law_1301 rfl dL_law_1303 dL_law_1304 (fun h => lv_iconst (v := 1) hx hb dL_law_1302 (by decide) h) ?_
  refine l_arg (k := 2) (z := 2) hx hb hX hbl hL hS hl (by omega) (by decide) dL_law_1305 dL_law_1306 rfl dL_law_1308 dL_law_1309 (fun h => lv_iconst (v := 2) hx hb dL_law_1307 (by decide) h) ?_
  refine l_i (Bw := cB D Ac ad) (yRun.plain (l_runVY (A0 := fun q => s.heap.size ≤ q) (Bw := cB D Ac ad) (n := 2) (As := [.int (xs (i + 1)), .int (xs (i + 2))]) Fc hB.1 (fun _ h => h) hS (c_at Fc (hB.1.pic cpic0) rfl) (mX0_ask hw) codeOfW (lw_methW q1140) q1137 q1138 q1139 (by decide +kernel) ⟨Nat.le_of_ble_eq_true rfl, Nat.le_of_ble_eq_true rfl⟩ ⟨rfl, rfl⟩ ⟨by have := hc.1; omega, by have := hc.2; omega⟩ rfl hl.1 rfl (Nat.le_of_ble_eq_true rfl) dL_law_1310) (fun _ _ _ h => by obtain ⟨⟨_, _, h, _⟩, _⟩ := h; exact ⟨_, h⟩)) hAc hS (fun r V1 H1 locs1 hw hB1 hz1 hk1 hS1 => ?_)
  have hT1 := tB.out hB.2 hAB hk1
  refine lv_aload_n hx hb dL_law_1313 rfl (lv_at hl 1 rfl) ?_
  refine l_arg (k := 1) (z := 1) hx hb hX hbl hL hS1 hl (by omega) (by decide) dL_law_1314 dL_law_1315 rfl dL_law_1317 dL_law_1318 (fun h => lv_iconst (v := 1) hx hb dL_law_1316 (by decide) h) ?_
  refine l_arg (k := 2) (z := 2) hx hb hX hbl hL hS1 hl (by omega) (by decide) dL_law_1319 dL_law_1320 rfl dL_law_1322 dL_law_1323 (fun h => lv_iconst (v := 2) hx hb dL_law_1321 (by decide) h) ?_
  refine l_i (Bw := tB D At ad2) (l_runV (A0 := fun q => s.heap.size ≤ q) (Bw := tB D At ad2) (n := 2) (As := [.int (xs (i + 1)), .int (xs (i + 2))]) Ft hT1 (fun _ h => h) hS1 (c_at Ft (gH.pic hT1 tpic0) rfl) (mX6_ask hw) q1672 q1673 q1674 q92 q1675 (by decide +kernel) ⟨Nat.le_of_ble_eq_true rfl, Nat.le_of_ble_eq_true rfl⟩ ⟨rfl, rfl⟩ ⟨by have := hc.1; omega, by have := hc.2; omega⟩ rfl hl.1 rfl (Nat.le_of_ble_eq_true rfl) dL_law_1324) hAt hS1 (fun r2 T2 H2 locs2 hw hB2 hz2 hk2 hS2 => ?_)
  obtain ⟨rfl, hw⟩ := hw
  refine lv_icmp_eq (tgt := 1503) hx hb dL_law_1327 (by decide) (fun _ => ?_) (fun q => absurd rfl q)
  refine W.widen (k := cells + 39) (n := slots + 900) (by omega) (by omega) ?_
  exact kk V1 T2 H2 locs2 hw ⟨cB.out hB1 (fun q h1 h2 => hAB q h2 h1) hz2 hk2, hB2⟩ hS2
set_option maxHeartbeats 4000000 in
theorem lawc_35 {p : Program} {l : Launch} {e : Env} {s : State} {m : MethodId} {below : List Frame} {meth : Method} {c : Code} {H : Heap} {locs : List Loc} {cells slots : Nat} {Q : State → Prop} {b L i : Nat} {xs : Nat → Int32} {ls : Array Slot} {D : DD} {Ac At : Nat → Prop} {ad ad2 : AD} {V : CV} {T : TS} {Pv : CV → TS → Prop} (C : LC p l s m meth c D Ac At b L xs) (hB : lB D Ac At ad ad2 V T H) (hS : va_S (fun q => s.heap.size ≤ q) s.heap H locs) (hi : i + 6 ≤ L) (hl : lv_has ls 4 [(3, .int (nI i)), (2, .ref (ad2 0 0 0)), (1, .ref (ad 0 0 0)), (0, .ref b)]) (hw : wX0_item (xs (i + 1)) (xs (i + 2)) V (fun r V1 => wX6_item (xs (i + 1)) (xs (i + 2)) T (fun r2 T2 => r = r2 ∧ Pv V1 T2))) (hc : cells + 39 ≤ room_1.cells ∧ slots + 900 ≤ room_1.slots) (kk : ∀ (V1 : CV) (T2 : TS) (H2 : Heap) (locs2 : List Loc), Pv V1 T2 → lB D Ac At ad ad2 V1 T2 H2 → va_S (fun q => s.heap.size ≤ q) s.heap H2 locs2 → W p l e room_1 s m #[Value.ref b] below meth c H2 locs2 (cells + 39) (slots + 900) Q (F0 m 1503 ls [])) : W p l e room_1 s m #[Value.ref b] below meth c H locs cells slots Q (F0 m 1332 ls []) := by
  obtain ⟨Fc, Ft, hX, hbl, hAc, hAt, hAB, hL⟩ := C
  have hx := Fc.1.x
  have hb := Fc.1.b
  refine lv_aload_n hx hb dL_law_1332 rfl (lv_at hl 2 rfl) ?_
  refine l_arg (k := 1) (z := 1) hx hb hX hbl hL hS hl (by omega) (by decide) dL_law_1333 dL_law_1334 rfl dL_law_1336 dL_law_1337 (fun h => lv_iconst (v := 1) hx hb dL_law_1335 (by decide) h) ?_
  refine l_arg (k := 2) (z := 2) hx hb hX hbl hL hS hl (by omega) (by decide) dL_law_1338 dL_law_1339 rfl dL_law_1341 dL_law_1342 (fun h => lv_iconst (v := 2) hx hb dL_law_1340 (by decide) h) ?_
  refine l_i (Bw := cB D Ac ad) (yRun.plain (l_runVY (A0 := fun q => s.heap.size ≤ q) (Bw := cB D Ac ad) (n := 2) (As := [.int (xs (i + 1)), .int (xs (i + 2))]) Fc hB.1 (fun _ h => h) hS (c_at Fc (hB.1.pic cpic0) rfl) (mX0_item hw) codeOfW (lw_methW q1166) q1163 q1164 q1165 (by decide +kernel) ⟨Nat.le_of_ble_eq_true rfl, Nat.le_of_ble_eq_true rfl⟩ ⟨rfl, rfl⟩ ⟨by have := hc.1; omega, by have := hc.2; omega⟩ rfl hl.1 rfl (Nat.le_of_ble_eq_true rfl) dL_law_1343) (fun _ _ _ h => by obtain ⟨⟨_, _, h, _⟩, _⟩ := h; exact ⟨_, h⟩)) hAc hS (fun r V1 H1 locs1 hw hB1 hz1 hk1 hS1 => ?_)
  have hT1 := tB.out hB.2 hAB hk1
  refine lv_aload_n hx hb dL_law_1346 rfl (lv_at hl 1 rfl) ?_
  refine l_arg (k := 1) (z := 1) hx hb hX hbl hL hS1 hl (by omega) (by decide) dL_law_1347 dL_law_1348 rfl dL_law_1350 dL_law_1351 (fun h => lv_iconst (v := 1) hx hb dL_law_1349 (by decide) h) ?_
  refine l_arg (k := 2) (z := 2) hx hb hX hbl hL hS1 hl (by omega) (by decide) dL_law_1352 dL_law_1353 rfl dL_law_1355 dL_law_1356 (fun h => lv_iconst (v := 2) hx hb dL_law_1354 (by decide) h) ?_
  refine l_i (Bw := tB D At ad2) (l_runV (A0 := fun q => s.heap.size ≤ q) (Bw := tB D At ad2) (n := 2) (As := [.int (xs (i + 1)), .int (xs (i + 2))]) Ft hT1 (fun _ h => h) hS1 (c_at Ft (gH.pic hT1 tpic0) rfl) (mX6_item hw) q1676 q1677 q1678 q92 q1679 (by decide +kernel) ⟨Nat.le_of_ble_eq_true rfl, Nat.le_of_ble_eq_true rfl⟩ ⟨rfl, rfl⟩ ⟨by have := hc.1; omega, by have := hc.2; omega⟩ rfl hl.1 rfl (Nat.le_of_ble_eq_true rfl) dL_law_1357) hAt hS1 (fun r2 T2 H2 locs2 hw hB2 hz2 hk2 hS2 => ?_)
  obtain ⟨rfl, hw⟩ := hw
  refine lv_icmp_eq (tgt := 1503) hx hb dL_law_1360 (by decide) (fun _ => ?_) (fun q => absurd rfl q)
  refine W.widen (k := cells + 39) (n := slots + 900) (by omega) (by omega) ?_
  exact kk V1 T2 H2 locs2 hw ⟨cB.out hB1 (fun q h1 h2 => hAB q h2 h1) hz2 hk2, hB2⟩ hS2
set_option maxHeartbeats 4000000 in
theorem lawc_36 {p : Program} {l : Launch} {e : Env} {s : State} {m : MethodId} {below : List Frame} {meth : Method} {c : Code} {H : Heap} {locs : List Loc} {cells slots : Nat} {Q : State → Prop} {b L i : Nat} {xs : Nat → Int32} {ls : Array Slot} {D : DD} {Ac At : Nat → Prop} {ad ad2 : AD} {V : CV} {T : TS} {Pv : CV → TS → Prop} (C : LC p l s m meth c D Ac At b L xs) (hB : lB D Ac At ad ad2 V T H) (hS : va_S (fun q => s.heap.size ≤ q) s.heap H locs) (hi : i + 6 ≤ L) (hl : lv_has ls 4 [(3, .int (nI i)), (2, .ref (ad2 0 0 0)), (1, .ref (ad 0 0 0)), (0, .ref b)]) (hw : wX0_rest (xs (i + 1)) (xs (i + 2)) V (fun r V1 => wX6_rest (xs (i + 1)) (xs (i + 2)) T (fun r2 T2 => r = r2 ∧ Pv V1 T2))) (hc : cells + 39 ≤ room_1.cells ∧ slots + 900 ≤ room_1.slots) (kk : ∀ (V1 : CV) (T2 : TS) (H2 : Heap) (locs2 : List Loc), Pv V1 T2 → lB D Ac At ad ad2 V1 T2 H2 → va_S (fun q => s.heap.size ≤ q) s.heap H2 locs2 → W p l e room_1 s m #[Value.ref b] below meth c H2 locs2 (cells + 39) (slots + 900) Q (F0 m 1503 ls [])) : W p l e room_1 s m #[Value.ref b] below meth c H locs cells slots Q (F0 m 1365 ls []) := by
  obtain ⟨Fc, Ft, hX, hbl, hAc, hAt, hAB, hL⟩ := C
  have hx := Fc.1.x
  have hb := Fc.1.b
  refine lv_aload_n hx hb dL_law_1365 rfl (lv_at hl 2 rfl) ?_
  refine l_arg (k := 1) (z := 1) hx hb hX hbl hL hS hl (by omega) (by decide) dL_law_1366 dL_law_1367 rfl dL_law_1369 dL_law_1370 (fun h => lv_iconst (v := 1) hx hb dL_law_1368 (by decide) h) ?_
  refine l_arg (k := 2) (z := 2) hx hb hX hbl hL hS hl (by omega) (by decide) dL_law_1371 dL_law_1372 rfl dL_law_1374 dL_law_1375 (fun h => lv_iconst (v := 2) hx hb dL_law_1373 (by decide) h) ?_
  refine l_i (Bw := cB D Ac ad) (l_runV (A0 := fun q => s.heap.size ≤ q) (Bw := cB D Ac ad) (n := 2) (As := [.int (xs (i + 1)), .int (xs (i + 2))]) Fc hB.1 (fun _ h => h) hS (c_at Fc (hB.1.pic cpic0) rfl) (mX0_rest hw) q1167 q1168 q1169 q83 q1170 (by decide +kernel) ⟨Nat.le_of_ble_eq_true rfl, Nat.le_of_ble_eq_true rfl⟩ ⟨rfl, rfl⟩ ⟨by have := hc.1; omega, by have := hc.2; omega⟩ rfl hl.1 rfl (Nat.le_of_ble_eq_true rfl) dL_law_1376) hAc hS (fun r V1 H1 locs1 hw hB1 hz1 hk1 hS1 => ?_)
  have hT1 := tB.out hB.2 hAB hk1
  refine lv_aload_n hx hb dL_law_1379 rfl (lv_at hl 1 rfl) ?_
  refine l_arg (k := 1) (z := 1) hx hb hX hbl hL hS1 hl (by omega) (by decide) dL_law_1380 dL_law_1381 rfl dL_law_1383 dL_law_1384 (fun h => lv_iconst (v := 1) hx hb dL_law_1382 (by decide) h) ?_
  refine l_arg (k := 2) (z := 2) hx hb hX hbl hL hS1 hl (by omega) (by decide) dL_law_1385 dL_law_1386 rfl dL_law_1388 dL_law_1389 (fun h => lv_iconst (v := 2) hx hb dL_law_1387 (by decide) h) ?_
  refine l_i (Bw := tB D At ad2) (l_runV (A0 := fun q => s.heap.size ≤ q) (Bw := tB D At ad2) (n := 2) (As := [.int (xs (i + 1)), .int (xs (i + 2))]) Ft hT1 (fun _ h => h) hS1 (c_at Ft (gH.pic hT1 tpic0) rfl) (mX6_rest hw) q1680 q1681 q1682 q92 q1683 (by decide +kernel) ⟨Nat.le_of_ble_eq_true rfl, Nat.le_of_ble_eq_true rfl⟩ ⟨rfl, rfl⟩ ⟨by have := hc.1; omega, by have := hc.2; omega⟩ rfl hl.1 rfl (Nat.le_of_ble_eq_true rfl) dL_law_1390) hAt hS1 (fun r2 T2 H2 locs2 hw hB2 hz2 hk2 hS2 => ?_)
  obtain ⟨rfl, hw⟩ := hw
  refine lv_icmp_eq (tgt := 1503) hx hb dL_law_1393 (by decide) (fun _ => ?_) (fun q => absurd rfl q)
  refine W.widen (k := cells + 39) (n := slots + 900) (by omega) (by omega) ?_
  exact kk V1 T2 H2 locs2 hw ⟨cB.out hB1 (fun q h1 h2 => hAB q h2 h1) hz2 hk2, hB2⟩ hS2
set_option maxHeartbeats 4000000 in
theorem lawc_37 {p : Program} {l : Launch} {e : Env} {s : State} {m : MethodId} {below : List Frame} {meth : Method} {c : Code} {H : Heap} {locs : List Loc} {cells slots : Nat} {Q : State → Prop} {b L i : Nat} {xs : Nat → Int32} {ls : Array Slot} {D : DD} {Ac At : Nat → Prop} {ad ad2 : AD} {V : CV} {T : TS} {Pv : CV → TS → Prop} (C : LC p l s m meth c D Ac At b L xs) (hB : lB D Ac At ad ad2 V T H) (hS : va_S (fun q => s.heap.size ≤ q) s.heap H locs) (hi : i + 6 ≤ L) (hl : lv_has ls 4 [(3, .int (nI i)), (2, .ref (ad2 0 0 0)), (1, .ref (ad 0 0 0)), (0, .ref b)]) (hw : wX0_tell (xs (i + 1)) V (fun r V1 => wX6_tell (xs (i + 1)) T (fun r2 T2 => r = r2 ∧ Pv V1 T2))) (hc : cells + 39 ≤ room_1.cells ∧ slots + 900 ≤ room_1.slots) (kk : ∀ (V1 : CV) (T2 : TS) (H2 : Heap) (locs2 : List Loc), Pv V1 T2 → lB D Ac At ad ad2 V1 T2 H2 → va_S (fun q => s.heap.size ≤ q) s.heap H2 locs2 → W p l e room_1 s m #[Value.ref b] below meth c H2 locs2 (cells + 39) (slots + 900) Q (F0 m 1503 ls [])) : W p l e room_1 s m #[Value.ref b] below meth c H locs cells slots Q (F0 m 1398 ls []) := by
  obtain ⟨Fc, Ft, hX, hbl, hAc, hAt, hAB, hL⟩ := C
  have hx := Fc.1.x
  have hb := Fc.1.b
  refine lv_aload_n hx hb dL_law_1398 rfl (lv_at hl 2 rfl) ?_
  refine l_arg (k := 1) (z := 1) hx hb hX hbl hL hS hl (by omega) (by decide) dL_law_1399 dL_law_1400 rfl dL_law_1402 dL_law_1403 (fun h => lv_iconst (v := 1) hx hb dL_law_1401 (by decide) h) ?_
  refine l_i (Bw := cB D Ac ad) (l_runV (A0 := fun q => s.heap.size ≤ q) (Bw := cB D Ac ad) (n := 1) (As := [.int (xs (i + 1))]) Fc hB.1 (fun _ h => h) hS (c_at Fc (hB.1.pic cpic0) rfl) (mX0_tell hw) q1171 q1172 q1173 q83 q1174 (by decide +kernel) ⟨Nat.le_of_ble_eq_true rfl, Nat.le_of_ble_eq_true rfl⟩ ⟨rfl, rfl⟩ ⟨by have := hc.1; omega, by have := hc.2; omega⟩ rfl hl.1 rfl (Nat.le_of_ble_eq_true rfl) dL_law_1404) hAc hS (fun r V1 H1 locs1 hw hB1 hz1 hk1 hS1 => ?_)
  have hT1 := tB.out hB.2 hAB hk1
  refine lv_aload_n hx hb dL_law_1407 rfl (lv_at hl 1 rfl) ?_
  refine l_arg (k := 1) (z := 1) hx hb hX hbl hL hS1 hl (by omega) (by decide) dL_law_1408 dL_law_1409 rfl dL_law_1411 dL_law_1412 (fun h => lv_iconst (v := 1) hx hb dL_law_1410 (by decide) h) ?_
  refine l_i (Bw := tB D At ad2) (l_runV (A0 := fun q => s.heap.size ≤ q) (Bw := tB D At ad2) (n := 1) (As := [.int (xs (i + 1))]) Ft hT1 (fun _ h => h) hS1 (c_at Ft (gH.pic hT1 tpic0) rfl) (mX6_tell hw) q1684 q1685 q1686 q92 q1687 (by decide +kernel) ⟨Nat.le_of_ble_eq_true rfl, Nat.le_of_ble_eq_true rfl⟩ ⟨rfl, rfl⟩ ⟨by have := hc.1; omega, by have := hc.2; omega⟩ rfl hl.1 rfl (Nat.le_of_ble_eq_true rfl) dL_law_1413) hAt hS1 (fun r2 T2 H2 locs2 hw hB2 hz2 hk2 hS2 => ?_)
  obtain ⟨rfl, hw⟩ := hw
  refine lv_icmp_eq (tgt := 1503) hx hb dL_law_1416 (by decide) (fun _ => ?_) (fun q => absurd rfl q)
  refine W.widen (k := cells + 39) (n := slots + 900) (by omega) (by omega) ?_
  exact kk V1 T2 H2 locs2 hw ⟨cB.out hB1 (fun q h1 h2 => hAB q h2 h1) hz2 hk2, hB2⟩ hS2
set_option maxHeartbeats 4000000 in
theorem lawc_38 {p : Program} {l : Launch} {e : Env} {s : State} {m : MethodId} {below : List Frame} {meth : Method} {c : Code} {H : Heap} {locs : List Loc} {cells slots : Nat} {Q : State → Prop} {b L i : Nat} {xs : Nat → Int32} {ls : Array Slot} {D : DD} {Ac At : Nat → Prop} {ad ad2 : AD} {V : CV} {T : TS} {Pv : CV → TS → Prop} (C : LC p l s m meth c D Ac At b L xs) (hB : lB D Ac At ad ad2 V T H) (hS : va_S (fun q => s.heap.size ≤ q) s.heap H locs) (hi : i + 6 ≤ L) (hl : lv_has ls 4 [(3, .int (nI i)), (2, .ref (ad2 0 0 0)), (1, .ref (ad 0 0 0)), (0, .ref b)]) (hw : wX0_check (xs (i + 1)) (xs (i + 2)) V (fun r V1 => wX6_check (xs (i + 1)) (xs (i + 2)) T (fun r2 T2 => r = r2 ∧ Pv V1 T2))) (hc : cells + 39 ≤ room_1.cells ∧ slots + 900 ≤ room_1.slots) (kk : ∀ (V1 : CV) (T2 : TS) (H2 : Heap) (locs2 : List Loc), Pv V1 T2 → lB D Ac At ad ad2 V1 T2 H2 → va_S (fun q => s.heap.size ≤ q) s.heap H2 locs2 → W p l e room_1 s m #[Value.ref b] below meth c H2 locs2 (cells + 39) (slots + 900) Q (F0 m 1503 ls [])) : W p l e room_1 s m #[Value.ref b] below meth c H locs cells slots Q (F0 m 1421 ls []) := by
  obtain ⟨Fc, Ft, hX, hbl, hAc, hAt, hAB, hL⟩ := C
  have hx := Fc.1.x
  have hb := Fc.1.b
  refine lv_aload_n hx hb dL_law_1421 rfl (lv_at hl 2 rfl) ?_
  refine l_arg (k := 1) (z := 1) hx hb hX hbl hL hS hl (by omega) (by decide) dL_law_1422 dL_law_1423 rfl dL_law_1425 dL_law_1426 (fun h => lv_iconst (v := 1) hx hb dL_law_1424 (by decide) h) ?_
  refine l_arg (k := 2) (z := 2) hx hb hX hbl hL hS hl (by omega) (by decide) dL_law_1427 dL_law_1428 rfl dL_law_1430 dL_law_1431 (fun h => lv_iconst (v := 2) hx hb dL_law_1429 (by decide) h) ?_
  refine l_i (Bw := cB D Ac ad) (l_runV (A0 := fun q => s.heap.size ≤ q) (Bw := cB D Ac ad) (n := 2) (As := [.int (xs (i + 1)), .int (xs (i + 2))]) Fc hB.1 (fun _ h => h) hS (c_at Fc (hB.1.pic cpic0) rfl) (mX0_check hw) q1175 q1176 q1177 q83 q1178 (by decide +kernel) ⟨Nat.le_of_ble_eq_true rfl, Nat.le_of_ble_eq_true rfl⟩ ⟨rfl, rfl⟩ ⟨by have := hc.1; omega, by have := hc.2; omega⟩ rfl hl.1 rfl (Nat.le_of_ble_eq_true rfl) dL_law_1432) hAc hS (fun r V1 H1 locs1 hw hB1 hz1 hk1 hS1 => ?_)
  have hT1 := tB.out hB.2 hAB hk1
  refine lv_aload_n hx hb dL_law_1435 rfl (lv_at hl 1 rfl) ?_
  refine l_arg (k := 1) (z := 1) hx hb hX hbl hL hS1 hl (by omega) (by decide) dL_law_1436 dL_law_1437 rfl dL_law_1439 dL_law_1440 (fun h => lv_iconst (v := 1) hx hb dL_law_1438 (by decide) h) ?_
  refine l_arg (k := 2) (z := 2) hx hb hX hbl hL hS1 hl (by omega) (by decide) dL_law_1441 dL_law_1442 rfl dL_law_1444 dL_law_1445 (fun h => lv_iconst (v := 2) hx hb dL_law_1443 (by decide) h) ?_
  refine l_i (Bw := tB D At ad2) (l_runV (A0 := fun q => s.heap.size ≤ q) (Bw := tB D At ad2) (n := 2) (As := [.int (xs (i + 1)), .int (xs (i + 2))]) Ft hT1 (fun _ h => h) hS1 (c_at Ft (gH.pic hT1 tpic0) rfl) (mX6_check hw) q1688 q1689 q1690 q92 q1691 (by decide +kernel) ⟨Nat.le_of_ble_eq_true rfl, Nat.le_of_ble_eq_true rfl⟩ ⟨rfl, rfl⟩ ⟨by have := hc.1; omega, by have := hc.2; omega⟩ rfl hl.1 rfl (Nat.le_of_ble_eq_true rfl) dL_law_1446) hAt hS1 (fun r2 T2 H2 locs2 hw hB2 hz2 hk2 hS2 => ?_)
  obtain ⟨rfl, hw⟩ := hw
  refine lv_icmp_eq (tgt := 1503) hx hb dL_law_1449 (by decide) (fun _ => ?_) (fun q => absurd rfl q)
  refine W.widen (k := cells + 39) (n := slots + 900) (by omega) (by omega) ?_
  exact kk V1 T2 H2 locs2 hw ⟨cB.out hB1 (fun q h1 h2 => hAB q h2 h1) hz2 hk2, hB2⟩ hS2
set_option maxHeartbeats 4000000 in
theorem lawc_39 {p : Program} {l : Launch} {e : Env} {s : State} {m : MethodId} {below : List Frame} {meth : Method} {c : Code} {H : Heap} {locs : List Loc} {cells slots : Nat} {Q : State → Prop} {b L i : Nat} {xs : Nat → Int32} {ls : Array Slot} {D : DD} {Ac At : Nat → Prop} {ad ad2 : AD} {V : CV} {T : TS} {Pv : CV → TS → Prop} (C : LC p l s m meth c D Ac At b L xs) (hB : lB D Ac At ad ad2 V T H) (hS : va_S (fun q => s.heap.size ≤ q) s.heap H locs) (hi : i + 6 ≤ L) (hl : lv_has ls 4 [(3, .int (nI i)), (2, .ref (ad2 0 0 0)), (1, .ref (ad 0 0 0)), (0, .ref b)]) (hw : wX0_keep V (fun r V1 => wX6_keep T (fun r2 T2 => r = r2 ∧ Pv V1 T2))) (hc : cells + 39 ≤ room_1.cells ∧ slots + 900 ≤ room_1.slots) (kk : ∀ (V1 : CV) (T2 : TS) (H2 : Heap) (locs2 : List Loc), Pv V1 T2 → lB D Ac At ad ad2 V1 T2 H2 → va_S (fun q => s.heap.size ≤ q) s.heap H2 locs2 → W p l e room_1 s m #[Value.ref b] below meth c H2 locs2 (cells + 39) (slots + 900) Q (F0 m 1503 ls [])) : W p l e room_1 s m #[Value.ref b] below meth c H locs cells slots Q (F0 m 1454 ls []) := by
  obtain ⟨Fc, Ft, hX, hbl, hAc, hAt, hAB, hL⟩ := C
  have hx := Fc.1.x
  have hb := Fc.1.b
  refine lv_aload_n hx hb dL_law_1454 rfl (lv_at hl 2 rfl) ?_
  refine l_i (Bw := cB D Ac ad) (l_runV (A0 := fun q => s.heap.size ≤ q) (Bw := cB D Ac ad) (n := 0) (As := []) Fc hB.1 (fun _ h => h) hS (c_at Fc (hB.1.pic cpic0) rfl) (mX0_keep hw) q1201 q1202 q1203 q83 q1204 (by decide +kernel) ⟨Nat.le_of_ble_eq_true rfl, Nat.le_of_ble_eq_true rfl⟩ ⟨rfl, rfl⟩ ⟨by have := hc.1; omega, by have := hc.2; omega⟩ rfl hl.1 rfl (Nat.le_of_ble_eq_true rfl) dL_law_1455) hAc hS (fun r V1 H1 locs1 hw hB1 hz1 hk1 hS1 => ?_)
  have hT1 := tB.out hB.2 hAB hk1
  refine lv_aload_n hx hb dL_law_1458 rfl (lv_at hl 1 rfl) ?_
  refine l_i (Bw := tB D At ad2) (l_runV (A0 := fun q => s.heap.size ≤ q) (Bw := tB D At ad2) (n := 0) (As := []) Ft hT1 (fun _ h => h) hS1 (c_at Ft (gH.pic hT1 tpic0) rfl) (mX6_keep hw) q1697 q1698 q1699 q92 q1700 (by decide +kernel) ⟨Nat.le_of_ble_eq_true rfl, Nat.le_of_ble_eq_true rfl⟩ ⟨rfl, rfl⟩ ⟨by have := hc.1; omega, by have := hc.2; omega⟩ rfl hl.1 rfl (Nat.le_of_ble_eq_true rfl) dL_law_1459) hAt hS1 (fun r2 T2 H2 locs2 hw hB2 hz2 hk2 hS2 => ?_)
  obtain ⟨rfl, hw⟩ := hw
  refine lv_icmp_eq (tgt := 1503) hx hb dL_law_1462 (by decide) (fun _ => ?_) (fun q => absurd rfl q)
  refine W.widen (k := cells + 39) (n := slots + 900) (by omega) (by omega) ?_
  exact kk V1 T2 H2 locs2 hw ⟨cB.out hB1 (fun q h1 h2 => hAB q h2 h1) hz2 hk2, hB2⟩ hS2
set_option maxHeartbeats 4000000 in
theorem lawc_40 {p : Program} {l : Launch} {e : Env} {s : State} {m : MethodId} {below : List Frame} {meth : Method} {c : Code} {H : Heap} {locs : List Loc} {cells slots : Nat} {Q : State → Prop} {b L i : Nat} {xs : Nat → Int32} {ls : Array Slot} {D : DD} {Ac At : Nat → Prop} {ad ad2 : AD} {V : CV} {T : TS} {Pv : CV → TS → Prop} (C : LC p l s m meth c D Ac At b L xs) (hB : lB D Ac At ad ad2 V T H) (hS : va_S (fun q => s.heap.size ≤ q) s.heap H locs) (hi : i + 6 ≤ L) (hl : lv_has ls 4 [(3, .int (nI i)), (2, .ref (ad2 0 0 0)), (1, .ref (ad 0 0 0)), (0, .ref b)]) (hw : wX0_back V (fun r V1 => wX6_back T (fun r2 T2 => r = r2 ∧ Pv V1 T2))) (hc : cells + 39 ≤ room_1.cells ∧ slots + 900 ≤ room_1.slots) (kk : ∀ (V1 : CV) (T2 : TS) (H2 : Heap) (locs2 : List Loc), Pv V1 T2 → lB D Ac At ad ad2 V1 T2 H2 → va_S (fun q => s.heap.size ≤ q) s.heap H2 locs2 → W p l e room_1 s m #[Value.ref b] below meth c H2 locs2 (cells + 39) (slots + 900) Q (F0 m 1503 ls [])) : W p l e room_1 s m #[Value.ref b] below meth c H locs cells slots Q (F0 m 1467 ls []) := by
  obtain ⟨Fc, Ft, hX, hbl, hAc, hAt, hAB, hL⟩ := C
  have hx := Fc.1.x
  have hb := Fc.1.b
  refine lv_aload_n hx hb dL_law_1467 rfl (lv_at hl 2 rfl) ?_
  refine l_i (Bw := cB D Ac ad) (l_runV (A0 := fun q => s.heap.size ≤ q) (Bw := cB D Ac ad) (n := 0) (As := []) Fc hB.1 (fun _ h => h) hS (c_at Fc (hB.1.pic cpic0) rfl) (mX0_back hw) q1205 q1206 q1207 q83 q1208 (by decide +kernel) ⟨Nat.le_of_ble_eq_true rfl, Nat.le_of_ble_eq_true rfl⟩ ⟨rfl, rfl⟩ ⟨by have := hc.1; omega, by have := hc.2; omega⟩ rfl hl.1 rfl (Nat.le_of_ble_eq_true rfl) dL_law_1468) hAc hS (fun r V1 H1 locs1 hw hB1 hz1 hk1 hS1 => ?_)
  have hT1 := tB.out hB.2 hAB hk1
  refine lv_aload_n hx hb dL_law_1471 rfl (lv_at hl 1 rfl) ?_
  refine l_i (Bw := tB D At ad2) (l_runV (A0 := fun q => s.heap.size ≤ q) (Bw := tB D At ad2) (n := 0) (As := []) Ft hT1 (fun _ h => h) hS1 (c_at Ft (gH.pic hT1 tpic0) rfl) (mX6_back hw) q1701 q1702 q1703 q92 q1704 (by decide +kernel) ⟨Nat.le_of_ble_eq_true rfl, Nat.le_of_ble_eq_true rfl⟩ ⟨rfl, rfl⟩ ⟨by have := hc.1; omega, by have := hc.2; omega⟩ rfl hl.1 rfl (Nat.le_of_ble_eq_true rfl) dL_law_1472) hAt hS1 (fun r2 T2 H2 locs2 hw hB2 hz2 hk2 hS2 => ?_)
  obtain ⟨rfl, hw⟩ := hw
  refine lv_icmp_eq (tgt := 1503) hx hb dL_law_1475 (by decide) (fun _ => ?_) (fun q => absurd rfl q)
  refine W.widen (k := cells + 39) (n := slots + 900) (by omega) (by omega) ?_
  exact kk V1 T2 H2 locs2 hw ⟨cB.out hB1 (fun q h1 h2 => hAB q h2 h1) hz2 hk2, hB2⟩ hS2
set_option maxHeartbeats 4000000 in
theorem lawc_41 {p : Program} {l : Launch} {e : Env} {s : State} {m : MethodId} {below : List Frame} {meth : Method} {c : Code} {H : Heap} {locs : List Loc} {cells slots : Nat} {Q : State → Prop} {b L i : Nat} {xs : Nat → Int32} {ls : Array Slot} {D : DD} {Ac At : Nat → Prop} {ad ad2 : AD} {V : CV} {T : TS} {Pv : CV → TS → Prop} (C : LC p l s m meth c D Ac At b L xs) (hB : lB D Ac At ad ad2 V T H) (hS : va_S (fun q => s.heap.size ≤ q) s.heap H locs) (hi : i + 6 ≤ L) (hl : lv_has ls 4 [(3, .int (nI i)), (2, .ref (ad2 0 0 0)), (1, .ref (ad 0 0 0)), (0, .ref b)]) (hw : wX0_count (xs (i + 1)) V (fun r V1 => wX6_count (xs (i + 1)) T (fun r2 T2 => r = r2 ∧ Pv V1 T2))) (hc : cells + 39 ≤ room_1.cells ∧ slots + 900 ≤ room_1.slots) (kk : ∀ (V1 : CV) (T2 : TS) (H2 : Heap) (locs2 : List Loc), Pv V1 T2 → lB D Ac At ad ad2 V1 T2 H2 → va_S (fun q => s.heap.size ≤ q) s.heap H2 locs2 → W p l e room_1 s m #[Value.ref b] below meth c H2 locs2 (cells + 39) (slots + 900) Q (F0 m 1503 ls [])) : W p l e room_1 s m #[Value.ref b] below meth c H locs cells slots Q (F0 m 1480 ls []) := by
  obtain ⟨Fc, Ft, hX, hbl, hAc, hAt, hAB, hL⟩ := C
  have hx := Fc.1.x
  have hb := Fc.1.b
  refine lv_aload_n hx hb dL_law_1480 rfl (lv_at hl 2 rfl) ?_
  refine l_arg (k := 1) (z := 1) hx hb hX hbl hL hS hl (by omega) (by decide) dL_law_1481 dL_law_1482 rfl dL_law_1484 dL_law_1485 (fun h => lv_iconst (v := 1) hx hb dL_law_1483 (by decide) h) ?_
  refine l_i (Bw := cB D Ac ad) (l_runV (A0 := fun q => s.heap.size ≤ q) (Bw := cB D Ac ad) (n := 1) (As := [.int (xs (i + 1))]) Fc hB.1 (fun _ h => h) hS (c_at Fc (hB.1.pic cpic0) rfl) (mX0_count hw) q1209 q1210 q1211 q83 q1212 (by decide +kernel) ⟨Nat.le_of_ble_eq_true rfl, Nat.le_of_ble_eq_true rfl⟩ ⟨rfl, rfl⟩ ⟨by have := hc.1; omega, by have := hc.2; omega⟩ rfl hl.1 rfl (Nat.le_of_ble_eq_true rfl) dL_law_1486) hAc hS (fun r V1 H1 locs1 hw hB1 hz1 hk1 hS1 => ?_)
  have hT1 := tB.out hB.2 hAB hk1
  refine lv_aload_n hx hb dL_law_1489 rfl (lv_at hl 1 rfl) ?_
  refine l_arg (k := 1) (z := 1) hx hb hX hbl hL hS1 hl (by omega) (by decide) dL_law_1490 dL_law_1491 rfl dL_law_1493 dL_law_1494 (fun h => lv_iconst (v := 1) hx hb dL_law_1492 (by decide) h) ?_
  refine l_i (Bw := tB D At ad2) (l_runV (A0 := fun q => s.heap.size ≤ q) (Bw := tB D At ad2) (n := 1) (As := [.int (xs (i + 1))]) Ft hT1 (fun _ h => h) hS1 (c_at Ft (gH.pic hT1 tpic0) rfl) (mX6_count hw) q1705 q1706 q1707 q92 q1708 (by decide +kernel) ⟨Nat.le_of_ble_eq_true rfl, Nat.le_of_ble_eq_true rfl⟩ ⟨rfl, rfl⟩ ⟨by have := hc.1; omega, by have := hc.2; omega⟩ rfl hl.1 rfl (Nat.le_of_ble_eq_true rfl) dL_law_1495) hAt hS1 (fun r2 T2 H2 locs2 hw hB2 hz2 hk2 hS2 => ?_)
  obtain ⟨rfl, hw⟩ := hw
  refine lv_icmp_eq (tgt := 1503) hx hb dL_law_1498 (by decide) (fun _ => ?_) (fun q => absurd rfl q)
  refine W.widen (k := cells + 39) (n := slots + 900) (by omega) (by omega) ?_
  exact kk V1 T2 H2 locs2 hw ⟨cB.out hB1 (fun q h1 h2 => hAB q h2 h1) hz2 hk2, hB2⟩ hS2
set_option maxHeartbeats 4000000 in
theorem law_switch {p : Program} {l : Launch} {e : Env} {s : State} {m : MethodId} {below : List Frame} {meth : Method} {c : Code} {H : Heap} {locs : List Loc} {cells slots : Nat} {Q : State → Prop} {b L i : Nat} {xs : Nat → Int32} {ls : Array Slot} {D : DD} {Ac At : Nat → Prop} {ad ad2 : AD} {V : CV} {T : TS} {Pv : CV → TS → Prop} (C : LC p l s m meth c D Ac At b L xs) (hB : lB D Ac At ad ad2 V T H) (hS : va_S (fun q => s.heap.size ≤ q) s.heap H locs) (hi : i + 6 ≤ L) (hl : lv_has ls 4 [(3, .int (nI i)), (2, .ref (ad2 0 0 0)), (1, .ref (ad 0 0 0)), (0, .ref b)]) (hP : Pv V T) (hw : SIM Pv (fun k => xs (i + k)) V T) (hc : cells + 39 ≤ room_1.cells ∧ slots + 900 ≤ room_1.slots) (kk : ∀ (V1 : CV) (T2 : TS) (H2 : Heap) (locs2 : List Loc), Pv V1 T2 → lB D Ac At ad ad2 V1 T2 H2 → va_S (fun q => s.heap.size ≤ q) s.heap H2 locs2 → W p l e room_1 s m #[Value.ref b] below meth c H2 locs2 (cells + 39) (slots + 900) Q (F0 m 1503 ls [])) : W p l e room_1 s m #[Value.ref b] below meth c H locs cells slots Q (F0 m 33 ls [.int (xs i &&& 63)]) := by
  have hx := C.1.1.x
  have hb := C.1.1.b
  by_cases q0 : (xs i &&& 63) = 0
  · refine lv_tableIn (off := 183) (tgt := 216) hx hb dL_law_33 (by rw [q0]; decide) (by rw [q0]; decide) (by rw [q0]; rfl) (by decide) ?_
    exact lawc_0 C hB hS hi hl (hw.1 q0) hc kk
  by_cases q1 : (xs i &&& 63) = 1
  · refine lv_tableIn (off := 216) (tgt := 249) hx hb dL_law_33 (by rw [q1]; decide) (by rw [q1]; decide) (by rw [q1]; rfl) (by decide) ?_
    exact lawc_1 C hB hS hi hl (hw.2.1 q1) hc kk
  by_cases q2 : (xs i &&& 63) = 2
  · refine lv_tableIn (off := 249) (tgt := 282) hx hb dL_law_33 (by rw [q2]; decide) (by rw [q2]; decide) (by rw [q2]; rfl) (by decide) ?_
    exact lawc_2 C hB hS hi hl (hw.2.2.1 q2) hc kk
  by_cases q3 : (xs i &&& 63) = 3
  · refine lv_tableIn (off := 282) (tgt := 315) hx hb dL_law_33 (by rw [q3]; decide) (by rw [q3]; decide) (by rw [q3]; rfl) (by decide) ?_
    exact lawc_3 C hB hS hi hl (hw.2.2.2.1 q3) hc kk
  by_cases q4 : (xs i &&& 63) = 4
  · refine lv_tableIn (off := 315) (tgt := 348) hx hb dL_law_33 (by rw [q4]; decide) (by rw [q4]; decide) (by rw [q4]; rfl) (by decide) ?_
    exact lawc_4 C hB hS hi hl (hw.2.2.2.2.1 q4) hc kk
  by_cases q5 : (xs i &&& 63) = 5
  · refine lv_tableIn (off := 348) (tgt := 381) hx hb dL_law_33 (by rw [q5]; decide) (by rw [q5]; decide) (by rw [q5]; rfl) (by decide) ?_
    exact lawc_5 C hB hS hi hl (hw.2.2.2.2.2.1 q5) hc kk
  by_cases q6 : (xs i &&& 63) = 6
  · refine lv_tableIn (off := 391) (tgt := 424) hx hb dL_law_33 (by rw [q6]; decide) (by rw [q6]; decide) (by rw [q6]; rfl) (by decide) ?_
    exact lawc_6 C hB hS hi hl (hw.2.2.2.2.2.2.1 q6) hc kk
  by_cases q7 : (xs i &&& 63) = 7
  · refine lv_tableIn (off := 434) (tgt := 467) hx hb dL_law_33 (by rw [q7]; decide) (by rw [q7]; decide) (by rw [q7]; rfl) (by decide) ?_
    exact lawc_7 C hB hS hi hl (hw.2.2.2.2.2.2.2.1 q7) hc kk
  by_cases q8 : (xs i &&& 63) = 8
  · refine lv_tableIn (off := 477) (tgt := 510) hx hb dL_law_33 (by rw [q8]; decide) (by rw [q8]; decide) (by rw [q8]; rfl) (by decide) ?_
    exact lawc_8 C hB hS hi hl (hw.2.2.2.2.2.2.2.2.1 q8) hc kk
  by_cases q9 : (xs i &&& 63) = 9
  · refine lv_tableIn (off := 500) (tgt := 533) hx hb dL_law_33 (by rw [q9]; decide) (by rw [q9]; decide) (by rw [q9]; rfl) (by decide) ?_
    exact lawc_9 C hB hS hi hl (hw.2.2.2.2.2.2.2.2.2.1 q9) hc kk
  by_cases q10 : (xs i &&& 63) = 10
  · refine lv_tableIn (off := 523) (tgt := 556) hx hb dL_law_33 (by rw [q10]; decide) (by rw [q10]; decide) (by rw [q10]; rfl) (by decide) ?_
    exact lawc_10 C hB hS hi hl (hw.2.2.2.2.2.2.2.2.2.2.1 q10) hc kk
  by_cases q11 : (xs i &&& 63) = 11
  · refine lv_tableIn (off := 566) (tgt := 599) hx hb dL_law_33 (by rw [q11]; decide) (by rw [q11]; decide) (by rw [q11]; rfl) (by decide) ?_
    exact lawc_11 C hB hS hi hl (hw.2.2.2.2.2.2.2.2.2.2.2.1 q11) hc kk
  by_cases q12 : (xs i &&& 63) = 12
  · refine lv_tableIn (off := 599) (tgt := 632) hx hb dL_law_33 (by rw [q12]; decide) (by rw [q12]; decide) (by rw [q12]; rfl) (by decide) ?_
    exact lawc_12 C hB hS hi hl (hw.2.2.2.2.2.2.2.2.2.2.2.2.1 q12) hc kk
  by_cases q13 : (xs i &&& 63) = 13
  · refine lv_tableIn (off := 622) (tgt := 655) hx hb dL_law_33 (by rw [q13]; decide) (by rw [q13]; decide) (by rw [q13]; rfl) (by decide) ?_
    exact lawc_13 C hB hS hi hl (hw.2.2.2.2.2.2.2.2.2.2.2.2.2.1 q13) hc kk
  by_cases q14 : (xs i &&& 63) = 14
  · refine lv_tableIn (off := 645) (tgt := 678) hx hb dL_law_33 (by rw [q14]; decide) (by rw [q14]; decide) (by rw [q14]; rfl) (by decide) ?_
    exact lawc_14 C hB hS hi hl (hw.2.2.2.2.2.2.2.2.2.2.2.2.2.2.1 q14) hc kk
  by_cases q15 : (xs i &&& 63) = 15
  · refine lv_tableIn (off := 688) (tgt := 721) hx hb dL_law_33 (by rw [q15]; decide) (by rw [q15]; decide) (by rw [q15]; rfl) (by decide) ?_
    exact lawc_15 C hB hS hi hl (hw.2.2.2.2.2.2.2.2.2.2.2.2.2.2.2.1 q15) hc kk
  by_cases q16 : (xs i &&& 63) = 16
  · refine lv_tableIn (off := 721) (tgt := 754) hx hb dL_law_33 (by rw [q16]; decide) (by rw [q16]; decide) (by rw [q16]; rfl) (by decide) ?_
    exact lawc_16 C hB hS hi hl (hw.2.2.2.2.2.2.2.2.2.2.2.2.2.2.2.2.1 q16) hc kk
  by_cases q17 : (xs i &&& 63) = 17
  · refine lv_tableIn (off := 754) (tgt := 787) hx hb dL_law_33 (by rw [q17]; decide) (by rw [q17]; decide) (by rw [q17]; rfl) (by decide) ?_
    exact lawc_17 C hB hS hi hl (hw.2.2.2.2.2.2.2.2.2.2.2.2.2.2.2.2.2.1 q17) hc kk
  by_cases q18 : (xs i &&& 63) = 18
  · refine lv_tableIn (off := 787) (tgt := 820) hx hb dL_law_33 (by rw [q18]; decide) (by rw [q18]; decide) (by rw [q18]; rfl) (by decide) ?_
    exact lawc_18 C hB hS hi hl (hw.2.2.2.2.2.2.2.2.2.2.2.2.2.2.2.2.2.2.1 q18) hc kk
  by_cases q19 : (xs i &&& 63) = 19
  · refine lv_tableIn (off := 800) (tgt := 833) hx hb dL_law_33 (by rw [q19]; decide) (by rw [q19]; decide) (by rw [q19]; rfl) (by decide) ?_
    exact lawc_19 C hB hS hi hl (hw.2.2.2.2.2.2.2.2.2.2.2.2.2.2.2.2.2.2.2.1 q19) hc kk
  by_cases q20 : (xs i &&& 63) = 20
  · refine lv_tableIn (off := 823) (tgt := 856) hx hb dL_law_33 (by rw [q20]; decide) (by rw [q20]; decide) (by rw [q20]; rfl) (by decide) ?_
    exact lawc_20 C hB hS hi hl (hw.2.2.2.2.2.2.2.2.2.2.2.2.2.2.2.2.2.2.2.2.1 q20) hc kk
  by_cases q21 : (xs i &&& 63) = 21
  · refine lv_tableIn (off := 846) (tgt := 879) hx hb dL_law_33 (by rw [q21]; decide) (by rw [q21]; decide) (by rw [q21]; rfl) (by decide) ?_
    exact lawc_21 C hB hS hi hl (hw.2.2.2.2.2.2.2.2.2.2.2.2.2.2.2.2.2.2.2.2.2.1 q21) hc kk
  by_cases q22 : (xs i &&& 63) = 22
  · refine lv_tableIn (off := 880) (tgt := 913) hx hb dL_law_33 (by rw [q22]; decide) (by rw [q22]; decide) (by rw [q22]; rfl) (by decide) ?_
    exact lawc_22 C hB hS hi hl (hw.2.2.2.2.2.2.2.2.2.2.2.2.2.2.2.2.2.2.2.2.2.2.1 q22) hc kk
  by_cases q23 : (xs i &&& 63) = 23
  · refine lv_tableIn (off := 893) (tgt := 926) hx hb dL_law_33 (by rw [q23]; decide) (by rw [q23]; decide) (by rw [q23]; rfl) (by decide) ?_
    exact lawc_23 C hB hS hi hl (hw.2.2.2.2.2.2.2.2.2.2.2.2.2.2.2.2.2.2.2.2.2.2.2.1 q23) hc kk
  by_cases q24 : (xs i &&& 63) = 24
  · refine lv_tableIn (off := 936) (tgt := 969) hx hb dL_law_33 (by rw [q24]; decide) (by rw [q24]; decide) (by rw [q24]; rfl) (by decide) ?_
    exact lawc_24 C hB hS hi hl (hw.2.2.2.2.2.2.2.2.2.2.2.2.2.2.2.2.2.2.2.2.2.2.2.2.1 q24) hc kk
  by_cases q25 : (xs i &&& 63) = 25
  · refine lv_tableIn (off := 959) (tgt := 992) hx hb dL_law_33 (by rw [q25]; decide) (by rw [q25]; decide) (by rw [q25]; rfl) (by decide) ?_
    exact lawc_25 C hB hS hi hl (hw.2.2.2.2.2.2.2.2.2.2.2.2.2.2.2.2.2.2.2.2.2.2.2.2.2.1 q25) hc kk
  by_cases q26 : (xs i &&& 63) = 26
  · refine lv_tableIn (off := 972) (tgt := 1005) hx hb dL_law_33 (by rw [q26]; decide) (by rw [q26]; decide) (by rw [q26]; rfl) (by decide) ?_
    exact lawc_26 C hB hS hi hl (hw.2.2.2.2.2.2.2.2.2.2.2.2.2.2.2.2.2.2.2.2.2.2.2.2.2.2.1 q26) hc kk
  by_cases q27 : (xs i &&& 63) = 27
  · refine lv_tableIn (off := 1005) (tgt := 1038) hx hb dL_law_33 (by rw [q27]; decide) (by rw [q27]; decide) (by rw [q27]; rfl) (by decide) ?_
    exact lawc_27 C hB hS hi hl (hw.2.2.2.2.2.2.2.2.2.2.2.2.2.2.2.2.2.2.2.2.2.2.2.2.2.2.2.1 q27) hc kk
  by_cases q28 : (xs i &&& 63) = 28
  · refine lv_tableIn (off := 1028) (tgt := 1061) hx hb dL_law_33 (by rw [q28]; decide) (by rw [q28]; decide) (by rw [q28]; rfl) (by decide) ?_
    exact lawc_28 C hB hS hi hl (hw.2.2.2.2.2.2.2.2.2.2.2.2.2.2.2.2.2.2.2.2.2.2.2.2.2.2.2.2.1 q28) hc kk
  by_cases q29 : (xs i &&& 63) = 29
  · refine lv_tableIn (off := 1071) (tgt := 1104) hx hb dL_law_33 (by rw [q29]; decide) (by rw [q29]; decide) (by rw [q29]; rfl) (by decide) ?_
    exact lawc_29 C hB hS hi hl (hw.2.2.2.2.2.2.2.2.2.2.2.2.2.2.2.2.2.2.2.2.2.2.2.2.2.2.2.2.2.1 q29) hc kk
  by_cases q30 : (xs i &&& 63) = 30
  · refine lv_tableIn (off := 1114) (tgt := 1147) hx hb dL_law_33 (by rw [q30]; decide) (by rw [q30]; decide) (by rw [q30]; rfl) (by decide) ?_
    exact lawc_30 C hB hS hi hl (hw.2.2.2.2.2.2.2.2.2.2.2.2.2.2.2.2.2.2.2.2.2.2.2.2.2.2.2.2.2.2.1 q30) hc kk
  by_cases q31 : (xs i &&& 63) = 31
  · refine lv_tableIn (off := 1137) (tgt := 1170) hx hb dL_law_33 (by rw [q31]; decide) (by rw [q31]; decide) (by rw [q31]; rfl) (by decide) ?_
    exact lawc_31 C hB hS hi hl (hw.2.2.2.2.2.2.2.2.2.2.2.2.2.2.2.2.2.2.2.2.2.2.2.2.2.2.2.2.2.2.2.1 q31) hc kk
  by_cases q32 : (xs i &&& 63) = 32
  · refine lv_tableIn (off := 1160) (tgt := 1193) hx hb dL_law_33 (by rw [q32]; decide) (by rw [q32]; decide) (by rw [q32]; rfl) (by decide) ?_
    exact lawc_32 C hB hS hi hl (hw.2.2.2.2.2.2.2.2.2.2.2.2.2.2.2.2.2.2.2.2.2.2.2.2.2.2.2.2.2.2.2.2.1 q32) hc kk
  by_cases q33 : (xs i &&& 63) = 33
  · refine lv_tableIn (off := 1223) (tgt := 1256) hx hb dL_law_33 (by rw [q33]; decide) (by rw [q33]; decide) (by rw [q33]; rfl) (by decide) ?_
    exact lawc_33 C hB hS hi hl (hw.2.2.2.2.2.2.2.2.2.2.2.2.2.2.2.2.2.2.2.2.2.2.2.2.2.2.2.2.2.2.2.2.2.1 q33) hc kk
  by_cases q34 : (xs i &&& 63) = 34
  · refine lv_tableIn (off := 1266) (tgt := 1299) hx hb dL_law_33 (by rw [q34]; decide) (by rw [q34]; decide) (by rw [q34]; rfl) (by decide) ?_
    exact lawc_34 C hB hS hi hl (hw.2.2.2.2.2.2.2.2.2.2.2.2.2.2.2.2.2.2.2.2.2.2.2.2.2.2.2.2.2.2.2.2.2.2.1 q34) hc kk
  by_cases q35 : (xs i &&& 63) = 35
  · refine lv_tableIn (off := 1299) (tgt := 1332) hx hb dL_law_33 (by rw [q35]; decide) (by rw [q35]; decide) (by rw [q35]; rfl) (by decide) ?_
    exact lawc_35 C hB hS hi hl (hw.2.2.2.2.2.2.2.2.2.2.2.2.2.2.2.2.2.2.2.2.2.2.2.2.2.2.2.2.2.2.2.2.2.2.2.1 q35) hc kk
  by_cases q36 : (xs i &&& 63) = 36
  · refine lv_tableIn (off := 1332) (tgt := 1365) hx hb dL_law_33 (by rw [q36]; decide) (by rw [q36]; decide) (by rw [q36]; rfl) (by decide) ?_
    exact lawc_36 C hB hS hi hl (hw.2.2.2.2.2.2.2.2.2.2.2.2.2.2.2.2.2.2.2.2.2.2.2.2.2.2.2.2.2.2.2.2.2.2.2.2.1 q36) hc kk
  by_cases q37 : (xs i &&& 63) = 37
  · refine lv_tableIn (off := 1365) (tgt := 1398) hx hb dL_law_33 (by rw [q37]; decide) (by rw [q37]; decide) (by rw [q37]; rfl) (by decide) ?_
    exact lawc_37 C hB hS hi hl (hw.2.2.2.2.2.2.2.2.2.2.2.2.2.2.2.2.2.2.2.2.2.2.2.2.2.2.2.2.2.2.2.2.2.2.2.2.2.1 q37) hc kk
  by_cases q38 : (xs i &&& 63) = 38
  · refine lv_tableIn (off := 1388) (tgt := 1421) hx hb dL_law_33 (by rw [q38]; decide) (by rw [q38]; decide) (by rw [q38]; rfl) (by decide) ?_
    exact lawc_38 C hB hS hi hl (hw.2.2.2.2.2.2.2.2.2.2.2.2.2.2.2.2.2.2.2.2.2.2.2.2.2.2.2.2.2.2.2.2.2.2.2.2.2.2.1 q38) hc kk
  by_cases q39 : (xs i &&& 63) = 39
  · refine lv_tableIn (off := 1421) (tgt := 1454) hx hb dL_law_33 (by rw [q39]; decide) (by rw [q39]; decide) (by rw [q39]; rfl) (by decide) ?_
    exact lawc_39 C hB hS hi hl (hw.2.2.2.2.2.2.2.2.2.2.2.2.2.2.2.2.2.2.2.2.2.2.2.2.2.2.2.2.2.2.2.2.2.2.2.2.2.2.2.1 q39) hc kk
  by_cases q40 : (xs i &&& 63) = 40
  · refine lv_tableIn (off := 1434) (tgt := 1467) hx hb dL_law_33 (by rw [q40]; decide) (by rw [q40]; decide) (by rw [q40]; rfl) (by decide) ?_
    exact lawc_40 C hB hS hi hl (hw.2.2.2.2.2.2.2.2.2.2.2.2.2.2.2.2.2.2.2.2.2.2.2.2.2.2.2.2.2.2.2.2.2.2.2.2.2.2.2.2.1 q40) hc kk
  by_cases q41 : (xs i &&& 63) = 41
  · refine lv_tableIn (off := 1447) (tgt := 1480) hx hb dL_law_33 (by rw [q41]; decide) (by rw [q41]; decide) (by rw [q41]; rfl) (by decide) ?_
    exact lawc_41 C hB hS hi hl (hw.2.2.2.2.2.2.2.2.2.2.2.2.2.2.2.2.2.2.2.2.2.2.2.2.2.2.2.2.2.2.2.2.2.2.2.2.2.2.2.2.2 q41) hc kk
  refine lv_tableOut (tgt := 1503) hx hb dL_law_33 (by have n0 := x_ne q0 (a := 0) (by decide); have n1 := x_ne q1 (a := 1) (by decide); have n2 := x_ne q2 (a := 2) (by decide); have n3 := x_ne q3 (a := 3) (by decide); have n4 := x_ne q4 (a := 4) (by decide); have n5 := x_ne q5 (a := 5) (by decide); have n6 := x_ne q6 (a := 6) (by decide); have n7 := x_ne q7 (a := 7) (by decide); have n8 := x_ne q8 (a := 8) (by decide); have n9 := x_ne q9 (a := 9) (by decide); have n10 := x_ne q10 (a := 10) (by decide); have n11 := x_ne q11 (a := 11) (by decide); have n12 := x_ne q12 (a := 12) (by decide); have n13 := x_ne q13 (a := 13) (by decide); have n14 := x_ne q14 (a := 14) (by decide); have n15 := x_ne q15 (a := 15) (by decide); have n16 := x_ne q16 (a := 16) (by decide); have n17 := x_ne q17 (a := 17) (by decide); have n18 := x_ne q18 (a := 18) (by decide); have n19 := x_ne q19 (a := 19) (by decide); have n20 := x_ne q20 (a := 20) (by decide); have n21 := x_ne q21 (a := 21) (by decide); have n22 := x_ne q22 (a := 22) (by decide); have n23 := x_ne q23 (a := 23) (by decide); have n24 := x_ne q24 (a := 24) (by decide); have n25 := x_ne q25 (a := 25) (by decide); have n26 := x_ne q26 (a := 26) (by decide); have n27 := x_ne q27 (a := 27) (by decide); have n28 := x_ne q28 (a := 28) (by decide); have n29 := x_ne q29 (a := 29) (by decide); have n30 := x_ne q30 (a := 30) (by decide); have n31 := x_ne q31 (a := 31) (by decide); have n32 := x_ne q32 (a := 32) (by decide); have n33 := x_ne q33 (a := 33) (by decide); have n34 := x_ne q34 (a := 34) (by decide); have n35 := x_ne q35 (a := 35) (by decide); have n36 := x_ne q36 (a := 36) (by decide); have n37 := x_ne q37 (a := 37) (by decide); have n38 := x_ne q38 (a := 38) (by decide); have n39 := x_ne q39 (a := 39) (by decide); have n40 := x_ne q40 (a := 40) (by decide); have n41 := x_ne q41 (a := 41) (by decide); omega) (by decide) ?_
  exact W.widen (k := cells + 39) (n := slots + 900) (Nat.le_add_right _ _) (Nat.le_add_right _ _) (kk V T H locs hP hB hS)
