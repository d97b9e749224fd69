set_option maxRecDepth 100000
def rX0_piece (d : Nat) : Room := { frames := 8 * d + 8, cells := 0, slots := 0, locals := 400 * d + 400 }
def rX0_term (d : Nat) : Room := { frames := 8 * d + 9, cells := 0, slots := 0, locals := 400 * d + 440 }
def rX0_sum (d : Nat) : Room := { frames := 8 * d + 10, cells := 0, slots := 0, locals := 400 * d + 480 }
def rX0_test (d : Nat) : Room := { frames := 8 * d + 11, cells := 0, slots := 0, locals := 400 * d + 520 }
def rX0_and (d : Nat) : Room := { frames := 8 * d + 12, cells := 0, slots := 0, locals := 400 * d + 560 }
def rX0_or (d : Nat) : Room := { frames := 8 * d + 13, cells := 0, slots := 0, locals := 400 * d + 600 }
theorem kX0_X0_pieceB {p : Program} {l : Launch} {e : Env} {R rm : Room} {s : State} {m : MethodId} {args : Array Value} {below : List Frame} {meth : Method} {c : Code} {H : Heap} {locs : List Loc} {cells slots : Nat} {Q0 : State → Prop} {cc : ByteArray} {pc nL : Nat} {ls : Array Slot} {rest : List Value} {ret : Option FieldType} {D : DD} {A : Nat → Prop} {s0 : State} {ad : AD} {V : CV} {a1 : Nat} {Q : CV → Prop} {E : CV → Prop} (F : FX p l c cc s args m RX0 D A s0 nL meth ret) (hB : cB D A ad V H) (hS : va_S A s.heap H locs) (hM : MetY l yX0_piece (ws_ yX0_piece cX0_piece 2 (none)) rm (va_Pc [.ref (ad 0 0 0), .ref a1] (fun U => cB D A ad V U.heap ∧ CX l D A s0 U)) (yQ (va_Qv Q (fun u t => cB D A ad u t.heap) A) E (fun x t => x = ad 6 0 0) (fun u t => cB D A ad u t.heap) A) 0 0 A) (hz : rm.cells = 0 ∧ rm.slots = 0) (hR : rm.frames + 1 ≤ R.frames ∧ 8 + (2 + 11) + rm.locals ≤ R.locals) (hc : cells + 0 ≤ R.cells ∧ slots + 0 ≤ R.slots) (hsz : ls.size = nL) (hW : (rest.map fun v => v.category).sum ≤ 8) (hdg : decode cc pc = .ok (.invokevirtual 195, 3)) (kk : ∀ (u : CV) (H1 : Heap) (locs1 : List Loc), Q u → cB D A ad u H1 → va_S A s.heap H1 locs1 → W p l e R s m args below meth c H1 locs1 cells slots Q0 (F0 m (pc + 3) ls rest)) (ke : ∀ (u : CV) (H1 : Heap) (locs1 : List Loc), E u → cB D A ad u H1 → va_S A s.heap H1 locs1 → WT p l e R s m args below meth c H1 locs1 cells slots Q0 (F0 m pc ls rest) (ad 6 0 0)) : W p l e R s m args below meth c H locs cells slots Q0 (F0 m pc ls (.ref a1 :: .ref (ad 0 0 0) :: rest)) :=
  k_vY (Bw := cB D A ad) (k_runVY (Bw := cB D A ad) (n := 1) (As := [.ref a1]) F hB hS (c_at F (hB.pic cpic0) rfl) hM codeOf (lw_meth q520) q517 q519 qs13 (by decide +kernel) hR hz hc rfl hsz rfl hW hdg) hS kk (fun x u H1 locs1 hE hK hB hS => by
    obtain ⟨t, h1, h2, h3⟩ := hK
    subst h3
    exact ke u H1 locs1 hE hB hS)
theorem kX0_X0_term {p : Program} {l : Launch} {e : Env} {R rm : Room} {s : State} {m : MethodId} {args : Array Value} {below : List Frame} {meth : Method} {c : Code} {H : Heap} {locs : List Loc} {cells slots : Nat} {Q0 : State → Prop} {cc : ByteArray} {pc nL : Nat} {ls : Array Slot} {rest : List Value} {ret : Option FieldType} {D : DD} {A : Nat → Prop} {s0 : State} {ad : AD} {V : CV} {a1 : Nat} {Q : CV → Prop} {E : CV → Prop} (F : FX p l c cc s args m RX0 D A s0 nL meth ret) (hB : cB D A ad V H) (hS : va_S A s.heap H locs) (hM : MetY l yX0_term (ws_ yX0_term cX0_term 3 (none)) rm (va_Pc [.ref (ad 0 0 0), .ref a1] (fun U => cB D A ad V U.heap ∧ CX l D A s0 U)) (yQ (va_Qv Q (fun u t => cB D A ad u t.heap) A) E (fun x t => x = ad 6 0 0) (fun u t => cB D A ad u t.heap) A) 0 0 A) (hz : rm.cells = 0 ∧ rm.slots = 0) (hR : rm.frames + 1 ≤ R.frames ∧ 8 + (3 + 11) + rm.locals ≤ R.locals) (hc : cells + 0 ≤ R.cells ∧ slots + 0 ≤ R.slots) (hsz : ls.size = nL) (hW : (rest.map fun v => v.category).sum ≤ 8) (hdg : decode cc pc = .ok (.invokevirtual 192, 3)) (kk : ∀ (u : CV) (H1 : Heap) (locs1 : List Loc), Q u → cB D A ad u H1 → va_S A s.heap H1 locs1 → W p l e R s m args below meth c H1 locs1 cells slots Q0 (F0 m (pc + 3) ls rest)) (ke : ∀ (u : CV) (H1 : Heap) (locs1 : List Loc), E u → cB D A ad u H1 → va_S A s.heap H1 locs1 → WT p l e R s m args below meth c H1 locs1 cells slots Q0 (F0 m pc ls rest) (ad 6 0 0)) : W p l e R s m args below meth c H locs cells slots Q0 (F0 m pc ls (.ref a1 :: .ref (ad 0 0 0) :: rest)) :=
  k_vY (Bw := cB D A ad) (k_runVY (Bw := cB D A ad) (n := 1) (As := [.ref a1]) F hB hS (c_at F (hB.pic cpic0) rfl) hM codeOf (lw_meth q516) q513 q515 qs12 (by decide +kernel) hR hz hc rfl hsz rfl hW hdg) hS kk (fun x u H1 locs1 hE hK hB hS => by
    obtain ⟨t, h1, h2, h3⟩ := hK
    subst h3
    exact ke u H1 locs1 hE hB hS)
theorem kX0_X0_sum {p : Program} {l : Launch} {e : Env} {R rm : Room} {s : State} {m : MethodId} {args : Array Value} {below : List Frame} {meth : Method} {c : Code} {H : Heap} {locs : List Loc} {cells slots : Nat} {Q0 : State → Prop} {cc : ByteArray} {pc nL : Nat} {ls : Array Slot} {rest : List Value} {ret : Option FieldType} {D : DD} {A : Nat → Prop} {s0 : State} {ad : AD} {V : CV} {a1 : Nat} {Q : CV → Prop} {E : CV → Prop} (F : FX p l c cc s args m RX0 D A s0 nL meth ret) (hB : cB D A ad V H) (hS : va_S A s.heap H locs) (hM : MetY l yX0_sum (ws_ yX0_sum cX0_sum 3 (none)) rm (va_Pc [.ref (ad 0 0 0), .ref a1] (fun U => cB D A ad V U.heap ∧ CX l D A s0 U)) (yQ (va_Qv Q (fun u t => cB D A ad u t.heap) A) E (fun x t => x = ad 6 0 0) (fun u t => cB D A ad u t.heap) A) 0 0 A) (hz : rm.cells = 0 ∧ rm.slots = 0) (hR : rm.frames + 1 ≤ R.frames ∧ 8 + (3 + 11) + rm.locals ≤ R.locals) (hc : cells + 0 ≤ R.cells ∧ slots + 0 ≤ R.slots) (hsz : ls.size = nL) (hW : (rest.map fun v => v.category).sum ≤ 8) (hdg : decode cc pc = .ok (.invokevirtual 189, 3)) (kk : ∀ (u : CV) (H1 : Heap) (locs1 : List Loc), Q u → cB D A ad u H1 → va_S A s.heap H1 locs1 → W p l e R s m args below meth c H1 locs1 cells slots Q0 (F0 m (pc + 3) ls rest)) (ke : ∀ (u : CV) (H1 : Heap) (locs1 : List Loc), E u → cB D A ad u H1 → va_S A s.heap H1 locs1 → WT p l e R s m args below meth c H1 locs1 cells slots Q0 (F0 m pc ls rest) (ad 6 0 0)) : W p l e R s m args below meth c H locs cells slots Q0 (F0 m pc ls (.ref a1 :: .ref (ad 0 0 0) :: rest)) :=
  k_vY (Bw := cB D A ad) (k_runVY (Bw := cB D A ad) (n := 1) (As := [.ref a1]) F hB hS (c_at F (hB.pic cpic0) rfl) hM codeOf (lw_meth q512) q509 q511 qs11 (by decide +kernel) hR hz hc rfl hsz rfl hW hdg) hS kk (fun x u H1 locs1 hE hK hB hS => by
    obtain ⟨t, h1, h2, h3⟩ := hK
    subst h3
    exact ke u H1 locs1 hE hB hS)
theorem kX0_X0_test {p : Program} {l : Launch} {e : Env} {R rm : Room} {s : State} {m : MethodId} {args : Array Value} {below : List Frame} {meth : Method} {c : Code} {H : Heap} {locs : List Loc} {cells slots : Nat} {Q0 : State → Prop} {cc : ByteArray} {pc nL : Nat} {ls : Array Slot} {rest : List Value} {ret : Option FieldType} {D : DD} {A : Nat → Prop} {s0 : State} {ad : AD} {V : CV} {a1 : Nat} {Q : CV → Prop} {E : CV → Prop} (F : FX p l c cc s args m RX0 D A s0 nL meth ret) (hB : cB D A ad V H) (hS : va_S A s.heap H locs) (hM : MetY l yX0_test (ws_ yX0_test cX0_test 3 (none)) rm (va_Pc [.ref (ad 0 0 0), .ref a1] (fun U => cB D A ad V U.heap ∧ CX l D A s0 U)) (yQ (va_Qv Q (fun u t => cB D A ad u t.heap) A) E (fun x t => x = ad 6 0 0) (fun u t => cB D A ad u t.heap) A) 0 0 A) (hz : rm.cells = 0 ∧ rm.slots = 0) (hR : rm.frames + 1 ≤ R.frames ∧ 8 + (3 + 11) + rm.locals ≤ R.locals) (hc : cells + 0 ≤ R.cells ∧ slots + 0 ≤ R.slots) (hsz : ls.size = nL) (hW : (rest.map fun v => v.category).sum ≤ 8) (hdg : decode cc pc = .ok (.invokevirtual 186, 3)) (kk : ∀ (u : CV) (H1 : Heap) (locs1 : List Loc), Q u → cB D A ad u H1 → va_S A s.heap H1 locs1 → W p l e R s m args below meth c H1 locs1 cells slots Q0 (F0 m (pc + 3) ls rest)) (ke : ∀ (u : CV) (H1 : Heap) (locs1 : List Loc), E u → cB D A ad u H1 → va_S A s.heap H1 locs1 → WT p l e R s m args below meth c H1 locs1 cells slots Q0 (F0 m pc ls rest) (ad 6 0 0)) : W p l e R s m args below meth c H locs cells slots Q0 (F0 m pc ls (.ref a1 :: .ref (ad 0 0 0) :: rest)) :=
  k_vY (Bw := cB D A ad) (k_runVY (Bw := cB D A ad) (n := 1) (As := [.ref a1]) F hB hS (c_at F (hB.pic cpic0) rfl) hM codeOf (lw_meth q508) q505 q507 qs10 (by decide +kernel) hR hz hc rfl hsz rfl hW hdg) hS kk (fun x u H1 locs1 hE hK hB hS => by
    obtain ⟨t, h1, h2, h3⟩ := hK
    subst h3
    exact ke u H1 locs1 hE hB hS)
theorem kX0_X0_and {p : Program} {l : Launch} {e : Env} {R rm : Room} {s : State} {m : MethodId} {args : Array Value} {below : List Frame} {meth : Method} {c : Code} {H : Heap} {locs : List Loc} {cells slots : Nat} {Q0 : State → Prop} {cc : ByteArray} {pc nL : Nat} {ls : Array Slot} {rest : List Value} {ret : Option FieldType} {D : DD} {A : Nat → Prop} {s0 : State} {ad : AD} {V : CV} {a1 : Nat} {Q : CV → Prop} {E : CV → Prop} (F : FX p l c cc s args m RX0 D A s0 nL meth ret) (hB : cB D A ad V H) (hS : va_S A s.heap H locs) (hM : MetY l yX0_and (ws_ yX0_and cX0_and 2 (none)) rm (va_Pc [.ref (ad 0 0 0), .ref a1] (fun U => cB D A ad V U.heap ∧ CX l D A s0 U)) (yQ (va_Qv Q (fun u t => cB D A ad u t.heap) A) E (fun x t => x = ad 6 0 0) (fun u t => cB D A ad u t.heap) A) 0 0 A) (hz : rm.cells = 0 ∧ rm.slots = 0) (hR : rm.frames + 1 ≤ R.frames ∧ 8 + (2 + 11) + rm.locals ≤ R.locals) (hc : cells + 0 ≤ R.cells ∧ slots + 0 ≤ R.slots) (hsz : ls.size = nL) (hW : (rest.map fun v => v.category).sum ≤ 8) (hdg : decode cc pc = .ok (.invokevirtual 176, 3)) (kk : ∀ (u : CV) (H1 : Heap) (locs1 : List Loc), Q u → cB D A ad u H1 → va_S A s.heap H1 locs1 → W p l e R s m args below meth c H1 locs1 cells slots Q0 (F0 m (pc + 3) ls rest)) (ke : ∀ (u : CV) (H1 : Heap) (locs1 : List Loc), E u → cB D A ad u H1 → va_S A s.heap H1 locs1 → WT p l e R s m args below meth c H1 locs1 cells slots Q0 (F0 m pc ls rest) (ad 6 0 0)) : W p l e R s m args below meth c H locs cells slots Q0 (F0 m pc ls (.ref a1 :: .ref (ad 0 0 0) :: rest)) :=
  k_vY (Bw := cB D A ad) (k_runVY (Bw := cB D A ad) (n := 1) (As := [.ref a1]) F hB hS (c_at F (hB.pic cpic0) rfl) hM codeOf (lw_meth q504) q501 q503 qs9 (by decide +kernel) hR hz hc rfl hsz rfl hW hdg) hS kk (fun x u H1 locs1 hE hK hB hS => by
    obtain ⟨t, h1, h2, h3⟩ := hK
    subst h3
    exact ke u H1 locs1 hE hB hS)
theorem kX0_X0_or {p : Program} {l : Launch} {e : Env} {R rm : Room} {s : State} {m : MethodId} {args : Array Value} {below : List Frame} {meth : Method} {c : Code} {H : Heap} {locs : List Loc} {cells slots : Nat} {Q0 : State → Prop} {cc : ByteArray} {pc nL : Nat} {ls : Array Slot} {rest : List Value} {ret : Option FieldType} {D : DD} {A : Nat → Prop} {s0 : State} {ad : AD} {V : CV} {a1 : Nat} {Q : CV → Prop} {E : CV → Prop} (F : FX p l c cc s args m RX0 D A s0 nL meth ret) (hB : cB D A ad V H) (hS : va_S A s.heap H locs) (hM : MetY l yX0_or (ws_ yX0_or cX0_or 2 (none)) rm (va_Pc [.ref (ad 0 0 0), .ref a1] (fun U => cB D A ad V U.heap ∧ CX l D A s0 U)) (yQ (va_Qv Q (fun u t => cB D A ad u t.heap) A) E (fun x t => x = ad 6 0 0) (fun u t => cB D A ad u t.heap) A) 0 0 A) (hz : rm.cells = 0 ∧ rm.slots = 0) (hR : rm.frames + 1 ≤ R.frames ∧ 8 + (2 + 11) + rm.locals ≤ R.locals) (hc : cells + 0 ≤ R.cells ∧ slots + 0 ≤ R.slots) (hsz : ls.size = nL) (hW : (rest.map fun v => v.category).sum ≤ 8) (hdg : decode cc pc = .ok (.invokevirtual 172, 3)) (kk : ∀ (u : CV) (H1 : Heap) (locs1 : List Loc), Q u → cB D A ad u H1 → va_S A s.heap H1 locs1 → W p l e R s m args below meth c H1 locs1 cells slots Q0 (F0 m (pc + 3) ls rest)) (ke : ∀ (u : CV) (H1 : Heap) (locs1 : List Loc), E u → cB D A ad u H1 → va_S A s.heap H1 locs1 → WT p l e R s m args below meth c H1 locs1 cells slots Q0 (F0 m pc ls rest) (ad 6 0 0)) : W p l e R s m args below meth c H locs cells slots Q0 (F0 m pc ls (.ref a1 :: .ref (ad 0 0 0) :: rest)) :=
  k_vY (Bw := cB D A ad) (k_runVY (Bw := cB D A ad) (n := 1) (As := [.ref a1]) F hB hS (c_at F (hB.pic cpic0) rfl) hM codeOf (lw_meth q500) q497 q499 qs8 (by decide +kernel) hR hz hc rfl hsz rfl hW hdg) hS kk (fun x u H1 locs1 hE hK hB hS => by
    obtain ⟨t, h1, h2, h3⟩ := hK
    subst h3
    exact ke u H1 locs1 hE hB hS)
set_option maxHeartbeats 4000000 in
theorem bX0_term_38 {p : Program} {l : Launch} {e : Env} {s : State} {m : MethodId} {args : Array Value} {below : List Frame} {meth : Method} {c : Code} {D : DD} {A : Nat → Prop} {s0 : State} {ad : AD} {Q : CV → Prop} {E : CV → Prop} {k_5 : Nat → CV → Prop} {l1 : Nat} {k0 : Int32} {V : CV} {H : Heap} {locs : List Loc} {ls : Array Slot} (F : FX p l c cX0_term s args m RX0 D A s0 3 meth (none)) (hnm : s.methodNamed? yX0_term = some m) {P : Nat → CV → (CV → Prop) → (CV → Prop) → Prop} {d : Nat} (hP : ∀ (a1 : Nat) (V : CV) (Q : CV → Prop) (E : CV → Prop), P a1 V Q E → MetY l yX0_piece (ws_ yX0_piece cX0_piece 2 (none)) (rX0_piece d) (va_Pc [.ref (ad 0 0 0), .ref a1] (fun U => cB D A ad V U.heap ∧ CX l D A s0 U)) (yQ (va_Qv Q (fun u t => cB D A ad u t.heap) A) E (fun x t => x = ad 6 0 0) (fun u t => cB D A ad u t.heap) A) 0 0 A) (h_5 : ∀ (l1 : Nat) (V : CV), k_5 l1 V → ∀ (H : Heap) (locs : List Loc) (ls : Array Slot), cB D A ad V H → va_S A s.heap H locs → lv_has ls 3 [(0, .ref (ad 0 0 0)), (1, .ref l1)] → W p l e (rX0_term d) s m args below meth c H locs 0 0 (XMQ below (yQ (va_Qv Q (fun u t => cB D A ad u t.heap) A) E (fun x t => x = ad 6 0 0) (fun u t => cB D A ad u t.heap) A) args s 0 0 A) (F0 m 5 ls [])) (hB : cB D A ad V H) (hS : va_S A s.heap H locs) (hw : wX0_term_38 P k_5 l1 k0 V Q E) (hl : lv_has ls 3 [(0, .ref (ad 0 0 0)), (1, .ref l1)]) : W p l e (rX0_term d) s m args below meth c H locs 0 0 (XMQ below (yQ (va_Qv Q (fun u t => cB D A ad u t.heap) A) E (fun x t => x = ad 6 0 0) (fun u t => cB D A ad u t.heap) A) args s 0 0 A) (F0 m 38 ls [.int k0]) := by
  have hx := F.1.x
  have hb := F.1.b
  unfold wX0_term_38 at hw
  refine lv_istore_n (lv' := [(2, .int k0), (0, .ref (ad 0 0 0)), (1, .ref l1)]) hx hb dX0_term_38 rfl hl (by decide) rfl (fun ls hl => ?_)
  refine lv_aload_n hx hb dX0_term_39 rfl (lv_at hl 1 rfl) ?_
  refine kX0_X0_goes F hB hS hw ⟨by show _ + 1 ≤ _; simp only [rX0_piece, rX0_term, rX0_sum, rX0_test, rX0_and, rX0_or, rX0_goes, rX0_isSign, rX0_isName, rX0_number, rX0_wrong, rX0_isDigit, rX0_isIn, rX13_add]; omega, by show _ + _ ≤ _; simp only [rX0_piece, rX0_term, rX0_sum, rX0_test, rX0_and, rX0_or, rX0_goes, rX0_isSign, rX0_isName, rX0_number, rX0_wrong, rX0_isDigit, rX0_isIn, rX13_add]; omega⟩ ⟨Nat.zero_le _, Nat.zero_le _⟩ hl.1 (Nat.le_of_ble_eq_true rfl) dX0_term_40 (fun V2 H locs hw hB hS => ?_) (fun V2 H locs hw hB hS => ?_)
  · skip
    refine lv_aload_n hx hb dX0_term_43 rfl (lv_at hl 1 rfl) ?_
    refine lv_aload_n hx hb dX0_term_44 rfl (lv_at hl 2 rfl) ?_
    refine kX0_X0_pieceB F hB hS (hP _ _ _ _ hw) ⟨rfl, rfl⟩ ⟨by show _ + 1 ≤ _; simp only [rX0_piece, rX0_term, rX0_sum, rX0_test, rX0_and, rX0_or, rX0_goes, rX0_isSign, rX0_isName, rX0_number, rX0_wrong, rX0_isDigit, rX0_isIn, rX13_add]; omega, by show _ + _ ≤ _; simp only [rX0_piece, rX0_term, rX0_sum, rX0_test, rX0_and, rX0_or, rX0_goes, rX0_isSign, rX0_isName, rX0_number, rX0_wrong, rX0_isDigit, rX0_isIn, rX13_add]; omega⟩ ⟨Nat.zero_le _, Nat.zero_le _⟩ hl.1 (Nat.le_of_ble_eq_true rfl) dX0_term_45 (fun V4 H locs hw hB hS => ?_) (fun V4 H locs hw hB hS => ?_)
    · skip
      refine lv_aload_n hx hb dX0_term_48 rfl (lv_at hl 2 rfl) ?_
      refine lv_iload_n hx hb dX0_term_49 rfl (lv_at hl 0 rfl) ?_
      refine lv_iconst (v := 0) hx hb dX0_term_50 (by decide) ?_
      obtain ⟨f6, f7, f8, hm9, hw⟩ := hw
      refine kX0_X13_add F hB hS hm9 hw ⟨by show _ + 1 ≤ _; simp only [rX0_piece, rX0_term, rX0_sum, rX0_test, rX0_and, rX0_or, rX0_goes, rX0_isSign, rX0_isName, rX0_number, rX0_wrong, rX0_isDigit, rX0_isIn, rX13_add]; omega, by show _ + _ ≤ _; simp only [rX0_piece, rX0_term, rX0_sum, rX0_test, rX0_and, rX0_or, rX0_goes, rX0_isSign, rX0_isName, rX0_number, rX0_wrong, rX0_isDigit, rX0_isIn, rX13_add]; omega⟩ ⟨Nat.zero_le _, Nat.zero_le _⟩ hl.1 (Nat.le_of_ble_eq_true rfl) dX0_term_51 (fun V10 H locs hw hB hS => ?_)
      refine lv_goto (tgt := 5) hx hb dX0_term_54 (by decide) ?_
      exact h_5 _ _ hw _ _ _ hB hS (lv_sub hl [1, 2] rfl)
    · skip
      exact wt_out (Bw := cB D A ad) F.1 hnm q516 hw (fun t _ _ => rfl) hB hS
  · skip
    exact wt_out (Bw := cB D A ad) F.1 hnm q516 hw (fun t _ _ => rfl) hB hS
set_option maxHeartbeats 4000000 in
theorem bX0_term_23 {p : Program} {l : Launch} {e : Env} {s : State} {m : MethodId} {args : Array Value} {below : List Frame} {meth : Method} {c : Code} {D : DD} {A : Nat → Prop} {s0 : State} {ad : AD} {Q : CV → Prop} {E : CV → Prop} {k_5 : Nat → CV → Prop} {l1 : Nat} {V : CV} {H : Heap} {locs : List Loc} {ls : Array Slot} (F : FX p l c cX0_term s args m RX0 D A s0 3 meth (none)) (hnm : s.methodNamed? yX0_term = some m) {P : Nat → CV → (CV → Prop) → (CV → Prop) → Prop} {d : Nat} (hP : ∀ (a1 : Nat) (V : CV) (Q : CV → Prop) (E : CV → Prop), P a1 V Q E → MetY l yX0_piece (ws_ yX0_piece cX0_piece 2 (none)) (rX0_piece d) (va_Pc [.ref (ad 0 0 0), .ref a1] (fun U => cB D A ad V U.heap ∧ CX l D A s0 U)) (yQ (va_Qv Q (fun u t => cB D A ad u t.heap) A) E (fun x t => x = ad 6 0 0) (fun u t => cB D A ad u t.heap) A) 0 0 A) (h_5 : ∀ (l1 : Nat) (V : CV), k_5 l1 V → ∀ (H : Heap) (locs : List Loc) (ls : Array Slot), cB D A ad V H → va_S A s.heap H locs → lv_has ls 3 [(0, .ref (ad 0 0 0)), (1, .ref l1)] → W p l e (rX0_term d) s m args below meth c H locs 0 0 (XMQ below (yQ (va_Qv Q (fun u t => cB D A ad u t.heap) A) E (fun x t => x = ad 6 0 0) (fun u t => cB D A ad u t.heap) A) args s 0 0 A) (F0 m 5 ls [])) (hB : cB D A ad V H) (hS : va_S A s.heap H locs) (hw : wX0_term_23 P k_5 l1 V Q E) (hl : lv_has ls 3 [(0, .ref (ad 0 0 0)), (1, .ref l1)]) : W p l e (rX0_term d) s m args below meth c H locs 0 0 (XMQ below (yQ (va_Qv Q (fun u t => cB D A ad u t.heap) A) E (fun x t => x = ad 6 0 0) (fun u t => cB D A ad u t.heap) A) args s 0 0 A) (F0 m 23 ls []) := by
  have hx := F.1.x
  have hb := F.1.b
  unfold wX0_term_23 at hw
  refine lv_aload_n hx hb dX0_term_23 rfl (lv_at hl 0 rfl) ?_
  refine lv_bipush (v := 42) hx hb dX0_term_24 (by decide) ?_
  refine kX0_X0_isSign F hB hS hw ⟨by show _ + 1 ≤ _; simp only [rX0_piece, rX0_term, rX0_sum, rX0_test, rX0_and, rX0_or, rX0_goes, rX0_isSign, rX0_isName, rX0_number, rX0_wrong, rX0_isDigit, rX0_isIn, rX13_add]; omega, by show _ + _ ≤ _; simp only [rX0_piece, rX0_term, rX0_sum, rX0_test, rX0_and, rX0_or, rX0_goes, rX0_isSign, rX0_isName, rX0_number, rX0_wrong, rX0_isDigit, rX0_isIn, rX13_add]; omega⟩ ⟨Nat.zero_le _, Nat.zero_le _⟩ hl.1 (Nat.le_of_ble_eq_true rfl) dX0_term_26 (fun r1 V2 H locs hw hB hS => ?_)
  refine lv_if_eq (tgt := 36) hx hb dX0_term_29 (by decide) (fun q => ?_) (fun q => ?_)
  · replace hw := hw.1 q
    refine lv_bipush (v := 12) hx hb dX0_term_36 (by decide) ?_
    exact bX0_term_38 F hnm hP h_5 hB hS hw hl
  · replace hw := hw.2 q
    refine lv_iconst (v := 4) hx hb dX0_term_32 (by decide) ?_
    refine lv_goto (tgt := 38) hx hb dX0_term_33 (by decide) ?_
    exact bX0_term_38 F hnm hP h_5 hB hS hw hl
set_option maxHeartbeats 4000000 in
theorem bX0_term_5 {p : Program} {l : Launch} {e : Env} {s : State} {m : MethodId} {args : Array Value} {below : List Frame} {meth : Method} {c : Code} {D : DD} {A : Nat → Prop} {s0 : State} {ad : AD} {Q : CV → Prop} {E : CV → Prop} (F : FX p l c cX0_term s args m RX0 D A s0 3 meth (none)) (hnm : s.methodNamed? yX0_term = some m) {P : Nat → CV → (CV → Prop) → (CV → Prop) → Prop} {d : Nat} (hP : ∀ (a1 : Nat) (V : CV) (Q : CV → Prop) (E : CV → Prop), P a1 V Q E → MetY l yX0_piece (ws_ yX0_piece cX0_piece 2 (none)) (rX0_piece d) (va_Pc [.ref (ad 0 0 0), .ref a1] (fun U => cB D A ad V U.heap ∧ CX l D A s0 U)) (yQ (va_Qv Q (fun u t => cB D A ad u t.heap) A) E (fun x t => x = ad 6 0 0) (fun u t => cB D A ad u t.heap) A) 0 0 A) : ∀ (n : Nat) (l1 : Nat) (V : CV), wX0_term_5 P Q E n l1 V → ∀ (H : Heap) (locs : List Loc) (ls : Array Slot), cB D A ad V H → va_S A s.heap H locs → lv_has ls 3 [(0, .ref (ad 0 0 0)), (1, .ref l1)] → W p l e (rX0_term d) s m args below meth c H locs 0 0 (XMQ below (yQ (va_Qv Q (fun u t => cB D A ad u t.heap) A) E (fun x t => x = ad 6 0 0) (fun u t => cB D A ad u t.heap) A) args s 0 0 A) (F0 m 5 ls []) := by
  have hx := F.1.x
  have hb := F.1.b
  intro n
  induction n with
  | zero => intro l1 V hw; exact hw.elim
  | succ n ih =>
    intro l1 V hw H locs ls hB hS hl
    unfold wX0_term_5 at hw
    refine lv_aload_n hx hb dX0_term_5 rfl (lv_at hl 0 rfl) ?_
    refine lv_bipush (v := 42) hx hb dX0_term_6 (by decide) ?_
    refine kX0_X0_isSign F hB hS hw ⟨by show _ + 1 ≤ _; simp only [rX0_piece, rX0_term, rX0_sum, rX0_test, rX0_and, rX0_or, rX0_goes, rX0_isSign, rX0_isName, rX0_number, rX0_wrong, rX0_isDigit, rX0_isIn, rX13_add]; omega, by show _ + _ ≤ _; simp only [rX0_piece, rX0_term, rX0_sum, rX0_test, rX0_and, rX0_or, rX0_goes, rX0_isSign, rX0_isName, rX0_number, rX0_wrong, rX0_isDigit, rX0_isIn, rX13_add]; omega⟩ ⟨Nat.zero_le _, Nat.zero_le _⟩ hl.1 (Nat.le_of_ble_eq_true rfl) dX0_term_8 (fun r1 V2 H locs hw hB hS => ?_)
    refine lv_if_ne (tgt := 23) hx hb dX0_term_11 (by decide) (fun q => ?_) (fun q => ?_)
    · replace hw := hw.2 q
      exact bX0_term_23 F hnm hP ih hB hS hw hl
    · replace hw := hw.1 q
      refine lv_aload_n hx hb dX0_term_14 rfl (lv_at hl 0 rfl) ?_
      refine lv_bipush (v := 47) hx hb dX0_term_15 (by decide) ?_
      refine kX0_X0_isSign F hB hS hw ⟨by show _ + 1 ≤ _; simp only [rX0_piece, rX0_term, rX0_sum, rX0_test, rX0_and, rX0_or, rX0_goes, rX0_isSign, rX0_isName, rX0_number, rX0_wrong, rX0_isDigit, rX0_isIn, rX13_add]; omega, by show _ + _ ≤ _; simp only [rX0_piece, rX0_term, rX0_sum, rX0_test, rX0_and, rX0_or, rX0_goes, rX0_isSign, rX0_isName, rX0_number, rX0_wrong, rX0_isDigit, rX0_isIn, rX13_add]; omega⟩ ⟨Nat.zero_le _, Nat.zero_le _⟩ hl.1 (Nat.le_of_ble_eq_true rfl) dX0_term_17 (fun r3 V4 H locs hw hB hS => ?_)
      refine lv_if_eq (tgt := 57) hx hb dX0_term_20 (by decide) (fun q => ?_) (fun q => ?_)
      · replace hw := hw.1 q
        refine W.retY ?_
        exact W.vret hx hb F.1.r (fun t ht hW => ⟨⟨_, rfl, hw, x_B (Bw := cB D A ad) ht hB⟩, hS.F ht⟩) hS.2.2 dX0_term_57 (hlocks := F.1.k)
      · replace hw := hw.2 q
        exact bX0_term_23 F hnm hP ih hB hS hw hl
set_option maxHeartbeats 4000000 in
theorem bX0_term_0 {p : Program} {l : Launch} {e : Env} {s : State} {m : MethodId} {args : Array Value} {below : List Frame} {meth : Method} {c : Code} {D : DD} {A : Nat → Prop} {s0 : State} {ad : AD} {Q : CV → Prop} {E : CV → Prop} {a1 : Nat} {V : CV} {H : Heap} {locs : List Loc} {ls : Array Slot} (F : FX p l c cX0_term s args m RX0 D A s0 3 meth (none)) (hnm : s.methodNamed? yX0_term = some m) {P : Nat → CV → (CV → Prop) → (CV → Prop) → Prop} {d : Nat} (hP : ∀ (a1 : Nat) (V : CV) (Q : CV → Prop) (E : CV → Prop), P a1 V Q E → MetY l yX0_piece (ws_ yX0_piece cX0_piece 2 (none)) (rX0_piece d) (va_Pc [.ref (ad 0 0 0), .ref a1] (fun U => cB D A ad V U.heap ∧ CX l D A s0 U)) (yQ (va_Qv Q (fun u t => cB D A ad u t.heap) A) E (fun x t => x = ad 6 0 0) (fun u t => cB D A ad u t.heap) A) 0 0 A) (hB : cB D A ad V H) (hS : va_S A s.heap H locs) (hw : wX0_term P a1 V Q E) (hl : lv_has ls 3 [(0, .ref (ad 0 0 0)), (1, .ref a1)]) : W p l e (rX0_term d) s m args below meth c H locs 0 0 (XMQ below (yQ (va_Qv Q (fun u t => cB D A ad u t.heap) A) E (fun x t => x = ad 6 0 0) (fun u t => cB D A ad u t.heap) A) args s 0 0 A) (F0 m 0 ls []) := by
  have hx := F.1.x
  have hb := F.1.b
  unfold wX0_term at hw
  refine lv_aload_n hx hb dX0_term_0 rfl (lv_at hl 0 rfl) ?_
  refine lv_aload_n hx hb dX0_term_1 rfl (lv_at hl 1 rfl) ?_
  refine kX0_X0_pieceB F hB hS (hP _ _ _ _ hw) ⟨rfl, rfl⟩ ⟨by show _ + 1 ≤ _; simp only [rX0_piece, rX0_term, rX0_sum, rX0_test, rX0_and, rX0_or, rX0_goes, rX0_isSign, rX0_isName, rX0_number, rX0_wrong, rX0_isDigit, rX0_isIn, rX13_add]; omega, by show _ + _ ≤ _; simp only [rX0_piece, rX0_term, rX0_sum, rX0_test, rX0_and, rX0_or, rX0_goes, rX0_isSign, rX0_isName, rX0_number, rX0_wrong, rX0_isDigit, rX0_isIn, rX13_add]; omega⟩ ⟨Nat.zero_le _, Nat.zero_le _⟩ hl.1 (Nat.le_of_ble_eq_true rfl) dX0_term_2 (fun V2 H locs hw hB hS => ?_) (fun V2 H locs hw hB hS => ?_)
  · skip
    obtain ⟨f_5, hw⟩ := hw
    exact bX0_term_5 F hnm hP f_5 _ _ hw _ _ _ hB hS hl
  · skip
    exact wt_out (Bw := cB D A ad) F.1 hnm q516 hw (fun t _ _ => rfl) hB hS
set_option maxHeartbeats 4000000 in
theorem mX0_term {l : Launch} {D : DD} {A : Nat → Prop} {s0 : State} {ad : AD} {V : CV} {P : Nat → CV → (CV → Prop) → (CV → Prop) → Prop} {d : Nat} (hP : ∀ (a1 : Nat) (V : CV) (Q : CV → Prop) (E : CV → Prop), P a1 V Q E → MetY l yX0_piece (ws_ yX0_piece cX0_piece 2 (none)) (rX0_piece d) (va_Pc [.ref (ad 0 0 0), .ref a1] (fun U => cB D A ad V U.heap ∧ CX l D A s0 U)) (yQ (va_Qv Q (fun u t => cB D A ad u t.heap) A) E (fun x t => x = ad 6 0 0) (fun u t => cB D A ad u t.heap) A) 0 0 A) {a1 : Nat} {Q : CV → Prop} {E : CV → Prop} (hw : wX0_term P a1 V Q E) : MetY l yX0_term (ws_ yX0_term cX0_term 3 (none)) (rX0_term d) (va_Pc [.ref (ad 0 0 0), .ref a1] (fun U => cB D A ad V U.heap ∧ CX l D A s0 U)) (yQ (va_Qv Q (fun u t => cB D A ad u t.heap) A) E (fun x t => x = ad 6 0 0) (fun u t => cB D A ad u t.heap) A) 0 0 A := by
  refine MetY.ofW (cc := cX0_term) (maxL := 3) (ret := none) (by decide) ?_
  intro p e s m args below meth c F1 hnm _ hv
  obtain ⟨rfl, hB, hC⟩ := hv
  have F : FX p l c cX0_term s _ m RX0 D A s0 3 meth (none) := ⟨F1, hC⟩
  have hS : va_S A s.heap s.heap [] := va_S.rf
  have hl := lv_entry ([.ref (ad 0 0 0), .ref a1]) (n := 3) (Nat.le_of_ble_eq_true rfl)
  rw [lg_entry_eq]
  generalize (lg_sl ([.ref (ad 0 0 0), .ref a1]) ++ List.replicate (3 - (lg_sl ([.ref (ad 0 0 0), .ref a1])).length) Slot.unset).toArray = ls at hl ⊢
  exact bX0_term_0 F hnm hP hB hS hw hl
set_option maxHeartbeats 4000000 in
theorem bX0_sum_38 {p : Program} {l : Launch} {e : Env} {s : State} {m : MethodId} {args : Array Value} {below : List Frame} {meth : Method} {c : Code} {D : DD} {A : Nat → Prop} {s0 : State} {ad : AD} {Q : CV → Prop} {E : CV → Prop} {k_5 : Nat → CV → Prop} {l1 : Nat} {k0 : Int32} {V : CV} {H : Heap} {locs : List Loc} {ls : Array Slot} (F : FX p l c cX0_sum s args m RX0 D A s0 3 meth (none)) (hnm : s.methodNamed? yX0_sum = some m) {P : Nat → CV → (CV → Prop) → (CV → Prop) → Prop} {d : Nat} (hP : ∀ (a1 : Nat) (V : CV) (Q : CV → Prop) (E : CV → Prop), P a1 V Q E → MetY l yX0_piece (ws_ yX0_piece cX0_piece 2 (none)) (rX0_piece d) (va_Pc [.ref (ad 0 0 0), .ref a1] (fun U => cB D A ad V U.heap ∧ CX l D A s0 U)) (yQ (va_Qv Q (fun u t => cB D A ad u t.heap) A) E (fun x t => x = ad 6 0 0) (fun u t => cB D A ad u t.heap) A) 0 0 A) (h_5 : ∀ (l1 : Nat) (V : CV), k_5 l1 V → ∀ (H : Heap) (locs : List Loc) (ls : Array Slot), cB D A ad V H → va_S A s.heap H locs → lv_has ls 3 [(0, .ref (ad 0 0 0)), (1, .ref l1)] → W p l e (rX0_sum d) s m args below meth c H locs 0 0 (XMQ below (yQ (va_Qv Q (fun u t => cB D A ad u t.heap) A) E (fun x t => x = ad 6 0 0) (fun u t => cB D A ad u t.heap) A) args s 0 0 A) (F0 m 5 ls [])) (hB : cB D A ad V H) (hS : va_S A s.heap H locs) (hw : wX0_sum_38 P k_5 l1 k0 V Q E) (hl : lv_has ls 3 [(0, .ref (ad 0 0 0)), (1, .ref l1)]) : W p l e (rX0_sum d) s m args below meth c H locs 0 0 (XMQ below (yQ (va_Qv Q (fun u t => cB D A ad u t.heap) A) E (fun x t => x = ad 6 0 0) (fun u t => cB D A ad u t.heap) A) args s 0 0 A) (F0 m 38 ls [.int k0]) := by
  have hx := F.1.x
  have hb := F.1.b
  unfold wX0_sum_38 at hw
  refine lv_istore_n (lv' := [(2, .int k0), (0, .ref (ad 0 0 0)), (1, .ref l1)]) hx hb dX0_sum_38 rfl hl (by decide) rfl (fun ls hl => ?_)
  refine lv_aload_n hx hb dX0_sum_39 rfl (lv_at hl 1 rfl) ?_
  refine kX0_X0_goes F hB hS hw ⟨by show _ + 1 ≤ _; simp only [rX0_piece, rX0_term, rX0_sum, rX0_test, rX0_and, rX0_or, rX0_goes, rX0_isSign, rX0_isName, rX0_number, rX0_wrong, rX0_isDigit, rX0_isIn, rX13_add]; omega, by show _ + _ ≤ _; simp only [rX0_piece, rX0_term, rX0_sum, rX0_test, rX0_and, rX0_or, rX0_goes, rX0_isSign, rX0_isName, rX0_number, rX0_wrong, rX0_isDigit, rX0_isIn, rX13_add]; omega⟩ ⟨Nat.zero_le _, Nat.zero_le _⟩ hl.1 (Nat.le_of_ble_eq_true rfl) dX0_sum_40 (fun V2 H locs hw hB hS => ?_) (fun V2 H locs hw hB hS => ?_)
  · skip
    refine lv_aload_n hx hb dX0_sum_43 rfl (lv_at hl 1 rfl) ?_
    refine lv_aload_n hx hb dX0_sum_44 rfl (lv_at hl 2 rfl) ?_
    refine kX0_X0_term F hB hS (mX0_term hP hw) ⟨rfl, rfl⟩ ⟨by show _ + 1 ≤ _; simp only [rX0_piece, rX0_term, rX0_sum, rX0_test, rX0_and, rX0_or, rX0_goes, rX0_isSign, rX0_isName, rX0_number, rX0_wrong, rX0_isDigit, rX0_isIn, rX13_add]; omega, by show _ + _ ≤ _; simp only [rX0_piece, rX0_term, rX0_sum, rX0_test, rX0_and, rX0_or, rX0_goes, rX0_isSign, rX0_isName, rX0_number, rX0_wrong, rX0_isDigit, rX0_isIn, rX13_add]; omega⟩ ⟨Nat.zero_le _, Nat.zero_le _⟩ hl.1 (Nat.le_of_ble_eq_true rfl) dX0_sum_45 (fun V4 H locs hw hB hS => ?_) (fun V4 H locs hw hB hS => ?_)
    · skip
      refine lv_aload_n hx hb dX0_sum_48 rfl (lv_at hl 2 rfl) ?_
      refine lv_iload_n hx hb dX0_sum_49 rfl (lv_at hl 0 rfl) ?_
      refine lv_iconst (v := 0) hx hb dX0_sum_50 (by decide) ?_
      obtain ⟨f6, f7, f8, hm9, hw⟩ := hw
      refine kX0_X13_add F hB hS hm9 hw ⟨by show _ + 1 ≤ _; simp only [rX0_piece, rX0_term, rX0_sum, rX0_test, rX0_and, rX0_or, rX0_goes, rX0_isSign, rX0_isName, rX0_number, rX0_wrong, rX0_isDigit, rX0_isIn, rX13_add]; omega, by show _ + _ ≤ _; simp only [rX0_piece, rX0_term, rX0_sum, rX0_test, rX0_and, rX0_or, rX0_goes, rX0_isSign, rX0_isName, rX0_number, rX0_wrong, rX0_isDigit, rX0_isIn, rX13_add]; omega⟩ ⟨Nat.zero_le _, Nat.zero_le _⟩ hl.1 (Nat.le_of_ble_eq_true rfl) dX0_sum_51 (fun V10 H locs hw hB hS => ?_)
      refine lv_goto (tgt := 5) hx hb dX0_sum_54 (by decide) ?_
      exact h_5 _ _ hw _ _ _ hB hS (lv_sub hl [1, 2] rfl)
    · skip
      exact wt_out (Bw := cB D A ad) F.1 hnm q512 hw (fun t _ _ => rfl) hB hS
  · skip
    exact wt_out (Bw := cB D A ad) F.1 hnm q512 hw (fun t _ _ => rfl) hB hS
set_option maxHeartbeats 4000000 in
theorem bX0_sum_23 {p : Program} {l : Launch} {e : Env} {s : State} {m : MethodId} {args : Array Value} {below : List Frame} {meth : Method} {c : Code} {D : DD} {A : Nat → Prop} {s0 : State} {ad : AD} {Q : CV → Prop} {E : CV → Prop} {k_5 : Nat → CV → Prop} {l1 : Nat} {V : CV} {H : Heap} {locs : List Loc} {ls : Array Slot} (F : FX p l c cX0_sum s args m RX0 D A s0 3 meth (none)) (hnm : s.methodNamed? yX0_sum = some m) {P : Nat → CV → (CV → Prop) → (CV → Prop) → Prop} {d : Nat} (hP : ∀ (a1 : Nat) (V : CV) (Q : CV → Prop) (E : CV → Prop), P a1 V Q E → MetY l yX0_piece (ws_ yX0_piece cX0_piece 2 (none)) (rX0_piece d) (va_Pc [.ref (ad 0 0 0), .ref a1] (fun U => cB D A ad V U.heap ∧ CX l D A s0 U)) (yQ (va_Qv Q (fun u t => cB D A ad u t.heap) A) E (fun x t => x = ad 6 0 0) (fun u t => cB D A ad u t.heap) A) 0 0 A) (h_5 : ∀ (l1 : Nat) (V : CV), k_5 l1 V → ∀ (H : Heap) (locs : List Loc) (ls : Array Slot), cB D A ad V H → va_S A s.heap H locs → lv_has ls 3 [(0, .ref (ad 0 0 0)), (1, .ref l1)] → W p l e (rX0_sum d) s m args below meth c H locs 0 0 (XMQ below (yQ (va_Qv Q (fun u t => cB D A ad u t.heap) A) E (fun x t => x = ad 6 0 0) (fun u t => cB D A ad u t.heap) A) args s 0 0 A) (F0 m 5 ls [])) (hB : cB D A ad V H) (hS : va_S A s.heap H locs) (hw : wX0_sum_23 P k_5 l1 V Q E) (hl : lv_has ls 3 [(0, .ref (ad 0 0 0)), (1, .ref l1)]) : W p l e (rX0_sum d) s m args below meth c H locs 0 0 (XMQ below (yQ (va_Qv Q (fun u t => cB D A ad u t.heap) A) E (fun x t => x = ad 6 0 0) (fun u t => cB D A ad u t.heap) A) args s 0 0 A) (F0 m 23 ls []) := by
  have hx := F.1.x
  have hb := F.1.b
  unfold wX0_sum_23 at hw
  refine lv_aload_n hx hb dX0_sum_23 rfl (lv_at hl 0 rfl) ?_
  refine lv_bipush (v := 43) hx hb dX0_sum_24 (by decide) ?_
  refine kX0_X0_isSign F hB hS hw ⟨by show _ + 1 ≤ _; simp only [rX0_piece, rX0_term, rX0_sum, rX0_test, rX0_and, rX0_or, rX0_goes, rX0_isSign, rX0_isName, rX0_number, rX0_wrong, rX0_isDigit, rX0_isIn, rX13_add]; omega, by show _ + _ ≤ _; simp only [rX0_piece, rX0_term, rX0_sum, rX0_test, rX0_and, rX0_or, rX0_goes, rX0_isSign, rX0_isName, rX0_number, rX0_wrong, rX0_isDigit, rX0_isIn, rX13_add]; omega⟩ ⟨Nat.zero_le _, Nat.zero_le _⟩ hl.1 (Nat.le_of_ble_eq_true rfl) dX0_sum_26 (fun r1 V2 H locs hw hB hS => ?_)
  refine lv_if_eq (tgt := 36) hx hb dX0_sum_29 (by decide) (fun q => ?_) (fun q => ?_)
  · replace hw := hw.1 q
    refine lv_bipush (v := 6) hx hb dX0_sum_36 (by decide) ?_
    exact bX0_sum_38 F hnm hP h_5 hB hS hw hl
  · replace hw := hw.2 q
    refine lv_iconst (v := 5) hx hb dX0_sum_32 (by decide) ?_
    refine lv_goto (tgt := 38) hx hb dX0_sum_33 (by decide) ?_
    exact bX0_sum_38 F hnm hP h_5 hB hS hw hl
set_option maxHeartbeats 4000000 in
theorem bX0_sum_5 {p : Program} {l : Launch} {e : Env} {s : State} {m : MethodId} {args : Array Value} {below : List Frame} {meth : Method} {c : Code} {D : DD} {A : Nat → Prop} {s0 : State} {ad : AD} {Q : CV → Prop} {E : CV → Prop} (F : FX p l c cX0_sum s args m RX0 D A s0 3 meth (none)) (hnm : s.methodNamed? yX0_sum = some m) {P : Nat → CV → (CV → Prop) → (CV → Prop) → Prop} {d : Nat} (hP : ∀ (a1 : Nat) (V : CV) (Q : CV → Prop) (E : CV → Prop), P a1 V Q E → MetY l yX0_piece (ws_ yX0_piece cX0_piece 2 (none)) (rX0_piece d) (va_Pc [.ref (ad 0 0 0), .ref a1] (fun U => cB D A ad V U.heap ∧ CX l D A s0 U)) (yQ (va_Qv Q (fun u t => cB D A ad u t.heap) A) E (fun x t => x = ad 6 0 0) (fun u t => cB D A ad u t.heap) A) 0 0 A) : ∀ (n : Nat) (l1 : Nat) (V : CV), wX0_sum_5 P Q E n l1 V → ∀ (H : Heap) (locs : List Loc) (ls : Array Slot), cB D A ad V H → va_S A s.heap H locs → lv_has ls 3 [(0, .ref (ad 0 0 0)), (1, .ref l1)] → W p l e (rX0_sum d) s m args below meth c H locs 0 0 (XMQ below (yQ (va_Qv Q (fun u t => cB D A ad u t.heap) A) E (fun x t => x = ad 6 0 0) (fun u t => cB D A ad u t.heap) A) args s 0 0 A) (F0 m 5 ls []) := by
  have hx := F.1.x
  have hb := F.1.b
  intro n
  induction n with
  | zero => intro l1 V hw; exact hw.elim
  | succ n ih =>
    intro l1 V hw H locs ls hB hS hl
    unfold wX0_sum_5 at hw
    refine lv_aload_n hx hb dX0_sum_5 rfl (lv_at hl 0 rfl) ?_
    refine lv_bipush (v := 43) hx hb dX0_sum_6 (by decide) ?_
    refine kX0_X0_isSign F hB hS hw ⟨by show _ + 1 ≤ _; simp only [rX0_piece, rX0_term, rX0_sum, rX0_test, rX0_and, rX0_or, rX0_goes, rX0_isSign, rX0_isName, rX0_number, rX0_wrong, rX0_isDigit, rX0_isIn, rX13_add]; omega, by show _ + _ ≤ _; simp only [rX0_piece, rX0_term, rX0_sum, rX0_test, rX0_and, rX0_or, rX0_goes, rX0_isSign, rX0_isName, rX0_number, rX0_wrong, rX0_isDigit, rX0_isIn, rX13_add]; omega⟩ ⟨Nat.zero_le _, Nat.zero_le _⟩ hl.1 (Nat.le_of_ble_eq_true rfl) dX0_sum_8 (fun r1 V2 H locs hw hB hS => ?_)
    refine lv_if_ne (tgt := 23) hx hb dX0_sum_11 (by decide) (fun q => ?_) (fun q => ?_)
    · replace hw := hw.2 q
      exact bX0_sum_23 F hnm hP ih hB hS hw hl
    · replace hw := hw.1 q
      refine lv_aload_n hx hb dX0_sum_14 rfl (lv_at hl 0 rfl) ?_
      refine lv_bipush (v := 45) hx hb dX0_sum_15 (by decide) ?_
      refine kX0_X0_isSign F hB hS hw ⟨by show _ + 1 ≤ _; simp only [rX0_piece, rX0_term, rX0_sum, rX0_test, rX0_and, rX0_or, rX0_goes, rX0_isSign, rX0_isName, rX0_number, rX0_wrong, rX0_isDigit, rX0_isIn, rX13_add]; omega, by show _ + _ ≤ _; simp only [rX0_piece, rX0_term, rX0_sum, rX0_test, rX0_and, rX0_or, rX0_goes, rX0_isSign, rX0_isName, rX0_number, rX0_wrong, rX0_isDigit, rX0_isIn, rX13_add]; omega⟩ ⟨Nat.zero_le _, Nat.zero_le _⟩ hl.1 (Nat.le_of_ble_eq_true rfl) dX0_sum_17 (fun r3 V4 H locs hw hB hS => ?_)
      refine lv_if_eq (tgt := 57) hx hb dX0_sum_20 (by decide) (fun q => ?_) (fun q => ?_)
      · replace hw := hw.1 q
        refine W.retY ?_
        exact W.vret hx hb F.1.r (fun t ht hW => ⟨⟨_, rfl, hw, x_B (Bw := cB D A ad) ht hB⟩, hS.F ht⟩) hS.2.2 dX0_sum_57 (hlocks := F.1.k)
      · replace hw := hw.2 q
        exact bX0_sum_23 F hnm hP ih hB hS hw hl
set_option maxHeartbeats 4000000 in
theorem bX0_sum_0 {p : Program} {l : Launch} {e : Env} {s : State} {m : MethodId} {args : Array Value} {below : List Frame} {meth : Method} {c : Code} {D : DD} {A : Nat → Prop} {s0 : State} {ad : AD} {Q : CV → Prop} {E : CV → Prop} {a1 : Nat} {V : CV} {H : Heap} {locs : List Loc} {ls : Array Slot} (F : FX p l c cX0_sum s args m RX0 D A s0 3 meth (none)) (hnm : s.methodNamed? yX0_sum = some m) {P : Nat → CV → (CV → Prop) → (CV → Prop) → Prop} {d : Nat} (hP : ∀ (a1 : Nat) (V : CV) (Q : CV → Prop) (E : CV → Prop), P a1 V Q E → MetY l yX0_piece (ws_ yX0_piece cX0_piece 2 (none)) (rX0_piece d) (va_Pc [.ref (ad 0 0 0), .ref a1] (fun U => cB D A ad V U.heap ∧ CX l D A s0 U)) (yQ (va_Qv Q (fun u t => cB D A ad u t.heap) A) E (fun x t => x = ad 6 0 0) (fun u t => cB D A ad u t.heap) A) 0 0 A) (hB : cB D A ad V H) (hS : va_S A s.heap H locs) (hw : wX0_sum P a1 V Q E) (hl : lv_has ls 3 [(0, .ref (ad 0 0 0)), (1, .ref a1)]) : W p l e (rX0_sum d) s m args below meth c H locs 0 0 (XMQ below (yQ (va_Qv Q (fun u t => cB D A ad u t.heap) A) E (fun x t => x = ad 6 0 0) (fun u t => cB D A ad u t.heap) A) args s 0 0 A) (F0 m 0 ls []) := by
  have hx := F.1.x
  have hb := F.1.b
  unfold wX0_sum at hw
  refine lv_aload_n hx hb dX0_sum_0 rfl (lv_at hl 0 rfl) ?_
  refine lv_aload_n hx hb dX0_sum_1 rfl (lv_at hl 1 rfl) ?_
  refine kX0_X0_term F hB hS (mX0_term hP hw) ⟨rfl, rfl⟩ ⟨by show _ + 1 ≤ _; simp only [rX0_piece, rX0_term, rX0_sum, rX0_test, rX0_and, rX0_or, rX0_goes, rX0_isSign, rX0_isName, rX0_number, rX0_wrong, rX0_isDigit, rX0_isIn, rX13_add]; omega, by show _ + _ ≤ _; simp only [rX0_piece, rX0_term, rX0_sum, rX0_test, rX0_and, rX0_or, rX0_goes, rX0_isSign, rX0_isName, rX0_number, rX0_wrong, rX0_isDigit, rX0_isIn, rX13_add]; omega⟩ ⟨Nat.zero_le _, Nat.zero_le _⟩ hl.1 (Nat.le_of_ble_eq_true rfl) dX0_sum_2 (fun V2 H locs hw hB hS => ?_) (fun V2 H locs hw hB hS => ?_)
  · skip
    obtain ⟨f_5, hw⟩ := hw
    exact bX0_sum_5 F hnm hP f_5 _ _ hw _ _ _ hB hS hl
  · skip
    exact wt_out (Bw := cB D A ad) F.1 hnm q512 hw (fun t _ _ => rfl) hB hS
set_option maxHeartbeats 4000000 in
theorem mX0_sum {l : Launch} {D : DD} {A : Nat → Prop} {s0 : State} {ad : AD} {V : CV} {P : Nat → CV → (CV → Prop) → (CV → Prop) → Prop} {d : Nat} (hP : ∀ (a1 : Nat) (V : CV) (Q : CV → Prop) (E : CV → Prop), P a1 V Q E → MetY l yX0_piece (ws_ yX0_piece cX0_piece 2 (none)) (rX0_piece d) (va_Pc [.ref (ad 0 0 0), .ref a1] (fun U => cB D A ad V U.heap ∧ CX l D A s0 U)) (yQ (va_Qv Q (fun u t => cB D A ad u t.heap) A) E (fun x t => x = ad 6 0 0) (fun u t => cB D A ad u t.heap) A) 0 0 A) {a1 : Nat} {Q : CV → Prop} {E : CV → Prop} (hw : wX0_sum P a1 V Q E) : MetY l yX0_sum (ws_ yX0_sum cX0_sum 3 (none)) (rX0_sum d) (va_Pc [.ref (ad 0 0 0), .ref a1] (fun U => cB D A ad V U.heap ∧ CX l D A s0 U)) (yQ (va_Qv Q (fun u t => cB D A ad u t.heap) A) E (fun x t => x = ad 6 0 0) (fun u t => cB D A ad u t.heap) A) 0 0 A := by
  refine MetY.ofW (cc := cX0_sum) (maxL := 3) (ret := none) (by decide) ?_
  intro p e s m args below meth c F1 hnm _ hv
  obtain ⟨rfl, hB, hC⟩ := hv
  have F : FX p l c cX0_sum s _ m RX0 D A s0 3 meth (none) := ⟨F1, hC⟩
  have hS : va_S A s.heap s.heap [] := va_S.rf
  have hl := lv_entry ([.ref (ad 0 0 0), .ref a1]) (n := 3) (Nat.le_of_ble_eq_true rfl)
  rw [lg_entry_eq]
  generalize (lg_sl ([.ref (ad 0 0 0), .ref a1]) ++ List.replicate (3 - (lg_sl ([.ref (ad 0 0 0), .ref a1])).length) Slot.unset).toArray = ls at hl ⊢
  exact bX0_sum_0 F hnm hP hB hS hw hl
set_option maxHeartbeats 4000000 in
theorem bX0_test_48 {p : Program} {l : Launch} {e : Env} {s : State} {m : MethodId} {args : Array Value} {below : List Frame} {meth : Method} {c : Code} {D : DD} {A : Nat → Prop} {s0 : State} {ad : AD} {Q : CV → Prop} {E : CV → Prop} {l1 : Nat} {k0 : Int32} {V : CV} {H : Heap} {locs : List Loc} {ls : Array Slot} (F : FX p l c cX0_test s args m RX0 D A s0 3 meth (none)) (hnm : s.methodNamed? yX0_test = some m) {P : Nat → CV → (CV → Prop) → (CV → Prop) → Prop} {d : Nat} (hP : ∀ (a1 : Nat) (V : CV) (Q : CV → Prop) (E : CV → Prop), P a1 V Q E → MetY l yX0_piece (ws_ yX0_piece cX0_piece 2 (none)) (rX0_piece d) (va_Pc [.ref (ad 0 0 0), .ref a1] (fun U => cB D A ad V U.heap ∧ CX l D A s0 U)) (yQ (va_Qv Q (fun u t => cB D A ad u t.heap) A) E (fun x t => x = ad 6 0 0) (fun u t => cB D A ad u t.heap) A) 0 0 A) (hB : cB D A ad V H) (hS : va_S A s.heap H locs) (hw : wX0_test_48 P l1 k0 V Q E) (hl : lv_has ls 3 [(0, .ref (ad 0 0 0)), (1, .ref l1)]) : W p l e (rX0_test d) s m args below meth c H locs 0 0 (XMQ below (yQ (va_Qv Q (fun u t => cB D A ad u t.heap) A) E (fun x t => x = ad 6 0 0) (fun u t => cB D A ad u t.heap) A) args s 0 0 A) (F0 m 48 ls [.int k0]) := by
  have hx := F.1.x
  have hb := F.1.b
  unfold wX0_test_48 at hw
  refine lv_istore_n (lv' := [(2, .int k0), (0, .ref (ad 0 0 0)), (1, .ref l1)]) hx hb dX0_test_48 rfl hl (by decide) rfl (fun ls hl => ?_)
  refine lv_iload_n hx hb dX0_test_49 rfl (lv_at hl 0 rfl) ?_
  refine lv_if_eq (tgt := 68) hx hb dX0_test_50 (by decide) (fun q => ?_) (fun q => ?_)
  · replace hw := hw.1 q
    refine W.retY ?_
    exact W.vret hx hb F.1.r (fun t ht hW => ⟨⟨_, rfl, hw, x_B (Bw := cB D A ad) ht hB⟩, hS.F ht⟩) hS.2.2 dX0_test_68 (hlocks := F.1.k)
  · replace hw := hw.2 q
    refine lv_aload_n hx hb dX0_test_53 rfl (lv_at hl 1 rfl) ?_
    refine kX0_X0_goes F hB hS hw ⟨by show _ + 1 ≤ _; simp only [rX0_piece, rX0_term, rX0_sum, rX0_test, rX0_and, rX0_or, rX0_goes, rX0_isSign, rX0_isName, rX0_number, rX0_wrong, rX0_isDigit, rX0_isIn, rX13_add]; omega, by show _ + _ ≤ _; simp only [rX0_piece, rX0_term, rX0_sum, rX0_test, rX0_and, rX0_or, rX0_goes, rX0_isSign, rX0_isName, rX0_number, rX0_wrong, rX0_isDigit, rX0_isIn, rX13_add]; omega⟩ ⟨Nat.zero_le _, Nat.zero_le _⟩ hl.1 (Nat.le_of_ble_eq_true rfl) dX0_test_54 (fun V2 H locs hw hB hS => ?_) (fun V2 H locs hw hB hS => ?_)
    · skip
      refine lv_aload_n hx hb dX0_test_57 rfl (lv_at hl 1 rfl) ?_
      refine lv_aload_n hx hb dX0_test_58 rfl (lv_at hl 2 rfl) ?_
      refine kX0_X0_sum F hB hS (mX0_sum hP hw) ⟨rfl, rfl⟩ ⟨by show _ + 1 ≤ _; simp only [rX0_piece, rX0_term, rX0_sum, rX0_test, rX0_and, rX0_or, rX0_goes, rX0_isSign, rX0_isName, rX0_number, rX0_wrong, rX0_isDigit, rX0_isIn, rX13_add]; omega, by show _ + _ ≤ _; simp only [rX0_piece, rX0_term, rX0_sum, rX0_test, rX0_and, rX0_or, rX0_goes, rX0_isSign, rX0_isName, rX0_number, rX0_wrong, rX0_isDigit, rX0_isIn, rX13_add]; omega⟩ ⟨Nat.zero_le _, Nat.zero_le _⟩ hl.1 (Nat.le_of_ble_eq_true rfl) dX0_test_59 (fun V4 H locs hw hB hS => ?_) (fun V4 H locs hw hB hS => ?_)
      · skip
        refine lv_aload_n hx hb dX0_test_62 rfl (lv_at hl 2 rfl) ?_
        refine lv_iload_n hx hb dX0_test_63 rfl (lv_at hl 0 rfl) ?_
        refine lv_iconst (v := 0) hx hb dX0_test_64 (by decide) ?_
        obtain ⟨f6, f7, f8, hm9, hw⟩ := hw
        refine kX0_X13_add F hB hS hm9 hw ⟨by show _ + 1 ≤ _; simp only [rX0_piece, rX0_term, rX0_sum, rX0_test, rX0_and, rX0_or, rX0_goes, rX0_isSign, rX0_isName, rX0_number, rX0_wrong, rX0_isDigit, rX0_isIn, rX13_add]; omega, by show _ + _ ≤ _; simp only [rX0_piece, rX0_term, rX0_sum, rX0_test, rX0_and, rX0_or, rX0_goes, rX0_isSign, rX0_isName, rX0_number, rX0_wrong, rX0_isDigit, rX0_isIn, rX13_add]; omega⟩ ⟨Nat.zero_le _, Nat.zero_le _⟩ hl.1 (Nat.le_of_ble_eq_true rfl) dX0_test_65 (fun V10 H locs hw hB hS => ?_)
        refine W.retY ?_
        exact W.vret hx hb F.1.r (fun t ht hW => ⟨⟨_, rfl, hw, x_B (Bw := cB D A ad) ht hB⟩, hS.F ht⟩) hS.2.2 dX0_test_68 (hlocks := F.1.k)
      · skip
        exact wt_out (Bw := cB D A ad) F.1 hnm q508 hw (fun t _ _ => rfl) hB hS
    · skip
      exact wt_out (Bw := cB D A ad) F.1 hnm q508 hw (fun t _ _ => rfl) hB hS
set_option maxHeartbeats 4000000 in
theorem bX0_test_0 {p : Program} {l : Launch} {e : Env} {s : State} {m : MethodId} {args : Array Value} {below : List Frame} {meth : Method} {c : Code} {D : DD} {A : Nat → Prop} {s0 : State} {ad : AD} {Q : CV → Prop} {E : CV → Prop} {a1 : Nat} {V : CV} {H : Heap} {locs : List Loc} {ls : Array Slot} (F : FX p l c cX0_test s args m RX0 D A s0 3 meth (none)) (hnm : s.methodNamed? yX0_test = some m) {P : Nat → CV → (CV → Prop) → (CV → Prop) → Prop} {d : Nat} (hP : ∀ (a1 : Nat) (V : CV) (Q : CV → Prop) (E : CV → Prop), P a1 V Q E → MetY l yX0_piece (ws_ yX0_piece cX0_piece 2 (none)) (rX0_piece d) (va_Pc [.ref (ad 0 0 0), .ref a1] (fun U => cB D A ad V U.heap ∧ CX l D A s0 U)) (yQ (va_Qv Q (fun u t => cB D A ad u t.heap) A) E (fun x t => x = ad 6 0 0) (fun u t => cB D A ad u t.heap) A) 0 0 A) (hB : cB D A ad V H) (hS : va_S A s.heap H locs) (hw : wX0_test P a1 V Q E) (hl : lv_has ls 3 [(0, .ref (ad 0 0 0)), (1, .ref a1)]) : W p l e (rX0_test d) s m args below meth c H locs 0 0 (XMQ below (yQ (va_Qv Q (fun u t => cB D A ad u t.heap) A) E (fun x t => x = ad 6 0 0) (fun u t => cB D A ad u t.heap) A) args s 0 0 A) (F0 m 0 ls []) := by
  have hx := F.1.x
  have hb := F.1.b
  unfold wX0_test at hw
  refine lv_aload_n hx hb dX0_test_0 rfl (lv_at hl 0 rfl) ?_
  refine lv_aload_n hx hb dX0_test_1 rfl (lv_at hl 1 rfl) ?_
  refine kX0_X0_sum F hB hS (mX0_sum hP hw) ⟨rfl, rfl⟩ ⟨by show _ + 1 ≤ _; simp only [rX0_piece, rX0_term, rX0_sum, rX0_test, rX0_and, rX0_or, rX0_goes, rX0_isSign, rX0_isName, rX0_number, rX0_wrong, rX0_isDigit, rX0_isIn, rX13_add]; omega, by show _ + _ ≤ _; simp only [rX0_piece, rX0_term, rX0_sum, rX0_test, rX0_and, rX0_or, rX0_goes, rX0_isSign, rX0_isName, rX0_number, rX0_wrong, rX0_isDigit, rX0_isIn, rX13_add]; omega⟩ ⟨Nat.zero_le _, Nat.zero_le _⟩ hl.1 (Nat.le_of_ble_eq_true rfl) dX0_test_2 (fun V2 H locs hw hB hS => ?_) (fun V2 H locs hw hB hS => ?_)
  · skip
    refine lv_aload_n hx hb dX0_test_5 rfl (lv_at hl 0 rfl) ?_
    refine lv_bipush (v := 60) hx hb dX0_test_6 (by decide) ?_
    refine kX0_X0_isSign F hB hS hw ⟨by show _ + 1 ≤ _; simp only [rX0_piece, rX0_term, rX0_sum, rX0_test, rX0_and, rX0_or, rX0_goes, rX0_isSign, rX0_isName, rX0_number, rX0_wrong, rX0_isDigit, rX0_isIn, rX13_add]; omega, by show _ + _ ≤ _; simp only [rX0_piece, rX0_term, rX0_sum, rX0_test, rX0_and, rX0_or, rX0_goes, rX0_isSign, rX0_isName, rX0_number, rX0_wrong, rX0_isDigit, rX0_isIn, rX13_add]; omega⟩ ⟨Nat.zero_le _, Nat.zero_le _⟩ hl.1 (Nat.le_of_ble_eq_true rfl) dX0_test_8 (fun r3 V4 H locs hw hB hS => ?_)
    refine lv_if_eq (tgt := 19) hx hb dX0_test_11 (by decide) (fun q => ?_) (fun q => ?_)
    · replace hw := hw.1 q
      refine lv_aload_n hx hb dX0_test_19 rfl (lv_at hl 0 rfl) ?_
      refine lv_bipush (v := 61) hx hb dX0_test_20 (by decide) ?_
      refine kX0_X0_isSign F hB hS hw ⟨by show _ + 1 ≤ _; simp only [rX0_piece, rX0_term, rX0_sum, rX0_test, rX0_and, rX0_or, rX0_goes, rX0_isSign, rX0_isName, rX0_number, rX0_wrong, rX0_isDigit, rX0_isIn, rX13_add]; omega, by show _ + _ ≤ _; simp only [rX0_piece, rX0_term, rX0_sum, rX0_test, rX0_and, rX0_or, rX0_goes, rX0_isSign, rX0_isName, rX0_number, rX0_wrong, rX0_isDigit, rX0_isIn, rX13_add]; omega⟩ ⟨Nat.zero_le _, Nat.zero_le _⟩ hl.1 (Nat.le_of_ble_eq_true rfl) dX0_test_22 (fun r5 V6 H locs hw hB hS => ?_)
      refine lv_if_eq (tgt := 33) hx hb dX0_test_25 (by decide) (fun q => ?_) (fun q => ?_)
      · replace hw := hw.1 q
        refine lv_aload_n hx hb dX0_test_33 rfl (lv_at hl 0 rfl) ?_
        refine lv_bipush (v := 62) hx hb dX0_test_34 (by decide) ?_
        refine kX0_X0_isSign F hB hS hw ⟨by show _ + 1 ≤ _; simp only [rX0_piece, rX0_term, rX0_sum, rX0_test, rX0_and, rX0_or, rX0_goes, rX0_isSign, rX0_isName, rX0_number, rX0_wrong, rX0_isDigit, rX0_isIn, rX13_add]; omega, by show _ + _ ≤ _; simp only [rX0_piece, rX0_term, rX0_sum, rX0_test, rX0_and, rX0_or, rX0_goes, rX0_isSign, rX0_isName, rX0_number, rX0_wrong, rX0_isDigit, rX0_isIn, rX13_add]; omega⟩ ⟨Nat.zero_le _, Nat.zero_le _⟩ hl.1 (Nat.le_of_ble_eq_true rfl) dX0_test_36 (fun r7 V8 H locs hw hB hS => ?_)
        refine lv_if_eq (tgt := 47) hx hb dX0_test_39 (by decide) (fun q => ?_) (fun q => ?_)
        · replace hw := hw.1 q
          refine lv_iconst (v := 0) hx hb dX0_test_47 (by decide) ?_
          exact bX0_test_48 F hnm hP hB hS hw hl
        · replace hw := hw.2 q
          refine lv_bipush (v := 9) hx hb dX0_test_42 (by decide) ?_
          refine lv_goto (tgt := 48) hx hb dX0_test_44 (by decide) ?_
          exact bX0_test_48 F hnm hP hB hS hw hl
      · replace hw := hw.2 q
        refine lv_bipush (v := 8) hx hb dX0_test_28 (by decide) ?_
        refine lv_goto (tgt := 48) hx hb dX0_test_30 (by decide) ?_
        exact bX0_test_48 F hnm hP hB hS hw hl
    · replace hw := hw.2 q
      refine lv_bipush (v := 7) hx hb dX0_test_14 (by decide) ?_
      refine lv_goto (tgt := 48) hx hb dX0_test_16 (by decide) ?_
      exact bX0_test_48 F hnm hP hB hS hw hl
  · skip
    exact wt_out (Bw := cB D A ad) F.1 hnm q508 hw (fun t _ _ => rfl) hB hS
set_option maxHeartbeats 4000000 in
theorem mX0_test {l : Launch} {D : DD} {A : Nat → Prop} {s0 : State} {ad : AD} {V : CV} {P : Nat → CV → (CV → Prop) → (CV → Prop) → Prop} {d : Nat} (hP : ∀ (a1 : Nat) (V : CV) (Q : CV → Prop) (E : CV → Prop), P a1 V Q E → MetY l yX0_piece (ws_ yX0_piece cX0_piece 2 (none)) (rX0_piece d) (va_Pc [.ref (ad 0 0 0), .ref a1] (fun U => cB D A ad V U.heap ∧ CX l D A s0 U)) (yQ (va_Qv Q (fun u t => cB D A ad u t.heap) A) E (fun x t => x = ad 6 0 0) (fun u t => cB D A ad u t.heap) A) 0 0 A) {a1 : Nat} {Q : CV → Prop} {E : CV → Prop} (hw : wX0_test P a1 V Q E) : MetY l yX0_test (ws_ yX0_test cX0_test 3 (none)) (rX0_test d) (va_Pc [.ref (ad 0 0 0), .ref a1] (fun U => cB D A ad V U.heap ∧ CX l D A s0 U)) (yQ (va_Qv Q (fun u t => cB D A ad u t.heap) A) E (fun x t => x = ad 6 0 0) (fun u t => cB D A ad u t.heap) A) 0 0 A := by
  refine MetY.ofW (cc := cX0_test) (maxL := 3) (ret := none) (by decide) ?_
  intro p e s m args below meth c F1 hnm _ hv
  obtain ⟨rfl, hB, hC⟩ := hv
  have F : FX p l c cX0_test s _ m RX0 D A s0 3 meth (none) := ⟨F1, hC⟩
  have hS : va_S A s.heap s.heap [] := va_S.rf
  have hl := lv_entry ([.ref (ad 0 0 0), .ref a1]) (n := 3) (Nat.le_of_ble_eq_true rfl)
  rw [lg_entry_eq]
  generalize (lg_sl ([.ref (ad 0 0 0), .ref a1]) ++ List.replicate (3 - (lg_sl ([.ref (ad 0 0 0), .ref a1])).length) Slot.unset).toArray = ls at hl ⊢
  exact bX0_test_0 F hnm hP hB hS hw hl
set_option maxHeartbeats 4000000 in
theorem bX0_and_5 {p : Program} {l : Launch} {e : Env} {s : State} {m : MethodId} {args : Array Value} {below : List Frame} {meth : Method} {c : Code} {D : DD} {A : Nat → Prop} {s0 : State} {ad : AD} {Q : CV → Prop} {E : CV → Prop} (F : FX p l c cX0_and s args m RX0 D A s0 2 meth (none)) (hnm : s.methodNamed? yX0_and = some m) {P : Nat → CV → (CV → Prop) → (CV → Prop) → Prop} {d : Nat} (hP : ∀ (a1 : Nat) (V : CV) (Q : CV → Prop) (E : CV → Prop), P a1 V Q E → MetY l yX0_piece (ws_ yX0_piece cX0_piece 2 (none)) (rX0_piece d) (va_Pc [.ref (ad 0 0 0), .ref a1] (fun U => cB D A ad V U.heap ∧ CX l D A s0 U)) (yQ (va_Qv Q (fun u t => cB D A ad u t.heap) A) E (fun x t => x = ad 6 0 0) (fun u t => cB D A ad u t.heap) A) 0 0 A) : ∀ (n : Nat) (l1 : Nat) (V : CV), wX0_and_5 P Q E n l1 V → ∀ (H : Heap) (locs : List Loc) (ls : Array Slot), cB D A ad V H → va_S A s.heap H locs → lv_has ls 2 [(0, .ref (ad 0 0 0)), (1, .ref l1)] → W p l e (rX0_and d) s m args below meth c H locs 0 0 (XMQ below (yQ (va_Qv Q (fun u t => cB D A ad u t.heap) A) E (fun x t => x = ad 6 0 0) (fun u t => cB D A ad u t.heap) A) args s 0 0 A) (F0 m 5 ls []) := by
  have hx := F.1.x
  have hb := F.1.b
  intro n
  induction n with
  | zero => intro l1 V hw; exact hw.elim
  | succ n ih =>
    intro l1 V hw H locs ls hB hS hl
    unfold wX0_and_5 at hw
    refine lv_aload_n hx hb dX0_and_5 rfl (lv_at hl 0 rfl) ?_
    refine lv_bipush (v := 38) hx hb dX0_and_6 (by decide) ?_
    refine kX0_X0_isSign F hB hS hw ⟨by show _ + 1 ≤ _; simp only [rX0_piece, rX0_term, rX0_sum, rX0_test, rX0_and, rX0_or, rX0_goes, rX0_isSign, rX0_isName, rX0_number, rX0_wrong, rX0_isDigit, rX0_isIn, rX13_add]; omega, by show _ + _ ≤ _; simp only [rX0_piece, rX0_term, rX0_sum, rX0_test, rX0_and, rX0_or, rX0_goes, rX0_isSign, rX0_isName, rX0_number, rX0_wrong, rX0_isDigit, rX0_isIn, rX13_add]; omega⟩ ⟨Nat.zero_le _, Nat.zero_le _⟩ hl.1 (Nat.le_of_ble_eq_true rfl) dX0_and_8 (fun r1 V2 H locs hw hB hS => ?_)
    refine lv_if_eq (tgt := 33) hx hb dX0_and_11 (by decide) (fun q => ?_) (fun q => ?_)
    · replace hw := hw.1 q
      refine W.retY ?_
      exact W.vret hx hb F.1.r (fun t ht hW => ⟨⟨_, rfl, hw, x_B (Bw := cB D A ad) ht hB⟩, hS.F ht⟩) hS.2.2 dX0_and_33 (hlocks := F.1.k)
    · replace hw := hw.2 q
      refine lv_aload_n hx hb dX0_and_14 rfl (lv_at hl 0 rfl) ?_
      refine kX0_X0_goes F hB hS hw ⟨by show _ + 1 ≤ _; simp only [rX0_piece, rX0_term, rX0_sum, rX0_test, rX0_and, rX0_or, rX0_goes, rX0_isSign, rX0_isName, rX0_number, rX0_wrong, rX0_isDigit, rX0_isIn, rX13_add]; omega, by show _ + _ ≤ _; simp only [rX0_piece, rX0_term, rX0_sum, rX0_test, rX0_and, rX0_or, rX0_goes, rX0_isSign, rX0_isName, rX0_number, rX0_wrong, rX0_isDigit, rX0_isIn, rX13_add]; omega⟩ ⟨Nat.zero_le _, Nat.zero_le _⟩ hl.1 (Nat.le_of_ble_eq_true rfl) dX0_and_15 (fun V4 H locs hw hB hS => ?_) (fun V4 H locs hw hB hS => ?_)
      · skip
        refine lv_aload_n hx hb dX0_and_18 rfl (lv_at hl 0 rfl) ?_
        refine lv_aload_n hx hb dX0_and_19 rfl (lv_at hl 1 rfl) ?_
        refine kX0_X0_test F hB hS (mX0_test hP hw) ⟨rfl, rfl⟩ ⟨by show _ + 1 ≤ _; simp only [rX0_piece, rX0_term, rX0_sum, rX0_test, rX0_and, rX0_or, rX0_goes, rX0_isSign, rX0_isName, rX0_number, rX0_wrong, rX0_isDigit, rX0_isIn, rX13_add]; omega, by show _ + _ ≤ _; simp only [rX0_piece, rX0_term, rX0_sum, rX0_test, rX0_and, rX0_or, rX0_goes, rX0_isSign, rX0_isName, rX0_number, rX0_wrong, rX0_isDigit, rX0_isIn, rX13_add]; omega⟩ ⟨Nat.zero_le _, Nat.zero_le _⟩ hl.1 (Nat.le_of_ble_eq_true rfl) dX0_and_20 (fun V6 H locs hw hB hS => ?_) (fun V6 H locs hw hB hS => ?_)
        · skip
          refine lv_aload_n hx hb dX0_and_23 rfl (lv_at hl 1 rfl) ?_
          refine lv_bipush (v := 10) hx hb dX0_and_24 (by decide) ?_
          refine lv_iconst (v := 0) hx hb dX0_and_26 (by decide) ?_
          obtain ⟨f8, f9, f10, hm11, hw⟩ := hw
          refine kX0_X13_add F hB hS hm11 hw ⟨by show _ + 1 ≤ _; simp only [rX0_piece, rX0_term, rX0_sum, rX0_test, rX0_and, rX0_or, rX0_goes, rX0_isSign, rX0_isName, rX0_number, rX0_wrong, rX0_isDigit, rX0_isIn, rX13_add]; omega, by show _ + _ ≤ _; simp only [rX0_piece, rX0_term, rX0_sum, rX0_test, rX0_and, rX0_or, rX0_goes, rX0_isSign, rX0_isName, rX0_number, rX0_wrong, rX0_isDigit, rX0_isIn, rX13_add]; omega⟩ ⟨Nat.zero_le _, Nat.zero_le _⟩ hl.1 (Nat.le_of_ble_eq_true rfl) dX0_and_27 (fun V12 H locs hw hB hS => ?_)
          refine lv_goto (tgt := 5) hx hb dX0_and_30 (by decide) ?_
          exact ih _ _ hw _ _ _ hB hS hl
        · skip
          exact wt_out (Bw := cB D A ad) F.1 hnm q504 hw (fun t _ _ => rfl) hB hS
      · skip
        exact wt_out (Bw := cB D A ad) F.1 hnm q504 hw (fun t _ _ => rfl) hB hS
set_option maxHeartbeats 4000000 in
theorem bX0_and_0 {p : Program} {l : Launch} {e : Env} {s : State} {m : MethodId} {args : Array Value} {below : List Frame} {meth : Method} {c : Code} {D : DD} {A : Nat → Prop} {s0 : State} {ad : AD} {Q : CV → Prop} {E : CV → Prop} {a1 : Nat} {V : CV} {H : Heap} {locs : List Loc} {ls : Array Slot} (F : FX p l c cX0_and s args m RX0 D A s0 2 meth (none)) (hnm : s.methodNamed? yX0_and = some m) {P : Nat → CV → (CV → Prop) → (CV → Prop) → Prop} {d : Nat} (hP : ∀ (a1 : Nat) (V : CV) (Q : CV → Prop) (E : CV → Prop), P a1 V Q E → MetY l yX0_piece (ws_ yX0_piece cX0_piece 2 (none)) (rX0_piece d) (va_Pc [.ref (ad 0 0 0), .ref a1] (fun U => cB D A ad V U.heap ∧ CX l D A s0 U)) (yQ (va_Qv Q (fun u t => cB D A ad u t.heap) A) E (fun x t => x = ad 6 0 0) (fun u t => cB D A ad u t.heap) A) 0 0 A) (hB : cB D A ad V H) (hS : va_S A s.heap H locs) (hw : wX0_and P a1 V Q E) (hl : lv_has ls 2 [(0, .ref (ad 0 0 0)), (1, .ref a1)]) : W p l e (rX0_and d) s m args below meth c H locs 0 0 (XMQ below (yQ (va_Qv Q (fun u t => cB D A ad u t.heap) A) E (fun x t => x = ad 6 0 0) (fun u t => cB D A ad u t.heap) A) args s 0 0 A) (F0 m 0 ls []) := by
  have hx := F.1.x
  have hb := F.1.b
  unfold wX0_and at hw
  refine lv_aload_n hx hb dX0_and_0 rfl (lv_at hl 0 rfl) ?_
  refine lv_aload_n hx hb dX0_and_1 rfl (lv_at hl 1 rfl) ?_
  refine kX0_X0_test F hB hS (mX0_test hP hw) ⟨rfl, rfl⟩ ⟨by show _ + 1 ≤ _; simp only [rX0_piece, rX0_term, rX0_sum, rX0_test, rX0_and, rX0_or, rX0_goes, rX0_isSign, rX0_isName, rX0_number, rX0_wrong, rX0_isDigit, rX0_isIn, rX13_add]; omega, by show _ + _ ≤ _; simp only [rX0_piece, rX0_term, rX0_sum, rX0_test, rX0_and, rX0_or, rX0_goes, rX0_isSign, rX0_isName, rX0_number, rX0_wrong, rX0_isDigit, rX0_isIn, rX13_add]; omega⟩ ⟨Nat.zero_le _, Nat.zero_le _⟩ hl.1 (Nat.le_of_ble_eq_true rfl) dX0_and_2 (fun V2 H locs hw hB hS => ?_) (fun V2 H locs hw hB hS => ?_)
  · skip
    obtain ⟨f_5, hw⟩ := hw
    exact bX0_and_5 F hnm hP f_5 _ _ hw _ _ _ hB hS hl
  · skip
    exact wt_out (Bw := cB D A ad) F.1 hnm q504 hw (fun t _ _ => rfl) hB hS
set_option maxHeartbeats 4000000 in
theorem mX0_and {l : Launch} {D : DD} {A : Nat → Prop} {s0 : State} {ad : AD} {V : CV} {P : Nat → CV → (CV → Prop) → (CV → Prop) → Prop} {d : Nat} (hP : ∀ (a1 : Nat) (V : CV) (Q : CV → Prop) (E : CV → Prop), P a1 V Q E → MetY l yX0_piece (ws_ yX0_piece cX0_piece 2 (none)) (rX0_piece d) (va_Pc [.ref (ad 0 0 0), .ref a1] (fun U => cB D A ad V U.heap ∧ CX l D A s0 U)) (yQ (va_Qv Q (fun u t => cB D A ad u t.heap) A) E (fun x t => x = ad 6 0 0) (fun u t => cB D A ad u t.heap) A) 0 0 A) {a1 : Nat} {Q : CV → Prop} {E : CV → Prop} (hw : wX0_and P a1 V Q E) : MetY l yX0_and (ws_ yX0_and cX0_and 2 (none)) (rX0_and d) (va_Pc [.ref (ad 0 0 0), .ref a1] (fun U => cB D A ad V U.heap ∧ CX l D A s0 U)) (yQ (va_Qv Q (fun u t => cB D A ad u t.heap) A) E (fun x t => x = ad 6 0 0) (fun u t => cB D A ad u t.heap) A) 0 0 A := by
  refine MetY.ofW (cc := cX0_and) (maxL := 2) (ret := none) (by decide) ?_
  intro p e s m args below meth c F1 hnm _ hv
  obtain ⟨rfl, hB, hC⟩ := hv
  have F : FX p l c cX0_and s _ m RX0 D A s0 2 meth (none) := ⟨F1, hC⟩
  have hS : va_S A s.heap s.heap [] := va_S.rf
  have hl := lv_entry ([.ref (ad 0 0 0), .ref a1]) (n := 2) (Nat.le_of_ble_eq_true rfl)
  rw [lg_entry_eq]
  generalize (lg_sl ([.ref (ad 0 0 0), .ref a1]) ++ List.replicate (2 - (lg_sl ([.ref (ad 0 0 0), .ref a1])).length) Slot.unset).toArray = ls at hl ⊢
  exact bX0_and_0 F hnm hP hB hS hw hl
set_option maxHeartbeats 4000000 in
theorem bX0_or_5 {p : Program} {l : Launch} {e : Env} {s : State} {m : MethodId} {args : Array Value} {below : List Frame} {meth : Method} {c : Code} {D : DD} {A : Nat → Prop} {s0 : State} {ad : AD} {Q : CV → Prop} {E : CV → Prop} (F : FX p l c cX0_or s args m RX0 D A s0 2 meth (none)) (hnm : s.methodNamed? yX0_or = some m) {P : Nat → CV → (CV → Prop) → (CV → Prop) → Prop} {d : Nat} (hP : ∀ (a1 : Nat) (V : CV) (Q : CV → Prop) (E : CV → Prop), P a1 V Q E → MetY l yX0_piece (ws_ yX0_piece cX0_piece 2 (none)) (rX0_piece d) (va_Pc [.ref (ad 0 0 0), .ref a1] (fun U => cB D A ad V U.heap ∧ CX l D A s0 U)) (yQ (va_Qv Q (fun u t => cB D A ad u t.heap) A) E (fun x t => x = ad 6 0 0) (fun u t => cB D A ad u t.heap) A) 0 0 A) : ∀ (n : Nat) (l1 : Nat) (V : CV), wX0_or_5 P Q E n l1 V → ∀ (H : Heap) (locs : List Loc) (ls : Array Slot), cB D A ad V H → va_S A s.heap H locs → lv_has ls 2 [(0, .ref (ad 0 0 0)), (1, .ref l1)] → W p l e (rX0_or d) s m args below meth c H locs 0 0 (XMQ below (yQ (va_Qv Q (fun u t => cB D A ad u t.heap) A) E (fun x t => x = ad 6 0 0) (fun u t => cB D A ad u t.heap) A) args s 0 0 A) (F0 m 5 ls []) := by
  have hx := F.1.x
  have hb := F.1.b
  intro n
  induction n with
  | zero => intro l1 V hw; exact hw.elim
  | succ n ih =>
    intro l1 V hw H locs ls hB hS hl
    unfold wX0_or_5 at hw
    refine lv_aload_n hx hb dX0_or_5 rfl (lv_at hl 0 rfl) ?_
    refine lv_bipush (v := 124) hx hb dX0_or_6 (by decide) ?_
    refine kX0_X0_isSign F hB hS hw ⟨by show _ + 1 ≤ _; simp only [rX0_piece, rX0_term, rX0_sum, rX0_test, rX0_and, rX0_or, rX0_goes, rX0_isSign, rX0_isName, rX0_number, rX0_wrong, rX0_isDigit, rX0_isIn, rX13_add]; omega, by show _ + _ ≤ _; simp only [rX0_piece, rX0_term, rX0_sum, rX0_test, rX0_and, rX0_or, rX0_goes, rX0_isSign, rX0_isName, rX0_number, rX0_wrong, rX0_isDigit, rX0_isIn, rX13_add]; omega⟩ ⟨Nat.zero_le _, Nat.zero_le _⟩ hl.1 (Nat.le_of_ble_eq_true rfl) dX0_or_8 (fun r1 V2 H locs hw hB hS => ?_)
    refine lv_if_eq (tgt := 33) hx hb dX0_or_11 (by decide) (fun q => ?_) (fun q => ?_)
    · replace hw := hw.1 q
      refine W.retY ?_
      exact W.vret hx hb F.1.r (fun t ht hW => ⟨⟨_, rfl, hw, x_B (Bw := cB D A ad) ht hB⟩, hS.F ht⟩) hS.2.2 dX0_or_33 (hlocks := F.1.k)
    · replace hw := hw.2 q
      refine lv_aload_n hx hb dX0_or_14 rfl (lv_at hl 0 rfl) ?_
      refine kX0_X0_goes F hB hS hw ⟨by show _ + 1 ≤ _; simp only [rX0_piece, rX0_term, rX0_sum, rX0_test, rX0_and, rX0_or, rX0_goes, rX0_isSign, rX0_isName, rX0_number, rX0_wrong, rX0_isDigit, rX0_isIn, rX13_add]; omega, by show _ + _ ≤ _; simp only [rX0_piece, rX0_term, rX0_sum, rX0_test, rX0_and, rX0_or, rX0_goes, rX0_isSign, rX0_isName, rX0_number, rX0_wrong, rX0_isDigit, rX0_isIn, rX13_add]; omega⟩ ⟨Nat.zero_le _, Nat.zero_le _⟩ hl.1 (Nat.le_of_ble_eq_true rfl) dX0_or_15 (fun V4 H locs hw hB hS => ?_) (fun V4 H locs hw hB hS => ?_)
      · skip
        refine lv_aload_n hx hb dX0_or_18 rfl (lv_at hl 0 rfl) ?_
        refine lv_aload_n hx hb dX0_or_19 rfl (lv_at hl 1 rfl) ?_
        refine kX0_X0_and F hB hS (mX0_and hP hw) ⟨rfl, rfl⟩ ⟨by show _ + 1 ≤ _; simp only [rX0_piece, rX0_term, rX0_sum, rX0_test, rX0_and, rX0_or, rX0_goes, rX0_isSign, rX0_isName, rX0_number, rX0_wrong, rX0_isDigit, rX0_isIn, rX13_add]; omega, by show _ + _ ≤ _; simp only [rX0_piece, rX0_term, rX0_sum, rX0_test, rX0_and, rX0_or, rX0_goes, rX0_isSign, rX0_isName, rX0_number, rX0_wrong, rX0_isDigit, rX0_isIn, rX13_add]; omega⟩ ⟨Nat.zero_le _, Nat.zero_le _⟩ hl.1 (Nat.le_of_ble_eq_true rfl) dX0_or_20 (fun V6 H locs hw hB hS => ?_) (fun V6 H locs hw hB hS => ?_)
        · skip
          refine lv_aload_n hx hb dX0_or_23 rfl (lv_at hl 1 rfl) ?_
          refine lv_bipush (v := 11) hx hb dX0_or_24 (by decide) ?_
          refine lv_iconst (v := 0) hx hb dX0_or_26 (by decide) ?_
          obtain ⟨f8, f9, f10, hm11, hw⟩ := hw
          refine kX0_X13_add F hB hS hm11 hw ⟨by show _ + 1 ≤ _; simp only [rX0_piece, rX0_term, rX0_sum, rX0_test, rX0_and, rX0_or, rX0_goes, rX0_isSign, rX0_isName, rX0_number, rX0_wrong, rX0_isDigit, rX0_isIn, rX13_add]; omega, by show _ + _ ≤ _; simp only [rX0_piece, rX0_term, rX0_sum, rX0_test, rX0_and, rX0_or, rX0_goes, rX0_isSign, rX0_isName, rX0_number, rX0_wrong, rX0_isDigit, rX0_isIn, rX13_add]; omega⟩ ⟨Nat.zero_le _, Nat.zero_le _⟩ hl.1 (Nat.le_of_ble_eq_true rfl) dX0_or_27 (fun V12 H locs hw hB hS => ?_)
          refine lv_goto (tgt := 5) hx hb dX0_or_30 (by decide) ?_
          exact ih _ _ hw _ _ _ hB hS hl
        · skip
          exact wt_out (Bw := cB D A ad) F.1 hnm q500 hw (fun t _ _ => rfl) hB hS
      · skip
        exact wt_out (Bw := cB D A ad) F.1 hnm q500 hw (fun t _ _ => rfl) hB hS
set_option maxHeartbeats 4000000 in
theorem bX0_or_0 {p : Program} {l : Launch} {e : Env} {s : State} {m : MethodId} {args : Array Value} {below : List Frame} {meth : Method} {c : Code} {D : DD} {A : Nat → Prop} {s0 : State} {ad : AD} {Q : CV → Prop} {E : CV → Prop} {a1 : Nat} {V : CV} {H : Heap} {locs : List Loc} {ls : Array Slot} (F : FX p l c cX0_or s args m RX0 D A s0 2 meth (none)) (hnm : s.methodNamed? yX0_or = some m) {P : Nat → CV → (CV → Prop) → (CV → Prop) → Prop} {d : Nat} (hP : ∀ (a1 : Nat) (V : CV) (Q : CV → Prop) (E : CV → Prop), P a1 V Q E → MetY l yX0_piece (ws_ yX0_piece cX0_piece 2 (none)) (rX0_piece d) (va_Pc [.ref (ad 0 0 0), .ref a1] (fun U => cB D A ad V U.heap ∧ CX l D A s0 U)) (yQ (va_Qv Q (fun u t => cB D A ad u t.heap) A) E (fun x t => x = ad 6 0 0) (fun u t => cB D A ad u t.heap) A) 0 0 A) (hB : cB D A ad V H) (hS : va_S A s.heap H locs) (hw : wX0_or P a1 V Q E) (hl : lv_has ls 2 [(0, .ref (ad 0 0 0)), (1, .ref a1)]) : W p l e (rX0_or d) s m args below meth c H locs 0 0 (XMQ below (yQ (va_Qv Q (fun u t => cB D A ad u t.heap) A) E (fun x t => x = ad 6 0 0) (fun u t => cB D A ad u t.heap) A) args s 0 0 A) (F0 m 0 ls []) := by
  have hx := F.1.x
  have hb := F.1.b
  unfold wX0_or at hw
  refine lv_aload_n hx hb dX0_or_0 rfl (lv_at hl 0 rfl) ?_
  refine lv_aload_n hx hb dX0_or_1 rfl (lv_at hl 1 rfl) ?_
  refine kX0_X0_and F hB hS (mX0_and hP hw) ⟨rfl, rfl⟩ ⟨by show _ + 1 ≤ _; simp only [rX0_piece, rX0_term, rX0_sum, rX0_test, rX0_and, rX0_or, rX0_goes, rX0_isSign, rX0_isName, rX0_number, rX0_wrong, rX0_isDigit, rX0_isIn, rX13_add]; omega, by show _ + _ ≤ _; simp only [rX0_piece, rX0_term, rX0_sum, rX0_test, rX0_and, rX0_or, rX0_goes, rX0_isSign, rX0_isName, rX0_number, rX0_wrong, rX0_isDigit, rX0_isIn, rX13_add]; omega⟩ ⟨Nat.zero_le _, Nat.zero_le _⟩ hl.1 (Nat.le_of_ble_eq_true rfl) dX0_or_2 (fun V2 H locs hw hB hS => ?_) (fun V2 H locs hw hB hS => ?_)
  · skip
    obtain ⟨f_5, hw⟩ := hw
    exact bX0_or_5 F hnm hP f_5 _ _ hw _ _ _ hB hS hl
  · skip
    exact wt_out (Bw := cB D A ad) F.1 hnm q500 hw (fun t _ _ => rfl) hB hS
set_option maxHeartbeats 4000000 in
theorem mX0_or {l : Launch} {D : DD} {A : Nat → Prop} {s0 : State} {ad : AD} {V : CV} {P : Nat → CV → (CV → Prop) → (CV → Prop) → Prop} {d : Nat} (hP : ∀ (a1 : Nat) (V : CV) (Q : CV → Prop) (E : CV → Prop), P a1 V Q E → MetY l yX0_piece (ws_ yX0_piece cX0_piece 2 (none)) (rX0_piece d) (va_Pc [.ref (ad 0 0 0), .ref a1] (fun U => cB D A ad V U.heap ∧ CX l D A s0 U)) (yQ (va_Qv Q (fun u t => cB D A ad u t.heap) A) E (fun x t => x = ad 6 0 0) (fun u t => cB D A ad u t.heap) A) 0 0 A) {a1 : Nat} {Q : CV → Prop} {E : CV → Prop} (hw : wX0_or P a1 V Q E) : MetY l yX0_or (ws_ yX0_or cX0_or 2 (none)) (rX0_or d) (va_Pc [.ref (ad 0 0 0), .ref a1] (fun U => cB D A ad V U.heap ∧ CX l D A s0 U)) (yQ (va_Qv Q (fun u t => cB D A ad u t.heap) A) E (fun x t => x = ad 6 0 0) (fun u t => cB D A ad u t.heap) A) 0 0 A := by
  refine MetY.ofW (cc := cX0_or) (maxL := 2) (ret := none) (by decide) ?_
  intro p e s m args below meth c F1 hnm _ hv
  obtain ⟨rfl, hB, hC⟩ := hv
  have F : FX p l c cX0_or s _ m RX0 D A s0 2 meth (none) := ⟨F1, hC⟩
  have hS : va_S A s.heap s.heap [] := va_S.rf
  have hl := lv_entry ([.ref (ad 0 0 0), .ref a1]) (n := 2) (Nat.le_of_ble_eq_true rfl)
  rw [lg_entry_eq]
  generalize (lg_sl ([.ref (ad 0 0 0), .ref a1]) ++ List.replicate (2 - (lg_sl ([.ref (ad 0 0 0), .ref a1])).length) Slot.unset).toArray = ls at hl ⊢
  exact bX0_or_0 F hnm hP hB hS hw hl
set_option maxHeartbeats 4000000 in
theorem bX0_pieceB_223 {p : Program} {l : Launch} {e : Env} {s : State} {m : MethodId} {args : Array Value} {below : List Frame} {meth : Method} {c : Code} {D : DD} {A : Nat → Prop} {s0 : State} {ad : AD} {Q : CV → Prop} {E : CV → Prop} {l1 : Nat} {V : CV} {H : Heap} {locs : List Loc} {ls : Array Slot} (F : FX p l c cX0_piece s args m RX0 D A s0 2 meth (none)) (hnm : s.methodNamed? yX0_piece = some m) {P : Nat → CV → (CV → Prop) → (CV → Prop) → Prop} {d : Nat} (hP : ∀ (a1 : Nat) (V : CV) (Q : CV → Prop) (E : CV → Prop), P a1 V Q E → MetY l yX0_piece (ws_ yX0_piece cX0_piece 2 (none)) (rX0_piece d) (va_Pc [.ref (ad 0 0 0), .ref a1] (fun U => cB D A ad V U.heap ∧ CX l D A s0 U)) (yQ (va_Qv Q (fun u t => cB D A ad u t.heap) A) E (fun x t => x = ad 6 0 0) (fun u t => cB D A ad u t.heap) A) 0 0 A) (hB : cB D A ad V H) (hS : va_S A s.heap H locs) (hw : wX0_pieceB_223 P l1 V Q E) (hl : lv_has ls 2 [(0, .ref (ad 0 0 0)), (1, .ref l1)]) : W p l e (rX0_piece (d + 1)) s m args below meth c H locs 0 0 (XMQ below (yQ (va_Qv Q (fun u t => cB D A ad u t.heap) A) E (fun x t => x = ad 6 0 0) (fun u t => cB D A ad u t.heap) A) args s 0 0 A) (F0 m 223 ls []) := by
  have hx := F.1.x
  have hb := F.1.b
  unfold wX0_pieceB_223 at hw
  refine lv_aload_n hx hb dX0_piece_223 rfl (lv_at hl 0 rfl) ?_
  refine lv_dup hx hb dX0_piece_224 rfl ?_
  refine cg_X0_207 F hB dX0_piece_225 ?_
  refine lv_iconst (v := 1) hx hb dX0_piece_228 (by decide) ?_
  refine lv_iadd hx hb dX0_piece_229 ?_
  refine cp_X0_207 F hB hS dX0_piece_230 (fun H locs hB hS => ?_)
  refine lv_aload_n hx hb dX0_piece_233 rfl (lv_at hl 1 rfl) ?_
  refine lv_iconst (v := 2) hx hb dX0_piece_234 (by decide) ?_
  refine lv_aload_n hx hb dX0_piece_235 rfl (lv_at hl 0 rfl) ?_
  refine cg_X0_60 F hB dX0_piece_236 ?_
  refine lv_aload_n hx hb dX0_piece_239 rfl (lv_at hl 0 rfl) ?_
  refine cg_X0_136 F hB dX0_piece_240 ?_
  obtain ⟨hin1, hw⟩ := hw
  refine cl_5 F hB hin1 dX0_piece_243 ?_
  obtain ⟨f3, f4, f5, hm6, hw⟩ := hw
  refine kX0_X13_add F hB hS hm6 hw ⟨by show _ + 1 ≤ _; simp only [rX0_piece, rX0_term, rX0_sum, rX0_test, rX0_and, rX0_or, rX0_goes, rX0_isSign, rX0_isName, rX0_number, rX0_wrong, rX0_isDigit, rX0_isIn, rX13_add]; omega, by show _ + _ ≤ _; simp only [rX0_piece, rX0_term, rX0_sum, rX0_test, rX0_and, rX0_or, rX0_goes, rX0_isSign, rX0_isName, rX0_number, rX0_wrong, rX0_isDigit, rX0_isIn, rX13_add]; omega⟩ ⟨Nat.zero_le _, Nat.zero_le _⟩ hl.1 (Nat.le_of_ble_eq_true rfl) dX0_piece_244 (fun V7 H locs hw hB hS => ?_)
  refine lv_aload_n hx hb dX0_piece_247 rfl (lv_at hl 0 rfl) ?_
  refine kX0_X0_goes F hB hS hw ⟨by show _ + 1 ≤ _; simp only [rX0_piece, rX0_term, rX0_sum, rX0_test, rX0_and, rX0_or, rX0_goes, rX0_isSign, rX0_isName, rX0_number, rX0_wrong, rX0_isDigit, rX0_isIn, rX13_add]; omega, by show _ + _ ≤ _; simp only [rX0_piece, rX0_term, rX0_sum, rX0_test, rX0_and, rX0_or, rX0_goes, rX0_isSign, rX0_isName, rX0_number, rX0_wrong, rX0_isDigit, rX0_isIn, rX13_add]; omega⟩ ⟨Nat.zero_le _, Nat.zero_le _⟩ hl.1 (Nat.le_of_ble_eq_true rfl) dX0_piece_248 (fun V9 H locs hw hB hS => ?_) (fun V9 H locs hw hB hS => ?_)
  · skip
    refine W.retY ?_
    exact W.vret hx hb F.1.r (fun t ht hW => ⟨⟨_, rfl, hw, x_B (Bw := cB D A ad) ht hB⟩, hS.F ht⟩) hS.2.2 dX0_piece_251 (hlocks := F.1.k)
  · skip
    exact wt_out (Bw := cB D A ad) F.1 hnm q520 hw (fun t _ _ => rfl) hB hS
set_option maxHeartbeats 4000000 in
theorem bX0_pieceB_219 {p : Program} {l : Launch} {e : Env} {s : State} {m : MethodId} {args : Array Value} {below : List Frame} {meth : Method} {c : Code} {D : DD} {A : Nat → Prop} {s0 : State} {ad : AD} {Q : CV → Prop} {E : CV → Prop} {l1 : Nat} {V : CV} {H : Heap} {locs : List Loc} {ls : Array Slot} (F : FX p l c cX0_piece s args m RX0 D A s0 2 meth (none)) (hnm : s.methodNamed? yX0_piece = some m) {P : Nat → CV → (CV → Prop) → (CV → Prop) → Prop} {d : Nat} (hP : ∀ (a1 : Nat) (V : CV) (Q : CV → Prop) (E : CV → Prop), P a1 V Q E → MetY l yX0_piece (ws_ yX0_piece cX0_piece 2 (none)) (rX0_piece d) (va_Pc [.ref (ad 0 0 0), .ref a1] (fun U => cB D A ad V U.heap ∧ CX l D A s0 U)) (yQ (va_Qv Q (fun u t => cB D A ad u t.heap) A) E (fun x t => x = ad 6 0 0) (fun u t => cB D A ad u t.heap) A) 0 0 A) (hB : cB D A ad V H) (hS : va_S A s.heap H locs) (hw : wX0_pieceB_219 P l1 V Q E) (hl : lv_has ls 2 [(0, .ref (ad 0 0 0)), (1, .ref l1)]) : W p l e (rX0_piece (d + 1)) s m args below meth c H locs 0 0 (XMQ below (yQ (va_Qv Q (fun u t => cB D A ad u t.heap) A) E (fun x t => x = ad 6 0 0) (fun u t => cB D A ad u t.heap) A) args s 0 0 A) (F0 m 219 ls []) := by
  have hx := F.1.x
  have hb := F.1.b
  unfold wX0_pieceB_219 at hw
  refine lv_aload_n hx hb dX0_piece_219 rfl (lv_at hl 0 rfl) ?_
  refine kX0_X0_wrong F hB hS hw ⟨by show _ + 1 ≤ _; simp only [rX0_piece, rX0_term, rX0_sum, rX0_test, rX0_and, rX0_or, rX0_goes, rX0_isSign, rX0_isName, rX0_number, rX0_wrong, rX0_isDigit, rX0_isIn, rX13_add]; omega, by show _ + _ ≤ _; simp only [rX0_piece, rX0_term, rX0_sum, rX0_test, rX0_and, rX0_or, rX0_goes, rX0_isSign, rX0_isName, rX0_number, rX0_wrong, rX0_isDigit, rX0_isIn, rX13_add]; omega⟩ ⟨Nat.zero_le _, Nat.zero_le _⟩ hl.1 (Nat.le_of_ble_eq_true rfl) dX0_piece_220 (fun V2 H locs hw hB hS => ?_) (fun V2 H locs hw hB hS => ?_)
  · skip
    exact bX0_pieceB_223 F hnm hP hB hS hw hl
  · skip
    exact wt_out (Bw := cB D A ad) F.1 hnm q520 hw (fun t _ _ => rfl) hB hS
set_option maxHeartbeats 4000000 in
theorem bX0_pieceB_179 {p : Program} {l : Launch} {e : Env} {s : State} {m : MethodId} {args : Array Value} {below : List Frame} {meth : Method} {c : Code} {D : DD} {A : Nat → Prop} {s0 : State} {ad : AD} {Q : CV → Prop} {E : CV → Prop} {l1 : Nat} {V : CV} {H : Heap} {locs : List Loc} {ls : Array Slot} (F : FX p l c cX0_piece s args m RX0 D A s0 2 meth (none)) (hnm : s.methodNamed? yX0_piece = some m) {P : Nat → CV → (CV → Prop) → (CV → Prop) → Prop} {d : Nat} (hP : ∀ (a1 : Nat) (V : CV) (Q : CV → Prop) (E : CV → Prop), P a1 V Q E → MetY l yX0_piece (ws_ yX0_piece cX0_piece 2 (none)) (rX0_piece d) (va_Pc [.ref (ad 0 0 0), .ref a1] (fun U => cB D A ad V U.heap ∧ CX l D A s0 U)) (yQ (va_Qv Q (fun u t => cB D A ad u t.heap) A) E (fun x t => x = ad 6 0 0) (fun u t => cB D A ad u t.heap) A) 0 0 A) (hB : cB D A ad V H) (hS : va_S A s.heap H locs) (hw : wX0_pieceB_179 P l1 V Q E) (hl : lv_has ls 2 [(0, .ref (ad 0 0 0)), (1, .ref l1)]) : W p l e (rX0_piece (d + 1)) s m args below meth c H locs 0 0 (XMQ below (yQ (va_Qv Q (fun u t => cB D A ad u t.heap) A) E (fun x t => x = ad 6 0 0) (fun u t => cB D A ad u t.heap) A) args s 0 0 A) (F0 m 179 ls []) := by
  have hx := F.1.x
  have hb := F.1.b
  unfold wX0_pieceB_179 at hw
  refine lv_aload_n hx hb dX0_piece_179 rfl (lv_at hl 0 rfl) ?_
  refine cg_X0_136 F hB dX0_piece_180 ?_
  refine lv_aload_n hx hb dX0_piece_183 rfl (lv_at hl 0 rfl) ?_
  refine cg_X0_145 F hB dX0_piece_184 ?_
  refine lv_icmp_eq (tgt := 219) hx hb dX0_piece_187 (by decide) (fun q => ?_) (fun q => ?_)
  · replace hw := hw.1 q
    exact bX0_pieceB_219 F hnm hP hB hS hw hl
  · replace hw := hw.2 q
    refine lv_aload_n hx hb dX0_piece_190 rfl (lv_at hl 0 rfl) ?_
    refine cg_X0_142 F hB dX0_piece_191 ?_
    refine lv_aload_n hx hb dX0_piece_194 rfl (lv_at hl 0 rfl) ?_
    refine cg_X0_136 F hB dX0_piece_195 ?_
    refine lv_isub hx hb dX0_piece_198 ?_
    refine lv_iconst (v := 1) hx hb dX0_piece_199 (by decide) ?_
    refine lv_icmp_ne (tgt := 219) hx hb dX0_piece_200 (by decide) (fun q => ?_) (fun q => ?_)
    · replace hw := hw.2 q
      exact bX0_pieceB_219 F hnm hP hB hS hw hl
    · replace hw := hw.1 q
      refine lv_aload_n hx hb dX0_piece_203 rfl (lv_at hl 0 rfl) ?_
      refine lv_aload_n hx hb dX0_piece_204 rfl (lv_at hl 0 rfl) ?_
      refine cg_X0_60 F hB dX0_piece_205 ?_
      refine lv_aload_n hx hb dX0_piece_208 rfl (lv_at hl 0 rfl) ?_
      refine cg_X0_136 F hB dX0_piece_209 ?_
      obtain ⟨hin1, hw⟩ := hw
      refine cl_5 F hB hin1 dX0_piece_212 ?_
      refine kX0_X0_isName F hB hS hw ⟨by show _ + 1 ≤ _; simp only [rX0_piece, rX0_term, rX0_sum, rX0_test, rX0_and, rX0_or, rX0_goes, rX0_isSign, rX0_isName, rX0_number, rX0_wrong, rX0_isDigit, rX0_isIn, rX13_add]; omega, by show _ + _ ≤ _; simp only [rX0_piece, rX0_term, rX0_sum, rX0_test, rX0_and, rX0_or, rX0_goes, rX0_isSign, rX0_isName, rX0_number, rX0_wrong, rX0_isDigit, rX0_isIn, rX13_add]; omega⟩ ⟨Nat.zero_le _, Nat.zero_le _⟩ hl.1 (Nat.le_of_ble_eq_true rfl) dX0_piece_213 (fun r2 V3 H locs hw hB hS => ?_)
      refine lv_if_ne (tgt := 223) hx hb dX0_piece_216 (by decide) (fun q => ?_) (fun q => ?_)
      · replace hw := hw.2 q
        exact bX0_pieceB_223 F hnm hP hB hS hw hl
      · replace hw := hw.1 q
        exact bX0_pieceB_219 F hnm hP hB hS hw hl
set_option maxHeartbeats 4000000 in
theorem bX0_pieceB_114 {p : Program} {l : Launch} {e : Env} {s : State} {m : MethodId} {args : Array Value} {below : List Frame} {meth : Method} {c : Code} {D : DD} {A : Nat → Prop} {s0 : State} {ad : AD} {Q : CV → Prop} {E : CV → Prop} {V : CV} {H : Heap} {locs : List Loc} {ls : Array Slot} (F : FX p l c cX0_piece s args m RX0 D A s0 2 meth (none)) (hnm : s.methodNamed? yX0_piece = some m) {P : Nat → CV → (CV → Prop) → (CV → Prop) → Prop} {d : Nat} (hP : ∀ (a1 : Nat) (V : CV) (Q : CV → Prop) (E : CV → Prop), P a1 V Q E → MetY l yX0_piece (ws_ yX0_piece cX0_piece 2 (none)) (rX0_piece d) (va_Pc [.ref (ad 0 0 0), .ref a1] (fun U => cB D A ad V U.heap ∧ CX l D A s0 U)) (yQ (va_Qv Q (fun u t => cB D A ad u t.heap) A) E (fun x t => x = ad 6 0 0) (fun u t => cB D A ad u t.heap) A) 0 0 A) (hB : cB D A ad V H) (hS : va_S A s.heap H locs) (hw : wX0_pieceB_114 P V Q E) (hl : lv_has ls 2 [(0, .ref (ad 0 0 0))]) : W p l e (rX0_piece (d + 1)) s m args below meth c H locs 0 0 (XMQ below (yQ (va_Qv Q (fun u t => cB D A ad u t.heap) A) E (fun x t => x = ad 6 0 0) (fun u t => cB D A ad u t.heap) A) args s 0 0 A) (F0 m 114 ls []) := by
  have hx := F.1.x
  have hb := F.1.b
  unfold wX0_pieceB_114 at hw
  refine lv_aload_n hx hb dX0_piece_114 rfl (lv_at hl 0 rfl) ?_
  refine kX0_X0_goes F hB hS hw ⟨by show _ + 1 ≤ _; simp only [rX0_piece, rX0_term, rX0_sum, rX0_test, rX0_and, rX0_or, rX0_goes, rX0_isSign, rX0_isName, rX0_number, rX0_wrong, rX0_isDigit, rX0_isIn, rX13_add]; omega, by show _ + _ ≤ _; simp only [rX0_piece, rX0_term, rX0_sum, rX0_test, rX0_and, rX0_or, rX0_goes, rX0_isSign, rX0_isName, rX0_number, rX0_wrong, rX0_isDigit, rX0_isIn, rX13_add]; omega⟩ ⟨Nat.zero_le _, Nat.zero_le _⟩ hl.1 (Nat.le_of_ble_eq_true rfl) dX0_piece_115 (fun V2 H locs hw hB hS => ?_) (fun V2 H locs hw hB hS => ?_)
  · skip
    refine lv_aload_n hx hb dX0_piece_118 rfl (lv_at hl 0 rfl) ?_
    refine lv_dup hx hb dX0_piece_119 rfl ?_
    refine cg_X0_204 F hB dX0_piece_120 ?_
    refine lv_iconst (v := 1) hx hb dX0_piece_123 (by decide) ?_
    refine lv_isub hx hb dX0_piece_124 ?_
    refine cp_X0_204 F hB hS dX0_piece_125 (fun H locs hB hS => ?_)
    refine lv_goto (tgt := 251) hx hb dX0_piece_128 (by decide) ?_
    refine W.retY ?_
    exact W.vret hx hb F.1.r (fun t ht hW => ⟨⟨_, rfl, hw, x_B (Bw := cB D A ad) ht hB⟩, hS.F ht⟩) hS.2.2 dX0_piece_251 (hlocks := F.1.k)
  · skip
    exact wt_out (Bw := cB D A ad) F.1 hnm q520 hw (fun t _ _ => rfl) hB hS
set_option maxHeartbeats 4000000 in
theorem bX0_pieceB_82 {p : Program} {l : Launch} {e : Env} {s : State} {m : MethodId} {args : Array Value} {below : List Frame} {meth : Method} {c : Code} {D : DD} {A : Nat → Prop} {s0 : State} {ad : AD} {Q : CV → Prop} {E : CV → Prop} {l1 : Nat} {V : CV} {H : Heap} {locs : List Loc} {ls : Array Slot} (F : FX p l c cX0_piece s args m RX0 D A s0 2 meth (none)) (hnm : s.methodNamed? yX0_piece = some m) {P : Nat → CV → (CV → Prop) → (CV → Prop) → Prop} {d : Nat} (hP : ∀ (a1 : Nat) (V : CV) (Q : CV → Prop) (E : CV → Prop), P a1 V Q E → MetY l yX0_piece (ws_ yX0_piece cX0_piece 2 (none)) (rX0_piece d) (va_Pc [.ref (ad 0 0 0), .ref a1] (fun U => cB D A ad V U.heap ∧ CX l D A s0 U)) (yQ (va_Qv Q (fun u t => cB D A ad u t.heap) A) E (fun x t => x = ad 6 0 0) (fun u t => cB D A ad u t.heap) A) 0 0 A) (hB : cB D A ad V H) (hS : va_S A s.heap H locs) (hw : wX0_pieceB_82 P l1 V Q E) (hl : lv_has ls 2 [(0, .ref (ad 0 0 0)), (1, .ref l1)]) : W p l e (rX0_piece (d + 1)) s m args below meth c H locs 0 0 (XMQ below (yQ (va_Qv Q (fun u t => cB D A ad u t.heap) A) E (fun x t => x = ad 6 0 0) (fun u t => cB D A ad u t.heap) A) args s 0 0 A) (F0 m 82 ls []) := by
  have hx := F.1.x
  have hb := F.1.b
  unfold wX0_pieceB_82 at hw
  refine lv_aload_n hx hb dX0_piece_82 rfl (lv_at hl 0 rfl) ?_
  refine lv_dup hx hb dX0_piece_83 rfl ?_
  refine cg_X0_204 F hB dX0_piece_84 ?_
  refine lv_iconst (v := 1) hx hb dX0_piece_87 (by decide) ?_
  refine lv_iadd hx hb dX0_piece_88 ?_
  refine cp_X0_204 F hB hS dX0_piece_89 (fun H locs hB hS => ?_)
  refine lv_aload_n hx hb dX0_piece_92 rfl (lv_at hl 0 rfl) ?_
  refine kX0_X0_goes F hB hS hw ⟨by show _ + 1 ≤ _; simp only [rX0_piece, rX0_term, rX0_sum, rX0_test, rX0_and, rX0_or, rX0_goes, rX0_isSign, rX0_isName, rX0_number, rX0_wrong, rX0_isDigit, rX0_isIn, rX13_add]; omega, by show _ + _ ≤ _; simp only [rX0_piece, rX0_term, rX0_sum, rX0_test, rX0_and, rX0_or, rX0_goes, rX0_isSign, rX0_isName, rX0_number, rX0_wrong, rX0_isDigit, rX0_isIn, rX13_add]; omega⟩ ⟨Nat.zero_le _, Nat.zero_le _⟩ hl.1 (Nat.le_of_ble_eq_true rfl) dX0_piece_93 (fun V2 H locs hw hB hS => ?_) (fun V2 H locs hw hB hS => ?_)
  · skip
    refine lv_aload_n hx hb dX0_piece_96 rfl (lv_at hl 0 rfl) ?_
    refine lv_aload_n hx hb dX0_piece_97 rfl (lv_at hl 1 rfl) ?_
    refine kX0_X0_or F hB hS (mX0_or hP hw) ⟨rfl, rfl⟩ ⟨by show _ + 1 ≤ _; simp only [rX0_piece, rX0_term, rX0_sum, rX0_test, rX0_and, rX0_or, rX0_goes, rX0_isSign, rX0_isName, rX0_number, rX0_wrong, rX0_isDigit, rX0_isIn, rX13_add]; omega, by show _ + _ ≤ _; simp only [rX0_piece, rX0_term, rX0_sum, rX0_test, rX0_and, rX0_or, rX0_goes, rX0_isSign, rX0_isName, rX0_number, rX0_wrong, rX0_isDigit, rX0_isIn, rX13_add]; omega⟩ ⟨Nat.zero_le _, Nat.zero_le _⟩ hl.1 (Nat.le_of_ble_eq_true rfl) dX0_piece_98 (fun V4 H locs hw hB hS => ?_) (fun V4 H locs hw hB hS => ?_)
    · skip
      refine lv_aload_n hx hb dX0_piece_101 rfl (lv_at hl 0 rfl) ?_
      refine lv_bipush (v := 41) hx hb dX0_piece_102 (by decide) ?_
      refine kX0_X0_isSign F hB hS hw ⟨by show _ + 1 ≤ _; simp only [rX0_piece, rX0_term, rX0_sum, rX0_test, rX0_and, rX0_or, rX0_goes, rX0_isSign, rX0_isName, rX0_number, rX0_wrong, rX0_isDigit, rX0_isIn, rX13_add]; omega, by show _ + _ ≤ _; simp only [rX0_piece, rX0_term, rX0_sum, rX0_test, rX0_and, rX0_or, rX0_goes, rX0_isSign, rX0_isName, rX0_number, rX0_wrong, rX0_isDigit, rX0_isIn, rX13_add]; omega⟩ ⟨Nat.zero_le _, Nat.zero_le _⟩ hl.1 (Nat.le_of_ble_eq_true rfl) dX0_piece_104 (fun r5 V6 H locs hw hB hS => ?_)
      refine lv_if_ne (tgt := 114) hx hb dX0_piece_107 (by decide) (fun q => ?_) (fun q => ?_)
      · replace hw := hw.2 q
        exact bX0_pieceB_114 F hnm hP hB hS hw (lv_sub hl [0] rfl)
      · replace hw := hw.1 q
        refine lv_aload_n hx hb dX0_piece_110 rfl (lv_at hl 0 rfl) ?_
        refine kX0_X0_wrong F hB hS hw ⟨by show _ + 1 ≤ _; simp only [rX0_piece, rX0_term, rX0_sum, rX0_test, rX0_and, rX0_or, rX0_goes, rX0_isSign, rX0_isName, rX0_number, rX0_wrong, rX0_isDigit, rX0_isIn, rX13_add]; omega, by show _ + _ ≤ _; simp only [rX0_piece, rX0_term, rX0_sum, rX0_test, rX0_and, rX0_or, rX0_goes, rX0_isSign, rX0_isName, rX0_number, rX0_wrong, rX0_isDigit, rX0_isIn, rX13_add]; omega⟩ ⟨Nat.zero_le _, Nat.zero_le _⟩ hl.1 (Nat.le_of_ble_eq_true rfl) dX0_piece_111 (fun V8 H locs hw hB hS => ?_) (fun V8 H locs hw hB hS => ?_)
        · skip
          exact bX0_pieceB_114 F hnm hP hB hS hw (lv_sub hl [0] rfl)
        · skip
          exact wt_out (Bw := cB D A ad) F.1 hnm q520 hw (fun t _ _ => rfl) hB hS
    · skip
      exact wt_out (Bw := cB D A ad) F.1 hnm q520 hw (fun t _ _ => rfl) hB hS
  · skip
    exact wt_out (Bw := cB D A ad) F.1 hnm q520 hw (fun t _ _ => rfl) hB hS
set_option maxHeartbeats 4000000 in
theorem bX0_pieceB_22 {p : Program} {l : Launch} {e : Env} {s : State} {m : MethodId} {args : Array Value} {below : List Frame} {meth : Method} {c : Code} {D : DD} {A : Nat → Prop} {s0 : State} {ad : AD} {Q : CV → Prop} {E : CV → Prop} {l1 : Nat} {V : CV} {H : Heap} {locs : List Loc} {ls : Array Slot} (F : FX p l c cX0_piece s args m RX0 D A s0 2 meth (none)) (hnm : s.methodNamed? yX0_piece = some m) {P : Nat → CV → (CV → Prop) → (CV → Prop) → Prop} {d : Nat} (hP : ∀ (a1 : Nat) (V : CV) (Q : CV → Prop) (E : CV → Prop), P a1 V Q E → MetY l yX0_piece (ws_ yX0_piece cX0_piece 2 (none)) (rX0_piece d) (va_Pc [.ref (ad 0 0 0), .ref a1] (fun U => cB D A ad V U.heap ∧ CX l D A s0 U)) (yQ (va_Qv Q (fun u t => cB D A ad u t.heap) A) E (fun x t => x = ad 6 0 0) (fun u t => cB D A ad u t.heap) A) 0 0 A) (hB : cB D A ad V H) (hS : va_S A s.heap H locs) (hw : wX0_pieceB_22 P l1 V Q E) (hl : lv_has ls 2 [(0, .ref (ad 0 0 0)), (1, .ref l1)]) : W p l e (rX0_piece (d + 1)) s m args below meth c H locs 0 0 (XMQ below (yQ (va_Qv Q (fun u t => cB D A ad u t.heap) A) E (fun x t => x = ad 6 0 0) (fun u t => cB D A ad u t.heap) A) args s 0 0 A) (F0 m 22 ls []) := by
  have hx := F.1.x
  have hb := F.1.b
  unfold wX0_pieceB_22 at hw
  refine lv_aload_n hx hb dX0_piece_22 rfl (lv_at hl 0 rfl) ?_
  refine lv_dup hx hb dX0_piece_23 rfl ?_
  refine cg_X0_201 F hB dX0_piece_24 ?_
  refine lv_iconst (v := 1) hx hb dX0_piece_27 (by decide) ?_
  refine lv_iadd hx hb dX0_piece_28 ?_
  refine cp_X0_201 F hB hS dX0_piece_29 (fun H locs hB hS => ?_)
  refine lv_aload_n hx hb dX0_piece_32 rfl (lv_at hl 0 rfl) ?_
  refine kX0_X0_goes F hB hS hw ⟨by show _ + 1 ≤ _; simp only [rX0_piece, rX0_term, rX0_sum, rX0_test, rX0_and, rX0_or, rX0_goes, rX0_isSign, rX0_isName, rX0_number, rX0_wrong, rX0_isDigit, rX0_isIn, rX13_add]; omega, by show _ + _ ≤ _; simp only [rX0_piece, rX0_term, rX0_sum, rX0_test, rX0_and, rX0_or, rX0_goes, rX0_isSign, rX0_isName, rX0_number, rX0_wrong, rX0_isDigit, rX0_isIn, rX13_add]; omega⟩ ⟨Nat.zero_le _, Nat.zero_le _⟩ hl.1 (Nat.le_of_ble_eq_true rfl) dX0_piece_33 (fun V2 H locs hw hB hS => ?_) (fun V2 H locs hw hB hS => ?_)
  · skip
    refine lv_aload_n hx hb dX0_piece_36 rfl (lv_at hl 0 rfl) ?_
    refine lv_aload_n hx hb dX0_piece_37 rfl (lv_at hl 1 rfl) ?_
    refine kX0_X0_pieceB F hB hS (hP _ _ _ _ hw) ⟨rfl, rfl⟩ ⟨by show _ + 1 ≤ _; simp only [rX0_piece, rX0_term, rX0_sum, rX0_test, rX0_and, rX0_or, rX0_goes, rX0_isSign, rX0_isName, rX0_number, rX0_wrong, rX0_isDigit, rX0_isIn, rX13_add]; omega, by show _ + _ ≤ _; simp only [rX0_piece, rX0_term, rX0_sum, rX0_test, rX0_and, rX0_or, rX0_goes, rX0_isSign, rX0_isName, rX0_number, rX0_wrong, rX0_isDigit, rX0_isIn, rX13_add]; omega⟩ ⟨Nat.zero_le _, Nat.zero_le _⟩ hl.1 (Nat.le_of_ble_eq_true rfl) dX0_piece_38 (fun V4 H locs hw hB hS => ?_) (fun V4 H locs hw hB hS => ?_)
    · skip
      refine lv_aload_n hx hb dX0_piece_41 rfl (lv_at hl 1 rfl) ?_
      refine lv_iconst (v := 3) hx hb dX0_piece_42 (by decide) ?_
      refine lv_iconst (v := 0) hx hb dX0_piece_43 (by decide) ?_
      obtain ⟨f6, f7, f8, hm9, hw⟩ := hw
      refine kX0_X13_add F hB hS hm9 hw ⟨by show _ + 1 ≤ _; simp only [rX0_piece, rX0_term, rX0_sum, rX0_test, rX0_and, rX0_or, rX0_goes, rX0_isSign, rX0_isName, rX0_number, rX0_wrong, rX0_isDigit, rX0_isIn, rX13_add]; omega, by show _ + _ ≤ _; simp only [rX0_piece, rX0_term, rX0_sum, rX0_test, rX0_and, rX0_or, rX0_goes, rX0_isSign, rX0_isName, rX0_number, rX0_wrong, rX0_isDigit, rX0_isIn, rX13_add]; omega⟩ ⟨Nat.zero_le _, Nat.zero_le _⟩ hl.1 (Nat.le_of_ble_eq_true rfl) dX0_piece_44 (fun V10 H locs hw hB hS => ?_)
      refine lv_aload_n hx hb dX0_piece_47 rfl (lv_at hl 0 rfl) ?_
      refine lv_dup hx hb dX0_piece_48 rfl ?_
      refine cg_X0_201 F hB dX0_piece_49 ?_
      refine lv_iconst (v := 1) hx hb dX0_piece_52 (by decide) ?_
      refine lv_isub hx hb dX0_piece_53 ?_
      refine cp_X0_201 F hB hS dX0_piece_54 (fun H locs hB hS => ?_)
      refine lv_goto (tgt := 251) hx hb dX0_piece_57 (by decide) ?_
      refine W.retY ?_
      exact W.vret hx hb F.1.r (fun t ht hW => ⟨⟨_, rfl, hw, x_B (Bw := cB D A ad) ht hB⟩, hS.F ht⟩) hS.2.2 dX0_piece_251 (hlocks := F.1.k)
    · skip
      exact wt_out (Bw := cB D A ad) F.1 hnm q520 hw (fun t _ _ => rfl) hB hS
  · skip
    exact wt_out (Bw := cB D A ad) F.1 hnm q520 hw (fun t _ _ => rfl) hB hS
set_option maxHeartbeats 4000000 in
theorem bX0_pieceB_0 {p : Program} {l : Launch} {e : Env} {s : State} {m : MethodId} {args : Array Value} {below : List Frame} {meth : Method} {c : Code} {D : DD} {A : Nat → Prop} {s0 : State} {ad : AD} {Q : CV → Prop} {E : CV → Prop} {a1 : Nat} {V : CV} {H : Heap} {locs : List Loc} {ls : Array Slot} (F : FX p l c cX0_piece s args m RX0 D A s0 2 meth (none)) (hnm : s.methodNamed? yX0_piece = some m) {P : Nat → CV → (CV → Prop) → (CV → Prop) → Prop} {d : Nat} (hP : ∀ (a1 : Nat) (V : CV) (Q : CV → Prop) (E : CV → Prop), P a1 V Q E → MetY l yX0_piece (ws_ yX0_piece cX0_piece 2 (none)) (rX0_piece d) (va_Pc [.ref (ad 0 0 0), .ref a1] (fun U => cB D A ad V U.heap ∧ CX l D A s0 U)) (yQ (va_Qv Q (fun u t => cB D A ad u t.heap) A) E (fun x t => x = ad 6 0 0) (fun u t => cB D A ad u t.heap) A) 0 0 A) (hB : cB D A ad V H) (hS : va_S A s.heap H locs) (hw : wX0_pieceB P a1 V Q E) (hl : lv_has ls 2 [(0, .ref (ad 0 0 0)), (1, .ref a1)]) : W p l e (rX0_piece (d + 1)) s m args below meth c H locs 0 0 (XMQ below (yQ (va_Qv Q (fun u t => cB D A ad u t.heap) A) E (fun x t => x = ad 6 0 0) (fun u t => cB D A ad u t.heap) A) args s 0 0 A) (F0 m 0 ls []) := by
  have hx := F.1.x
  have hb := F.1.b
  unfold wX0_pieceB at hw
  refine lv_aload_n hx hb dX0_piece_0 rfl (lv_at hl 0 rfl) ?_
  refine lv_bipush (v := 33) hx hb dX0_piece_1 (by decide) ?_
  refine kX0_X0_isSign F hB hS hw ⟨by show _ + 1 ≤ _; simp only [rX0_piece, rX0_term, rX0_sum, rX0_test, rX0_and, rX0_or, rX0_goes, rX0_isSign, rX0_isName, rX0_number, rX0_wrong, rX0_isDigit, rX0_isIn, rX13_add]; omega, by show _ + _ ≤ _; simp only [rX0_piece, rX0_term, rX0_sum, rX0_test, rX0_and, rX0_or, rX0_goes, rX0_isSign, rX0_isName, rX0_number, rX0_wrong, rX0_isDigit, rX0_isIn, rX13_add]; omega⟩ ⟨Nat.zero_le _, Nat.zero_le _⟩ hl.1 (Nat.le_of_ble_eq_true rfl) dX0_piece_3 (fun r1 V2 H locs hw hB hS => ?_)
  refine lv_if_eq (tgt := 60) hx hb dX0_piece_6 (by decide) (fun q => ?_) (fun q => ?_)
  · replace hw := hw.1 q
    refine lv_aload_n hx hb dX0_piece_60 rfl (lv_at hl 0 rfl) ?_
    refine lv_bipush (v := 40) hx hb dX0_piece_61 (by decide) ?_
    refine kX0_X0_isSign F hB hS hw ⟨by show _ + 1 ≤ _; simp only [rX0_piece, rX0_term, rX0_sum, rX0_test, rX0_and, rX0_or, rX0_goes, rX0_isSign, rX0_isName, rX0_number, rX0_wrong, rX0_isDigit, rX0_isIn, rX13_add]; omega, by show _ + _ ≤ _; simp only [rX0_piece, rX0_term, rX0_sum, rX0_test, rX0_and, rX0_or, rX0_goes, rX0_isSign, rX0_isName, rX0_number, rX0_wrong, rX0_isDigit, rX0_isIn, rX13_add]; omega⟩ ⟨Nat.zero_le _, Nat.zero_le _⟩ hl.1 (Nat.le_of_ble_eq_true rfl) dX0_piece_63 (fun r3 V4 H locs hw hB hS => ?_)
    refine lv_if_eq (tgt := 131) hx hb dX0_piece_66 (by decide) (fun q => ?_) (fun q => ?_)
    · replace hw := hw.1 q
      refine lv_aload_n hx hb dX0_piece_131 rfl (lv_at hl 0 rfl) ?_
      refine cg_X0_136 F hB dX0_piece_132 ?_
      refine lv_aload_n hx hb dX0_piece_135 rfl (lv_at hl 0 rfl) ?_
      refine cg_X0_145 F hB dX0_piece_136 ?_
      refine lv_icmp_ge (tgt := 179) hx hb dX0_piece_139 (by decide) (fun q => ?_) (fun q => ?_)
      · replace hw := hw.1 q
        exact bX0_pieceB_179 F hnm hP hB hS hw hl
      · replace hw := hw.2 q
        refine lv_aload_n hx hb dX0_piece_142 rfl (lv_at hl 0 rfl) ?_
        refine cg_X0_60 F hB dX0_piece_143 ?_
        refine lv_aload_n hx hb dX0_piece_146 rfl (lv_at hl 0 rfl) ?_
        refine cg_X0_136 F hB dX0_piece_147 ?_
        obtain ⟨hin5, hw⟩ := hw
        refine cl_5 F hB hin5 dX0_piece_150 ?_
        refine kX0_X0_isDigit F.1 hw ⟨by show _ + 1 ≤ _; simp only [rX0_piece, rX0_term, rX0_sum, rX0_test, rX0_and, rX0_or, rX0_goes, rX0_isSign, rX0_isName, rX0_number, rX0_wrong, rX0_isDigit, rX0_isIn, rX13_add]; omega, by show _ + _ ≤ _; simp only [rX0_piece, rX0_term, rX0_sum, rX0_test, rX0_and, rX0_or, rX0_goes, rX0_isSign, rX0_isName, rX0_number, rX0_wrong, rX0_isDigit, rX0_isIn, rX13_add]; omega⟩ ⟨Nat.zero_le _, Nat.zero_le _⟩ hl.1 (Nat.le_of_ble_eq_true rfl) dX0_piece_151 (fun r6 hw => ?_)
        refine lv_if_eq (tgt := 179) hx hb dX0_piece_154 (by decide) (fun q => ?_) (fun q => ?_)
        · replace hw := hw.1 q
          exact bX0_pieceB_179 F hnm hP hB hS hw hl
        · replace hw := hw.2 q
          refine lv_aload_n hx hb dX0_piece_157 rfl (lv_at hl 0 rfl) ?_
          refine lv_dup hx hb dX0_piece_158 rfl ?_
          refine cg_X0_207 F hB dX0_piece_159 ?_
          refine lv_iconst (v := 1) hx hb dX0_piece_162 (by decide) ?_
          refine lv_iadd hx hb dX0_piece_163 ?_
          refine cp_X0_207 F hB hS dX0_piece_164 (fun H locs hB hS => ?_)
          refine lv_aload_n hx hb dX0_piece_167 rfl (lv_at hl 1 rfl) ?_
          refine lv_iconst (v := 1) hx hb dX0_piece_168 (by decide) ?_
          refine lv_aload_n hx hb dX0_piece_169 rfl (lv_at hl 0 rfl) ?_
          refine kX0_X0_number F hB hS hw ⟨by show _ + 1 ≤ _; simp only [rX0_piece, rX0_term, rX0_sum, rX0_test, rX0_and, rX0_or, rX0_goes, rX0_isSign, rX0_isName, rX0_number, rX0_wrong, rX0_isDigit, rX0_isIn, rX13_add]; omega, by show _ + _ ≤ _; simp only [rX0_piece, rX0_term, rX0_sum, rX0_test, rX0_and, rX0_or, rX0_goes, rX0_isSign, rX0_isName, rX0_number, rX0_wrong, rX0_isDigit, rX0_isIn, rX13_add]; omega⟩ ⟨Nat.zero_le _, Nat.zero_le _⟩ hl.1 (Nat.le_of_ble_eq_true rfl) dX0_piece_170 (fun r7 V8 H locs hw hB hS => ?_) (fun V8 H locs hw hB hS => ?_)
          · skip
            obtain ⟨f10, f11, f12, hm13, hw⟩ := hw
            refine kX0_X13_add F hB hS hm13 hw ⟨by show _ + 1 ≤ _; simp only [rX0_piece, rX0_term, rX0_sum, rX0_test, rX0_and, rX0_or, rX0_goes, rX0_isSign, rX0_isName, rX0_number, rX0_wrong, rX0_isDigit, rX0_isIn, rX13_add]; omega, by show _ + _ ≤ _; simp only [rX0_piece, rX0_term, rX0_sum, rX0_test, rX0_and, rX0_or, rX0_goes, rX0_isSign, rX0_isName, rX0_number, rX0_wrong, rX0_isDigit, rX0_isIn, rX13_add]; omega⟩ ⟨Nat.zero_le _, Nat.zero_le _⟩ hl.1 (Nat.le_of_ble_eq_true rfl) dX0_piece_173 (fun V14 H locs hw hB hS => ?_)
            refine lv_goto (tgt := 251) hx hb dX0_piece_176 (by decide) ?_
            refine W.retY ?_
            exact W.vret hx hb F.1.r (fun t ht hW => ⟨⟨_, rfl, hw, x_B (Bw := cB D A ad) ht hB⟩, hS.F ht⟩) hS.2.2 dX0_piece_251 (hlocks := F.1.k)
          · skip
            exact wt_out (Bw := cB D A ad) F.1 hnm q520 hw (fun t _ _ => rfl) hB hS
    · replace hw := hw.2 q
      refine lv_aload_n hx hb dX0_piece_69 rfl (lv_at hl 0 rfl) ?_
      refine cg_X0_204 F hB dX0_piece_70 ?_
      refine lv_bipush (v := 8) hx hb dX0_piece_73 (by decide) ?_
      refine lv_icmp_ne (tgt := 82) hx hb dX0_piece_75 (by decide) (fun q => ?_) (fun q => ?_)
      · replace hw := hw.2 q
        exact bX0_pieceB_82 F hnm hP hB hS hw hl
      · replace hw := hw.1 q
        refine lv_aload_n hx hb dX0_piece_78 rfl (lv_at hl 0 rfl) ?_
        refine kX0_X0_wrong F hB hS hw ⟨by show _ + 1 ≤ _; simp only [rX0_piece, rX0_term, rX0_sum, rX0_test, rX0_and, rX0_or, rX0_goes, rX0_isSign, rX0_isName, rX0_number, rX0_wrong, rX0_isDigit, rX0_isIn, rX13_add]; omega, by show _ + _ ≤ _; simp only [rX0_piece, rX0_term, rX0_sum, rX0_test, rX0_and, rX0_or, rX0_goes, rX0_isSign, rX0_isName, rX0_number, rX0_wrong, rX0_isDigit, rX0_isIn, rX13_add]; omega⟩ ⟨Nat.zero_le _, Nat.zero_le _⟩ hl.1 (Nat.le_of_ble_eq_true rfl) dX0_piece_79 (fun V16 H locs hw hB hS => ?_) (fun V16 H locs hw hB hS => ?_)
        · skip
          exact bX0_pieceB_82 F hnm hP hB hS hw hl
        · skip
          exact wt_out (Bw := cB D A ad) F.1 hnm q520 hw (fun t _ _ => rfl) hB hS
  · replace hw := hw.2 q
    refine lv_aload_n hx hb dX0_piece_9 rfl (lv_at hl 0 rfl) ?_
    refine cg_X0_201 F hB dX0_piece_10 ?_
    refine lv_bipush (v := 8) hx hb dX0_piece_13 (by decide) ?_
    refine lv_icmp_ne (tgt := 22) hx hb dX0_piece_15 (by decide) (fun q => ?_) (fun q => ?_)
    · replace hw := hw.2 q
      exact bX0_pieceB_22 F hnm hP hB hS hw hl
    · replace hw := hw.1 q
      refine lv_aload_n hx hb dX0_piece_18 rfl (lv_at hl 0 rfl) ?_
      refine kX0_X0_wrong F hB hS hw ⟨by show _ + 1 ≤ _; simp only [rX0_piece, rX0_term, rX0_sum, rX0_test, rX0_and, rX0_or, rX0_goes, rX0_isSign, rX0_isName, rX0_number, rX0_wrong, rX0_isDigit, rX0_isIn, rX13_add]; omega, by show _ + _ ≤ _; simp only [rX0_piece, rX0_term, rX0_sum, rX0_test, rX0_and, rX0_or, rX0_goes, rX0_isSign, rX0_isName, rX0_number, rX0_wrong, rX0_isDigit, rX0_isIn, rX13_add]; omega⟩ ⟨Nat.zero_le _, Nat.zero_le _⟩ hl.1 (Nat.le_of_ble_eq_true rfl) dX0_piece_19 (fun V18 H locs hw hB hS => ?_) (fun V18 H locs hw hB hS => ?_)
      · skip
        exact bX0_pieceB_22 F hnm hP hB hS hw hl
      · skip
        exact wt_out (Bw := cB D A ad) F.1 hnm q520 hw (fun t _ _ => rfl) hB hS
set_option maxHeartbeats 4000000 in
theorem mX0_pieceB {l : Launch} {D : DD} {A : Nat → Prop} {s0 : State} {ad : AD} {V : CV} {P : Nat → CV → (CV → Prop) → (CV → Prop) → Prop} {d : Nat} (hP : ∀ (a1 : Nat) (V : CV) (Q : CV → Prop) (E : CV → Prop), P a1 V Q E → MetY l yX0_piece (ws_ yX0_piece cX0_piece 2 (none)) (rX0_piece d) (va_Pc [.ref (ad 0 0 0), .ref a1] (fun U => cB D A ad V U.heap ∧ CX l D A s0 U)) (yQ (va_Qv Q (fun u t => cB D A ad u t.heap) A) E (fun x t => x = ad 6 0 0) (fun u t => cB D A ad u t.heap) A) 0 0 A) {a1 : Nat} {Q : CV → Prop} {E : CV → Prop} (hw : wX0_pieceB P a1 V Q E) : MetY l yX0_piece (ws_ yX0_piece cX0_piece 2 (none)) (rX0_piece (d + 1)) (va_Pc [.ref (ad 0 0 0), .ref a1] (fun U => cB D A ad V U.heap ∧ CX l D A s0 U)) (yQ (va_Qv Q (fun u t => cB D A ad u t.heap) A) E (fun x t => x = ad 6 0 0) (fun u t => cB D A ad u t.heap) A) 0 0 A := by
  refine MetY.ofW (cc := cX0_piece) (maxL := 2) (ret := none) (by decide) ?_
  intro p e s m args below meth c F1 hnm _ hv
  obtain ⟨rfl, hB, hC⟩ := hv
  have F : FX p l c cX0_piece s _ m RX0 D A s0 2 meth (none) := ⟨F1, hC⟩
  have hS : va_S A s.heap s.heap [] := va_S.rf
  have hl := lv_entry ([.ref (ad 0 0 0), .ref a1]) (n := 2) (Nat.le_of_ble_eq_true rfl)
  rw [lg_entry_eq]
  generalize (lg_sl ([.ref (ad 0 0 0), .ref a1]) ++ List.replicate (2 - (lg_sl ([.ref (ad 0 0 0), .ref a1])).length) Slot.unset).toArray = ls at hl ⊢
  exact bX0_pieceB_0 F hnm hP hB hS hw hl
theorem mX0_piece {l : Launch} {D : DD} {A : Nat → Prop} {s0 : State} {ad : AD} : ∀ (d : Nat), ∀ (a1 : Nat) (V : CV) (Q : CV → Prop) (E : CV → Prop), wX0_piece d a1 V Q E → MetY l yX0_piece (ws_ yX0_piece cX0_piece 2 (none)) (rX0_piece d) (va_Pc [.ref (ad 0 0 0), .ref a1] (fun U => cB D A ad V U.heap ∧ CX l D A s0 U)) (yQ (va_Qv Q (fun u t => cB D A ad u t.heap) A) E (fun x t => x = ad 6 0 0) (fun u t => cB D A ad u t.heap) A) 0 0 A := by
  intro d
  induction d with
  | zero => intro a1 V Q E hw; exact hw.elim
  | succ d ih => intro a1 V Q E hw; unfold wX0_piece at hw; exact mX0_pieceB (P := fun a V Q E => wX0_piece d a V Q E) (d := d) ih hw
def rX0_orC : Room := { frames := 173, cells := 0, slots := 0, locals := 8600 }
theorem mX0_orC {l : Launch} {D : DD} {A : Nat → Prop} {s0 : State} {ad : AD} {V : CV} {a1 : Nat} {Q : CV → Prop} {E : CV → Prop} (hw : wX0_orC a1 V Q E) : MetY l yX0_or (ws_ yX0_or cX0_or 2 (none)) rX0_orC (va_Pc [.ref (ad 0 0 0), .ref a1] (fun U => cB D A ad V U.heap ∧ CX l D A s0 U)) (yQ (va_Qv Q (fun u t => cB D A ad u t.heap) A) E (fun x t => x = ad 6 0 0) (fun u t => cB D A ad u t.heap) A) 0 0 A := mX0_or (d := 20) (mX0_piece 20) hw
theorem kX0_X0_orC {p : Program} {l : Launch} {e : Env} {R : Room} {s : State} {m : MethodId} {args : Array Value} {below : List Frame} {meth : Method} {c : Code} {H : Heap} {locs : List Loc} {cells slots : Nat} {Q0 : State → Prop} {cc : ByteArray} {pc nL : Nat} {ls : Array Slot} {rest : List Value} {ret : Option FieldType} {D : DD} {A : Nat → Prop} {s0 : State} {ad : AD} {V : CV} {a1 : Nat} {Q : CV → Prop} {E : CV → Prop} (F : FX p l c cc s args m RX0 D A s0 nL meth ret) (hB : cB D A ad V H) (hS : va_S A s.heap H locs) (hw : wX0_orC a1 V Q E) (hR : rX0_orC.frames + 1 ≤ R.frames ∧ 8 + (2 + 11) + rX0_orC.locals ≤ R.locals) (hc : cells + 0 ≤ R.cells ∧ slots + 0 ≤ R.slots) (hsz : ls.size = nL) (hW : (rest.map fun v => v.category).sum ≤ 8) (hdg : decode cc pc = .ok (.invokevirtual 172, 3)) (kk : ∀ (u : CV) (H1 : Heap) (locs1 : List Loc), Q u → cB D A ad u H1 → va_S A s.heap H1 locs1 → W p l e R s m args below meth c H1 locs1 cells slots Q0 (F0 m (pc + 3) ls (rest))) (ke : ∀ (u : CV) (H1 : Heap) (locs1 : List Loc), E u → cB D A ad u H1 → va_S A s.heap H1 locs1 → WT p l e R s m args below meth c H1 locs1 cells slots Q0 (F0 m pc ls rest) (ad 6 0 0)) : W p l e R s m args below meth c H locs cells slots Q0 (F0 m pc ls (.ref a1 :: .ref (ad 0 0 0) :: rest)) :=
  k_vY (Bw := cB D A ad) (k_runVY (Bw := cB D A ad) (n := 1) (As := [.ref a1]) F hB hS (c_at F (hB.pic cpic0) rfl) (mX0_orC hw) codeOf (lw_meth q500) q497 q499 qs8 (by decide +kernel) hR ⟨rfl, rfl⟩ hc rfl hsz rfl hW hdg) hS kk (fun x u H1 locs1 hE hK hB hS => by
    obtain ⟨t, h1, h2, h3⟩ := hK
    subst h3
    exact ke u H1 locs1 hE hB hS)
def rX0_expression : Room := { frames := 174, cells := 3, slots := 195, locals := 8621 }
set_option maxHeartbeats 4000000 in
theorem bX0_expression_0 {p : Program} {l : Launch} {e : Env} {s : State} {m : MethodId} {args : Array Value} {below : List Frame} {meth : Method} {c : Code} {D : DD} {A : Nat → Prop} {s0 : State} {ad : AD} {Q : Nat → CV → Prop} {E : CV → Prop} {V : CV} {H : Heap} {locs : List Loc} {ls : Array Slot} (F : FX p l c cX0_expression s args m RX0 D A s0 2 meth (some (.object "NeverSaid$Words"))) (hnm : s.methodNamed? yX0_expression = some m) (hB : cB D A ad V H) (hS : va_S A s.heap H locs) (hw : wX0_expression V Q E) (hl : lv_has ls 2 [(0, .ref (ad 0 0 0))]) : W p l e rX0_expression s m args below meth c H locs 0 0 (XMQ below (yQ (xa_Qn Q (fun u t => cB D A ad u t.heap) A) E (fun x t => x = ad 6 0 0) (fun u t => cB D A ad u t.heap) A) args s 3 195 A) (F0 m 0 ls []) := by
  have hx := F.1.x
  have hb := F.1.b
  unfold wX0_expression at hw
  refine nX0_113 F hB hS (by show 0 + 1 ≤ 3; omega) (by show 0 + 3 ≤ 195; omega) dX0_expression_0 (fun q1 H hq2 hB hS => ?_)
  replace hw := hw q1 hq2
  refine lv_dup hx hb dX0_expression_3 rfl ?_
  refine kX0_X13_init F hB hS hw ⟨Nat.le_of_ble_eq_true rfl, Nat.le_of_ble_eq_true rfl⟩ ⟨by show _ ≤ 3; omega, by show _ ≤ 195; omega⟩ hl.1 (Nat.le_of_ble_eq_true rfl) dX0_expression_4 (fun V4 H locs hw hB hS => ?_)
  refine lv_astore_n (lv' := [(1, .ref q1), (0, .ref (ad 0 0 0))]) hx hb dX0_expression_7 rfl hl (by decide) rfl (fun ls hl => ?_)
  refine lv_aload_n hx hb dX0_expression_8 rfl (lv_at hl 1 rfl) ?_
  refine lv_aload_n hx hb dX0_expression_9 rfl (lv_at hl 0 rfl) ?_
  refine kX0_X0_orC F hB hS hw ⟨Nat.le_of_ble_eq_true rfl, Nat.le_of_ble_eq_true rfl⟩ ⟨by show _ ≤ 3; omega, by show _ ≤ 195; omega⟩ hl.1 (Nat.le_of_ble_eq_true rfl) dX0_expression_10 (fun V6 H locs hw hB hS => ?_) (fun V6 H locs hw hB hS => ?_)
  · skip
    refine lv_aload_n hx hb dX0_expression_13 rfl (lv_at hl 0 rfl) ?_
    refine W.retY ?_
    exact W.aret hx hb F.1.r (Or.inl ⟨_, rfl⟩) (Or.inr ⟨_, rfl⟩) (fun t ht hW => xa_mk hw (x_B (Bw := cB D A ad) ht hB) (hS.F ht)) hS.2.2 dX0_expression_14 (hlocks := F.1.k)
  · skip
    exact wt_out (Bw := cB D A ad) F.1 hnm q477 hw (fun t _ _ => rfl) hB hS
set_option maxHeartbeats 4000000 in
theorem mX0_expression {l : Launch} {D : DD} {A : Nat → Prop} {s0 : State} {ad : AD} {V : CV}  {Q : Nat → CV → Prop} {E : CV → Prop} (hw : wX0_expression V Q E) : MetY l yX0_expression (ws_ yX0_expression cX0_expression 2 (some (.object "NeverSaid$Words"))) rX0_expression (va_Pc [.ref (ad 0 0 0)] (fun U => cB D A ad V U.heap ∧ CX l D A s0 U)) (yQ (xa_Qn Q (fun u t => cB D A ad u t.heap) A) E (fun x t => x = ad 6 0 0) (fun u t => cB D A ad u t.heap) A) 3 195 A := by
  refine MetY.ofW (cc := cX0_expression) (maxL := 2) (ret := some (.object "NeverSaid$Words")) (by decide) ?_
  intro p e s m args below meth c F1 hnm _ hv
  obtain ⟨rfl, hB, hC⟩ := hv
  have F : FX p l c cX0_expression s _ m RX0 D A s0 2 meth (some (.object "NeverSaid$Words")) := ⟨F1, hC⟩
  have hS : va_S A s.heap s.heap [] := va_S.rf
  have hl := lv_entry ([.ref (ad 0 0 0)]) (n := 2) (Nat.le_of_ble_eq_true rfl)
  rw [lg_entry_eq]
  generalize (lg_sl ([.ref (ad 0 0 0)]) ++ List.replicate (2 - (lg_sl ([.ref (ad 0 0 0)])).length) Slot.unset).toArray = ls at hl ⊢
  exact bX0_expression_0 F hnm hB hS hw hl
theorem kX0_X0_expression {p : Program} {l : Launch} {e : Env} {R : Room} {s : State} {m : MethodId} {args : Array Value} {below : List Frame} {meth : Method} {c : Code} {H : Heap} {locs : List Loc} {cells slots : Nat} {Q0 : State → Prop} {cc : ByteArray} {pc nL : Nat} {ls : Array Slot} {rest : List Value} {ret : Option FieldType} {D : DD} {A : Nat → Prop} {s0 : State} {ad : AD} {V : CV} {Q : Nat → CV → Prop} {E : CV → Prop} (F : FX p l c cc s args m RX0 D A s0 nL meth ret) (hB : cB D A ad V H) (hS : va_S A s.heap H locs) (hw : wX0_expression V Q E) (hR : rX0_expression.frames + 1 ≤ R.frames ∧ 8 + (2 + 11) + rX0_expression.locals ≤ R.locals) (hc : cells + 3 ≤ R.cells ∧ slots + 195 ≤ R.slots) (hsz : ls.size = nL) (hW : (rest.map fun v => v.category).sum ≤ 8) (hdg : decode cc pc = .ok (.invokevirtual 229, 3)) (kk : ∀ (r : Nat) (u : CV) (H1 : Heap) (locs1 : List Loc), Q r u → cB D A ad u H1 → va_S A s.heap H1 locs1 → W p l e R s m args below meth c H1 locs1 (cells + 3) (slots + 195) Q0 (F0 m (pc + 3) ls (.ref r :: rest))) (ke : ∀ (u : CV) (H1 : Heap) (locs1 : List Loc), E u → cB D A ad u H1 → va_S A s.heap H1 locs1 → WT p l e R s m args below meth c H1 locs1 (cells + 3) (slots + 195) Q0 (F0 m pc ls rest) (ad 6 0 0)) : W p l e R s m args below meth c H locs cells slots Q0 (F0 m pc ls (.ref (ad 0 0 0) :: rest)) :=
  k_nY (Bw := cB D A ad) (k_runVY (Bw := cB D A ad) (n := 0) (As := []) F hB hS (c_at F (hB.pic cpic0) rfl) (mX0_expression hw) codeOf (lw_meth q477) q474 q476 qs7 (by decide +kernel) hR ⟨rfl, rfl⟩ hc rfl hsz rfl hW hdg) hS kk (fun x u H1 locs1 hE hK hB hS => by
    obtain ⟨t, h1, h2, h3⟩ := hK
    subst h3
    exact ke u H1 locs1 hE hB hS)
def rX0_textRead : Room := { frames := 175, cells := 4, slots := 198, locals := 8642 }
set_option maxHeartbeats 4000000 in
theorem bX0_textRead_60 {p : Program} {l : Launch} {e : Env} {s : State} {m : MethodId} {args : Array Value} {below : List Frame} {meth : Method} {c : Code} {D : DD} {A : Nat → Prop} {s0 : State} {ad : AD} {Q : Nat → CV → Prop} {E : CV → Prop} {l1 : Nat} {V : CV} {H : Heap} {locs : List Loc} {ls : Array Slot} (F : FX p l c cX0_textRead s args m RX0 D A s0 2 meth (some (.object "NeverSaid$Text"))) (hnm : s.methodNamed? yX0_textRead = some m) (hB : cB D A ad V H) (hS : va_S A s.heap H locs) (hw : wX0_textRead_60 l1 V Q E) (hl : lv_has ls 2 [(0, .ref (ad 0 0 0)), (1, .ref l1)]) : W p l e rX0_textRead s m args below meth c H locs 3 195 (XMQ below (yQ (xa_Qn Q (fun u t => cB D A ad u t.heap) A) E (fun x t => x = ad 6 0 0) (fun u t => cB D A ad u t.heap) A) args s 4 198 A) (F0 m 60 ls []) := by
  have hx := F.1.x
  have hb := F.1.b
  unfold wX0_textRead_60 at hw
  refine nX0_233 F hB hS (by show 3 + 1 ≤ 4; omega) (by show 195 + 3 ≤ 198; omega) dX0_textRead_60 (fun q1 H hq2 hB hS => ?_)
  replace hw := hw q1 hq2
  refine lv_dup hx hb dX0_textRead_63 rfl ?_
  refine lv_aload_n hx hb dX0_textRead_64 rfl (lv_at hl 0 rfl) ?_
  refine cg_X0_198 F hB dX0_textRead_65 ?_
  refine lv_aload_n hx hb dX0_textRead_68 rfl (lv_at hl 1 rfl) ?_
  refine lv_aload_n hx hb dX0_textRead_69 rfl (lv_at hl 0 rfl) ?_
  refine cg_X0_207 F hB dX0_textRead_70 ?_
  refine kX0_X14_init F hB hS hw ⟨Nat.le_of_ble_eq_true rfl, Nat.le_of_ble_eq_true rfl⟩ ⟨by show _ ≤ 4; omega, by show _ ≤ 198; omega⟩ hl.1 (Nat.le_of_ble_eq_true rfl) dX0_textRead_73 (fun V4 H locs hw hB hS => ?_)
  refine W.retY ?_
  exact W.aret hx hb F.1.r (Or.inl ⟨_, rfl⟩) (Or.inr ⟨_, rfl⟩) (fun t ht hW => xa_mk hw (x_B (Bw := cB D A ad) ht hB) (hS.F ht)) hS.2.2 dX0_textRead_76 (hlocks := F.1.k)
set_option maxHeartbeats 4000000 in
theorem bX0_textRead_0 {p : Program} {l : Launch} {e : Env} {s : State} {m : MethodId} {args : Array Value} {below : List Frame} {meth : Method} {c : Code} {D : DD} {A : Nat → Prop} {s0 : State} {ad : AD} {Q : Nat → CV → Prop} {E : CV → Prop} {V : CV} {H : Heap} {locs : List Loc} {ls : Array Slot} (F : FX p l c cX0_textRead s args m RX0 D A s0 2 meth (some (.object "NeverSaid$Text"))) (hnm : s.methodNamed? yX0_textRead = some m) (hB : cB D A ad V H) (hS : va_S A s.heap H locs) (hw : wX0_textRead V Q E) (hl : lv_has ls 2 [(0, .ref (ad 0 0 0))]) : W p l e rX0_textRead s m args below meth c H locs 0 0 (XMQ below (yQ (xa_Qn Q (fun u t => cB D A ad u t.heap) A) E (fun x t => x = ad 6 0 0) (fun u t => cB D A ad u t.heap) A) args s 4 198 A) (F0 m 0 ls []) := by
  have hx := F.1.x
  have hb := F.1.b
  unfold wX0_textRead at hw
  refine lv_aload_n hx hb dX0_textRead_0 rfl (lv_at hl 0 rfl) ?_
  refine lv_aload_n hx hb dX0_textRead_1 rfl (lv_at hl 0 rfl) ?_
  refine cg_X0_127 F hB dX0_textRead_2 ?_
  refine cp_X0_145 F hB hS dX0_textRead_5 (fun H locs hB hS => ?_)
  refine lv_aload_n hx hb dX0_textRead_8 rfl (lv_at hl 0 rfl) ?_
  refine lv_iconst (v := 0) hx hb dX0_textRead_9 (by decide) ?_
  refine cp_X0_142 F hB hS dX0_textRead_10 (fun H locs hB hS => ?_)
  refine lv_aload_n hx hb dX0_textRead_13 rfl (lv_at hl 0 rfl) ?_
  refine lv_iconst (v := 0) hx hb dX0_textRead_14 (by decide) ?_
  refine cp_X0_204 F hB hS dX0_textRead_15 (fun H locs hB hS => ?_)
  refine lv_aload_n hx hb dX0_textRead_18 rfl (lv_at hl 0 rfl) ?_
  refine lv_iconst (v := 0) hx hb dX0_textRead_19 (by decide) ?_
  refine cp_X0_201 F hB hS dX0_textRead_20 (fun H locs hB hS => ?_)
  refine lv_aload_n hx hb dX0_textRead_23 rfl (lv_at hl 0 rfl) ?_
  refine lv_iconst (v := 0) hx hb dX0_textRead_24 (by decide) ?_
  refine cp_X0_207 F hB hS dX0_textRead_25 (fun H locs hB hS => ?_)
  refine lv_aload_n hx hb dX0_textRead_28 rfl (lv_at hl 0 rfl) ?_
  refine kX0_X0_goes F hB hS hw ⟨Nat.le_of_ble_eq_true rfl, Nat.le_of_ble_eq_true rfl⟩ ⟨by show _ ≤ 4; omega, by show _ ≤ 198; omega⟩ hl.1 (Nat.le_of_ble_eq_true rfl) dX0_textRead_29 (fun V2 H locs hw hB hS => ?_) (fun V2 H locs hw hB hS => ?_)
  · skip
    refine lv_aload_n hx hb dX0_textRead_32 rfl (lv_at hl 0 rfl) ?_
    refine lv_aload_n hx hb dX0_textRead_33 rfl (lv_at hl 0 rfl) ?_
    refine kX0_X0_key F hB hS hw ⟨Nat.le_of_ble_eq_true rfl, Nat.le_of_ble_eq_true rfl⟩ ⟨by show _ ≤ 4; omega, by show _ ≤ 198; omega⟩ hl.1 (Nat.le_of_ble_eq_true rfl) dX0_textRead_34 (fun r3 V4 H locs hw hB hS => ?_) (fun V4 H locs hw hB hS => ?_)
    · skip
      refine cp_X0_198 F hB hS dX0_textRead_37 (fun H locs hB hS => ?_)
      refine lv_aload_n hx hb dX0_textRead_40 rfl (lv_at hl 0 rfl) ?_
      refine kX0_X0_expression F hB hS hw ⟨Nat.le_of_ble_eq_true rfl, Nat.le_of_ble_eq_true rfl⟩ ⟨by show _ ≤ 4; omega, by show _ ≤ 198; omega⟩ hl.1 (Nat.le_of_ble_eq_true rfl) dX0_textRead_41 (fun r5 V6 H locs hw hB hS => ?_) (fun V6 H locs hw hB hS => ?_)
      · skip
        refine lv_astore_n (lv' := [(1, .ref r5), (0, .ref (ad 0 0 0))]) hx hb dX0_textRead_44 rfl hl (by decide) rfl (fun ls hl => ?_)
        refine lv_aload_n hx hb dX0_textRead_45 rfl (lv_at hl 1 rfl) ?_
        refine cg_X0_136 F hB dX0_textRead_46 ?_
        refine lv_aload_n hx hb dX0_textRead_49 rfl (lv_at hl 1 rfl) ?_
        refine cg_X0_145 F hB dX0_textRead_50 ?_
        refine lv_icmp_ge (tgt := 60) hx hb dX0_textRead_53 (by decide) (fun q => ?_) (fun q => ?_)
        · replace hw := hw.1 q
          exact bX0_textRead_60 F hnm hB hS hw (lv_sub hl [1, 0] rfl)
        · replace hw := hw.2 q
          refine lv_aload_n hx hb dX0_textRead_56 rfl (lv_at hl 1 rfl) ?_
          refine kX0_X0_wrong F hB hS hw ⟨Nat.le_of_ble_eq_true rfl, Nat.le_of_ble_eq_true rfl⟩ ⟨by show _ ≤ 4; omega, by show _ ≤ 198; omega⟩ hl.1 (Nat.le_of_ble_eq_true rfl) dX0_textRead_57 (fun V8 H locs hw hB hS => ?_) (fun V8 H locs hw hB hS => ?_)
          · skip
            exact bX0_textRead_60 F hnm hB hS hw (lv_sub hl [1, 0] rfl)
          · skip
            refine WT.widen (k := 4) (n := 198) (by omega) (by omega) ?_
            exact wt_out (Bw := cB D A ad) F.1 hnm q400 hw (fun t _ _ => rfl) hB hS
      · skip
        refine WT.widen (k := 4) (n := 198) (by omega) (by omega) ?_
        exact wt_out (Bw := cB D A ad) F.1 hnm q400 hw (fun t _ _ => rfl) hB hS
    · skip
      refine WT.widen (k := 4) (n := 198) (by omega) (by omega) ?_
      exact wt_out (Bw := cB D A ad) F.1 hnm q400 hw (fun t _ _ => rfl) hB hS
  · skip
    refine WT.widen (k := 4) (n := 198) (by omega) (by omega) ?_
    exact wt_out (Bw := cB D A ad) F.1 hnm q400 hw (fun t _ _ => rfl) hB hS
set_option maxHeartbeats 4000000 in
theorem mX0_textRead {l : Launch} {D : DD} {A : Nat → Prop} {s0 : State} {ad : AD} {V : CV}  {Q : Nat → CV → Prop} {E : CV → Prop} (hw : wX0_textRead V Q E) : MetY l yX0_textRead (ws_ yX0_textRead cX0_textRead 2 (some (.object "NeverSaid$Text"))) rX0_textRead (va_Pc [.ref (ad 0 0 0)] (fun U => cB D A ad V U.heap ∧ CX l D A s0 U)) (yQ (xa_Qn Q (fun u t => cB D A ad u t.heap) A) E (fun x t => x = ad 6 0 0) (fun u t => cB D A ad u t.heap) A) 4 198 A := by
  refine MetY.ofW (cc := cX0_textRead) (maxL := 2) (ret := some (.object "NeverSaid$Text")) (by decide) ?_
  intro p e s m args below meth c F1 hnm _ hv
  obtain ⟨rfl, hB, hC⟩ := hv
  have F : FX p l c cX0_textRead s _ m RX0 D A s0 2 meth (some (.object "NeverSaid$Text")) := ⟨F1, hC⟩
  have hS : va_S A s.heap s.heap [] := va_S.rf
  have hl := lv_entry ([.ref (ad 0 0 0)]) (n := 2) (Nat.le_of_ble_eq_true rfl)
  rw [lg_entry_eq]
  generalize (lg_sl ([.ref (ad 0 0 0)]) ++ List.replicate (2 - (lg_sl ([.ref (ad 0 0 0)])).length) Slot.unset).toArray = ls at hl ⊢
  exact bX0_textRead_0 F hnm hB hS hw hl
theorem kX0_X0_textRead {p : Program} {l : Launch} {e : Env} {R : Room} {s : State} {m : MethodId} {args : Array Value} {below : List Frame} {meth : Method} {c : Code} {H : Heap} {locs : List Loc} {cells slots : Nat} {Q0 : State → Prop} {cc : ByteArray} {pc nL : Nat} {ls : Array Slot} {rest : List Value} {ret : Option FieldType} {D : DD} {A : Nat → Prop} {s0 : State} {ad : AD} {V : CV} {Q : Nat → CV → Prop} {E : CV → Prop} (F : FX p l c cc s args m RX0 D A s0 nL meth ret) (hB : cB D A ad V H) (hS : va_S A s.heap H locs) (hw : wX0_textRead V Q E) (hR : rX0_textRead.frames + 1 ≤ R.frames ∧ 8 + (2 + 11) + rX0_textRead.locals ≤ R.locals) (hc : cells + 4 ≤ R.cells ∧ slots + 198 ≤ R.slots) (hsz : ls.size = nL) (hW : (rest.map fun v => v.category).sum ≤ 8) (hdg : decode cc pc = .ok (.invokevirtual 238, 3)) (kk : ∀ (r : Nat) (u : CV) (H1 : Heap) (locs1 : List Loc), Q r u → cB D A ad u H1 → va_S A s.heap H1 locs1 → W p l e R s m args below meth c H1 locs1 (cells + 4) (slots + 198) Q0 (F0 m (pc + 3) ls (.ref r :: rest))) (ke : ∀ (u : CV) (H1 : Heap) (locs1 : List Loc), E u → cB D A ad u H1 → va_S A s.heap H1 locs1 → WT p l e R s m args below meth c H1 locs1 (cells + 4) (slots + 198) Q0 (F0 m pc ls rest) (ad 6 0 0)) : W p l e R s m args below meth c H locs cells slots Q0 (F0 m pc ls (.ref (ad 0 0 0) :: rest)) :=
  k_nY (Bw := cB D A ad) (k_runVY (Bw := cB D A ad) (n := 0) (As := []) F hB hS (c_at F (hB.pic cpic0) rfl) (mX0_textRead hw) codeOf (lw_meth q400) q397 q399 qs2 (by decide +kernel) hR ⟨rfl, rfl⟩ hc rfl hsz rfl hW hdg) hS kk (fun x u H1 locs1 hE hK hB hS => by
    obtain ⟨t, h1, h2, h3⟩ := hK
    subst h3
    exact ke u H1 locs1 hE hB hS)
def rX0_text : Room := { frames := 176, cells := 4, slots := 198, locals := 8663 }
set_option maxHeartbeats 4000000 in
theorem bX0_text_0 {p : Program} {l : Launch} {e : Env} {s : State} {m : MethodId} {args : Array Value} {below : List Frame} {meth : Method} {c : Code} {D : DD} {A : Nat → Prop} {s0 : State} {ad : AD} {Q : Int32 → CV → Prop} {V : CV} {H : Heap} {locs : List Loc} {ls : Array Slot} (F : FX p l c cX0_text s args m RX0 D A s0 4 meth (some .int)) (hnm : s.methodNamed? yX0_text = some m) (hB : cB D A ad V H) (hS : va_S A s.heap H locs) (hw : wX0_text V Q) (hl : lv_has ls 4 [(0, .ref (ad 0 0 0))]) : W p l e rX0_text s m args below meth c H locs 0 0 (XMQ below (va_Qi Q (fun u t => cB D A ad u t.heap) A) args s 4 198 A) (F0 m 0 ls []) := by
  have hx := F.1.x
  have hb := F.1.b
  unfold wX0_text at hw
  refine lv_aload_n hx hb dX0_text_0 rfl (lv_at hl 0 rfl) ?_
  refine kX0_X0_textRead F hB hS hw ⟨Nat.le_of_ble_eq_true rfl, Nat.le_of_ble_eq_true rfl⟩ ⟨by show _ ≤ 4; omega, by show _ ≤ 198; omega⟩ hl.1 (Nat.le_of_ble_eq_true rfl) dX0_text_1 (fun r1 V2 H locs hw hB hS => ?_) (fun V2 H locs hw hB hS => ?_)
  · skip
    refine lv_astore_n (lv' := [(1, .ref r1), (0, .ref (ad 0 0 0))]) hx hb dX0_text_4 rfl hl (by decide) rfl (fun ls hl => ?_)
    refine lv_aload_n hx hb dX0_text_5 rfl (lv_at hl 1 rfl) ?_
    refine cg_X0_46 F hB dX0_text_6 ?_
    refine cg_X0_242 F hB (by decide) dX0_text_9 ?_
    refine lv_bipush (v := 14) hx hb dX0_text_12 (by decide) ?_
    refine lv_icmp_ne (tgt := 27) hx hb dX0_text_14 (by decide) (fun q => ?_) (fun q => ?_)
    · replace hw := hw.2 q
      refine lv_aload_n hx hb dX0_text_27 rfl (lv_at hl 1 rfl) ?_
      refine cg_X0_46 F hB dX0_text_28 ?_
      refine cg_X0_245 F hB (by decide) dX0_text_31 ?_
      refine lv_aload_n hx hb dX0_text_34 rfl (lv_at hl 1 rfl) ?_
      refine cg_X0_46 F hB dX0_text_35 ?_
      refine cg_X0_242 F hB (by decide) dX0_text_38 ?_
      refine lv_aload_n hx hb dX0_text_41 rfl (lv_at hl 0 rfl) ?_
      obtain ⟨f4, f5, f6, hm7, hw⟩ := hw
      obtain ⟨hin3, hw⟩ := hw
      refine ct_Tx F hB hS (by decide) hm7 hin3 dX0_text_42 (fun H locs hB hS => ?_)
      refine lv_aload_n hx hb dX0_text_43 rfl (lv_at hl 1 rfl) ?_
      refine cg_X0_46 F hB dX0_text_44 ?_
      refine lv_dup hx hb dX0_text_47 rfl ?_
      refine cg_X0_242 F hB (by decide) dX0_text_48 ?_
      refine lv_iconst (v := 1) hx hb dX0_text_51 (by decide) ?_
      refine lv_iadd hx hb dX0_text_52 ?_
      refine cp_X0_242 F hB hS (by decide) dX0_text_53 (fun H locs hB hS => ?_)
      refine lv_aload_n hx hb dX0_text_56 rfl (lv_at hl 1 rfl) ?_
      refine cg_X0_46 F hB dX0_text_57 ?_
      refine cg_X0_242 F hB (by decide) dX0_text_60 ?_
      refine lv_iconst (v := 1) hx hb dX0_text_63 (by decide) ?_
      refine lv_isub hx hb dX0_text_64 ?_
      refine lv_topi (fun x8 e9 => ?_)
      replace hw := hw x8 e9
      refine lv_istore_n (lv' := [(2, .int x8), (1, .ref r1), (0, .ref (ad 0 0 0))]) hx hb dX0_text_65 rfl hl (by decide) rfl (fun ls hl => ?_)
      refine lv_aload_n hx hb dX0_text_66 rfl (lv_at hl 2 rfl) ?_
      refine lv_iconst (v := 0) hx hb dX0_text_67 (by decide) ?_
      refine cp_X0_127 F hB hS dX0_text_68 (fun H locs hB hS => ?_)
      refine lv_iload_n hx hb dX0_text_71 rfl (lv_at hl 0 rfl) ?_
      refine W.retX ?_
      exact W.iret hx hb F.1.r (fun t ht hW => ⟨⟨_, _, rfl, hw, x_B (Bw := cB D A ad) ht hB⟩, hS.F ht⟩) hS.2.2 dX0_text_72 (hlocks := F.1.k)
    · replace hw := hw.1 q
      refine lv_ldc hx hb F.1.o (F.1.t _ q380) dX0_text_17 ?_
      refine lv_istore_n (lv' := [(2, .int (-1000000003 : Int32)), (1, .ref r1), (0, .ref (ad 0 0 0))]) hx hb dX0_text_19 rfl hl (by decide) rfl (fun ls hl => ?_)
      refine lv_aload_n hx hb dX0_text_20 rfl (lv_at hl 2 rfl) ?_
      refine lv_iconst (v := 0) hx hb dX0_text_21 (by decide) ?_
      refine cp_X0_127 F hB hS dX0_text_22 (fun H locs hB hS => ?_)
      refine lv_iload_n hx hb dX0_text_25 rfl (lv_at hl 0 rfl) ?_
      refine W.retX ?_
      exact W.iret hx hb F.1.r (fun t ht hW => ⟨⟨_, _, rfl, hw, x_B (Bw := cB D A ad) ht hB⟩, hS.F ht⟩) hS.2.2 dX0_text_26 (hlocks := F.1.k)
  · skip
    refine wt_catch (C := "NeverSaid$Fault") F.1 hnm (hs := [(0, 20, 73, 64), (27, 66, 73, 64), (0, 20, 89, 0), (27, 66, 89, 0), (73, 82, 89, 0)]) (pre := []) (rst := [(27, 66, 73, 64), (0, 20, 89, 0), (27, 66, 89, 0), (73, 82, 89, 0)]) (s1 := 0) (s2 := 20) (hpc := 73) (ct := 64) q396 rfl (by decide) (by decide) (by decide) q207 (c_self F (hB.pic cpic6) rfl) ?_
    refine lv_astore_n (lv' := [(1, .ref (ad 6 0 0)), (0, .ref (ad 0 0 0))]) hx hb dX0_text_73 rfl hl (by decide) rfl (fun ls hl => ?_)
    refine lv_bipush (v := -100) hx hb dX0_text_74 (by decide) ?_
    refine lv_aload_n hx hb dX0_text_76 rfl (lv_at hl 0 rfl) ?_
    obtain ⟨x10, h11, hw⟩ := hw
    refine cg_X0_139 F hB h11 dX0_text_77 ?_
    refine lv_isub hx hb dX0_text_80 ?_
    refine lv_istore_n (lv' := [(2, .int ((-100 : Int32) - x10)), (1, .ref (ad 6 0 0)), (0, .ref (ad 0 0 0))]) hx hb dX0_text_81 rfl hl (by decide) rfl (fun ls hl => ?_)
    refine lv_aload_n hx hb dX0_text_82 rfl (lv_at hl 2 rfl) ?_
    refine lv_iconst (v := 0) hx hb dX0_text_83 (by decide) ?_
    refine cp_X0_127 F hB hS dX0_text_84 (fun H locs hB hS => ?_)
    refine lv_iload_n hx hb dX0_text_87 rfl (lv_at hl 0 rfl) ?_
    refine W.retX ?_
    exact W.iret hx hb F.1.r (fun t ht hW => ⟨⟨_, _, rfl, hw, x_B (Bw := cB D A ad) ht hB⟩, hS.F ht⟩) hS.2.2 dX0_text_88 (hlocks := F.1.k)
set_option maxHeartbeats 4000000 in
theorem mX0_text {l : Launch} {D : DD} {A : Nat → Prop} {s0 : State} {ad : AD} {V : CV}  {Q : Int32 → CV → Prop} (hw : wX0_text V Q) : MetY l yX0_text (wsW_ yX0_text cX0_text 4 (some .int) [(0, 20, 73, 64), (27, 66, 73, 64), (0, 20, 89, 0), (27, 66, 89, 0), (73, 82, 89, 0)]) rX0_text (va_Pc [.ref (ad 0 0 0)] (fun U => cB D A ad V U.heap ∧ CX l D A s0 U)) (va_Qi Q (fun u t => cB D A ad u t.heap) A) 4 198 A := by
  refine MetY.ofWW (cc := cX0_text) (maxL := 4) (ret := some .int) (by decide) ?_
  intro p e s m args below meth c F1 hnm _ hv
  obtain ⟨rfl, hB, hC⟩ := hv
  have F : FX p l c cX0_text s _ m RX0 D A s0 4 meth (some .int) := ⟨F1, hC⟩
  have hS : va_S A s.heap s.heap [] := va_S.rf
  have hl := lv_entry ([.ref (ad 0 0 0)]) (n := 4) (Nat.le_of_ble_eq_true rfl)
  rw [lg_entry_eq]
  generalize (lg_sl ([.ref (ad 0 0 0)]) ++ List.replicate (4 - (lg_sl ([.ref (ad 0 0 0)])).length) Slot.unset).toArray = ls at hl ⊢
  exact bX0_text_0 F hnm hB hS hw hl
