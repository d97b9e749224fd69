set_option maxRecDepth 100000
theorem CX.nc {l : Launch} {D : DD} {A : Nat → Prop} {s0 s : State} (hC : CX l D A s0 s) {C T : String} (hm : Cond.not (.castable C T) ∈ flatC (Jvm.Cond.and given_1 narrow_1)) : va_Nc C T s := by
  obtain ⟨b, -, hg, -⟩ := hC.2.2.2.2.2
  exact (va_Nc.of (flat_of_before _ hg _ hm)).moved hC.2.1.alike
theorem ncq_0 : Cond.not (.castable "[S" "[F") ∈ flatC (Jvm.Cond.and given_1 narrow_1) := by decide +kernel
theorem ncq_1 : Cond.not (.castable "NeverSaid$Speaker" "NeverSaid$Sheet") ∈ flatC (Jvm.Cond.and given_1 narrow_1) := by decide +kernel
theorem ncq_2 : Cond.not (.castable "NeverSaid$SureSpeaker" "NeverSaid$Sheet") ∈ flatC (Jvm.Cond.and given_1 narrow_1) := by decide +kernel
theorem ncq_3 : Cond.not (.castable "NeverSaid$LoyalSpeaker" "NeverSaid$Sheet") ∈ flatC (Jvm.Cond.and given_1 narrow_1) := by decide +kernel
theorem ncq_4 : Cond.not (.castable "NeverSaid$OrderedSpeaker" "NeverSaid$Sheet") ∈ flatC (Jvm.Cond.and given_1 narrow_1) := by decide +kernel
theorem ncq_5 : Cond.not (.castable "NeverSaid$BoughtSpeaker" "NeverSaid$Sheet") ∈ flatC (Jvm.Cond.and given_1 narrow_1) := by decide +kernel
theorem ncq_6 : Cond.not (.castable "NeverSaid$LyingSpeaker" "NeverSaid$Sheet") ∈ flatC (Jvm.Cond.and given_1 narrow_1) := by decide +kernel
theorem ncq_7 : Cond.not (.castable "NeverSaid$Speaker" "NeverSaid$Figure") ∈ flatC (Jvm.Cond.and given_1 narrow_1) := by decide +kernel
theorem ncq_8 : Cond.not (.castable "NeverSaid$SureSpeaker" "NeverSaid$Figure") ∈ flatC (Jvm.Cond.and given_1 narrow_1) := by decide +kernel
theorem ncq_9 : Cond.not (.castable "NeverSaid$LoyalSpeaker" "NeverSaid$Figure") ∈ flatC (Jvm.Cond.and given_1 narrow_1) := by decide +kernel
theorem ncq_10 : Cond.not (.castable "NeverSaid$OrderedSpeaker" "NeverSaid$Figure") ∈ flatC (Jvm.Cond.and given_1 narrow_1) := by decide +kernel
theorem ncq_11 : Cond.not (.castable "NeverSaid$BoughtSpeaker" "NeverSaid$Figure") ∈ flatC (Jvm.Cond.and given_1 narrow_1) := by decide +kernel
theorem ncq_12 : Cond.not (.castable "NeverSaid$LyingSpeaker" "NeverSaid$Figure") ∈ flatC (Jvm.Cond.and given_1 narrow_1) := by decide +kernel
theorem ncq_13 : Cond.not (.castable "NeverSaid$Sheet" "NeverSaid$Speaker") ∈ flatC (Jvm.Cond.and given_1 narrow_1) := by decide +kernel
theorem ncq_14 : Cond.not (.castable "NeverSaid$Figure" "NeverSaid$Speaker") ∈ flatC (Jvm.Cond.and given_1 narrow_1) := by decide +kernel
theorem ncq_15 : Cond.not (.castable "NeverSaid$Figure" "NeverSaid$Sheet") ∈ flatC (Jvm.Cond.and given_1 narrow_1) := by decide +kernel
theorem ncq_16 : Cond.not (.castable "NeverSaid$Sheet" "NeverSaid$Figure") ∈ flatC (Jvm.Cond.and given_1 narrow_1) := by decide +kernel
section INST
variable {p : Program} {l : Launch} {e : Env} {R : Room} {s : State} {m : MethodId} {args : Array Value} {below : List Frame} {meth : Method} {c : Code} {H : Heap} {locs : List Loc} {cells slots : Nat} {Q : State → Prop}
variable {cc : ByteArray} {pc index : Nat} {ls : Array Slot} {rest : List Value} {D : DD} {A : Nat → Prop} {s0 : State} {own nm : String} {nL : Nat} {ret : Option FieldType} {ad : AD} {V : CV} {a : Nat}
theorem c_arr (F : FX p l c cc s args m own D A s0 nL meth ret) {x : vp_A} {t : Nat} {ty : FieldType} (ht : (tyK D)[t]? = some (D.2 t, ty)) (hRA : va_RA s (D.2 t) ty → s.vm.findClass nm = some (D.2 t)) (he : va_at D.1 vwCl (a, .inl (D.2 t, x)) H) : ∃ cell : Cell, H[a]? = some cell ∧ cell.vm.isStatics = false ∧ s.vm.findClass nm = some cell.cls := by
  have hvm0 : (vp_cell (D.2 t) x).vm = .none := by
    obtain ⟨n, f | f | f | f | f⟩ := x <;> rfl
  have hcl0 : (vp_cell (D.2 t) x).cls = D.2 t := by
    obtain ⟨n, f | f | f | f | f⟩ := x <;> rfl
  exact ⟨_, he, by rw [hvm0]; rfl, by rw [hcl0]; exact hRA ((F.2.1).2 t _ ht).2⟩
theorem c_castX (F : FX p l c cc s args m own D A s0 nL meth ret) (hl : Cond.classLink own index nm ∈ lw_all) (hr : ∃ cell : Cell, H[a]? = some cell ∧ cell.vm.isStatics = false ∧ s.vm.findClass nm = some cell.cls) (hdg : decode cc pc = .ok (.checkcast index, 3)) (kk : W p l e R s m args below meth c H locs cells slots Q (F0 m (pc + 3) ls (.ref a :: rest))) : W p l e R s m args below meth c H locs cells slots Q (F0 m pc ls (.ref a :: rest)) := by
  obtain ⟨cell, h1, h2, h3⟩ := hr
  intro T hT X
  obtain ⟨vm', X', st⟩ := X.checkcastYes F.1.x F.1.o (F.1.t _ hl) (by rw [hT]; exact h1) h2 h3 (va_asg _ _) (g := F0 m pc ls (.ref a :: rest)) rfl rfl (by rw [F.1.b]; exact hdg)
  obtain ⟨t, a1, b1⟩ := kk (T.setVm vm') hT X'
  exact ⟨t, st t a1, b1⟩
theorem c_instX (F : FX p l c cc s args m own D A s0 nL meth ret) (hl : Cond.classLink own index nm ∈ lw_all) (hr : ∃ cell : Cell, H[a]? = some cell ∧ cell.vm.isStatics = false ∧ s.vm.findClass nm = some cell.cls) (hdg : decode cc pc = .ok (.instanceof index, 3)) (kk : W p l e R s m args below meth c H locs cells slots Q (F0 m (pc + 3) ls (.int 1 :: rest))) : W p l e R s m args below meth c H locs cells slots Q (F0 m pc ls (.ref a :: rest)) := by
  obtain ⟨cell, h1, h2, h3⟩ := hr
  intro T hT X
  obtain ⟨vm', X', st⟩ := X.instanceofYes F.1.x F.1.o (F.1.t _ hl) (by rw [hT]; exact h1) h2 h3 (va_asg _ _) (g := F0 m pc ls (.ref a :: rest)) rfl rfl (by rw [F.1.b]; exact hdg)
  obtain ⟨t, a1, b1⟩ := kk (T.setVm vm') hT X'
  exact ⟨t, st t a1, b1⟩
theorem dc_F (F : FX p l c cc s args m own D A s0 nL meth ret) (hB : cB D A ad V H) {n : Nat} {f : Nat → UInt32} (hm : vM V a = some (eFA n f)) (hl : Cond.classLink own index "[F" ∈ lw_all) (hdg : decode cc pc = .ok (.checkcast index, 3)) (kk : W p l e R s m args below meth c H locs cells slots Q (F0 m (pc + 3) ls (.ref a :: rest))) : W p l e R s m args below meth c H locs cells slots Q (F0 m pc ls (.ref a :: rest)) := c_castX F hl (c_arr F (t := 3) rfl (fun h => h) (hB.dyn hm)) hdg kk
theorem dc_H (F : FX p l c cc s args m own D A s0 nL meth ret) (hB : cB D A ad V H) {n : Nat} {f : Nat → Int32} (hm : vM V a = some (eHA n f)) (hl : Cond.classLink own index "[S" ∈ lw_all) (hdg : decode cc pc = .ok (.checkcast index, 3)) (kk : W p l e R s m args below meth c H locs cells slots Q (F0 m (pc + 3) ls (.ref a :: rest))) : W p l e R s m args below meth c H locs cells slots Q (F0 m pc ls (.ref a :: rest)) := c_castX F hl (c_arr F (t := 2) rfl (fun h => h) (hB.dyn hm)) hdg kk
theorem di_FF (F : FX p l c cc s args m own D A s0 nL meth ret) (hB : cB D A ad V H) {n : Nat} {f : Nat → UInt32} (hm : vM V a = some (eFA n f)) (hl : Cond.classLink own index "[F" ∈ lw_all) (hdg : decode cc pc = .ok (.instanceof index, 3)) (kk : W p l e R s m args below meth c H locs cells slots Q (F0 m (pc + 3) ls (.int 1 :: rest))) : W p l e R s m args below meth c H locs cells slots Q (F0 m pc ls (.ref a :: rest)) := c_instX F hl (c_arr F (t := 3) rfl (fun h => h) (hB.dyn hm)) hdg kk
theorem di_FH (F : FX p l c cc s args m own D A s0 nL meth ret) (hB : cB D A ad V H) {n : Nat} {f : Nat → Int32} (hm : vM V a = some (eHA n f)) (hl : Cond.classLink own index "[F" ∈ lw_all) (hdg : decode cc pc = .ok (.instanceof index, 3)) (kk : W p l e R s m args below meth c H locs cells slots Q (F0 m (pc + 3) ls (.int 0 :: rest))) : W p l e R s m args below meth c H locs cells slots Q (F0 m pc ls (.ref a :: rest)) := va_instNo F.1.x F.1.b (C := "[S") F.1.o (F.1.t _ hl) (F.2.nc ncq_0) (c_arr F (t := 2) rfl (fun h => h) (hB.dyn hm)) hdg kk
theorem dc_X4 (F : FX p l c cc s args m own D A s0 nL meth ret) (hB : cB D A ad V H) {f0 : Option Nat} (hm : vM V a = some (eSh f0)) (hl : Cond.classLink own index RX4 ∈ lw_all) (hdg : decode cc pc = .ok (.checkcast index, 3)) (kk : W p l e R s m args below meth c H locs cells slots Q (F0 m (pc + 3) ls (.ref a :: rest))) : W p l e R s m args below meth c H locs cells slots Q (F0 m pc ls (.ref a :: rest)) := c_castX F hl (c_at F (hB.dyn hm) rfl) hdg kk
theorem dc_X15 (F : FX p l c cc s args m own D A s0 nL meth ret) (hB : cB D A ad V H) {f0 : Int32} (hm : vM V a = some (eFg f0)) (hl : Cond.classLink own index RX15 ∈ lw_all) (hdg : decode cc pc = .ok (.checkcast index, 3)) (kk : W p l e R s m args below meth c H locs cells slots Q (F0 m (pc + 3) ls (.ref a :: rest))) : W p l e R s m args below meth c H locs cells slots Q (F0 m pc ls (.ref a :: rest)) := c_castX F hl (c_at F (hB.dyn hm) rfl) hdg kk
theorem di_X7_spk (F : FX p l c cc s args m own D A s0 nL meth ret) (hB : cB D A ad V H) {k : Nat} {b : Int32} (hk : isSpk k) (hm : vM V a = some (eSp k b)) (hl : Cond.classLink own index RX7 ∈ lw_all) (hdg : decode cc pc = .ok (.instanceof index, 3)) (kk : W p l e R s m args below meth c H locs cells slots Q (F0 m (pc + 3) ls (.int 1 :: rest))) : W p l e R s m args below meth c H locs cells slots Q (F0 m pc ls (.ref a :: rest)) := by
  rcases hk.or with rfl | rfl | rfl | rfl | rfl | rfl
  · exact c_instX F hl (c_at F (hB.dyn hm) rfl) hdg kk
  · exact va_instY F.1.x F.1.b (C := "NeverSaid$SureSpeaker") F.1.o (F.1.t _ hl) (F.2.cast q1725) (c_at F (hB.dyn hm) rfl) hdg kk
  · exact va_instY F.1.x F.1.b (C := "NeverSaid$LoyalSpeaker") F.1.o (F.1.t _ hl) (F.2.cast q1722) (c_at F (hB.dyn hm) rfl) hdg kk
  · exact va_instY F.1.x F.1.b (C := "NeverSaid$OrderedSpeaker") F.1.o (F.1.t _ hl) (F.2.cast q1724) (c_at F (hB.dyn hm) rfl) hdg kk
  · exact va_instY F.1.x F.1.b (C := "NeverSaid$BoughtSpeaker") F.1.o (F.1.t _ hl) (F.2.cast q1721) (c_at F (hB.dyn hm) rfl) hdg kk
  · exact va_instY F.1.x F.1.b (C := "NeverSaid$LyingSpeaker") F.1.o (F.1.t _ hl) (F.2.cast q1723) (c_at F (hB.dyn hm) rfl) hdg kk
theorem di_X7_X4 (F : FX p l c cc s args m own D A s0 nL meth ret) (hB : cB D A ad V H) {f0 : Option Nat} (hm : vM V a = some (eSh f0)) (hl : Cond.classLink own index RX7 ∈ lw_all) (hdg : decode cc pc = .ok (.instanceof index, 3)) (kk : W p l e R s m args below meth c H locs cells slots Q (F0 m (pc + 3) ls (.int 0 :: rest))) : W p l e R s m args below meth c H locs cells slots Q (F0 m pc ls (.ref a :: rest)) := va_instNo F.1.x F.1.b (C := "NeverSaid$Sheet") F.1.o (F.1.t _ hl) (F.2.nc ncq_13) (c_at F (hB.dyn hm) rfl) hdg kk
theorem di_X7_X15 (F : FX p l c cc s args m own D A s0 nL meth ret) (hB : cB D A ad V H) {f0 : Int32} (hm : vM V a = some (eFg f0)) (hl : Cond.classLink own index RX7 ∈ lw_all) (hdg : decode cc pc = .ok (.instanceof index, 3)) (kk : W p l e R s m args below meth c H locs cells slots Q (F0 m (pc + 3) ls (.int 0 :: rest))) : W p l e R s m args below meth c H locs cells slots Q (F0 m pc ls (.ref a :: rest)) := va_instNo F.1.x F.1.b (C := "NeverSaid$Figure") F.1.o (F.1.t _ hl) (F.2.nc ncq_14) (c_at F (hB.dyn hm) rfl) hdg kk
theorem di_X4_spk (F : FX p l c cc s args m own D A s0 nL meth ret) (hB : cB D A ad V H) {k : Nat} {b : Int32} (hk : isSpk k) (hm : vM V a = some (eSp k b)) (hl : Cond.classLink own index RX4 ∈ lw_all) (hdg : decode cc pc = .ok (.instanceof index, 3)) (kk : W p l e R s m args below meth c H locs cells slots Q (F0 m (pc + 3) ls (.int 0 :: rest))) : W p l e R s m args below meth c H locs cells slots Q (F0 m pc ls (.ref a :: rest)) := by
  rcases hk.or with rfl | rfl | rfl | rfl | rfl | rfl
  · exact va_instNo F.1.x F.1.b (C := "NeverSaid$Speaker") F.1.o (F.1.t _ hl) (F.2.nc ncq_1) (c_at F (hB.dyn hm) rfl) hdg kk
  · exact va_instNo F.1.x F.1.b (C := "NeverSaid$SureSpeaker") F.1.o (F.1.t _ hl) (F.2.nc ncq_2) (c_at F (hB.dyn hm) rfl) hdg kk
  · exact va_instNo F.1.x F.1.b (C := "NeverSaid$LoyalSpeaker") F.1.o (F.1.t _ hl) (F.2.nc ncq_3) (c_at F (hB.dyn hm) rfl) hdg kk
  · exact va_instNo F.1.x F.1.b (C := "NeverSaid$OrderedSpeaker") F.1.o (F.1.t _ hl) (F.2.nc ncq_4) (c_at F (hB.dyn hm) rfl) hdg kk
  · exact va_instNo F.1.x F.1.b (C := "NeverSaid$BoughtSpeaker") F.1.o (F.1.t _ hl) (F.2.nc ncq_5) (c_at F (hB.dyn hm) rfl) hdg kk
  · exact va_instNo F.1.x F.1.b (C := "NeverSaid$LyingSpeaker") F.1.o (F.1.t _ hl) (F.2.nc ncq_6) (c_at F (hB.dyn hm) rfl) hdg kk
theorem di_X4_X4 (F : FX p l c cc s args m own D A s0 nL meth ret) (hB : cB D A ad V H) {f0 : Option Nat} (hm : vM V a = some (eSh f0)) (hl : Cond.classLink own index RX4 ∈ lw_all) (hdg : decode cc pc = .ok (.instanceof index, 3)) (kk : W p l e R s m args below meth c H locs cells slots Q (F0 m (pc + 3) ls (.int 1 :: rest))) : W p l e R s m args below meth c H locs cells slots Q (F0 m pc ls (.ref a :: rest)) := c_instX F hl (c_at F (hB.dyn hm) rfl) hdg kk
theorem di_X4_X15 (F : FX p l c cc s args m own D A s0 nL meth ret) (hB : cB D A ad V H) {f0 : Int32} (hm : vM V a = some (eFg f0)) (hl : Cond.classLink own index RX4 ∈ lw_all) (hdg : decode cc pc = .ok (.instanceof index, 3)) (kk : W p l e R s m args below meth c H locs cells slots Q (F0 m (pc + 3) ls (.int 0 :: rest))) : W p l e R s m args below meth c H locs cells slots Q (F0 m pc ls (.ref a :: rest)) := va_instNo F.1.x F.1.b (C := "NeverSaid$Figure") F.1.o (F.1.t _ hl) (F.2.nc ncq_15) (c_at F (hB.dyn hm) rfl) hdg kk
theorem di_X15_spk (F : FX p l c cc s args m own D A s0 nL meth ret) (hB : cB D A ad V H) {k : Nat} {b : Int32} (hk : isSpk k) (hm : vM V a = some (eSp k b)) (hl : Cond.classLink own index RX15 ∈ lw_all) (hdg : decode cc pc = .ok (.instanceof index, 3)) (kk : W p l e R s m args below meth c H locs cells slots Q (F0 m (pc + 3) ls (.int 0 :: rest))) : W p l e R s m args below meth c H locs cells slots Q (F0 m pc ls (.ref a :: rest)) := by
  rcases hk.or with rfl | rfl | rfl | rfl | rfl | rfl
  · exact va_instNo F.1.x F.1.b (C := "NeverSaid$Speaker") F.1.o (F.1.t _ hl) (F.2.nc ncq_7) (c_at F (hB.dyn hm) rfl) hdg kk
  · exact va_instNo F.1.x F.1.b (C := "NeverSaid$SureSpeaker") F.1.o (F.1.t _ hl) (F.2.nc ncq_8) (c_at F (hB.dyn hm) rfl) hdg kk
  · exact va_instNo F.1.x F.1.b (C := "NeverSaid$LoyalSpeaker") F.1.o (F.1.t _ hl) (F.2.nc ncq_9) (c_at F (hB.dyn hm) rfl) hdg kk
  · exact va_instNo F.1.x F.1.b (C := "NeverSaid$OrderedSpeaker") F.1.o (F.1.t _ hl) (F.2.nc ncq_10) (c_at F (hB.dyn hm) rfl) hdg kk
  · exact va_instNo F.1.x F.1.b (C := "NeverSaid$BoughtSpeaker") F.1.o (F.1.t _ hl) (F.2.nc ncq_11) (c_at F (hB.dyn hm) rfl) hdg kk
  · exact va_instNo F.1.x F.1.b (C := "NeverSaid$LyingSpeaker") F.1.o (F.1.t _ hl) (F.2.nc ncq_12) (c_at F (hB.dyn hm) rfl) hdg kk
theorem di_X15_X4 (F : FX p l c cc s args m own D A s0 nL meth ret) (hB : cB D A ad V H) {f0 : Option Nat} (hm : vM V a = some (eSh f0)) (hl : Cond.classLink own index RX15 ∈ lw_all) (hdg : decode cc pc = .ok (.instanceof index, 3)) (kk : W p l e R s m args below meth c H locs cells slots Q (F0 m (pc + 3) ls (.int 0 :: rest))) : W p l e R s m args below meth c H locs cells slots Q (F0 m pc ls (.ref a :: rest)) := va_instNo F.1.x F.1.b (C := "NeverSaid$Sheet") F.1.o (F.1.t _ hl) (F.2.nc ncq_16) (c_at F (hB.dyn hm) rfl) hdg kk
theorem di_X15_X15 (F : FX p l c cc s args m own D A s0 nL meth ret) (hB : cB D A ad V H) {f0 : Int32} (hm : vM V a = some (eFg f0)) (hl : Cond.classLink own index RX15 ∈ lw_all) (hdg : decode cc pc = .ok (.instanceof index, 3)) (kk : W p l e R s m args below meth c H locs cells slots Q (F0 m (pc + 3) ls (.int 1 :: rest))) : W p l e R s m args below meth c H locs cells slots Q (F0 m pc ls (.ref a :: rest)) := c_instX F hl (c_at F (hB.dyn hm) rfl) hdg kk
end INST
