set_option maxRecDepth 100000
/-! CALLS: a callee's contract is used; Bw u H: the world's picture u lies in the heap H -/
section CALLS
variable {p : Program} {l : Launch} {e : Env} {R : Room} {s : State} {m : MethodId} {args : Array Value} {below : List Frame} {meth : Method} {c : Code} {H : Heap} {locs : List Loc} {cells slots mc ms : Nat} {Q : State → Prop}
variable {cc bytes : ByteArray} {pc index n maxL : Nat} {ls : Array Slot} {rest As st0 : List Value} {D : DD} {A : Nat → Prop} {s0 : State} {own C : String} {nL : Nat} {ret ret' : Option FieldType} {b : Nat} {y : MethodName} {rm : Room}
theorem k_csi {post : Int32 → Prop} {a : Array Value} (hr : va_Run p l e R s m args below meth c H locs cells slots 0 0 (F0 m pc ls st0) rest (vp_Si post a) (fun _ => False)) (kk : ∀ r : Int32, post r → W p l e R s m args below meth c H locs cells slots Q (F0 m (pc + 3) ls (.int r :: rest))) : W p l e R s m args below meth c H locs cells slots Q (F0 m pc ls st0) := by
  intro T hT X
  obtain ⟨v, st₀, t, T', L, h0, X', hL, e1, e2, ⟨r, hv, hp, hh⟩, st⟩ := hr T hT X
  cases hv
  have hL0 : L = [] := by
    cases L with
    | nil => rfl
    | cons q L => exact absurd (hL q List.mem_cons_self) id
  subst hL0
  rw [List.append_nil] at X'
  obtain ⟨t2, a1, b1⟩ := kk r hp T' (by rw [e1, hh, h0]) X'
  exact ⟨t2, st t2 a1, b1⟩
theorem k_csl {post : Int64 → Prop} {a : Array Value} (hr : va_Run p l e R s m args below meth c H locs cells slots 0 0 (F0 m pc ls st0) rest (vp_Sl post a) (fun _ => False)) (kk : ∀ r : Int64, post r → W p l e R s m args below meth c H locs cells slots Q (F0 m (pc + 3) ls (.long r :: rest))) : W p l e R s m args below meth c H locs cells slots Q (F0 m pc ls st0) := by
  intro T hT X
  obtain ⟨v, st₀, t, T', L, h0, X', hL, e1, e2, ⟨r, hv, hp, hh⟩, st⟩ := hr T hT X
  cases hv
  have hL0 : L = [] := by
    cases L with
    | nil => rfl
    | cons q L => exact absurd (hL q List.mem_cons_self) id
  subst hL0
  rw [List.append_nil] at X'
  obtain ⟨t2, a1, b1⟩ := kk r hp T' (by rw [e1, hh, h0]) X'
  exact ⟨t2, st t2 a1, b1⟩
/-- a static method that touches no cell -/
theorem k_runP {Qc : Array Value → State → Outcome → State → Prop} (F : FP p c cc s args m own nL meth ret) (hM : Met l y (ws_ y bytes maxL ret') rm (va_Pc As (fun _ => True)) Qc 0 0 (fun _ => False)) (h1 : Cond.methodLink own index y ∈ lw_all) (h2 : Cond.static y ∈ lw_all) (h3 : Cond.initialized y.cls ∈ lw_all) (h4 : Cond.code y bytes maxL ret' ∈ lw_all) (hd : y.cls ≠ "java/lang/invoke/MethodHandle" ∧ y.cls ≠ "java/lang/invoke/VarHandle" ∧ (parseMethodDescriptor y.desc).map (fun d => d.parameters.length) = some n) (hR : rm.frames + 1 ≤ R.frames ∧ 8 + (maxL + 11) + rm.locals ≤ R.locals) (hz : rm.cells = 0 ∧ rm.slots = 0) (hc : cells ≤ R.cells ∧ slots ≤ R.slots) (hn : As.length = n) (hsz : ls.size = nL) (hst : st0 = As.reverse ++ rest) (hW : (rest.map fun v => v.category).sum ≤ 8) (hdg : decode cc pc = .ok (.invokestatic index, 3)) : va_Run p l e R s m args below meth c H locs cells slots 0 0 (F0 m pc ls st0) rest (Qc As.toArray) (fun _ => False) :=
  va_runS (g := F0 m pc ls st0) ⟨F.x, F.b, F.ml, F.o, F.t⟩ hM (va_cwS n F.t (lw_S h1 h2 h3 h4) rfl hz.1 hz.2 hd hR) ⟨fun a U g mk q => q, fun U _ _ => ⟨rfl, trivial⟩⟩ rfl hn hsz hst (lv_room (m := m) (pc := pc) (ls := ls) (rest := st0) hW) hdg ⟨hc.1, hc.2⟩
theorem k_blind {S : Type} {Bw : S → Heap → Prop} {u0 : S} {av : List Value} : FrameBlind (va_Pc av (fun U => Bw u0 U.heap ∧ CX l D A s0 U)) := fun _ _ _ _ q => ⟨q.1, q.2.1, q.2.2.blind⟩
/-- an instance method of the world's -/
theorem k_runV {S : Type} {Bw : S → Heap → Prop} {u0 : S} {Qc : Array Value → State → Outcome → State → Prop} (F : FX p l c cc s args m own D A s0 nL meth ret) (hB : Bw u0 H) (hS : va_S A s.heap H locs) (hrc : ∃ cell : Cell, H[b]? = some cell ∧ cell.vm.isStatics = false ∧ s.vm.findClass C = some cell.cls) (hM : Met l y (ws_ y bytes maxL ret') rm (va_Pc (.ref b :: As) (fun U => Bw u0 U.heap ∧ CX l D A s0 U)) Qc mc ms A) (h1 : Cond.methodLink own index y ∈ lw_all) (h2 : Cond.instanceMethod y ∈ lw_all) (h3 : Cond.selects C y y ∈ lw_all) (h4 : Cond.initialized C ∈ lw_all) (h5 : Cond.code y bytes maxL ret' ∈ lw_all) (hd : y.cls = C ∧ y.cls ≠ "java/lang/invoke/MethodHandle" ∧ y.cls ≠ "java/lang/invoke/VarHandle" ∧ (parseMethodDescriptor y.desc).map (fun d => d.parameters.length) = some n) (hR : rm.frames + 1 ≤ R.frames ∧ 8 + (maxL + 11) + rm.locals ≤ R.locals) (hz : rm.cells = mc ∧ rm.slots = ms) (hc : cells + mc ≤ R.cells ∧ slots + ms ≤ R.slots) (hn : As.length = n) (hsz : ls.size = nL) (hst : st0 = As.reverse ++ .ref b :: rest) (hW : (rest.map fun v => v.category).sum ≤ 8) (hdg : decode cc pc = .ok (.invokevirtual index, 3)) : va_Run p l e R s m args below meth c H locs cells slots mc ms (F0 m pc ls st0) rest (Qc (Value.ref b :: As).toArray) A :=
  va_runV (g := F0 m pc ls st0) ⟨F.1.x, F.1.b, F.1.ml, F.1.o, F.1.t⟩ hM (cwV n F.1.t (lw_V h1 h2 h3 h4 h5) rfl hz.1 hz.2 hd hR) ⟨k_blind, hrc, fun U hU hW => ⟨rfl, by rw [hU]; exact hB, F.2.to hS hU hW⟩⟩ rfl hn hsz hst (lv_room (m := m) (pc := pc) (ls := ls) (rest := st0) hW) hdg hc
/-- a static method of the world's -/
theorem k_runS {S : Type} {Bw : S → Heap → Prop} {u0 : S} {Qc : Array Value → State → Outcome → State → Prop} (F : FX p l c cc s args m own D A s0 nL meth ret) (hB : Bw u0 H) (hS : va_S A s.heap H locs) (hM : Met l y (ws_ y bytes maxL ret') rm (va_Pc As (fun U => Bw u0 U.heap ∧ CX l D A s0 U)) Qc mc ms A) (h1 : Cond.methodLink own index y ∈ lw_all) (h2 : Cond.static y ∈ lw_all) (h3 : Cond.initialized y.cls ∈ lw_all) (h4 : Cond.code y bytes maxL ret' ∈ lw_all) (hd : y.cls ≠ "java/lang/invoke/MethodHandle" ∧ y.cls ≠ "java/lang/invoke/VarHandle" ∧ (parseMethodDescriptor y.desc).map (fun d => d.parameters.length) = some n) (hR : rm.frames + 1 ≤ R.frames ∧ 8 + (maxL + 11) + rm.locals ≤ R.locals) (hz : rm.cells = mc ∧ rm.slots = ms) (hc : cells + mc ≤ R.cells ∧ slots + ms ≤ R.slots) (hn : As.length = n) (hsz : ls.size = nL) (hst : st0 = As.reverse ++ rest) (hW : (rest.map fun v => v.category).sum ≤ 8) (hdg : decode cc pc = .ok (.invokestatic index, 3)) : va_Run p l e R s m args below meth c H locs cells slots mc ms (F0 m pc ls st0) rest (Qc As.toArray) A :=
  va_runS (g := F0 m pc ls st0) ⟨F.1.x, F.1.b, F.1.ml, F.1.o, F.1.t⟩ hM (va_cwS n F.1.t (lw_S h1 h2 h3 h4) rfl hz.1 hz.2 hd hR) ⟨k_blind, fun U hU hW => ⟨rfl, by rw [hU]; exact hB, F.2.to hS hU hW⟩⟩ rfl hn hsz hst (lv_room (m := m) (pc := pc) (ls := ls) (rest := st0) hW) hdg hc
theorem k_i {S : Type} {Bw : S → Heap → Prop} {post : Int32 → S → Prop} {a : Array Value} (hr : va_Run p l e R s m args below meth c H locs cells slots mc ms (F0 m pc ls st0) rest (va_Qi post (fun u t => Bw u t.heap) A a) A) (hS : va_S A s.heap H locs)
    (kk : ∀ (r : Int32) (u : S) (H1 : Heap) (locs1 : List Loc), post r u → Bw u H1 → va_S A s.heap H1 locs1 → W p l e R s m args below meth c H1 locs1 (cells + mc) (slots + ms) Q (F0 m (pc + 3) ls (.int r :: rest))) : W p l e R s m args below meth c H locs cells slots Q (F0 m pc ls st0) :=
  va_calli hr hS (fun _ _ h => h) (fun _ h => h) fun r u t H1 locs1 ht _ hp hb _ _ hS1 => kk r u H1 locs1 hp (by rw [← ht]; exact hb) hS1
theorem k_l {S : Type} {Bw : S → Heap → Prop} {post : Int64 → S → Prop} {a : Array Value} (hr : va_Run p l e R s m args below meth c H locs cells slots mc ms (F0 m pc ls st0) rest (va_Ql post (fun u t => Bw u t.heap) A a) A) (hS : va_S A s.heap H locs)
    (kk : ∀ (r : Int64) (u : S) (H1 : Heap) (locs1 : List Loc), post r u → Bw u H1 → va_S A s.heap H1 locs1 → W p l e R s m args below meth c H1 locs1 (cells + mc) (slots + ms) Q (F0 m (pc + 3) ls (.long r :: rest))) : W p l e R s m args below meth c H locs cells slots Q (F0 m pc ls st0) :=
  va_calll hr hS (fun _ _ h => h) (fun _ h => h) fun r u t H1 locs1 ht _ hp hb _ _ hS1 => kk r u H1 locs1 hp (by rw [← ht]; exact hb) hS1
theorem k_v {S : Type} {Bw : S → Heap → Prop} {post : S → Prop} {a : Array Value} (hr : va_Run p l e R s m args below meth c H locs cells slots mc ms (F0 m pc ls st0) rest (va_Qv post (fun u t => Bw u t.heap) A a) A) (hS : va_S A s.heap H locs)
    (kk : ∀ (u : S) (H1 : Heap) (locs1 : List Loc), post u → Bw u H1 → va_S A s.heap H1 locs1 → W p l e R s m args below meth c H1 locs1 (cells + mc) (slots + ms) Q (F0 m (pc + 3) ls rest)) : W p l e R s m args below meth c H locs cells slots Q (F0 m pc ls st0) :=
  va_callv hr hS (fun _ _ h => h) (fun _ h => h) fun u t H1 locs1 ht _ hp hb _ _ hS1 => kk u H1 locs1 hp (by rw [← ht]; exact hb) hS1
end CALLS
