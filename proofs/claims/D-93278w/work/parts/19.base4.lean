set_option maxRecDepth 100000
theorem xa_mk {S : Type} {post : Nat → S → Prop} {B : S → State → Prop} {A : Nat → Prop} {ag : Array Value} {st t : State} {a : Nat} {u : S} (hp : post a u) (hb : B u t) (hF : va_F A st t) : xa_Qn post B A ag st (.returned (some (.ref a))) t := ⟨⟨(a, u), a, rfl, hp, rfl, hb⟩, hF⟩
theorem x_rest {rest : List Value} (k : Nat) (h : rest.length ≤ 4) : (rest.map fun v => v.category).sum ≤ 8 := by
  have hc : ∀ v : Value, v.category ≤ 2 := by intro v; cases v <;> simp [Value.category]
  have : ∀ l : List Value, (l.map fun v => v.category).sum ≤ 2 * l.length := by
    intro l
    induction l with
    | nil => simp
    | cons a l ih => simp only [List.map_cons, List.sum_cons, List.length_cons]; have := hc a; omega
  have := this rest
  omega
section CALLS2
variable {p : Program} {l : Launch} {e : Env} {R : Room} {s : State} {m : MethodId} {args : Array Value} {below : List Frame} {meth : Method} {c : Code} {H : Heap} {locs : List Loc} {cells slots mc ms : Nat} {Q : State → Prop}
variable {cc bytes : ByteArray} {pc index n maxL : Nat} {ls : Array Slot} {rest As st0 : List Value} {D : DD} {A : Nat → Prop} {s0 : State} {own C owner : String} {cC : ClassId} {nL : Nat} {ret ret' : Option FieldType} {b : Nat} {x y : MethodName} {rm : Room}
/-- super.m(..) -/
theorem k_runSU {S : Type} {Bw : S → Heap → Prop} {u0 : S} {Qc : Array Value → State → Outcome → State → Prop} (F : FX p l c cc s args m own D A s0 nL meth ret) (hB : Bw u0 H) (hS : va_S A s.heap H locs) (hat : ClassAt s C cC) (hrc : ∃ cell : Cell, H[b]? = some cell ∧ cell.vm.isStatics = false ∧ s.vm.findClass C = some cell.cls) (hM : Met l y (ws_ y bytes maxL ret') rm (va_Pc (.ref b :: As) (fun U => Bw u0 U.heap ∧ CX l D A s0 U)) Qc mc ms A) (h1 : Cond.methodLink own index y ∈ lw_all) (h2 : Cond.sameMethod y.cls y.cls y.name y.desc ∈ lw_all) (h3 : Cond.superclass own y.cls ∈ lw_all) (h4 : Cond.instanceMethod y ∈ lw_all) (h5 : Cond.initialized y.cls ∈ lw_all) (h6 : Cond.code y bytes maxL ret' ∈ lw_all) (hd : y.name ≠ "<init>" ∧ (parseMethodDescriptor y.desc).map (fun d => d.parameters.length) = some n) (hR : rm.frames + 1 ≤ R.frames ∧ 8 + (maxL + 11) + rm.locals ≤ R.locals) (hz : rm.cells = mc ∧ rm.slots = ms) (hc : cells + mc ≤ R.cells ∧ slots + ms ≤ R.slots) (hn : As.length = n) (hsz : ls.size = nL) (hst : st0 = As.reverse ++ .ref b :: rest) (hW : (rest.map fun v => v.category).sum ≤ 8) (hdg : decode cc pc = .ok (.invokespecial index, 3)) : va_Run p l e R s m args below meth c H locs cells slots mc ms (F0 m pc ls st0) rest (Qc (Value.ref b :: As).toArray) A := by
  refine va_runSU (g := F0 m pc ls st0) hat ⟨F.1.x, F.1.b, F.1.ml, F.1.o, F.1.t⟩ hM (va_cwSU n F.1.t (lw_app ?_ (lw_meth h6)) rfl hz.1 hz.2 hd hR) ⟨k_blind, hrc, fun U hU hW => ⟨rfl, by rw [hU]; exact hB, F.2.to hS hU hW⟩⟩ rfl hn hsz hst (lv_room (m := m) (pc := pc) (ls := ls) (rest := st0) hW) hdg hc
  intro w hw
  simp only [List.mem_cons, List.not_mem_nil, or_false] at hw
  rcases hw with e | e | e | e | e
  · rw [e]; exact h1
  · rw [e]; exact h2
  · rw [e]; exact h3
  · rw [e]; exact h4
  · rw [e]; exact h5
/-- a call by the name of a superclass's method, which the receiver's class overrides -/
theorem k_runO {S : Type} {Bw : S → Heap → Prop} {u0 : S} {Qc : Array Value → State → Outcome → State → Prop} {b0 : ByteArray} {m0 : Nat} {r0 : Option FieldType} (F : FX p l c cc s args m own D A s0 nL meth ret) (hB : Bw u0 H) (hS : va_S A s.heap H locs) (hrc : ∃ cell : Cell, H[b]? = some cell ∧ cell.vm.isStatics = false ∧ s.vm.findClass C = some cell.cls) (hM : Met l y (ws_ y bytes maxL ret') rm (va_Pc (.ref b :: As) (fun U => Bw u0 U.heap ∧ CX l D A s0 U)) Qc mc ms A) (h1 : Cond.methodLink own index x ∈ lw_all) (h2 : Cond.sameMethod x.cls owner x.name x.desc ∈ lw_all) (h3 : Cond.instanceMethod ⟨owner, x.name, x.desc⟩ ∈ lw_all) (h4 : Cond.selects C x y ∈ lw_all) (h5 : Cond.instanceMethod y ∈ lw_all) (h6 : Cond.initialized y.cls ∈ lw_all) (h7 : Cond.code y bytes maxL ret' ∈ lw_all) (h8 : Cond.code ⟨owner, x.name, x.desc⟩ b0 m0 r0 ∈ lw_all) (hd : owner ≠ "java/lang/invoke/MethodHandle" ∧ owner ≠ "java/lang/invoke/VarHandle" ∧ (parseMethodDescriptor x.desc).map (fun d => d.parameters.length) = some n) (hR : rm.frames + 1 ≤ R.frames ∧ 8 + (maxL + 11) + rm.locals ≤ R.locals) (hz : rm.cells = mc ∧ rm.slots = ms) (hc : cells + mc ≤ R.cells ∧ slots + ms ≤ R.slots) (hn : As.length = n) (hsz : ls.size = nL) (hst : st0 = As.reverse ++ .ref b :: rest) (hW : (rest.map fun v => v.category).sum ≤ 8) (hdg : decode cc pc = .ok (.invokevirtual index, 3)) : va_Run p l e R s m args below meth c H locs cells slots mc ms (F0 m pc ls st0) rest (Qc (Value.ref b :: As).toArray) A := by
  refine va_runU (g := F0 m pc ls st0) ⟨F.1.x, F.1.b, F.1.ml, F.1.o, F.1.t⟩ hM (va_cwO n F.1.t (lw_app ?_ (lw_meth h7)) rfl hz.1 hz.2 h8 hd hR) ⟨k_blind, hrc, fun U hU hW => ⟨rfl, by rw [hU]; exact hB, F.2.to hS hU hW⟩⟩ rfl hn hsz hst (lv_room (m := m) (pc := pc) (ls := ls) (rest := st0) hW) hdg hc
  intro w hw
  simp only [List.mem_cons, List.not_mem_nil, or_false] at hw
  rcases hw with e | e | e | e | e | e
  · rw [e]; exact h1
  · rw [e]; exact h2
  · rw [e]; exact h3
  · rw [e]; exact h4
  · rw [e]; exact h5
  · rw [e]; exact h6
end CALLS2
