set_option maxRecDepth 100000
section MISC
variable {p : Program} {l : Launch} {e : Env} {R : Room} {s : State} {m : MethodId} {args : Array Value} {below : List Frame} {meth : Method} {c : Code} {H : Heap} {locs : List Loc} {cells slots : Nat} {Q : State → Prop}
variable {cc : ByteArray} {pc : Nat} {ls : Array Slot} {rest : List Value}
theorem x_ldcwf (hexec : p.tables.exec = Jvm.exec) (hb : c.code = cc) {own : String} {index : Nat} {v : UInt32} (hown : s.vm.findClass own = some m.cls) (hconst : (Jvm.Cond.constantFloat own index v).before args s = true) (hdg : decode cc pc = .ok (.ldc_w index, 3)) (k : W p l e R s m args below meth c H locs cells slots Q (F0 m (pc + 3) ls (.float v :: rest))) : W p l e R s m args below meth c H locs cells slots Q (F0 m pc ls rest) := by
  intro T hT X
  obtain ⟨t, a, b⟩ := k T hT X
  obtain ⟨k0, cf, hk, hcf, hcp⟩ := Cond.constantFloat_spec hown hconst
  obtain ⟨k', hk', he⟩ := X.warmed.alike.2.2 _ _ hk
  refine ⟨t, ?_, b⟩
  jvm_step X.here [hexec, hb, hdg, ldc_w.wp_float (s := T) (f := F0 m pc ls rest) X.here.top hk' (by rw [he]; exact hcf) hcp]
  exact a
end MISC
