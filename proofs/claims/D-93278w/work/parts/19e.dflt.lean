set_option maxRecDepth 100000
/-! CALLS THAT LAND IN AN INTERFACE's DEFAULT METHOD -/
theorem x_anyB (vm : Vm) (i : Nat) (f : Class → Bool) (hf : ∀ k : Class, f k.bare = f k) : (vm.bare.classes[i]?).any f = (vm.classes[i]?).any f := by
  rw [Vm.classes_bare]
  cases vm.classes[i]? with
  | none => rfl
  | some k => exact hf k
theorem x_declB (vm : Vm) (n d : String) (k : ClassId) : declaredIn vm.bare n d k = declaredIn vm n d k := by
  simp only [declaredIn, Vm.classes_bare, Vm.method?_bare]
  cases vm.classes[k]? <;> rfl
theorem x_nearB (vm : Vm) (c : ClassId) (n d : String) : nearestHeld vm.bare c n d = nearestHeld vm c n d := by
  have e1 : ∀ k : ClassId, (vm.bare.classes[k]?).any (fun x : Class => x.isInterface) = (vm.classes[k]?).any (fun x : Class => x.isInterface) := fun k => x_anyB vm k _ fun _ => rfl
  have e2 : ∀ k : ClassId, ∀ f : ClassId → Bool, (vm.bare.classes[k]?).any (·.interfaces.any f) = (vm.classes[k]?).any (·.interfaces.any f) := fun k f => x_anyB vm k _ fun _ => rfl
  have e3 : ∀ k : ClassId, (vm.bare.classes[k]?).any (fun x => x.methods.any fun m => !m.isAbstract && !m.isStatic) = (vm.classes[k]?).any (fun x => x.methods.any fun m => !m.isAbstract && !m.isStatic) := fun k => x_anyB vm k _ fun _ => rfl
  simp only [nearestHeld, held, Vm.superclasses_bare, x_declB, superinterfaceMethods_bare, Vm.superinterfaces_bare, maximallySpecific_bare, Vm.method?_bare, e1, e2, e3]
theorem x_near {vm vm' : Vm} (h : vm.Alike vm') (c : ClassId) (n d : String) : nearestHeld vm' c n d = nearestHeld vm c n d := by
  rw [← x_nearB vm', h.bare_eq, x_nearB]
/-- what such a word says -/
def xLd (c : ClassId) (r m : MethodId) (rm : Method) (vm : Vm) : Prop :=
  selectMethod {} vm c r = .method m ∧ ((vm.classes[m.cls]?).any (·.isInterface)) = true ∧ rm.isPrivate = false ∧
  ((c :: vm.superclasses c).any fun k => (declaredIn vm rm.name rm.desc k).any fun (_, z) => z.isPrivate || z.isStatic) = false ∧
  (∀ k d, nearestHeld vm c rm.name rm.desc = some (k, .default d) → d = m) ∧ (∀ k b, nearestHeld vm c rm.name rm.desc ≠ some (k, .thrower b))
theorem x_lands {args : Array Value} {s : State} {C : String} {x y : MethodName} (h : (Cond.landsInDefault C x y).before args s = true) :
    ∃ c r m rm, s.vm.findClass C = some c ∧ s.methodFound? x.cls x.name x.desc = some r ∧ s.methodNamed? y = some m ∧ s.vm.method? r = some rm ∧ xLd c r m rm s.vm := by
  simp only [Cond.before, Cond.holds, Cond.value] at h
  cases h1 : s.vm.findClass C with
  | none => simp [h1] at h
  | some c =>
    cases h2 : s.methodFound? x.cls x.name x.desc with
    | none => simp [h1, h2] at h
    | some r =>
      cases h3 : s.methodNamed? y with
      | none => simp [h1, h2, h3] at h
      | some m =>
        cases h4 : s.vm.method? r with
        | none => simp [h1, h2, h3, h4] at h
        | some rm =>
          refine ⟨c, r, m, rm, rfl, rfl, rfl, h4, ?_⟩
          simp only [h1, h2, h3, h4, Option.map_some] at h
          cases h5 : selectMethod {} s.vm c r with
          | method m' =>
            simp only [h5, beq_iff_eq, Option.some.injEq, Bool.and_eq_true, decide_eq_true_eq, Bool.not_eq_true'] at h
            obtain ⟨⟨⟨⟨g1, g2⟩, g3⟩, g4⟩, g5⟩ := h
            refine ⟨by rw [h5, g1], g2, g3, g4, ?_, ?_⟩
            · intro k d hk
              rw [hk] at g5
              simpa using g5
            · intro k b hk
              rw [hk] at g5
              simp at g5
          | none => simp [h5] at h
          | several => simp [h5] at h
          | refused => simp [h5] at h
theorem xLd.moved {vm vm' : Vm} (h : vm.Alike vm') {c : ClassId} {r m : MethodId} {rm : Method} (q : xLd c r m rm vm) : xLd c r m rm vm' := by
  obtain ⟨q1, q2, q3, q4, q5, q6⟩ := q
  refine ⟨by rw [h.selectMethod]; exact q1, ?_, q3, ?_, ?_, ?_⟩
  · rw [← x_anyB vm' _ (·.isInterface) (fun _ => rfl), h.bare_eq, x_anyB vm _ (·.isInterface) (fun _ => rfl)]; exact q2
  · simp only [h.superclasses, h.declaredIn]; exact q4
  · rw [x_near h]; exact q5
  · rw [x_near h]; exact q6
