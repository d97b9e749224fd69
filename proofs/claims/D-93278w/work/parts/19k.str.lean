set_option maxRecDepth 100000
/-! THE STRING CONSTANTS 0 "may", 1 "cost", 2 "bold" -/
def sLen : List Nat := [3, 4, 4]
def sByt : List (List Int32) := [[109, 97, 121], [99, 111, 115, 116], [98, 111, 108, 100]]
def sIx (i : Nat) : Nat := [216, 222, 224].getD i 0
def sText (i : Nat) : String := ["may", "cost", "bold"].getD i ""
def sP (s0 : State) (adK adV : Nat → Nat) : Prop := vk_S 3 sLen sByt adK adV (fun q => s0.heap.size ≤ q) s0 s0.heap ∧ ∀ i, i < 3 → vk_R "NeverSaid" (sIx i) (sText i) (adK i) s0
theorem x_c3 {P : Nat → Prop} (h0 : P 0) (h1 : P 1) (h2 : P 2) : ∀ i, i < 3 → P i := by
  intro i hi
  match i, hi with
  | 0, _ => exact h0
  | 1, _ => exact h1
  | 2, _ => exact h2
theorem x_str {l : Launch} {s0 : State} (h : LSt l s0) : ∃ adK adV, sP s0 adK adV := by
  obtain ⟨b, ht, hg, -⟩ := h
  have fl : ∀ {w : Cond}, w ∈ flatC (Jvm.Cond.and given_1 narrow_1) → w.before #[Value.ref b] s0 = true := fun hm => flat_of_before _ hg _ hm
  obtain ⟨adK, adV, h1, h2⟩ := vk_Sof (args := #[Value.ref b]) (s := s0) (N := 3) (tm := fun i => Term.string "NeverSaid" (sIx i)) (len := sLen) (byt := sByt) (A := fun q => s0.heap.size ≤ q)
    (x_c3 (by decide) (by decide) (by decide)) (x_c3 (fl (by decide +kernel)) (fl (by decide +kernel)) (fl (by decide +kernel))) (x_c3 (fl (by decide +kernel)) (fl (by decide +kernel)) (fl (by decide +kernel)))
    (x_c3 (fl (by decide +kernel)) (fl (by decide +kernel)) (fl (by decide +kernel))) (x_c3 (fl (by decide +kernel)) (fl (by decide +kernel)) (fl (by decide +kernel)))
    (x_c3 (x_c3 (fl (by decide +kernel)) (fl (by decide +kernel)) (fl (by decide +kernel)))
      (fun j hj => by
        match j, hj with
        | 0, _ => exact fl (by decide +kernel)
        | 1, _ => exact fl (by decide +kernel)
        | 2, _ => exact fl (by decide +kernel)
        | 3, _ => exact fl (by decide +kernel))
      (fun j hj => by
        match j, hj with
        | 0, _ => exact fl (by decide +kernel)
        | 1, _ => exact fl (by decide +kernel)
        | 2, _ => exact fl (by decide +kernel)
        | 3, _ => exact fl (by decide +kernel)))
    (fun i j hi hj hij => by
      match i, hi, j, hj with
      | 0, _, 0, _ => exact absurd rfl hij
      | 1, _, 1, _ => exact absurd rfl hij
      | 2, _, 2, _ => exact absurd rfl hij
      | 0, _, 1, _ => exact Or.inl (fl (by decide +kernel))
      | 0, _, 2, _ => exact Or.inl (fl (by decide +kernel))
      | 1, _, 2, _ => exact Or.inl (fl (by decide +kernel))
      | 1, _, 0, _ => exact Or.inr (fl (by decide +kernel))
      | 2, _, 0, _ => exact Or.inr (fl (by decide +kernel))
      | 2, _, 1, _ => exact Or.inr (fl (by decide +kernel)))
    (fun a ha => Nat.not_le.mpr ha)
  exact ⟨adK, adV, h1, x_c3 (vk_R.of (ht _ (by decide +kernel)) (h2 0 (by decide))) (vk_R.of (ht _ (by decide +kernel)) (h2 1 (by decide))) (vk_R.of (ht _ (by decide +kernel)) (h2 2 (by decide)))⟩
/-- their addresses, and their arrays' -/
noncomputable def sK (s0 : State) : Nat → Nat := Classical.epsilon fun adK => ∃ adV, sP s0 adK adV
noncomputable def sV (s0 : State) : Nat → Nat := Classical.epsilon fun adV => sP s0 (sK s0) adV
theorem sP_of {l : Launch} {s0 : State} (h : LSt l s0) : sP s0 (sK s0) (sV s0) :=
  Classical.epsilon_spec (p := fun adV => sP s0 (sK s0) adV) (Classical.epsilon_spec (p := fun adK => ∃ adV, sP s0 adK adV) (x_str h))
theorem CX.str {l : Launch} {D : DD} {A : Nat → Prop} {s0 s : State} (hC : CX l D A s0 s) : vk_S 3 sLen sByt (sK s0) (sV s0) A s s.heap := by
  have h := (sP_of hC.2.2.2.2.2).1
  exact ((h.kept (H1 := s.heap) (fun a ha _ => hC.2.2.2.1 a ha)).narrow (B := A) (fun q hq => hC.2.2.2.2.1 q hq)).moved hC.2.1.alike
theorem CX.strR {l : Launch} {D : DD} {A : Nat → Prop} {s0 s : State} (hC : CX l D A s0 s) {i : Nat} (hi : i < 3) : vk_R "NeverSaid" (sIx i) (sText i) (sK s0 i) s := vk_R.warm hC.2.1 ((sP_of hC.2.2.2.2.2).2 i hi)
/-- statics that nobody writes -/
theorem CX.compact {l : Launch} {D : DD} {A : Nat → Prop} {s0 s : State} (hC : CX l D A s0 s) : va_Z "java/lang/String" "COMPACT_STRINGS" "Z" (.int 1) A s s.heap := by
  obtain ⟨b, ht, hg, -⟩ := hC.2.2.2.2.2
  have h := va_Zof (args := #[Value.ref b]) (s := s0) (C := "java/lang/String") (n := "COMPACT_STRINGS") (d := "Z") (A := fun q => s0.heap.size ≤ q) (ht _ q433) (ht _ (by decide +kernel)) (va_eqi (z := 1) (flat_of_before _ hg _ (by decide +kernel))) (fun a ha => Nat.not_le.mpr ha)
  exact ((h.kept (H1 := s.heap) (fun a ha _ => hC.2.2.2.1 a ha)).narrow (B := A) (fun q hq => hC.2.2.2.2.1 q hq)).moved hC.2.1.alike
theorem x_isRef {args : Array Value} {s : State} {t : Term} (h : (Cond.isRef t).before args s = true) : ∃ o : Option Nat, t.eval args s none [] s = some (va_rf o) := by
  simp only [Cond.before, Cond.holds, Cond.value] at h
  cases hv : t.eval args s none [] s with
  | none => simp [hv] at h
  | some w =>
    cases w with
    | ref a => exact ⟨some a, rfl⟩
    | null => exact ⟨none, rfl⟩
    | _ => simp [hv] at h
theorem CX.fmt {l : Launch} {D : DD} {A : Nat → Prop} {s0 s : State} (hC : CX l D A s0 s) : ∃ o : Option Nat, va_Z "jdk/internal/util/Preconditions" "SIOOBE_FORMATTER" "Ljava/util/function/BiFunction;" (va_rf o) A s s.heap := by
  obtain ⟨b, ht, hg, -⟩ := hC.2.2.2.2.2
  obtain ⟨o, ho⟩ := x_isRef (args := #[Value.ref b]) (s := s0) (t := .static "jdk/internal/util/Preconditions" "SIOOBE_FORMATTER" "Ljava/util/function/BiFunction;") (flat_of_before _ hg _ (by decide +kernel))
  have h := va_Zof (args := #[Value.ref b]) (s := s0) (A := fun q => s0.heap.size ≤ q) (ht _ q449) (ht _ (by decide +kernel)) ho (fun a ha => Nat.not_le.mpr ha)
  exact ⟨o, ((h.kept (H1 := s.heap) (fun a ha _ => hC.2.2.2.1 a ha)).narrow (B := A) (fun q hq => hC.2.2.2.2.1 q hq)).moved hC.2.1.alike⟩
