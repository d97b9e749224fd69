set_option maxRecDepth 100000
theorem x_inc {x k : Int32} {n : Int} (h : Int32.ofInt n = k) : x + Int32.ofInt n = x + k := by rw [h]
theorem x_ne {x k : Int32} {a : Int} (h : ¬ x = k) (hk : k.toInt = a) : x.toInt ≠ a := fun q => h (Int32.toInt_inj.mp (q.trans hk.symm))
theorem x_cat (r : Option Nat) : (va_rf r).category = 1 := by cases r <;> rfl
theorem x_B {S : Type} {Bw : S → Heap → Prop} {u : S} {H : Heap} {t : State} (ht : t.heap = H) (hB : Bw u H) : Bw u t.heap := by rw [ht]; exact hB
