set_option maxRecDepth 100000
/-! highest and lowest bit of a set: both sides, by trial of all 4096 sets -/
def us (x n : Int32) : Int32 := (x.toUInt32 >>> (n.toUInt32 &&& Int32.toUInt32 31)).toInt32
def lz73 (l0 l1 : Int32) : Int32 := l1 - us l0 1
def lz61 (l0 l1 : Int32) : Int32 := if l0 < 4 then lz73 l0 l1 else lz73 (us l0 2) (l1 + (-2))
def lz48 (l0 l1 : Int32) : Int32 := if l0 < 16 then lz61 l0 l1 else lz61 (us l0 4) (l1 + (-4))
def lz33 (l0 l1 : Int32) : Int32 := if l0 < 256 then lz48 l0 l1 else lz48 (us l0 8) (l1 + (-8))
def lzF (a : Int32) : Int32 := if 0 < a then (if a < 65536 then lz33 a 31 else lz33 (us a 16) (31 + (-16))) else if a = 0 then 32 else 0
theorem bcq {c : Prop} [Decidable c] {x y : Int32} {Q : Int32 → Prop} {A B : Prop} (hq : Q (if c then x else y)) (f : Q x → A) (g : Q y → B) : (c → A) ∧ (¬ c → B) := by
  by_cases h : c
  · rw [if_pos h] at hq
    exact brY h (f hq)
  · rw [if_neg h] at hq
    exact brN h (g hq)
theorem lz61_ok {l0 l1 : Int32} {Q : Int32 → Prop} (h : Q (lz61 l0 l1)) : wJ5_numberOfLeadingZeros_61 l0 l1 Q := bcq h id id
theorem lz48_ok {l0 l1 : Int32} {Q : Int32 → Prop} (h : Q (lz48 l0 l1)) : wJ5_numberOfLeadingZeros_48 l0 l1 Q := bcq h lz61_ok lz61_ok
theorem lz33_ok {l0 l1 : Int32} {Q : Int32 → Prop} (h : Q (lz33 l0 l1)) : wJ5_numberOfLeadingZeros_33 l0 l1 Q := bcq h lz48_ok lz48_ok
theorem lz_ok {a : Int32} {Q : Int32 → Prop} (h : Q (lzF a)) : wJ5_numberOfLeadingZeros a Q := bcq h (fun h => bcq h lz33_ok (fun h x e => by subst e; exact lz33_ok h)) (fun h => bcq h id id)
def hobF (a : Int32) : Int32 := a &&& us (-2147483648) (lzF a)
theorem hob_ok {a : Int32} {Q : Int32 → Prop} (h : Q (hobF a)) : wJ5_highestOneBit a Q := lz_ok (Q := fun r => Q (a &&& us (-2147483648) r)) h
def tz74 (l0 l1 : Int32) : Int32 := l1 + us l0 1
def tz62 (l0 l1 : Int32) : Int32 := if l0 ≤ 4 then tz74 l0 l1 else tz74 (us l0 2) (l1 + 2)
def tz49 (l0 l1 : Int32) : Int32 := if l0 ≤ 16 then tz62 l0 l1 else tz62 (us l0 4) (l1 + 4)
def tz34 (l0 l1 : Int32) : Int32 := if l0 ≤ 256 then tz49 l0 l1 else tz49 (us l0 8) (l1 + 8)
def tzG (y : Int32) : Int32 := if 0 < y then (if y ≤ 65536 then tz34 y 1 else tz34 (us y 16) (1 + 16)) else y &&& 32
def tzF (a : Int32) : Int32 := tzG ((a ^^^ (-1)) &&& (a - 1))
theorem tz62_ok {l0 l1 : Int32} {Q : Int32 → Prop} (h : Q (tz62 l0 l1)) : wJ5_numberOfTrailingZeros_62 l0 l1 Q := bcq h id id
theorem tz49_ok {l0 l1 : Int32} {Q : Int32 → Prop} (h : Q (tz49 l0 l1)) : wJ5_numberOfTrailingZeros_49 l0 l1 Q := bcq h tz62_ok tz62_ok
theorem tz34_ok {l0 l1 : Int32} {Q : Int32 → Prop} (h : Q (tz34 l0 l1)) : wJ5_numberOfTrailingZeros_34 l0 l1 Q := bcq h tz49_ok tz49_ok
theorem tz_ok {a : Int32} {Q : Int32 → Prop} (h : Q (tzF a)) : wJ5_numberOfTrailingZeros a Q := bcq h (fun h => bcq h tz34_ok (fun h x e => by subst e; exact tz34_ok h)) id
/-- the greatest of a set below k, the least of a set from 12 - k on -/
def grN (m : Nat) : Nat → Option Nat
  | 0 => none
  | k + 1 => if m.testBit k = true then some k else grN m k
def lsN (m : Nat) : Nat → Option Nat
  | 0 => none
  | k + 1 => if m.testBit (11 - k) = true then some (11 - k) else lsN m k
def oI (o : Option Nat) : Int32 := match o with
  | none => -1
  | some k => nI k
def oB (o : Option Nat) : Int32 := match o with
  | none => 0
  | some k => one k
theorem hob_all : ∀ m, m < 4096 → hobF (nI m) = oB (grN m 12) := by decide +kernel
theorem tz_all : ∀ m, m < 4096 → m ≠ 0 → tzF (nI m) = oI (lsN m 12) := by decide +kernel
theorem grN_lt {m : Nat} : ∀ k j, grN m k = some j → j < k ∧ m.testBit j = true := by
  intro k
  induction k with
  | zero => intro j h; cases h
  | succ k ih =>
    intro j h
    unfold grN at h
    by_cases hb : m.testBit k = true
    · rw [if_pos hb] at h
      cases h
      exact ⟨by omega, hb⟩
    · rw [if_neg hb] at h
      have := ih j h
      exact ⟨by omega, this.2⟩
theorem gr6 {x : Int32} {Q : Int32 → Prop} (hq : Q (oI (grN (nu x) 12))) : wX6_greatest x Q := by
  suffices H : ∀ k, k ≤ 12 → Q (oI (grN (nu x) k)) → wX6_greatest_3 Q (k + 1) x (nI k - 1) from ⟨13, H 12 (by omega) hq⟩
  intro k
  induction k with
  | zero => intro _ h; exact brY (by decide) h
  | succ k ih =>
    intro hk h
    rw [nI_pred]
    refine brN (nI_pos (by omega)) ?_
    unfold grN at h
    rw [nu_bit] at h
    cases hb : bt x k
    · rw [hb, if_neg (by decide)] at h
      refine brY ((bt_z x (by omega)).mpr hb) ?_
      have := ih (by omega) h
      rw [Int32.sub_eq_add_neg] at this
      exact this
    · rw [hb, if_pos rfl] at h
      exact brN (fun z => by rw [(bt_z x (by omega)).mp z] at hb; cases hb) h
theorem hob0 {x : Int32} (h : subn 12 x) {Q : Int32 → Prop} (hq : Q (oB (grN (nu x) 12))) : wJ5_highestOneBit x Q := by
  refine hob_ok ?_
  rw [nu_I x, hob_all _ (nu_lt h)]
  exact hq
theorem ls6 {x : Int32} {Q : Int32 → Prop} (hq : Q (oI (lsN (nu x) 12))) : wX6_least x Q := by
  suffices H : ∀ k, k ≤ 12 → Q (oI (lsN (nu x) k)) → wX6_least_2 Q (k + 1) x (nI (12 - k)) from ⟨13, H 12 (by omega) hq⟩
  intro k
  induction k with
  | zero => intro _ h; exact brY (by decide) (brY (by decide) h)
  | succ k ih =>
    intro hk h
    refine brN (nI_ge (b := 12) (by omega) (by omega)) ?_
    unfold lsN at h
    rw [nu_bit] at h
    have e : 12 - (k + 1) = 11 - k := by omega
    rw [e]
    cases hb : bt x (11 - k)
    · rw [hb, if_neg (by decide)] at h
      refine brY ((bt_z x (by omega)).mpr hb) ?_
      rw [nI_1, show 11 - k + 1 = 12 - k by omega]
      exact ih (by omega) h
    · rw [hb, if_pos rfl] at h
      refine brN (fun z => by rw [(bt_z x (by omega)).mp z] at hb; cases hb) ?_
      exact brN (nI_ge (b := 12) (by omega) (by omega)) h
theorem tz0 {x : Int32} (h : subn 12 x) (hx : x ≠ 0) {Q : Int32 → Prop} (hq : Q (oI (lsN (nu x) 12))) : wJ5_numberOfTrailingZeros x Q := by
  refine tz_ok ?_
  rw [nu_I x, tz_all _ (nu_lt h) (fun z => hx (by rw [nu_I x, z]; rfl))]
  exact hq
