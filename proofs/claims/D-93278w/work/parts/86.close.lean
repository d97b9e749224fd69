set_option maxRecDepth 100000
/-! FOLLOWERS: both sides find the least closed set -/
def sub (x y : Int32) : Prop := ∀ i, bt x i = true → bt y i = true
theorem sub_rf {x : Int32} : sub x x := fun _ h => h
theorem sub_tr {x y z : Int32} (h : sub x y) (g : sub y z) : sub x z := fun i hi => g i (h i hi)
theorem sub_l {x y : Int32} : sub x (x ||| y) := fun i hi => by rw [b_or, hi]; rfl
theorem sub_r {x y : Int32} : sub y (x ||| y) := fun i hi => by rw [b_or, hi]; simp
theorem sub_or {x y z : Int32} (h : sub x z) (g : sub y z) : sub (x ||| y) z := fun i hi => by
  rw [b_or] at hi
  cases hx : bt x i
  · rw [hx] at hi
    exact g i (by simpa using hi)
  · exact h i hx
theorem sub_0 {x : Int32} : sub 0 x := fun i hi => by rw [b_0] at hi; cases hi
theorem sub_anti {x y : Int32} (h : sub x y) (g : sub y x) : x = y := b_ext (fun i _ => by
  cases hx : bt x i
  · cases hy : bt y i
    · rfl
    · rw [g i hy] at hx; cases hx
  · exact (h i hx).symm)
def closed (F : Nat → Int32) (n : Nat) (z : Int32) : Prop := ∀ q, q < n → bt z q = true → sub (F q) z
def isCl (F : Nat → Int32) (n p : Nat) (y : Int32) : Prop := sub (F p) y ∧ closed F n y ∧ subn n y ∧ ∀ z, sub (F p) z → closed F n z → sub y z
theorem isCl_u {F : Nat → Int32} {n p : Nat} {y y' : Int32} (h : isCl F n p y) (g : isCl F n p y') : y = y' := sub_anti (h.2.2.2 y' g.1 g.2.1) (g.2.2.2 y h.1 h.2.1)
noncomputable def clo (F : Nat → Int32) (n p : Nat) : Int32 := @dite _ (∃ y, isCl F n p y) (Classical.propDecidable _) (fun h => h.choose) (fun _ => 0)
theorem clo_is {F : Nat → Int32} {n p : Nat} {y : Int32} (h : isCl F n p y) : clo F n p = y := by
  unfold clo
  have hx : ∃ y, isCl F n p y := ⟨y, h⟩
  rw [dif_pos hx]
  exact isCl_u hx.choose_spec h
/-! the twin -/
def un (F : Nat → Int32) (x : Int32) : Nat → Int32
  | 0 => x
  | i + 1 => un F x i ||| (if bt x i = true then F i else 0)
theorem un_l {F : Nat → Int32} {x : Int32} : ∀ k, sub x (un F x k) := by
  intro k
  induction k with
  | zero => exact sub_rf
  | succ k ih => exact sub_tr ih sub_l
theorem un_m {F : Nat → Int32} {x : Int32} {i : Nat} : ∀ k, i < k → bt x i = true → sub (F i) (un F x k) := by
  intro k
  induction k with
  | zero => intro h; omega
  | succ k ih =>
    intro h hx
    by_cases e : i = k
    · subst e
      unfold un
      rw [if_pos hx]
      exact sub_r
    · exact sub_tr (ih (by omega) hx) sub_l
theorem un_z {F : Nat → Int32} {x z : Int32} {n : Nat} (hx : sub x z) (hz : closed F n z) : ∀ k, k ≤ n → sub (un F x k) z := by
  intro k
  induction k with
  | zero => intro _; exact hx
  | succ k ih =>
    intro h
    refine sub_or (ih (by omega)) ?_
    by_cases hb : bt x k = true
    · rw [if_pos hb]
      exact hz k (by omega) (hx k hb)
    · rw [if_neg hb]
      exact sub_0
theorem un_s {F : Nat → Int32} {x : Int32} {n : Nat} (hx : subn n x) (hF : ∀ i, i < n → subn n (F i)) : ∀ k, k ≤ n → subn n (un F x k) := by
  intro k
  induction k with
  | zero => intro _; exact hx
  | succ k ih =>
    intro h
    refine subn_or (ih (by omega)) ?_
    by_cases hb : bt x k = true
    · rw [if_pos hb]
      exact hF k (by omega)
    · rw [if_neg hb]
      exact subn_0
def FT (T : TS) : Nat → Int32 := fun i => T.2 0 (6 + 5 * i + 4)
theorem fol_in {T : TS} {n : Nat} {x : Int32} {k9 : Int32 → Int32 → TS → Prop} {Q : Int32 → TS → Prop} (h : T.2 0 0 = nI n) (hn : n ≤ 12) (hk : k9 (un (FT T) x n) x T) : ∀ k, k ≤ n → wX6_followers_19 k9 Q (k + 1) (un (FT T) x (n - k)) x (nI (n - k)) T := by
  intro k
  induction k with
  | zero =>
    intro _
    refine ⟨pk_in 0 3114 (by omega), ?_⟩
    show ((T.2 0 0) ≤ _ → _) ∧ (¬ (T.2 0 0) ≤ _ → _)
    rw [h]
    exact brY (nI_le (a := n) (b := n - 0) (by omega) (by omega)) hk
  | succ k ih =>
    intro hkn
    refine ⟨pk_in 0 3114 (by omega), ?_⟩
    show ((T.2 0 0) ≤ _ → _) ∧ (¬ (T.2 0 0) ≤ _ → _)
    rw [h]
    have e1 : nI (n - (k + 1)) + 1 = nI (n - k) := by rw [nI_1]; congr 1; omega
    have e2 : n - k = n - (k + 1) + 1 := by omega
    refine brN (nI_ge (by omega) (by omega)) (brI (fun hb => ?_) (fun hb => ?_))
    · rw [bt_1 x (by omega)] at hb
      refine of6 4 (by omega) (by omega) ?_
      unfold wX6_followers_52
      rw [e1]
      have := ih (by omega)
      rw [show un (FT T) x (n - k) = un (FT T) x (n - (k + 1)) ||| FT T (n - (k + 1)) by rw [e2]; show _ ||| _ = _; rw [if_pos hb]] at this
      exact this
    · rw [bt_1 x (by omega)] at hb
      unfold wX6_followers_52
      rw [e1]
      have := ih (by omega)
      rw [show un (FT T) x (n - k) = un (FT T) x (n - (k + 1)) ||| 0 by rw [e2]; show _ ||| _ = _; rw [if_neg hb]] at this
      exact this
theorem nu12 {n : Nat} {x : Int32} (hn : n ≤ 12) (h : subn n x) : nu x < 4096 := nu_lt (n := 12) (subn_up h hn)
theorem fol_out {T : TS} {n p : Nat} {Q : Int32 → TS → Prop} (h : T.2 0 0 = nI n) (hn : n ≤ 12) (hF : ∀ i, i < n → subn n (FT T i)) (hq : ∀ y, isCl (FT T) n p y → Q y T) : ∀ m x, 4096 ≤ nu x + m → subn n x → sub (FT T p) x → (∀ z, sub (FT T p) z → closed (FT T) n z → sub x z) → wX6_followers_9 Q (m + 1) (un (FT T) x n) x T := by
  intro m
  induction m with
  | zero => intro x hx hs; have := nu12 hn hs; omega
  | succ m ih =>
    intro x hx hs h1 h2
    refine brI (fun e => ?_) (fun e => ?_)
    · rw [e]
      exact hq x ⟨h1, fun q hqn hb => by have := un_m (F := FT T) n hqn hb; rw [e] at this; exact this, hs, h2⟩
    · refine ⟨n + 1, ?_⟩
      have := fol_in (x := un (FT T) x n) (k9 := fun z0 z1 z2 => wX6_followers_9 Q (m + 1) z0 z1 z2) (Q := Q) h hn (ih (un (FT T) x n) ?_ (un_s hs hF n (Nat.le_refl _)) (sub_tr h1 (un_l n)) (fun z hz1 hz2 => un_z (h2 z hz1 hz2) hz2 n (Nat.le_refl _))) n (Nat.le_refl _)
      · rw [Nat.sub_self] at this
        exact this
      · have : nu x < nu (un (FT T) x n) := nu_less (un_l n) (fun q => e q.symm)
        omega
theorem fol6 {T : TS} {n p : Nat} (h : T.2 0 0 = nI n) (hn : n ≤ 12) (hp : p < n) (hF : ∀ i, i < n → subn n (FT T i)) : isCl (FT T) n p (clo (FT T) n p) ∧ ∀ Q : Int32 → TS → Prop, Q (clo (FT T) n p) T → wX6_followers (nI p) T Q := by
  have hex : ∀ Q : Int32 → TS → Prop, (∀ y, isCl (FT T) n p y → Q y T) → wX6_followers (nI p) T Q := by
    intro Q hq
    refine of6 4 (by omega) (by omega) ⟨4096 + 1 + 1, ?_⟩
    refine brN (fun e => ?_) ⟨n + 1, ?_⟩
    · have h1 := hF p hp 31 (by omega)
      have e2 : FT T p = -1 := e
      rw [e2, b_m1 31 (by omega)] at h1
      cases h1
    · have := fol_in (x := FT T p) (k9 := fun z0 z1 z2 => wX6_followers_9 Q (4096 + 1) z0 z1 z2) (Q := Q) h hn (fol_out h hn hF hq 4096 (FT T p) (by omega) (hF p hp) sub_rf (fun z hz _ => hz)) n (Nat.le_refl _)
      rw [Nat.sub_self] at this
      exact this
  have hc : ∃ y, isCl (FT T) n p y := by
    have := hex (fun _ _ => ∃ y, isCl (FT T) n p y) (fun y hy => ⟨y, hy⟩)
    obtain ⟨-, f, hf⟩ := this
    have gen : ∀ f l2 l3, wX6_followers_9 (fun _ _ => ∃ y, isCl (FT T) n p y) f l2 l3 T → ∃ y, isCl (FT T) n p y := by
      intro f
      induction f with
      | zero => intro l2 l3 h; exact h.elim
      | succ f ih =>
        intro l2 l3 hh
        by_cases e : l2 = l3
        · exact hh.1 e
        · obtain ⟨g, hg⟩ := hh.2 e
          have gen2 : ∀ g a b c, wX6_followers_19 (fun z0 z1 z2 => wX6_followers_9 (fun _ _ => ∃ y, isCl (FT T) n p y) f z0 z1 z2) (fun _ _ => ∃ y, isCl (FT T) n p y) g a b c T → ∃ y, isCl (FT T) n p y := by
            intro g
            induction g with
            | zero => intro a b c h; exact h.elim
            | succ g ihg =>
              intro a b c hh
              obtain ⟨-, h1, h2⟩ := hh
              by_cases e1 : T.2 0 (0 : Int32).toNatClampNeg ≤ c
              · exact ih _ _ (h1 e1)
              · by_cases e2 : ((b >>> (c &&& 31)) &&& (1 : Int32)) = 1
                · exact ihg _ _ _ (((h2 e1).1 e2).2)
                · exact ihg _ _ _ ((h2 e1).2 e2)
          exact gen2 g _ _ _ hg
    exact gen f _ _ hf
  obtain ⟨y, hy⟩ := hc
  have e := clo_is hy
  exact ⟨by rw [e]; exact hy, fun Q hq => hex Q (fun y' hy' => by rw [← clo_is hy']; exact hq)⟩
/-! the component -/
def in3 (A : Nat → Int32) (x : Int32) : Nat → Int32
  | 0 => x
  | i + 1 => in3 A x i ||| (if bt (in3 A x i) i = true then A i else 0)
theorem in3_l {A : Nat → Int32} {x : Int32} : ∀ k, sub x (in3 A x k) := by
  intro k
  induction k with
  | zero => exact sub_rf
  | succ k ih => exact sub_tr ih sub_l
theorem in3_c {A : Nat → Int32} {x : Int32} {i : Nat} : ∀ k, i < k → in3 A x k = x → bt x i = true → sub (A i) x := by
  intro k
  induction k with
  | zero => intro h; omega
  | succ k ih =>
    intro h e hb
    have e1 : in3 A x k = x := sub_anti (by
      have : sub (in3 A x k) (in3 A x (k + 1)) := sub_l
      rw [e] at this
      exact this) (in3_l k)
    by_cases ek : i = k
    · subst ek
      have : sub (A i) (in3 A x (i + 1)) := by
        show sub _ (_ ||| _)
        rw [e1, if_pos hb]
        exact sub_r
      rw [e] at this
      exact this
    · exact ih (by omega) e1 hb
theorem in3_z {A F : Nat → Int32} {x z : Int32} {n : Nat} (hx : sub x z) (hz : closed F n z) (hA : ∀ q, q < n → sub (F q) z → sub (A q) z) : ∀ k, k ≤ n → sub (in3 A x k) z := by
  intro k
  induction k with
  | zero => intro _; exact hx
  | succ k ih =>
    intro h
    refine sub_or (ih (by omega)) ?_
    by_cases hb : bt (in3 A x k) k = true
    · rw [if_pos hb]
      exact hA k (by omega) (hz k (by omega) (ih (by omega) k hb))
    · rw [if_neg hb]
      exact sub_0
theorem in3_s {A : Nat → Int32} {x : Int32} {n : Nat} (hx : subn n x) (hA : ∀ i, i < n → subn n (A i)) : ∀ k, k ≤ n → subn n (in3 A x k) := by
  intro k
  induction k with
  | zero => intro _; exact hx
  | succ k ih =>
    intro h
    refine subn_or (ih (by omega)) ?_
    by_cases hb : bt (in3 A x k) k = true
    · rw [if_pos hb]
      exact hA k (by omega)
    · rw [if_neg hb]
      exact subn_0
theorem sA_sAA (V : CV) (k j : Nat) (A : Nat → Int32) (v : Int32) : sA (sAA V k A) k j v = sAA V k (upd A j v) := by
  refine Prod.ext rfl (Prod.ext rfl (Prod.ext ?_ rfl))
  funext k' j'
  show (if k' = k ∧ j' = j then v else if k' = k then A j' else vA V k' j') = if k' = k then upd A j v j' else vA V k' j'
  by_cases h1 : k' = k
  · by_cases h2 : j' = j
    · rw [if_pos ⟨h1, h2⟩, if_pos h1, h2, upd_s]
    · rw [if_neg (fun q => h2 q.2), if_pos h1, if_pos h1, upd_n h2]
  · rw [if_neg (fun q => h1 q.1), if_neg h1, if_neg h1]
theorem vA_sAA (V : CV) (k j : Nat) (A : Nat → Int32) : vA (sAA V k A) k j = A j := if_pos rfl
def sw (n : Nat) : Nat → Int32 → (Nat → Int32) → Int32 × (Nat → Int32)
  | 0, l1, A => (l1, A)
  | k + 1, l1, A => sw n k (if l1 = 0 ∧ in3 A (A (n - (k + 1))) n = A (n - (k + 1)) then 0 else 1) (upd A (n - (k + 1)) (in3 A (A (n - (k + 1))) n))
theorem ff_in {V : CV} {A : Nat → Int32} {n p : Nat} {x l1 : Int32} {k20 : Int32 → CV → Prop} {k28 : Int32 → Int32 → CV → Prop} {Q : CV → Prop} (h : vS V 0 2 = nI n) (hn : n ≤ 12) (hp : p < n) (hx : x = A p) (hk : k28 (if l1 = 0 ∧ in3 A x n = A p then 0 else 1) (nI (p + 1)) (sAA V 16 (upd A p (in3 A x n)))) : ∀ k, k ≤ n → wX0_findFollowers_49 k20 k28 Q (k + 1) l1 (nI p) (in3 A x (n - k)) (nI (n - k)) (sAA V 16 A) := by
  intro k
  induction k with
  | zero =>
    intro _
    show ((vS V 0 2) ≤ _ → _) ∧ (¬ (vS V 0 2) ≤ _ → _)
    rw [h]
    refine brY (nI_le (a := n) (b := n - 0) (by omega) (by omega)) ?_
    have hin : vp_in (nI p) 12 := vp_in_nI (by omega) (by omega)
    have h109 : ∀ k0, k0 = (if l1 = 0 ∧ in3 A x n = A p then (0 : Int32) else 1) → wX0_findFollowers_109 k20 k28 (nI p) (in3 A x (n - 0)) k0 (sAA V 16 A) Q := by
      intro k0 e
      unfold wX0_findFollowers_109
      rw [nI_clamp (by omega), nI_1, sA_sAA, e]
      exact ⟨hin, hk⟩
    refine brI (fun e1 => ⟨hin, ?_⟩) (fun e1 => h109 1 (by rw [if_neg (fun q => e1 q.1)]))
    rw [nI_clamp (by omega), vA_sAA]
    exact brI (fun e2 => h109 0 (by rw [if_pos ⟨e1, e2⟩])) (fun e2 => h109 1 (by rw [if_neg (fun q => e2 q.2)]))
  | succ k ih =>
    intro hkn
    show ((vS V 0 2) ≤ _ → _) ∧ (¬ (vS V 0 2) ≤ _ → _)
    rw [h]
    have e1 : nI (n - (k + 1)) + 1 = nI (n - k) := by rw [nI_1]; congr 1; omega
    have e2 : n - k = n - (k + 1) + 1 := by omega
    refine brN (nI_ge (by omega) (by omega)) (has0 (by omega) ?_)
    have := ih (by omega)
    cases hb : bt (in3 A x (n - (k + 1))) (n - (k + 1))
    · refine br0 ?_
      unfold wX0_findFollowers_82
      rw [e1]
      rw [show in3 A x (n - k) = in3 A x (n - (k + 1)) ||| 0 by rw [e2]; show _ ||| _ = _; rw [if_neg (by rw [hb]; decide)]] at this
      exact this
    · refine br1 ⟨vp_in_nI (by omega) (by omega), ?_⟩
      unfold wX0_findFollowers_82
      rw [e1, nI_clamp (by omega), vA_sAA]
      rw [show in3 A x (n - k) = in3 A x (n - (k + 1)) ||| A (n - (k + 1)) by rw [e2]; show _ ||| _ = _; rw [if_pos hb]] at this
      exact this
theorem ff_sw {V : CV} {n : Nat} {k20 : Int32 → CV → Prop} {Q : CV → Prop} (h : vS V 0 2 = nI n) (hn : n ≤ 12) : ∀ k, k ≤ n → ∀ (l1 : Int32) (A : Nat → Int32), k20 (sw n k l1 A).1 (sAA V 16 (sw n k l1 A).2) → wX0_findFollowers_28 k20 Q (k + 1) l1 (nI (n - k)) (sAA V 16 A) := by
  intro k
  induction k with
  | zero =>
    intro _ l1 A hk
    show ((vS V 0 2) ≤ _ → _) ∧ (¬ (vS V 0 2) ≤ _ → _)
    rw [h]
    exact brY (nI_le (a := n) (b := n - 0) (by omega) (by omega)) hk
  | succ k ih =>
    intro hkn l1 A hk
    show ((vS V 0 2) ≤ _ → _) ∧ (¬ (vS V 0 2) ≤ _ → _)
    rw [h]
    refine brN (nI_ge (by omega) (by omega)) ⟨vp_in_nI (by omega) (by omega), n + 1, ?_⟩
    rw [nI_clamp (by omega), vA_sAA]
    have := ff_in (V := V) (A := A) (p := n - (k + 1)) (x := A (n - (k + 1))) (l1 := l1) (k20 := k20) (k28 := fun z0 z1 z2 => wX0_findFollowers_28 k20 Q (k + 1) z0 z1 z2) (Q := Q) h hn (by omega) rfl (by
      have g := ih (by omega) _ _ hk
      rw [show n - k = n - (k + 1) + 1 by omega] at g
      exact g) n (Nat.le_refl _)
    rw [Nat.sub_self] at this
    exact this
def mu (A : Nat → Int32) : Nat → Nat
  | 0 => 0
  | k + 1 => mu A k + nu (A k)
theorem mu_lt {A : Nat → Int32} {n : Nat} (hn : n ≤ 12) (h : ∀ i, i < n → subn n (A i)) : ∀ k, k ≤ n → mu A k ≤ k * 4096 := by
  intro k
  induction k with
  | zero => intro _; exact Nat.zero_le _
  | succ k ih =>
    intro hk
    have h1 := ih (by omega)
    have h2 := nu12 hn (h k (by omega))
    show mu A k + nu (A k) ≤ _
    omega
theorem mu_upd {A : Nat → Int32} {p : Nat} {x : Int32} (h : nu (A p) ≤ nu x) : ∀ k, mu A k ≤ mu (upd A p x) k ∧ (p < k → nu (A p) < nu x → mu A k < mu (upd A p x) k) := by
  intro k
  induction k with
  | zero => exact ⟨Nat.le_refl _, fun h => absurd h (Nat.not_lt_zero _)⟩
  | succ k ih =>
    show mu A k + nu (A k) ≤ mu (upd A p x) k + nu (upd A p x k) ∧ (_ → _ → mu A k + nu (A k) < mu (upd A p x) k + nu (upd A p x k))
    by_cases e : k = p
    · subst e
      rw [upd_s]
      have := ih.1
      exact ⟨by omega, fun _ hl => by omega⟩
    · rw [upd_n e]
      have := ih.1
      exact ⟨by omega, fun hp hl => by have := ih.2 (by omega) hl; omega⟩
def Jf (F A : Nat → Int32) (n : Nat) : Prop := ∀ p, p < n → sub (F p) (A p) ∧ subn n (A p) ∧ ∀ z, sub (F p) z → closed F n z → sub (A p) z
theorem Jf_upd {F A : Nat → Int32} {n p : Nat} (h : Jf F A n) (hp : p < n) : Jf F (upd A p (in3 A (A p) n)) n := by
  intro q hq
  by_cases e : q = p
  · subst e
    rw [upd_s]
    refine ⟨sub_tr (h q hq).1 (in3_l n), in3_s (h q hq).2.1 (fun i hi => (h i hi).2.1) n (Nat.le_refl _), fun z h1 h2 => in3_z ((h q hq).2.2 z h1 h2) h2 (fun i hi hz => (h i hi).2.2 z hz h2) n (Nat.le_refl _)⟩
  · rw [upd_n e]
    exact h q hq
theorem sw_ok {F : Nat → Int32} {n : Nat} : ∀ k, k ≤ n → ∀ (l1 : Int32) (A : Nat → Int32), Jf F A n → (l1 = 0 ∨ l1 = 1) → Jf F (sw n k l1 A).2 n ∧ mu A n ≤ mu (sw n k l1 A).2 n ∧ ((sw n k l1 A).1 = 0 ∨ (sw n k l1 A).1 = 1) ∧ ((sw n k l1 A).1 = 0 → l1 = 0 ∧ (∀ p, (sw n k l1 A).2 p = A p) ∧ ∀ p, n - k ≤ p → p < n → in3 A (A p) n = A p) ∧ (l1 = 0 → (sw n k l1 A).1 ≠ 0 → mu A n < mu (sw n k l1 A).2 n) := by
  intro k
  induction k with
  | zero =>
    intro _ l1 A hJ hl
    exact ⟨hJ, Nat.le_refl _, hl, fun e => ⟨e, fun _ => rfl, fun p h1 h2 => by omega⟩, fun e h => absurd e h⟩
  | succ k ih =>
    intro hk l1 A hJ hl
    have hp : n - (k + 1) < n := by omega
    have hnu : nu (A (n - (k + 1))) ≤ nu (in3 A (A (n - (k + 1))) n) := nu_le (in3_l n)
    have hm := mu_upd (A := A) hnu n
    show Jf F (sw n k _ _).2 n ∧ _
    by_cases hc : l1 = 0 ∧ in3 A (A (n - (k + 1))) n = A (n - (k + 1))
    · obtain ⟨g1, g2, g3, g4, g5⟩ := ih (by omega) 0 (upd A (n - (k + 1)) (in3 A (A (n - (k + 1))) n)) (Jf_upd hJ hp) (Or.inl rfl)
      have eA : upd A (n - (k + 1)) (in3 A (A (n - (k + 1))) n) = A := by
        funext j
        by_cases e : j = n - (k + 1)
        · rw [e, upd_s, hc.2]
        · rw [upd_n e]
      have es : sw n (k + 1) l1 A = sw n k 0 (upd A (n - (k + 1)) (in3 A (A (n - (k + 1))) n)) := by
        show sw n k (if _ then _ else _) _ = _
        rw [if_pos hc]
      show Jf F (sw n (k + 1) l1 A).2 n ∧ _
      rw [es]
      rw [eA] at g1 g2 g3 g4 g5 ⊢
      refine ⟨g1, g2, g3, fun e => ⟨hc.1, (g4 e).2.1, fun p h1 h2 => ?_⟩, fun _ h => g5 rfl h⟩
      by_cases ep : p = n - (k + 1)
      · rw [ep]; exact hc.2
      · exact (g4 e).2.2 p (by omega) h2
    · obtain ⟨g1, g2, g3, g4, g5⟩ := ih (by omega) 1 (upd A (n - (k + 1)) (in3 A (A (n - (k + 1))) n)) (Jf_upd hJ hp) (Or.inr rfl)
      have es : sw n (k + 1) l1 A = sw n k 1 (upd A (n - (k + 1)) (in3 A (A (n - (k + 1))) n)) := by
        show sw n k (if _ then _ else _) _ = _
        rw [if_neg hc]
      show Jf F (sw n (k + 1) l1 A).2 n ∧ _
      rw [es]
      refine ⟨g1, Nat.le_trans hm.1 g2, g3, fun e => absurd (g4 e).1 (by decide), fun e h => ?_⟩
      refine Nat.lt_of_lt_of_le (hm.2 hp (nu_less (in3_l n) (fun q => hc ⟨e, q.symm⟩))) g2
theorem ff_out {V : CV} {F : Nat → Int32} {n : Nat} {Q : CV → Prop} (h : vS V 0 2 = nI n) (hn : n ≤ 12) (hq : ∀ A, (∀ p, p < n → isCl F n p (A p)) → Q (sAA V 16 A)) : ∀ m A, n * 4096 < mu A n + m → Jf F A n → wX0_findFollowers_20 Q (m + 1) 1 (sAA V 16 A) := by
  intro m
  induction m with
  | zero => intro A h1 hJ; have := mu_lt hn (fun i hi => (hJ i hi).2.1) n (Nat.le_refl _); omega
  | succ m ih =>
    intro A hm hJ
    refine brN (by decide) ⟨n + 1, ?_⟩
    obtain ⟨g1, g2, g3, g4, g5⟩ := sw_ok (F := F) n (Nat.le_refl _) 0 A hJ (Or.inl rfl)
    have := ff_sw (V := V) (k20 := fun z0 z1 => wX0_findFollowers_20 Q (m + 1) z0 z1) (Q := Q) h hn n (Nat.le_refl _) 0 A (by
      rcases g3 with e | e
      · rw [e]
        refine br0 (hq _ (fun p hp => ?_))
        obtain ⟨-, h1, h2⟩ := g4 e
        rw [h1]
        have hc : ∀ i, i < n → bt (A p) i = true → sub (A i) (A p) := fun i hi hb => in3_c n hi (h2 p (by omega) hp) hb
        exact ⟨(hJ p hp).1, fun q hq hb => sub_tr (hJ q hq).1 (hc q hq hb), (hJ p hp).2.1, (hJ p hp).2.2⟩
      · have h1 := g5 rfl (by rw [e]; decide)
        rw [e]
        exact ih _ (by omega) g1)
    rw [Nat.sub_self] at this
    exact this
/-- the component's followers, all at once -/
theorem ff0 {V : CV} {T : TS} {n dn tn : Nat} (h0 : RS V 0 (T.2 0) n dn tn) {Q : CV → Prop} (hq : ∀ V', sameV V V' → (∀ p, p < n → vA V' 16 p = clo (FT T) n p) → Q V') : wX0_findFollowers V Q := by
  have hn := h0.1.1
  have hJ : Jf (FT T) (fun j => if j < 12 then vSA V 0 6 j else vA V 16 j) n := by
    intro p hp
    have e : (if p < 12 then vSA V 0 6 p else vA V 16 p) = FT T p := by
      rw [if_pos (by omega)]
      exact (h0.2.2.2.2.2.2.2.1 p hp).2.2
    show sub (FT T p) (if p < 12 then vSA V 0 6 p else vA V 16 p) ∧ subn n (if p < 12 then vSA V 0 6 p else vA V 16 p) ∧ ∀ z, _ → _ → sub (if p < 12 then vSA V 0 6 p else vA V 16 p) z
    rw [e]
    exact ⟨sub_rf, (h0.2.2.2.2.2.2.2.2.1 p hp).2.1, fun z hz _ => hz⟩
  refine ⟨n * 4096 + 1 + 1, ff_out (F := FT T) h0.n0.1 hn (fun A hA => hq _ (sAA_same (by decide)) (fun p hp => ?_)) _ _ (by omega) hJ⟩
  rw [vA_sAA]
  exact (clo_is (hA p hp)).symm
theorem fol6' {V : CV} {T : TS} {n dn tn p : Nat} (h0 : RS V 0 (T.2 0) n dn tn) (hp : p < n) : isCl (FT T) n p (clo (FT T) n p) ∧ ∀ Q : Int32 → TS → Prop, Q (clo (FT T) n p) T → wX6_followers (nI p) T Q :=
  fol6 h0.n0.2 h0.1.1 hp (fun i hi => (h0.2.2.2.2.2.2.2.2.1 i hi).2.1)
