/-! PLAIN LAW: in how many rows all can be read: one equation -/
set_option maxRecDepth 100000
/-- what an entry of a table is, by those above it -/
def rEq (p : Nat → Nat → Bool) (L b : Nat) (arr : Nat → Int32) (y : Nat) : Int32 := fo (fun k a => a + (if p y k = true then arr (y ||| 2 ^ k) else nn 0)) b 0 (if y = L then nn 1 else nn 0)
theorem or_gt {y k : Nat} (h : y.testBit k = false) : y < y ||| 2 ^ k := by
  have h1 : y ≤ y ||| 2 ^ k := Nat.left_le_or
  rcases Nat.lt_or_ge y (y ||| 2 ^ k) with z | z
  · exact z
  · have e : y = y ||| 2 ^ k := Nat.le_antisymm h1 z
    rw [e, Nat.testBit_or, tb_pw, decide_eq_true rfl, Bool.or_true] at h
    cases h
theorem rEq_congr {p : Nat → Nat → Bool} {L b : Nat} {f g : Nat → Int32} {y : Nat} (hp : ∀ k, k < b → p y k = true → f (y ||| 2 ^ k) = g (y ||| 2 ^ k)) : rEq p L b f y = rEq p L b g y := by
  unfold rEq
  apply fo_congr
  intro k _ hk a
  by_cases h : p y k = true
  · rw [if_pos h, if_pos h, hp k (by omega) h]
  · rw [if_neg h, if_neg h]
/-- the component's table and the Model's: the same entries -/
theorem tab_eq {S : Nat → Nat → Int32} {b l s t u : Nat} (hS : SOb b l s t u S) {f g : Nat → Int32} (hf : ∀ x, su x (tcm S b) → f x = rEq (fun x k => pWO S (tcm S b) (kn S ||| x) k) (tcm S b) b f x) (hg : ∀ y, su (kn S) y → su y (atL S b) → g y = rEq (fun y k => pWO S (atL S b) y k) (atL S b) b g y) : ∀ m x, 256 - x ≤ m → su x (tcm S b) → f x = g (kn S ||| x) := by
  obtain ⟨a1, a2, a3⟩ := atL_s hS
  have h2b := pw_le hS.1.1
  have htc : ∀ k, (tcm S b).testBit k = ((atL S b).testBit k && !(kn S).testBit k) := tcm_tb hS
  have hlt : tcm S b < 256 := Nat.lt_of_lt_of_le (sd_lt a1) h2b
  have main : ∀ m x, 256 - x ≤ m → su x (tcm S b) → (∀ z, x < z → su z (tcm S b) → f z = g (kn S ||| z)) → f x = g (kn S ||| x) := by
    intro m x _ hx hab
    have hy : su (kn S ||| x) (atL S b) := su_or a2 (su_trans hx (tcm_su hS))
    rw [hf x hx, hg (kn S ||| x) (su_or_l _ _) hy]
    unfold rEq
    have e0 : (x = tcm S b) = (kn S ||| x = atL S b) := by
      apply propext
      constructor
      · intro z
        rw [z]
        apply Nat.eq_of_testBit_eq
        intro k
        rw [Nat.testBit_or, htc]
        cases h1 : (kn S).testBit k
        · simp
        · rw [a2 k h1]; rfl
      · intro z
        apply Nat.eq_of_testBit_eq
        intro k
        rw [htc, ← z, Nat.testBit_or]
        cases h1 : x.testBit k
        · cases (kn S).testBit k <;> rfl
        · have := hx k h1
          rw [htc, Bool.and_eq_true, Bool.not_eq_true'] at this
          rw [this.2]; rfl
    have e1 : (if x = tcm S b then nn 1 else nn 0) = (if kn S ||| x = atL S b then nn 1 else nn 0) := by
      by_cases z : x = tcm S b
      · rw [if_pos z, if_pos (by rw [← e0]; exact z)]
      · rw [if_neg z, if_neg (by rw [← e0]; exact z)]
    rw [e1]
    apply fo_congr
    intro k _ hk a
    have hpe : pWO S (tcm S b) (kn S ||| x) k = pWO S (atL S b) (kn S ||| x) k := by
      unfold pWO opN
      rw [htc, Nat.testBit_or]
      cases (kn S).testBit k <;> simp
    show (a + if pWO S (tcm S b) (kn S ||| x) k = true then f (x ||| 2 ^ k) else nn 0) = a + if pWO S (atL S b) (kn S ||| x) k = true then g (kn S ||| x ||| 2 ^ k) else nn 0
    rw [hpe]
    by_cases hp : pWO S (atL S b) (kn S ||| x) k = true
    · have hp2 : pWO S (tcm S b) (kn S ||| x) k = true := by rw [hpe]; exact hp
      rw [if_pos hp, if_pos hp]
      unfold pWO opN at hp2
      rw [Bool.and_eq_true, Bool.and_eq_true, Bool.not_eq_true', Nat.testBit_or, Bool.or_eq_false_iff] at hp2
      rw [hab (x ||| 2 ^ k) (or_gt hp2.2.1.2) (su_or hx (su_pw hp2.1)), Nat.or_assoc]
    · rw [if_neg hp, if_neg hp]
  intro m
  induction m with
  | zero =>
    intro x hm hx
    have := su_le hx
    omega
  | succ m ih =>
    intro x hm hx
    exact main (m + 1) x hm hx (fun z hz hzs => ih z (by have := su_le hzs; omega) hzs)
