/-! PLAIN LAW: sets of books as numbers below 256 -/
set_option maxRecDepth 100000
theorem bt_nn {x k : Nat} (hx : x < 256) (hk : k < 8) : bt (nn x) (nn k) = x.testBit k := by
  have h : ∀ x, x < 256 → ∀ k, k < 8 → bt (nn x) (nn k) = x.testBit k := by decide +kernel
  exact h x hx k hk
theorem sh_nn {k : Nat} (hk : k < 9) : (1 : Int32) <<< (nn k &&& 31) = nn (2 ^ k) := by
  have h : ∀ k, k < 9 → (1 : Int32) <<< (nn k &&& 31) = nn (2 ^ k) := by decide +kernel
  exact h k hk
theorem nn_bv (x : Nat) : (nn x).toBitVec = BitVec.ofNat 32 x := rfl
theorem or_nn (x y : Nat) : nn x ||| nn y = nn (x ||| y) := by
  apply Int32.toBitVec_inj.1
  rw [Int32.toBitVec_or, nn_bv, nn_bv, nn_bv]
  apply BitVec.eq_of_getLsbD_eq
  intro i hi
  simp [BitVec.getLsbD_ofNat, hi]
theorem and_nn (x y : Nat) : nn x &&& nn y = nn (x &&& y) := by
  apply Int32.toBitVec_inj.1
  rw [Int32.toBitVec_and, nn_bv, nn_bv, nn_bv]
  apply BitVec.eq_of_getLsbD_eq
  intro i hi
  simp [BitVec.getLsbD_ofNat, hi]
/-- x without y -/
def sd (x y : Nat) : Nat := x &&& (255 ^^^ y)
theorem tb_hi {x k : Nat} (hx : x < 256) (hk : 8 ≤ k) : x.testBit k = false := Nat.testBit_lt_two_pow (Nat.lt_of_lt_of_le hx (by have : 2 ^ 8 ≤ 2 ^ k := Nat.pow_le_pow_right (by omega) hk; omega))
theorem tb_255 {k : Nat} (hk : k < 8) : (255 : Nat).testBit k = true := by
  have h : ∀ k, k < 8 → (255 : Nat).testBit k = true := by decide
  exact h k hk
theorem sd_tb {x y k : Nat} (hx : x < 256) : (sd x y).testBit k = (x.testBit k && !y.testBit k) := by
  unfold sd
  rw [Nat.testBit_and, Nat.testBit_xor]
  by_cases hk : k < 8
  · rw [tb_255 hk]
    cases y.testBit k <;> rfl
  · rw [tb_hi hx (by omega)]
    rfl
theorem dif_nn {x y : Nat} (hx : x < 256) : nn x &&& (nn y ^^^ -1) = nn (sd x y) := by
  apply Int32.toBitVec_inj.1
  rw [Int32.xor_neg_one, Int32.toBitVec_and, Int32.toBitVec_not, nn_bv, nn_bv, nn_bv]
  apply BitVec.eq_of_getLsbD_eq
  intro i hi
  rw [BitVec.getLsbD_and, BitVec.getLsbD_not, BitVec.getLsbD_ofNat, BitVec.getLsbD_ofNat, BitVec.getLsbD_ofNat, sd_tb hx]
  simp [hi]
theorem sd_lt {x y n : Nat} (hx : x < 2 ^ n) : sd x y < 2 ^ n := Nat.lt_of_le_of_lt Nat.and_le_left hx
/-- a part of -/
def su (x y : Nat) : Prop := ∀ k, x.testBit k = true → y.testBit k = true
theorem su_refl (x : Nat) : su x x := fun _ h => h
theorem su_trans {x y z : Nat} (h : su x y) (g : su y z) : su x z := fun k hk => g k (h k hk)
theorem su_anti {x y : Nat} (h : su x y) (g : su y x) : x = y := by
  apply Nat.eq_of_testBit_eq
  intro k
  cases hx : x.testBit k
  · cases hy : y.testBit k
    · rfl
    · rw [g k hy] at hx; cases hx
  · rw [h k hx]
theorem su_or_l (x y : Nat) : su x (x ||| y) := by
  intro k h
  rw [Nat.testBit_or, h]
  rfl
theorem su_or_r (x y : Nat) : su y (x ||| y) := by
  intro k h
  rw [Nat.testBit_or, h, Bool.or_true]
theorem su_or {x y z : Nat} (h : su x z) (g : su y z) : su (x ||| y) z := by
  intro k hk
  rw [Nat.testBit_or, Bool.or_eq_true] at hk
  rcases hk with hk | hk
  · exact h k hk
  · exact g k hk
theorem su_0 (x : Nat) : su 0 x := by
  intro k h
  rw [Nat.zero_testBit] at h
  cases h
theorem su_le {x y : Nat} (h : su x y) : x ≤ y := by
  have : x ||| y = y := by
    apply su_anti
    · exact su_or h (su_refl y)
    · exact su_or_r x y
  rw [← this]
  exact Nat.left_le_or
theorem sd_0 {x y : Nat} (hx : x < 256) : sd x y = 0 ↔ su x y := by
  constructor
  · intro h k hk
    have := sd_tb (y := y) (k := k) hx
    rw [h, Nat.zero_testBit, hk] at this
    cases hy : y.testBit k
    · rw [hy] at this; cases this
    · rfl
  · intro h
    apply Nat.eq_of_testBit_eq
    intro k
    rw [sd_tb hx, Nat.zero_testBit]
    cases hk : x.testBit k
    · rfl
    · rw [h k hk]; rfl
theorem nn_z {x : Nat} (hx : x < 2147483648) : (nn x = 0) = (x = 0) := nn_inj (b := 0) hx (by decide)
/-- open, of numbers -/
def opN (n r k : Nat) : Bool := !r.testBit k && decide (sd n r = 0)
theorem opn_nn {n r k : Nat} (hn : n < 256) (hr : r < 256) (hk : k < 8) : opn (nn n) (nn r) (nn k) = opN n r k := by
  unfold opn opN
  rw [bt_nn hr hk, dif_nn hn]
  congr 1
  have : sd n r < 2 ^ 8 := sd_lt hn
  simp only [nn_z (show sd n r < 2147483648 by omega)]
theorem opN_t {n r k : Nat} (hn : n < 256) : opN n r k = true ↔ r.testBit k = false ∧ su n r := by
  unfold opN
  rw [Bool.and_eq_true, Bool.not_eq_true', decide_eq_true_eq, sd_0 hn]
theorem tb_pw {k i : Nat} : (2 ^ k).testBit i = decide (k = i) := Nat.testBit_two_pow
/-- all books -/
theorem tb_all {b k : Nat} : (2 ^ b - 1).testBit k = decide (k < b) := Nat.testBit_two_pow_sub_one _ _
/-- how many -/
def pc : Nat → Nat → Nat
  | 0, _ => 0
  | n + 1, x => (if x.testBit n then 1 else 0) + pc n x
theorem pc_le (n x : Nat) : pc n x ≤ n := by
  induction n with
  | zero => exact Nat.le_refl _
  | succ n ih =>
    unfold pc
    split <;> omega
theorem pc_mono {n x y : Nat} (h : su x y) : pc n x ≤ pc n y := by
  induction n with
  | zero => exact Nat.le_refl _
  | succ n ih =>
    unfold pc
    by_cases hx : x.testBit n = true
    · rw [if_pos hx, if_pos (h n hx)]; omega
    · rw [if_neg hx]
      split <;> omega
theorem pc_lt {n x y k : Nat} (h : su x y) (hk : k < n) (h1 : x.testBit k = false) (h2 : y.testBit k = true) : pc n x < pc n y := by
  induction n with
  | zero => omega
  | succ n ih =>
    unfold pc
    by_cases hkn : k = n
    · subst hkn
      rw [if_neg (by rw [h1]; decide), if_pos h2]
      have := pc_mono (n := k) h
      omega
    · have := ih (by omega)
      by_cases hx : x.testBit n = true
      · rw [if_pos hx, if_pos (h n hx)]; omega
      · rw [if_neg hx]
        split <;> omega
/-- an inflating step, again and again till nothing comes -/
def itr (f : Nat → Nat) : Nat → Nat → Nat
  | 0, x => x
  | n + 1, x => if f x = x then x else itr f n (f x)
theorem itr_spec {f : Nat → Nat} {B : Nat} (hf : ∀ x, x < B → su x (f x) ∧ f x < B) : ∀ (n x : Nat), x < B → B ≤ n + x → f (itr f n x) = itr f n x ∧ itr f n x < B ∧ su x (itr f n x) := by
  intro n
  induction n with
  | zero => intro x h1 h2; omega
  | succ n ih =>
    intro x h1 h2
    unfold itr
    by_cases he : f x = x
    · rw [if_pos he]; exact ⟨he, h1, su_refl x⟩
    · rw [if_neg he]
      have hx := hf x h1
      have hle := su_le hx.1
      obtain ⟨a, b, c⟩ := ih (f x) hx.2 (by omega)
      exact ⟨a, b, su_trans hx.1 c⟩
/-- it stays within what is closed -/
theorem itr_in {f : Nat → Nat} {y : Nat} (hf : ∀ x, su x y → su (f x) y) : ∀ (n x : Nat), su x y → su (itr f n x) y := by
  intro n
  induction n with
  | zero => intro x h; exact h
  | succ n ih =>
    intro x h
    unfold itr
    by_cases he : f x = x
    · rw [if_pos he]; exact h
    · rw [if_neg he]; exact ih _ (hf x h)
