/-! PLAIN LAW: numbers. nn n: a small number as an Int32 -/
set_option maxRecDepth 100000
def nn (n : Nat) : Int32 := Int32.ofNat n
theorem nn_0 : (0 : Int32) = nn 0 := rfl
theorem nn_lit (n : Nat) : (OfNat.ofNat n : Int32) = nn n := rfl
theorem nn_add (a b : Nat) : nn a + nn b = nn (a + b) := by unfold nn; exact (Int32.ofNat_add a b).symm
theorem nn_mul (a b : Nat) : nn a * nn b = nn (a * b) := by unfold nn; exact (Int32.ofNat_mul a b).symm
theorem nn_sub {a b : Nat} (h : b ≤ a) : nn a - nn b = nn (a - b) := by
  have e : nn (a - b) + nn b = nn a := by rw [nn_add]; congr 1; omega
  rw [← e]
  exact Int32.add_sub_cancel _ _
theorem nn_toInt {a : Nat} (h : a < 2147483648) : (nn a).toInt = (a : Int) := by
  unfold nn
  exact Int32.toInt_ofNat_of_lt h
theorem nn_lt {a b : Nat} (ha : a < 2147483648) (hb : b < 2147483648) : (nn a < nn b) = (a < b) := by
  rw [Int32.lt_iff_toInt_lt, nn_toInt ha, nn_toInt hb]
  exact propext Int.ofNat_lt
theorem nn_le {a b : Nat} (ha : a < 2147483648) (hb : b < 2147483648) : (nn a ≤ nn b) = (a ≤ b) := by
  rw [Int32.le_iff_toInt_le, nn_toInt ha, nn_toInt hb]
  exact propext Int.ofNat_le
theorem nn_inj {a b : Nat} (ha : a < 2147483648) (hb : b < 2147483648) : (nn a = nn b) = (a = b) := by
  refine propext ⟨fun h => ?_, fun h => by rw [h]⟩
  have e := congrArg Int32.toInt h
  rw [nn_toInt ha, nn_toInt hb] at e
  exact Int.ofNat.inj e
theorem nn_cl {a : Nat} (h : a < 2147483648) : (nn a).toNatClampNeg = a := by
  rw [← Int32.toNat_toInt, nn_toInt h]
  rfl
theorem nn_neg {a : Nat} (h : a < 2147483648) : ¬ nn a < 0 := by
  rw [Int32.lt_iff_toInt_lt, nn_toInt h]
  exact Int.not_lt.mpr (Int.natCast_nonneg a)
theorem inb_nn {a n : Nat} (h : a < 2147483648) : inb (nn a) n = decide (a < n) := by
  unfold inb
  rw [nn_cl h, decide_eq_false (nn_neg h)]
  rfl
/-- a number that is not below 0 is some nn -/
theorem nn_of {x : Int32} (h : 0 ≤ x) : x = nn x.toNatClampNeg ∧ x.toNatClampNeg < 2147483648 := by
  have h0 : 0 ≤ x.toInt := Int32.le_iff_toInt_le.mp h
  have h1 : x.toInt < 2147483648 := Int32.toInt_lt x
  have h2 : x.toNatClampNeg = x.toInt.toNat := (Int32.toNat_toInt x).symm
  have h3 : x.toNatClampNeg < 2147483648 := by rw [h2]; omega
  refine ⟨?_, h3⟩
  apply Int32.toInt.inj
  rw [nn_toInt h3, h2]
  omega
theorem nn_in {x : Int32} {n : Nat} (hn : n < 2147483648) (h0 : 0 ≤ x) (h1 : x < nn n) : ∃ k : Nat, x = nn k ∧ k < n := by
  obtain ⟨e, he⟩ := nn_of h0
  rw [e, nn_lt he hn] at h1
  exact ⟨_, e, h1⟩
theorem nn_in' {x : Int32} {n : Nat} (hn : n < 2147483648) (h0 : 0 ≤ x) (h1 : x ≤ nn n) : ∃ k : Nat, x = nn k ∧ k ≤ n := by
  obtain ⟨e, he⟩ := nn_of h0
  rw [e, nn_le he hn] at h1
  exact ⟨_, e, h1⟩
/-- a boolean as the machine has it -/
def bz (p : Bool) : Int32 := if p = true then 1 else 0
theorem bz_0 (p : Bool) : (bz p = 0) = (p = false) := by cases p <;> decide
theorem bz_t : bz true = 1 := rfl
theorem bz_f : bz false = 0 := rfl
theorem bz_01 (p : Bool) : bz p = 0 ∨ bz p = 1 := by cases p <;> decide
theorem rz_bz (p : Bool) : rz (bz p) = some (bz p) := by cases p <;> decide
theorem bz_ite (p : Prop) [Decidable p] : (if p then (1 : Int32) else 0) = bz (decide p) := by
  by_cases h : p
  · rw [if_pos h, decide_eq_true h]; rfl
  · rw [if_neg h, decide_eq_false h]; rfl
theorem bz_iteN (p : Prop) [Decidable p] : (if p then (0 : Int32) else 1) = bz (decide ¬ p) := by
  by_cases h : p
  · rw [if_pos h, decide_eq_false (fun z => z h)]; rfl
  · rw [if_neg h, decide_eq_true h]; rfl
theorem bz_inj (p q : Bool) : (bz p = bz q) = (p = q) := by cases p <;> cases q <;> decide
theorem bz_and (p q : Bool) : bz p &&& bz q = bz (p && q) := by cases p <;> cases q <;> decide
theorem rz_0 : rz 0 = some 0 := by decide
theorem rz_1 : rz 1 = some 1 := by decide
theorem bd2_some {α β γ : Type} (a : α) (b : β) (f : α → β → Option γ) : bd2 (some (a, b)) f = f a b := rfl
theorem bd2_eta {α β : Type} (o : Option (α × β)) : (bd2 o fun a b => some (a, b)) = o := by
  cases o with
  | none => rfl
  | some x => rfl
theorem bind_eta {α : Type} (o : Option α) : (o.bind fun a => some a) = o := by cases o <;> rfl
theorem lit_bind {α β : Type} (a : α) (f : α → Option β) : (some a).bind f = f a := rfl
/-- a loop over d numbers from b on -/
def fo {α : Type} (f : Nat → α → α) : Nat → Nat → α → α
  | 0, _, a => a
  | d + 1, b, a => fo f d (b + 1) (f b a)
theorem fo_0 {α : Type} (f : Nat → α → α) (b : Nat) (a : α) : fo f 0 b a = a := rfl
theorem fo_s {α : Type} (f : Nat → α → α) (d b : Nat) (a : α) : fo f (d + 1) b a = fo f d (b + 1) (f b a) := rfl
theorem fo_snoc {α : Type} (f : Nat → α → α) (d b : Nat) (a : α) : fo f (d + 1) b a = f (b + d) (fo f d b a) := by
  induction d generalizing b a with
  | zero => rfl
  | succ d ih =>
    rw [fo_s, ih, fo_s]
    congr 1
    omega
theorem fo_congr {α : Type} {f g : Nat → α → α} {d b : Nat} (a : α) (h : ∀ i, b ≤ i → i < b + d → ∀ x, f i x = g i x) : fo f d b a = fo g d b a := by
  induction d generalizing b a with
  | zero => rfl
  | succ d ih =>
    rw [fo_s, fo_s, h b (Nat.le_refl _) (by omega), ih]
    intro i h1 h2 x
    exact h i (by omega) (by omega) x
/-- an invariant of a loop -/
theorem fo_inv {α : Type} {f : Nat → α → α} {d b : Nat} {a : α} (P : Nat → α → Prop) (h0 : P b a) (h : ∀ i, b ≤ i → i < b + d → ∀ x, P i x → P (i + 1) (f i x)) : P (b + d) (fo f d b a) := by
  induction d generalizing b a with
  | zero => exact h0
  | succ d ih =>
    rw [fo_s]
    have e : b + (d + 1) = (b + 1) + d := by omega
    rw [e]
    refine ih (h b (Nat.le_refl _) (by omega) a h0) (fun i h1 h2 x hx => h i (by omega) (by omega) x hx)
/-- two loops side by side -/
theorem fo_rel {α β : Type} {f : Nat → α → α} {g : Nat → β → β} {d b : Nat} {a : α} {c : β} (P : Nat → α → β → Prop) (h0 : P b a c) (h : ∀ i, b ≤ i → i < b + d → ∀ x y, P i x y → P (i + 1) (f i x) (g i y)) : P (b + d) (fo f d b a) (fo g d b c) := by
  induction d generalizing b a c with
  | zero => exact h0
  | succ d ih =>
    rw [fo_s, fo_s]
    have e : b + (d + 1) = (b + 1) + d := by omega
    rw [e]
    refine ih (h b (Nat.le_refl _) (by omega) a c h0) (fun i h1 h2 x y hx => h i (by omega) (by omega) x y hx)
theorem upd_s (f : Nat → Int32) (k : Nat) (x : Int32) : upd f k x k = x := by unfold upd; rw [if_pos rfl]
theorem upd_n (f : Nat → Int32) {k j : Nat} (x : Int32) (h : j ≠ k) : upd f k x j = f j := by unfold upd; rw [if_neg h]
/-- the comparison of longs -/
theorem cmp_lt (x y : Int64) : (lg_cmp x y < 0) = (x < y) := by
  unfold lg_cmp
  by_cases h1 : x > y
  · rw [if_pos h1]
    refine propext ⟨fun z => absurd z (by decide), fun z => ?_⟩
    rw [Int64.lt_iff_toInt_lt] at z
    rw [gt_iff_lt, Int64.lt_iff_toInt_lt] at h1
    omega
  · rw [if_neg h1]
    by_cases h2 : x = y
    · rw [if_pos h2]
      refine propext ⟨fun z => absurd z (by decide), fun z => ?_⟩
      rw [h2, Int64.lt_iff_toInt_lt] at z
      omega
    · rw [if_neg h2]
      refine propext ⟨fun _ => ?_, fun _ => by decide⟩
      rw [Int64.lt_iff_toInt_lt]
      rw [gt_iff_lt, Int64.lt_iff_toInt_lt] at h1
      have h3 : x.toInt ≠ y.toInt := fun z => h2 (Int64.toInt.inj z)
      omega
theorem cmp_gt (x y : Int64) : (0 < lg_cmp x y) = (y < x) := by
  unfold lg_cmp
  by_cases h1 : x > y
  · rw [if_pos h1]
    exact propext ⟨fun _ => h1, fun _ => by decide⟩
  · rw [if_neg h1]
    by_cases h2 : x = y
    · rw [if_pos h2]
      exact propext ⟨fun z => absurd z (by decide), fun z => absurd z h1⟩
    · rw [if_neg h2]
      exact propext ⟨fun z => absurd z (by decide), fun z => absurd z h1⟩
theorem cmp_eq (x y : Int64) : (lg_cmp x y = 0) = (x = y) := by
  unfold lg_cmp
  by_cases h1 : x > y
  · rw [if_pos h1]
    refine propext ⟨fun z => absurd z (by decide), fun z => ?_⟩
    rw [z, gt_iff_lt, Int64.lt_iff_toInt_lt] at h1
    omega
  · rw [if_neg h1]
    by_cases h2 : x = y
    · rw [if_pos h2]
      exact propext ⟨fun _ => h2, fun _ => rfl⟩
    · rw [if_neg h2]
      exact propext ⟨fun z => absurd z (by decide), fun z => absurd z h2⟩
theorem cmp_ge (x y : Int64) : (0 ≤ lg_cmp x y) = (y ≤ x) := by
  have e := cmp_lt x y
  refine propext ⟨fun h => ?_, fun h => ?_⟩
  · rw [Int64.le_iff_toInt_le]
    have h2 : ¬ x < y := fun z => by
      rw [← e, Int32.lt_iff_toInt_lt] at z
      rw [Int32.le_iff_toInt_le] at h
      omega
    rw [Int64.lt_iff_toInt_lt] at h2
    omega
  · rw [Int32.le_iff_toInt_le]
    have h2 : ¬ lg_cmp x y < 0 := fun z => by
      rw [e, Int64.lt_iff_toInt_lt] at z
      rw [Int64.le_iff_toInt_le] at h
      omega
    rw [Int32.lt_iff_toInt_lt] at h2
    omega
theorem cmp_le (x y : Int64) : (lg_cmp x y ≤ 0) = (x ≤ y) := by
  have e := cmp_gt x y
  refine propext ⟨fun h => ?_, fun h => ?_⟩
  · rw [Int64.le_iff_toInt_le]
    have h2 : ¬ y < x := fun z => by
      rw [← e, Int32.lt_iff_toInt_lt] at z
      rw [Int32.le_iff_toInt_le] at h
      omega
    rw [Int64.lt_iff_toInt_lt] at h2
    omega
  · rw [Int32.le_iff_toInt_le]
    have h2 : ¬ 0 < lg_cmp x y := fun z => by
      rw [e, Int64.lt_iff_toInt_lt] at z
      rw [Int64.le_iff_toInt_le] at h
      omega
    rw [Int32.lt_iff_toInt_lt] at h2
    omega
theorem i64_lt (x y : Int32) : (x.toInt64 < y.toInt64) = (x < y) := by
  rw [Int64.lt_iff_toInt_lt, Int32.lt_iff_toInt_lt, Int32.toInt_toInt64, Int32.toInt_toInt64]
/-- within bounds -/
def wi (x lo hi : Int32) : Bool := !decide (x < lo) && !decide (hi < x)
theorem C_in_w (x lo hi : Int32) : C_in x.toInt64 lo.toInt64 hi.toInt64 = some (bz (wi x lo hi)) := by
  unfold C_in wi
  simp only [cmp_lt, cmp_gt, i64_lt]
  by_cases h1 : x < lo
  · rw [if_pos h1]; simp [h1, bz]
  · rw [if_neg h1]
    by_cases h2 : hi < x
    · rw [if_pos h2]; simp [h1, h2, bz]
    · rw [if_neg h2]; simp [h1, h2, bz]
theorem T_lies_w (x lo hi : Int32) : T_lies x lo hi = some (bz (wi x lo hi)) := by
  unfold T_lies wi
  by_cases h1 : x < lo
  · rw [if_pos h1]; simp [h1, bz]
  · rw [if_neg h1]
    by_cases h2 : hi < x
    · rw [if_pos h2]; simp [h1, h2, bz]
    · rw [if_neg h2]; simp [h1, h2, bz]
theorem C_in_l (x : Int32) (lo hi : Nat) (h1 : lo < 2147483648) (h2 : hi < 2147483648) : C_in x.toInt64 (Int64.ofNat lo) (Int64.ofNat hi) = some (bz (wi x (nn lo) (nn hi))) := by
  have e : ∀ n : Nat, n < 2147483648 → Int64.ofNat n = (nn n).toInt64 := by
    intro n h
    apply Int64.toInt.inj
    rw [Int32.toInt_toInt64, nn_toInt h, Int64.toInt_ofNat_of_lt (by omega)]
  rw [e lo h1, e hi h2, C_in_w]
theorem wi_t {x lo hi : Int32} (h : wi x lo hi = true) : lo ≤ x ∧ x ≤ hi := by
  unfold wi at h
  simp only [Bool.and_eq_true, Bool.not_eq_true', decide_eq_false_iff_not] at h
  rw [Int32.le_iff_toInt_le, Int32.le_iff_toInt_le]
  rw [Int32.lt_iff_toInt_lt, Int32.lt_iff_toInt_lt] at h
  omega
/-- within 0 .. n - 1 -/
theorem wi_nn {x : Int32} {n : Nat} (hn : n < 2147483648) : wi x 0 (nn n - 1) = true → ∃ k : Nat, x = nn k ∧ k < n := by
  intro h
  obtain ⟨h1, h2⟩ := wi_t h
  cases n with
  | zero =>
    rw [Int32.le_iff_toInt_le] at h1 h2
    have e : (nn 0 - 1).toInt = -1 := by decide
    have e0 : (0 : Int32).toInt = 0 := by decide
    rw [e] at h2
    rw [e0] at h1
    omega
  | succ n =>
    rw [show (1 : Int32) = nn 1 from rfl, nn_sub (by omega)] at h2
    obtain ⟨k, e, hk⟩ := nn_in' (by omega) h1 h2
    exact ⟨k, e, by omega⟩
theorem wi_of {k n : Nat} (hn : n < 2147483648) (h : k < n) : wi (nn k) 0 (nn n - 1) = true := by
  unfold wi
  cases n with
  | zero => omega
  | succ n =>
    have e1 : ¬ nn k < 0 := nn_neg (by omega)
    have e2 : ¬ nn (n + 1) - 1 < nn k := by
      rw [show (1 : Int32) = nn 1 from rfl, nn_sub (by omega), nn_lt (by omega) (by omega)]
      omega
    rw [decide_eq_false e1, decide_eq_false e2]
    rfl
