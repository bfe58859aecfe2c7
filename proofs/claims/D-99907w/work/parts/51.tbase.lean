/-! PLAIN LAW: the Model's state: reading, writing, what lasts of it -/
set_option maxRecDepth 100000
/-- kept -/
def kp (M : TM) : Nat → Int32 := M.2.2.1 2
/-- one entry of an int array -/
def tw (M : TM) (k i : Nat) (x : Int32) : TM := tAset M k (upd (M.2.2.1 k) i x)
theorem lit_nn (n : Nat) : (@OfNat.ofNat Int32 n Int32.instOfNat) = nn (@OfNat.ofNat Nat n (instOfNatNat n)) := rfl
theorem bz_n0 (p : Bool) : (bz p = nn 0) = (p = false) := bz_0 p
theorem tra_nn {M : TM} {k n i : Nat} (h : i < n) (h2 : i < 2147483648) : tra M k n (nn i) = some (M.2.2.1 k i) := by
  unfold tra
  rw [inb_nn h2, nn_cl h2, decide_eq_true h]
  rfl
theorem trl_nn {M : TM} {n i : Nat} (h : i < n) (h2 : i < 2147483648) : trl M n (nn i) = some (M.2.2.2 i) := by
  unfold trl
  rw [inb_nn h2, nn_cl h2, decide_eq_true h]
  rfl
theorem twa_nn {M : TM} {k n i : Nat} {x : Int32} (h : i < n) (h2 : i < 2147483648) : twa M k n (nn i) x = some (tw M k i x) := by
  unfold twa
  rw [inb_nn h2, nn_cl h2, decide_eq_true h]
  rfl
theorem twb_nn {M : TM} {kd k n i : Nat} {x : Int32} (h : i < n) (h2 : i < 2147483648) : twb M kd k n (nn i) x = some (tw M k i (nrw kd x)) := by
  unfold twb
  rw [inb_nn h2, nn_cl h2, decide_eq_true h]
  rfl
theorem twl_nn {M : TM} {n i : Nat} {x : Int64} (h : i < n) (h2 : i < 2147483648) : twl M n (nn i) x = some (M.1, M.2.1, M.2.2.1, vp_updL M.2.2.2 i x) := by
  unfold twl
  rw [inb_nn h2, nn_cl h2, decide_eq_true h]
  rfl
theorem tsz_bz {M : TM} {k : Nat} {p : Bool} : tsz M k (bz p) = some (tsi M k (bz p)) := by
  unfold tsz
  rw [if_pos (bz_01 p)]
theorem tsz_0 {M : TM} {k : Nat} : tsz M k 0 = some (tsi M k 0) := tsz_bz (p := false)
theorem tsz_1 {M : TM} {k : Nat} : tsz M k 1 = some (tsi M k 1) := tsz_bz (p := true)
theorem tsi_1 (M : TM) (k j : Nat) (v : Int32) : (tsi M k v).1 j = if j = k then v else M.1 j := rfl
theorem tsi_2 (M : TM) (k : Nat) (v : Int32) : (tsi M k v).2 = M.2 := rfl
theorem tw_1 (M : TM) (k i : Nat) (x : Int32) : (tw M k i x).1 = M.1 := rfl
theorem tw_L (M : TM) (k i : Nat) (x : Int32) : (tw M k i x).2.1 = M.2.1 := rfl
theorem tw_F (M : TM) (k i : Nat) (x : Int32) : (tw M k i x).2.2.2 = M.2.2.2 := rfl
theorem tw_2 (M : TM) (k i j : Nat) (x : Int32) : (tw M k i x).2.2.1 j = if j = k then upd (M.2.2.1 k) i x else M.2.2.1 j := rfl
theorem tsl_1 (M : TM) (v : Int64) : (tsl M v).1 = M.1 := rfl
theorem tsl_2 (M : TM) (v : Int64) : (tsl M v).2.2 = M.2.2 := rfl
theorem tsl_L (M : TM) (v : Int64) : (tsl M v).2.1 = v := rfl
/-- the ints that last: status, fault, slugs0, stopped0, taped, undoMany, drawnBooks -/
def lastI (i : Nat) : Nat := match i with
  | 0 => 0
  | 1 => 14
  | 2 => 6
  | 3 => 45
  | 4 => 13
  | 5 => 32
  | _ => 53
/-- what lasts: 0 kept (the numbers), 1 ints, 2 refused, 3 tape, 4 what can be undone, 5 what was drawn; then the Model's own: 6 images, 7 hasImage, 8 words, 9 the laws' words -/
def fT (M : TM) (g i : Nat) : Int32 :=
  if g = 0 then (if i < 53 then M.2.2.1 2 i else 0)
  else if g = 1 then (if i < 7 then M.1 (lastI i) else 0)
  else if g = 2 then (if i < 7 then M.2.2.1 1 i else 0)
  else if g = 3 then (if i < 400 then M.2.2.1 11 i else 0)
  else if g = 4 then (if i < 7 * (M.1 32).toNatClampNeg then M.2.2.1 30 i else 0)
  else if g = 5 then (if i = 5 then (if M.1 53 = -1 then -1 else M.1 54) else if M.1 53 = -1 then 0 else if i < 5 then M.2.2.1 52 i else 0)
  else if g = 6 then M.2.2.1 3 i
  else if g = 7 then M.2.2.1 4 i
  else if g = 8 then M.2.2.1 7 i
  else if g = 9 then (if 53 ≤ i ∧ i < 59 ∨ 60 ≤ i ∧ i < 2460 ∨ 2860 ≤ i ∧ i < 5260 then M.2.2.1 2 i else 0)
  else 0
def scI (k : Nat) : Bool := !(decide (k ∈ [0, 14, 6, 45, 13, 32, 53, 54]))
def scA (k : Nat) : Bool := !(decide (k ∈ [2, 1, 11, 30, 52, 3, 4, 7]))
theorem fT_tsi {M : TM} {k : Nat} {v : Int32} (h : scI k = true) : fT (tsi M k v) = fT M := by
  have hk : ∀ j ∈ [0, 14, 6, 45, 13, 32, 53, 54], (tsi M k v).1 j = M.1 j := by
    intro j hj
    rw [tsi_1, if_neg]
    intro e
    subst e
    unfold scI at h
    rw [decide_eq_true hj] at h
    cases h
  funext g i
  have h1 : ∀ i, i < 7 → (tsi M k v).1 (lastI i) = M.1 (lastI i) := by
    intro i hi
    apply hk
    match i, hi with
    | 0, _ => decide
    | 1, _ => decide
    | 2, _ => decide
    | 3, _ => decide
    | 4, _ => decide
    | 5, _ => decide
    | 6, _ => decide
  unfold fT
  rw [hk 32 (by decide), hk 53 (by decide), hk 54 (by decide), tsi_2]
  by_cases hi : i < 7
  · rw [h1 i hi]
  · simp only [hi, if_false]
theorem fT_tw {M : TM} {k i : Nat} {v : Int32} (h : scA k = true) : fT (tw M k i v) = fT M := by
  have hk : ∀ j ∈ [2, 1, 11, 30, 52, 3, 4, 7], (tw M k i v).2.2.1 j = M.2.2.1 j := by
    intro j hj
    rw [tw_2, if_neg]
    intro e
    subst e
    unfold scA at h
    rw [decide_eq_true hj] at h
    cases h
  funext g j
  unfold fT
  rw [hk 2 (by decide), hk 1 (by decide), hk 11 (by decide), hk 30 (by decide), hk 52 (by decide), hk 3 (by decide), hk 4 (by decide), hk 7 (by decide), tw_1]
theorem fT_L {M : TM} {f : Nat → Int64} : fT (M.1, M.2.1, M.2.2.1, f) = fT M := rfl
theorem fT_tsl {M : TM} {v : Int64} : fT (tsl M v) = fT M := rfl
/-- a state of groups with one entry changed -/
def up2 (S : Nat → Nat → Int32) (g i : Nat) (x : Int32) : Nat → Nat → Int32 := fun a b => if a = g ∧ b = i then x else S a b
theorem up2_s (S : Nat → Nat → Int32) (g i : Nat) (x : Int32) : up2 S g i x g i = x := by unfold up2; rw [if_pos ⟨rfl, rfl⟩]
theorem up2_n (S : Nat → Nat → Int32) {g i a b : Nat} (x : Int32) (h : ¬ (a = g ∧ b = i)) : up2 S g i x a b = S a b := by unfold up2; rw [if_neg h]
theorem up2_g (S : Nat → Nat → Int32) {g i a : Nat} (x : Int32) (h : a ≠ g) : up2 S g i x a = S a := by
  funext b
  exact up2_n S x (fun z => h z.1)
theorem up2_0 (S : Nat → Nat → Int32) (g i : Nat) (x : Int32) : up2 S g i x g = upd (S g) i x := by
  funext b
  unfold up2 upd
  by_cases h : b = i
  · rw [if_pos ⟨rfl, h⟩, if_pos h]
  · rw [if_neg (fun z => h z.2), if_neg h]
/-- a number of kept is written -/
theorem fT_k {M : TM} {i : Nat} {v : Int32} (h : i < 53) : fT (tw M 2 i v) = up2 (fT M) 0 i v := by
  funext g j
  unfold up2 fT
  simp only [tw_1, tw_2]
  by_cases hg : g = 0
  · subst hg
    simp only [if_true, true_and]
    by_cases hj : j = i
    · subst hj
      rw [if_pos h, upd_s, if_pos rfl]
    · rw [upd_n _ _ hj, if_neg hj]
  · simp only [hg, if_false, false_and]
    by_cases h9 : 53 ≤ j ∧ j < 59 ∨ 60 ≤ j ∧ j < 2460 ∨ 2860 ≤ j ∧ j < 5260
    · have hj : j ≠ i := by omega
      simp [upd_n _ _ hj]
      rfl
    · simp [h9]
      rfl
/-- an int that lasts is written -/
theorem fT_i {M : TM} {i : Nat} {v : Int32} (h : i < 5) : fT (tsi M (lastI i) v) = up2 (fT M) 1 i v := by
  have h32 : (tsi M (lastI i) v).1 32 = M.1 32 := by
    rw [tsi_1, if_neg]
    match i, h with
    | 0, _ => decide
    | 1, _ => decide
    | 2, _ => decide
    | 3, _ => decide
    | 4, _ => decide
  have h53 : (tsi M (lastI i) v).1 53 = M.1 53 := by
    rw [tsi_1, if_neg]
    match i, h with
    | 0, _ => decide
    | 1, _ => decide
    | 2, _ => decide
    | 3, _ => decide
    | 4, _ => decide
  have h54 : (tsi M (lastI i) v).1 54 = M.1 54 := by
    rw [tsi_1, if_neg]
    match i, h with
    | 0, _ => decide
    | 1, _ => decide
    | 2, _ => decide
    | 3, _ => decide
    | 4, _ => decide
  funext g j
  unfold up2 fT
  rw [h32, h53, h54, tsi_2]
  by_cases hg : g = 1
  · subst hg
    simp only [show ¬ (1 : Nat) = 0 by decide, if_false, if_true, true_and]
    by_cases hj : j = i
    · subst hj
      rw [if_pos (by omega), tsi_1, if_pos rfl, if_pos rfl]
    · rw [if_neg hj]
      by_cases h7 : j < 7
      · rw [if_pos h7, if_pos h7, tsi_1, if_neg]
        have inj : ∀ a, a < 7 → ∀ b, b < 7 → lastI a = lastI b → a = b := by decide
        exact fun z => hj (inj _ h7 _ (by omega) z)
      · rw [if_neg h7, if_neg h7]
  · simp only [hg, if_false, false_and]
theorem fT_r {M : TM} {i : Nat} {v : Int32} (h : i < 7) : fT (tw M 1 i v) = up2 (fT M) 2 i v := by
  funext g j
  unfold up2 fT
  simp only [tw_1, tw_2]
  by_cases hg : g = 2
  · subst hg
    simp only [show ¬ (2 : Nat) = 0 by decide, show ¬ (2 : Nat) = 1 by decide, if_false, if_true, true_and]
    by_cases hj : j = i
    · subst hj
      rw [if_pos h, upd_s, if_pos rfl]
    · rw [upd_n _ _ hj, if_neg hj]
  · simp [hg]
    rfl
theorem fT_tp {M : TM} {i : Nat} {v : Int32} (h : i < 400) : fT (tw M 11 i v) = up2 (fT M) 3 i v := by
  funext g j
  unfold up2 fT
  simp only [tw_1, tw_2]
  by_cases hg : g = 3
  · subst hg
    simp only [show ¬ (3 : Nat) = 0 by decide, show ¬ (3 : Nat) = 1 by decide, show ¬ (3 : Nat) = 2 by decide, if_false, if_true, true_and]
    by_cases hj : j = i
    · subst hj
      rw [if_pos h, upd_s, if_pos rfl]
    · rw [upd_n _ _ hj, if_neg hj]
  · simp [hg]
    rfl
theorem fT_0 {M : TM} {i : Nat} (h : i < 53) : M.2.2.1 2 i = fT M 0 i := by
  unfold fT
  rw [if_pos rfl, if_pos h]
theorem fT_1 {M : TM} {i : Nat} (h : i < 7) : M.1 (lastI i) = fT M 1 i := by
  unfold fT
  rw [if_neg (by decide), if_pos rfl, if_pos h]
theorem fT_2 {M : TM} {i : Nat} (h : i < 7) : M.2.2.1 1 i = fT M 2 i := by
  unfold fT
  simp [h]
theorem fT_3 {M : TM} {i : Nat} (h : i < 400) : M.2.2.1 11 i = fT M 3 i := by
  unfold fT
  simp [h]
