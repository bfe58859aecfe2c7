/-! PLAIN LAW: what always holds of the lasting state; small words of it -/
set_option maxRecDepth 100000
/-- an int that is a byte -/
def isBy (x : Int32) : Prop := nrw 1 x = x
/-- what an entry may be: b books, l leeks, s sights, t laws, u that can be undone -/
def Bd (b l s t u g i : Nat) (x : Int32) : Prop :=
  if g = 0 then
    (if i = 0 then ∃ n, n < 2 ^ b ∧ x = nn n
    else if i < 6 then ∃ n, n ≤ 999 ∧ x = nn n ∧ (i < 5 → l < i → n = 0)
    else if i < 14 then ∃ n, n ≤ 9 ∧ x = nn n
    else if i < 22 then ∃ n, n ≤ 3 ∧ x = nn n
    else if i < 30 then i < 22 + b → ∃ n, n < 2 ^ b ∧ x = nn n
    else if i < 34 then ∃ n, n ≤ 3 ∧ x = nn n
    else if i < 46 then i < 34 + 2 * s → if i % 2 = 0 then ∃ n, n < l ∧ x = nn n else ∃ n, n ≤ 99 ∧ x = nn n
    else if i < 48 then ∃ n, n ≤ 10 ∧ x = nn n
    else if i = 48 then x = nn b
    else if i = 49 then x = nn l
    else if i = 50 then x = nn s
    else if i = 51 then x = nn t
    else if i = 52 then x = -1 ∨ ∃ n, n < t ∧ x = nn n
    else True)
  else if g = 1 then (if i = 4 then ∃ n, n ≤ 400 ∧ x = nn n else if i = 5 then x = nn u else True)
  else if g = 3 then isBy x
  else if g = 4 then (i < 7 * u → if i % 7 = 0 then ∃ n, n < 2 ^ b ∧ x = nn n else if i % 7 = 6 then ∃ n, n ≤ 3 ∧ x = nn n else ∃ n, n ≤ 999 ∧ x = nn n ∧ (i % 7 < 5 → l < i % 7 → n = 0))
  else if g = 5 then (i = 5 → x = -1 ∨ ∃ n, n ≤ 4 ∧ x = nn n)
  else True
def SOb (b l s t u : Nat) (S : Nat → Nat → Int32) : Prop := (b ≤ 8 ∧ l ≤ 4 ∧ s ≤ 6 ∧ t ≤ 6 ∧ u ≤ 16) ∧ ∀ g i, Bd b l s t u g i (S g i)
def SO (S : Nat → Nat → Int32) : Prop := ∃ b l s t u, SOb b l s t u S
theorem SOb.up {b l s t u : Nat} {S : Nat → Nat → Int32} (h : SOb b l s t u S) {g i : Nat} {x : Int32} (hx : Bd b l s t u g i x) : SOb b l s t u (up2 S g i x) := by
  refine ⟨h.1, fun a c => ?_⟩
  by_cases z : a = g ∧ c = i
  · obtain ⟨rfl, rfl⟩ := z
    rw [up2_s]; exact hx
  · rw [up2_n _ _ z]; exact h.2 a c
section SOA
variable {b l s t u : Nat} {S : Nat → Nat → Int32}
theorem SOb.nb (h : SOb b l s t u S) : S 0 48 = nn b := h.2 0 48
theorem SOb.nl (h : SOb b l s t u S) : S 0 49 = nn l := h.2 0 49
theorem SOb.ns (h : SOb b l s t u S) : S 0 50 = nn s := h.2 0 50
theorem SOb.nt (h : SOb b l s t u S) : S 0 51 = nn t := h.2 0 51
theorem SOb.nu (h : SOb b l s t u S) : S 1 5 = nn u := h.2 1 5
theorem SOb.fo (h : SOb b l s t u S) : S 0 52 = -1 ∨ ∃ n, n < t ∧ S 0 52 = nn n := h.2 0 52
theorem SOb.known (h : SOb b l s t u S) : ∃ n, n < 2 ^ b ∧ S 0 0 = nn n := h.2 0 0
theorem SOb.day (h : SOb b l s t u S) : ∃ n, n ≤ 999 ∧ S 0 5 = nn n := by
  obtain ⟨n, h1, h2, -⟩ : ∃ n, n ≤ 999 ∧ S 0 5 = nn n ∧ (5 < 5 → l < 5 → n = 0) := h.2 0 5
  exact ⟨n, h1, h2⟩
theorem SOb.taped (h : SOb b l s t u S) : ∃ n, n ≤ 400 ∧ S 1 4 = nn n := h.2 1 4
theorem SOb.high (h : SOb b l s t u S) {i : Nat} (hi : i < 4) : ∃ n, n ≤ 999 ∧ S 0 (1 + i) = nn n := by
  have e := h.2 0 (1 + i)
  unfold Bd at e
  rw [if_pos rfl, if_neg (by omega), if_pos (by omega)] at e
  obtain ⟨n, h1, h2, -⟩ := e
  exact ⟨n, h1, h2⟩
theorem SOb.high0 (h : SOb b l s t u S) {i : Nat} (hi : i < 4) (hl : l ≤ i) : S 0 (1 + i) = nn 0 := by
  have e := h.2 0 (1 + i)
  unfold Bd at e
  rw [if_pos rfl, if_neg (by omega), if_pos (by omega)] at e
  obtain ⟨n, h1, h2, h3⟩ := e
  rw [h2, h3 (by omega) (by omega)]
theorem SOb.len (h : SOb b l s t u S) {i : Nat} (hi : i < 8) : ∃ n, n ≤ 9 ∧ S 0 (6 + i) = nn n := by
  have e := h.2 0 (6 + i)
  unfold Bd at e
  rw [if_pos rfl, if_neg (by omega), if_neg (by omega), if_pos (by omega)] at e
  exact e
theorem SOb.kind (h : SOb b l s t u S) {i : Nat} (hi : i < 8) : ∃ n, n ≤ 3 ∧ S 0 (14 + i) = nn n := by
  have e := h.2 0 (14 + i)
  unfold Bd at e
  rw [if_pos rfl, if_neg (by omega), if_neg (by omega), if_neg (by omega), if_pos (by omega)] at e
  exact e
theorem SOb.need (h : SOb b l s t u S) {i : Nat} (hi : i < b) : ∃ n, n < 2 ^ b ∧ S 0 (22 + i) = nn n := by
  have e := h.2 0 (22 + i)
  have h8 := h.1.1
  unfold Bd at e
  rw [if_pos rfl, if_neg (by omega), if_neg (by omega), if_neg (by omega), if_neg (by omega), if_pos (by omega)] at e
  exact e (by omega)
theorem SOb.like (h : SOb b l s t u S) {i : Nat} (hi : i < 4) : ∃ n, n ≤ 3 ∧ S 0 (30 + i) = nn n := by
  have e := h.2 0 (30 + i)
  unfold Bd at e
  rw [if_pos rfl, if_neg (by omega), if_neg (by omega), if_neg (by omega), if_neg (by omega), if_neg (by omega), if_pos (by omega)] at e
  exact e
theorem SOb.seen0 (h : SOb b l s t u S) {i : Nat} (hi : i < s) : ∃ n, n < l ∧ S 0 (34 + 2 * i) = nn n := by
  have e := h.2 0 (34 + 2 * i)
  have h8 := h.1.2.2.1
  unfold Bd at e
  rw [if_pos rfl, if_neg (by omega), if_neg (by omega), if_neg (by omega), if_neg (by omega), if_neg (by omega), if_neg (by omega), if_pos (by omega)] at e
  have e2 := e (by omega)
  rw [if_pos (by omega)] at e2
  exact e2
theorem SOb.seen1 (h : SOb b l s t u S) {i : Nat} (hi : i < s) : ∃ n, n ≤ 99 ∧ S 0 (35 + 2 * i) = nn n := by
  have e := h.2 0 (35 + 2 * i)
  have h8 := h.1.2.2.1
  unfold Bd at e
  rw [if_pos rfl, if_neg (by omega), if_neg (by omega), if_neg (by omega), if_neg (by omega), if_neg (by omega), if_neg (by omega), if_pos (by omega)] at e
  have e2 := e (by omega)
  rw [if_neg (by omega)] at e2
  exact e2
theorem SOb.frosts (h : SOb b l s t u S) : ∃ n, n ≤ 10 ∧ S 0 46 = nn n := h.2 0 46
theorem SOb.mood (h : SOb b l s t u S) : ∃ n, n ≤ 10 ∧ S 0 47 = nn n := h.2 0 47
theorem SOb.tape (h : SOb b l s t u S) (i : Nat) : isBy (S 3 i) := h.2 3 i
theorem SOb.drl (h : SOb b l s t u S) : S 5 5 = -1 ∨ ∃ n, n ≤ 4 ∧ S 5 5 = nn n := h.2 5 5 rfl
theorem SOb.und (h : SOb b l s t u S) {i : Nat} (hi : i < 7 * u) : if i % 7 = 0 then ∃ n, n < 2 ^ b ∧ S 4 i = nn n else if i % 7 = 6 then ∃ n, n ≤ 3 ∧ S 4 i = nn n else ∃ n, n ≤ 999 ∧ S 4 i = nn n ∧ (i % 7 < 5 → l < i % 7 → n = 0) := h.2 4 i hi
end SOA
/-- books are at most 8: a power -/
theorem pw_le {b : Nat} (h : b ≤ 8) : 2 ^ b ≤ 256 := by
  have : 2 ^ b ≤ 2 ^ 8 := Nat.pow_le_pow_right (by omega) h
  omega
/-- the same in all groups that both sides have -/
def Mt (S S' : Nat → Nat → Int32) : Prop := ∀ g, g < 6 → S g = S' g
theorem Mt.up {S S' : Nat → Nat → Int32} (h : Mt S S') {a c : Nat} {x y : Int32} (e : x = y) : Mt (up2 S a c x) (up2 S' a c y) := by
  intro g hg
  subst e
  funext i
  unfold up2
  rw [h g hg]
theorem Mt.at {S S' : Nat → Nat → Int32} (h : Mt S S') {g : Nat} (hg : g < 6) (i : Nat) : S g i = S' g i := by rw [h g hg]
/-- a refusal k; all was well -/
def tlS (k : Nat) (S : Nat → Nat → Int32) : Nat → Nat → Int32 := up2 (up2 S 1 0 (-nn k)) 2 k (S 2 k + 1)
def gdS (S : Nat → Nat → Int32) : Nat → Nat → Int32 := up2 S 1 0 (nn 0)
theorem Mt_tl {S S' : Nat → Nat → Int32} (h : Mt S S') (k : Nat) : Mt (tlS k S) (tlS k S') := by
  unfold tlS
  exact (h.up rfl).up (by rw [h.at (by omega)])
theorem Mt_gd {S S' : Nat → Nat → Int32} (h : Mt S S') : Mt (gdS S) (gdS S') := h.up rfl
theorem SOb_tl {b l s t u : Nat} {S : Nat → Nat → Int32} (h : SOb b l s t u S) (k : Nat) : SOb b l s t u (tlS k S) := by
  refine (h.up ?_).up ?_
  · trivial
  · trivial
theorem SOb_gd {b l s t u : Nat} {S : Nat → Nat → Int32} (h : SOb b l s t u S) : SOb b l s t u (gdS S) := h.up trivial
