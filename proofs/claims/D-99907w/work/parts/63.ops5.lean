/-! PLAIN LAW: counting, what was drawn, copies, undo -/
set_option maxRecDepth 100000
theorem ones_val : ∀ x, x < 256 → fo (fun k a => a + ((nn x >>> (nn k &&& 31)) &&& (1 : Int32))) 8 0 (nn 0) = nn (pc 8 x) ∧ J4_bitCount (nn x) = some (nn (pc 8 x)) := by decide +kernel
theorem T_onesL {N : Nat} {x4 : Int32 → Option Int32} {sv : Int32} : ∀ (d k n : Nat) (a : Int32), k + d = 8 → d < n → T_ones_L4 N x4 n sv a (nn k) = x4 (fo (fun k a => a + ((sv >>> (nn k &&& 31)) &&& (1 : Int32))) d k a) := by
  intro d
  induction d with
  | zero =>
    intro k n a h1 h2
    obtain ⟨m, rfl⟩ : ∃ m, n = m + 1 := ⟨n - 1, by omega⟩
    have hk : k = 8 := by omega
    subst hk
    rfl
  | succ d ih =>
    intro k n a h1 h2
    obtain ⟨m, rfl⟩ : ∃ m, n = m + 1 := ⟨n - 1, by omega⟩
    rw [T_ones_L4, if_neg (by rw [show (8 : Int32) = nn 8 from rfl, nn_le (by omega) (by omega)]; omega), Option.bind_some, show (1 : Int32) = nn 1 from rfl, nn_add, ih (k + 1) m _ (by omega) (by omega)]
    rfl
theorem T_on {N : Nat} (hN : 20000 ≤ N) {x : Nat} (hx : x < 256) : T_ones N (nn x) = some (nn (pc 8 x)) := by
  unfold T_ones
  rw [show (0 : Int32) = nn 0 from rfl, T_onesL 8 0 N _ (by omega) (by omega), (ones_val x hx).1]
theorem C_on {x : Nat} (hx : x < 256) : J4_bitCount (nn x) = some (nn (pc 8 x)) := (ones_val x hx).2
theorem cp0 {M : TM} {b s i : Nat} {f : Nat → Int32} : tAset M b (va_cpy f (M.2.2.1 b) s i 0) = M := by
  refine Prod.ext rfl (Prod.ext rfl (Prod.ext ?_ rfl))
  funext j
  show (if j = b then va_cpy f (M.2.2.1 b) s i 0 else M.2.2.1 j) = M.2.2.1 j
  by_cases h : j = b
  · subst h
    rw [if_pos rfl]
    funext k
    unfold va_cpy
    rw [if_neg (by omega)]
  · rw [if_neg h]
theorem cpS {M : TM} {a b s i d : Nat} (hab : a ≠ b) : tAset (tw M b i (M.2.2.1 a s)) b (va_cpy ((tw M b i (M.2.2.1 a s)).2.2.1 a) ((tw M b i (M.2.2.1 a s)).2.2.1 b) (s + 1) (i + 1) d) = tAset M b (va_cpy (M.2.2.1 a) (M.2.2.1 b) s i (d + 1)) := by
  have e1 : (tw M b i (M.2.2.1 a s)).2.2.1 a = M.2.2.1 a := by rw [tw_2, if_neg hab]
  have e2 : (tw M b i (M.2.2.1 a s)).2.2.1 b = upd (M.2.2.1 b) i (M.2.2.1 a s) := by rw [tw_2, if_pos rfl]
  rw [e1, e2]
  refine Prod.ext rfl (Prod.ext rfl (Prod.ext ?_ rfl))
  funext j
  show (if j = b then _ else (tw M b i (M.2.2.1 a s)).2.2.1 j) = (if j = b then _ else M.2.2.1 j)
  by_cases h : j = b
  · rw [if_pos h, if_pos h]
    funext k
    unfold va_cpy upd
    by_cases h1 : i + 1 ≤ k ∧ k < i + 1 + d
    · rw [if_pos h1, if_pos (by omega)]
      exact congrArg (M.2.2.1 a) (by omega)
    · rw [if_neg h1]
      by_cases h2 : k = i
      · rw [if_pos h2, if_pos (by omega)]
        exact congrArg (M.2.2.1 a) (by omega)
      · rw [if_neg h2, if_neg (by omega)]
  · rw [if_neg h, if_neg h, tw_2, if_neg h]
/-- what hands move is put in place -/
def mv (S : Nat → Nat → Int32) (f : Nat → Int32) : Nat → Nat → Int32 := fun g i => if g = 0 ∧ i < 6 then f i else S g i
theorem Mt_mv {S S' : Nat → Nat → Int32} (h : Mt S S') {f f' : Nat → Int32} (hf : ∀ i, i < 6 → f i = f' i) : Mt (mv S f) (mv S' f') := by
  intro g hg
  funext i
  unfold mv
  by_cases z : g = 0 ∧ i < 6
  · rw [if_pos z, if_pos z, hf i z.2]
  · rw [if_neg z, if_neg z, h g hg]
theorem mv_g (S : Nat → Nat → Int32) (f : Nat → Int32) {g : Nat} (h : 6 ≤ g) : mv S f g = S g := by
  funext i
  unfold mv
  rw [if_neg (by omega)]
theorem SOb_mv {b l s t u : Nat} {S : Nat → Nat → Int32} (h : SOb b l s t u S) {f : Nat → Int32} (h0 : ∃ n, n < 2 ^ b ∧ f 0 = nn n) (h1 : ∀ i, 0 < i → i < 6 → ∃ n, n ≤ 999 ∧ f i = nn n ∧ (i < 5 → l < i → n = 0)) : SOb b l s t u (mv S f) := by
  refine ⟨h.1, fun g i => ?_⟩
  unfold mv
  by_cases z : g = 0 ∧ i < 6
  · rw [if_pos z]
    obtain ⟨rfl, hi⟩ := z
    unfold Bd
    rw [if_pos rfl]
    by_cases hz : i = 0
    · subst hz
      rw [if_pos rfl]; exact h0
    · rw [if_neg hz, if_pos hi]
      exact h1 i (by omega) hi
  · rw [if_neg z]
    exact h.2 g i
/-- n rows of what can be undone are left -/
def cutU (n : Nat) (S : Nat → Nat → Int32) : Nat → Nat → Int32 := fun g i => if g = 4 ∧ 7 * n ≤ i then 0 else up2 S 1 5 (nn n) g i
theorem Mt_cut {S S' : Nat → Nat → Int32} (h : Mt S S') (n : Nat) : Mt (cutU n S) (cutU n S') := by
  intro g hg
  funext i
  unfold cutU
  rw [(h.up rfl) g hg]
theorem cutU_g (n : Nat) (S : Nat → Nat → Int32) {g : Nat} (h : 6 ≤ g) : cutU n S g = S g := by
  funext i
  unfold cutU
  rw [if_neg (by omega), up2_g _ _ (by omega)]
theorem SOb_cut {b l s t u n : Nat} {S : Nat → Nat → Int32} (h : SOb b l s t u S) (hn : n ≤ u) : SOb b l s t n (cutU n S) := by
  refine ⟨⟨h.1.1, h.1.2.1, h.1.2.2.1, h.1.2.2.2.1, by have := h.1.2.2.2.2; omega⟩, fun g i => ?_⟩
  unfold cutU
  by_cases z : g = 4 ∧ 7 * n ≤ i
  · rw [if_pos z]
    obtain ⟨rfl, hi⟩ := z
    unfold Bd
    simp only [show ¬ (4 : Nat) = 0 by decide, show ¬ (4 : Nat) = 1 by decide, show ¬ (4 : Nat) = 3 by decide, if_false, if_true]
    intro z; omega
  · rw [if_neg z]
    by_cases h15 : g = 1 ∧ i = 5
    · obtain ⟨rfl, rfl⟩ := h15
      rw [up2_s]; rfl
    · rw [up2_n _ _ h15]
      have e := h.2 g i
      unfold Bd at e ⊢
      by_cases hg : g = 0
      · rw [if_pos hg] at e ⊢; exact e
      rw [if_neg hg] at e ⊢
      by_cases b1 : g = 1
      · subst b1
        rw [if_pos rfl] at e ⊢
        by_cases c1 : i = 4
        · rw [if_pos c1] at e ⊢; exact e
        rw [if_neg c1] at e ⊢
        rw [if_neg (fun z => h15 ⟨rfl, z⟩)]
        trivial
      rw [if_neg b1] at e ⊢
      by_cases b3 : g = 3
      · rw [if_pos b3] at e ⊢; exact e
      rw [if_neg b3] at e ⊢
      by_cases b4 : g = 4
      · rw [if_pos b4] at e ⊢
        intro hi
        exact e (by omega)
      rw [if_neg b4] at e ⊢
      exact e
theorem fT_cut {M : TM} {u n : Nat} (hu : M.1 32 = nn u) (h : n ≤ u) (h16 : u ≤ 16) : fT (tsi M 32 (nn n)) = cutU n (fT M) := by
  have h53 : (tsi M 32 (nn n)).1 53 = M.1 53 := rfl
  have h54 : (tsi M 32 (nn n)).1 54 = M.1 54 := rfl
  have h32 : ((tsi M 32 (nn n)).1 32).toNatClampNeg = n := nn_cl (by omega)
  have hu' : (M.1 32).toNatClampNeg = u := by rw [hu]; exact nn_cl (by omega)
  funext g i
  unfold cutU up2 fT
  rw [h53, h54, h32, hu', tsi_2]
  by_cases h4 : g = 4
  · subst h4
    simp only [show ¬ (4 : Nat) = 0 by decide, show ¬ (4 : Nat) = 1 by decide, show ¬ (4 : Nat) = 2 by decide, show ¬ (4 : Nat) = 3 by decide, if_false, if_true, true_and, false_and]
    by_cases hi : i < 7 * n
    · rw [if_pos hi, if_neg (by omega), if_pos (by omega)]
    · rw [if_neg hi, if_pos (by omega)]
  · simp only [h4, false_and, if_false]
    by_cases h1 : g = 1
    · subst h1
      simp only [show ¬ (1 : Nat) = 0 by decide, if_false, if_true, true_and]
      by_cases hi : i = 5
      · subst hi
        rfl
      · rw [if_neg hi]
        by_cases h7 : i < 7
        · have inj : ∀ a, a < 7 → lastI a = 32 → a = 5 := by decide
          rw [if_pos h7, if_pos h7, tsi_1, if_neg]
          exact fun z => hi (inj _ h7 z)
        · rw [if_neg h7, if_neg h7]
    · simp only [h1, false_and, if_false]
theorem fT_4 {M : TM} {u i : Nat} (hu : M.1 32 = nn u) (h16 : u ≤ 16) (hi : i < 7 * u) : M.2.2.1 30 i = fT M 4 i := by
  have hu' : (M.1 32).toNatClampNeg = u := by rw [hu]; exact nn_cl (by omega)
  unfold fT
  rw [hu']
  simp [hi]
theorem fT_mv {M : TM} {f : Nat → Int32} {s : Nat} : fT (tAset M 2 (va_cpy f (M.2.2.1 2) s 0 6)) = mv (fT M) (fun i => f (s + i)) := by
  have e2 : (tAset M 2 (va_cpy f (M.2.2.1 2) s 0 6)).2.2.1 2 = va_cpy f (M.2.2.1 2) s 0 6 := rfl
  have en : ∀ j, j ≠ 2 → (tAset M 2 (va_cpy f (M.2.2.1 2) s 0 6)).2.2.1 j = M.2.2.1 j := by
    intro j hj
    show (if j = 2 then _ else M.2.2.1 j) = _
    rw [if_neg hj]
  have e1 : (tAset M 2 (va_cpy f (M.2.2.1 2) s 0 6)).1 = M.1 := rfl
  funext g i
  unfold mv fT
  rw [e2, e1, en 1 (by decide), en 11 (by decide), en 30 (by decide), en 52 (by decide), en 3 (by decide), en 4 (by decide), en 7 (by decide)]
  by_cases hg : g = 0
  · subst hg
    simp only [if_true, true_and]
    by_cases hi : i < 6
    · rw [if_pos (by omega), if_pos hi]
      unfold va_cpy
      rw [if_pos (by omega), Nat.sub_zero]
    · rw [if_neg hi]
      by_cases h53 : i < 53
      · rw [if_pos h53, if_pos h53]
        unfold va_cpy
        rw [if_neg (by omega)]
      · rw [if_neg h53, if_neg h53]
  · simp only [hg, if_false, false_and]
    by_cases h9 : 53 ≤ i ∧ i < 59 ∨ 60 ≤ i ∧ i < 2460 ∨ 2860 ≤ i ∧ i < 5260
    · have : va_cpy f (M.2.2.1 2) s 0 6 i = M.2.2.1 2 i := by
        unfold va_cpy
        rw [if_neg (by omega)]
      rw [this]
    · simp only [h9, if_false]
theorem T_undoL {N : Nat} {x : Int32 → TM → Option (Int32 × TM)} {at' : Nat} (h : at' + 6 ≤ 112) : ∀ (d i n : Nat) (M : TM), i + d = 6 → d < n → T_undo_L34 N x n (nn at') (nn i) M = x (nn at') (tAset M 2 (va_cpy (M.2.2.1 30) (M.2.2.1 2) (at' + i) i d)) := by
  intro d
  induction d with
  | zero =>
    intro i n M h1 h2
    obtain ⟨m, rfl⟩ : ∃ m, n = m + 1 := ⟨n - 1, by omega⟩
    have hk : i = 6 := by omega
    subst hk
    rw [T_undo_L34, if_pos (by decide), cp0]
  | succ d ih =>
    intro i n M h1 h2
    obtain ⟨m, rfl⟩ : ∃ m, n = m + 1 := ⟨n - 1, by omega⟩
    rw [T_undo_L34, if_neg (by rw [show (6 : Int32) = nn 6 from rfl, nn_le (by omega) (by omega)]; omega), nn_add, tra_nn (by omega) (by omega), Option.bind_some, twa_nn (by omega) (by omega), Option.bind_some, show (1 : Int32) = nn 1 from rfl, nn_add, ih (i + 1) m _ (by omega) (by omega), ← Nat.add_assoc, cpS (by decide)]
/-- a Books object -/
def bk (p : Nat) : Bool := decide (p = 15 ∨ p = 22 ∨ p = 24 ∨ p = 26 ∨ (50 ≤ p ∧ p < 130 ∧ p % 2 = 0))
theorem bk_s {p : Nat} (h : bk p = true) : fO p [2] = true ∧ fI p [2] 1 = true ∧ fI p [2] 2 = true ∧ fI p [2] 3 = true ∧ fR p [2] 0 = some (p + 1) ∧ fA (p + 1) 0 4 = true := by
  have hp : p < 130 := by
    unfold bk at h
    have := of_decide_eq_true h
    omega
  have : ∀ p, p < 130 → bk p = true → fO p [2] = true ∧ fI p [2] 1 = true ∧ fI p [2] 2 = true ∧ fI p [2] 3 = true ∧ fR p [2] 0 = some (p + 1) ∧ fA (p + 1) 0 4 = true := by decide +kernel
  exact this p hp h
/-- p becomes as q is -/
def asX (X : XT) (p q : Nat) : XT := ((fun a k => if a = p then (if k = 1 ∨ k = 2 ∨ k = 3 then X.1 q k else X.1 p k) else if a = p + 1 then (if k < 4 then X.1 (q + 1) k else X.1 (p + 1) k) else X.1 a k), X.2)
theorem asX_at (X : XT) (p q a k : Nat) : (asX X p q).1 a k = if a = p then (if k = 1 ∨ k = 2 ∨ k = 3 then X.1 q k else X.1 p k) else if a = p + 1 then (if k < 4 then X.1 (q + 1) k else X.1 (p + 1) k) else X.1 a k := rfl
theorem C_as {A : AT} {X : XT} {hb : Hp} {p q : Nat} (hp : bk p = true) (hq : bk q = true) (hne : p ≠ q) : X2_as (A.1 p) (A.1 q) (ovC A X hb) = some (A.1 p, ovC A (asX X p q) hb) := by
  obtain ⟨p0, p1, p2, p3, p4, p5⟩ := bk_s hp
  obtain ⟨q0, q1, q2, q3, q4, q5⟩ := bk_s hq
  have hpq : p + 1 ≠ q ∧ q + 1 ≠ p := by
    unfold bk at hp hq
    have h1 := of_decide_eq_true hp
    have h2 := of_decide_eq_true hq
    omega
  have hc : cpI (ovC A X hb) 0 (A.1 (q + 1)) (0 : Int32) (A.1 (p + 1)) (0 : Int32) (4 : Int32) = some (ovC A ((fun a => if a = p + 1 then va_cpy (X.1 (q + 1)) (X.1 (p + 1)) 0 0 4 else X.1 a), X.2) hb) := by
    unfold cpI
    rw [arI_oc q5, Option.bind_some, arI_oc p5, Option.bind_some, if_pos ⟨by decide, by decide, by decide, (by show Int32.toNatClampNeg 0 + Int32.toNatClampNeg 4 ≤ 4; decide), (by show Int32.toNatClampNeg 0 + Int32.toNatClampNeg 4 ≤ 4; decide), by rfl⟩]
    exact congrArg some (up_A p5)
  unfold X2_as X2_as_b
  rw [ob_ocK p0, gr_oc q4, Option.bind_some, gr_oc p4, Option.bind_some, hc, Option.bind_some, gi_oc q1, Option.bind_some, po_oc p1, Option.bind_some, gi_oc q2, Option.bind_some, po_oc p2, Option.bind_some, gi_oc q3, Option.bind_some, po_oc p3, Option.bind_some]
  congr 3
  refine Prod.ext ?_ rfl
  funext a k
  rw [asX_at]
  simp only [ws_at]
  by_cases ha : a = p
  · subst ha
    simp only [true_and, if_true, show ¬ q = a from fun z => hne z.symm, show ¬ q = a + 1 from fun z => hpq.1 z.symm, show ¬ a = a + 1 by omega, false_and, if_false]
    by_cases k3 : k = 3
    · subst k3; simp
    · by_cases k2 : k = 2
      · subst k2; simp
      · by_cases k1 : k = 1
        · subst k1; simp
        · simp [k1, k2, k3]
  · simp only [ha, false_and, if_false]
    by_cases ha1 : a = p + 1
    · subst ha1
      simp only [if_true]
      unfold va_cpy
      by_cases hk : k < 4
      · rw [if_pos (by omega), if_pos hk]
        exact congrArg (X.1 (q + 1)) (by omega)
      · rw [if_neg (by omega), if_neg hk]
    · simp only [ha1, if_false]
