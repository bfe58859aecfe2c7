/-! PLAIN LAW: a step is laid aside, to be undone -/
set_option maxRecDepth 100000
/-- the new row n -/
def pushR (n w : Nat) (S : Nat → Nat → Int32) : Nat → Nat → Int32 := fun g i => if g = 4 ∧ 7 * n ≤ i ∧ i < 7 * n + 7 then (if i - 7 * n < 6 then S 0 (i - 7 * n) else nn w) else up2 S 1 5 (nn (n + 1)) g i
/-- the eldest row is gone -/
def shU (S : Nat → Nat → Int32) : Nat → Nat → Int32 := fun g i => if g = 4 then (if i < 105 then S 4 (i + 7) else 0) else up2 S 1 5 (nn 15) g i
def pushU (u w : Nat) (S : Nat → Nat → Int32) : Nat → Nat → Int32 := if u = 16 then pushR 15 w (shU S) else pushR u w S
theorem Mt_pushR {S S' : Nat → Nat → Int32} (h : Mt S S') (n w : Nat) : Mt (pushR n w S) (pushR n w S') := by
  intro g hg
  funext i
  unfold pushR
  rw [(h.up rfl) g hg, h.at (by omega)]
theorem Mt_shU {S S' : Nat → Nat → Int32} (h : Mt S S') : Mt (shU S) (shU S') := by
  intro g hg
  funext i
  unfold shU
  rw [(h.up rfl) g hg, h.at (by omega)]
theorem Mt_push {S S' : Nat → Nat → Int32} (h : Mt S S') (u w : Nat) : Mt (pushU u w S) (pushU u w S') := by
  unfold pushU
  split
  · exact Mt_pushR (Mt_shU h) _ _
  · exact Mt_pushR h _ _
theorem push_g (u w : Nat) (S : Nat → Nat → Int32) {g : Nat} (h : 6 ≤ g) : pushU u w S g = S g := by
  have h1 : ∀ n S, pushR n w S g = S g := by
    intro n S
    funext i
    unfold pushR
    rw [if_neg (by omega), up2_g _ _ (by omega)]
  have h2 : shU S g = S g := by
    funext i
    unfold shU
    rw [if_neg (by omega), up2_g _ _ (by omega)]
  unfold pushU
  split
  · rw [h1, h2]
  · rw [h1]
theorem push_0 (u w : Nat) (S : Nat → Nat → Int32) : pushU u w S 0 = S 0 := by
  have h1 : ∀ n S, pushR n w S 0 = S 0 := by
    intro n S
    funext i
    unfold pushR
    rw [if_neg (by omega), up2_g _ _ (by omega)]
  have h2 : shU S 0 = S 0 := by
    funext i
    unfold shU
    rw [if_neg (by omega), up2_g _ _ (by omega)]
  unfold pushU
  split
  · rw [h1, h2]
  · rw [h1]
/-- everything but the undo rows and their number stays right -/
theorem Bd_u {b l s t u u' g i : Nat} {x : Int32} (h : Bd b l s t u g i x) (h4 : g ≠ 4) (h15 : ¬ (g = 1 ∧ i = 5)) : Bd b l s t u' g i x := by
  unfold Bd at h ⊢
  by_cases hg : g = 0
  · rw [if_pos hg] at h ⊢; exact h
  rw [if_neg hg] at h ⊢
  by_cases b1 : g = 1
  · rw [if_pos b1] at h ⊢
    by_cases c1 : i = 4
    · rw [if_pos c1] at h ⊢; exact h
    rw [if_neg c1] at h ⊢
    rw [if_neg (fun z => h15 ⟨b1, z⟩)]
    trivial
  rw [if_neg b1] at h ⊢
  by_cases b3 : g = 3
  · rw [if_pos b3] at h ⊢; exact h
  rw [if_neg b3] at h ⊢
  rw [if_neg h4] at h ⊢
  exact h
theorem SOb_pushR {b l s t n w : Nat} {S : Nat → Nat → Int32} (h : SOb b l s t n S) (hn : n < 16) (hw : w ≤ 3) : SOb b l s t (n + 1) (pushR n w S) := by
  refine ⟨⟨h.1.1, h.1.2.1, h.1.2.2.1, h.1.2.2.2.1, by omega⟩, fun g i => ?_⟩
  unfold pushR
  by_cases z : g = 4 ∧ 7 * n ≤ i ∧ i < 7 * n + 7
  · rw [if_pos z]
    obtain ⟨rfl, z1, z2⟩ := z
    unfold Bd
    simp only [show ¬ (4 : Nat) = 0 by decide, show ¬ (4 : Nat) = 1 by decide, show ¬ (4 : Nat) = 3 by decide, if_false, if_true]
    intro _
    have hm : i % 7 = i - 7 * n := by omega
    rw [hm]
    by_cases h0 : i - 7 * n = 0
    · rw [if_pos h0, if_pos (by omega), h0]
      exact h.known
    rw [if_neg h0]
    by_cases h6 : i - 7 * n = 6
    · rw [if_pos h6, if_neg (by omega)]
      exact ⟨w, hw, rfl⟩
    rw [if_neg h6, if_pos (by omega)]
    have e := h.2 0 (i - 7 * n)
    unfold Bd at e
    rw [if_pos rfl, if_neg h0, if_pos (by omega)] at e
    exact e
  · rw [if_neg z]
    by_cases h15 : g = 1 ∧ i = 5
    · obtain ⟨rfl, rfl⟩ := h15
      rw [up2_s]; rfl
    rw [up2_n _ _ h15]
    by_cases h4 : g = 4
    · subst h4
      have e := h.2 4 i
      unfold Bd at e ⊢
      simp only [show ¬ (4 : Nat) = 0 by decide, show ¬ (4 : Nat) = 1 by decide, show ¬ (4 : Nat) = 3 by decide, if_false, if_true] at e ⊢
      intro hi
      exact e (by omega)
    · exact Bd_u (h.2 g i) h4 h15
theorem SOb_shU {b l s t : Nat} {S : Nat → Nat → Int32} (h : SOb b l s t 16 S) : SOb b l s t 15 (shU S) := by
  refine ⟨⟨h.1.1, h.1.2.1, h.1.2.2.1, h.1.2.2.2.1, by omega⟩, fun g i => ?_⟩
  unfold shU
  by_cases h4 : g = 4
  · rw [if_pos h4]
    subst h4
    have e := h.2 4 (i + 7)
    unfold Bd at e ⊢
    simp only [show ¬ (4 : Nat) = 0 by decide, show ¬ (4 : Nat) = 1 by decide, show ¬ (4 : Nat) = 3 by decide, if_false, if_true] at e ⊢
    intro hi
    have hx : (if i < 105 then S 4 (i + 7) else 0) = S 4 (i + 7) := if_pos (by omega)
    rw [hx]
    have e2 := e (by omega)
    rw [show (i + 7) % 7 = i % 7 by omega] at e2
    exact e2
  · rw [if_neg h4]
    by_cases h15 : g = 1 ∧ i = 5
    · obtain ⟨rfl, rfl⟩ := h15
      rw [up2_s]; rfl
    rw [up2_n _ _ h15]
    exact Bd_u (h.2 g i) h4 h15
theorem SOb_push {b l s t u w : Nat} {S : Nat → Nat → Int32} (h : SOb b l s t u S) (hw : w ≤ 3) : ∃ u', SOb b l s t u' (pushU u w S) := by
  unfold pushU
  by_cases h16 : u = 16
  · subst h16
    rw [if_pos rfl]
    exact ⟨16, SOb_pushR (SOb_shU h) (by omega) hw⟩
  · rw [if_neg h16]
    exact ⟨u + 1, SOb_pushR h (by have := h.1.2.2.2.2; omega) hw⟩
/-! the Model -/
theorem tAset_at (M : TM) (k j : Nat) (f : Nat → Int32) : (tAset M k f).2.2.1 j = if j = k then f else M.2.2.1 j := rfl
theorem T_keepsL {N : Nat} {x : Int32 → Int32 → TM → Option TM} {w : Int32} {n : Nat} (hn : n < 16) : ∀ (d i k : Nat) (M : TM), M.1 32 = nn n → i + d = 6 → d < k → T_keeps_L54 N x k w (nn 7) (nn i) M = x w (nn 7) (tAset M 30 (va_cpy (M.2.2.1 2) (M.2.2.1 30) i (7 * n + i) d)) := by
  intro d
  induction d with
  | zero =>
    intro i k M hM h1 h2
    obtain ⟨m, rfl⟩ : ∃ m, k = m + 1 := ⟨k - 1, by omega⟩
    have hk : i = 6 := by omega
    subst hk
    rw [T_keeps_L54, if_pos (by decide), cp0]
  | succ d ih =>
    intro i k M hM h1 h2
    obtain ⟨m, rfl⟩ : ∃ m, k = m + 1 := ⟨k - 1, by omega⟩
    rw [T_keeps_L54, if_neg (by rw [show (6 : Int32) = nn 6 from rfl, nn_le (by omega) (by omega)]; omega), hM, nn_mul, nn_add, tra_nn (by omega) (by omega), Option.bind_some, twa_nn (by omega) (by omega), Option.bind_some, show (1 : Int32) = nn 1 from rfl, nn_add, ih (i + 1) m _ (by rw [tw_1]; exact hM) (by omega) (by omega), ← Nat.add_assoc, cpS (by decide)]
/-- a shift to the left by 7 -/
def shf (f : Nat → Int32) (v : Nat) : Nat → Int32 := fun j => if v ≤ j ∧ j < 105 then f (j + 7) else f j
theorem T_keepsS {N : Nat} {x : Int32 → Int32 → TM → Option TM} {w : Int32} : ∀ (d i k : Nat) (M : TM), i + d = 105 → d < k → T_keeps_L14 N x k w (nn 7) (nn i) M = x w (nn 7) (tAset M 30 (shf (M.2.2.1 30) i)) := by
  intro d
  induction d with
  | zero =>
    intro i k M h1 h2
    obtain ⟨m, rfl⟩ : ∃ m, k = m + 1 := ⟨k - 1, by omega⟩
    have hk : i = 105 := by omega
    subst hk
    rw [T_keeps_L14, if_pos (by decide)]
    congr 1
    refine Prod.ext rfl (Prod.ext rfl (Prod.ext ?_ rfl))
    funext j
    show M.2.2.1 j = (if j = 30 then shf (M.2.2.1 30) 105 else M.2.2.1 j)
    by_cases h : j = 30
    · subst h
      rw [if_pos rfl]
      funext q
      unfold shf
      rw [if_neg (by omega)]
    · rw [if_neg h]
  | succ d ih =>
    intro i k M h1 h2
    obtain ⟨m, rfl⟩ : ∃ m, k = m + 1 := ⟨k - 1, by omega⟩
    have h15 : (15 : Int32) * nn 7 = nn 105 := by decide
    rw [T_keeps_L14, h15, if_neg (by rw [nn_le (by omega) (by omega)]; omega), nn_add, tra_nn (by omega) (by omega), Option.bind_some, twa_nn (by omega) (by omega), Option.bind_some, show (1 : Int32) = nn 1 from rfl, nn_add, ih (i + 1) m _ (by omega) (by omega)]
    congr 1
    refine Prod.ext rfl (Prod.ext rfl (Prod.ext ?_ rfl))
    funext j
    show (if j = 30 then shf ((tw M 30 i (M.2.2.1 30 (i + 7))).2.2.1 30) (i + 1) else (tw M 30 i (M.2.2.1 30 (i + 7))).2.2.1 j) = (if j = 30 then shf (M.2.2.1 30) i else M.2.2.1 j)
    by_cases h : j = 30
    · rw [if_pos h, if_pos h]
      funext q
      have e : (tw M 30 i (M.2.2.1 30 (i + 7))).2.2.1 30 = upd (M.2.2.1 30) i (M.2.2.1 30 (i + 7)) := by rw [tw_2, if_pos rfl]
      unfold shf
      rw [e]
      by_cases h1 : i + 1 ≤ q ∧ q < 105
      · rw [if_pos h1, if_pos (by omega), upd_n _ _ (by omega)]
      · rw [if_neg h1]
        by_cases h2 : q = i
        · subst h2
          rw [if_pos (by omega), upd_s]
        · rw [if_neg (by omega), upd_n _ _ h2]
    · rw [if_neg h, if_neg h, tw_2, if_neg h]
theorem fT_30 {M : TM} {f : Nat → Int32} {n : Nat} (hn : (M.1 32).toNatClampNeg = n) : fT (tAset M 30 f) = fun g i => if g = 4 then (if i < 7 * n then f i else 0) else fT M g i := by
  have e2 : (tAset M 30 f).2.2.1 30 = f := rfl
  have en : ∀ j, j ≠ 30 → (tAset M 30 f).2.2.1 j = M.2.2.1 j := by
    intro j hj
    show (if j = 30 then _ else M.2.2.1 j) = _
    rw [if_neg hj]
  have e1 : (tAset M 30 f).1 = M.1 := rfl
  funext g i
  unfold fT
  rw [e2, e1, en 1 (by decide), en 11 (by decide), en 2 (by decide), en 52 (by decide), en 3 (by decide), en 4 (by decide), en 7 (by decide), hn]
  by_cases h4 : g = 4
  · subst h4
    rfl
  · simp [h4]
/-- of the Model only what can be undone has changed -/
def TU (M M' : TM) : Prop := (∀ j, j ≠ 32 → M'.1 j = M.1 j) ∧ M'.2.1 = M.2.1 ∧ (∀ k, k ≠ 30 → M'.2.2.1 k = M.2.2.1 k) ∧ M'.2.2.2 = M.2.2.2
theorem TU_trans {M M1 M2 : TM} (h : TU M M1) (g : TU M1 M2) : TU M M2 := ⟨fun j hj => by rw [g.1 j hj, h.1 j hj], by rw [g.2.1, h.2.1], fun k hk => by rw [g.2.2.1 k hk, h.2.2.1 k hk], by rw [g.2.2.2, h.2.2.2]⟩
theorem TU_30 {M : TM} {f : Nat → Int32} : TU M (tAset M 30 f) := ⟨fun _ _ => rfl, rfl, fun k hk => by rw [tAset_at, if_neg hk], rfl⟩
theorem TU_32 {M : TM} {v : Int32} : TU M (tsi M 32 v) := ⟨fun j hj => by rw [tsi_1, if_neg hj], rfl, fun _ _ => rfl, rfl⟩
theorem T_keepsJ {N : Nat} (hN : 20000 ≤ N) {M : TM} {n w : Nat} (hn : n < 16) (hM : M.1 32 = nn n) : ∃ M', T_keeps_J52 N (nn w) (nn 7) M = some M' ∧ fT M' = pushR n w (fT M) ∧ TU M M' := by
  have hc : (M.1 32).toNatClampNeg = n := by rw [hM, nn_cl (by omega)]
  refine ⟨tsi (tw (tAset M 30 (va_cpy (M.2.2.1 2) (M.2.2.1 30) 0 (7 * n) 6)) 30 (7 * n + 6) (nn w)) 32 (nn (n + 1)), ?_, ?_, TU_trans (TU_trans TU_30 TU_30) TU_32⟩
  · unfold T_keeps_J52
    rw [show (0 : Int32) = nn 0 from rfl, T_keepsL hn 6 0 N M hM (by omega) (by omega)]
    have e1 : (tAset M 30 (va_cpy (M.2.2.1 2) (M.2.2.1 30) 0 (7 * n + 0) 6)).1 32 = nn n := hM
    rw [e1, nn_mul, show (6 : Int32) = nn 6 from rfl, nn_add, twa_nn (by omega) (by omega), Option.bind_some, tw_1, e1, show (1 : Int32) = nn 1 from rfl, nn_add]
    rfl
  · have e3 : tw (tAset M 30 (va_cpy (M.2.2.1 2) (M.2.2.1 30) 0 (7 * n) 6)) 30 (7 * n + 6) (nn w) = tAset M 30 (upd (va_cpy (M.2.2.1 2) (M.2.2.1 30) 0 (7 * n) 6) (7 * n + 6) (nn w)) := by
      refine Prod.ext rfl (Prod.ext rfl (Prod.ext ?_ rfl))
      funext j
      rw [tw_2, tAset_at, tAset_at, tAset_at]
      by_cases h : j = 30
      · rw [if_pos h, if_pos h, if_pos rfl]
      · rw [if_neg h, if_neg h, if_neg h]
    rw [e3]
    have e4 : tsi (tAset M 30 (upd (va_cpy (M.2.2.1 2) (M.2.2.1 30) 0 (7 * n) 6) (7 * n + 6) (nn w))) 32 (nn (n + 1)) = tAset (tsi M 32 (nn (n + 1))) 30 (upd (va_cpy (M.2.2.1 2) (M.2.2.1 30) 0 (7 * n) 6) (7 * n + 6) (nn w)) := rfl
    rw [e4, fT_30 (n := n + 1) (nn_cl (by omega))]
    funext g i
    unfold pushR
    by_cases h4 : g = 4
    · subst h4
      rw [if_pos rfl]
      by_cases hi : 7 * n ≤ i ∧ i < 7 * n + 7
      · rw [if_pos (show i < 7 * (n + 1) by omega), if_pos ⟨rfl, hi⟩]
        by_cases h6 : i - 7 * n < 6
        · rw [if_pos h6, upd_n _ _ (by omega)]
          unfold va_cpy
          rw [if_pos (by omega), ← fT_0 (by omega)]
          exact congrArg (M.2.2.1 2) (by omega)
        · rw [if_neg h6, show i = 7 * n + 6 by omega, upd_s]
      · rw [if_neg (c := 4 = 4 ∧ 7 * n ≤ i ∧ i < 7 * n + 7) (fun z => hi z.2), up2_n _ _ (by omega)]
        by_cases hlt : i < 7 * n
        · rw [if_pos (show i < 7 * (n + 1) by omega), upd_n _ _ (by omega), ← fT_4 hM (by omega) hlt]
          unfold va_cpy
          rw [if_neg (by omega)]
        · rw [if_neg (show ¬ i < 7 * (n + 1) by omega)]
          unfold fT
          rw [hc]
          simp [hlt]
    · rw [if_neg h4, if_neg (fun z => h4 z.1)]
      by_cases h1 : g = 1
      · subst h1
        by_cases hi : i = 5
        · subst hi
          rw [up2_s]
          rfl
        · rw [up2_n _ _ (by omega)]
          unfold fT
          simp only [show ¬ (1 : Nat) = 0 by decide, if_false, if_true]
          by_cases h7 : i < 7
          · have inj : ∀ a, a < 7 → lastI a = 32 → a = 5 := by decide
            rw [if_pos h7, if_pos h7, tsi_1, if_neg]
            exact fun z => hi (inj _ h7 z)
          · rw [if_neg h7, if_neg h7]
      · rw [up2_n _ _ (by omega)]
        have h53 : (tsi M 32 (nn (n + 1))).1 53 = M.1 53 := rfl
        have h54 : (tsi M 32 (nn (n + 1))).1 54 = M.1 54 := rfl
        unfold fT
        rw [h53, h54, tsi_2]
        simp [h1, h4]
theorem T_kee {N : Nat} (hN : 20000 ≤ N) {M : TM} {b l s t u w : Nat} (hS : SOb b l s t u (fT M)) : ∃ M', T_keeps N (nn w) M = some M' ∧ fT M' = pushU u w (fT M) ∧ TU M M' := by
  have h16 := hS.1.2.2.2.2
  have huM : M.1 32 = nn u := by rw [show M.1 32 = fT M 1 5 from fT_1 (i := 5) (by omega), hS.nu]
  unfold T_keeps pushU
  by_cases h : u = 16
  · subst h
    rw [huM, if_pos (by rfl), if_pos rfl, show (7 : Int32) = nn 7 from rfl, show (0 : Int32) = nn 0 from rfl, T_keepsS 105 0 N M (by omega) (by omega)]
    have e1 : (tAset M 30 (shf (M.2.2.1 30) 0)).1 32 = nn 16 := huM
    rw [e1, show (1 : Int32) = nn 1 from rfl, nn_sub (by omega), Option.bind_some]
    obtain ⟨M', f1, f2, f3⟩ := T_keepsJ (N := N) hN (M := tsi (tAset M 30 (shf (M.2.2.1 30) 0)) 32 (nn (16 - 1))) (n := 15) (w := w) (by omega) rfl
    refine ⟨M', f1, ?_, TU_trans (TU_trans TU_30 TU_32) f3⟩
    rw [f2]
    congr 1
    rw [fT_cut e1 (by omega) (by omega), fT_30 (n := 16) (by rw [huM, nn_cl (by omega)])]
    funext g i
    unfold cutU shU
    by_cases h4 : g = 4
    · subst h4
      by_cases hi : i < 105
      · rw [if_neg (by omega), if_pos rfl, if_pos hi, up2_n _ _ (by omega), if_pos rfl, if_pos (by omega), ← fT_4 huM (by omega) (by omega)]
        unfold shf
        rw [if_pos (by omega)]
      · rw [if_pos (by omega), if_pos rfl, if_neg hi]
    · rw [if_neg (fun z => h4 z.1), if_neg h4]
      unfold up2
      by_cases h15 : g = 1 ∧ i = 5
      · rw [if_pos h15, if_pos h15]
      · rw [if_neg h15, if_neg h15]
        exact if_neg h4
  · have hne : ¬ nn u = (16 : Int32) := by
      rw [show (16 : Int32) = nn 16 from rfl, nn_inj (by omega) (by omega)]
      exact h
    rw [huM, if_neg hne, if_neg h]
    exact T_keepsJ hN (by omega) huM
