/-! PLAIN LAW: the Model's small methods -/
set_option maxRecDepth 100000
theorem neg_nn (k : Nat) : -(-nn k) = nn k := Int32.neg_neg
theorem T_ref {k : Nat} (M : TM) (h : k < 7) : ∃ M', T_refuses (-nn k) M = some (-nn k, M') ∧ fT M' = tlS k (fT M) := by
  refine ⟨tw (tsi M 0 (-nn k)) 1 k (M.2.2.1 1 k + 1), ?_, ?_⟩
  · unfold T_refuses
    rw [Option.bind_some, neg_nn, tra_nn (by omega) (by omega), Option.bind_some, twa_nn (by omega) (by omega), Option.bind_some]
    rfl
  · rw [fT_r h, show fT (tsi M 0 (-nn k)) = up2 (fT M) 1 0 (-nn k) from fT_i (i := 0) (by decide), fT_2 h]
    rfl
theorem T_goo (v : Int32) (M : TM) : ∃ M', T_good v M = some (v, M') ∧ fT M' = gdS (fT M) := by
  refine ⟨tsi M 0 (nn 0), rfl, ?_⟩
  exact fT_i (i := 0) (by decide)
/-- what can be undone is forgotten -/
def noU (S : Nat → Nat → Int32) : Nat → Nat → Int32 := fun g i => if g = 4 then 0 else up2 S 1 5 (nn 0) g i
theorem noU_4 (S : Nat → Nat → Int32) (i : Nat) : noU S 4 i = 0 := rfl
theorem noU_n (S : Nat → Nat → Int32) {g : Nat} (i : Nat) (h : g ≠ 4) : noU S g i = up2 S 1 5 (nn 0) g i := by unfold noU; rw [if_neg h]
theorem Mt_noU {S S' : Nat → Nat → Int32} (h : Mt S S') : Mt (noU S) (noU S') := by
  intro g hg
  funext i
  unfold noU
  by_cases h4 : g = 4
  · rw [if_pos h4, if_pos h4]
  · rw [if_neg h4, if_neg h4, (h.up rfl) g hg]
theorem fT_noU (M : TM) : fT (tsi M 32 (nn 0)) = noU (fT M) := by
  have h53 : (tsi M 32 (nn 0)).1 53 = M.1 53 := rfl
  have h54 : (tsi M 32 (nn 0)).1 54 = M.1 54 := rfl
  have h32 : ((tsi M 32 (nn 0)).1 32).toNatClampNeg = 0 := rfl
  funext g i
  unfold noU up2 fT
  rw [h53, h54, h32, tsi_2]
  by_cases h4 : g = 4
  · subst h4
    simp
  · rw [if_neg h4]
    by_cases h1 : g = 1
    · subst h1
      simp only [show ¬ (1 : Nat) = 0 by decide, if_false, if_true, true_and]
      by_cases hi : i = 5
      · subst hi
        rfl
      · rw [if_neg hi]
        by_cases h7 : i < 7
        · have inj : ∀ a, a < 7 → lastI a = 32 → a = 5 := by decide
          rw [if_pos h7, if_pos h7, tsi_1, if_neg]
          · rw [if_neg (by decide)]
          · exact fun z => hi (inj _ h7 z)
        · rw [if_neg h7, if_neg h7, if_neg (by decide)]
    · simp [h1, h4]
theorem SOb_noU {b l s t u : Nat} {S : Nat → Nat → Int32} (h : SOb b l s t u S) : SOb b l s t 0 (noU S) := by
  refine ⟨⟨h.1.1, h.1.2.1, h.1.2.2.1, h.1.2.2.2.1, by omega⟩, fun g i => ?_⟩
  by_cases h4 : g = 4
  · subst h4
    unfold Bd
    simp
  · rw [noU_n _ _ h4]
    by_cases h1 : g = 1 ∧ i = 5
    · obtain ⟨rfl, rfl⟩ := h1
      rw [up2_s]
      rfl
    · rw [up2_n _ _ h1]
      have e := h.2 g i
      unfold Bd at e ⊢
      by_cases h0 : g = 0
      · rw [if_pos h0] at e ⊢; exact e
      · rw [if_neg h0] at e ⊢
        by_cases h1' : g = 1
        · subst h1'
          rw [if_pos rfl] at e ⊢
          by_cases hi : i = 4
          · rw [if_pos hi] at e ⊢; exact e
          · rw [if_neg hi] at e ⊢
            rw [if_neg (fun z => h1 ⟨rfl, z⟩)]
            trivial
        · rw [if_neg h1'] at e ⊢
          by_cases h3 : g = 3
          · rw [if_pos h3] at e ⊢; exact e
          · rw [if_neg h3] at e ⊢
            rw [if_neg h4] at e ⊢
            exact e
theorem T_set (v : Int32) (M : TM) : ∃ M', T_settled v M = some (v, M') ∧ fT M' = gdS (noU (fT M)) := by
  obtain ⟨M', e, h⟩ := T_goo v (tsi M 32 (nn 0))
  refine ⟨M', ?_, by rw [h, fT_noU]⟩
  unfold T_settled
  rw [Option.bind_some, show (0 : Int32) = nn 0 from rfl, e]
  rfl
theorem T_bM (M : TM) : T_bookMany M = some (fT M 0 48) := by
  unfold T_bookMany
  rw [show (48 : Int32) = nn 48 from rfl, tra_nn (by omega) (by omega), fT_0 (by omega)]
  rfl
theorem T_lM (M : TM) : T_leekMany M = some (fT M 0 49) := by
  unfold T_leekMany
  rw [show (49 : Int32) = nn 49 from rfl, tra_nn (by omega) (by omega), fT_0 (by omega)]
  rfl
theorem T_isB (M : TM) (a : Int32) : T_isBook M a = some (bz (wi a (nn 0) (fT M 0 48 - nn 1))) := by
  unfold T_isBook
  rw [T_bM, Option.bind_some, T_lies_w, Option.bind_some, rz_bz]
  rfl
theorem T_isL (M : TM) (a : Int32) : T_isLeek M a = some (bz (wi a (nn 0) (fT M 0 49 - nn 1))) := by
  unfold T_isLeek
  rw [T_lM, Option.bind_some, T_lies_w, Option.bind_some, rz_bz]
  rfl
/-- a bit of a set -/
def bt (s : Int32) (k : Int32) : Bool := decide (((s >>> (k &&& 31)) &&& 1) = 1)
theorem T_isI (s k : Int32) : T_isIn s k = some (bz (bt s k)) := by
  unfold T_isIn bt
  rw [bz_ite, rz_bz]
  rfl
theorem T_isR (M : TM) (a : Int32) : T_isRead M a = some (bz (bt (fT M 0 0) a)) := by
  unfold T_isRead
  rw [show (0 : Int32) = nn 0 from rfl, tra_nn (by omega) (by omega), Option.bind_some, T_isI, Option.bind_some, rz_bz, fT_0 (by omega)]
  rfl
/-- open: not read, and what it needs (n) is -/
def opn (n read k : Int32) : Bool := !bt read k && decide ((n &&& (read ^^^ -1)) = 0)
theorem T_isO (M : TM) (r : Int32) {k : Nat} (hk : k < 8) : T_isOpen M r (nn k) = some (bz (opn (fT M 0 (22 + k)) r (nn k))) := by
  unfold T_isOpen opn
  rw [T_isI, Option.bind_some]
  cases hb : bt r (nn k)
  · rw [if_pos (by rfl), show (22 : Int32) = nn 22 from rfl, nn_add, tra_nn (by omega) (by omega), Option.bind_some, fT_0 (by omega)]
    by_cases hc : (fT M 0 (22 + k) &&& (r ^^^ -1)) = 0
    · rw [if_pos hc, decide_eq_true hc]; rfl
    · rw [if_neg hc, decide_eq_false hc]; rfl
  · rw [if_neg (by decide)]; rfl
