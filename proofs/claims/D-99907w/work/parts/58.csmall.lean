/-! PLAIN LAW: the component's small methods -/
set_option maxRecDepth 100000
section CS1
variable {A : AT} {X : XT} {hb : Hp}
theorem C_bks : C_books (ovC A X hb) (A.1 0) = some (A.1 15) := by
  simp only [C_books, C_books_b, og_0, og_0_0, og_1_7, Option.bind_some]
theorem C_nBk : C_nBooks (ovC A X hb) (A.1 0) = some (coC X 0 48) := by
  simp only [C_nBooks, C_nBooks_b, og_0, og_0_0, og_1_8, Option.bind_some, cr_nB]
theorem C_nLk : C_nLeeks (ovC A X hb) (A.1 0) = some (coC X 0 49) := by
  simp only [C_nLeeks, C_nLeeks_b, og_0, og_0_0, og_1_9, Option.bind_some, cr_nL]
theorem i64_l (n : Nat) (h : n < 2147483648) : Int64.ofNat n = (nn n).toInt64 := by
  apply Int64.toInt.inj
  rw [Int32.toInt_toInt64, nn_toInt h, Int64.toInt_ofNat_of_lt (by omega)]
theorem C_isB (a : Int32) : C_isBook (ovC A X hb) (A.1 0) a = some (bz (wi a (nn 0) (coC X 0 48 - nn 1))) := by
  unfold C_isBook C_isBook_b
  rw [og_0, C_nBk, Option.bind_some, show (0 : Int64) = (nn 0).toInt64 by decide, C_in_w, Option.bind_some, rz_bz]
  rfl
theorem C_isL (a : Int32) : C_isLeek (ovC A X hb) (A.1 0) a = some (bz (wi a (nn 0) (coC X 0 49 - nn 1))) := by
  unfold C_isLeek C_isLeek_b
  rw [og_0, C_nLk, Option.bind_some, show (0 : Int64) = (nn 0).toInt64 by decide, C_in_w, Option.bind_some, rz_bz]
  rfl
theorem C_hs (s k : Int32) : C_has s k = some (bz (bt s k)) := T_isI s k
theorem C_isR (a : Int32) : C_isRead (ovC A X hb) (A.1 0) a = some (bz (bt (coC X 0 0) a)) := by
  simp only [C_isRead, C_isRead_b, og_0, C_bks, og_15_1, Option.bind_some, C_hs, rz_bz, cr_known]
theorem C_isO {k : Nat} (r : Int32) (hk : k < 8) : C_isOpen (ovC A X hb) (A.1 0) (nn k) r = some (bz (opn (coC X 0 (22 + k)) r (nn k))) := by
  unfold C_isOpen C_isOpen_b opn
  rw [og_0, C_hs, Option.bind_some]
  cases hb : bt r (nn k)
  · rw [if_pos (by rfl), og_0_0, Option.bind_some, og_1_3, Option.bind_some, oa_4 hk, Option.bind_some, cr_need hk]
    by_cases hc : (coC X 0 (22 + k) &&& (r ^^^ -1)) = 0
    · rw [if_pos hc, decide_eq_true hc]; rfl
    · rw [if_neg hc, decide_eq_false hc]; rfl
  · rw [if_neg (by decide)]; rfl
theorem C_ref {k : Nat} (h0 : 0 < k) (h : k < 7) : ∃ X', C_tell (A.1 0) (-nn k) (ovC A X hb) = some (-nn k, ovC A X' hb) ∧ coC X' = tlS k (coC X) ∧ X'.2 = X.2 := by
  have hneg : -nn k < 0 := by
    have : ∀ k, k < 7 → 0 < k → -nn k < 0 := by decide
    exact this k h h0
  have hng : ¬ 0 ≤ -nn k := by
    have : ∀ k, k < 7 → 0 < k → ¬ 0 ≤ -nn k := by decide
    exact this k h h0
  have hn0 : ¬ (0 : Int32) < -nn k := by
    have : ∀ k, k < 7 → 0 < k → ¬ 0 < -nn k := by decide
    exact this k h h0
  refine ⟨ws (ws X 0 10 (-nn k)) 34 k (X.1 34 k + 1), ?_, ?_, rfl⟩
  · unfold C_tell C_tell_b
    rw [og_0, Option.bind_some, if_neg hn0, op_0_10, Option.bind_some, if_neg hng, og_0_9, Option.bind_some, neg_nn, oa_34 h, Option.bind_some, os_34 h, Option.bind_some]
    rfl
  · rw [co_ref h, co_st, cr_ref h]
    rfl
theorem C_goo {v : Int32} (h : 0 ≤ v) : ∃ X', C_tell (A.1 0) v (ovC A X hb) = some (v, ovC A X' hb) ∧ coC X' = gdS (coC X) ∧ X'.2 = X.2 := by
  have hv : (if (0 : Int32) < v then (0 : Int32) else v) = 0 := by
    by_cases hc : (0 : Int32) < v
    · rw [if_pos hc]
    · rw [if_neg hc]
      apply Int32.toInt.inj
      rw [Int32.lt_iff_toInt_lt] at hc
      rw [Int32.le_iff_toInt_le] at h
      omega
  refine ⟨ws X 0 10 0, ?_, co_st, rfl⟩
  unfold C_tell C_tell_b
  rw [og_0, Option.bind_some, hv, op_0_10, Option.bind_some, if_pos h]
theorem C_hadd (v : Int32) : ∃ X', C_had (A.1 0) v (ovC A X hb) = some (v, ovC A X' hb) ∧ coC X' = gdS (coC X) ∧ X'.2 = X.2 := by
  refine ⟨ws X 0 10 0, ?_, co_st, rfl⟩
  unfold C_had C_had_b
  rw [og_0, op_0_10]
  rfl
theorem co_noU : coC (ws X 18 1 0) = noU (coC X) := by
  funext g i
  by_cases h4 : g = 4
  · subst h4
    rw [noU_4, coC_n]
    rintro ⟨_, h, _⟩
    have := h rfl
    rw [ws_at, if_pos ⟨rfl, rfl⟩] at this
    have e : (0 : Int32).toNatClampNeg = 0 := rfl
    rw [e] at this
    omega
  · rw [noU_n _ _ h4]
    have hv : cLv (ws X 18 1 0) g i = cLv X g i := by
      unfold cLv
      rw [ws_at, ws_at, if_neg (by decide : ¬ (0 = 18 ∧ 29 = 1))]
      simp only [h4, false_imp_iff]
    by_cases h1 : g = 1 ∧ i = 5
    · obtain ⟨rfl, rfl⟩ := h1
      rw [up2_s, coC_p rfl ⟨fun z => absurd z (by decide), fun z => absurd z (by decide)⟩]
      rfl
    · rw [up2_n _ _ h1]
      by_cases hc : cR g i = true ∧ cLv X g i
      · rw [coC_p hc.1 hc.2, coC_p hc.1 (by rw [hv]; exact hc.2), ws_at, if_neg]
        rintro ⟨e1, e2⟩
        have := cIn_cL hc.1
        rw [e1, e2] at this
        have e3 : cIn 18 1 = (1, 5) := rfl
        rw [e3] at this
        exact h1 ⟨congrArg Prod.fst this.symm, congrArg Prod.snd this.symm⟩
      · rw [coC_n hc, coC_n (by rw [hv]; exact hc)]
theorem C_setr {k : Nat} (h0 : 0 < k) (h : k < 7) : ∃ X', C_settled (A.1 0) (-nn k) (ovC A X hb) = some (-nn k, ovC A X' hb) ∧ coC X' = tlS k (coC X) ∧ X'.2 = X.2 := by
  obtain ⟨X', e, h1, h2⟩ := C_ref (A := A) (X := X) (hb := hb) h0 h
  refine ⟨X', ?_, h1, h2⟩
  have hneg : -nn k < 0 := by
    have : ∀ k, k < 7 → 0 < k → -nn k < 0 := by decide
    exact this k h h0
  unfold C_settled C_settled_b
  rw [og_0, if_pos hneg]
  unfold C_settled_J12
  rw [e]
  rfl
theorem C_setg {v : Int32} (h : 0 ≤ v) : ∃ X', C_settled (A.1 0) v (ovC A X hb) = some (v, ovC A X' hb) ∧ coC X' = gdS (noU (coC X)) ∧ X'.2 = X.2 := by
  obtain ⟨X', e, h1, h2⟩ := C_goo (A := A) (X := ws X 18 1 0) (hb := hb) h
  refine ⟨X', ?_, by rw [h1, co_noU], h2⟩
  unfold C_settled C_settled_b
  rw [og_0, if_neg (by rw [Int32.lt_iff_toInt_lt]; rw [Int32.le_iff_toInt_le] at h; omega), og_0_2, Option.bind_some, op_18_1, Option.bind_some]
  unfold C_settled_J12
  rw [e]
  rfl
end CS1
