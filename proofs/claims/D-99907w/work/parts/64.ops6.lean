/-! PLAIN LAW: undo, what was drawn, count -/
set_option maxRecDepth 100000
/-- what hands move, read off a Books object -/
def m7 (X : XT) (p k : Nat) : Int32 := if k = 0 then X.1 p 1 else if k < 5 then X.1 (p + 1) (k - 1) else if k = 5 then X.1 p 2 else X.1 p 3
theorem cL_15 {g i : Nat} (h : cR g i = true) (hn : ¬ (g = 0 ∧ i < 6)) : (cL g i).1 ≠ 15 ∧ (cL g i).1 ≠ 16 := by
  have h0 : ∀ i, i < 53 → 6 ≤ i → (cL 0 i).1 ≠ 15 ∧ (cL 0 i).1 ≠ 16 := by decide +kernel
  have h1 : ∀ i, i < 7 → (cL 1 i).1 ≠ 15 ∧ (cL 1 i).1 ≠ 16 := by decide +kernel
  have h2 : ∀ i, i < 7 → (cL 2 i).1 ≠ 15 ∧ (cL 2 i).1 ≠ 16 := by decide +kernel
  have h3 : ∀ i, i < 400 → (cL 3 i).1 ≠ 15 ∧ (cL 3 i).1 ≠ 16 := by decide +kernel
  have h4 : ∀ i, i < 112 → (cL 4 i).1 ≠ 15 ∧ (cL 4 i).1 ≠ 16 := by decide +kernel
  have h5 : ∀ i, i < 6 → (cL 5 i).1 ≠ 15 ∧ (cL 5 i).1 ≠ 16 := by decide +kernel
  rcases of_decide_eq_true h with ⟨rfl, hi⟩ | ⟨rfl, hi⟩ | ⟨rfl, hi⟩ | ⟨rfl, hi⟩ | ⟨rfl, hi⟩ | ⟨rfl, hi⟩
  · exact h0 i hi (by omega)
  · exact h1 i hi
  · exact h2 i hi
  · exact h3 i hi
  · exact h4 i hi
  · exact h5 i hi
theorem co_as15 {X : XT} {q : Nat} : coC (asX X 15 q) = mv (coC X) (m7 X q) := by
  have hv : ∀ g i, cLv (asX X 15 q) g i = cLv X g i := fun g i => rfl
  funext g i
  unfold mv
  by_cases z : g = 0 ∧ i < 6
  · rw [if_pos z]
    obtain ⟨rfl, hi⟩ := z
    rw [coC_p (by unfold cR; rw [decide_eq_true_eq]; omega) ⟨fun z => absurd z (by decide), fun z => absurd z (by decide)⟩, asX_at]
    unfold cL m7
    rw [if_pos rfl]
    by_cases h0 : i = 0
    · rw [if_pos h0, if_pos h0]
      rfl
    · rw [if_neg h0, if_neg h0]
      by_cases h5 : i < 5
      · rw [if_pos h5, if_pos h5]
        simp only [show ¬ (16 : Nat) = 15 by decide, if_false, show (16 : Nat) = 15 + 1 from rfl, if_true]
        rw [if_pos (by omega)]
      · have : i = 5 := by omega
        subst this
        rfl
  · rw [if_neg z]
    by_cases hc : cR g i = true ∧ cLv X g i
    · rw [coC_p hc.1 hc.2, coC_p hc.1 (by rw [hv]; exact hc.2), asX_at, if_neg (cL_15 hc.1 z).1, if_neg (cL_15 hc.1 z).2]
    · rw [coC_n hc, coC_n (by rw [hv]; exact hc)]
theorem co_cut {X : XT} {u n : Nat} (hu : X.1 18 1 = nn u) (h : n ≤ u) (h16 : u ≤ 16) : coC (ws X 18 1 (nn n)) = cutU n (coC X) := by
  have e1 : ((ws X 18 1 (nn n)).1 18 1).toNatClampNeg = n := by
    rw [ws_at, if_pos ⟨rfl, rfl⟩, nn_cl (by omega)]
  have e2 : (X.1 18 1).toNatClampNeg = u := by rw [hu, nn_cl (by omega)]
  funext g i
  unfold cutU
  by_cases z : g = 4 ∧ 7 * n ≤ i
  · rw [if_pos z, coC_n]
    rintro ⟨_, h1, _⟩
    have := h1 z.1
    rw [e1] at this
    omega
  · rw [if_neg z]
    by_cases h15 : g = 1 ∧ i = 5
    · obtain ⟨rfl, rfl⟩ := h15
      rw [up2_s, coC_p rfl ⟨fun z => absurd z (by decide), fun z => absurd z (by decide)⟩]
      rfl
    · rw [up2_n _ _ h15]
      by_cases hc : cR g i = true ∧ cLv X g i
      · have hv : cLv (ws X 18 1 (nn n)) g i := by
          refine ⟨fun z4 => ?_, fun z5 hi => hc.2.2 z5 hi⟩
          rw [e1]
          omega
        rw [coC_p hc.1 hc.2, coC_p hc.1 hv, ws_at, if_neg]
        rintro ⟨e3, e4⟩
        have := cIn_cL hc.1
        rw [e3, e4] at this
        have e5 : cIn 18 1 = (1, 5) := rfl
        rw [e5] at this
        exact h15 ⟨congrArg Prod.fst this.symm, congrArg Prod.snd this.symm⟩
      · rw [coC_n hc, coC_n]
        rintro ⟨h1, h2, h3⟩
        refine hc ⟨h1, fun z4 => ?_, fun z5 hi => h3 z5 hi⟩
        have := h2 z4
        rw [e1] at this
        rw [e2]
        omega
/-- a row of what can be undone -/
theorem m7_und {X : XT} {u r k : Nat} (hu : X.1 18 1 = nn u) (h16 : u ≤ 16) (hr : r < u) (hk : k < 7) : m7 X (50 + 2 * r) k = coC X 4 (7 * r + k) := by
  have e2 : (X.1 18 1).toNatClampNeg = u := by rw [hu, nn_cl (by omega)]
  rw [coC_p (by unfold cR; rw [decide_eq_true_eq]; omega) ⟨fun _ => by rw [e2]; omega, fun z => absurd z (by decide)⟩]
  unfold m7 cL
  simp only [show ¬ (4 : Nat) = 0 by decide, show ¬ (4 : Nat) = 1 by decide, show ¬ (4 : Nat) = 2 by decide, show ¬ (4 : Nat) = 3 by decide, if_false, if_true, show (7 * r + k) / 7 = r by omega, show (7 * r + k) % 7 = k by omega]
  by_cases h0 : k = 0
  · rw [if_pos h0, if_pos h0]
  rw [if_neg h0, if_neg h0]
  by_cases h5 : k < 5
  · rw [if_pos h5, if_pos h5]
    show X.1 (50 + 2 * r + 1) (k - 1) = X.1 (51 + 2 * r) (k - 1)
    rw [show 50 + 2 * r + 1 = 51 + 2 * r by omega]
  rw [if_neg h5, if_neg h5]
  by_cases h6 : k = 5
  · rw [if_pos h6, if_pos h6]
  rw [if_neg h6, if_neg h6]
section R6
variable {A : AT} {hb : Hp} {X : XT} {M : TM} {b l s t u : Nat}
theorem op_undo {N : Nat} (hN : 20000 ≤ N) (hM : Mt (coC X) (fT M)) (hS : SOb b l s t u (fT M)) : Sim A hb X M t (C_undo (A.1 0)) (T_undo N) := by
  have h16 := hS.1.2.2.2.2
  have huM : M.1 32 = nn u := by rw [show M.1 32 = fT M 1 5 from fT_1 (i := 5) (by omega), hS.nu]
  have huX : X.1 18 1 = nn u := by rw [cr_un, hM.at (by omega), hS.nu]
  by_cases h0 : u = 0
  · refine Sim_ref (k := 3) (by omega) (by omega) hM hS rfl (fun _ _ => rfl) ?_ ?_
    · simp only [C_undo, C_undo_b, og_0, og_0_2, og_18_1, Option.bind_some]
      rw [huX, h0, if_pos (by rfl), bd2_eta]
      rfl
    · simp only [T_undo]
      rw [huM, h0, if_pos (by rfl), bd2_eta]
      rfl
  obtain ⟨n, rfl⟩ : ∃ n, u = n + 1 := ⟨u - 1, by omega⟩
  have hne : ¬ nn (n + 1) = 0 := by
    rw [nn_z (by omega)]
    omega
  have hbk : bk (50 + 2 * n) = true := by
    unfold bk
    rw [decide_eq_true_eq]
    omega
  have eC : C_undo (A.1 0) (ovC A X hb) = C_tell (A.1 0) (fT M 4 (7 * n + 6)) (ovC A (asX (ws X 18 1 (nn n)) 15 (50 + 2 * n)) hb) := by
    have e9 : (ws X 18 1 (nn n)).1 18 1 = nn n := by rw [ws_at, if_pos ⟨rfl, rfl⟩]
    have e8 : (asX (ws X 18 1 (nn n)) 15 (50 + 2 * n)).1 18 1 = nn n := by
      rw [asX_at, if_neg (by decide), if_neg (by decide), e9]
    have e7 : (asX (ws X 18 1 (nn n)) 15 (50 + 2 * n)).1 (50 + 2 * n) 3 = fT M 4 (7 * n + 6) := by
      rw [asX_at, if_neg (by omega), if_neg (by omega), ws_at, if_neg (by omega)]
      have := m7_und (k := 6) huX h16 (show n < n + 1 by omega) (by omega)
      rw [← hM.at (by omega), ← this]
      rfl
    simp only [C_undo, C_undo_b, og_0, og_0_2, og_18_1, Option.bind_some]
    rw [huX, if_neg hne, show (1 : Int32) = nn 1 from rfl, nn_sub (by omega), Nat.add_sub_cancel, op_18_1, Option.bind_some, C_bks, Option.bind_some, og_0_2, Option.bind_some, og_18_0, Option.bind_some, Option.bind_some, og_18_1, Option.bind_some, e9, aR_undo (by omega), Option.bind_some, C_as (by decide) hbk (by omega), bd2_some, og_0_2, Option.bind_some, og_18_0, Option.bind_some, Option.bind_some, og_18_1, Option.bind_some, e8, aR_undo (by omega), Option.bind_some, gi_oc (bk_s hbk).2.2.2.1, Option.bind_some, bd2_eta, e7]
  have eT : T_undo N M = T_good (fT M 4 (7 * n + 6)) (tAset (tsi M 32 (nn n)) 2 (va_cpy (M.2.2.1 30) (M.2.2.1 2) (7 * n) 0 6)) := by
    simp only [T_undo]
    rw [huM, if_neg hne, show (1 : Int32) = nn 1 from rfl, nn_sub (by omega), Nat.add_sub_cancel, Option.bind_some, Option.bind_some]
    have e9 : (tsi M 32 (nn n)).1 32 = nn n := rfl
    rw [e9, show (7 : Int32) = nn 7 from rfl, nn_mul, show (0 : Int32) = nn 0 from rfl, T_undoL (by omega) 6 0 N _ (by omega) (by omega), show (6 : Int32) = nn 6 from rfl, nn_add, tra_nn (by omega) (by omega), Option.bind_some, bd2_eta]
    have e8 : (tAset (tsi M 32 (nn n)) 2 (va_cpy ((tsi M 32 (nn n)).2.2.1 30) ((tsi M 32 (nn n)).2.2.1 2) (7 * n + 0) 0 6)).2.2.1 30 (7 * n + 6) = fT M 4 (7 * n + 6) := by
      rw [← fT_4 huM h16 (by omega)]
      rfl
    rw [e8]
    rfl
  have hsort : 0 ≤ fT M 4 (7 * n + 6) := by
    have := hS.und (i := 7 * n + 6) (by omega)
    rw [if_neg (by omega), if_pos (by omega)] at this
    obtain ⟨k, hk, e⟩ := this
    rw [e]
    exact nn_ge k (by omega)
  have ef : fT (tAset (tsi M 32 (nn n)) 2 (va_cpy (M.2.2.1 30) (M.2.2.1 2) (7 * n) 0 6)) = mv (cutU n (fT M)) (fun i => M.2.2.1 30 (7 * n + i)) := by
    have := fT_mv (M := tsi M 32 (nn n)) (f := M.2.2.1 30) (s := 7 * n)
    rw [fT_cut huM (by omega) h16] at this
    exact this
  refine Sim_goo (X := X) (M := M) (b := b) (l := l) (s := s) (u := n) hsort ?_ ?_ (by rfl) ?_ eC eT
  · rw [ef, co_as15, co_cut huX (by omega) h16]
    refine Mt_mv (Mt_cut hM n) (fun i hi => ?_)
    have e1 : m7 (ws X 18 1 (nn n)) (50 + 2 * n) i = m7 X (50 + 2 * n) i := by
      unfold m7
      simp only [ws_at, show ¬ 50 + 2 * n = 18 by omega, show ¬ 50 + 2 * n + 1 = 18 by omega, false_and, if_false]
    rw [e1, m7_und huX h16 (by omega) (by omega), hM.at (by omega), fT_4 huM h16 (by omega)]
  · rw [ef]
    refine SOb_mv (SOb_cut hS (by omega)) ?_ ?_
    · have := hS.und (i := 7 * n + 0) (by omega)
      rw [if_pos (by omega)] at this
      rw [fT_4 huM h16 (by omega)]
      exact this
    · intro i h1 h6
      have := hS.und (i := 7 * n + i) (by omega)
      rw [if_neg (by omega), if_neg (by omega)] at this
      rw [fT_4 huM h16 (by omega)]
      obtain ⟨n', e1, e2, e3⟩ := this
      exact ⟨n', e1, e2, fun z1 z2 => e3 (by omega) (by omega)⟩
  · intro g hg
    rw [ef, mv_g _ _ hg, cutU_g _ _ hg]
/-- a term by its number -/
theorem C_trm {k i : Nat} (h : k = 0 ∧ i = 5 ∨ k = 1 ∧ i = 46 ∨ k = 2 ∧ i = 47) : C_term (ovC A X hb) (A.1 0) (nn k) = some (coC X 0 i) := by
  simp only [C_term, C_term_b, og_0]
  rcases h with ⟨rfl, rfl⟩ | ⟨rfl, rfl⟩ | ⟨rfl, rfl⟩
  · rw [if_pos (by rfl), C_bks, Option.bind_some, og_15_2, Option.bind_some, cr_day]
  · rw [if_neg (by decide), og_0_0, Option.bind_some, og_1_5, Option.bind_some, oa_6 (by omega), Option.bind_some, cr_term (by omega) (by omega)]
  · rw [if_neg (by decide), og_0_0, Option.bind_some, og_1_5, Option.bind_some, oa_6 (by omega), Option.bind_some, cr_term (by omega) (by omega)]
theorem T_trm {M : TM} {k i : Nat} (h : k = 0 ∧ i = 5 ∨ k = 1 ∧ i = 46 ∨ k = 2 ∧ i = 47) : ((T_termAt (nn k)).bind fun v => (tra M 2 5660 v).bind fun w => some w) = some (fT M 0 i) := by
  unfold T_termAt
  rcases h with ⟨rfl, rfl⟩ | ⟨rfl, rfl⟩ | ⟨rfl, rfl⟩
  · rw [if_pos (by rfl), Option.bind_some, show (5 : Int32) = nn 5 from rfl, tra_nn (by omega) (by omega), Option.bind_some, fT_0 (by omega)]
  · rw [if_neg (by decide), if_pos (by rfl), Option.bind_some, show (46 : Int32) = nn 46 from rfl, tra_nn (by omega) (by omega), Option.bind_some, fT_0 (by omega)]
  · rw [if_neg (by decide), if_neg (by decide), Option.bind_some, show (47 : Int32) = nn 47 from rfl, tra_nn (by omega) (by omega), Option.bind_some, fT_0 (by omega)]
theorem op_count {N : Nat} (hN : 20000 ≤ N) (hM : Mt (coC X) (fT M)) (hS : SOb b l s t u (fT M)) (a : Int32) : ∃ v, C_count (ovC A X hb) (A.1 0) a = some v ∧ T_count N M a = some v := by
  by_cases hr : a.toInt < 0 ∨ 15 < a.toInt
  · refine ⟨-nn 1, ?_, ?_⟩
    · simp only [C_count, C_count_b, og_0]
      rw [if_pos (by omega), show (13 : Int64) = (nn 13).toInt64 by decide, show (15 : Int64) = (nn 15).toInt64 by decide, C_in_w, Option.bind_some]
      have hw : wi a (nn 13) (nn 15) = false := by
        cases hw : wi a (nn 13) (nn 15)
        · rfl
        · obtain ⟨k, h1, h2, rfl⟩ := wi_k (by omega) (by omega) hw
          rw [nn_toInt (by omega)] at hr
          omega
      rw [hw, if_pos (by rfl)]
      rfl
    · unfold T_count
      rw [if_pos hr]
      rfl
  obtain ⟨k, hk, rfl⟩ : ∃ k, k < 16 ∧ a = nn k := by
    refine ⟨a.toInt.toNat, by omega, ?_⟩
    apply Int32.toInt.inj
    rw [nn_toInt (by omega)]
    omega
  have hkn : ¬ (nn k).toInt < 0 ∧ ¬ 15 < (nn k).toInt := by
    rw [nn_toInt (by omega)]; omega
  obtain ⟨x, hx, ex⟩ := hS.known
  have hp := pw_le hS.1.1
  unfold T_count
  rw [if_neg (by omega)]
  simp only [C_count, C_count_b, og_0]
  match k, hk with
  | 0, _ =>
    refine ⟨fT M 0 48, ?_, ?_⟩
    · rw [if_neg (by decide), if_pos (by decide), C_nBk, Option.bind_some, hM.at (by omega)]
    · rw [if_pos (by decide), T_bM, Option.bind_some]
  | 1, _ =>
    refine ⟨fT M 0 49, ?_, ?_⟩
    · rw [if_neg (by decide), if_neg (by decide), if_pos (by decide), C_nLk, Option.bind_some, hM.at (by omega)]
    · rw [if_neg (by decide), if_pos (by decide), T_lM, Option.bind_some]
  | 2, _ =>
    refine ⟨nn (pc 8 x), ?_, ?_⟩
    · rw [if_neg (by decide), if_neg (by decide), if_neg (by decide), if_pos (by decide), C_bks, Option.bind_some, og_15_1, Option.bind_some, cr_known, hM.at (by omega), ex, C_on (by omega), Option.bind_some]
    · rw [if_neg (by decide), if_neg (by decide), if_pos (by decide), show (0 : Int32) = nn 0 from rfl, tra_nn (by omega) (by omega), Option.bind_some, fT_0 (by omega), ex, T_on hN (by omega), Option.bind_some]
  | 3, _ =>
    refine ⟨fT M 0 50, ?_, ?_⟩
    · rw [if_neg (by decide), if_neg (by decide), if_neg (by decide), if_neg (by decide), if_pos (by decide), og_0_0, Option.bind_some, og_1_10, Option.bind_some, cr_nS, hM.at (by omega)]
    · rw [if_neg (by decide), if_neg (by decide), if_neg (by decide), if_pos (by decide), show (50 : Int32) = nn 50 from rfl, tra_nn (by omega) (by omega), Option.bind_some, fT_0 (by omega)]
  | 4, _ =>
    refine ⟨fT M 0 51, ?_, ?_⟩
    · rw [if_neg (by decide), if_neg (by decide), if_neg (by decide), if_neg (by decide), if_neg (by decide), if_pos (by decide), og_0_0, Option.bind_some, og_1_0, Option.bind_some]
      simp only [J2_size, J2_size_b, og_14, og_14_2, Option.bind_some]
      rw [cr_nT, hM.at (by omega)]
    · rw [if_neg (by decide), if_neg (by decide), if_neg (by decide), if_neg (by decide), if_pos (by decide), show (51 : Int32) = nn 51 from rfl, tra_nn (by omega) (by omega), Option.bind_some, fT_0 (by omega)]
  | 5, _ =>
    refine ⟨fT M 1 5, ?_, ?_⟩
    · rw [if_neg (by decide), if_neg (by decide), if_neg (by decide), if_neg (by decide), if_neg (by decide), if_neg (by decide), if_pos (by decide), og_0_2, Option.bind_some, og_18_1, Option.bind_some, cr_un, hM.at (by omega)]
    · rw [if_neg (by decide), if_neg (by decide), if_neg (by decide), if_neg (by decide), if_neg (by decide), if_pos (by decide), show M.1 32 = fT M 1 5 from fT_1 (i := 5) (by omega)]
  | 6, _ =>
    refine ⟨fT M 1 4, ?_, ?_⟩
    · rw [if_neg (by decide), if_neg (by decide), if_neg (by decide), if_neg (by decide), if_neg (by decide), if_neg (by decide), if_neg (by decide), if_pos (by decide), og_0_15, Option.bind_some, cr_td, hM.at (by omega)]
    · rw [if_neg (by decide), if_neg (by decide), if_neg (by decide), if_neg (by decide), if_neg (by decide), if_neg (by decide), if_pos (by decide), show M.1 13 = fT M 1 4 from fT_1 (i := 4) (by omega)]
  | 7, _ =>
    refine ⟨fT M 2 1, ?_, ?_⟩
    · rw [if_neg (by decide), if_neg (by decide), if_neg (by decide), if_neg (by decide), if_neg (by decide), if_neg (by decide), if_neg (by decide), if_neg (by decide), if_pos (by decide), og_0_9, Option.bind_some, show (1 : Int32) = nn 1 from rfl, oa_34 (by omega), Option.bind_some, cr_ref (by omega), hM.at (by omega)]
    · rw [if_neg (by decide), if_neg (by decide), if_neg (by decide), if_neg (by decide), if_neg (by decide), if_neg (by decide), if_neg (by decide), if_pos (by decide), show nn 7 - (6 : Int32) = nn 1 from rfl, tra_nn (by omega) (by omega), Option.bind_some, fT_2 (by omega)]
  | 8, _ =>
    refine ⟨fT M 2 2, ?_, ?_⟩
    · rw [if_neg (by decide), if_neg (by decide), if_neg (by decide), if_neg (by decide), if_neg (by decide), if_neg (by decide), if_neg (by decide), if_neg (by decide), if_neg (by decide), if_pos (by decide), og_0_9, Option.bind_some, show (2 : Int32) = nn 2 from rfl, oa_34 (by omega), Option.bind_some, cr_ref (by omega), hM.at (by omega)]
    · rw [if_neg (by decide), if_neg (by decide), if_neg (by decide), if_neg (by decide), if_neg (by decide), if_neg (by decide), if_neg (by decide), if_neg (by decide), if_pos (by decide), show nn 8 - (6 : Int32) = nn 2 from rfl, tra_nn (by omega) (by omega), Option.bind_some, fT_2 (by omega)]
  | 9, _ =>
    refine ⟨fT M 2 3, ?_, ?_⟩
    · rw [if_neg (by decide), if_neg (by decide), if_neg (by decide), if_neg (by decide), if_neg (by decide), if_neg (by decide), if_neg (by decide), if_neg (by decide), if_neg (by decide), if_neg (by decide), if_pos (by decide), og_0_9, Option.bind_some, show (3 : Int32) = nn 3 from rfl, oa_34 (by omega), Option.bind_some, cr_ref (by omega), hM.at (by omega)]
    · rw [if_neg (by decide), if_neg (by decide), if_neg (by decide), if_neg (by decide), if_neg (by decide), if_neg (by decide), if_neg (by decide), if_neg (by decide), if_neg (by decide), if_pos (by decide), show nn 9 - (6 : Int32) = nn 3 from rfl, tra_nn (by omega) (by omega), Option.bind_some, fT_2 (by omega)]
  | 10, _ =>
    refine ⟨fT M 2 5, ?_, ?_⟩
    · rw [if_neg (by decide), if_neg (by decide), if_neg (by decide), if_neg (by decide), if_neg (by decide), if_neg (by decide), if_neg (by decide), if_neg (by decide), if_neg (by decide), if_neg (by decide), if_neg (by decide), if_pos (by decide), og_0_9, Option.bind_some, show (5 : Int32) = nn 5 from rfl, oa_34 (by omega), Option.bind_some, cr_ref (by omega), hM.at (by omega)]
    · rw [if_neg (by decide), if_neg (by decide), if_neg (by decide), if_neg (by decide), if_neg (by decide), if_neg (by decide), if_neg (by decide), if_neg (by decide), if_neg (by decide), if_neg (by decide), if_pos (by decide), show (5 : Int32) = nn 5 from rfl, tra_nn (by omega) (by omega), Option.bind_some, fT_2 (by omega)]
  | 11, _ =>
    refine ⟨fT M 2 6, ?_, ?_⟩
    · rw [if_neg (by decide), if_neg (by decide), if_neg (by decide), if_neg (by decide), if_neg (by decide), if_neg (by decide), if_neg (by decide), if_neg (by decide), if_neg (by decide), if_neg (by decide), if_neg (by decide), if_neg (by decide), if_pos (by decide), og_0_9, Option.bind_some, show (6 : Int32) = nn 6 from rfl, oa_34 (by omega), Option.bind_some, cr_ref (by omega), hM.at (by omega)]
    · rw [if_neg (by decide), if_neg (by decide), if_neg (by decide), if_neg (by decide), if_neg (by decide), if_neg (by decide), if_neg (by decide), if_neg (by decide), if_neg (by decide), if_neg (by decide), if_neg (by decide), if_pos (by decide), show (6 : Int32) = nn 6 from rfl, tra_nn (by omega) (by omega), Option.bind_some, fT_2 (by omega)]
  | 12, _ =>
    refine ⟨fT M 0 52, ?_, ?_⟩
    · rw [if_neg (by decide), if_neg (by decide), if_neg (by decide), if_neg (by decide), if_neg (by decide), if_neg (by decide), if_neg (by decide), if_neg (by decide), if_neg (by decide), if_neg (by decide), if_neg (by decide), if_neg (by decide), if_neg (by decide), og_0_0, Option.bind_some, og_1_11, Option.bind_some, cr_nF, hM.at (by omega)]
    · rw [if_neg (by decide), if_neg (by decide), if_neg (by decide), if_neg (by decide), if_neg (by decide), if_neg (by decide), if_neg (by decide), if_neg (by decide), if_neg (by decide), if_neg (by decide), if_neg (by decide), if_neg (by decide), if_pos (by decide), show (52 : Int32) = nn 52 from rfl, tra_nn (by omega) (by omega), Option.bind_some, fT_0 (by omega)]
  | 13, _ =>
    refine ⟨fT M 0 5, ?_, ?_⟩
    · rw [if_pos (by decide), show C_in (nn 13).toInt64 13 15 = some 1 by decide, Option.bind_some, if_neg (by decide), show nn 13 - (13 : Int32) = nn 0 from rfl, C_trm (i := 5) (by omega), Option.bind_some, hM.at (by omega)]
    · rw [if_neg (by decide), if_neg (by decide), if_neg (by decide), if_neg (by decide), if_neg (by decide), if_neg (by decide), if_neg (by decide), if_neg (by decide), if_neg (by decide), if_neg (by decide), if_neg (by decide), if_neg (by decide), if_neg (by decide), if_pos (by decide), show nn 13 - (13 : Int32) = nn 0 from rfl, T_trm (i := 5) (by omega)]
  | 14, _ =>
    refine ⟨fT M 0 46, ?_, ?_⟩
    · rw [if_pos (by decide), show C_in (nn 14).toInt64 13 15 = some 1 by decide, Option.bind_some, if_neg (by decide), show nn 14 - (13 : Int32) = nn 1 from rfl, C_trm (i := 46) (by omega), Option.bind_some, hM.at (by omega)]
    · rw [if_neg (by decide), if_neg (by decide), if_neg (by decide), if_neg (by decide), if_neg (by decide), if_neg (by decide), if_neg (by decide), if_neg (by decide), if_neg (by decide), if_neg (by decide), if_neg (by decide), if_neg (by decide), if_neg (by decide), if_neg (by decide), if_pos (by decide), show nn 14 - (13 : Int32) = nn 1 from rfl, T_trm (i := 46) (by omega)]
  | 15, _ =>
    refine ⟨fT M 0 47, ?_, ?_⟩
    · rw [if_pos (by decide), show C_in (nn 15).toInt64 13 15 = some 1 by decide, Option.bind_some, if_neg (by decide), show nn 15 - (13 : Int32) = nn 2 from rfl, C_trm (i := 47) (by omega), Option.bind_some, hM.at (by omega)]
    · rw [if_neg (by decide), if_neg (by decide), if_neg (by decide), if_neg (by decide), if_neg (by decide), if_neg (by decide), if_neg (by decide), if_neg (by decide), if_neg (by decide), if_neg (by decide), if_neg (by decide), if_neg (by decide), if_neg (by decide), if_neg (by decide), if_neg (by decide), show nn 15 - (13 : Int32) = nn 2 from rfl, T_trm (i := 47) (by omega)]
  | k + 16, hk => omega
end R6
