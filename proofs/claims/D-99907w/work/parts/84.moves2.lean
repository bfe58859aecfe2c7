/-! PLAIN LAW: a day passes; what can be read, lost, cut -/
set_option maxRecDepth 100000
section M2
variable {A : AT} {X : XT} {hb : Hp} {M : TM} {D : List CDn} {b l s t u N : Nat}
theorem ps1 (hN : 20000 ≤ N) {x : Nat → Int32 → Hp → Option (Int32 × Hp)} {y : Int32 → TM → Option (Int32 × TM)} : ∀ (r i n n' : Nat) (c : Nat → Nat) (X : XT) (hb : Hp) (M : TM), Wk A X hb M D b l s t u → i + r = l → r < n → r < n' → (∀ k, k < i → c k ≤ 99 ∧ X.1 36 k = nn (c k) ∧ M.2.2.1 29 k = nn (c k)) → ∃ (c' : Nat → Nat) (X' : XT) (hb' : Hp) (M' : TM), C_passIt_L4 N x n (A.1 0) (nn 0) (nn i) (ovC A X hb) = x (A.1 0) (nn 0) (ovC A X' hb') ∧ T_dayPasses_L4 N y n' (nn 0) (nn i) M = y (nn 0) M' ∧ (∀ k, k < i → c' k = c k) ∧ (∀ k, k < l → c' k ≤ 99 ∧ X'.1 36 k = nn (c' k) ∧ M'.2.2.1 29 k = nn (c' k)) ∧ Wk A X' hb' M' D b l s t u ∧ coC X' = coC X ∧ fT M' = fT M ∧ CK X X' ∧ TK M M' ∧ Td hb hb' := by
  intro r
  induction r with
  | zero =>
    intro i n n' c X hb M h hi hn hn' hc
    obtain ⟨n, rfl⟩ : ∃ m, n = m + 1 := ⟨n - 1, by omega⟩
    obtain ⟨n', rfl⟩ : ∃ m, n' = m + 1 := ⟨n' - 1, by omega⟩
    have h4 := h.2.2.1.1.2.1
    refine ⟨c, X, hb, M, ?_, ?_, fun _ _ => rfl, fun k hk => hc k (by omega), h, rfl, rfl, CK_refl X, TK_refl M, Td_refl hb⟩
    · rw [C_passIt_L4, C_nLk, h.2.1.at (by omega), h.2.2.1.nl, Option.bind_some, if_pos (by rw [nn_le (by omega) (by omega)]; omega)]
    · rw [T_dayPasses_L4, T_lM, h.2.2.1.nl, Option.bind_some, if_pos (by rw [nn_le (by omega) (by omega)]; omega)]
  | succ r ih =>
    intro i n n' c X hb M h hi hn hn' hc
    obtain ⟨n, rfl⟩ : ∃ m, n = m + 1 := ⟨n - 1, by omega⟩
    obtain ⟨n', rfl⟩ : ∃ m, n' = m + 1 := ⟨n' - 1, by omega⟩
    have h4 := h.2.2.1.1.2.1
    obtain ⟨v, X1, hb1, M1, hv, t1, t2, t3, t4, t5, t6⟩ := sim_wil hN h (lk := i) (by omega)
    have hc1 : coC (ws X1 36 i (nn v)) = coC X := by rw [co_s rfl, q28_co t3]
    have hf1 : fT (tw M1 29 i (nn v)) = fT M := by rw [fT_tw rfl, TF_fT t6]
    have hW1 := Wk_mv h t3 t4 t5 t6
    have hW2 : Wk A (ws X1 36 i (nn v)) hb1 (tw M1 29 i (nn v)) D b l s t u := Wk_same hW1 (co_s rfl) rfl (fT_tw rfl)
    obtain ⟨c', X', hb', M', e1, e2, e3, e4, e5, e6, e7, e8, e9, e10⟩ := ih (i + 1) n n' (fun k => if k = i then v else c k) _ _ _ hW2 (by omega) (by omega) (by omega) (by
      intro k hk
      show (if k = i then v else c k) ≤ 99 ∧ _ = nn (if k = i then v else c k) ∧ _ = nn (if k = i then v else c k)
      rw [ws_at, tw_2, if_pos rfl]
      by_cases z : k = i
      · rw [if_pos z, if_pos ⟨rfl, z⟩, z, upd_s]
        exact ⟨by omega, rfl, rfl⟩
      · rw [if_neg z, if_neg (fun w => z w.2), upd_n _ _ z, q28_at t3 (by decide), t6.2.2.1 29 (by decide)]
        exact hc k (by omega))
    refine ⟨c', X', hb', M', ?_, ?_, fun k hk => ?_, e4, e5, by rw [e6, hc1], by rw [e7, hf1], CK_trans (CK_trans (CK_q t3 t4) (CK_ws (Or.inr (Or.inr rfl)))) e8, TK_trans (TK_trans (TK_TF t6) TK_29) e9, Td_trans t5 e10⟩
    · rw [C_passIt_L4, C_nLk, h.2.1.at (by omega), h.2.2.1.nl, Option.bind_some, if_neg (by rw [nn_le (by omega) (by omega)]; omega), og_0_16, Option.bind_some, t1, bd2_some, os_36 (by omega), Option.bind_some, show (1 : Int32) = nn 1 from rfl, nn_add, e1]
    · rw [T_dayPasses_L4, T_lM, h.2.2.1.nl, Option.bind_some, if_neg (by rw [nn_le (by omega) (by omega)]; omega), t2, bd2_some, twa_nn (by omega) (by omega), Option.bind_some, show (1 : Int32) = nn 1 from rfl, nn_add, e2]
    · rw [e3 k (by omega)]
      exact if_neg (by omega)
theorem ps2 {x : Nat → Int32 → Hp → Option (Int32 × Hp)} {y : Int32 → TM → Option (Int32 × TM)} {c : Nat → Nat} : ∀ (r i n n' sum : Nat) (X : XT) (M : TM), Wk A X hb M D b l s t u → i + r = l → r < n → r < n' → (∀ k, k < l → c k ≤ 99 ∧ X.1 36 k = nn (c k) ∧ M.2.2.1 29 k = nn (c k)) → ∃ (sum' : Nat) (X' : XT) (M' : TM), sum' ≤ sum + r ∧ C_passIt_L31 N x n (A.1 0) (nn sum) (nn i) (ovC A X hb) = x (A.1 0) (nn sum') (ovC A X' hb) ∧ T_dayPasses_L31 N y n' (nn sum) (nn i) M = y (nn sum') M' ∧ Wk A X' hb M' D b l s t u ∧ CK X X' ∧ TK M M' ∧ fT M' 0 0 = fT M 0 0 ∧ fT M' 0 5 = fT M 0 5 := by
  intro r
  induction r with
  | zero =>
    intro i n n' sum X M h hi hn hn' hc
    obtain ⟨n, rfl⟩ : ∃ m, n = m + 1 := ⟨n - 1, by omega⟩
    obtain ⟨n', rfl⟩ : ∃ m, n' = m + 1 := ⟨n' - 1, by omega⟩
    have h4 := h.2.2.1.1.2.1
    refine ⟨sum, X, M, Nat.le_refl _, ?_, ?_, h, CK_refl X, TK_refl M, rfl, rfl⟩
    · rw [C_passIt_L31, C_nLk, h.2.1.at (by omega), h.2.2.1.nl, Option.bind_some, if_pos (by rw [nn_le (by omega) (by omega)]; omega)]
    · rw [T_dayPasses_L31, T_lM, h.2.2.1.nl, Option.bind_some, if_pos (by rw [nn_le (by omega) (by omega)]; omega)]
  | succ r ih =>
    intro i n n' sum X M h hi hn hn' hc
    obtain ⟨n, rfl⟩ : ∃ m, n = m + 1 := ⟨n - 1, by omega⟩
    obtain ⟨n', rfl⟩ : ∃ m, n' = m + 1 := ⟨n' - 1, by omega⟩
    have h4 := h.2.2.1.1.2.1
    obtain ⟨hg, hhg, ehg⟩ := h.2.2.1.high (i := i) (by omega)
    obtain ⟨ci, ca, cb⟩ := hc i (by omega)
    have hW := Wk_hi h (i := i) (n := hg - c i) (by omega) (by omega)
    obtain ⟨w, hw, ew⟩ : ∃ w, w ≤ 1 ∧ (if nn hg ≤ nn (hg - c i) then (0 : Int32) else (1 : Int32)) = nn w := by
      split
      · exact ⟨0, by omega, rfl⟩
      · exact ⟨1, by omega, rfl⟩
    obtain ⟨sum', X', M', e0, e1, e2, e3, e4, e5, e6, e7⟩ := ih (i + 1) n n' (sum + w) _ _ hW (by omega) (by omega) (by omega) (by
      intro k hk
      rw [ws_at, if_neg (by omega), tw_2, if_neg (by decide)]
      exact hc k hk)
    have ef : fT (tw M 2 (1 + i) (nn (hg - c i))) = up2 (fT M) 0 (1 + i) (nn (hg - c i)) := fT_k (by omega)
    refine ⟨sum', X', M', by omega, ?_, ?_, e3, CK_trans (CK_ws (Or.inr (Or.inl rfl))) e4, TK_trans (TK_2 (by omega)) e5, ?_, ?_⟩
    · rw [C_passIt_L31, C_nLk, h.2.1.at (by omega), h.2.2.1.nl, Option.bind_some, if_neg (by rw [nn_le (by omega) (by omega)]; omega), C_bks, Option.bind_some, og_15_0, Option.bind_some, oa_16 (by omega), Option.bind_some, og_0_16, Option.bind_some, oa_36 (by omega), Option.bind_some, cr_high (by omega), h.2.1.at (by omega), ehg, ca, mx_lt (by omega) (by omega), Option.bind_some, Option.bind_some, og_15_0, Option.bind_some, oa_16 (by omega), Option.bind_some, cr_high (by omega), h.2.1.at (by omega), ehg, ew]
      unfold C_passIt_J79
      rw [C_bks, Option.bind_some, og_15_0, Option.bind_some, os_16 (by omega), Option.bind_some, nn_add, show (1 : Int32) = nn 1 from rfl, nn_add, e1]
    · rw [T_dayPasses_L31, T_lM, h.2.2.1.nl, Option.bind_some, if_neg (by rw [nn_le (by omega) (by omega)]; omega), show (1 : Int32) + nn i = nn (1 + i) from nn_add 1 i, tra_nn (by omega) (by omega), Option.bind_some, tra_nn (by omega) (by omega), Option.bind_some, fT_0 (by omega), ehg, cb]
      unfold T_greater
      rw [mx_le (by omega) (by omega), Option.bind_some, Option.bind_some, ew]
      unfold T_dayPasses_J77
      rw [show (1 : Int32) = nn 1 from rfl, nn_add, nn_add, nn_add, twa_nn (by omega) (by omega), Option.bind_some, e2]
    · rw [e6, ef, up2_n _ _ (by omega)]
    · rw [e7, ef, up2_n _ _ (by omega)]
/-- a day passes -/
theorem sim_ps (hN : 20000 ≤ N) (h : Wk A X hb M D b l s t u) {dy : Nat} (hd : fT M 0 5 = nn dy) (hdl : dy < 999) : ∃ v X' hb' M', v ≤ 4 ∧ C_passIt N (A.1 0) (ovC A X hb) = some (nn v, ovC A X' hb') ∧ T_dayPasses N M = some (nn v, M') ∧ Wk A X' hb' M' D b l s t u ∧ CK X X' ∧ TK M M' ∧ Td hb hb' := by
  have h4 := h.2.2.1.1.2.1
  let y2 : Int32 → TM → Option (Int32 × TM) := fun v30 M31 => (tra M31 2 5660 (5 : Int32)).bind fun v32 => (twa M31 2 5660 (5 : Int32) (v32 + (1 : Int32))).bind fun M33 => some (v30, M33)
  let x2 : Nat → Int32 → Hp → Option (Int32 × Hp) := fun v64 v65 h66 => (C_books h66 v64).bind fun v67 => (gi h66 v67 [2] 2).bind fun v68 => (po h66 v67 [2] 2 (.int (v68 + (1 : Int32)))).bind fun h69 => some (v65, h69)
  obtain ⟨c, X1, hb1, M1, e1, e2, _, e4, e5, e6, e7, e8, e9, e10⟩ := ps1 (x := fun v34 v35 h36 => C_passIt_L31 N x2 N v34 v35 (0 : Int32) h36) (y := fun v11 M12 => T_dayPasses_L31 N y2 N v11 (0 : Int32) M12) hN l 0 N N (fun _ => 0) X hb M h (by omega) (by omega) (by omega) (fun k hk => absurd hk (by omega))
  obtain ⟨v, X2, M2, f0, f1, f2, f3, f4, f5, f6, f7⟩ := ps2 (N := N) (x := x2) (y := y2) (c := c) l 0 N N 0 X1 M1 e5 (by omega) (by omega) (by omega) e4
  have k5 : fT M2 0 5 = nn dy := by rw [f7, e7, hd]
  have ec : coC (ws X2 15 2 (nn (dy + 1))) = up2 (coC X2) 0 5 (nn (dy + 1)) := co_day
  have ef : fT (tw M2 2 5 (nn (dy + 1))) = up2 (fT M2) 0 5 (nn (dy + 1)) := fT_k (by omega)
  refine ⟨v, ws X2 15 2 (nn (dy + 1)), hb1, tw M2 2 5 (nn (dy + 1)), by omega, ?_, ?_, ?_, ?_, ?_, e10⟩
  · unfold C_passIt C_passIt_b
    rw [og_0]
    refine e1.trans (f1.trans ?_)
    show (C_books (ovC A X2 hb1) (A.1 0)).bind _ = _
    rw [C_bks, Option.bind_some, og_15_2, Option.bind_some, cr_day, f3.2.1.at (by omega), k5, show (1 : Int32) = nn 1 from rfl, nn_add, op_15_2, Option.bind_some]
  · unfold T_dayPasses
    refine e2.trans (f2.trans ?_)
    show (tra M2 2 5660 (5 : Int32)).bind _ = _
    rw [show (5 : Int32) = nn 5 from rfl, tra_nn (by omega) (by omega), Option.bind_some, fT_0 (by omega), k5, show (1 : Int32) = nn 1 from rfl, nn_add, twa_nn (by omega) (by omega), Option.bind_some]
  · refine Wk_up f3 ?_ ?_ rfl (Td_refl hb1) ?_ ?_
    · rw [ec, ef]; exact f3.2.1.up rfl
    · rw [ef]
      have b5 : Bd b l s t u 0 5 (nn (dy + 1)) := ⟨_, by omega, rfl, fun z => absurd z (by omega)⟩
      exact f3.2.2.1.up b5
    · rw [ef, up2_n _ _ (by omega)]
    · rw [ef, up2_g _ _ (by omega)]
  · exact CK_trans e8 (CK_trans f4 (CK_ws (Or.inl rfl)))
  · exact TK_trans e9 (TK_trans f5 (TK_2 (by omega)))
/-- what can be read -/
theorem sim_can (hN : 20000 ≤ N) (h : Wk A X hb M D b l s t u) {bb dy le : Nat} (hbb : bb < b) (hd : fT M 0 5 = nn dy) (hl : fT M 0 (6 + bb) = nn le) (hdy : dy ≤ 999) (hle : le ≤ 9) : ∃ (p : Bool) (X' : XT) (hb' : Hp) (M' : TM), C_canRead N (A.1 0) (nn bb) (ovC A X hb) = some (bz p, ovC A X' hb') ∧ C_isInTime (ovC A X' hb') (A.1 0) (nn bb) = some (bz (decide (dy + le ≤ 999))) ∧ T_canRead N (nn bb) M = some (bz (p && decide (dy + le ≤ 999)), M') ∧ q28 X' = q28 X ∧ X'.2.2 = X.2.2 ∧ Td hb hb' ∧ TF M M' := by
  have h8 := h.2.2.1.1.1
  have hit : ∀ (Y : XT) (hb1 : Hp), coC Y = coC X → C_isInTime (ovC A Y hb1) (A.1 0) (nn bb) = some (bz (decide (dy + le ≤ 999))) := by
    intro Y hb1 hY
    unfold C_isInTime C_isInTime_b
    rw [og_0, C_bks, Option.bind_some, og_15_2, Option.bind_some, og_0_0, Option.bind_some, og_1_1, Option.bind_some, oa_2 (by omega), Option.bind_some, cr_day, cr_len (by omega), hY, h.2.1.at (by omega), h.2.1.at (by omega), hd, hl, nn_add]
    have e : ((999 : Int32) < nn (dy + le)) = (999 < dy + le) := nn_lt (a := 999) (by omega) (by omega)
    by_cases z : dy + le ≤ 999
    · rw [if_neg (by rw [e]; omega), decide_eq_true z]; rfl
    · rw [if_pos (by rw [e]; omega), decide_eq_false z]; rfl
  cases ho : opn (fT M 0 (22 + bb)) (fT M 0 0) (nn bb)
  · refine ⟨false, X, hb, M, ?_, hit X hb rfl, ?_, rfl, rfl, Td_refl hb, TF_refl M⟩
    · unfold C_canRead C_canRead_b
      rw [og_0, C_bks, Option.bind_some, og_15_1, Option.bind_some, C_isO _ (by omega), Option.bind_some, cr_known, h.2.1.at (by omega), h.2.1.at (by omega), ho, if_pos (by rfl)]
      rfl
    · unfold T_canRead
      rw [show (0 : Int32) = nn 0 from rfl, tra_nn (by omega) (by omega), Option.bind_some, T_isO M _ (by omega), Option.bind_some, fT_0 (by omega), ho, if_pos (by rfl)]
      rfl
  · obtain ⟨p, X', hb', M', t1, t2, t3, t4, t5, t6⟩ := sim_bar hN h (bb := bb) (by omega)
    refine ⟨!p, X', hb', M', ?_, hit X' hb' (q28_co t3), ?_, t3, t4, t5, t6⟩
    · unfold C_canRead C_canRead_b
      rw [og_0, C_bks, Option.bind_some, og_15_1, Option.bind_some, C_isO _ (by omega), Option.bind_some, cr_known, h.2.1.at (by omega), h.2.1.at (by omega), ho, if_neg (by decide), t1, bd2_some]
      cases p <;> rfl
    · unfold T_canRead
      rw [show (0 : Int32) = nn 0 from rfl, tra_nn (by omega) (by omega), Option.bind_some, T_isO M _ (by omega), Option.bind_some, fT_0 (by omega), ho, if_neg (by decide), t2, bd2_some]
      cases p
      · rw [if_pos (by rfl), show (5 : Int32) = nn 5 from rfl, show (6 : Int32) = nn 6 from rfl, tra_nn (by omega) (by omega), Option.bind_some, nn_add, tra_nn (by omega) (by omega), Option.bind_some, fT_0 (by omega), fT_0 (by omega), TF_fT t6, hd, hl, nn_add]
        have e : ((999 : Int32) < nn (dy + le)) = (999 < dy + le) := nn_lt (a := 999) (by omega) (by omega)
        by_cases z : dy + le ≤ 999
        · rw [if_neg (by rw [e]; omega), decide_eq_true z]; rfl
        · rw [if_pos (by rw [e]; omega), decide_eq_false z]; rfl
      · rw [if_neg (by decide)]; rfl
end M2
