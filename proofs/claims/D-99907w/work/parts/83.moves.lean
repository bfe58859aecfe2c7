/-! PLAIN LAW: a book is read, a day passes: both sides -/
set_option maxRecDepth 100000
/-- of the component only books, changes and what is asked have changed -/
def CK (X X' : XT) : Prop := (∀ j, j ≠ 15 → j ≠ 16 → j ≠ 28 → j ≠ 36 → X'.1 j = X.1 j) ∧ X'.2.2 = X.2.2
/-- of the Model only what hands move, changes and what is asked have changed -/
def TK (M M' : TM) : Prop := (∀ j, j ∉ [22, 23, 24, 25] → M'.1 j = M.1 j) ∧ M'.2.1 = M.2.1 ∧ (∀ k, k ≠ 2 → k ≠ 26 → k ≠ 29 → M'.2.2.1 k = M.2.2.1 k) ∧ (∀ i, 6 ≤ i → M'.2.2.1 2 i = M.2.2.1 2 i) ∧ M'.2.2.2 = M.2.2.2
theorem CK_refl (X : XT) : CK X X := ⟨fun _ _ _ _ _ => rfl, rfl⟩
theorem CK_trans {X Y Z : XT} (h : CK X Y) (g : CK Y Z) : CK X Z := ⟨fun j a b c d => by rw [g.1 j a b c d, h.1 j a b c d], by rw [g.2, h.2]⟩
theorem CK_q {X Y : XT} (h : q28 Y = q28 X) (g : Y.2.2 = X.2.2) : CK X Y := ⟨fun _ _ _ c _ => q28_at h c, g⟩
theorem CK_ws {X : XT} {j k : Nat} {v : Int32} (h : j = 15 ∨ j = 16 ∨ j = 36) : CK X (ws X j k v) := ⟨fun i a b _ d => by
  funext m
  rw [ws_at, if_neg]
  rintro ⟨rfl, _⟩
  omega, rfl⟩
theorem TK_refl (M : TM) : TK M M := ⟨fun _ _ => rfl, rfl, fun _ _ _ _ => rfl, fun _ _ => rfl, rfl⟩
theorem TK_trans {M M1 M2 : TM} (h : TK M M1) (g : TK M1 M2) : TK M M2 := ⟨fun j hj => by rw [g.1 j hj, h.1 j hj], by rw [g.2.1, h.2.1], fun k a b c => by rw [g.2.2.1 k a b c, h.2.2.1 k a b c], fun i hi => by rw [g.2.2.2.1 i hi, h.2.2.2.1 i hi], by rw [g.2.2.2.2, h.2.2.2.2]⟩
theorem TK_TF {M M' : TM} (h : TF M M') : TK M M' := ⟨h.1, h.2.1, fun k _ b _ => h.2.2.1 k b, fun i _ => by rw [h.2.2.1 2 (by decide)], h.2.2.2⟩
theorem TK_29 {M : TM} {i : Nat} {v : Int32} : TK M (tw M 29 i v) := ⟨fun _ _ => rfl, rfl, fun k _ _ c => by rw [tw_2, if_neg c], fun i _ => by rw [tw_2, if_neg (by decide)], rfl⟩
theorem TK_2 {M : TM} {i : Nat} {v : Int32} (h : i < 6) : TK M (tw M 2 i v) := ⟨fun _ _ => rfl, rfl, fun k a _ _ => by rw [tw_2, if_neg a], fun j hj => by rw [tw_2, if_pos rfl, upd_n _ _ (by omega)], rfl⟩
theorem TK_g {M M' : TM} (h : TK M M') {g : Nat} (hg : 1 ≤ g) : fT M' g = fT M g := by
  funext i
  have l : ∀ i, M'.1 (lastI i) = M.1 (lastI i) := fun i => h.1 _ (by
    unfold lastI
    split <;> decide)
  have h2 : ∀ j, 6 ≤ j → M'.2.2.1 2 j = M.2.2.1 2 j := h.2.2.2.1
  unfold fT
  rw [if_neg (show ¬ g = 0 by omega), if_neg (show ¬ g = 0 by omega), l, h.1 32 (by decide), h.1 53 (by decide), h.1 54 (by decide), h.2.2.1 1 (by decide) (by decide) (by decide), h.2.2.1 11 (by decide) (by decide) (by decide), h.2.2.1 30 (by decide) (by decide) (by decide), h.2.2.1 52 (by decide) (by decide) (by decide), h.2.2.1 3 (by decide) (by decide) (by decide), h.2.2.1 4 (by decide) (by decide) (by decide), h.2.2.1 7 (by decide) (by decide) (by decide)]
  by_cases z : 53 ≤ i ∧ i < 59 ∨ 60 ≤ i ∧ i < 2460 ∨ 2860 ≤ i ∧ i < 5260
  · rw [h2 i (by omega)]
  · rw [if_neg z, if_neg z]
theorem TK_0 {M M' : TM} (h : TK M M') {i : Nat} (hi : 6 ≤ i) : fT M' 0 i = fT M 0 i := by
  unfold fT
  rw [if_pos rfl, if_pos rfl, h.2.2.2.1 i hi]
theorem sub_ti {a b : Nat} (ha : a < 1073741824) (hb : b < 1073741824) : (nn a - nn b).toInt = (a : Int) - b := by
  rw [Int32.toInt_sub, nn_toInt (by omega), nn_toInt (by omega)]
  rw [Int.bmod_eq_of_le (by show -(2 ^ 32 / 2 : Int) ≤ _; omega) (by show _ < ((2 ^ 32 : Nat) + 1 : Int) / 2; omega)]
theorem mx_lt {a b : Nat} (ha : a < 1073741824) (hb : b < 1073741824) : (if (0 : Int32) < nn a - nn b then nn a - nn b else (0 : Int32)) = nn (a - b) := by
  have h := sub_ti ha hb
  have e0 : (0 : Int32).toInt = 0 := by decide
  by_cases z : (0 : Int32) < nn a - nn b
  · rw [if_pos z]
    rw [Int32.lt_iff_toInt_lt, e0, h] at z
    rw [nn_sub (by omega)]
  · rw [if_neg z]
    rw [Int32.lt_iff_toInt_lt, e0, h] at z
    rw [show a - b = 0 by omega]
    rfl
theorem mx_le {a b : Nat} (ha : a < 1073741824) (hb : b < 1073741824) : (if (0 : Int32) ≤ nn a - nn b then nn a - nn b else (0 : Int32)) = nn (a - b) := by
  have h := sub_ti ha hb
  have e0 : (0 : Int32).toInt = 0 := by decide
  by_cases z : (0 : Int32) ≤ nn a - nn b
  · rw [if_pos z]
    rw [Int32.le_iff_toInt_le, e0, h] at z
    rw [nn_sub (by omega)]
  · rw [if_neg z]
    rw [Int32.le_iff_toInt_le, e0, h] at z
    rw [show a - b = 0 by omega]
    rfl
theorem mn_lt {a : Nat} (ha : a < 2147483648) : (if nn a < (999 : Int32) then nn a else (999 : Int32)) = nn (min 999 a) := by
  have e : (nn a < (999 : Int32)) = (a < 999) := nn_lt (b := 999) ha (by omega)
  by_cases z : a < 999
  · rw [if_pos (by rw [e]; exact z), Nat.min_eq_right (by omega)]
  · rw [if_neg (by rw [e]; exact z), Nat.min_eq_left (by omega)]
    rfl
theorem mn_le {a : Nat} (ha : a < 2147483648) : (if nn a ≤ (999 : Int32) then nn a else (999 : Int32)) = nn (min 999 a) := by
  have e : (nn a ≤ (999 : Int32)) = (a ≤ 999) := nn_le (b := 999) ha (by omega)
  by_cases z : a ≤ 999
  · rw [if_pos (by rw [e]; exact z), Nat.min_eq_right (by omega)]
  · rw [if_neg (by rw [e]; exact z), Nat.min_eq_left (by omega)]
    rfl
section MV
variable {A : AT} {X : XT} {hb : Hp} {M : TM} {D : List CDn} {b l s t u N : Nat}
theorem Wk_up {X' : XT} {hb' : Hp} {M' : TM} {b' l' s' u' : Nat} (h : Wk A X hb M D b l s t u) (h1 : Mt (coC X') (fT M')) (h2 : SOb b' l' s' t u' (fT M')) (h3 : X'.2.2 = X.2.2) (h4 : Td hb hb') (h5 : fT M' 0 52 = fT M 0 52) (h6 : fT M' 9 = fT M 9) : Wk A X' hb' M' D b' l' s' t u' := by
  obtain ⟨w1, w2, w3, w4, w5⟩ := h
  have e52 : coC X' 0 52 = coC X 0 52 := by rw [h1.at (by omega), w2.at (by omega), h5]
  have e51 : coC X' 0 51 = coC X 0 51 := by rw [h1.at (by omega), w2.at (by omega), h2.nt, w3.nt]
  refine ⟨Td_NB h4 w1, h1, h2, ⟨w4.1, ?_⟩, LD_mv w5 (fun i hi => ?_)⟩
  · rcases w4.2 with ⟨h7, h8⟩ | ⟨t', a, m, q, k1, k2, k3, k4, k5, k6, k7⟩
    · exact Or.inl ⟨by rw [e52]; exact h7, h8⟩
    · exact Or.inr ⟨t', a, m, q, k1, by rw [e52]; exact k2, by rw [e51]; exact k3, by rw [h3]; exact Ex_o h4.2.2.2.1 k4 (fun l z => by cases z), k5, k6, TxR_ex h4.2.2.2.1 k7⟩
  · rcases hi with rfl | hi
    · rw [fT_0 (by omega), fT_0 (by omega), h5]
    · exact K9 h6 (by omega)
theorem Wk_same {X' : XT} {M' : TM} (h : Wk A X hb M D b l s t u) (h1 : coC X' = coC X) (h2 : X'.2.2 = X.2.2) (h3 : fT M' = fT M) : Wk A X' hb M' D b l s t u := Wk_up h (by rw [h1, h3]; exact h.2.1) (by rw [h3]; exact h.2.2.1) h2 (Td_refl hb) (by rw [h3]) (by rw [h3])
theorem rd1 (hN : 20000 ≤ N) {x : Nat → Int32 → Int32 → Hp → Option (Int32 × Hp)} {y : Int32 → Int32 → TM → Option (Int32 × TM)} {bb : Nat} (hbb : bb < 8) : ∀ (r i n n' sum : Nat) (c : Nat → Nat) (X : XT) (hb : Hp) (M : TM), Wk A X hb M D b l s t u → i + r = l → r < n → r < n' → (∀ k, k < i → c k ≤ 99 ∧ X.1 36 k = nn (c k) ∧ M.2.2.1 29 k = nn (c k)) → ∃ (c' : Nat → Nat) (X' : XT) (hb' : Hp) (M' : TM), C_readIt_L4 N x n (A.1 0) (nn bb) (nn sum) (nn i) (ovC A X hb) = x (A.1 0) (nn bb) (nn (fo (fun k a => a + c' k) r i sum)) (ovC A X' hb') ∧ T_reading_L4 N y n' (nn bb) (nn 0) (nn i) M = y (nn bb) (nn 0) M' ∧ (∀ k, k < i → c' k = c k) ∧ (∀ k, k < l → c' k ≤ 99 ∧ X'.1 36 k = nn (c' k) ∧ M'.2.2.1 29 k = nn (c' k)) ∧ Wk A X' hb' M' D b l s t u ∧ coC X' = coC X ∧ fT M' = fT M ∧ CK X X' ∧ TK M M' ∧ Td hb hb' := by
  intro r
  induction r with
  | zero =>
    intro i n n' sum c X hb M h hi hn hn' hc
    obtain ⟨n, rfl⟩ : ∃ m, n = m + 1 := ⟨n - 1, by omega⟩
    obtain ⟨n', rfl⟩ : ∃ m, n' = m + 1 := ⟨n' - 1, by omega⟩
    have h4 := h.2.2.1.1.2.1
    refine ⟨c, X, hb, M, ?_, ?_, fun _ _ => rfl, fun k hk => hc k (by omega), h, rfl, rfl, CK_refl X, TK_refl M, Td_refl hb⟩
    · rw [C_readIt_L4, C_nLk, h.2.1.at (by omega), h.2.2.1.nl, Option.bind_some, if_pos (by rw [nn_le (by omega) (by omega)]; omega)]
      rfl
    · rw [T_reading_L4, T_lM, h.2.2.1.nl, Option.bind_some, if_pos (by rw [nn_le (by omega) (by omega)]; omega)]
  | succ r ih =>
    intro i n n' sum c X hb M h hi hn hn' hc
    obtain ⟨n, rfl⟩ : ∃ m, n = m + 1 := ⟨n - 1, by omega⟩
    obtain ⟨n', rfl⟩ : ∃ m, n' = m + 1 := ⟨n' - 1, by omega⟩
    have h4 := h.2.2.1.1.2.1
    obtain ⟨v, X1, hb1, M1, hv, t1, t2, t3, t4, t5, t6⟩ := sim_gro hN h (lk := i) (bb := bb) (by omega) hbb
    have hc1 : coC (ws X1 36 i (nn v)) = coC X := by rw [co_s rfl, q28_co t3]
    have hf1 : fT (tw M1 29 i (nn v)) = fT M := by rw [fT_tw rfl, TF_fT t6]
    have hW1 := Wk_mv h t3 t4 t5 t6
    have hW2 : Wk A (ws X1 36 i (nn v)) hb1 (tw M1 29 i (nn v)) D b l s t u := Wk_same hW1 (co_s rfl) rfl (fT_tw rfl)
    obtain ⟨c', X', hb', M', e1, e2, e3, e4, e5, e6, e7, e8, e9, e10⟩ := ih (i + 1) n n' (sum + v) (fun k => if k = i then v else c k) _ _ _ hW2 (by omega) (by omega) (by omega) (by
      intro k hk
      show (if k = i then v else c k) ≤ 99 ∧ _ = nn (if k = i then v else c k) ∧ _ = nn (if k = i then v else c k)
      rw [ws_at, tw_2, if_pos rfl]
      by_cases z : k = i
      · rw [if_pos z, if_pos ⟨rfl, z⟩, z, upd_s]
        exact ⟨hv, rfl, rfl⟩
      · rw [if_neg z, if_neg (fun w => z w.2), upd_n _ _ z, q28_at t3 (by decide), t6.2.2.1 29 (by decide)]
        exact hc k (by omega))
    have hci : c' i = v := by
      rw [e3 i (by omega)]
      exact if_pos rfl
    refine ⟨c', X', hb', M', ?_, ?_, fun k hk => ?_, e4, e5, by rw [e6, hc1], by rw [e7, hf1], CK_trans (CK_trans (CK_q t3 t4) (CK_ws (Or.inr (Or.inr rfl)))) e8, TK_trans (TK_trans (TK_TF t6) TK_29) e9, Td_trans t5 e10⟩
    · rw [C_readIt_L4, C_nLk, h.2.1.at (by omega), h.2.2.1.nl, Option.bind_some, if_neg (by rw [nn_le (by omega) (by omega)]; omega), og_0_16, Option.bind_some, t1, bd2_some, os_36 (by omega), Option.bind_some, og_0_16, Option.bind_some, oa_36 (by omega), Option.bind_some, ws_at, if_pos ⟨rfl, rfl⟩, nn_add, show (1 : Int32) = nn 1 from rfl, nn_add, e1, fo_s, hci]
    · rw [T_reading_L4, T_lM, h.2.2.1.nl, Option.bind_some, if_neg (by rw [nn_le (by omega) (by omega)]; omega), t2, bd2_some, twa_nn (by omega) (by omega), Option.bind_some, show (1 : Int32) = nn 1 from rfl, nn_add, e2]
    · rw [e3 k (by omega)]
      exact if_neg (by omega)
theorem hi_bd {i n : Nat} (hi : i < 4) (hl : i < l) (hn : n ≤ 999) : Bd b l s t u 0 (1 + i) (nn n) := by
  unfold Bd
  rw [if_pos rfl, if_neg (by omega), if_pos (by omega)]
  exact ⟨n, hn, rfl, fun _ z => by omega⟩
theorem Wk_hi (h : Wk A X hb M D b l s t u) {i n : Nat} (hl : i < l) (hn : n ≤ 999) : Wk A (ws X 16 i (nn n)) hb (tw M 2 (1 + i) (nn n)) D b l s t u := by
  have h4 := h.2.2.1.1.2.1
  have ec : coC (ws X 16 i (nn n)) = up2 (coC X) 0 (1 + i) (nn n) := co_high (by omega)
  have ef : fT (tw M 2 (1 + i) (nn n)) = up2 (fT M) 0 (1 + i) (nn n) := fT_k (by omega)
  refine Wk_up h ?_ ?_ rfl (Td_refl hb) ?_ ?_
  · rw [ec, ef]; exact h.2.1.up rfl
  · rw [ef]; exact h.2.2.1.up (hi_bd (by omega) hl hn)
  · rw [ef, up2_n _ _ (by omega)]
  · rw [ef, up2_g _ _ (by omega)]
theorem rd2 {x : Nat → Int32 → Int32 → Hp → Option (Int32 × Hp)} {y : Int32 → Int32 → TM → Option (Int32 × TM)} {bb : Nat} {c : Nat → Nat} : ∀ (r i n n' sum sum' : Nat) (X : XT) (M : TM), Wk A X hb M D b l s t u → i + r = l → r < n → r < n' → (∀ k, k < l → c k ≤ 99 ∧ X.1 36 k = nn (c k) ∧ M.2.2.1 29 k = nn (c k)) → ∃ (X' : XT) (M' : TM), C_readIt_L41 N x n (A.1 0) (nn bb) (nn sum) (nn i) (ovC A X hb) = x (A.1 0) (nn bb) (nn sum) (ovC A X' hb) ∧ T_reading_L32 N y n' (nn bb) (nn sum') (nn i) M = y (nn bb) (nn (fo (fun k a => a + c k) r i sum')) M' ∧ Wk A X' hb M' D b l s t u ∧ CK X X' ∧ TK M M' ∧ fT M' 0 0 = fT M 0 0 ∧ fT M' 0 5 = fT M 0 5 := by
  intro r
  induction r with
  | zero =>
    intro i n n' sum sum' X M h hi hn hn' hc
    obtain ⟨n, rfl⟩ : ∃ m, n = m + 1 := ⟨n - 1, by omega⟩
    obtain ⟨n', rfl⟩ : ∃ m, n' = m + 1 := ⟨n' - 1, by omega⟩
    have h4 := h.2.2.1.1.2.1
    refine ⟨X, M, ?_, ?_, h, CK_refl X, TK_refl M, rfl, rfl⟩
    · rw [C_readIt_L41, C_nLk, h.2.1.at (by omega), h.2.2.1.nl, Option.bind_some, if_pos (by rw [nn_le (by omega) (by omega)]; omega)]
    · rw [T_reading_L32, T_lM, h.2.2.1.nl, Option.bind_some, if_pos (by rw [nn_le (by omega) (by omega)]; omega)]
      rfl
  | succ r ih =>
    intro i n n' sum sum' X M h hi hn hn' hc
    obtain ⟨n, rfl⟩ : ∃ m, n = m + 1 := ⟨n - 1, by omega⟩
    obtain ⟨n', rfl⟩ : ∃ m, n' = m + 1 := ⟨n' - 1, by omega⟩
    have h4 := h.2.2.1.1.2.1
    obtain ⟨hg, hhg, ehg⟩ := h.2.2.1.high (i := i) (by omega)
    obtain ⟨ci, ca, cb⟩ := hc i (by omega)
    have hW := Wk_hi h (i := i) (n := min 999 (hg + c i)) (by omega) (by omega)
    obtain ⟨X', M', e1, e2, e3, e4, e5, e6, e7⟩ := ih (i + 1) n n' sum (sum' + c i) _ _ hW (by omega) (by omega) (by omega) (by
      intro k hk
      rw [ws_at, if_neg (by omega), tw_2, if_neg (by decide)]
      exact hc k hk)
    have ef : fT (tw M 2 (1 + i) (nn (min 999 (hg + c i)))) = up2 (fT M) 0 (1 + i) (nn (min 999 (hg + c i))) := fT_k (by omega)
    refine ⟨X', M', ?_, ?_, e3, CK_trans (CK_ws (Or.inr (Or.inl rfl))) e4, TK_trans (TK_2 (by omega)) e5, ?_, ?_⟩
    · rw [C_readIt_L41, C_nLk, h.2.1.at (by omega), h.2.2.1.nl, Option.bind_some, if_neg (by rw [nn_le (by omega) (by omega)]; omega), C_bks, Option.bind_some, og_15_0, Option.bind_some, Option.bind_some, og_15_0, Option.bind_some, oa_16 (by omega), Option.bind_some, og_0_16, Option.bind_some, oa_36 (by omega), Option.bind_some, Option.bind_some, cr_high (by omega), h.2.1.at (by omega), ehg, ca, nn_add, mn_lt (by omega), os_16 (by omega), Option.bind_some, show (1 : Int32) = nn 1 from rfl, nn_add, e1]
    · rw [T_reading_L32, T_lM, h.2.2.1.nl, Option.bind_some, if_neg (by rw [nn_le (by omega) (by omega)]; omega), show (1 : Int32) = nn 1 from rfl, nn_add, tra_nn (by omega) (by omega), Option.bind_some, tra_nn (by omega) (by omega), Option.bind_some, fT_0 (by omega), ehg, cb, nn_add]
      unfold T_lesser
      rw [mn_le (by omega), Option.bind_some, twa_nn (by omega) (by omega), Option.bind_some, tra_nn (by omega) (by omega), Option.bind_some, tw_2, if_neg (by decide), cb, nn_add, nn_add, e2, fo_s]
    · rw [e6, ef, up2_n _ _ (by omega)]
    · rw [e7, ef, up2_n _ _ (by omega)]
theorem fo_le {c : Nat → Nat} {m : Nat} : ∀ (r i a : Nat), (∀ k, i ≤ k → k < i + r → c k ≤ m) → fo (fun k a => a + c k) r i a ≤ a + m * r
  | 0, i, a, _ => by show a ≤ _; omega
  | r + 1, i, a, h => by
    rw [fo_s]
    have := fo_le r (i + 1) (a + c i) (fun k h1 h2 => h k (by omega) (by omega))
    have := h i (by omega) (by omega)
    rw [Nat.mul_succ]
    omega
/-- a book is read -/
theorem sim_rd (hN : 20000 ≤ N) (h : Wk A X hb M D b l s t u) {bb dy le : Nat} (hbb : bb < b) (hd : fT M 0 5 = nn dy) (hl : fT M 0 (6 + bb) = nn le) (hdl : dy + le ≤ 999) : ∃ v X' hb' M', v ≤ 396 ∧ C_readIt N (A.1 0) (nn bb) (ovC A X hb) = some (nn v, ovC A X' hb') ∧ T_reading N (nn bb) M = some (nn v, M') ∧ Wk A X' hb' M' D b l s t u ∧ CK X X' ∧ TK M M' ∧ Td hb hb' := by
  have h8 := h.2.2.1.1.1
  have h4 := h.2.2.1.1.2.1
  obtain ⟨xk, hxk, exk⟩ := h.2.2.1.known
  let y2 : Int32 → Int32 → TM → Option (Int32 × TM) := fun v30 v31 M32 => (tra M32 2 5660 (0 : Int32)).bind fun v33 => (twa M32 2 5660 (0 : Int32) (v33 ||| ((1 : Int32) <<< (v30 &&& 31)))).bind fun M34 => (tra M34 2 5660 (5 : Int32)).bind fun v35 => (tra M34 2 5660 ((6 : Int32) + v30)).bind fun v36 => (twa M34 2 5660 (5 : Int32) (v35 + v36)).bind fun M37 => some (v31, M37)
  let x2 : Nat → Int32 → Int32 → Hp → Option (Int32 × Hp) := fun v62 v63 v64 h65 => (C_books h65 v62).bind fun v66 => (gi h65 v66 [2] 1).bind fun v67 => (po h65 v66 [2] 1 (.int (v67 ||| ((1 : Int32) <<< (v63 &&& 31))))).bind fun h68 => (C_books h68 v62).bind fun v69 => (gi h68 v69 [2] 2).bind fun v70 => (gr h68 v62 [0] 0).bind fun v71 => (gr h68 v71 [1] 1).bind fun v72 => (aI h68 v72 0 v63).bind fun v73 => (po h68 v69 [2] 2 (.int (v70 + v73))).bind fun h74 => some (v64, h74)
  obtain ⟨c, X1, hb1, M1, e1, e2, _, e4, e5, e6, e7, e8, e9, e10⟩ := rd1 (x := fun v38 v39 v40 h41 => C_readIt_L41 N x2 N v38 v39 v40 (0 : Int32) h41) (y := fun v13 v14 M15 => T_reading_L32 N y2 N v13 v14 (0 : Int32) M15) hN (bb := bb) (by omega) l 0 N N 0 (fun _ => 0) X hb M h (by omega) (by omega) (by omega) (fun k hk => absurd hk (by omega))
  obtain ⟨X2, M2, f1, f2, f3, f4, f5, f6, f7⟩ := rd2 (N := N) (x := x2) (y := y2) (bb := bb) (c := c) l 0 N N (fo (fun k a => a + c k) l 0 0) 0 X1 M1 e5 (by omega) (by omega) (by omega) e4
  have hle := fo_le (c := c) (m := 99) l 0 0 (fun k _ hk => (e4 k (by omega)).1)
  have k0 : fT M2 0 0 = nn xk := by rw [f6, e7, exk]
  have k5 : fT M2 0 5 = nn dy := by rw [f7, e7, hd]
  have k6 : fT M2 0 (6 + bb) = nn le := by rw [TK_0 f5 (by omega), e7, hl]
  have hor : xk ||| 2 ^ bb < 2 ^ b := Nat.or_lt_two_pow hxk (Nat.pow_lt_pow_right (by omega) hbb)
  have ec : coC (ws (ws X2 15 1 (nn (xk ||| 2 ^ bb))) 15 2 (nn (dy + le))) = up2 (up2 (coC X2) 0 0 (nn (xk ||| 2 ^ bb))) 0 5 (nn (dy + le)) := by rw [co_day, co_known]
  have ef : fT (tw (tw M2 2 0 (nn (xk ||| 2 ^ bb))) 2 5 (nn (dy + le))) = up2 (up2 (fT M2) 0 0 (nn (xk ||| 2 ^ bb))) 0 5 (nn (dy + le)) := by rw [fT_k (by omega), fT_k (by omega)]
  refine ⟨fo (fun k a => a + c k) l 0 0, ws (ws X2 15 1 (nn (xk ||| 2 ^ bb))) 15 2 (nn (dy + le)), hb1, tw (tw M2 2 0 (nn (xk ||| 2 ^ bb))) 2 5 (nn (dy + le)), by omega, ?_, ?_, ?_, ?_, ?_, e10⟩
  · unfold C_readIt C_readIt_b
    rw [og_0]
    refine e1.trans (f1.trans ?_)
    show (C_books (ovC A X2 hb1) (A.1 0)).bind _ = _
    rw [C_bks, Option.bind_some, og_15_1, Option.bind_some, cr_known, f3.2.1.at (by omega), k0, sh_nn (by omega), or_nn, op_15_1, Option.bind_some, C_bks, Option.bind_some, og_15_2, Option.bind_some, og_0_0, Option.bind_some, og_1_1, Option.bind_some, oa_2 (by omega), Option.bind_some, ws_at, if_neg (by omega), ws_at, if_neg (by omega), cr_day, cr_len (by omega), f3.2.1.at (by omega), f3.2.1.at (by omega), k5, k6, nn_add, op_15_2, Option.bind_some]
  · unfold T_reading
    refine e2.trans (f2.trans ?_)
    show (tra M2 2 5660 (0 : Int32)).bind _ = _
    rw [show (0 : Int32) = nn 0 from rfl, tra_nn (by omega) (by omega), Option.bind_some, fT_0 (by omega), k0, sh_nn (by omega), or_nn, twa_nn (by omega) (by omega), Option.bind_some, show (5 : Int32) = nn 5 from rfl, show (6 : Int32) = nn 6 from rfl, nn_add, tra_nn (by omega) (by omega), Option.bind_some, tra_nn (by omega) (by omega), Option.bind_some, fT_0 (by omega), fT_0 (by omega), fT_k (by omega), up2_n _ _ (by omega), up2_n _ _ (by omega), k5, k6, nn_add, twa_nn (by omega) (by omega), Option.bind_some]
  · refine Wk_up f3 ?_ ?_ rfl (Td_refl hb1) ?_ ?_
    · rw [ec, ef]; exact (f3.2.1.up rfl).up rfl
    · rw [ef]
      have b0 : Bd b l s t u 0 0 (nn (xk ||| 2 ^ bb)) := ⟨_, hor, rfl⟩
      have b5 : Bd b l s t u 0 5 (nn (dy + le)) := ⟨_, hdl, rfl, fun z => absurd z (by omega)⟩
      exact (f3.2.2.1.up b0).up b5
    · rw [ef, up2_n _ _ (by omega), up2_n _ _ (by omega)]
    · rw [ef, up2_g _ _ (by omega), up2_g _ _ (by omega)]
  · exact CK_trans e8 (CK_trans f4 (CK_trans (CK_ws (Or.inl rfl)) (CK_ws (Or.inl rfl))))
  · exact TK_trans e9 (TK_trans f5 (TK_trans (TK_2 (by omega)) (TK_2 (by omega))))
end MV
