/-! PLAIN LAW: what a book can be, by what was seen -/
set_option maxRecDepth 100000
/-- by how much leek lk grows by book bb -/
noncomputable def gV (D : List CDn) (S : Nat → Nat → Int32) (lk bb : Nat) : Nat := (grv D (evT (S 0) (nn lk) (nn bb) (S 0 (1 + lk)) (nn (pc 8 (S 0 0).toNatClampNeg)) (S 0 5)) (S 0 (6 + bb))).toNatClampNeg
/-- what is seen agrees -/
noncomputable def soF (D : List CDn) (S : Nat → Nat → Int32) (bb : Nat) : Nat → Bool → Bool := fun k a => a && decide (nn (gV D S (S 0 (34 + 2 * k)).toNatClampNeg bb) = S 0 (35 + 2 * k))
noncomputable def cbF (D : List CDn) (S : Nat → Nat → Int32) (s : Nat) : Nat → Nat → Nat := fun bb a => a ||| (if fo (soF D S bb) s 0 true = true then 2 ^ bb else 0)
section CB
variable {A : AT} {X : XT} {hb : Hp} {M : TM} {D : List CDn} {b l s t u N : Nat}
theorem sim_gv (hN : 20000 ≤ N) (h : Wk A X hb M D b l s t u) {lk bb : Nat} (hl : lk < 4) (hbb : bb < 8) : ∃ X' hb' M', C_grows N (A.1 0) (nn lk) (nn bb) (ovC A X hb) = some (nn (gV D (fT M) lk bb), ovC A X' hb') ∧ T_growsNow N (nn lk) (nn bb) M = some (nn (gV D (fT M) lk bb), M') ∧ q28 X' = q28 X ∧ X'.2.2 = X.2.2 ∧ Td hb hb' ∧ TF M M' ∧ gV D (fT M) lk bb ≤ 99 := by
  obtain ⟨x, hx, ex⟩ := h.2.2.1.known
  have hx' : x < 256 := Nat.lt_of_lt_of_le hx (pw_le h.2.2.1.1.1)
  obtain ⟨hi, hhi, ehi⟩ := h.2.2.1.high hl
  obtain ⟨dy, hdy, edy⟩ := h.2.2.1.day
  obtain ⟨le, hle, ele⟩ := h.2.2.1.len hbb
  obtain ⟨X', hb', c1, c2, c3, c4⟩ := C_gro hN h.1 h.2.2.2.1 hl hbb hx' (by rw [h.2.1.at (by omega), ex])
  have hev := ev_eq h (lk := nn lk) (bb := nn bb) (Or.inr ⟨lk, hl, rfl⟩) (Or.inr ⟨bb, hbb, rfl⟩) hx' ex
  rw [if_neg (nn_m1 (by omega)), nn_cl (by omega), ehi, edy] at hev
  have hpc := pc8 x
  obtain ⟨M', t1, t2⟩ := T_groBy (M := M) hN h.2.2.2.2 h.2.2.1 hl hbb (high := nn hi) (kn := nn (pc 8 x)) (day := nn dy) (sm_nn (by omega)) (sm_nn (by omega)) (sm_nn (by omega))
  have hwo : coC X 0 (6 + bb) = nn le := by rw [h.2.1.at (by omega), ele]
  have hwo' : M.2.2.1 2 (6 + bb) = nn le := by rw [fT_0 (by omega), ele]
  obtain ⟨n, hn, en⟩ := gr_val (D := D) (e := evT (M.2.2.1 2) (nn lk) (nn bb) (nn hi) (nn (pc 8 x)) (nn dy)) (k := le) (by omega)
  have hg : gV D (fT M) lk bb = n := by
    unfold gV
    have e0 : evT (fT M 0) (nn lk) (nn bb) (nn hi) (nn (pc 8 x)) (nn dy) = evT (M.2.2.1 2) (nn lk) (nn bb) (nn hi) (nn (pc 8 x)) (nn dy) := by
      unfold evT
      rw [avT_congr (fun i hi => (fT_0 hi).symm) (Or.inr ⟨lk, hl, rfl⟩) (Or.inr ⟨bb, hbb, rfl⟩)]
    rw [ehi, ex, nn_cl (by omega), edy, ele, e0, en, nn_cl (by omega)]
  refine ⟨X', hb', M', ?_, ?_, c2, c3, c4, t2, by rw [hg]; exact hn⟩
  · rw [c1, hev, hwo, en, hg]
  · unfold T_growsNow
    rw [show (1 : Int32) = nn 1 from rfl, nn_add, tra_nn (by omega) (by omega), fT_0 (by omega), ehi, Option.bind_some, show (0 : Int32) = nn 0 from rfl, tra_nn (by omega) (by omega), fT_0 (by omega), ex, Option.bind_some, T_on hN hx', Option.bind_some, show (5 : Int32) = nn 5 from rfl, tra_nn (by omega) (by omega), fT_0 (by omega), edy, Option.bind_some, bd2_eta, t1, hwo', en, hg]
theorem cb_17 (hN : 20000 ≤ N) {x : Nat → Int32 → Int32 → Int32 → Hp → Option (Int32 × Hp)} {bb : Nat} {v : Int32} (hbb : bb < 8) : ∀ (r i n : Nat) (p : Bool) (X : XT) (hb : Hp), Wk A X hb M D b l s t u → i + r = s → r < n → ∃ X' hb', C_canBe_L17 N x n (A.1 0) v (nn bb) (bz p) (nn i) (ovC A X hb) = x (A.1 0) v (nn bb) (bz (fo (soF D (fT M) bb) r i p)) (ovC A X' hb') ∧ Wk A X' hb' M D b l s t u ∧ q28 X' = q28 X ∧ X'.2.2 = X.2.2 ∧ Td hb hb' := by
  intro r
  induction r with
  | zero =>
    intro i n p X hb h hi hn
    obtain ⟨n, rfl⟩ : ∃ m, n = m + 1 := ⟨n - 1, by omega⟩
    have h6 := h.2.2.1.1.2.2.1
    refine ⟨X, hb, ?_, h, rfl, rfl, Td_refl hb⟩
    rw [C_canBe_L17, og_0_0, Option.bind_some, og_1_10, Option.bind_some, cr_nS, h.2.1.at (by omega), h.2.2.1.ns, if_pos (by rw [nn_le (by omega) (by omega)]; omega)]
    rfl
  | succ r ih =>
    intro i n p X hb h hi hn
    obtain ⟨n, rfl⟩ : ∃ m, n = m + 1 := ⟨n - 1, by omega⟩
    have h6 := h.2.2.1.1.2.2.1
    have h4 := h.2.2.1.1.2.1
    obtain ⟨sl, hsl, esl⟩ := h.2.2.1.seen0 (i := i) (by omega)
    obtain ⟨X1, hb1, M1, t1, _, t3, t4, t5, t6, t7⟩ := sim_gv hN h (lk := sl) (bb := bb) (by omega) hbb
    have hW := Wk_mv h t3 t4 t5 (TF_refl M)
    have hfA : fA (8 + i) 0 2 = true := by
      have : ∀ i, i < 6 → fA (8 + i) 0 2 = true := by decide
      exact this i (by omega)
    obtain ⟨X', hb', e1, e2, e3, e4, e5⟩ := ih (i + 1) n (soF D (fT M) bb i p) X1 hb1 hW (by omega) (by omega)
    refine ⟨X', hb', ?_, e2, by rw [e3, t3], by rw [e4, t4], Td_trans t5 e5⟩
    have g0 : X.1 (8 + i) 0 = nn sl := by rw [cr_seen (by omega) (by omega), h.2.1.at (by omega), ← esl]; rfl
    have g1 : X1.1 (8 + i) 1 = fT M 0 (35 + 2 * i) := by rw [cr_seen (by omega) (by omega), hW.2.1.at (by omega)]; exact congrArg (fT M 0) (by omega)
    rw [C_canBe_L17, og_0_0, Option.bind_some, og_1_10, Option.bind_some, cr_nS, h.2.1.at (by omega), h.2.2.1.ns, if_neg (by rw [nn_le (by omega) (by omega)]; omega), Option.bind_some, og_1_6, Option.bind_some, aR_seen (by omega), Option.bind_some, show (0 : Int32) = nn 0 from rfl, aI_oc hfA (by omega) (by omega), Option.bind_some, g0, t1, bd2_some, og_0_0, Option.bind_some, og_1_6, Option.bind_some, aR_seen (by omega), Option.bind_some, show aI (ovC A X1 hb1) (A.1 (8 + i)) 0 (1 : Int32) = some (X1.1 (8 + i) 1) from aI_oc (i := 1) hfA (by omega) (by omega), Option.bind_some, g1]
    unfold C_canBe_J67
    have hso : bz p &&& (if nn (gV D (fT M) sl bb) = fT M 0 (35 + 2 * i) then (1 : Int32) else nn 0) = bz (soF D (fT M) bb i p) := by
      unfold soF
      rw [esl, nn_cl (by omega), show nn 0 = (0 : Int32) from rfl, bz_ite, bz_and]
    rw [hso, show (1 : Int32) = nn 1 from rfl, nn_add, e1, fo_s]
theorem cb_4 (hN : 20000 ≤ N) {x : Int32 → Hp → Option (Int32 × Hp)} : ∀ (r i n w : Nat) (X : XT) (hb : Hp), Wk A X hb M D b l s t u → i + r = b → r < n → ∃ X' hb', C_canBe_L4 N x n (A.1 0) (nn w) (nn i) (ovC A X hb) = x (nn (fo (cbF D (fT M) s) r i w)) (ovC A X' hb') ∧ Wk A X' hb' M D b l s t u ∧ q28 X' = q28 X ∧ X'.2.2 = X.2.2 ∧ Td hb hb' := by
  intro r
  induction r with
  | zero =>
    intro i n w X hb h hi hn
    obtain ⟨n, rfl⟩ : ∃ m, n = m + 1 := ⟨n - 1, by omega⟩
    have h8 := h.2.2.1.1.1
    refine ⟨X, hb, ?_, h, rfl, rfl, Td_refl hb⟩
    rw [C_canBe_L4, C_nBk, h.2.1.at (by omega), h.2.2.1.nb, Option.bind_some, if_pos (by rw [nn_le (by omega) (by omega)]; omega)]
    rfl
  | succ r ih =>
    intro i n w X hb h hi hn
    obtain ⟨n, rfl⟩ : ∃ m, n = m + 1 := ⟨n - 1, by omega⟩
    have h8 := h.2.2.1.1.1
    have h6 := h.2.2.1.1.2.2.1
    obtain ⟨X1, hb1, e1, e2, e3, e4, e5⟩ := cb_17 (x := fun v59 v60 v61 v62 h63 => C_canBe_J87 N (C_canBe_L4 N x n) v59 v61 (if v62 = 0 then (0 : Int32) else ((1 : Int32) <<< (v61 &&& 31))) v60 h63) (v := nn w) hN (bb := i) (by omega) s 0 N true X hb h (by omega) (by omega)
    obtain ⟨X', hb', f1, f2, f3, f4, f5⟩ := ih (i + 1) n (cbF D (fT M) s i w) X1 hb1 e2 (by omega) (by omega)
    refine ⟨X', hb', ?_, f2, by rw [f3, e3], by rw [f4, e4], Td_trans e5 f5⟩
    rw [C_canBe_L4, C_nBk, h.2.1.at (by omega), h.2.2.1.nb, Option.bind_some, if_neg (by rw [nn_le (by omega) (by omega)]; omega)]
    refine e1.trans ?_
    show C_canBe_J87 N (C_canBe_L4 N x n) (A.1 0) (nn i) (if bz (fo (soF D (fT M) i) s 0 true) = 0 then (0 : Int32) else ((1 : Int32) <<< (nn i &&& 31))) (nn w) (ovC A X1 hb1) = _
    unfold C_canBe_J87
    have hw : nn w ||| (if bz (fo (soF D (fT M) i) s 0 true) = 0 then (0 : Int32) else ((1 : Int32) <<< (nn i &&& 31))) = nn (cbF D (fT M) s i w) := by
      unfold cbF
      cases fo (soF D (fT M) i) s 0 true
      · rw [if_pos (by rfl), if_neg (by decide), show (0 : Int32) = nn 0 from rfl, or_nn]
      · rw [if_neg (by decide), if_pos rfl, sh_nn (by omega), or_nn]
    rw [hw, show (1 : Int32) = nn 1 from rfl, nn_add, f1, fo_s]
/-- growth is laid out -/
def GA (D : List CDn) (S : Nat → Nat → Int32) (M : TM) (Q : Nat → Nat → Prop) : Prop := ∀ lk k, k < 8 → Q lk k → M.2.2.1 43 (8 * lk + k) = nn (gV D S lk k)
theorem lg_12 (hN : 20000 ≤ N) {S : Nat → Nat → Int32} {x : Int32 → TM → Option TM} {lk : Nat} (hlk : lk < l) : ∀ (r i n : Nat) (M : TM), Wk A X hb M D b l s t u → fT M = S → i + r = b → r < n → GA D S M (fun lk' k => lk' < lk ∧ k < b ∨ lk' = lk ∧ k < i) → ∃ M', T_laysGrowth_L12 N x n (nn lk) (nn i) M = x (nn lk) M' ∧ Wk A X hb M' D b l s t u ∧ fT M' = S ∧ GA D S M' (fun lk' k => lk' < lk + 1 ∧ k < b) := by
  intro r
  induction r with
  | zero =>
    intro i n M h hS hi hn hg
    obtain ⟨n, rfl⟩ : ∃ m, n = m + 1 := ⟨n - 1, by omega⟩
    have h8 := h.2.2.1.1.1
    refine ⟨M, ?_, h, hS, fun lk' k h1 h2 => hg lk' k h1 (by omega)⟩
    rw [T_laysGrowth_L12, T_bM, h.2.2.1.nb, Option.bind_some, if_pos (by rw [nn_le (by omega) (by omega)]; omega)]
  | succ r ih =>
    intro i n M h hS hi hn hg
    obtain ⟨n, rfl⟩ : ∃ m, n = m + 1 := ⟨n - 1, by omega⟩
    have h8 := h.2.2.1.1.1
    have h4 := h.2.2.1.1.2.1
    obtain ⟨_, _, M1, _, t2, _, _, _, t6, t7⟩ := sim_gv hN h (lk := lk) (bb := i) (by omega) (by omega)
    have hf1 : fT (tw M1 43 (8 * lk + i) (nn (gV D (fT M) lk i))) = fT M := by rw [fT_tw rfl, TF_fT t6]
    have hW1 : Wk A X hb (tw M1 43 (8 * lk + i) (nn (gV D (fT M) lk i))) D b l s t u := Wk_same h rfl rfl hf1
    obtain ⟨M', e1, e2, e3, e4⟩ := ih (i + 1) n _ hW1 (by rw [hf1, hS]) (by omega) (by omega) (by
      intro lk' k h1 h2
      rw [tw_2, if_pos rfl]
      by_cases z : 8 * lk' + k = 8 * lk + i
      · have z1 : lk' = lk := by omega
        have z2 : k = i := by omega
        subst z1
        subst z2
        rw [upd_s, hS]
      · rw [upd_n _ _ z, t6.2.2.1 43 (by decide)]
        exact hg lk' k h1 (by omega))
    refine ⟨M', ?_, e2, e3, e4⟩
    rw [T_laysGrowth_L12, T_bM, h.2.2.1.nb, Option.bind_some, if_neg (by rw [nn_le (by omega) (by omega)]; omega), t2, bd2_some, show (8 : Int32) = nn 8 from rfl, nn_mul, nn_add, twa_nn (by omega) (by omega), Option.bind_some, show (1 : Int32) = nn 1 from rfl, nn_add, e1]
theorem lg_2 (hN : 20000 ≤ N) {S : Nat → Nat → Int32} {x : TM → Option TM} : ∀ (r i n : Nat) (M : TM), Wk A X hb M D b l s t u → fT M = S → i + r = l → r < n → GA D S M (fun lk' k => lk' < i ∧ k < b) → ∃ M', T_laysGrowth_L2 N x n (nn i) M = x M' ∧ Wk A X hb M' D b l s t u ∧ fT M' = S ∧ GA D S M' (fun lk' k => lk' < l ∧ k < b) := by
  intro r
  induction r with
  | zero =>
    intro i n M h hS hi hn hg
    obtain ⟨n, rfl⟩ : ∃ m, n = m + 1 := ⟨n - 1, by omega⟩
    have h4 := h.2.2.1.1.2.1
    refine ⟨M, ?_, h, hS, fun lk' k h1 h2 => hg lk' k h1 (by omega)⟩
    rw [T_laysGrowth_L2, T_lM, h.2.2.1.nl, Option.bind_some, if_pos (by rw [nn_le (by omega) (by omega)]; omega)]
  | succ r ih =>
    intro i n M h hS hi hn hg
    obtain ⟨n, rfl⟩ : ∃ m, n = m + 1 := ⟨n - 1, by omega⟩
    have h4 := h.2.2.1.1.2.1
    have h8 := h.2.2.1.1.1
    obtain ⟨M1, e1, e2, e3, e4⟩ := lg_12 (x := fun v15 M16 => (T_laysGrowth_L2 N x n) (v15 + (1 : Int32)) M16) hN (lk := i) (by omega) b 0 N M h hS (by omega) (by omega) (fun lk' k h1 h2 => hg lk' k h1 (by omega))
    obtain ⟨M', f1, f2, f3, f4⟩ := ih (i + 1) n M1 e2 e3 (by omega) (by omega) e4
    refine ⟨M', ?_, f2, f3, f4⟩
    rw [T_laysGrowth_L2, T_lM, h.2.2.1.nl, Option.bind_some, if_neg (by rw [nn_le (by omega) (by omega)]; omega)]
    refine e1.trans ?_
    show T_laysGrowth_L2 N x n (nn i + (1 : Int32)) M1 = _
    rw [show (1 : Int32) = nn 1 from rfl, nn_add, f1]
theorem T_lg (hN : 20000 ≤ N) (h : Wk A X hb M D b l s t u) : ∃ M', T_laysGrowth N M = some M' ∧ Wk A X hb M' D b l s t u ∧ fT M' = fT M ∧ GA D (fT M) M' (fun lk' k => lk' < l ∧ k < b) := by
  have h4 := h.2.2.1.1.2.1
  exact lg_2 (x := fun M18 => some M18) hN l 0 N M h rfl (by omega) (by omega) (fun lk' k _ h2 => absurd h2.1 (by omega))
theorem so_L {x : Int32 → Option Int32} {bb : Nat} (h : Wk A X hb M D b l s t u) (hg : GA D (fT M) M (fun lk' k => lk' < l ∧ k < b)) (hbb : bb < b) : ∀ (r i n : Nat) (p : Bool), i + r = s → r < n → T_isSo_L4 N M x n (nn bb) (bz p) (nn i) = x (bz (fo (soF D (fT M) bb) r i p)) := by
  have h6 := h.2.2.1.1.2.2.1
  have h4 := h.2.2.1.1.2.1
  have h8 := h.2.2.1.1.1
  intro r
  induction r with
  | zero =>
    intro i n p hi hn
    obtain ⟨n, rfl⟩ : ∃ m, n = m + 1 := ⟨n - 1, by omega⟩
    rw [T_isSo_L4, show (50 : Int32) = nn 50 from rfl, tra_nn (by omega) (by omega), Option.bind_some, fT_0 (by omega), h.2.2.1.ns, if_pos (by rw [nn_le (by omega) (by omega)]; omega)]
    rfl
  | succ r ih =>
    intro i n p hi hn
    obtain ⟨n, rfl⟩ : ∃ m, n = m + 1 := ⟨n - 1, by omega⟩
    obtain ⟨sl, hsl, esl⟩ := h.2.2.1.seen0 (i := i) (by omega)
    have hgv := hg sl bb (by omega) ⟨hsl, hbb⟩
    rw [T_isSo_L4, show (50 : Int32) = nn 50 from rfl, tra_nn (by omega) (by omega), Option.bind_some, fT_0 (by omega), h.2.2.1.ns, if_neg (by rw [nn_le (by omega) (by omega)]; omega), fo_s, show (34 : Int32) = nn 34 from rfl, show (2 : Int32) = nn 2 from rfl, nn_mul, nn_add, tra_nn (by omega) (by omega), Option.bind_some, fT_0 (by omega), esl, show (8 : Int32) = nn 8 from rfl, nn_mul, nn_add, tra_nn (by omega) (by omega), Option.bind_some, hgv, show nn (34 + 2 * i) + (1 : Int32) = nn (35 + 2 * i) by rw [show (1 : Int32) = nn 1 from rfl, nn_add]; congr 1; omega, tra_nn (by omega) (by omega), Option.bind_some, fT_0 (by omega)]
    unfold T_isSo_J60 T_isSo_J61
    rw [show (1 : Int32) = bz true from rfl, show nn i + bz true = nn (i + 1) from nn_add i 1, show (0 : Int32) = bz false from rfl, ih (i + 1) n _ (by omega) (by omega), ih (i + 1) n _ (by omega) (by omega)]
    have hso : soF D (fT M) bb i p = (p && decide (nn (gV D (fT M) sl bb) = fT M 0 (35 + 2 * i))) := by
      unfold soF
      rw [esl, nn_cl (by omega)]
    rw [hso]
    cases p
    · rw [if_pos (by rfl)]; rfl
    · rw [if_neg (by decide)]
      by_cases hz : nn (gV D (fT M) sl bb) = fT M 0 (35 + 2 * i)
      · rw [if_pos hz, decide_eq_true hz]; rfl
      · rw [if_neg hz, decide_eq_false hz]; rfl
theorem cbT_L {x : Int32 → TM → Option (Int32 × TM)} (hN : 20000 ≤ N) (h : Wk A X hb M D b l s t u) (hg : GA D (fT M) M (fun lk' k => lk' < l ∧ k < b)) : ∀ (r i n w : Nat), i + r = b → r < n → T_canBe_L8 N x n (nn w) (nn i) M = x (nn (fo (cbF D (fT M) s) r i w)) M := by
  have h8 := h.2.2.1.1.1
  have h6 := h.2.2.1.1.2.2.1
  intro r
  induction r with
  | zero =>
    intro i n w hi hn
    obtain ⟨n, rfl⟩ : ∃ m, n = m + 1 := ⟨n - 1, by omega⟩
    rw [T_canBe_L8, T_bM, h.2.2.1.nb, Option.bind_some, if_pos (by rw [nn_le (by omega) (by omega)]; omega)]
    rfl
  | succ r ih =>
    intro i n w hi hn
    obtain ⟨n, rfl⟩ : ∃ m, n = m + 1 := ⟨n - 1, by omega⟩
    rw [T_canBe_L8, T_bM, h.2.2.1.nb, Option.bind_some, if_neg (by rw [nn_le (by omega) (by omega)]; omega)]
    unfold T_isSo
    rw [show (1 : Int32) = bz true from rfl, show (0 : Int32) = nn 0 from rfl, so_L h hg (by omega) s 0 N true (by omega) (by omega), rz_bz, Option.bind_some, Option.bind_some]
    unfold T_canBe_J32
    have hw : nn w ||| (if bz (fo (soF D (fT M) i) s 0 true) = nn 0 then nn 0 else (bz true <<< (nn i &&& 31))) = nn (cbF D (fT M) s i w) := by
      unfold cbF
      cases fo (soF D (fT M) i) s 0 true
      · rw [if_pos (by rfl), if_neg (by decide), or_nn]
      · rw [if_neg (by decide), if_pos rfl, show bz true <<< (nn i &&& 31) = nn (2 ^ i) from sh_nn (by omega), or_nn]
    rw [hw, show nn i + (1 : Int32) = nn (i + 1) from nn_add i 1, ih (i + 1) n _ (by omega) (by omega), fo_s]
/-- what it can be: both sides -/
theorem sim_cb (hN : 20000 ≤ N) (h : Wk A X hb M D b l s t u) : ∃ X' hb' M', C_canBe N (A.1 0) (ovC A X hb) = some (nn (fo (cbF D (fT M) s) b 0 0), ovC A X' hb') ∧ T_canBe N M = some (nn (fo (cbF D (fT M) s) b 0 0), M') ∧ Wk A X' hb' M' D b l s t u ∧ q28 X' = q28 X ∧ X'.2.2 = X.2.2 ∧ Td hb hb' ∧ fT M' = fT M ∧ GA D (fT M) M' (fun lk' k => lk' < l ∧ k < b) := by
  have h8 := h.2.2.1.1.1
  obtain ⟨M', t1, t2, t3, t4⟩ := T_lg hN h
  obtain ⟨X', hb', c1, c2, c3, c4, c5⟩ := cb_4 (x := fun v70 h71 => some (v70, h71)) hN b 0 N 0 X hb h (by omega) (by omega)
  refine ⟨X', hb', M', ?_, ?_, Wk_same c2 rfl rfl t3, c3, c4, c5, t3, t4⟩
  · unfold C_canBe C_canBe_b
    rw [og_0]
    exact c1
  · unfold T_canBe
    rw [t1, Option.bind_some, show (0 : Int32) = nn 0 from rfl, cbT_L (M := M') hN t2 (by rw [t3]; exact t4) b 0 N 0 (by omega) (by omega), t3]
theorem op_canBe (hN : 20000 ≤ N) (h : Wk A X hb M D b l s t u) : OpL A X hb M t (C_canBe N (A.1 0)) (T_canBe N) := by
  obtain ⟨X', hb', M', c1, c2, c3, c4, c5, c6, c7, _⟩ := sim_cb hN h
  exact ⟨_, A, X', hb', M', c1, c2, c3.2.1, ⟨b, l, s, u, c3.2.2.1⟩, c5, c6, samA_refl A, fun g _ => by rw [c7]⟩
end CB
