/-! PLAIN LAW: all that can be read; what never can be -/
set_option maxRecDepth 100000
theorem su_pw {k y : Nat} (h : y.testBit k = true) : su (2 ^ k) y := by
  intro j hj
  rw [tb_pw, decide_eq_true_eq] at hj
  rw [← hj]
  exact h
theorem pOp_m {S : Nat → Nat → Int32} {b l s t u : Nat} (hS : SOb b l s t u S) : ∀ y, clo (pOp S) (fun k => 2 ^ k) b y → ∀ a k, k < b → su a y → pOp S a k = true → su (2 ^ k) y := by
  intro y hy a k hk ha hp
  have hn := (nd_s hS hk).2
  have h8 := pw_le hS.1.1
  cases h : y.testBit k
  · refine hy k hk ?_
    unfold pOp at hp ⊢
    rw [opN_t (by omega)] at hp ⊢
    exact ⟨h, su_trans hp.2 ha⟩
  · exact su_pw h
section NV
variable {A : AT} {X : XT} {hb : Hp} {M : TM} {b l s t u N : Nat}
theorem al_T (hN : 20000 ≤ N) (hS : SOb b l s t u (fT M)) : T_readAtLast N M = some (nn (atL (fT M) b)) := by
  have h8 := hS.1.1
  have h2b := pw_le h8
  have hV : ∀ k, k < b → (fun k => 2 ^ k) k < 2 ^ b := fun k hk => Nat.pow_lt_pow_right (by omega) hk
  have hin : ∀ (x22 : Int32 → Int32 → Option Int32) (w : Nat), w < 256 → ∀ (r i n a : Nat), i + r = b → r < n → T_readAtLast_L18 N M x22 n (nn a) (nn w) (nn i) = x22 (nn (fo (fun k a => a ||| (if pOp (fT M) w k = true then 2 ^ k else 0)) r i a)) (nn w) := by
    intro x22 w hw r
    induction r with
    | zero =>
      intro i n a hi hn
      obtain ⟨n, rfl⟩ : ∃ m, n = m + 1 := ⟨n - 1, by omega⟩
      rw [T_readAtLast_L18, T_bM, hS.nb, Option.bind_some, if_pos (by rw [nn_le (by omega) (by omega)]; omega)]
      rfl
    | succ r ih =>
      intro i n a hi hn
      obtain ⟨n, rfl⟩ : ∃ m, n = m + 1 := ⟨n - 1, by omega⟩
      obtain ⟨n1, n2⟩ := nd_s hS (show i < b by omega)
      rw [T_readAtLast_L18, T_bM, hS.nb, Option.bind_some, if_neg (by rw [nn_le (by omega) (by omega)]; omega), T_isO M _ (by omega), Option.bind_some, n1, opn_nn (by omega) hw (by omega), fo_s]
      unfold T_readAtLast_J43
      have hv : (if bz (opN (nd (fT M) i) w i) = 0 then (0 : Int32) else ((1 : Int32) <<< (nn i &&& 31))) = nn (if pOp (fT M) w i = true then 2 ^ i else 0) := by
        unfold pOp
        cases opN (nd (fT M) i) w i
        · rw [if_pos (by rfl), if_neg (by decide)]; rfl
        · rw [if_neg (by decide), if_pos rfl, sh_nn (by omega)]
      rw [hv, or_nn, show (1 : Int32) = nn 1 from rfl, nn_add, ih (i + 1) n _ (by omega) (by omega)]
  have hs : ∀ a, a < 2 ^ b → su a (rT (pOp (fT M)) (fun k => 2 ^ k) b a) ∧ rT (pOp (fT M)) (fun k => 2 ^ k) b a < 2 ^ b := fun a ha => ⟨rT_up a b 0 a, rT_lt (a := a) hV b 0 a (by omega) ha⟩
  obtain ⟨k1, k2⟩ := kn_s hS
  unfold T_readAtLast
  rw [show (0 : Int32) = nn 0 from rfl, tra_nn (by omega) (by omega), Option.bind_some, fT_0 (by omega), k1]
  refine loop_itr (L := fun n a w => T_readAtLast_L9 N M (fun v20 => some v20) n a w) (x := fun v20 => some v20) (step := rT (pOp (fT M)) (fun k => 2 ^ k) b) (B := 2 ^ b) h2b hs ?_ ?_ (2 ^ b) (kn (fT M)) N (-1) k2 (by omega) (by omega) (fun z => nn_m1 (by omega) z.symm)
  · intro m a ha
    show T_readAtLast_L9 N M (fun v20 => some v20) (m + 1) (nn a) (nn a) = _
    rw [T_readAtLast_L9, if_pos rfl]
  · intro m a w ha hw
    show T_readAtLast_L9 N M (fun v20 => some v20) (m + 1) (nn a) w = _
    rw [T_readAtLast_L9, if_neg (fun z => hw z.symm), show (0 : Int32) = nn 0 from rfl, hin _ a (by omega) b 0 N a (by omega) (by omega)]
    rfl
theorem al_C (hN : 20000 ≤ N) (hS : SOb b l s t u (coC X)) : C_within N (ovC A X hb) (A.1 0) = some (nn (atL (coC X) b)) := by
  have h8 := hS.1.1
  have h2b := pw_le h8
  have hV : ∀ k, k < b → (fun k => 2 ^ k) k < 2 ^ b := fun k hk => Nat.pow_lt_pow_right (by omega) hk
  have hin : ∀ (x22 : Nat → Int32 → Int32 → Option Int32) (w : Nat), ∀ (r i n a : Nat), i + r = b → r < n → a < 2 ^ b → C_within_L19 N (ovC A X hb) x22 n (A.1 0) (nn a) (nn w) (nn i) = x22 (A.1 0) (nn (fo (fun k a => a ||| (if pOp (coC X) a k = true then 2 ^ k else 0)) r i a)) (nn w) := by
    intro x22 w r
    induction r with
    | zero =>
      intro i n a hi hn ha
      obtain ⟨n, rfl⟩ : ∃ m, n = m + 1 := ⟨n - 1, by omega⟩
      rw [C_within_L19, C_nBk, hS.nb, Option.bind_some, if_pos (by rw [nn_le (by omega) (by omega)]; omega)]
      rfl
    | succ r ih =>
      intro i n a hi hn ha
      obtain ⟨n, rfl⟩ : ∃ m, n = m + 1 := ⟨n - 1, by omega⟩
      obtain ⟨n1, n2⟩ := nd_s hS (show i < b by omega)
      have ho : a ||| (if pOp (coC X) a i = true then 2 ^ i else 0) < 2 ^ b := by
        refine Nat.or_lt_two_pow ha ?_
        split
        · exact hV i (by omega)
        · exact Nat.two_pow_pos b
      rw [C_within_L19, C_nBk, hS.nb, Option.bind_some, if_neg (by rw [nn_le (by omega) (by omega)]; omega), C_isO _ (by omega), Option.bind_some, n1, opn_nn (by omega) (by omega) (by omega), fo_s]
      unfold C_within_J44
      have hv : (if bz (opN (nd (coC X) i) a i) = 0 then (0 : Int32) else ((1 : Int32) <<< (nn i &&& 31))) = nn (if pOp (coC X) a i = true then 2 ^ i else 0) := by
        unfold pOp
        cases opN (nd (coC X) i) a i
        · rw [if_pos (by rfl), if_neg (by decide)]; rfl
        · rw [if_neg (by decide), if_pos rfl, sh_nn (by omega)]
      rw [hv, or_nn, show (1 : Int32) = nn 1 from rfl, nn_add, ih (i + 1) n _ (by omega) (by omega) ho]
  have hs : ∀ a, a < 2 ^ b → su a (rC (pOp (coC X)) (fun k => 2 ^ k) b a) ∧ rC (pOp (coC X)) (fun k => 2 ^ k) b a < 2 ^ b := fun a ha => ⟨rC_up b 0 a, rC_lt hV b 0 a (by omega) ha⟩
  obtain ⟨k1, k2⟩ := kn_s hS
  unfold atL
  rw [← clo_eq (P := pOp (coC X)) hV (pOp_m hS) k2]
  unfold C_within C_within_b
  rw [og_0, C_bks, Option.bind_some, og_15_1, Option.bind_some, cr_known, k1]
  refine loop_itr (L := fun n a w => C_within_L10 N (ovC A X hb) (fun v46 => some v46) n (A.1 0) a w) (x := fun v46 => some v46) (step := rC (pOp (coC X)) (fun k => 2 ^ k) b) (B := 2 ^ b) h2b hs ?_ ?_ (2 ^ b) (kn (coC X)) N (-1) k2 (by omega) (by omega) (fun z => nn_m1 (by omega) z.symm)
  · intro m a ha
    show C_within_L10 N (ovC A X hb) (fun v46 => some v46) (m + 1) (A.1 0) (nn a) (nn a) = _
    rw [C_within_L10, if_pos rfl]
  · intro m a w ha hw
    show C_within_L10 N (ovC A X hb) (fun v46 => some v46) (m + 1) (A.1 0) (nn a) w = _
    rw [C_within_L10, if_neg hw, show (0 : Int32) = nn 0 from rfl, hin _ a b 0 N a (by omega) (by omega) ha]
    rfl
theorem atL_s {S : Nat → Nat → Int32} (hS : SOb b l s t u S) : atL S b < 2 ^ b ∧ su (kn S) (atL S b) ∧ clo (pOp S) (fun k => 2 ^ k) b (atL S b) := by
  have h8 := hS.1.1
  have hV : ∀ k, k < b → (fun k => 2 ^ k) k < 2 ^ b := fun k hk => Nat.pow_lt_pow_right (by omega) hk
  have hs : ∀ a, a < 2 ^ b → su a (rT (pOp S) (fun k => 2 ^ k) b a) ∧ rT (pOp S) (fun k => 2 ^ k) b a < 2 ^ b := fun a ha => ⟨rT_up a b 0 a, rT_lt (a := a) hV b 0 a (by omega) ha⟩
  obtain ⟨c1, c2, c3⟩ := itr_spec hs (2 ^ b) (kn S) (kn_s hS).2 (by omega)
  exact ⟨c2, c3, rT_clo c1⟩
theorem atL_c (hM : Mt (coC X) (fT M)) (b : Nat) : atL (coC X) b = atL (fT M) b := by
  have h1 : pOp (coC X) = pOp (fT M) := by
    funext w k
    unfold pOp nd
    rw [hM.at (by omega)]
  have h2 : kn (coC X) = kn (fT M) := by
    unfold kn
    rw [hM.at (by omega)]
  unfold atL
  rw [h1, h2]
/-- what is to come -/
def tcm (S : Nat → Nat → Int32) (b : Nat) : Nat := sd (atL S b) (kn S)
theorem tc_T (hN : 20000 ≤ N) (hS : SOb b l s t u (fT M)) : T_toCome N M = some (nn (tcm (fT M) b)) := by
  have h2b := pw_le hS.1.1
  have hlt := (atL_s hS).1
  unfold T_toCome
  rw [al_T hN hS, Option.bind_some, show (0 : Int32) = nn 0 from rfl, tra_nn (by omega) (by omega), Option.bind_some, fT_0 (by omega), (kn_s hS).1, dif_nn (by omega)]
  rfl
theorem tc_C (hN : 20000 ≤ N) (hS : SOb b l s t u (coC X)) : C_left N (ovC A X hb) (A.1 0) = some (nn (tcm (coC X) b)) := by
  have h2b := pw_le hS.1.1
  have hlt := (atL_s hS).1
  unfold C_left C_left_b
  rw [og_0, al_C hN hS, Option.bind_some, C_bks, Option.bind_some, og_15_1, Option.bind_some, cr_known, (kn_s hS).1, dif_nn (by omega)]
  rfl
theorem op_never (hN : 20000 ≤ N) (hM : Mt (coC X) (fT M)) (hS : SOb b l s t u (fT M)) : ∃ v, C_never N (ovC A X hb) (A.1 0) = some v ∧ T_never N M = some v := by
  have h8 := hS.1.1
  have h2b := pw_le h8
  have hp := Nat.two_pow_pos b
  have e9 : (1 : Int32) <<< (nn b &&& 31) - 1 = nn (2 ^ b - 1) := by
    rw [sh_nn (by omega), show (1 : Int32) = nn 1 from rfl, nn_sub (Nat.one_le_two_pow)]
  refine ⟨nn (sd (2 ^ b - 1) (atL (fT M) b)), ?_, ?_⟩
  · unfold C_never C_never_b C_all C_all_b
    rw [og_0, og_0, C_nBk, hM.at (by omega), hS.nb, Option.bind_some, e9, Option.bind_some, al_C hN (SOb_c hM hS), Option.bind_some, atL_c hM, dif_nn (by omega)]
  · unfold T_never T_everything
    rw [T_bM, hS.nb, Option.bind_some, e9, Option.bind_some, al_T hN hS, Option.bind_some, dif_nn (by omega)]
end NV
