/-! PLAIN LAW: what was drawn; how few are left -/
set_option maxRecDepth 100000
section FW
variable {A : AT} {X : XT} {hb : Hp} {M : TM} {D : List CDn} {b l s t u N : Nat}
theorem op_drawn (hM : Mt (coC X) (fT M)) (hS : SOb b l s t u (fT M)) (a1 a2 : Int32) : ∃ v, C_drawn (ovC A X hb) (A.1 0) a1 a2 = some v ∧ T_drawn M a1 a2 = some v := by
  have e53 : M.1 53 = fT M 1 6 := fT_1 (i := 6) (by omega)
  have c29 : X.1 0 29 = fT M 1 6 := by rw [cr_db, hM.at (by omega)]
  have c30 : X.1 0 30 = fT M 5 5 := by
    rw [← hM.at (by omega), coC_p (g := 5) (i := 5) rfl ⟨fun z => absurd z (by decide), fun _ z => absurd rfl z⟩]
    rfl
  have hin : ∀ v : Int32, C_in a1.toInt64 (0 : Int64) ((v - (1 : Int32)).toInt64) = some (bz (wi a1 (nn 0) (v - 1))) := by
    intro v
    rw [show (0 : Int64) = (nn 0).toInt64 by decide, C_in_w]
  have hneg : wi a1 (nn 0) ((-1 : Int32) - 1) = false := by
    unfold wi
    have e0 : (nn 0).toInt = 0 := by decide
    have e2 : ((-1 : Int32) - 1).toInt = -2 := by decide
    by_cases h : a1 < nn 0
    · rw [decide_eq_true h]; rfl
    · rw [Int32.lt_iff_toInt_lt, e0] at h
      have : ((-1 : Int32) - 1) < a1 := by rw [Int32.lt_iff_toInt_lt, e2]; omega
      rw [decide_eq_true this, Bool.not_true, Bool.and_false]
  by_cases hd : fT M 1 6 = -1
  · have c30' : X.1 0 30 = -1 := by
      rw [c30]
      unfold fT
      rw [e53, hd]
      rfl
    refine ⟨-1, ?_, ?_⟩
    · unfold C_drawn C_drawn_b
      rw [og_0]
      by_cases h0 : a2 = 0
      · rw [if_pos h0, og_0_29, Option.bind_some, c29, hd, hin, hneg, Option.bind_some, if_pos (by rfl)]
      · rw [if_neg h0]
        by_cases h1 : a2 = 1
        · rw [if_pos h1, og_0_30, Option.bind_some, c30', hin, hneg, Option.bind_some, if_pos (by rfl)]
        · rw [if_neg h1]
    · unfold T_drawn
      rw [e53, if_pos hd]
  have hx29 : X.1 0 29 ≠ -1 := by rw [c29]; exact hd
  have g5 : ∀ i, i < 5 → coC X 5 i = X.1 (cL 5 i).1 (cL 5 i).2 := fun i hi => coC_p (by unfold cR; rw [decide_eq_true_eq]; omega) ⟨fun z => absurd z (by decide), fun _ _ => hx29⟩
  have t5 : ∀ i, i < 5 → fT M 5 i = M.2.2.1 52 i := by
    intro i hi
    unfold fT
    rw [e53]
    simp only [show ¬ (5 : Nat) = 0 by decide, show ¬ (5 : Nat) = 1 by decide, show ¬ (5 : Nat) = 2 by decide, show ¬ (5 : Nat) = 3 by decide, show ¬ (5 : Nat) = 4 by decide, if_false, if_true, show ¬ i = 5 by omega, hd, hi]
  have t54 : M.1 54 = fT M 5 5 := by
    unfold fT
    rw [e53]
    simp only [show ¬ (5 : Nat) = 0 by decide, show ¬ (5 : Nat) = 1 by decide, show ¬ (5 : Nat) = 2 by decide, show ¬ (5 : Nat) = 3 by decide, show ¬ (5 : Nat) = 4 by decide, if_false, if_true, hd]
  have hT : ∀ r, ((T_lies a2 (0 : Int32) (1 : Int32)).bind fun v1 => if v1 = 0 then some (-1 : Int32) else if a2 = 0 then T_drawn_J34 M a1 a2 (M.1 53) (0 : Int32) a1 else T_drawn_J34 M a1 a2 (M.1 54) (0 : Int32) a1) = r → T_drawn M a1 a2 = r := by
    intro r hr
    unfold T_drawn
    rw [e53] at hr
    rw [e53, if_neg hd]
    exact hr
  by_cases h0 : a2 = 0
  · subst h0
    cases hw : wi a1 (nn 0) (fT M 1 6 - 1)
    · refine ⟨-1, ?_, hT _ ?_⟩
      · unfold C_drawn C_drawn_b
        rw [og_0, if_pos rfl, og_0_29, Option.bind_some, c29, hin, hw, Option.bind_some, if_pos (by rfl)]
      · rw [show T_lies 0 (0 : Int32) (1 : Int32) = some (bz true) by decide, Option.bind_some, if_neg (by decide), if_pos rfl]
        unfold T_drawn_J34
        rw [T_lies_w, e53, show (0 : Int32) = nn 0 from rfl, hw, Option.bind_some, if_pos (by rfl)]
    · refine ⟨(fT M 5 0 >>> (a1 &&& 31)) &&& (1 : Int32), ?_, hT _ ?_⟩
      · unfold C_drawn C_drawn_b
        rw [og_0, if_pos rfl, og_0_29, Option.bind_some, c29, hin, hw, Option.bind_some, if_neg (by decide), og_0_28, Option.bind_some, og_26_1, Option.bind_some, ← hM.at (by omega), g5 0 (by omega)]
        rfl
      · rw [show T_lies 0 (0 : Int32) (1 : Int32) = some (bz true) by decide, Option.bind_some, if_neg (by decide), if_pos rfl]
        unfold T_drawn_J34
        rw [T_lies_w, e53, show (0 : Int32) = nn 0 from rfl, hw, Option.bind_some, if_neg (by decide), if_pos (by rfl), tra_nn (by omega) (by omega), Option.bind_some, t5 0 (by omega)]
  by_cases h1 : a2 = 1
  · subst h1
    cases hw : wi a1 (nn 0) (fT M 5 5 - 1)
    · refine ⟨-1, ?_, hT _ ?_⟩
      · unfold C_drawn C_drawn_b
        rw [og_0, if_neg h0, if_pos rfl, og_0_30, Option.bind_some, c30, hin, hw, Option.bind_some, if_pos (by rfl)]
      · rw [show T_lies 1 (0 : Int32) (1 : Int32) = some (bz true) by decide, Option.bind_some, if_neg (by decide), if_neg h0]
        unfold T_drawn_J34
        rw [T_lies_w, t54, show (0 : Int32) = nn 0 from rfl, hw, Option.bind_some, if_pos (by rfl)]
    · obtain ⟨k, hk, rfl⟩ : ∃ k, k < 4 ∧ a1 = nn k := by
        rcases hS.drl with z | ⟨n, hn, z⟩
        · rw [z, hneg] at hw
          cases hw
        · rw [z] at hw
          obtain ⟨k, e, hk⟩ := wi_nn (n := n) (by omega) hw
          exact ⟨k, by omega, e⟩
      refine ⟨fT M 5 (1 + k), ?_, hT _ ?_⟩
      · unfold C_drawn C_drawn_b
        rw [og_0, if_neg h0, if_pos rfl, og_0_30, Option.bind_some, c30, hin, hw, Option.bind_some, if_neg (by decide), og_0_28, Option.bind_some, og_26_0, Option.bind_some, oa_27 hk, Option.bind_some, ← hM.at (by omega), g5 (1 + k) (by omega)]
        unfold cL
        simp only [show ¬ (5 : Nat) = 0 by decide, show ¬ (5 : Nat) = 1 by decide, show ¬ (5 : Nat) = 2 by decide, show ¬ (5 : Nat) = 3 by decide, show ¬ (5 : Nat) = 4 by decide, if_false]
        rw [if_neg (by omega), if_pos (by omega)]
        show some (X.1 27 k) = some (X.1 27 (1 + k - 1))
        rw [show 1 + k - 1 = k by omega]
      · rw [show T_lies 1 (0 : Int32) (1 : Int32) = some (bz true) by decide, Option.bind_some, if_neg (by decide), if_neg h0]
        unfold T_drawn_J34
        rw [T_lies_w, t54, show (0 : Int32) = nn 0 from rfl, hw, Option.bind_some, if_neg (by decide), if_neg (by decide), show (1 : Int32) = nn 1 from rfl, nn_add, tra_nn (by omega) (by omega), Option.bind_some, t5 (1 + k) (by omega)]
  · refine ⟨-1, ?_, hT _ ?_⟩
    · unfold C_drawn C_drawn_b
      rw [og_0, if_neg h0, if_neg h1]
    · have hw : T_lies a2 (0 : Int32) (1 : Int32) = some (bz false) := by
        rw [T_lies_w]
        congr 2
        cases hz : wi a2 0 1
        · rfl
        · obtain ⟨k, _, h2, h3⟩ := wi_k (n := 0) (m := 1) (by omega) (by omega) hz
          have : k = 0 ∨ k = 1 := by omega
          rcases this with rfl | rfl
          · exact absurd h3 h0
          · exact absurd h3 h1
      rw [hw, Option.bind_some, if_pos (by rfl)]
end FW
