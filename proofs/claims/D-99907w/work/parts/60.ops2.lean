/-! PLAIN LAW: needs, leeks, terms, force, sights, the tape's end -/
set_option maxRecDepth 100000
theorem need_val : ∀ n, n < 256 → ∀ o, o < 8 → ∀ i, i < 2 → (nn n ^^^ (if ((nn n >>> (nn o &&& 31)) &&& (1 : Int32)) = nn i then (0 : Int32) else ((1 : Int32) <<< (nn o &&& 31)))) = nn (if i = 1 then n ||| 2 ^ o else sd n (2 ^ o)) ∧ ((nn n &&& (((1 : Int32) <<< (nn o &&& 31)) ^^^ (-1 : Int32))) ||| (nn i <<< (nn o &&& 31))) = nn (if i = 1 then n ||| 2 ^ o else sd n (2 ^ o)) ∧ 0 ≤ ((nn n >>> (nn o &&& 31)) &&& (1 : Int32)) := by decide +kernel
section R3
variable {A : AT} {hb : Hp} {X : XT} {M : TM} {b l s t u : Nat}
theorem isB_k (hS : SOb b l s t u (fT M)) {a : Int32} (h : wi a (nn 0) (nn b - nn 1) = true) : ∃ k, k < b ∧ a = nn k := by
  obtain ⟨k, e, hk⟩ := wi_nn (n := b) (by have := hS.1.1; omega) h
  exact ⟨k, hk, e⟩
theorem isL_k (hS : SOb b l s t u (fT M)) {a : Int32} (h : wi a (nn 0) (nn l - nn 1) = true) : ∃ k, k < l ∧ a = nn k := by
  obtain ⟨k, e, hk⟩ := wi_nn (n := l) (by have := hS.1.2.1; omega) h
  exact ⟨k, hk, e⟩
theorem up2_g6 {S S' : Nat → Nat → Int32} {a c : Nat} {x : Int32} (ha : a < 6) (h : ∀ g, 6 ≤ g → S g = S' g) : ∀ g, 6 ≤ g → up2 S a c x g = S' g := by
  intro g hg
  rw [up2_g _ _ (by omega), h g hg]
theorem op_need (hM : Mt (coC X) (fT M)) (hS : SOb b l s t u (fT M)) (a1 a2 a3 : Int32) : Sim A hb X M t (C_need (A.1 0) a1 a2 a3) (T_need a1 a2 a3) := by
  have h48 : fT M 0 48 = nn b := hS.nb
  have h48' : coC X 0 48 = nn b := by rw [hM.at (by omega), h48]
  have h8 := hS.1.1
  by_cases h12 : a1 = a2
  · refine Sim_ref (k := 1) (by omega) (by omega) hM hS rfl (fun _ _ => rfl) ?_ ?_
    · simp only [C_need, C_need_b, og_0, h12, if_true, C_need_J15, bd2_eta]
      rfl
    · simp only [T_need, h12, if_true, T_need_J14, bd2_eta]
      rfl
  cases h3 : wi a3 (nn 0) (nn 1)
  · refine Sim_ref (k := 1) (by omega) (by omega) hM hS rfl (fun _ _ => rfl) ?_ ?_
    · simp only [C_need, C_need_b, og_0, h12, if_false]
      rw [show (0 : Int64) = (nn 0).toInt64 by decide, show (1 : Int64) = (nn 1).toInt64 by decide, C_in_w, h3, Option.bind_some, if_pos (by rfl)]
      simp only [C_need_J15, bd2_eta]
      rfl
    · simp only [T_need, h12, if_false]
      rw [show (0 : Int32) = nn 0 from rfl, show (1 : Int32) = nn 1 from rfl, T_lies_w, h3, Option.bind_some, if_pos (by rfl)]
      simp only [T_need_J14, bd2_eta]
      rfl
  have eC : C_need (A.1 0) a1 a2 a3 (ovC A X hb) = (C_isBook (ovC A X hb) (A.1 0) a1).bind fun v26 =>
      if v26 = 0 then C_tell (A.1 0) (-nn 2) (ovC A X hb)
      else (C_isBook (ovC A X hb) (A.1 0) a2).bind fun v31 =>
        if v31 = 0 then C_tell (A.1 0) (-nn 2) (ovC A X hb)
        else (aI (ovC A X hb) (A.1 4) 0 a1).bind fun v34 => (aI (ovC A X hb) (A.1 4) 0 a1).bind fun v38 => C_need_J82 (A.1 0) ((v34 >>> (a2 &&& 31)) &&& (1 : Int32)) (if ((v34 >>> (a2 &&& 31)) &&& (1 : Int32)) = a3 then (0 : Int32) else ((1 : Int32) <<< (a2 &&& 31))) v38 a1 (A.1 4) (ovC A X hb) := by
    simp only [C_need, C_need_b, og_0, h12, if_false]
    rw [show (0 : Int64) = (nn 0).toInt64 by decide, show (1 : Int64) = (nn 1).toInt64 by decide, C_in_w, h3, Option.bind_some, if_neg (by decide)]
    simp only [C_need_J37, bd2_eta, og_0_0, og_1_3, Option.bind_some]
    rfl
  have eT : T_need a1 a2 a3 M = (T_isBook M a1).bind fun v5 =>
      if v5 = 0 then T_refuses (-nn 2) M
      else (T_isBook M a2).bind fun v9 =>
        if v9 = 0 then T_refuses (-nn 2) M
        else (tra M 2 5660 ((22 : Int32) + a1)).bind fun v10 => (tra M 2 5660 ((22 : Int32) + a1)).bind fun v12 => (twa M 2 5660 ((22 : Int32) + a1) ((v12 &&& (((1 : Int32) <<< (a2 &&& 31)) ^^^ (-1 : Int32))) ||| (a3 <<< (a2 &&& 31)))).bind fun M13 => T_good ((v10 >>> (a2 &&& 31)) &&& (1 : Int32)) M13 := by
    simp only [T_need, h12, if_false]
    rw [show (0 : Int32) = nn 0 from rfl, show (1 : Int32) = nn 1 from rfl, T_lies_w, h3, Option.bind_some, if_neg (by decide)]
    simp only [T_need_J36, bd2_eta, Option.bind_some]
    rfl
  rw [C_isB, h48'] at eC
  rw [T_isB, h48] at eT
  cases hb1 : wi a1 (nn 0) (nn b - nn 1)
  · refine Sim_ref (k := 2) (by omega) (by omega) hM hS rfl (fun _ _ => rfl) ?_ ?_
    · rw [eC, hb1]; rfl
    · rw [eT, hb1]; rfl
  rw [hb1, Option.bind_some, if_neg (by decide), C_isB, h48'] at eC
  rw [hb1, Option.bind_some, if_neg (by decide), T_isB, h48] at eT
  cases hb2 : wi a2 (nn 0) (nn b - nn 1)
  · refine Sim_ref (k := 2) (by omega) (by omega) hM hS rfl (fun _ _ => rfl) ?_ ?_
    · rw [eC, hb2]; rfl
    · rw [eT, hb2]; rfl
  rw [hb2, Option.bind_some, if_neg (by decide)] at eC
  rw [hb2, Option.bind_some, if_neg (by decide)] at eT
  obtain ⟨k1, hk1, rfl⟩ := isB_k hS hb1
  obtain ⟨k2, hk2, rfl⟩ := isB_k hS hb2
  obtain ⟨i, -, hi, rfl⟩ := wi_k (n := 0) (m := 1) (by omega) (by omega) h3
  obtain ⟨n, hn, en⟩ := hS.need hk1
  have hp := pw_le h8
  obtain ⟨w1, w2, w3⟩ := need_val n (by omega) k2 (by omega) i (by omega)
  have eX : X.1 4 k1 = nn n := by rw [cr_need (by omega), hM.at (by omega), en]
  rw [oa_4 (by omega), Option.bind_some, Option.bind_some, eX] at eC
  unfold C_need_J82 at eC
  rw [w1, os_4 (by omega), Option.bind_some, bd2_eta] at eC
  have hkM : M.2.2.1 2 (22 + k1) = nn n := by rw [fT_0 (by omega), en]
  rw [show (22 : Int32) = nn 22 from rfl, nn_add, tra_nn (by omega) (by omega), hkM, Option.bind_some, Option.bind_some, w2, twa_nn (by omega) (by omega), Option.bind_some] at eT
  have hm : (if i = 1 then n ||| 2 ^ k2 else sd n (2 ^ k2)) < 2 ^ b := by
    split
    · exact Nat.or_lt_two_pow hn (Nat.pow_lt_pow_right (by omega) hk2)
    · exact sd_lt hn
  refine Sim_goo (X := X) (M := M) (b := b) (l := l) (s := s) (u := u) w3 (X1 := ws X 4 k1 (nn (if i = 1 then n ||| 2 ^ k2 else sd n (2 ^ k2)))) (M1 := tw M 2 (22 + k1) (nn (if i = 1 then n ||| 2 ^ k2 else sd n (2 ^ k2)))) ?_ ?_ rfl ?_ eC eT
  · rw [co_need (by omega), fT_k (by omega)]
    exact hM.up rfl
  · rw [fT_k (by omega)]
    refine hS.up ?_
    unfold Bd
    rw [if_pos rfl, if_neg (by omega), if_neg (by omega), if_neg (by omega), if_neg (by omega), if_pos (by omega)]
    intro _
    exact ⟨_, hm, rfl⟩
  · rw [fT_k (by omega)]
    exact up2_g6 (by omega) (fun _ _ => rfl)
end R3
