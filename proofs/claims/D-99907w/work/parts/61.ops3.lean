/-! PLAIN LAW: leeks, terms, force, sights, the tape's end -/
set_option maxRecDepth 100000
/-- a leek more -/
def leekS (l : Nat) (x : Int32) (S : Nat → Nat → Int32) : Nat → Nat → Int32 := up2 (up2 (up2 S 0 (30 + l) x) 0 (1 + l) (nn 0)) 0 49 (nn (l + 1))
theorem SOb_leek {b l s t u : Nat} {S : Nat → Nat → Int32} (h : SOb b l s t u S) (h4 : l < 4) {x : Int32} (hx : ∃ n, n ≤ 3 ∧ x = nn n) : SOb b (l + 1) s t 0 (noU (leekS l x S)) := by
  refine ⟨⟨h.1.1, by omega, h.1.2.2.1, h.1.2.2.2.1, by omega⟩, fun g i => ?_⟩
  by_cases g4 : g = 4
  · subst g4
    unfold Bd
    simp
  rw [noU_n _ _ g4]
  by_cases h15 : g = 1 ∧ i = 5
  · obtain ⟨rfl, rfl⟩ := h15
    rw [up2_s]
    rfl
  rw [up2_n _ _ h15]
  unfold leekS
  by_cases h49 : g = 0 ∧ i = 49
  · obtain ⟨rfl, rfl⟩ := h49
    rw [up2_s]
    rfl
  rw [up2_n _ _ h49]
  by_cases h0 : g = 0 ∧ i = 1 + l
  · obtain ⟨rfl, rfl⟩ := h0
    rw [up2_s]
    unfold Bd
    rw [if_pos rfl, if_neg (by omega), if_pos (by omega)]
    exact ⟨0, by omega, rfl, fun _ _ => rfl⟩
  rw [up2_n _ _ h0]
  by_cases hl : g = 0 ∧ i = 30 + l
  · obtain ⟨rfl, rfl⟩ := hl
    rw [up2_s]
    unfold Bd
    rw [if_pos rfl, if_neg (by omega), if_neg (by omega), if_neg (by omega), if_neg (by omega), if_neg (by omega), if_pos (by omega)]
    exact hx
  rw [up2_n _ _ hl]
  have e := h.2 g i
  unfold Bd at e ⊢
  by_cases hg : g = 0
  · subst hg
    rw [if_pos rfl] at e ⊢
    by_cases a1 : i = 0
    · rw [if_pos a1] at e ⊢; exact e
    rw [if_neg a1] at e ⊢
    by_cases a2 : i < 6
    · rw [if_pos a2] at e ⊢
      obtain ⟨n, e1, e2, e3⟩ := e
      exact ⟨n, e1, e2, fun z1 z2 => e3 z1 (by omega)⟩
    rw [if_neg a2] at e ⊢
    by_cases a3 : i < 14
    · rw [if_pos a3] at e ⊢; exact e
    rw [if_neg a3] at e ⊢
    by_cases a4 : i < 22
    · rw [if_pos a4] at e ⊢; exact e
    rw [if_neg a4] at e ⊢
    by_cases a5 : i < 30
    · rw [if_pos a5] at e ⊢; exact e
    rw [if_neg a5] at e ⊢
    by_cases a6 : i < 34
    · rw [if_pos a6] at e ⊢; exact e
    rw [if_neg a6] at e ⊢
    by_cases a7 : i < 46
    · rw [if_pos a7] at e ⊢
      intro hi
      have e2 := e hi
      by_cases c : i % 2 = 0
      · rw [if_pos c] at e2 ⊢
        obtain ⟨n, hn, e'⟩ := e2
        exact ⟨n, by omega, e'⟩
      · rw [if_neg c] at e2 ⊢
        exact e2
    rw [if_neg a7] at e ⊢
    by_cases a8 : i < 48
    · rw [if_pos a8] at e ⊢; exact e
    rw [if_neg a8] at e ⊢
    by_cases a9 : i = 48
    · rw [if_pos a9] at e ⊢; exact e
    rw [if_neg a9] at e ⊢
    by_cases a10 : i = 49
    · exact absurd ⟨rfl, a10⟩ h49
    rw [if_neg a10] at e ⊢
    exact e
  · rw [if_neg hg] at e ⊢
    by_cases b1 : g = 1
    · subst b1
      rw [if_pos rfl] at e ⊢
      by_cases c1 : i = 4
      · rw [if_pos c1] at e ⊢; exact e
      rw [if_neg c1] at e ⊢
      rw [if_neg (fun z => h15 ⟨rfl, z⟩)]
      trivial
    rw [if_neg b1] at e ⊢
    by_cases b3 : g = 3
    · rw [if_pos b3] at e ⊢; exact e
    rw [if_neg b3] at e ⊢
    rw [if_neg g4] at e ⊢
    exact e
section R4
variable {A : AT} {hb : Hp} {X : XT} {M : TM} {b l s t u : Nat}
theorem op_leek (hM : Mt (coC X) (fT M)) (hS : SOb b l s t u (fT M)) (a1 : Int32) : Sim A hb X M t (C_leek (A.1 0) a1) (T_leek a1) := by
  have h49 : fT M 0 49 = nn l := hS.nl
  have h49' : coC X 0 49 = nn l := by rw [hM.at (by omega), h49]
  have h4 := hS.1.2.1
  cases h3 : wi a1 (nn 0) (nn 3)
  · refine Sim_ref (k := 1) (by omega) (by omega) hM hS rfl (fun _ _ => rfl) ?_ ?_
    · simp only [C_leek, C_leek_b, og_0]
      rw [show (0 : Int64) = (nn 0).toInt64 by decide, show (3 : Int64) = (nn 3).toInt64 by decide, C_in_w, h3, Option.bind_some, if_pos (by rfl), bd2_eta]
      rfl
    · simp only [T_leek]
      rw [show (0 : Int32) = nn 0 from rfl, show (3 : Int32) = nn 3 from rfl, T_lies_w, h3, Option.bind_some, if_pos (by rfl), bd2_eta]
      rfl
  obtain ⟨k, -, hk, rfl⟩ := wi_k (n := 0) (m := 3) (by omega) (by omega) h3
  have eC : C_leek (A.1 0) (nn k) (ovC A X hb) = if nn l = nn 4 then C_tell (A.1 0) (-nn 5) (ovC A X hb) else (sI (ovC A X hb) (A.1 5) 0 (nn l) (nn k)).bind fun h25 => (C_books h25 (A.1 0)).bind fun v26 => (gr h25 v26 [2] 0).bind fun v27 => (sI h25 v27 0 (nn l) (0 : Int32)).bind fun h28 => (gr h28 (A.1 0) [0] 0).bind fun v29 => (gi h28 v29 [1] 9).bind fun v30 => (po h28 v29 [1] 9 (.int (v30 + (1 : Int32)))).bind fun h31 => C_settled (A.1 0) (nn l) h31 := by
    simp only [C_leek, C_leek_b, og_0]
    rw [show (0 : Int64) = (nn 0).toInt64 by decide, show (3 : Int64) = (nn 3).toInt64 by decide, C_in_w, h3, Option.bind_some, if_neg (by decide), C_nLk, h49', Option.bind_some]
    simp only [bd2_eta, og_0_0, og_1_4, Option.bind_some]
    rfl
  have eT : T_leek (nn k) M = if nn l = nn 4 then T_refuses (-nn 5) M else (twa M 2 5660 ((30 : Int32) + nn l) (nn k)).bind fun M3 => (twa M3 2 5660 ((1 : Int32) + nn l) (0 : Int32)).bind fun M4 => (tra M4 2 5660 (49 : Int32)).bind fun v5 => (twa M4 2 5660 (49 : Int32) (v5 + (1 : Int32))).bind fun M6 => T_settled (nn l) M6 := by
    simp only [T_leek]
    rw [show (0 : Int32) = nn 0 from rfl, show (3 : Int32) = nn 3 from rfl, T_lies_w, h3, Option.bind_some, if_neg (by decide), T_lM, h49, Option.bind_some]
    simp only [bd2_eta]
    rfl
  by_cases hl : l = 4
  · rw [if_pos (by rw [hl])] at eC eT
    exact Sim_ref (k := 5) (by omega) (by omega) hM hS rfl (fun _ _ => rfl) eC eT
  have hl4 : l < 4 := by omega
  have hne : ¬ nn l = nn 4 := by
    rw [nn_inj (by omega) (by omega)]
    exact hl
  rw [if_neg hne, os_5 hl4, Option.bind_some, C_bks, Option.bind_some, og_15_0, Option.bind_some, os_16 hl4, Option.bind_some, og_0_0, Option.bind_some, og_1_9, Option.bind_some, op_1_9, Option.bind_some] at eC
  rw [if_neg hne, show (30 : Int32) = nn 30 from rfl, nn_add, twa_nn (by omega) (by omega), Option.bind_some, show (1 : Int32) = nn 1 from rfl, nn_add, twa_nn (by omega) (by omega), Option.bind_some, show (49 : Int32) = nn 49 from rfl, tra_nn (by omega) (by omega), Option.bind_some, twa_nn (by omega) (by omega), Option.bind_some] at eT
  have e1 : (ws (ws X 5 l (nn k)) 16 l 0).1 1 9 = nn l := by
    rw [ws_at, if_neg (by omega), ws_at, if_neg (by omega), cr_nL, h49']
  have e2 : (tw (tw M 2 (30 + l) (nn k)) 2 (1 + l) 0).2.2.1 2 49 = nn l := by
    simp only [tw_2, if_true]
    rw [upd_n _ _ (by omega), upd_n _ _ (by omega), fT_0 (by omega), h49]
  rw [e1, show (1 : Int32) = nn 1 from rfl, nn_add] at eC
  rw [e2, nn_add] at eT
  refine Sim_setg (X := X) (M := M) (b := b) (l := l + 1) (s := s) (nn_ge l (by omega)) ?_ ?_ (by rfl) ?_ eC eT
  · rw [co_nL, co_high hl4, co_like hl4, fT_k (by omega), fT_k (by omega), fT_k (by omega)]
    exact ((hM.up rfl).up rfl).up rfl
  · rw [fT_k (by omega), fT_k (by omega), fT_k (by omega)]
    exact SOb_leek hS hl4 ⟨k, hk, rfl⟩
  · rw [fT_k (by omega), fT_k (by omega), fT_k (by omega)]
    exact up2_g6 (by omega) (up2_g6 (by omega) (up2_g6 (by omega) (fun _ _ => rfl)))
/-- which terms there are, and what they may be -/
theorem C_isT (a v : Int32) : C_isTerm a v = T_isTerm a v := by
  unfold C_isTerm T_isTerm
  rw [show (0 : Int64) = (nn 0).toInt64 by decide, show (999 : Int64) = (nn 999).toInt64 by decide, show (10 : Int64) = (nn 10).toInt64 by decide, show (9 : Int64) = (nn 9).toInt64 by decide, C_in_w, C_in_w, C_in_w, T_lies_w, T_lies_w, T_lies_w]
  rfl
theorem T_isT (a v : Int32) : ∃ p : Bool, T_isTerm a v = some (bz p) ∧ (p = true → (a = nn 0 ∧ ∃ n, n ≤ 999 ∧ v = nn n) ∨ (a = nn 1 ∧ ∃ n, n ≤ 10 ∧ v = nn n) ∨ (a = nn 2 ∧ ∃ n, n ≤ 10 ∧ v = nn n)) := by
  unfold T_isTerm
  by_cases h : a.toInt < 0 ∨ 2 < a.toInt
  · rw [if_pos h]
    exact ⟨false, rfl, fun z => by cases z⟩
  rw [if_neg h]
  by_cases h0 : a.toInt = 0
  · rw [if_pos h0, T_lies_w, Option.bind_some, rz_bz]
    refine ⟨_, rfl, fun z => Or.inl ⟨?_, ?_⟩⟩
    · apply Int32.toInt.inj; rw [h0]; rfl
    · obtain ⟨k, -, hk, e⟩ := wi_k (n := 0) (m := 999) (by omega) (by omega) z
      exact ⟨k, hk, e⟩
  rw [if_neg h0]
  by_cases h1 : a.toInt = 1
  · rw [if_pos h1, T_lies_w, Option.bind_some, rz_bz]
    refine ⟨_, rfl, fun z => Or.inr (Or.inl ⟨?_, ?_⟩)⟩
    · apply Int32.toInt.inj; rw [h1]; rfl
    · obtain ⟨k, -, hk, e⟩ := wi_k (n := 0) (m := 10) (by omega) (by omega) z
      exact ⟨k, hk, e⟩
  rw [if_neg h1, T_lies_w, Option.bind_some, rz_bz]
  refine ⟨_, rfl, fun z => Or.inr (Or.inr ⟨?_, ?_⟩)⟩
  · apply Int32.toInt.inj
    have : (nn 2).toInt = 2 := by decide
    rw [this]; omega
  · obtain ⟨k, -, hk, e⟩ := wi_k (n := 0) (m := 9) (by omega) (by omega) z
    exact ⟨k, by omega, e⟩
theorem op_terms (hM : Mt (coC X) (fT M)) (hS : SOb b l s t u (fT M)) (a1 a2 : Int32) : Sim A hb X M t (C_terms (A.1 0) a1 a2) (T_terms a1 a2) := by
  obtain ⟨p, ep, hp⟩ := T_isT a1 a2
  cases p
  · refine Sim_ref (k := 1) (by omega) (by omega) hM hS rfl (fun _ _ => rfl) ?_ ?_
    · simp only [C_terms, C_terms_b, og_0]
      rw [C_isT, ep, Option.bind_some, if_pos (by rfl), bd2_eta]
      rfl
    · simp only [T_terms]
      rw [ep, Option.bind_some, if_pos (by rfl), bd2_eta]
      rfl
  have eC : C_terms (A.1 0) a1 a2 (ovC A X hb) = (C_term (ovC A X hb) (A.1 0) a1).bind fun v22 => if a1 = 0 then (po (ovC A X hb) (A.1 15) [2] 2 (.int a2)).bind fun h34 => C_terms_J45 (A.1 0) v22 h34 else (sI (ovC A X hb) (A.1 6) 0 a1 a2).bind fun h25 => C_terms_J45 (A.1 0) v22 h25 := by
    simp only [C_terms, C_terms_b, og_0]
    rw [C_isT, ep, Option.bind_some, if_neg (by decide)]
    simp only [C_bks, og_0_0, og_1_5, Option.bind_some]
  have eT : T_terms a1 a2 M = (T_termAt a1).bind fun v2 => (tra M 2 5660 v2).bind fun v3 => (T_termAt a1).bind fun v4 => (twa M 2 5660 v4 a2).bind fun M5 => T_settled v3 M5 := by
    simp only [T_terms]
    rw [ep, Option.bind_some, if_neg (by decide)]
    simp only [bd2_eta]
  have main : ∀ (i : Nat) (v : Int32) (X1 : XT), i < 53 → i = 5 ∨ i = 46 ∨ i = 47 → v = fT M 0 i → coC X1 = up2 (coC X) 0 i a2 → X1.2.2 = X.2.2 → (∃ n, (if i = 5 then n ≤ 999 else n ≤ 10) ∧ a2 = nn n) → C_terms (A.1 0) a1 a2 (ovC A X hb) = C_terms_J45 (A.1 0) v (ovC A X1 hb) → T_terms a1 a2 M = T_settled v (tw M 2 i a2) → Sim A hb X M t (C_terms (A.1 0) a1 a2) (T_terms a1 a2) := by
    intro i v X1 hi hi3 hv hco hx2 ha2 hC hT
    unfold C_terms_J45 at hC
    rw [og_0_2, Option.bind_some, op_18_1, Option.bind_some, bd2_eta] at hC
    obtain ⟨M', f1, f2⟩ := T_set v (tw M 2 i a2)
    obtain ⟨X', e1, e2, e3⟩ := C_hadd (A := A) (X := ws X1 18 1 0) (hb := hb) v
    rw [fT_k hi] at f2
    have hS2 : SOb b l s t u (up2 (fT M) 0 i a2) := by
      refine hS.up ?_
      obtain ⟨n, hn, e⟩ := ha2
      rcases hi3 with rfl | rfl | rfl
      · exact ⟨n, hn, e, fun z => absurd z (by decide)⟩
      · exact ⟨n, hn, e⟩
      · exact ⟨n, hn, e⟩
    refine ⟨v, X', M', by rw [hC, e1], by rw [hT, f1], ?_, ⟨b, l, s, 0, ?_⟩, by rw [e3]; exact hx2, ?_⟩
    · rw [e2, f2, co_noU, hco]
      exact Mt_gd (Mt_noU (hM.up rfl))
    · rw [f2]
      exact SOb_gd (SOb_noU hS2)
    · intro g hg
      rw [f2, gdS_g _ hg, noU_g _ hg, up2_g _ _ (by omega)]
  rcases hp rfl with ⟨rfl, ha⟩ | ⟨rfl, ha⟩ | ⟨rfl, ha⟩
  · refine main 5 (fT M 0 5) (ws X 15 2 a2) (by omega) (Or.inl rfl) rfl co_day rfl ha ?_ ?_
    · have ht : C_term (ovC A X hb) (A.1 0) (nn 0) = some (fT M 0 5) := by
        simp only [C_term, C_term_b, og_0]
        rw [if_pos (by rfl), C_bks, Option.bind_some, og_15_2, Option.bind_some, cr_day, hM.at (by omega)]
      rw [eC, ht, Option.bind_some, if_pos (by rfl), op_15_2, Option.bind_some]
    · rw [eT]
      unfold T_termAt
      rw [if_pos (by rfl), Option.bind_some, show (5 : Int32) = nn 5 from rfl, tra_nn (by omega) (by omega), Option.bind_some, Option.bind_some, twa_nn (by omega) (by omega), Option.bind_some, fT_0 (by omega)]
  · refine main 46 (fT M 0 46) (ws X 6 1 a2) (by omega) (Or.inr (Or.inl rfl)) rfl (co_term (by omega) (by omega)) rfl ha ?_ ?_
    · have ht : C_term (ovC A X hb) (A.1 0) (nn 1) = some (fT M 0 46) := by
        simp only [C_term, C_term_b, og_0]
        rw [if_neg (by decide), og_0_0, Option.bind_some, og_1_5, Option.bind_some, oa_6 (by omega), Option.bind_some, cr_term (by omega) (by omega), hM.at (by omega)]
      rw [eC, ht, Option.bind_some, if_neg (by decide), os_6 (by omega), Option.bind_some]
    · rw [eT]
      unfold T_termAt
      rw [if_neg (by decide), if_pos (by rfl), Option.bind_some, show (46 : Int32) = nn 46 from rfl, tra_nn (by omega) (by omega), Option.bind_some, Option.bind_some, twa_nn (by omega) (by omega), Option.bind_some, fT_0 (by omega)]
  · refine main 47 (fT M 0 47) (ws X 6 2 a2) (by omega) (Or.inr (Or.inr rfl)) rfl (co_term (by omega) (by omega)) rfl ha ?_ ?_
    · have ht : C_term (ovC A X hb) (A.1 0) (nn 2) = some (fT M 0 47) := by
        simp only [C_term, C_term_b, og_0]
        rw [if_neg (by decide), og_0_0, Option.bind_some, og_1_5, Option.bind_some, oa_6 (by omega), Option.bind_some, cr_term (by omega) (by omega), hM.at (by omega)]
      rw [eC, ht, Option.bind_some, if_neg (by decide), os_6 (by omega), Option.bind_some]
    · rw [eT]
      unfold T_termAt
      rw [if_neg (by decide), if_neg (by decide), Option.bind_some, show (47 : Int32) = nn 47 from rfl, tra_nn (by omega) (by omega), Option.bind_some, Option.bind_some, twa_nn (by omega) (by omega), Option.bind_some, fT_0 (by omega)]
end R4
