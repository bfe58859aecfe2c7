/-! PLAIN LAW: force, sights, the tape's end, what is told -/
set_option maxRecDepth 100000
theorem SOb_s {b l s t u s' : Nat} {S : Nat → Nat → Int32} (h : SOb b l s t u S) (h6 : s' ≤ 6) (hn : ∀ k, s ≤ k → k < s' → (∃ n, n < l ∧ S 0 (34 + 2 * k) = nn n) ∧ ∃ n, n ≤ 99 ∧ S 0 (35 + 2 * k) = nn n) : SOb b l s' t u (up2 S 0 50 (nn s')) := by
  refine ⟨⟨h.1.1, h.1.2.1, h6, h.1.2.2.2.1, h.1.2.2.2.2⟩, fun g i => ?_⟩
  by_cases h50 : g = 0 ∧ i = 50
  · obtain ⟨rfl, rfl⟩ := h50
    rw [up2_s]
    rfl
  rw [up2_n _ _ h50]
  have e := h.2 g i
  unfold Bd at e ⊢
  by_cases hg : g = 0
  · subst hg
    rw [if_pos rfl] at e ⊢
    by_cases a1 : i = 0
    · rw [if_pos a1] at e ⊢; exact e
    rw [if_neg a1] at e ⊢
    by_cases a2 : i < 6
    · rw [if_pos a2] at e ⊢; exact e
    rw [if_neg a2] at e ⊢
    by_cases a3 : i < 14
    · rw [if_pos a3] at e ⊢; exact e
    rw [if_neg a3] at e ⊢
    by_cases a4 : i < 22
    · rw [if_pos a4] at e ⊢; exact e
    rw [if_neg a4] at e ⊢
    by_cases a5 : i < 30
    · rw [if_pos a5] at e ⊢; exact e
    rw [if_neg a5] at e ⊢
    by_cases a6 : i < 34
    · rw [if_pos a6] at e ⊢; exact e
    rw [if_neg a6] at e ⊢
    by_cases a7 : i < 46
    · rw [if_pos a7] at e ⊢
      intro hi
      by_cases hlt : i < 34 + 2 * s
      · exact e hlt
      · by_cases c : i % 2 = 0
        · rw [if_pos c]
          have := (hn ((i - 34) / 2) (by omega) (by omega)).1
          rw [show 34 + 2 * ((i - 34) / 2) = i by omega] at this
          exact this
        · rw [if_neg c]
          have := (hn ((i - 35) / 2) (by omega) (by omega)).2
          rw [show 35 + 2 * ((i - 35) / 2) = i by omega] at this
          exact this
    rw [if_neg a7] at e ⊢
    by_cases a8 : i < 48
    · rw [if_pos a8] at e ⊢; exact e
    rw [if_neg a8] at e ⊢
    by_cases a9 : i = 48
    · rw [if_pos a9] at e ⊢; exact e
    rw [if_neg a9] at e ⊢
    by_cases a10 : i = 49
    · rw [if_pos a10] at e ⊢; exact e
    rw [if_neg a10] at e ⊢
    rw [if_neg (fun z => h50 ⟨rfl, z⟩)] at e ⊢
    exact e
  · rw [if_neg hg] at e ⊢
    exact e
section R5
variable {A : AT} {hb : Hp} {X : XT} {M : TM} {b l s t u : Nat}
theorem T_isW (hS : SOb b l s t u (fT M)) (a : Int32) : T_isLaw M a = some (bz (decide (a = -nn 1) || wi a (nn 0) (nn t - nn 1))) := by
  have ht := hS.nt
  have h6 := hS.1.2.2.2.1
  unfold T_isLaw
  rw [show (51 : Int32) = nn 51 from rfl, tra_nn (by omega) (by omega), fT_0 (by omega), ht, Option.bind_some, T_lies_w, Option.bind_some, rz_bz, Option.bind_some]
  congr 2
  unfold wi
  have e1 : (nn t - 1).toInt = (t : Int) - 1 := by
    have : ∀ t, t < 7 → (nn t - 1).toInt = (t : Int) - 1 := by decide
    exact this t (by omega)
  have e2 : (-1 : Int32).toInt = -1 := by decide
  have e3 : (nn 0).toInt = 0 := by decide
  have e4 : a = -nn 1 ↔ a.toInt = -1 := by
    constructor
    · intro z; rw [z]; decide
    · intro z; apply Int32.toInt.inj; rw [z]; decide
  rw [show nn t - nn 1 = nn t - 1 from rfl]
  simp only [Int32.lt_iff_toInt_lt, e1, e2, e3, e4]
  by_cases h1 : a.toInt < -1
  · have h2 : ¬ a.toInt = -1 := by omega
    have h3 : a.toInt < 0 := by omega
    simp [h1, h2, h3]
  · by_cases h2 : a.toInt = -1
    · have h3 : ¬ (t : Int) - 1 < -1 := by omega
      simp [h2, h3]
    · have h3 : ¬ a.toInt < 0 := by omega
      simp [h1, h2, h3]
theorem C_isW (ht : coC X 0 51 = nn t) (a : Int32) : C_isLaw (ovC A X hb) (A.1 0) a = some (bz (decide (a = -nn 1) || wi a (nn 0) (nn t - nn 1))) := by
  simp only [C_isLaw, C_isLaw_b, og_0, og_0_0, og_1_0, Option.bind_some]
  by_cases h : a = -nn 1
  · rw [if_pos (show a = -1 from h), decide_eq_true h]
    rfl
  · rw [if_neg (show ¬ a = -1 from h), decide_eq_false h, Bool.false_or]
    simp only [J2_size, J2_size_b, og_14, og_14_2, Option.bind_some]
    rw [cr_nT, ht, show (0 : Int64) = (nn 0).toInt64 by decide, show (1 : Int32) = nn 1 from rfl, C_in_w, Option.bind_some]
    cases wi a (nn 0) (nn t - nn 1) <;> rfl
theorem op_force (hM : Mt (coC X) (fT M)) (hS : SOb b l s t u (fT M)) (a1 : Int32) : Sim A hb X M t (C_force (A.1 0) a1) (T_force a1) := by
  have ht : coC X 0 51 = nn t := by rw [hM.at (by omega), hS.nt]
  have eC : C_force (A.1 0) a1 (ovC A X hb) = if bz (decide (a1 = -nn 1) || wi a1 (nn 0) (nn t - nn 1)) = 0 then C_tell (A.1 0) (-nn 2) (ovC A X hb) else C_had (A.1 0) (X.1 1 11) (ovC A (ws X 1 11 a1) hb) := by
    simp only [C_force, C_force_b, og_0, C_isW ht, Option.bind_some, bd2_eta, og_0_0, og_1_11, op_1_11]
    rfl
  have eT : T_force a1 M = if bz (decide (a1 = -nn 1) || wi a1 (nn 0) (nn t - nn 1)) = 0 then T_refuses (-nn 2) M else T_good (M.2.2.1 2 52) (tw M 2 52 a1) := by
    simp only [T_force, T_isW hS, Option.bind_some, bd2_eta]
    rw [show (52 : Int32) = nn 52 from rfl, tra_nn (by omega) (by omega), twa_nn (by omega) (by omega)]
    rfl
  cases hp : (decide (a1 = -nn 1) || wi a1 (nn 0) (nn t - nn 1))
  · rw [hp, if_pos (by rfl)] at eC eT
    exact Sim_ref (k := 2) (by omega) (by omega) hM hS rfl (fun _ _ => rfl) eC eT
  · rw [hp, if_neg (by decide)] at eC eT
    rw [cr_nF, hM.at (by omega)] at eC
    rw [fT_0 (by omega)] at eT
    refine Sim_had (X := X) (M := M) (b := b) (l := l) (s := s) (u := u) ?_ ?_ (by rfl) ?_ eC eT
    · rw [co_nF, fT_k (by omega)]
      exact hM.up rfl
    · rw [fT_k (by omega)]
      refine hS.up ?_
      rw [Bool.or_eq_true] at hp
      rcases hp with hp | hp
      · exact Or.inl (of_decide_eq_true hp)
      · obtain ⟨k, e, hk⟩ := wi_nn (n := t) (by have := hS.1.2.2.2.1; omega) hp
        exact Or.inr ⟨k, hk, e⟩
    · rw [fT_k (by omega)]
      exact up2_g6 (by omega) (fun _ _ => rfl)
theorem op_seen (hM : Mt (coC X) (fT M)) (hS : SOb b l s t u (fT M)) (a1 a2 : Int32) : Sim A hb X M t (C_seen (A.1 0) a1 a2) (T_seen a1 a2) := by
  have h49 : fT M 0 49 = nn l := hS.nl
  have h49' : coC X 0 49 = nn l := by rw [hM.at (by omega), h49]
  have h50 : fT M 0 50 = nn s := hS.ns
  have h50' : coC X 0 50 = nn s := by rw [hM.at (by omega), h50]
  have hs6 := hS.1.2.2.1
  cases h2 : wi a2 (nn 0) (nn 99)
  · refine Sim_ref (k := 1) (by omega) (by omega) hM hS rfl (fun _ _ => rfl) ?_ ?_
    · simp only [C_seen, C_seen_b, og_0]
      rw [show (0 : Int64) = (nn 0).toInt64 by decide, show (99 : Int64) = (nn 99).toInt64 by decide, C_in_w, h2, Option.bind_some, if_pos (by rfl), bd2_eta]
      rfl
    · simp only [T_seen]
      rw [show (0 : Int32) = nn 0 from rfl, show (99 : Int32) = nn 99 from rfl, T_lies_w, h2, Option.bind_some, if_pos (by rfl), bd2_eta]
      rfl
  cases h1 : wi a1 (nn 0) (nn l - nn 1)
  · refine Sim_ref (k := 2) (by omega) (by omega) hM hS rfl (fun _ _ => rfl) ?_ ?_
    · simp only [C_seen, C_seen_b, og_0]
      rw [show (0 : Int64) = (nn 0).toInt64 by decide, show (99 : Int64) = (nn 99).toInt64 by decide, C_in_w, h2, Option.bind_some, if_neg (by decide), C_isL, h49', h1, Option.bind_some, if_pos (by rfl), bd2_eta]
      rfl
    · simp only [T_seen]
      rw [show (0 : Int32) = nn 0 from rfl, show (99 : Int32) = nn 99 from rfl, T_lies_w, h2, Option.bind_some, if_neg (by decide), T_isL, h49, h1, Option.bind_some, if_pos (by rfl), bd2_eta]
      rfl
  obtain ⟨k1, hk1, rfl⟩ := isL_k hS h1
  obtain ⟨k2, -, hk2, rfl⟩ := wi_k (n := 0) (m := 99) (by omega) (by omega) h2
  by_cases hs : s = 6
  · refine Sim_ref (k := 5) (by omega) (by omega) hM hS rfl (fun _ _ => rfl) ?_ ?_
    · simp only [C_seen, C_seen_b, og_0]
      rw [show (0 : Int64) = (nn 0).toInt64 by decide, show (99 : Int64) = (nn 99).toInt64 by decide, C_in_w, h2, Option.bind_some, if_neg (by decide), C_isL, h49', h1, Option.bind_some, if_neg (by decide), og_0_0, Option.bind_some, og_1_10, Option.bind_some, cr_nS, h50', hs, if_pos (by rfl), bd2_eta]
      rfl
    · simp only [T_seen]
      rw [show (0 : Int32) = nn 0 from rfl, show (99 : Int32) = nn 99 from rfl, T_lies_w, h2, Option.bind_some, if_neg (by decide), T_isL, h49, h1, Option.bind_some, if_neg (by decide), show (50 : Int32) = nn 50 from rfl, tra_nn (by omega) (by omega), Option.bind_some, Option.bind_some, Option.bind_some, fT_0 (by omega), h50, hs, if_pos (by rfl), bd2_eta]
      rfl
  have hne : ¬ nn s = (6 : Int32) := by
    rw [show (6 : Int32) = nn 6 from rfl, nn_inj (by omega) (by omega)]
    exact hs
  have hs' : s < 6 := by omega
  have eC : C_seen (A.1 0) (nn k1) (nn k2) (ovC A X hb) = C_tell (A.1 0) (nn (s + 1)) (ovC A (ws (ws (ws X 1 10 (nn (s + 1))) (8 + s) 0 (nn k1)) (8 + s) 1 (nn k2)) hb) := by
    have f8 : fA (8 + s) 0 2 = true := by
      have : ∀ s, s < 6 → fA (8 + s) 0 2 = true := by decide
      exact this s hs'
    simp only [C_seen, C_seen_b, og_0]
    rw [show (0 : Int64) = (nn 0).toInt64 by decide, show (99 : Int64) = (nn 99).toInt64 by decide, C_in_w, h2, Option.bind_some, if_neg (by decide), C_isL, h49', h1, Option.bind_some, if_neg (by decide), og_0_0, Option.bind_some, og_1_10, Option.bind_some, cr_nS, h50', if_neg hne, Option.bind_some, og_1_6, Option.bind_some, Option.bind_some, og_1_10, Option.bind_some, cr_nS, h50', op_1_10, Option.bind_some, aR_seen hs', Option.bind_some, show (0 : Int32) = nn 0 from rfl, show (1 : Int32) = nn 1 from rfl, nn_add, sI_oc f8 (by omega) (by omega), Option.bind_some, sI_oc f8 (by omega) (by omega), Option.bind_some, og_0_0, Option.bind_some, og_1_10, Option.bind_some, bd2_eta]
    have e1 : (ws (ws (ws X 1 10 (nn (s + 1))) (8 + s) 0 (nrw 0 (nn k1))) (8 + s) 1 (nrw 0 (nn k2))).1 1 10 = nn (s + 1) := by
      rw [ws_at, if_neg (by omega), ws_at, if_neg (by omega), ws_at, if_pos ⟨rfl, rfl⟩]
    rw [e1]
    rfl
  have eT : T_seen (nn k1) (nn k2) M = T_good (nn (s + 1)) (tw (tw (tw M 2 (34 + 2 * s) (nn k1)) 2 (34 + 2 * s + 1) (nn k2)) 2 50 (nn (s + 1))) := by
    simp only [T_seen]
    rw [show (0 : Int32) = nn 0 from rfl, show (99 : Int32) = nn 99 from rfl, T_lies_w, h2, Option.bind_some, if_neg (by decide), T_isL, h49, h1, Option.bind_some, if_neg (by decide), show (50 : Int32) = nn 50 from rfl, tra_nn (by omega) (by omega), Option.bind_some, Option.bind_some, Option.bind_some, fT_0 (by omega), h50, if_neg hne, show (34 : Int32) = nn 34 from rfl, show (2 : Int32) = nn 2 from rfl, show (1 : Int32) = nn 1 from rfl, nn_mul, nn_add, twa_nn (by omega) (by omega), Option.bind_some, nn_add, twa_nn (by omega) (by omega), Option.bind_some, tra_nn (by omega) (by omega), Option.bind_some, twa_nn (by omega) (by omega), Option.bind_some, tra_nn (by omega) (by omega), Option.bind_some, bd2_eta]
    have e2 : (tw (tw M 2 (34 + 2 * s) (nn k1)) 2 (34 + 2 * s + 1) (nn k2)).2.2.1 2 50 = nn s := by
      simp only [tw_2, if_true]
      rw [upd_n _ _ (by omega), upd_n _ _ (by omega), fT_0 (by omega), h50]
    have e3 : ∀ v, (tw (tw (tw M 2 (34 + 2 * s) (nn k1)) 2 (34 + 2 * s + 1) (nn k2)) 2 50 v).2.2.1 2 50 = v := by
      intro v
      rw [tw_2, if_pos rfl, upd_s]
    rw [e3, e2, nn_add]
  refine Sim_goo (X := X) (M := M) (b := b) (l := l) (s := s + 1) (u := u) (nn_ge _ (by omega)) ?_ ?_ (by rfl) ?_ eC eT
  · rw [co_seen hs' (by omega), co_seen hs' (by omega), co_nS, fT_k (by omega), fT_k (by omega), fT_k (by omega)]
    intro g hg
    have hMg := hM g hg
    funext i
    unfold up2
    rw [hMg]
    by_cases z1 : g = 0 ∧ i = 50
    · rw [if_pos z1, if_pos z1, if_neg (by omega), if_neg (by omega)]
    · rw [if_neg z1, if_neg z1]
      rfl
  · rw [fT_k (by omega), fT_k (by omega), fT_k (by omega)]
    refine SOb_s (s := s) ((hS.up ?_).up ?_) (by omega) ?_
    · unfold Bd
      rw [if_pos rfl, if_neg (by omega), if_neg (by omega), if_neg (by omega), if_neg (by omega), if_neg (by omega), if_neg (by omega), if_pos (by omega)]
      intro z; omega
    · unfold Bd
      rw [if_pos rfl, if_neg (by omega), if_neg (by omega), if_neg (by omega), if_neg (by omega), if_neg (by omega), if_neg (by omega), if_pos (by omega)]
      intro z; omega
    · intro k hk1' hk2'
      have : k = s := by omega
      subst this
      refine ⟨⟨k1, hk1, ?_⟩, ⟨k2, hk2, ?_⟩⟩
      · rw [up2_n _ _ (by omega), up2_s]
      · rw [show 35 + 2 * k = 34 + 2 * k + 1 by omega, up2_s]
  · rw [fT_k (by omega), fT_k (by omega), fT_k (by omega)]
    exact up2_g6 (by omega) (up2_g6 (by omega) (up2_g6 (by omega) (fun _ _ => rfl)))
theorem op_forget (hM : Mt (coC X) (fT M)) (hS : SOb b l s t u (fT M)) : Sim A hb X M t (C_forget (A.1 0)) T_forget := by
  refine ⟨fT M 0 50, ws X 1 10 (nn 0), tw M 2 50 (nn 0), ?_, ?_, ?_, ⟨b, l, 0, u, ?_⟩, rfl, ?_⟩
  · simp only [C_forget, C_forget_b, og_0, og_0_0, og_1_10, op_1_10, Option.bind_some]
    rw [cr_nS, hM.at (by omega)]
    rfl
  · simp only [T_forget]
    rw [show (50 : Int32) = nn 50 from rfl, tra_nn (by omega) (by omega), Option.bind_some, twa_nn (by omega) (by omega), Option.bind_some, fT_0 (by omega)]
    rfl
  · rw [co_nS, fT_k (by omega)]
    exact hM.up rfl
  · rw [fT_k (by omega)]
    exact SOb_s hS (by omega) (fun k _ z => by omega)
  · rw [fT_k (by omega)]
    exact up2_g6 (by omega) (fun _ _ => rfl)
theorem op_end (hM : Mt (coC X) (fT M)) (hS : SOb b l s t u (fT M)) (a1 : Int32) : Sim A hb X M t (C_end (A.1 0) a1) (T_end a1) := by
  obtain ⟨n, hn, en⟩ := hS.taped
  have en' : coC X 1 4 = nn n := by rw [hM.at (by omega), en]
  have e13 : M.1 13 = nn n := by rw [show M.1 13 = fT M 1 4 from fT_1 (i := 4) (by omega), en]
  cases hw : wi a1 (nn 0) (nn n)
  · refine ⟨-nn 1, X, M, ?_, ?_, hM, ⟨b, l, s, u, hS⟩, rfl, fun _ _ => rfl⟩
    · simp only [C_end, C_end_b, og_0, og_0_15, Option.bind_some]
      rw [cr_td, en', show (0 : Int64) = (nn 0).toInt64 by decide, C_in_w, hw, Option.bind_some, if_pos (by rfl)]
      rfl
    · simp only [T_end]
      rw [e13, show (0 : Int32) = nn 0 from rfl, T_lies_w, hw, Option.bind_some, if_pos (by rfl)]
      rfl
  · obtain ⟨k, -, hk, rfl⟩ := wi_k (n := 0) (m := n) (by omega) (by omega) hw
    refine ⟨nn k, ws X 0 15 (nn k), tsi M 13 (nn k), ?_, ?_, ?_, ⟨b, l, s, u, ?_⟩, rfl, ?_⟩
    · simp only [C_end, C_end_b, og_0, og_0_15, Option.bind_some]
      rw [cr_td, en', show (0 : Int64) = (nn 0).toInt64 by decide, C_in_w, hw, Option.bind_some, if_neg (by decide), op_0_15]
      rfl
    · simp only [T_end]
      rw [e13, show (0 : Int32) = nn 0 from rfl, T_lies_w, hw, Option.bind_some, if_neg (by decide)]
      rfl
    · rw [co_td, show fT (tsi M 13 (nn k)) = up2 (fT M) 1 4 (nn k) from fT_i (i := 4) (by omega)]
      exact hM.up rfl
    · rw [show fT (tsi M 13 (nn k)) = up2 (fT M) 1 4 (nn k) from fT_i (i := 4) (by omega)]
      exact hS.up ⟨k, by omega, rfl⟩
    · rw [show fT (tsi M 13 (nn k)) = up2 (fT M) 1 4 (nn k) from fT_i (i := 4) (by omega)]
      exact up2_g6 (by omega) (fun _ _ => rfl)
theorem op_slugs (hM : Mt (coC X) (fT M)) : ∃ v, C_slugs (ovC A X hb) (A.1 0) = some v ∧ T_slugs M = some v := by
  refine ⟨fT M 1 2, ?_, congrArg some (fT_1 (M := M) (i := 2) (by omega))⟩
  simp only [C_slugs, C_slugs_b, og_0, og_0_12, Option.bind_some]
  rw [cr_sl, hM.at (by omega)]
theorem op_fault (hM : Mt (coC X) (fT M)) : ∃ v, C_fault (ovC A X hb) (A.1 0) = some v ∧ T_fault M = some v := by
  refine ⟨fT M 1 1, ?_, congrArg some (fT_1 (M := M) (i := 1) (by omega))⟩
  simp only [C_fault, C_fault_b, og_0, og_0_11, Option.bind_some]
  rw [cr_fa, hM.at (by omega)]
theorem op_stopped (hM : Mt (coC X) (fT M)) : ∃ v, C_stopped (ovC A X hb) (A.1 0) = some v ∧ T_stopped M = some v := by
  refine ⟨fT M 1 3, ?_, congrArg some (fT_1 (M := M) (i := 3) (by omega))⟩
  simp only [C_stopped, C_stopped_b, og_0, og_0_13, Option.bind_some]
  rw [cr_so, hM.at (by omega)]
theorem op_status (hM : Mt (coC X) (fT M)) : ∃ v, C_status (ovC A X hb) (A.1 0) = some v ∧ T_status M = some v := by
  refine ⟨fT M 1 0, ?_, congrArg some (fT_1 (M := M) (i := 0) (by omega))⟩
  simp only [C_status, C_status_b, og_0, og_0_10, Option.bind_some]
  rw [cr_st, hM.at (by omega)]
end R5
