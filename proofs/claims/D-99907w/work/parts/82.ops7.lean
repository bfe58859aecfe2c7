/-! PLAIN LAW: both sides between calls; of a leek, comparing -/
set_option maxRecDepth 100000
theorem wi_d {j lo hi : Nat} (hj : j < 2147483648) (h1 : lo < 2147483648) (h2 : hi < 2147483648) : wi (nn j) (nn lo) (nn hi) = decide (lo ≤ j ∧ j ≤ hi) := by
  have e1 : decide (nn j < nn lo) = decide (j < lo) := decide_eq_decide.mpr (by rw [nn_lt hj h1])
  have e2 : decide (nn hi < nn j) = decide (hi < j) := decide_eq_decide.mpr (by rw [nn_lt h2 hj])
  unfold wi
  rw [e1, e2, ← decide_not, ← decide_not, ← Bool.decide_and]
  apply decide_eq_decide.mpr
  omega
theorem wi_d1 {j n : Nat} (hj : j < 2147483648) (hn : n < 2147483648) : wi (nn j) (nn 0) (nn n - nn 1) = decide (j < n) := by
  cases n with
  | zero =>
    cases hw : wi (nn j) (nn 0) (nn 0 - nn 1)
    · rfl
    · obtain ⟨k, _, hk⟩ := wi_nn (n := 0) (by omega) hw
      omega
  | succ n =>
    rw [nn_sub (by omega), wi_d hj (by omega) (by omega)]
    apply decide_eq_decide.mpr
    omega
/-- both sides are alike between calls, Ds the laws that were told -/
def WK (A : AT) (X : XT) (hb : Hp) (M : TM) (Ds : Nat → List CDn) (b l s t u : Nat) : Prop := NB A hb ∧ Mt (coC X) (fT M) ∧ SOb b l s t u (fT M) ∧ (∀ i, i < t → (∀ c ∈ Ds i, okC c) ∧ TLW (M.2.2.1 2) i (Ds i)) ∧ ∃ m q, t ≤ m ∧ hb.2.2.2 X.2.2.1 = some (.inl (11, m, .inr (.inr (.inr (.inr q))))) ∧ ∀ i, i < t → ∃ a, q i = some a ∧ TxR hb (A.1 0) a (Ds i)
/-- the clauses in force -/
def DD (Ds : Nat → List CDn) (f : Int32) : List CDn := if f = -1 then [] else Ds f.toNatClampNeg
/-- one call: equal answers, the states again alike -/
def OpL (A : AT) (X : XT) (hb : Hp) (M : TM) (t : Nat) (C : Hp → Option (Int32 × Hp)) (T : TM → Option (Int32 × TM)) : Prop := ∃ v A' X' hb' M', C (ovC A X hb) = some (v, ovC A' X' hb') ∧ T M = some (v, M') ∧ Mt (coC X') (fT M') ∧ (∃ b l s u, SOb b l s t u (fT M')) ∧ X'.2.2 = X.2.2 ∧ Td hb hb' ∧ samA A A' ∧ ∀ g, 6 ≤ g → fT M' g = fT M g
section W7
variable {A : AT} {X : XT} {hb : Hp} {M : TM} {D : List CDn} {Ds : Nat → List CDn} {b l s t u N : Nat}
theorem OpL_sim {C : Hp → Option (Int32 × Hp)} {T : TM → Option (Int32 × TM)} (h : Sim A hb X M t C T) : OpL A X hb M t C T := by
  obtain ⟨v, X', M', h1, h2, h3, h4, h5, h6⟩ := h
  exact ⟨v, A, X', hb, M', h1, h2, h3, h4, h5, Td_refl hb, samA_refl A, h6⟩
theorem OpL_l {C : Hp → Option (Int32 × Hp)} {T : TM → Option (Int32 × TM)} (h : SimL A X hb M D t C T) : OpL A X hb M t C T := by
  obtain ⟨v, X', hb', M', h1, h2, ⟨b, l, s, u, h3⟩, h4, h5, h6⟩ := h
  exact ⟨v, A, X', hb', M', h1, h2, h3.2.1, ⟨b, l, s, u, h3.2.2.1⟩, h4, h5, samA_refl A, h6⟩
theorem fT_9 {i : Nat} (h : 53 ≤ i ∧ i < 59 ∨ 60 ≤ i ∧ i < 2460 ∨ 2860 ≤ i ∧ i < 5260) : M.2.2.1 2 i = fT M 9 i := by
  unfold fT
  simp only [show ¬ (9 : Nat) = 0 by decide, show ¬ (9 : Nat) = 1 by decide, show ¬ (9 : Nat) = 2 by decide, show ¬ (9 : Nat) = 3 by decide, show ¬ (9 : Nat) = 4 by decide, show ¬ (9 : Nat) = 5 by decide, show ¬ (9 : Nat) = 6 by decide, show ¬ (9 : Nat) = 7 by decide, show ¬ (9 : Nat) = 8 by decide, if_false, if_true, h]
theorem K9 {M' : TM} (h : fT M' 9 = fT M 9) {i : Nat} (hi : 53 ≤ i ∧ i < 59 ∨ 60 ≤ i ∧ i < 2460 ∨ 2860 ≤ i ∧ i < 5260) : M'.2.2.1 2 i = M.2.2.1 2 i := by rw [fT_9 hi, fT_9 hi, h]
theorem TLW_mv {K K' : Nat → Int32} {D : List CDn} {t : Nat} (ht : t < 6) (h : TLW K t D) (hk : ∀ i, 53 ≤ i ∧ i < 59 ∨ 60 ≤ i ∧ i < 2460 ∨ 2860 ≤ i ∧ i < 5260 → K' i = K i) : TLW K' t D := by
  obtain ⟨nt, hn, h2, h3, h4⟩ := h
  have e1 : twC K' t nt = twC K t nt := by
    funext k
    unfold twC
    by_cases hk' : k < nt
    · rw [if_pos hk', if_pos hk', hk _ (by omega)]
    · rw [if_neg hk', if_neg hk']
  have e2 : twV K' t nt = twV K t nt := by
    funext k
    unfold twV
    by_cases hk' : k < nt
    · rw [if_pos hk', if_pos hk', hk _ (by omega)]
    · rw [if_neg hk', if_neg hk']
  exact ⟨nt, hn, by rw [hk _ (by omega)]; exact h2, by rw [e2]; exact h3, by rw [e1, e2]; exact h4⟩
theorem WK_D (h : WK A X hb M Ds b l s t u) : Wk A X hb M (DD Ds (fT M 0 52)) b l s t u := by
  obtain ⟨h1, h2, h3, h4, m, q, h5, h6, h7⟩ := h
  have h52 : coC X 0 52 = fT M 0 52 := h2.at (by omega) 52
  have h51 : coC X 0 51 = nn t := by rw [h2.at (by omega), h3.nt]
  have ht := h3.1.2.2.2.1
  refine ⟨h1, h2, h3, ?_, ?_⟩
  · rcases h3.fo with z | ⟨n, hn, z⟩
    · rw [z]
      refine ⟨fun c hc => ?_, Or.inl ⟨by rw [h52, z], rfl⟩⟩
      rw [show DD Ds (-1) = [] from rfl] at hc
      cases hc
    · have hD : DD Ds (fT M 0 52) = Ds n := by
        unfold DD
        rw [z, if_neg (nn_m1 (by omega)), nn_cl (by omega)]
      obtain ⟨a, ha, hT⟩ := h7 n hn
      rw [hD]
      exact ⟨(h4 n hn).1, Or.inr ⟨n, a, m, q, by omega, by rw [h52, z], ⟨t, h51, hn, ht⟩, h6, by omega, ha, hT⟩⟩
  · have hK : M.2.2.1 2 52 = fT M 0 52 := fT_0 (by omega)
    rcases h3.fo with z | ⟨n, hn, z⟩
    · exact Or.inl ⟨by rw [hK, z], by rw [z]; rfl⟩
    · have hD : DD Ds (fT M 0 52) = Ds n := by
        unfold DD
        rw [z, if_neg (nn_m1 (by omega)), nn_cl (by omega)]
      rw [hD]
      exact Or.inr ⟨n, by omega, by rw [hK, z], (h4 n hn).2⟩
/-- a step that leaves laws alone -/
theorem WK_nx {A' : AT} {X' : XT} {hb' : Hp} {M' : TM} {b' l' s' u' : Nat} (h : WK A X hb M Ds b l s t u) (h1 : Mt (coC X') (fT M')) (h2 : SOb b' l' s' t u' (fT M')) (h3 : X'.2.2 = X.2.2) (h4 : Td hb hb') (h5 : samA A A') (h6 : fT M' 9 = fT M 9) : WK A' X' hb' M' Ds b' l' s' t u' := by
  obtain ⟨w1, w2, w3, w4, m, q, w5, w6, w7⟩ := h
  have ht := w3.1.2.2.2.1
  refine ⟨fun j hj => ?_, h1, h2, fun i hi => ⟨(w4 i hi).1, TLW_mv (by omega) (w4 i hi).2 (fun k hk => K9 h6 hk)⟩, m, q, w5, ?_, fun i hi => ?_⟩
  · obtain ⟨i, hi, e⟩ := h5.2 j hj
    rw [e]
    exact h4.2.2.2.2 _ (w1 i hi)
  · rw [h3]
    exact Ex_o h4.2.2.2.1 w6 (fun l z => by cases z)
  · obtain ⟨a, ha, hT⟩ := w7 i hi
    refine ⟨a, ha, ?_⟩
    rw [h5.1 0 (by omega)]
    exact TxR_ex h4.2.2.2.1 hT
theorem op_at (hN : 20000 ≤ N) (h : Wk A X hb M D b l s t u) (a1 a2 : Int32) : OpL A X hb M t (C_at N (A.1 0) a1 a2) (T_at N a1 a2) := by
  apply OpL_l (D := D)
  have h48 : fT M 0 48 = nn b := h.2.2.1.nb
  have h48' : coC X 0 48 = nn b := by rw [h.2.1.at (by omega), h48]
  have h49 : fT M 0 49 = nn l := h.2.2.1.nl
  have h49' : coC X 0 49 = nn l := by rw [h.2.1.at (by omega), h49]
  have h8 := h.2.2.1.1.1
  have h4 := h.2.2.1.1.2.1
  have m : ∀ i, coC X 0 i = fT M 0 i := fun i => h.2.1.at (by omega) i
  cases hl1 : wi a1 (nn 0) (nn l - nn 1)
  · refine SimL_v (v := -1) h ?_ ?_
    · simp only [C_at, C_at_b, og_0]
      rw [C_isL, h49', hl1, Option.bind_some, if_pos (by rfl)]
    · unfold T_at
      rw [T_isL, h49, hl1, Option.bind_some, if_pos (by rfl)]
  obtain ⟨k, hk, rfl⟩ := isL_k h.2.2.1 hl1
  have eC0 : C_at N (A.1 0) (nn k) a2 (ovC A X hb) = (if a2.toInt < 0 ∨ 2 < a2.toInt then (if a2 ≤ (2 : Int32) then some ((-1 : Int32), ovC A X hb) else if bz (wi (a2 - (3 : Int32)) (nn 0) (nn b - nn 1)) = 0 then some ((-1 : Int32), ovC A X hb) else C_grows N (A.1 0) (nn k) (a2 - (3 : Int32)) (ovC A X hb)) else if a2.toInt = 0 then some (coC X 0 (30 + k), ovC A X hb) else if a2.toInt = 1 then some (coC X 0 (1 + k), ovC A X hb) else C_wilts N (A.1 0) (nn k) (ovC A X hb)) := by
    simp only [C_at, C_at_b, og_0]
    rw [C_isL, h49', hl1, Option.bind_some, if_neg (by decide), C_isB, h48', Option.bind_some, bd2_eta, bd2_eta, og_0_0, Option.bind_some, og_1_4, Option.bind_some, oa_5 (by omega), Option.bind_some, C_bks, Option.bind_some, og_15_0, Option.bind_some, oa_16 (by omega), Option.bind_some, cr_like (by omega), cr_high (by omega)]
  have eT0 : T_at N (nn k) a2 M = (if bz (wi a2 (nn 3) (nn (2 + b))) = 0 then (if a2.toInt < 0 ∨ 2 < a2.toInt then some ((-1 : Int32), M) else if a2.toInt = 0 then some (fT M 0 (30 + k), M) else if a2.toInt = 1 then some (fT M 0 (1 + k), M) else T_wiltsNow N (nn k) M) else T_growsNow N (nn k) (a2 - (3 : Int32)) M) := by
    unfold T_at
    rw [T_isL, h49, hl1, Option.bind_some, if_neg (by decide), T_bM, Option.bind_some, h48, T_lies_w, Option.bind_some, bd2_eta, bd2_eta, show (30 : Int32) = nn 30 from rfl, nn_add, tra_nn (by omega) (by omega), Option.bind_some, show (3 : Int32) = nn 3 from rfl, show (2 : Int32) + nn b = nn (2 + b) from nn_add 2 b, show (1 : Int32) + nn k = nn (1 + k) from nn_add 1 k, tra_nn (by omega) (by omega), Option.bind_some, fT_0 (by omega), fT_0 (by omega)]
  by_cases c0 : a2.toInt < 0 ∨ 2 < a2.toInt
  · by_cases c1 : a2 ≤ (2 : Int32)
    · have c2 : wi a2 (nn 3) (nn (2 + b)) = false := by
        have e2 : (2 : Int32).toInt = 2 := by decide
        have : a2 < nn 3 := by
          rw [Int32.lt_iff_toInt_lt, nn_toInt (by omega)]
          rw [Int32.le_iff_toInt_le, e2] at c1
          omega
        unfold wi
        rw [decide_eq_true this]
        rfl
      exact SimL_v (v := -1) h (by rw [eC0, if_pos c0, if_pos c1]) (by rw [eT0, c2, if_pos (by rfl), if_pos c0])
    · have e2 : (2 : Int32).toInt = 2 := by decide
      have e0 : (0 : Int32).toInt = 0 := by decide
      obtain ⟨n, hn, ea⟩ : ∃ n, n < 2147483648 ∧ a2 = nn n := by
        have : 0 ≤ a2 := by
          rw [Int32.le_iff_toInt_le]
          rw [Int32.le_iff_toInt_le, e2] at c1
          omega
        exact ⟨_, (nn_of this).2, (nn_of this).1⟩
      have hn3 : 3 ≤ n := by
        rw [ea, Int32.le_iff_toInt_le, e2, nn_toInt hn] at c1
        omega
      have es : a2 - (3 : Int32) = nn (n - 3) := by
        rw [ea, show (3 : Int32) = nn 3 from rfl, nn_sub hn3]
      rw [if_pos c0, if_neg c1, es, wi_d1 (by omega) (by omega)] at eC0
      rw [es, ea, wi_d hn (by omega) (by omega)] at eT0
      by_cases c2 : n - 3 < b
      · rw [decide_eq_true c2, if_neg (by decide)] at eC0
        rw [decide_eq_true (by omega), if_neg (by decide)] at eT0
        obtain ⟨v, X', hb', M', _, t1, t2, t3, t4, t5, t6⟩ := sim_gro hN h (lk := k) (bb := n - 3) (by omega) (by omega)
        rw [t1] at eC0
        rw [t2] at eT0
        exact SimL_same h eC0 (by rw [ea]; exact eT0) t3 t4 t5 t6
      · rw [decide_eq_false c2, if_pos (by rfl)] at eC0
        rw [ea] at c0
        rw [decide_eq_false (by omega), if_pos (by rfl), if_pos c0] at eT0
        exact SimL_v h eC0 (by rw [ea]; exact eT0)
  · have c2 : wi a2 (nn 3) (nn (2 + b)) = false := by
      have : a2 < nn 3 := by
        rw [Int32.lt_iff_toInt_lt, nn_toInt (by omega)]
        omega
      unfold wi
      rw [decide_eq_true this]
      rfl
    rw [if_neg c0] at eC0
    rw [c2, if_pos (by rfl), if_neg c0] at eT0
    by_cases c3 : a2.toInt = 0
    · rw [if_pos c3, m] at eC0
      rw [if_pos c3] at eT0
      exact SimL_v h eC0 eT0
    rw [if_neg c3] at eC0 eT0
    by_cases c4 : a2.toInt = 1
    · rw [if_pos c4, m] at eC0
      rw [if_pos c4] at eT0
      exact SimL_v h eC0 eT0
    rw [if_neg c4] at eC0 eT0
    obtain ⟨v, X', hb', M', _, t1, t2, t3, t4, t5, t6⟩ := sim_wil hN h (lk := k) (by omega)
    rw [t1] at eC0
    rw [t2] at eT0
    exact SimL_same h eC0 eT0 t3 t4 t5 t6
theorem OpL_v {C : Hp → Option (Int32 × Hp)} {T : TM → Option (Int32 × TM)} {v : Int32} (h : Wk A X hb M D b l s t u) (hC : C (ovC A X hb) = some (v, ovC A X hb)) (hT : T M = some (v, M)) : OpL A X hb M t C T := OpL_l (SimL_v h hC hT)
theorem op_compare (hN : 20000 ≤ N) (h : WK A X hb M Ds b l s t u) (a1 a2 a3 : Int32) : OpL A X hb M t (C_compare N (A.1 0) a1 a2 a3) (T_compare N a1 a2 a3) := by
  have hM := h.2.1
  have hS := h.2.2.1
  have h48 : fT M 0 48 = nn b := hS.nb
  have h48' : coC X 0 48 = nn b := by rw [hM.at (by omega), h48]
  have h49 : fT M 0 49 = nn l := hS.nl
  have h49' : coC X 0 49 = nn l := by rw [hM.at (by omega), h49]
  have ht : coC X 0 51 = nn t := by rw [hM.at (by omega), hS.nt]
  have h8 := hS.1.1
  have h4 := hS.1.2.1
  have h6 := hS.1.2.2.2.1
  have hW := WK_D h
  cases hp : (decide (a1 = -nn 1) || wi a1 (nn 0) (nn t - nn 1))
  · refine OpL_v (v := -1) hW ?_ ?_
    · simp only [C_compare, C_compare_b, og_0]
      rw [C_isW ht, hp, Option.bind_some, if_pos (by rfl)]
    · unfold T_compare
      rw [T_isW hS, hp, Option.bind_some, if_pos (by rfl)]
  cases hl1 : wi a2 (nn 0) (nn l - nn 1)
  · refine OpL_v (v := -1) hW ?_ ?_
    · simp only [C_compare, C_compare_b, og_0]
      rw [C_isW ht, hp, Option.bind_some, if_neg (by decide), C_isL, h49', hl1, Option.bind_some, if_pos (by rfl)]
    · unfold T_compare
      rw [T_isW hS, hp, Option.bind_some, if_neg (by decide), T_isL, h49, hl1, Option.bind_some, if_pos (by rfl)]
  cases hb1 : wi a3 (nn 0) (nn b - nn 1)
  · refine OpL_v (v := -1) hW ?_ ?_
    · simp only [C_compare, C_compare_b, og_0]
      rw [C_isW ht, hp, Option.bind_some, if_neg (by decide), C_isL, h49', hl1, Option.bind_some, if_neg (by decide), C_isB, h48', hb1, Option.bind_some, if_pos (by rfl)]
    · unfold T_compare
      rw [T_isW hS, hp, Option.bind_some, if_neg (by decide), T_isL, h49, hl1, Option.bind_some, if_neg (by decide), T_isB, h48, hb1, Option.bind_some, if_pos (by rfl)]
  obtain ⟨k, hk, rfl⟩ := isL_k hS hl1
  obtain ⟨j, hj, rfl⟩ := isB_k hS hb1
  have hbd : Bd b l s t u 0 52 a1 := by
    rw [Bool.or_eq_true] at hp
    rcases hp with hp | hp
    · exact Or.inl (of_decide_eq_true hp)
    · obtain ⟨n, e, hn⟩ := wi_nn (n := t) (by omega) hp
      exact Or.inr ⟨n, hn, e⟩
  have hM1 : Mt (coC (ws X 1 11 a1)) (fT (tw M 2 52 a1)) := by
    rw [co_nF, fT_k (by omega)]
    exact hM.up rfl
  have hS1 : SOb b l s t u (fT (tw M 2 52 a1)) := by
    rw [fT_k (by omega)]
    exact hS.up hbd
  have hg1 : ∀ g, 6 ≤ g → fT (tw M 2 52 a1) g = fT M g := by
    rw [fT_k (by omega)]
    exact up2_g6 (by omega) (fun _ _ => rfl)
  have hW1 := WK_D (WK_nx (M' := tw M 2 52 a1) (X' := ws X 1 11 a1) h hM1 hS1 rfl (Td_refl hb) (samA_refl A) (hg1 9 (by omega)))
  obtain ⟨v, X', hb', M', _, t1, t2, t3, t4, t5, t6⟩ := sim_gro hN hW1 (lk := k) (bb := j) (by omega) (by omega)
  have c3 := q28_co t3
  have f3 := TF_fT t6
  refine ⟨nn v, A, ws X' 1 11 (coC X 0 52), hb', tw M' 2 52 (fT M 0 52), ?_, ?_, ?_, ⟨b, l, s, u, ?_⟩, ?_, t5, samA_refl A, ?_⟩
  · simp only [C_compare, C_compare_b, og_0]
    rw [C_isW ht, hp, Option.bind_some, if_neg (by decide), C_isL, h49', hl1, Option.bind_some, if_neg (by decide), C_isB, h48', hb1, Option.bind_some, if_neg (by decide), og_0_0, Option.bind_some, og_1_11, Option.bind_some, Option.bind_some, op_1_11, Option.bind_some, t1, bd2_some, og_0_0, Option.bind_some, op_1_11, Option.bind_some, cr_nF]
  · unfold T_compare
    rw [T_isW hS, hp, Option.bind_some, if_neg (by decide), T_isL, h49, hl1, Option.bind_some, if_neg (by decide), T_isB, h48, hb1, Option.bind_some, if_neg (by decide), show (52 : Int32) = nn 52 from rfl, tra_nn (by omega) (by omega), Option.bind_some, twa_nn (by omega) (by omega), Option.bind_some, t2, bd2_some, twa_nn (by omega) (by omega), Option.bind_some, fT_0 (by omega)]
  · rw [co_nF, fT_k (by omega), c3, f3]
    exact hM1.up (hM.at (by omega) 52)
  · rw [fT_k (by omega), f3]
    exact hS1.up (hS.2 0 52)
  · exact t4
  · rw [fT_k (by omega), f3]
    exact up2_g6 (by omega) hg1
end W7
