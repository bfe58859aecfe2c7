/-! PLAIN LAW: both sides at work: growing, wilting, barring, what can be read -/
set_option maxRecDepth 100000
/-- both sides are alike, D the clauses in force -/
def Wk (A : AT) (X : XT) (hb : Hp) (M : TM) (D : List CDn) (b l s t u : Nat) : Prop := NB A hb ∧ Mt (coC X) (fT M) ∧ SOb b l s t u (fT M) ∧ LC A X hb D ∧ LD (M.2.2.1 2) D
theorem LD_mv {K K' : Nat → Int32} {D : List CDn} (h : LD K D) (hk : ∀ i, i = 52 ∨ (53 ≤ i ∧ i < 59) ∨ (60 ≤ i ∧ i < 2460) ∨ (2860 ≤ i ∧ i < 5260) → K' i = K i) : LD K' D := by
  rcases h with ⟨h1, h2⟩ | ⟨t, ht, h1, nt, hn, h2, h3, h4⟩
  · exact Or.inl ⟨by rw [hk 52 (Or.inl rfl)]; exact h1, h2⟩
  · have e1 : twC K' t nt = twC K t nt := by
      funext k
      unfold twC
      by_cases hk' : k < nt
      · rw [if_pos hk', if_pos hk', hk _ (by omega)]
      · rw [if_neg hk', if_neg hk']
    have e2 : twV K' t nt = twV K t nt := by
      funext k
      unfold twV
      by_cases hk' : k < nt
      · rw [if_pos hk', if_pos hk', hk _ (by omega)]
      · rw [if_neg hk', if_neg hk']
    exact Or.inr ⟨t, ht, by rw [hk 52 (Or.inl rfl)]; exact h1, nt, hn, by rw [hk _ (by omega)]; exact h2, by rw [e2]; exact h3, by rw [e1, e2]; exact h4⟩
section SM
variable {A : AT} {X : XT} {hb : Hp} {M : TM} {D : List CDn} {b l s t u N : Nat}
theorem Wk_mv {X' : XT} {hb' : Hp} {M' : TM} (h : Wk A X hb M D b l s t u) (h1 : q28 X' = q28 X) (h2 : X'.2.2 = X.2.2) (h3 : Td hb hb') (h4 : TF M M') : Wk A X' hb' M' D b l s t u := by
  obtain ⟨w1, w2, w3, w4, w5⟩ := h
  refine ⟨Td_NB h3 w1, ?_, ?_, LC_mv w4 (by rw [q28_co h1]) h2 h3.2.2.2.1, ?_⟩
  · rw [q28_co h1, TF_fT h4]; exact w2
  · rw [TF_fT h4]; exact w3
  · rw [h4.2.2.1 2 (by decide)]; exact w5
theorem Wk_K (h : Wk A X hb M D b l s t u) {i : Nat} (hi : i < 53) : coC X 0 i = M.2.2.1 2 i := by
  rw [h.2.1.at (by omega), fT_0 hi]
/-- the same is asked -/
theorem ev_eq (h : Wk A X hb M D b l s t u) {lk bb : Int32} (hl : ixl lk 4) (hbb : ixl bb 8) {x : Nat} (hx : x < 256) (hk : fT M 0 0 = nn x) : evC X lk bb = evT (M.2.2.1 2) lk bb (if lk = -1 then -1 else fT M 0 (1 + lk.toNatClampNeg)) (nn (pc 8 x)) (fT M 0 5) := by
  unfold evC evT
  rw [avT_congr (fun i hi => Wk_K h hi) hl hbb, h.2.1.at (by omega), h.2.1.at (by omega), h.2.1.at (by omega), hk, nn_cl (by omega)]
theorem pc8 (x : Nat) : pc 8 x ≤ 8 := pc_le 8 x
theorem sim_gro (hN : 20000 ≤ N) (h : Wk A X hb M D b l s t u) {lk bb : Nat} (hl : lk < 4) (hbb : bb < 8) : ∃ n X' hb' M', n ≤ 99 ∧ C_grows N (A.1 0) (nn lk) (nn bb) (ovC A X hb) = some (nn n, ovC A X' hb') ∧ T_growsNow N (nn lk) (nn bb) M = some (nn n, M') ∧ q28 X' = q28 X ∧ X'.2.2 = X.2.2 ∧ Td hb hb' ∧ TF M M' := by
  obtain ⟨x, hx, ex⟩ := h.2.2.1.known
  have hx' : x < 256 := Nat.lt_of_lt_of_le hx (pw_le h.2.2.1.1.1)
  obtain ⟨hi, hhi, ehi⟩ := h.2.2.1.high hl
  obtain ⟨dy, hdy, edy⟩ := h.2.2.1.day
  obtain ⟨le, hle, ele⟩ := h.2.2.1.len hbb
  obtain ⟨X', hb', c1, c2, c3, c4⟩ := C_gro hN h.1 h.2.2.2.1 hl hbb hx' (by rw [h.2.1.at (by omega), ex])
  have hev := ev_eq h (lk := nn lk) (bb := nn bb) (Or.inr ⟨lk, hl, rfl⟩) (Or.inr ⟨bb, hbb, rfl⟩) hx' ex
  rw [if_neg (nn_m1 (by omega)), nn_cl (by omega), ehi, edy] at hev
  have hpc := pc8 x
  obtain ⟨M', t1, t2⟩ := T_groBy (M := M) hN h.2.2.2.2 h.2.2.1 hl hbb (high := nn hi) (kn := nn (pc 8 x)) (day := nn dy) (sm_nn (by omega)) (sm_nn (by omega)) (sm_nn (by omega))
  have hwo : coC X 0 (6 + bb) = nn le := by rw [h.2.1.at (by omega), ele]
  have hwo' : M.2.2.1 2 (6 + bb) = nn le := by rw [fT_0 (by omega), ele]
  obtain ⟨n, hn, en⟩ := gr_val (D := D) (e := evT (M.2.2.1 2) (nn lk) (nn bb) (nn hi) (nn (pc 8 x)) (nn dy)) (k := le) (by omega)
  refine ⟨n, X', hb', M', hn, ?_, ?_, c2, c3, c4, t2⟩
  · rw [c1, hev, hwo, en]
  · unfold T_growsNow
    rw [show (1 : Int32) = nn 1 from rfl, nn_add, tra_nn (by omega) (by omega), fT_0 (by omega), ehi, Option.bind_some, show (0 : Int32) = nn 0 from rfl, tra_nn (by omega) (by omega), fT_0 (by omega), ex, Option.bind_some, T_on hN hx', Option.bind_some, show (5 : Int32) = nn 5 from rfl, tra_nn (by omega) (by omega), fT_0 (by omega), edy, Option.bind_some, bd2_eta, t1, hwo', en]
theorem sim_wil (hN : 20000 ≤ N) (h : Wk A X hb M D b l s t u) {lk : Nat} (hl : lk < 4) : ∃ n X' hb' M', n ≤ 9 ∧ C_wilts N (A.1 0) (nn lk) (ovC A X hb) = some (nn n, ovC A X' hb') ∧ T_wiltsNow N (nn lk) M = some (nn n, M') ∧ q28 X' = q28 X ∧ X'.2.2 = X.2.2 ∧ Td hb hb' ∧ TF M M' := by
  obtain ⟨x, hx, ex⟩ := h.2.2.1.known
  have hx' : x < 256 := Nat.lt_of_lt_of_le hx (pw_le h.2.2.1.1.1)
  obtain ⟨hi, hhi, ehi⟩ := h.2.2.1.high hl
  obtain ⟨dy, hdy, edy⟩ := h.2.2.1.day
  obtain ⟨X', hb', c1, c2, c3, c4⟩ := C_wil hN h.1 h.2.2.2.1 hl hx' (by rw [h.2.1.at (by omega), ex])
  have hev := ev_eq h (lk := nn lk) (bb := -1) (Or.inr ⟨lk, hl, rfl⟩) (Or.inl rfl) hx' ex
  rw [if_neg (nn_m1 (by omega)), nn_cl (by omega), ehi, edy] at hev
  have hpc := pc8 x
  obtain ⟨M1, M', t0, t1, t2⟩ := T_wilB (M := M) hN h.2.2.2.2 h.2.2.1 hl (high := nn hi) (kn := nn (pc 8 x)) (day := nn dy) (sm_nn (by omega)) (sm_nn (by omega)) (sm_nn (by omega))
  obtain ⟨n, hn, en⟩ := wi_val (D := D) (e := evT (M.2.2.1 2) (nn lk) (-1) (nn hi) (nn (pc 8 x)) (nn dy))
  refine ⟨n, X', hb', M', hn, ?_, ?_, c2, c3, c4, t2⟩
  · rw [c1, hev, en]
  · unfold T_wiltsNow
    rw [show tra M 2 5660 ((1 : Int32) + nn lk) = some (nn hi) by rw [show (1 : Int32) = nn 1 from rfl, nn_add, tra_nn (by omega) (by omega), fT_0 (by omega), ehi], Option.bind_some, show tra M 2 5660 (0 : Int32) = some (nn x) by rw [show (0 : Int32) = nn 0 from rfl, tra_nn (by omega) (by omega), fT_0 (by omega), ex], Option.bind_some, T_on hN hx', Option.bind_some, show (5 : Int32) = nn 5 from rfl, tra_nn (by omega) (by omega), fT_0 (by omega), edy, Option.bind_some, t0, Option.bind_some, bd2_eta, t1, en]
theorem sim_bar (hN : 20000 ≤ N) (h : Wk A X hb M D b l s t u) {bb : Nat} (hbb : bb < 8) : ∃ (p : Bool) (X' : XT) (hb' : Hp) (M' : TM), C_isBarred N (A.1 0) (nn bb) (ovC A X hb) = some (bz p, ovC A X' hb') ∧ T_isBarred N (nn bb) M = some (bz p, M') ∧ q28 X' = q28 X ∧ X'.2.2 = X.2.2 ∧ Td hb hb' ∧ TF M M' := by
  obtain ⟨x, hx, ex⟩ := h.2.2.1.known
  have hx' : x < 256 := Nat.lt_of_lt_of_le hx (pw_le h.2.2.1.1.1)
  obtain ⟨dy, hdy, edy⟩ := h.2.2.1.day
  obtain ⟨X', hb', c1, c2, c3, c4⟩ := C_bar hN h.1 h.2.2.2.1 hbb hx' (by rw [h.2.1.at (by omega), ex])
  have hev := ev_eq h (lk := -1) (bb := nn bb) (Or.inl rfl) (Or.inr ⟨bb, hbb, rfl⟩) hx' ex
  rw [if_pos rfl, edy] at hev
  have hpc := pc8 x
  obtain ⟨M', t1, t2⟩ := T_barB (M := M) hN h.2.2.2.2 h.2.2.1 hbb (kn := nn (pc 8 x)) (day := nn dy) (sm_nn (by omega)) (sm_nn (by omega))
  refine ⟨bav D (evT (M.2.2.1 2) (-1) (nn bb) (-1) (nn (pc 8 x)) (nn dy)), X', hb', M', ?_, ?_, c2, c3, c4, t2⟩
  · rw [c1, hev]
  · unfold T_isBarred
    rw [show (0 : Int32) = nn 0 from rfl, tra_nn (by omega) (by omega), fT_0 (by omega), ex, Option.bind_some, T_on hN hx', Option.bind_some, show (5 : Int32) = nn 5 from rfl, tra_nn (by omega) (by omega), fT_0 (by omega), edy, Option.bind_some, t1, bd2_some, rz_bz, Option.bind_some]
/-- one call that asks laws: equal answers, the states alike -/
def SimL (A : AT) (X : XT) (hb : Hp) (M : TM) (D : List CDn) (t : Nat) (C : Hp → Option (Int32 × Hp)) (T : TM → Option (Int32 × TM)) : Prop := ∃ v X' hb' M', C (ovC A X hb) = some (v, ovC A X' hb') ∧ T M = some (v, M') ∧ (∃ b l s u, Wk A X' hb' M' D b l s t u) ∧ X'.2.2 = X.2.2 ∧ Td hb hb' ∧ ∀ g, 6 ≤ g → fT M' g = fT M g
theorem SimL_same {C : Hp → Option (Int32 × Hp)} {T : TM → Option (Int32 × TM)} {v : Int32} {X' : XT} {hb' : Hp} {M' : TM} (h : Wk A X hb M D b l s t u) (hC : C (ovC A X hb) = some (v, ovC A X' hb')) (hT : T M = some (v, M')) (h1 : q28 X' = q28 X) (h2 : X'.2.2 = X.2.2) (h3 : Td hb hb') (h4 : TF M M') : SimL A X hb M D t C T := ⟨v, X', hb', M', hC, hT, ⟨b, l, s, u, Wk_mv h h1 h2 h3 h4⟩, h2, h3, fun g _ => by rw [TF_fT h4]⟩
theorem SimL_v {C : Hp → Option (Int32 × Hp)} {T : TM → Option (Int32 × TM)} {v : Int32} (h : Wk A X hb M D b l s t u) (hC : C (ovC A X hb) = some (v, ovC A X hb)) (hT : T M = some (v, M)) : SimL A X hb M D t C T := SimL_same h hC hT rfl rfl (Td_refl hb) (TF_refl M)
theorem op_of (hN : 20000 ≤ N) (h : Wk A X hb M D b l s t u) (a1 a2 : Int32) : SimL A X hb M D t (C_of N (A.1 0) a1 a2) (T_of N a1 a2) := by
  have h48 : fT M 0 48 = nn b := h.2.2.1.nb
  have h48' : coC X 0 48 = nn b := by rw [h.2.1.at (by omega), h48]
  have h8 := h.2.2.1.1.1
  cases hb1 : wi a1 (nn 0) (nn b - nn 1)
  · refine SimL_v (v := -1) h ?_ ?_
    · simp only [C_of, C_of_b, og_0]
      rw [C_isB, h48', hb1, Option.bind_some, if_pos (by rfl)]
    · unfold T_of
      rw [T_isB, h48, hb1, Option.bind_some, if_pos (by rfl)]
  obtain ⟨k, hk, rfl⟩ := isB_k h.2.2.1 hb1
  have eC : ∀ r, (if a2.toInt < 0 ∨ 5 < a2.toInt then some ((-1 : Int32), ovC A X hb) else if a2.toInt = 0 then some (coC X 0 (6 + k), ovC A X hb) else if a2.toInt = 1 then some (coC X 0 (14 + k), ovC A X hb) else if a2.toInt = 2 then some (coC X 0 (22 + k), ovC A X hb) else if a2.toInt = 3 then some ((if bz (bt (coC X 0 0) (nn k)) = 0 then (0 : Int32) else (1 : Int32)), ovC A X hb) else if a2.toInt = 4 then some ((if bz (opn (coC X 0 (22 + k)) (coC X 0 0) (nn k)) = 0 then (0 : Int32) else (1 : Int32)), ovC A X hb) else bd2 (C_isBarred N (A.1 0) (nn k) (ovC A X hb)) fun v36 h35 => some ((if v36 = 0 then (0 : Int32) else (1 : Int32)), h35)) = r → C_of N (A.1 0) (nn k) a2 (ovC A X hb) = r := by
    intro r hr
    rw [← hr]
    simp only [C_of, C_of_b, og_0]
    rw [C_isB, h48', hb1, Option.bind_some, if_neg (by decide), og_0_0, Option.bind_some, og_1_1, Option.bind_some, oa_2 (by omega), Option.bind_some, Option.bind_some, og_1_2, Option.bind_some, oa_3 (by omega), Option.bind_some, Option.bind_some, og_1_3, Option.bind_some, oa_4 (by omega), Option.bind_some, C_isR, Option.bind_some, C_bks, Option.bind_some, og_15_1, Option.bind_some, C_isO _ (by omega), Option.bind_some, cr_len (by omega), cr_kind (by omega), cr_need (by omega), cr_known]
  have eT : ∀ r, (if a2.toInt < 0 ∨ 5 < a2.toInt then some ((-1 : Int32), M) else if a2.toInt = 0 then some (fT M 0 (6 + k), M) else if a2.toInt = 1 then some (fT M 0 (14 + k), M) else if a2.toInt = 2 then some (fT M 0 (22 + k), M) else if a2.toInt = 3 then some ((if bz (bt (fT M 0 0) (nn k)) = 0 then (0 : Int32) else (1 : Int32)), M) else if a2.toInt = 4 then some ((if bz (opn (fT M 0 (22 + k)) (fT M 0 0) (nn k)) = 0 then (0 : Int32) else (1 : Int32)), M) else bd2 (T_isBarred N (nn k) M) fun v9 M8 => some ((if v9 = 0 then (0 : Int32) else (1 : Int32)), M8)) = r → T_of N (nn k) a2 M = r := by
    intro r hr
    rw [← hr]
    unfold T_of
    rw [T_isB, h48, hb1, Option.bind_some, if_neg (by decide), show (6 : Int32) = nn 6 from rfl, nn_add, tra_nn (by omega) (by omega), Option.bind_some, show (14 : Int32) = nn 14 from rfl, nn_add, tra_nn (by omega) (by omega), Option.bind_some, show (22 : Int32) = nn 22 from rfl, nn_add, tra_nn (by omega) (by omega), Option.bind_some, T_isR, Option.bind_some, show tra M 2 5660 (0 : Int32) = some (fT M 0 0) by rw [show (0 : Int32) = nn 0 from rfl, tra_nn (by omega) (by omega), fT_0 (by omega)], Option.bind_some, T_isO M _ (by omega), Option.bind_some, fT_0 (by omega), fT_0 (by omega), fT_0 (by omega)]
  have m : ∀ i, coC X 0 i = fT M 0 i := fun i => h.2.1.at (by omega) i
  rw [m, m, m, m] at eC
  by_cases c0 : a2.toInt < 0 ∨ 5 < a2.toInt
  · exact SimL_v h (eC _ (if_pos c0)) (eT _ (if_pos c0))
  by_cases c1 : a2.toInt = 0
  · exact SimL_v h (eC _ (by rw [if_neg c0, if_pos c1])) (eT _ (by rw [if_neg c0, if_pos c1]))
  by_cases c2 : a2.toInt = 1
  · exact SimL_v h (eC _ (by rw [if_neg c0, if_neg c1, if_pos c2])) (eT _ (by rw [if_neg c0, if_neg c1, if_pos c2]))
  by_cases c3 : a2.toInt = 2
  · exact SimL_v h (eC _ (by rw [if_neg c0, if_neg c1, if_neg c2, if_pos c3])) (eT _ (by rw [if_neg c0, if_neg c1, if_neg c2, if_pos c3]))
  by_cases c4 : a2.toInt = 3
  · exact SimL_v h (eC _ (by rw [if_neg c0, if_neg c1, if_neg c2, if_neg c3, if_pos c4])) (eT _ (by rw [if_neg c0, if_neg c1, if_neg c2, if_neg c3, if_pos c4]))
  by_cases c5 : a2.toInt = 4
  · exact SimL_v h (eC _ (by rw [if_neg c0, if_neg c1, if_neg c2, if_neg c3, if_neg c4, if_pos c5])) (eT _ (by rw [if_neg c0, if_neg c1, if_neg c2, if_neg c3, if_neg c4, if_pos c5]))
  obtain ⟨p, X', hb', M', t1, t2, t3, t4, t5, t6⟩ := sim_bar hN h (bb := k) (by omega)
  refine SimL_same h (eC _ (by rw [if_neg c0, if_neg c1, if_neg c2, if_neg c3, if_neg c4, if_neg c5, t1, bd2_some])) (eT _ (by rw [if_neg c0, if_neg c1, if_neg c2, if_neg c3, if_neg c4, if_neg c5, t2, bd2_some])) t3 t4 t5 t6
end SM
