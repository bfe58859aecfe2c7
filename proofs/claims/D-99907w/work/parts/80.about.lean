/-! PLAIN LAW: the component's numbers asked; growing, wilting, barring on both sides -/
set_option maxRecDepth 100000
theorem avT_congr {K K' : Nat → Int32} (h : ∀ i, i < 53 → K i = K' i) {lk b high kn day : Int32} (hl : ixl lk 4) (hb : ixl b 8) : avT K lk b high kn day = avT K' lk b high kn day := by
  funext w
  unfold avT
  have h1 : (if lk = -1 then (-1 : Int32) else K (30 + lk.toNatClampNeg)) = (if lk = -1 then (-1 : Int32) else K' (30 + lk.toNatClampNeg)) := by
    split
    · rfl
    · next hne =>
      rcases hl with z | ⟨k, hk, z⟩
      · exact absurd z hne
      · rw [z, nn_cl (by omega)]
        exact h _ (by omega)
  have h2 : ∀ o, o ≤ 14 → (if b = -1 then (-1 : Int32) else K (o + b.toNatClampNeg)) = (if b = -1 then (-1 : Int32) else K' (o + b.toNatClampNeg)) := by
    intro o ho
    split
    · rfl
    · next hne =>
      rcases hb with z | ⟨k, hk, z⟩
      · exact absurd z hne
      · rw [z, nn_cl (by omega)]
        exact h _ (by omega)
  rw [h1, h2 6 (by omega), h2 14 (by omega), h 47 (by omega)]
theorem nn_m1 {n : Nat} (h : n < 2147483648) : ¬ nn n = (-1 : Int32) := by
  intro z
  have := congrArg Int32.toInt z
  rw [nn_toInt h] at this
  have e1 : (-1 : Int32).toInt = -1 := by decide
  omega
section AB
variable {A : AT} {X : XT} {hb : Hp} {e : EV} {N : Nat} {M : TM} {b l s t u : Nat}
theorem C_abt {lk bb : Int32} (hl : ixl lk 4) (hbb : ixl bb 8) {x : Nat} (hx : x < 256) (hk : coC X 0 0 = nn x) : ∃ X1, C_about (A.1 0) lk bb (ovC A X hb) = some (ovC A X1 hb) ∧ X1.1 = X.1 ∧ X1.2.2 = X.2.2 ∧ ∀ w, w < 9 → X1.2.1 29 w = (avT (coC X 0) lk bb (if lk = -1 then -1 else coC X 0 (1 + lk.toNatClampNeg)) (nn (pc 8 x)) (coC X 0 5) w).toInt64 := by
  have i1 : (-1 : Int64) = (-1 : Int32).toInt64 := by decide
  have h141 : ∀ (Y : XT) (v : Int64), Y.1 = X.1 → C_about_J141 (A.1 0) v (5 : Int32) (A.1 29) (ovC A Y hb) = some (ovC A (wl (wl (wl (wl Y 29 5 v) 29 6 (nn (pc 8 x)).toInt64) 29 7 (coC X 0 5).toInt64) 29 8 (coC X 0 47).toInt64) hb) := by
    intro Y v hY
    unfold C_about_J141
    rw [show (5 : Int32) = nn 5 from rfl, os_29 (by omega), Option.bind_some, og_0_6, Option.bind_some, og_28_0, Option.bind_some, C_bks, Option.bind_some, og_15_1, Option.bind_some, wl_1, hY, cr_known, hk, C_on hx, Option.bind_some, show (6 : Int32) = nn 6 from rfl, os_29 (by omega), Option.bind_some, og_0_6, Option.bind_some, og_28_0, Option.bind_some, C_bks, Option.bind_some, og_15_2, Option.bind_some, wl_1, wl_1, hY, cr_day, show (7 : Int32) = nn 7 from rfl, os_29 (by omega), Option.bind_some, og_0_6, Option.bind_some, og_28_0, Option.bind_some, og_0_0, Option.bind_some, og_1_5, Option.bind_some, show (2 : Int32) = nn 2 from rfl, oa_6 (by omega), Option.bind_some, wl_1, wl_1, wl_1, hY, cr_term (by omega) (by omega), show (8 : Int32) = nn 8 from rfl, os_29 (by omega), Option.bind_some]
  have h111 : ∀ (Y : XT) (v : Int64), Y.1 = X.1 → C_about_J111 (A.1 0) bb v (4 : Int32) (A.1 29) (ovC A Y hb) = some (ovC A (wl (wl (wl (wl (wl Y 29 4 v) 29 5 (if bb = -1 then (-1 : Int32) else coC X 0 (14 + bb.toNatClampNeg)).toInt64) 29 6 (nn (pc 8 x)).toInt64) 29 7 (coC X 0 5).toInt64) 29 8 (coC X 0 47).toInt64) hb) := by
    intro Y v hY
    unfold C_about_J111
    rw [show (4 : Int32) = nn 4 from rfl, os_29 (by omega), Option.bind_some, og_0_6, Option.bind_some, og_28_0, Option.bind_some]
    rcases hbb with z | ⟨k, hk8, z⟩
    · rw [if_pos z, if_pos z, i1, h141 _ _ (by rw [wl_1, hY])]
    · have hne : ¬ bb = -1 := by rw [z]; exact nn_m1 (by omega)
      rw [if_neg hne, if_neg hne, og_0_0, Option.bind_some, og_1_2, Option.bind_some, z, oa_3 hk8, Option.bind_some, wl_1, hY, cr_kind hk8, h141 _ _ (by rw [wl_1, hY]), nn_cl (by omega)]
  have h70 : ∀ (Y : XT) (v : Int64), Y.1 = X.1 → C_about_J70 (A.1 0) bb v (2 : Int32) (A.1 29) (ovC A Y hb) = some (ovC A (wl (wl (wl (wl (wl (wl (wl Y 29 2 v) 29 3 bb.toInt64) 29 4 (if bb = -1 then (-1 : Int32) else coC X 0 (6 + bb.toNatClampNeg)).toInt64) 29 5 (if bb = -1 then (-1 : Int32) else coC X 0 (14 + bb.toNatClampNeg)).toInt64) 29 6 (nn (pc 8 x)).toInt64) 29 7 (coC X 0 5).toInt64) 29 8 (coC X 0 47).toInt64) hb) := by
    intro Y v hY
    unfold C_about_J70
    rw [show (2 : Int32) = nn 2 from rfl, os_29 (by omega), Option.bind_some, og_0_6, Option.bind_some, og_28_0, Option.bind_some, show (3 : Int32) = nn 3 from rfl, os_29 (by omega), Option.bind_some, og_0_6, Option.bind_some, og_28_0, Option.bind_some]
    by_cases hb1 : bb = -1
    · rw [if_pos hb1, if_pos hb1, i1, h111 _ _ (by rw [wl_1, wl_1, hY])]
    · obtain ⟨k, hk8, z⟩ : ∃ k, k < 8 ∧ bb = nn k := by
        rcases hbb with z | z
        · exact absurd z hb1
        · exact z
      have hv : aI (ovC A (wl (wl Y 29 2 v) 29 3 bb.toInt64) hb) (A.1 2) 0 bb = some (coC X 0 (6 + bb.toNatClampNeg)) := by
        rw [z, oa_2 hk8, wl_1, wl_1, hY, cr_len hk8, nn_cl (by omega)]
      rw [if_neg hb1, if_neg hb1, og_0_0, Option.bind_some, og_1_1, Option.bind_some, hv, Option.bind_some, h111 _ _ (by rw [wl_1, wl_1, hY])]
  have h40 : ∀ (Y : XT) (v : Int64), Y.1 = X.1 → C_about_J40 (A.1 0) lk bb v (1 : Int32) (A.1 29) (ovC A Y hb) = some (ovC A (wl (wl (wl (wl (wl (wl (wl (wl Y 29 1 v) 29 2 (if lk = -1 then (-1 : Int32) else coC X 0 (1 + lk.toNatClampNeg)).toInt64) 29 3 bb.toInt64) 29 4 (if bb = -1 then (-1 : Int32) else coC X 0 (6 + bb.toNatClampNeg)).toInt64) 29 5 (if bb = -1 then (-1 : Int32) else coC X 0 (14 + bb.toNatClampNeg)).toInt64) 29 6 (nn (pc 8 x)).toInt64) 29 7 (coC X 0 5).toInt64) 29 8 (coC X 0 47).toInt64) hb) := by
    intro Y v hY
    unfold C_about_J40
    rw [show sL (ovC A Y hb) (A.1 29) 3 (1 : Int32) v = some (ovC A (wl Y 29 1 v) hb) from os_29 (i := 1) (by omega), Option.bind_some, og_0_6, Option.bind_some, og_28_0, Option.bind_some]
    by_cases hl1 : lk = -1
    · rw [if_pos hl1, if_pos hl1, i1, h70 _ _ (by rw [wl_1, hY])]
    · obtain ⟨k, hk4, z⟩ : ∃ k, k < 4 ∧ lk = nn k := by
        rcases hl with z | z
        · exact absurd z hl1
        · exact z
      have hv : aI (ovC A (wl Y 29 1 v) hb) (A.1 16) 0 lk = some (coC X 0 (1 + lk.toNatClampNeg)) := by
        rw [z, oa_16 hk4, wl_1, hY, cr_high hk4, nn_cl (by omega)]
      rw [if_neg hl1, if_neg hl1, C_bks, Option.bind_some, og_15_0, Option.bind_some, hv, Option.bind_some, h70 _ _ (by rw [wl_1, hY])]
  have hall : ∃ v, v = (if lk = -1 then (-1 : Int32) else coC X 0 (30 + lk.toNatClampNeg)).toInt64 ∧ C_about (A.1 0) lk bb (ovC A X hb) = C_about_J40 (A.1 0) lk bb v (1 : Int32) (A.1 29) (ovC A (wl X 29 0 lk.toInt64) hb) := by
    refine ⟨_, rfl, ?_⟩
    unfold C_about C_about_b
    rw [og_0, og_0_6, Option.bind_some, og_28_0, Option.bind_some, show (0 : Int32) = nn 0 from rfl, os_29 (by omega), Option.bind_some, og_0_6, Option.bind_some, og_28_0, Option.bind_some]
    by_cases hl1 : lk = -1
    · rw [if_pos hl1, if_pos hl1, i1]
    · obtain ⟨k, hk4, z⟩ : ∃ k, k < 4 ∧ lk = nn k := by
        rcases hl with z | z
        · exact absurd z hl1
        · exact z
      have hv : aI (ovC A (wl X 29 0 lk.toInt64) hb) (A.1 5) 0 lk = some (coC X 0 (30 + lk.toNatClampNeg)) := by
        rw [z, oa_5 hk4, wl_1, cr_like hk4, nn_cl (by omega)]
      rw [if_neg hl1, if_neg hl1, og_0_0, Option.bind_some, og_1_4, Option.bind_some, hv, Option.bind_some]
  obtain ⟨v, hv, hA⟩ := hall
  refine ⟨_, hA.trans (h40 (wl X 29 0 lk.toInt64) v rfl), ?_, ?_, fun w hw => ?_⟩
  · rfl
  · rfl
  have hc : w = 0 ∨ w = 1 ∨ w = 2 ∨ w = 3 ∨ w = 4 ∨ w = 5 ∨ w = 6 ∨ w = 7 ∨ w = 8 := by omega
  rcases hc with rfl | rfl | rfl | rfl | rfl | rfl | rfl | rfl | rfl
  · rfl
  · exact hv
  · rfl
  · rfl
  · rfl
  · rfl
  · rfl
  · rfl
  · rfl
/-- sums do not lack where heads want them -/
theorem fold01 {D : List CDn} (h : ∀ c ∈ D, okC c) {hd : Nat} (hd2 : hd < 2) (top : Int64) (e : EV) (x : Int64) : D.foldl (tlF 0 hd top e) x = D.foldl (tlF 1 hd top e) x := by
  induction D generalizing x with
  | nil => rfl
  | cons c D ih =>
    show D.foldl (tlF 0 hd top e) (tlF 0 hd top e x c) = D.foldl (tlF 1 hd top e) (tlF 1 hd top e x c)
    have e1 : tlF 0 hd top e x c = tlF 1 hd top e x c := by
      unfold tlF
      by_cases hc : c.1 = hd
      · have hs : c.2.1 ≠ none := fun z => by
          have := (h c (List.mem_cons_self)).2.mpr z
          omega
        unfold clV
        cases hsm : c.2.1 with
        | none => exact absurd hsm hs
        | some f => rfl
      · rw [if_neg hc, if_neg hc]
    rw [e1, ih (fun c' hc' => h c' (List.mem_cons_of_mem _ hc'))]
theorem fold_b {D : List CDn} {d : Int64} {hd : Nat} {top x : Int64} {e : EV} (ht : 0 ≤ top.toInt) (hx : 0 ≤ x.toInt ∧ x.toInt ≤ top.toInt) : 0 ≤ (D.foldl (tlF d hd top e) x).toInt ∧ (D.foldl (tlF d hd top e) x).toInt ≤ top.toInt := by
  induction D generalizing x with
  | nil => exact hx
  | cons c D ih =>
    show 0 ≤ (D.foldl (tlF d hd top e) (tlF d hd top e x c)).toInt ∧ _
    apply ih
    unfold tlF
    split
    · split
      · next v _ =>
        unfold clamp
        split
        · exact ⟨by decide, ht⟩
        · next h1 =>
          split
          · exact ⟨ht, Int.le_refl _⟩
          · next h2 =>
            rw [Int64.lt_iff_toInt_lt] at h1 h2
            have e0 : (0 : Int64).toInt = 0 := by decide
            omega
      · exact hx
    · exact hx
theorem fold_bar {D : List CDn} (h : ∀ c ∈ D, okC c) (e : EV) (x : Int64) (hx : x = 0 ∨ x = 1) : D.foldl (tlF 1 2 (1 : Int32).toInt64 e) x = if x = 1 ∨ (D.any fun c => decide (c.1 = 2) && (clV 0 c e).isSome) = true then 1 else 0 := by
  induction D generalizing x with
  | nil =>
    show x = _
    rcases hx with z | z
    · subst z; simp
    · subst z; simp
  | cons c D ih =>
    show D.foldl (tlF 1 2 (1 : Int32).toInt64 e) (tlF 1 2 (1 : Int32).toInt64 e x c) = _
    have hD : ∀ c' ∈ D, okC c' := fun c' hc' => h c' (List.mem_cons_of_mem _ hc')
    have hval : tlF 1 2 (1 : Int32).toInt64 e x c = if x = 1 ∨ (decide (c.1 = 2) && (clV 0 c e).isSome) = true then 1 else 0 := by
      unfold tlF
      by_cases hc : c.1 = 2
      · rw [if_pos hc, decide_eq_true hc, Bool.true_and]
        have hs : c.2.1 = none := (h c (List.mem_cons_self)).2.mp hc
        unfold clV
        rw [hs]
        by_cases ht : clT c.2.2 e = true
        · simp only [ht, if_true]
          have : clamp (1 : Int32).toInt64 1 = 1 := by decide
          rw [this]
          simp
        · simp only [ht, if_false]
          rcases hx with z | z
          · subst z; simp
          · subst z; simp
      · rw [if_neg hc, decide_eq_false hc, Bool.false_and]
        rcases hx with z | z
        · subst z; simp
        · subst z; simp
    rw [hval, ih hD _ (by split; exact Or.inr rfl; exact Or.inl rfl), List.any_cons]
    by_cases h1 : x = 1
    · simp [h1]
    · by_cases h2 : (decide (c.1 = 2) && (clV 0 c e).isSome) = true
      · simp [h2]
      · simp only [h1, h2, false_or, if_false]
        cases (D.any fun c => decide (c.1 = 2) && (clV 0 c e).isSome) <;> decide
/-- by how much a leek grows: both sides -/
theorem gr_val {D : List CDn} {e : EV} {k : Nat} (hk : k ≤ 99) : ∃ n, n ≤ 99 ∧ grv D e (nn k) = nn n := by
  have h := fold_b (D := D) (d := 1) (hd := 0) (top := (99 : Int32).toInt64) (x := (nn k).toInt64) (e := e) (by decide) (by
    rw [Int32.toInt_toInt64, nn_toInt (by omega)]
    have : (Int32.toInt64 99).toInt = 99 := by decide
    omega)
  have h99 : (Int32.toInt64 99).toInt = 99 := by decide
  rw [h99] at h
  refine ⟨(D.foldl (tlF 1 0 (99 : Int32).toInt64 e) (nn k).toInt64).toInt.toNat, by omega, ?_⟩
  unfold grv
  apply Int32.toInt.inj
  rw [nn_toInt (by omega), Int64.toInt_toInt32]
  rw [Int.bmod_eq_of_le (by show -(2 ^ 32 / 2 : Int) ≤ _; omega) (by show _ < ((2 ^ 32 : Nat) + 1 : Int) / 2; omega)]
  omega
theorem wi_val {D : List CDn} {e : EV} : ∃ n, n ≤ 9 ∧ wiv D e = nn n := by
  have h := fold_b (D := D) (d := 1) (hd := 1) (top := (9 : Int32).toInt64) (x := (0 : Int32).toInt64) (e := e) (by decide) (by decide)
  have h9 : (Int32.toInt64 9).toInt = 9 := by decide
  rw [h9] at h
  refine ⟨(D.foldl (tlF 1 1 (9 : Int32).toInt64 e) (0 : Int32).toInt64).toInt.toNat, by omega, ?_⟩
  unfold wiv
  apply Int32.toInt.inj
  rw [nn_toInt (by omega), Int64.toInt_toInt32]
  rw [Int.bmod_eq_of_le (by show -(2 ^ 32 / 2 : Int) ≤ _; omega) (by show _ < ((2 ^ 32 : Nat) + 1 : Int) / 2; omega)]
  omega
/-- what the component is asked -/
noncomputable def evC (X : XT) (lk bb : Int32) : EV := evT (coC X 0) lk bb (if lk = -1 then -1 else coC X 0 (1 + lk.toNatClampNeg)) (nn (pc 8 (coC X 0 0).toNatClampNeg)) (coC X 0 5)
theorem C_abt2 {lk bb : Int32} (hl : ixl lk 4) (hbb : ixl bb 8) {x : Nat} (hx : x < 256) (hk : coC X 0 0 = nn x) : ∃ X1, C_about (A.1 0) lk bb (ovC A X hb) = some (ovC A X1 hb) ∧ X1.1 = X.1 ∧ X1.2.2 = X.2.2 ∧ CEv false A X1 hb (evC X lk bb) := by
  obtain ⟨X1, h1, h2, h3, h4⟩ := C_abt (A := A) (hb := hb) hl hbb hx hk
  refine ⟨X1, h1, h2, h3, fun w hw _ => ?_, fun z => by cases z⟩
  show X1.2.1 29 w = _
  rw [h4 w hw]
  unfold evC evT
  rw [hk, nn_cl (by omega)]
theorem co_1 {X Y : XT} (h : Y.1 = X.1) : coC Y = coC X := by
  have hv : ∀ g i, cLv Y g i = cLv X g i := by
    intro g i
    unfold cLv
    rw [h]
  funext g i
  by_cases hc : cR g i = true ∧ cLv X g i
  · rw [coC_p hc.1 hc.2, coC_p hc.1 (by rw [hv]; exact hc.2), h]
  · rw [coC_n hc, coC_n (by rw [hv]; exact hc)]
theorem LC_mv {D : List CDn} {X1 : XT} {hb1 : Hp} (h : LC A X hb D) (h1 : coC X1 0 = coC X 0) (h2 : X1.2.2 = X.2.2) (hx : Ex hb hb1) : LC A X1 hb1 D := by
  refine ⟨h.1, ?_⟩
  rcases h.2 with ⟨h3, h4⟩ | ⟨t, a, m, q, ht, h3, h4, h5, h6, h7, h8⟩
  · exact Or.inl ⟨by rw [h1]; exact h3, h4⟩
  · exact Or.inr ⟨t, a, m, q, ht, by rw [h1]; exact h3, by rw [h1]; exact h4, by rw [h2]; exact Ex_o hx h5 (fun l z => by cases z), h6, h7, TxR_ex hx h8⟩
theorem C_gro (hN : 20000 ≤ N) {D : List CDn} (n : NB A hb) (hD : LC A X hb D) {lk bb : Nat} (hl : lk < 4) (hbb : bb < 8) {x : Nat} (hx : x < 256) (hk : coC X 0 0 = nn x) : ∃ X' hb', C_grows N (A.1 0) (nn lk) (nn bb) (ovC A X hb) = some (grv D (evC X (nn lk) (nn bb)) (coC X 0 (6 + bb)), ovC A X' hb') ∧ q28 X' = q28 X ∧ X'.2.2 = X.2.2 ∧ Td hb hb' := by
  obtain ⟨X1, h1, h2, h3, h4⟩ := C_abt2 (A := A) (hb := hb) (lk := nn lk) (bb := nn bb) (Or.inr ⟨lk, hl, rfl⟩) (Or.inr ⟨bb, hbb, rfl⟩) hx hk
  have hc1 := co_1 h2
  have hq1 := q28_1 h2
  have hD1 := LC_mv hD (by rw [hc1]) h3 (Ex_refl hb)
  obtain ⟨a, g1, g2⟩ := c_law1 n hD1
  have hst : C_grows N (A.1 0) (nn lk) (nn bb) (ovC A X hb) = X5_tells N a (nn 0) (A.1 28) (coC X 0 (6 + bb)) 99 (ovC A X1 hb) := by
    unfold C_grows C_grows_b
    rw [og_0, h1, Option.bind_some, g1, bd2_some, og_0_6, Option.bind_some, og_0_0, Option.bind_some, og_1_1, Option.bind_some, oa_2 hbb, Option.bind_some, bd2_eta, cr_len hbb, hc1]
    rfl
  rw [hst]
  unfold grv
  rcases g2 with ⟨rfl, rfl⟩ | g2
  · rw [c_tells0 hN]
    refine ⟨X1, hb, ?_, hq1, h3, Td_refl hb⟩
    show _ = some ((coC X 0 (6 + bb)).toInt64.toInt32, _)
    rw [i64_32]
  · obtain ⟨X2, hb2, t1, t2, t3, t4⟩ := c_tells hN (hd := 0) (by omega) (top := 99) (wo := coC X 0 (6 + bb)) (by decide) hD.1 n g2 h4
    rw [fold01 hD.1 (by omega)] at t1
    exact ⟨X2, hb2, t1, by rw [t2, hq1], by rw [t3, h3], t4⟩
theorem C_wil (hN : 20000 ≤ N) {D : List CDn} (n : NB A hb) (hD : LC A X hb D) {lk : Nat} (hl : lk < 4) {x : Nat} (hx : x < 256) (hk : coC X 0 0 = nn x) : ∃ X' hb', C_wilts N (A.1 0) (nn lk) (ovC A X hb) = some (wiv D (evC X (nn lk) (-1)), ovC A X' hb') ∧ q28 X' = q28 X ∧ X'.2.2 = X.2.2 ∧ Td hb hb' := by
  obtain ⟨X1, h1, h2, h3, h4⟩ := C_abt2 (A := A) (hb := hb) (lk := nn lk) (bb := -1) (Or.inr ⟨lk, hl, rfl⟩) (Or.inl rfl) hx hk
  have hc1 := co_1 h2
  have hq1 := q28_1 h2
  have hD1 := LC_mv hD (by rw [hc1]) h3 (Ex_refl hb)
  obtain ⟨a, g1, g2⟩ := c_law1 n hD1
  have hst : C_wilts N (A.1 0) (nn lk) (ovC A X hb) = X5_tells N a (nn 1) (A.1 28) 0 9 (ovC A X1 hb) := by
    unfold C_wilts C_wilts_b
    rw [og_0, h1, Option.bind_some, g1, bd2_some, og_0_6, Option.bind_some, bd2_eta]
    rfl
  rw [hst]
  unfold wiv
  rcases g2 with ⟨rfl, rfl⟩ | g2
  · rw [c_tells0 hN]
    exact ⟨X1, hb, rfl, hq1, h3, Td_refl hb⟩
  · obtain ⟨X2, hb2, t1, t2, t3, t4⟩ := c_tells hN (hd := 1) (by omega) (top := 9) (wo := 0) (by decide) hD.1 n g2 h4
    rw [fold01 hD.1 (by omega)] at t1
    exact ⟨X2, hb2, t1, by rw [t2, hq1], by rw [t3, h3], t4⟩
theorem C_bar (hN : 20000 ≤ N) {D : List CDn} (n : NB A hb) (hD : LC A X hb D) {bb : Nat} (hbb : bb < 8) {x : Nat} (hx : x < 256) (hk : coC X 0 0 = nn x) : ∃ X' hb', C_isBarred N (A.1 0) (nn bb) (ovC A X hb) = some (bz (bav D (evC X (-1) (nn bb))), ovC A X' hb') ∧ q28 X' = q28 X ∧ X'.2.2 = X.2.2 ∧ Td hb hb' := by
  obtain ⟨X1, h1, h2, h3, h4⟩ := C_abt2 (A := A) (hb := hb) (lk := -1) (bb := nn bb) (Or.inl rfl) (Or.inr ⟨bb, hbb, rfl⟩) hx hk
  have hc1 := co_1 h2
  have hq1 := q28_1 h2
  have hD1 := LC_mv hD (by rw [hc1]) h3 (Ex_refl hb)
  obtain ⟨a, g1, g2⟩ := c_law1 n hD1
  have hst : ∀ v h', X5_has N a (nn 2) (A.1 28) (ovC A X1 hb) = some (bz v, h') → C_isBarred N (A.1 0) (nn bb) (ovC A X hb) = some (bz v, h') := by
    intro v h' hh
    unfold C_isBarred C_isBarred_b
    rw [og_0, h1, Option.bind_some, g1, bd2_some, og_0_6, Option.bind_some, show (2 : Int32) = nn 2 from rfl, hh, bd2_some, rz_bz, Option.bind_some]
  rcases g2 with ⟨rfl, rfl⟩ | g2
  · refine ⟨X1, hb, ?_, hq1, h3, Td_refl hb⟩
    have := hst false _ (c_has0 hN)
    rw [this]
    rfl
  · obtain ⟨X2, hb2, t1, t2, t3, t4⟩ := c_has hN hD.1 n g2 h4
    refine ⟨X2, hb2, ?_, by rw [t2, hq1], by rw [t3, h3], t4⟩
    rw [hst _ _ t1]
    congr 3
    unfold bav
    rw [fold_bar hD.1 _ (0 : Int32).toInt64 (Or.inl (by decide))]
    cases (D.any fun c => decide (c.1 = 2) && (clV 0 c (evC X (-1) (nn bb))).isSome) <;> decide
end AB
