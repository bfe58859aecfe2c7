/-! PLAIN LAW: what of the component's state lasts, in the Model's own order -/
set_option maxRecDepth 100000
/-- where an entry lies: place, field -/
def cL (g i : Nat) : Nat × Nat :=
  if g = 0 then
    (if i = 0 then (15, 1) else if i < 5 then (16, i - 1) else if i = 5 then (15, 2) else if i < 14 then (2, i - 6) else if i < 22 then (3, i - 14) else if i < 30 then (4, i - 22) else if i < 34 then (5, i - 30) else if i < 46 then (8 + (i - 34) / 2, (i - 34) % 2) else if i < 48 then (6, i - 45) else if i = 48 then (1, 8) else if i = 49 then (1, 9) else if i = 50 then (1, 10) else if i = 51 then (14, 2) else (1, 11))
  else if g = 1 then (if i = 0 then (0, 10) else if i = 1 then (0, 11) else if i = 2 then (0, 12) else if i = 3 then (0, 13) else if i = 4 then (0, 15) else if i = 5 then (18, 1) else (0, 29))
  else if g = 2 then (34, i)
  else if g = 3 then (35, i)
  else if g = 4 then (if i % 7 = 0 then (50 + 2 * (i / 7), 1) else if i % 7 < 5 then (51 + 2 * (i / 7), i % 7 - 1) else if i % 7 = 5 then (50 + 2 * (i / 7), 2) else (50 + 2 * (i / 7), 3))
  else (if i = 0 then (26, 1) else if i < 5 then (27, i - 1) else (0, 30))
/-- and back; (99, 0): nothing that lasts -/
def cIn (j k : Nat) : Nat × Nat :=
  if j = 15 then (if k = 1 then (0, 0) else if k = 2 then (0, 5) else (99, 0))
  else if j = 16 then (0, 1 + k) else if j = 2 then (0, 6 + k) else if j = 3 then (0, 14 + k) else if j = 4 then (0, 22 + k) else if j = 5 then (0, 30 + k)
  else if 8 ≤ j ∧ j < 14 then (0, 34 + 2 * (j - 8) + k)
  else if j = 6 then (if k = 0 then (99, 0) else (0, 45 + k))
  else if j = 1 then (if k = 8 then (0, 48) else if k = 9 then (0, 49) else if k = 10 then (0, 50) else if k = 11 then (0, 52) else (99, 0))
  else if j = 14 then (if k = 2 then (0, 51) else (99, 0))
  else if j = 0 then (if k = 10 then (1, 0) else if k = 11 then (1, 1) else if k = 12 then (1, 2) else if k = 13 then (1, 3) else if k = 15 then (1, 4) else if k = 29 then (1, 6) else if k = 30 then (5, 5) else (99, 0))
  else if j = 18 then (if k = 1 then (1, 5) else (99, 0))
  else if j = 34 then (2, k) else if j = 35 then (3, k)
  else if 50 ≤ j ∧ j < 82 then (if j % 2 = 0 then (if k = 1 then (4, 7 * ((j - 50) / 2)) else if k = 2 then (4, 7 * ((j - 50) / 2) + 5) else if k = 3 then (4, 7 * ((j - 50) / 2) + 6) else (99, 0)) else (4, 7 * ((j - 50) / 2) + 1 + k))
  else if j = 26 then (if k = 1 then (5, 0) else (99, 0))
  else if j = 27 then (5, 1 + k)
  else (99, 0)
def cR (g i : Nat) : Bool := decide (g = 0 ∧ i < 53 ∨ g = 1 ∧ i < 7 ∨ g = 2 ∧ i < 7 ∨ g = 3 ∧ i < 400 ∨ g = 4 ∧ i < 112 ∨ g = 5 ∧ i < 6)
theorem cIn_cL {g i : Nat} (h : cR g i = true) : cIn (cL g i).1 (cL g i).2 = (g, i) := by
  have h0 : ∀ i, i < 53 → cIn (cL 0 i).1 (cL 0 i).2 = (0, i) := by decide +kernel
  have h1 : ∀ i, i < 7 → cIn (cL 1 i).1 (cL 1 i).2 = (1, i) := by decide +kernel
  have h2 : ∀ i, i < 7 → cIn (cL 2 i).1 (cL 2 i).2 = (2, i) := by decide +kernel
  have h3 : ∀ i, i < 400 → cIn (cL 3 i).1 (cL 3 i).2 = (3, i) := by decide +kernel
  have h4 : ∀ i, i < 112 → cIn (cL 4 i).1 (cL 4 i).2 = (4, i) := by decide +kernel
  have h5 : ∀ i, i < 6 → cIn (cL 5 i).1 (cL 5 i).2 = (5, i) := by decide +kernel
  rcases of_decide_eq_true h with ⟨rfl, hi⟩ | ⟨rfl, hi⟩ | ⟨rfl, hi⟩ | ⟨rfl, hi⟩ | ⟨rfl, hi⟩ | ⟨rfl, hi⟩
  · exact h0 i hi
  · exact h1 i hi
  · exact h2 i hi
  · exact h3 i hi
  · exact h4 i hi
  · exact h5 i hi
/-- which entries count now -/
def cLv (X : XT) (g i : Nat) : Prop := (g = 4 → i < 7 * (X.1 18 1).toNatClampNeg) ∧ (g = 5 → i ≠ 5 → X.1 0 29 ≠ -1)
noncomputable def coC (X : XT) (g i : Nat) : Int32 := @ite _ (cR g i = true ∧ cLv X g i) (Classical.propDecidable _) (X.1 (cL g i).1 (cL g i).2) 0
theorem coC_p {X : XT} {g i : Nat} (h : cR g i = true) (hv : cLv X g i) : coC X g i = X.1 (cL g i).1 (cL g i).2 := by
  unfold coC
  rw [if_pos ⟨h, hv⟩]
theorem coC_n {X : XT} {g i : Nat} (h : ¬ (cR g i = true ∧ cLv X g i)) : coC X g i = 0 := by
  unfold coC
  rw [if_neg h]
theorem ws_at (X : XT) (j k a b : Nat) (v : Int32) : (ws X j k v).1 a b = if a = j ∧ b = k then v else X.1 a b := rfl
theorem cLv_ws {X : XT} {j k : Nat} {v : Int32} (h1 : ¬ (18 = j ∧ 1 = k)) (h2 : ¬ (0 = j ∧ 29 = k)) (g i : Nat) : cLv (ws X j k v) g i = cLv X g i := by
  unfold cLv
  rw [ws_at, ws_at, if_neg h1, if_neg h2]
/-- nothing that lasts is written -/
theorem co_s {X : XT} {j k : Nat} {v : Int32} (h : (cIn j k).1 = 99) : coC (ws X j k v) = coC X := by
  have h1 : ¬ (18 = j ∧ 1 = k) := by
    rintro ⟨rfl, rfl⟩
    exact absurd h (by decide)
  have h2 : ¬ (0 = j ∧ 29 = k) := by
    rintro ⟨rfl, rfl⟩
    exact absurd h (by decide)
  funext g i
  by_cases hc : cR g i = true ∧ cLv X g i
  · rw [coC_p hc.1 hc.2, coC_p hc.1 (by rw [cLv_ws h1 h2]; exact hc.2), ws_at, if_neg]
    rintro ⟨e1, e2⟩
    have := cIn_cL hc.1
    rw [e1, e2] at this
    rw [this] at h
    have h' := of_decide_eq_true hc.1
    simp only at h
    omega
  · rw [coC_n hc, coC_n (by rw [cLv_ws h1 h2]; exact hc)]
/-- an entry that lasts is written -/
theorem co_p {X : XT} {j k g0 i0 : Nat} {v : Int32} (h : cL g0 i0 = (j, k)) (hR : cR g0 i0 = true) (hg : g0 ≠ 4 ∧ g0 ≠ 5) (h1 : ¬ (18 = j ∧ 1 = k)) (h2 : ¬ (0 = j ∧ 29 = k)) : coC (ws X j k v) = up2 (coC X) g0 i0 v := by
  have hin := cIn_cL hR
  rw [h] at hin
  have hv : cLv X g0 i0 := ⟨fun z => absurd z hg.1, fun z => absurd z hg.2⟩
  funext g i
  by_cases hgi : g = g0 ∧ i = i0
  · obtain ⟨rfl, rfl⟩ := hgi
    rw [up2_s, coC_p hR (by rw [cLv_ws h1 h2]; exact hv), ws_at, h, if_pos ⟨rfl, rfl⟩]
  · rw [up2_n _ _ hgi]
    by_cases hc : cR g i = true ∧ cLv X g i
    · rw [coC_p hc.1 hc.2, coC_p hc.1 (by rw [cLv_ws h1 h2]; exact hc.2), ws_at, if_neg]
      rintro ⟨e1, e2⟩
      have := cIn_cL hc.1
      rw [e1, e2, hin] at this
      exact hgi ⟨congrArg Prod.fst this.symm, congrArg Prod.snd this.symm⟩
    · rw [coC_n hc, coC_n (by rw [cLv_ws h1 h2]; exact hc)]
theorem co_wl {X : XT} {j k : Nat} {v : Int64} : coC (wl X j k v) = coC X := rfl
theorem co_E {X : XT} {E : Nat} : coC (X.1, X.2.1, E, X.2.2.2) = coC X := rfl
section COI
variable {X : XT} {v : Int32}
theorem co_known : coC (ws X 15 1 v) = up2 (coC X) 0 0 v := co_p rfl rfl (by decide) (by decide) (by decide)
theorem co_day : coC (ws X 15 2 v) = up2 (coC X) 0 5 v := co_p rfl rfl (by decide) (by decide) (by decide)
theorem co_nB : coC (ws X 1 8 v) = up2 (coC X) 0 48 v := co_p rfl rfl (by decide) (by decide) (by decide)
theorem co_nL : coC (ws X 1 9 v) = up2 (coC X) 0 49 v := co_p rfl rfl (by decide) (by decide) (by decide)
theorem co_nS : coC (ws X 1 10 v) = up2 (coC X) 0 50 v := co_p rfl rfl (by decide) (by decide) (by decide)
theorem co_nF : coC (ws X 1 11 v) = up2 (coC X) 0 52 v := co_p rfl rfl (by decide) (by decide) (by decide)
theorem co_nT : coC (ws X 14 2 v) = up2 (coC X) 0 51 v := co_p rfl rfl (by decide) (by decide) (by decide)
theorem co_st : coC (ws X 0 10 v) = up2 (coC X) 1 0 v := co_p rfl rfl (by decide) (by decide) (by decide)
theorem co_fa : coC (ws X 0 11 v) = up2 (coC X) 1 1 v := co_p rfl rfl (by decide) (by decide) (by decide)
theorem co_sl : coC (ws X 0 12 v) = up2 (coC X) 1 2 v := co_p rfl rfl (by decide) (by decide) (by decide)
theorem co_so : coC (ws X 0 13 v) = up2 (coC X) 1 3 v := co_p rfl rfl (by decide) (by decide) (by decide)
theorem co_td : coC (ws X 0 15 v) = up2 (coC X) 1 4 v := co_p rfl rfl (by decide) (by decide) (by decide)
theorem co_high {i : Nat} (h : i < 4) : coC (ws X 16 i v) = up2 (coC X) 0 (1 + i) v := by
  refine co_p ?_ (by unfold cR; rw [decide_eq_true_eq]; omega) (by decide) (by omega) (by omega)
  unfold cL
  rw [if_pos rfl, if_neg (by omega), if_pos (by omega)]
  congr 1; omega
theorem co_len {i : Nat} (h : i < 8) : coC (ws X 2 i v) = up2 (coC X) 0 (6 + i) v := by
  refine co_p ?_ (by unfold cR; rw [decide_eq_true_eq]; omega) (by decide) (by omega) (by omega)
  unfold cL
  rw [if_pos rfl, if_neg (by omega), if_neg (by omega), if_neg (by omega), if_pos (by omega)]
  congr 1; omega
theorem co_kind {i : Nat} (h : i < 8) : coC (ws X 3 i v) = up2 (coC X) 0 (14 + i) v := by
  refine co_p ?_ (by unfold cR; rw [decide_eq_true_eq]; omega) (by decide) (by omega) (by omega)
  unfold cL
  rw [if_pos rfl, if_neg (by omega), if_neg (by omega), if_neg (by omega), if_neg (by omega), if_pos (by omega)]
  congr 1; omega
theorem co_need {i : Nat} (h : i < 8) : coC (ws X 4 i v) = up2 (coC X) 0 (22 + i) v := by
  refine co_p ?_ (by unfold cR; rw [decide_eq_true_eq]; omega) (by decide) (by omega) (by omega)
  unfold cL
  rw [if_pos rfl, if_neg (by omega), if_neg (by omega), if_neg (by omega), if_neg (by omega), if_neg (by omega), if_pos (by omega)]
  congr 1; omega
theorem co_like {i : Nat} (h : i < 4) : coC (ws X 5 i v) = up2 (coC X) 0 (30 + i) v := by
  refine co_p ?_ (by unfold cR; rw [decide_eq_true_eq]; omega) (by decide) (by omega) (by omega)
  unfold cL
  rw [if_pos rfl, if_neg (by omega), if_neg (by omega), if_neg (by omega), if_neg (by omega), if_neg (by omega), if_neg (by omega), if_pos (by omega)]
  congr 1; omega
theorem co_seen {i k : Nat} (h : i < 6) (hk : k < 2) : coC (ws X (8 + i) k v) = up2 (coC X) 0 (34 + 2 * i + k) v := by
  refine co_p ?_ (by unfold cR; rw [decide_eq_true_eq]; omega) (by decide) (by omega) (by omega)
  unfold cL
  rw [if_pos rfl, if_neg (by omega), if_neg (by omega), if_neg (by omega), if_neg (by omega), if_neg (by omega), if_neg (by omega), if_neg (by omega), if_pos (by omega)]
  congr 1
  · congr 1; omega
  · omega
theorem co_term {i : Nat} (h0 : 0 < i) (h : i < 3) : coC (ws X 6 i v) = up2 (coC X) 0 (45 + i) v := by
  refine co_p ?_ (by unfold cR; rw [decide_eq_true_eq]; omega) (by decide) (by omega) (by omega)
  unfold cL
  rw [if_pos rfl, if_neg (by omega), if_neg (by omega), if_neg (by omega), if_neg (by omega), if_neg (by omega), if_neg (by omega), if_neg (by omega), if_neg (by omega), if_pos (by omega)]
  congr 1; omega
theorem co_ref {i : Nat} (h : i < 7) : coC (ws X 34 i v) = up2 (coC X) 2 i v := co_p rfl (by unfold cR; rw [decide_eq_true_eq]; omega) (by decide) (by omega) (by omega)
theorem co_tape {i : Nat} (h : i < 400) : coC (ws X 35 i v) = up2 (coC X) 3 i v := co_p rfl (by unfold cR; rw [decide_eq_true_eq]; omega) (by decide) (by omega) (by omega)
end COI
section COR
variable {X : XT}
theorem cr_p {g i j k : Nat} (h : cL g i = (j, k)) (hR : cR g i = true) (hg : g ≠ 4 ∧ g ≠ 5) : X.1 j k = coC X g i := by
  rw [coC_p hR ⟨fun z => absurd z hg.1, fun z => absurd z hg.2⟩, h]
theorem cr_known : X.1 15 1 = coC X 0 0 := cr_p rfl rfl (by decide)
theorem cr_day : X.1 15 2 = coC X 0 5 := cr_p rfl rfl (by decide)
theorem cr_nB : X.1 1 8 = coC X 0 48 := cr_p rfl rfl (by decide)
theorem cr_nL : X.1 1 9 = coC X 0 49 := cr_p rfl rfl (by decide)
theorem cr_nS : X.1 1 10 = coC X 0 50 := cr_p rfl rfl (by decide)
theorem cr_nF : X.1 1 11 = coC X 0 52 := cr_p rfl rfl (by decide)
theorem cr_nT : X.1 14 2 = coC X 0 51 := cr_p rfl rfl (by decide)
theorem cr_st : X.1 0 10 = coC X 1 0 := cr_p rfl rfl (by decide)
theorem cr_fa : X.1 0 11 = coC X 1 1 := cr_p rfl rfl (by decide)
theorem cr_sl : X.1 0 12 = coC X 1 2 := cr_p rfl rfl (by decide)
theorem cr_so : X.1 0 13 = coC X 1 3 := cr_p rfl rfl (by decide)
theorem cr_td : X.1 0 15 = coC X 1 4 := cr_p rfl rfl (by decide)
theorem cr_un : X.1 18 1 = coC X 1 5 := cr_p rfl rfl (by decide)
theorem cr_db : X.1 0 29 = coC X 1 6 := cr_p rfl rfl (by decide)
theorem cr_high {i : Nat} (h : i < 4) : X.1 16 i = coC X 0 (1 + i) := by
  refine cr_p ?_ (by unfold cR; rw [decide_eq_true_eq]; omega) (by decide)
  unfold cL
  rw [if_pos rfl, if_neg (by omega), if_pos (by omega)]
  congr 1; omega
theorem cr_len {i : Nat} (h : i < 8) : X.1 2 i = coC X 0 (6 + i) := by
  refine cr_p ?_ (by unfold cR; rw [decide_eq_true_eq]; omega) (by decide)
  unfold cL
  rw [if_pos rfl, if_neg (by omega), if_neg (by omega), if_neg (by omega), if_pos (by omega)]
  congr 1; omega
theorem cr_kind {i : Nat} (h : i < 8) : X.1 3 i = coC X 0 (14 + i) := by
  refine cr_p ?_ (by unfold cR; rw [decide_eq_true_eq]; omega) (by decide)
  unfold cL
  rw [if_pos rfl, if_neg (by omega), if_neg (by omega), if_neg (by omega), if_neg (by omega), if_pos (by omega)]
  congr 1; omega
theorem cr_need {i : Nat} (h : i < 8) : X.1 4 i = coC X 0 (22 + i) := by
  refine cr_p ?_ (by unfold cR; rw [decide_eq_true_eq]; omega) (by decide)
  unfold cL
  rw [if_pos rfl, if_neg (by omega), if_neg (by omega), if_neg (by omega), if_neg (by omega), if_neg (by omega), if_pos (by omega)]
  congr 1; omega
theorem cr_like {i : Nat} (h : i < 4) : X.1 5 i = coC X 0 (30 + i) := by
  refine cr_p ?_ (by unfold cR; rw [decide_eq_true_eq]; omega) (by decide)
  unfold cL
  rw [if_pos rfl, if_neg (by omega), if_neg (by omega), if_neg (by omega), if_neg (by omega), if_neg (by omega), if_neg (by omega), if_pos (by omega)]
  congr 1; omega
theorem cr_seen {i k : Nat} (h : i < 6) (hk : k < 2) : X.1 (8 + i) k = coC X 0 (34 + 2 * i + k) := by
  refine cr_p ?_ (by unfold cR; rw [decide_eq_true_eq]; omega) (by decide)
  unfold cL
  rw [if_pos rfl, if_neg (by omega), if_neg (by omega), if_neg (by omega), if_neg (by omega), if_neg (by omega), if_neg (by omega), if_neg (by omega), if_pos (by omega)]
  congr 1
  · congr 1; omega
  · omega
theorem cr_term {i : Nat} (h0 : 0 < i) (h : i < 3) : X.1 6 i = coC X 0 (45 + i) := by
  refine cr_p ?_ (by unfold cR; rw [decide_eq_true_eq]; omega) (by decide)
  unfold cL
  rw [if_pos rfl, if_neg (by omega), if_neg (by omega), if_neg (by omega), if_neg (by omega), if_neg (by omega), if_neg (by omega), if_neg (by omega), if_neg (by omega), if_pos (by omega)]
  congr 1; omega
theorem cr_ref {i : Nat} (h : i < 7) : X.1 34 i = coC X 2 i := cr_p rfl (by unfold cR; rw [decide_eq_true_eq]; omega) (by decide)
theorem cr_tape {i : Nat} (h : i < 400) : X.1 35 i = coC X 3 i := cr_p rfl (by unfold cR; rw [decide_eq_true_eq]; omega) (by decide)
end COR
