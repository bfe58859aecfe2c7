/-! PLAIN LAW: Steps.append: the row of Books goes round -/
set_option maxRecDepth 100000
/-- the places of undos go round by one -/
def sg (j : Nat) : Nat := if 50 ≤ j ∧ j < 82 then 50 + (j - 50 + 2) % 32 else j
def ta (j : Nat) : Nat := if 50 ≤ j ∧ j < 82 then 50 + (j - 50 + 30) % 32 else j
theorem sg_lt {j : Nat} (h : j < nP) : sg j < nP := by
  unfold sg nP at *
  split <;> omega
theorem ta_lt {j : Nat} (h : j < nP) : ta j < nP := by
  unfold ta nP at *
  split <;> omega
theorem sg_ta (j : Nat) : sg (ta j) = j := by
  unfold sg ta
  by_cases h : 50 ≤ j ∧ j < 82
  · rw [if_pos h, if_pos (by omega)]; omega
  · rw [if_neg h, if_neg h]
theorem ta_sg (j : Nat) : ta (sg j) = j := by
  unfold sg ta
  by_cases h : 50 ≤ j ∧ j < 82
  · rw [if_pos h, if_pos (by omega)]; omega
  · rw [if_neg h, if_neg h]
theorem sg_n {j : Nat} (h : j < 50 ∨ 82 ≤ j) : sg j = j := by
  unfold sg
  rw [if_neg (by omega)]
def rotA (A : AT) : AT := ⟨fun j => A.1 (sg j), fun i j hi hj h => by
  have e := A.2 _ _ (sg_lt hi) (sg_lt hj) h
  rw [← ta_sg i, ← ta_sg j, e]⟩
def rotX (X : XT) : XT := ((fun j => X.1 (sg j)), X.2)
theorem fv_rot {A : AT} {E c : Nat} {x : Int32} (h : c < 52 ∨ 84 ≤ c) : fv (rotA A).1 E c x = fv A.1 E c x := by
  unfold fv
  by_cases h0 : c = 0
  · rw [if_pos h0, if_pos h0]
  rw [if_neg h0, if_neg h0]
  by_cases h1 : c = 1
  · rw [if_pos h1, if_pos h1]
  rw [if_neg h1, if_neg h1]
  show Value.ref (A.1 (sg (c - 2))) = _
  rw [sg_n (by omega)]
theorem oK_lo : ∀ j, j < 130 → ¬ (50 ≤ j ∧ j < 82) → ∀ o, oK j = some o → ∀ c ∈ o.2, c < 52 ∨ 84 ≤ c := by
  intro j hj hn o ho
  have h : ∀ j, j < 130 → ¬ (50 ≤ j ∧ j < 82) → (match oK j with | some o => o.2.all fun c => decide (c < 52 ∨ 84 ≤ c) | none => true) = true := by decide +kernel
  have := h j hj hn
  rw [ho] at this
  intro c hc
  have h2 := List.all_eq_true.mp this c hc
  exact of_decide_eq_true h2
theorem cC_rot {A : AT} {X : XT} {j : Nat} (hj : j < nP) (h19 : j ≠ 19) : cCX (rotA A).1 (rotX X) j = cCX A.1 X (sg j) := by
  unfold cCX
  show cC (rotA A).1 (X.1 (sg j)) (X.2.1 j) X.2.2.1 X.2.2.2 j = _
  by_cases h : 50 ≤ j ∧ j < 82
  · have hs : sg j = 50 + (j - 50 + 2) % 32 := by unfold sg; rw [if_pos h]
    have hsr : 50 ≤ sg j ∧ sg j < 82 := by omega
    have hmod : sg j % 2 = j % 2 := by omega
    by_cases he : j % 2 = 0
    · have o1 : ∀ j, 50 ≤ j → j % 2 = 0 → oK j = some (2, [j + 3, 0, 0, 0]) := by
        intro j h1 h2
        unfold oK
        rw [if_neg (by omega), if_neg (by omega), if_neg (by omega), if_neg (by omega), if_neg (by omega), if_neg (by omega), if_neg (by omega), if_neg (by omega), if_pos (by omega)]
      unfold cC
      rw [o1 j h.1 he, o1 (sg j) hsr.1 (by omega)]
      show (Sum.inr (Sum.inl (2, fvs (rotA A).1 X.2.2.1 (X.1 (sg j)) 0 [j + 3, 0, 0, 0])) : CE) = Sum.inr (Sum.inl (2, fvs A.1 X.2.2.1 (X.1 (sg j)) 0 [sg j + 3, 0, 0, 0]))
      have e : fv (rotA A).1 X.2.2.1 (j + 3) (X.1 (sg j) 0) = fv A.1 X.2.2.1 (sg j + 3) (X.1 (sg j) 0) := by
        unfold fv
        rw [if_neg (by omega), if_neg (by omega), if_neg (by omega), if_neg (by omega)]
        show Value.ref (A.1 (sg (j + 3 - 2))) = Value.ref (A.1 (sg j + 3 - 2))
        have : sg (j + 3 - 2) = sg j + 3 - 2 := by
          unfold sg
          rw [if_pos h, if_pos (by omega)]
          omega
        rw [this]
      unfold fvs
      rw [e]
      rfl
    · have o1 : ∀ j, 50 ≤ j → ¬ j % 2 = 0 → oK j = none ∧ aK j = some (0, 4) := by
        intro j h1 h2
        refine ⟨?_, ?_⟩
        · unfold oK
          rw [if_neg (by omega), if_neg (by omega), if_neg (by omega), if_neg (by omega), if_neg (by omega), if_neg (by omega), if_neg (by omega), if_neg (by omega), if_neg (by omega)]
        · unfold aK
          rw [if_neg (by omega), if_pos (by omega)]
      unfold cC
      rw [(o1 j h.1 he).1, (o1 j h.1 he).2, (o1 (sg j) hsr.1 (by omega)).1, (o1 (sg j) hsr.1 (by omega)).2]
  · rw [sg_n (by omega)]
    unfold cC
    cases ho : oK j with
    | some o =>
      show (Sum.inr (Sum.inl (o.1, fvs (rotA A).1 X.2.2.1 (X.1 j) 0 o.2)) : CE) = Sum.inr (Sum.inl (o.1, fvs A.1 X.2.2.1 (X.1 j) 0 o.2))
      rw [fvs_ext (A := (rotA A).1) (E' := X.2.2.1) (w' := X.1 j)]
      · apply congrArg (fun z => (Sum.inr (Sum.inl (o.1, z)) : CE))
        apply List.ext_getElem?
        intro k
        rw [fvs_get, fvs_get]
        cases hc : o.2[k]? with
        | none => rfl
        | some c =>
          have hm : c ∈ o.2 := List.mem_of_getElem? hc
          exact congrArg some (fv_rot (oK_lo j hj h o ho c hm))
      · intro k c _
        rfl
    | none =>
      cases ha : aK j with
      | some q => rfl
      | none =>
        have hq : qK (rotA A).1 X.2.2.2 j = qK A.1 X.2.2.2 j := by
          unfold qK
          by_cases h7 : j = 7
          · rw [if_pos h7, if_pos h7]
            have : (fun i => if i < 6 then some ((rotA A).1 (8 + i)) else none) = fun i => if i < 6 then some (A.1 (8 + i)) else none := by
              funext i
              by_cases hi : i < 6
              · rw [if_pos hi, if_pos hi]
                show some (A.1 (sg (8 + i))) = _
                rw [sg_n (by omega)]
              · rw [if_neg hi, if_neg hi]
            rw [this]
          rw [if_neg h7, if_neg h7]
          by_cases h17 : j = 17
          · rw [if_pos h17, if_pos h17]
          rw [if_neg h17, if_neg h17, if_neg h19, if_neg h19]
          by_cases h21 : j = 21
          · rw [if_pos h21, if_pos h21]
            have : (fun i => if i < 16 then some ((rotA A).1 (90 + 2 * i)) else none) = fun i => if i < 16 then some (A.1 (90 + 2 * i)) else none := by
              funext i
              by_cases hi : i < 16
              · rw [if_pos hi, if_pos hi]
                show some (A.1 (sg (90 + 2 * i))) = _
                rw [sg_n (by omega)]
              · rw [if_neg hi, if_neg hi]
            rw [this]
          rw [if_neg h21, if_neg h21]
        show (if j = 29 ∨ j = 31 then _ else (Sum.inl ((qK (rotA A).1 X.2.2.2 j).1, (qK (rotA A).1 X.2.2.2 j).2.1, .inr (.inr (.inr (.inr (qK (rotA A).1 X.2.2.2 j).2.2)))) : CE)) = _
        rw [hq]
/-- the array of rows: the eldest behind the others -/
def rowR (A : AT) : Nat → Option Nat := fun i => if i < 16 then some (A.1 (sg (50 + 2 * i))) else none
theorem rot_up {A : AT} {X : XT} {hb : Hp} : up (ovC A X hb) (A.1 19) (.inl (6, 16, .inr (.inr (.inr (.inr (rowR A)))))) = ovC (rotA A) (rotX X) hb := by
  refine oc_ext rfl rfl rfl (fun i hi => ?_) (fun a ha => ?_)
  · show (if A.1 (sg i) = A.1 19 then _ else (ovC A X hb).2.2.2 (A.1 (sg i))) = _
    by_cases h : i = 19
    · subst h
      rw [if_pos (by rfl)]
      rfl
    · have hne : sg i ≠ 19 := by
        intro z
        have := ta_sg i
        rw [z] at this
        exact h this.symm
      rw [if_neg (fun z => hne (A.2 _ _ (sg_lt hi) (by decide) z)), oc_at (sg_lt hi), cC_rot hi h]
  · have h' : ∀ j, j < nP → A.1 j ≠ a := by
      intro j hj
      have := ha (ta j) (ta_lt hj)
      have e : (rotA A).1 (ta j) = A.1 j := by
        show A.1 (sg (ta j)) = A.1 j
        rw [sg_ta]
      rw [e] at this
      exact this
    show (if a = A.1 19 then _ else (ovC A X hb).2.2.2 a) = _
    rw [if_neg (fun z => h' 19 (by decide) z.symm), oc_off h']
theorem co_rot {X : XT} (hu : X.1 18 1 = nn 16) : coC (ws (rotX X) 18 1 (nn 15)) = shU (coC X) := by
  have e1 : ((ws (rotX X) 18 1 (nn 15)).1 18 1).toNatClampNeg = 15 := rfl
  have e2 : (X.1 18 1).toNatClampNeg = 16 := by rw [hu]; rfl
  have e29 : (ws (rotX X) 18 1 (nn 15)).1 0 29 = X.1 0 29 := rfl
  funext g i
  unfold shU
  by_cases h4 : g = 4
  · subst h4
    rw [if_pos rfl]
    by_cases hi : i < 105
    · have hv : cLv (ws (rotX X) 18 1 (nn 15)) 4 i := ⟨fun _ => by rw [e1]; omega, fun z => absurd z (by decide)⟩
      have hv' : cLv X 4 (i + 7) := ⟨fun _ => by rw [e2]; omega, fun z => absurd z (by decide)⟩
      rw [if_pos hi, coC_p (by unfold cR; rw [decide_eq_true_eq]; omega) hv, coC_p (by unfold cR; rw [decide_eq_true_eq]; omega) hv', ws_at]
      have h50 : 50 ≤ (cL 4 i).1 ∧ (cL 4 i).1 < 82 ∧ (cL 4 (i + 7)).1 = (cL 4 i).1 + 2 ∧ (cL 4 (i + 7)).1 < 82 ∧ (cL 4 (i + 7)).2 = (cL 4 i).2 := by
        have : ∀ i, i < 105 → 50 ≤ (cL 4 i).1 ∧ (cL 4 i).1 < 82 ∧ (cL 4 (i + 7)).1 = (cL 4 i).1 + 2 ∧ (cL 4 (i + 7)).1 < 82 ∧ (cL 4 (i + 7)).2 = (cL 4 i).2 := by decide +kernel
        exact this i hi
      rw [if_neg (by omega)]
      show X.1 (sg (cL 4 i).1) (cL 4 i).2 = _
      have : sg (cL 4 i).1 = (cL 4 (i + 7)).1 := by
        unfold sg
        rw [if_pos (by omega)]
        omega
      rw [this, h50.2.2.2.2]
    · rw [if_neg hi, coC_n]
      rintro ⟨_, h, _⟩
      have := h rfl
      rw [e1] at this
      omega
  · rw [if_neg h4]
    by_cases h15 : g = 1 ∧ i = 5
    · obtain ⟨rfl, rfl⟩ := h15
      rw [up2_s, coC_p rfl ⟨fun z => absurd z (by decide), fun z => absurd z (by decide)⟩]
      rfl
    · rw [up2_n _ _ h15]
      have hv : cLv (ws (rotX X) 18 1 (nn 15)) g i = cLv X g i := by
        unfold cLv
        rw [e29]
        simp only [h4, false_imp_iff]
      by_cases hc : cR g i = true ∧ cLv X g i
      · rw [coC_p hc.1 hc.2, coC_p hc.1 (by rw [hv]; exact hc.2), ws_at, if_neg]
        · show X.1 (sg (cL g i).1) _ = _
          have : (cL g i).1 < 50 := by
            have q0 : ∀ i, i < 53 → (cL 0 i).1 < 50 := by decide +kernel
            have q1 : ∀ i, i < 7 → (cL 1 i).1 < 50 := by decide +kernel
            have q2 : ∀ i, i < 7 → (cL 2 i).1 < 50 := by decide +kernel
            have q3 : ∀ i, i < 400 → (cL 3 i).1 < 50 := by decide +kernel
            have q5 : ∀ i, i < 6 → (cL 5 i).1 < 50 := by decide +kernel
            rcases of_decide_eq_true hc.1 with ⟨rfl, hi⟩ | ⟨rfl, hi⟩ | ⟨rfl, hi⟩ | ⟨rfl, hi⟩ | ⟨rfl, hi⟩ | ⟨rfl, hi⟩
            · exact q0 i hi
            · exact q1 i hi
            · exact q2 i hi
            · exact q3 i hi
            · exact absurd rfl h4
            · exact q5 i hi
          rw [sg_n (Or.inl this)]
        · rintro ⟨e3, e4⟩
          have := cIn_cL hc.1
          rw [e3, e4] at this
          have e5 : cIn 18 1 = (1, 5) := rfl
          rw [e5] at this
          exact h15 ⟨congrArg Prod.fst this.symm, congrArg Prod.snd this.symm⟩
      · rw [coC_n hc, coC_n (by rw [hv]; exact hc)]
/-- the row n becomes as the books are -/
theorem co_row {X : XT} {n w : Nat} (hu : X.1 18 1 = nn n) (hn : n < 16) : coC (ws (ws (asX X (50 + 2 * n) 15) (50 + 2 * n) 3 (nn w)) 18 1 (nn (n + 1))) = pushR n w (coC X) := by
  have e1 : ((ws (ws (asX X (50 + 2 * n) 15) (50 + 2 * n) 3 (nn w)) 18 1 (nn (n + 1))).1 18 1).toNatClampNeg = n + 1 := by
    rw [ws_at, if_pos ⟨rfl, rfl⟩, nn_cl (by omega)]
  have e2 : (X.1 18 1).toNatClampNeg = n := by rw [hu, nn_cl (by omega)]
  have e29 : (ws (ws (asX X (50 + 2 * n) 15) (50 + 2 * n) 3 (nn w)) 18 1 (nn (n + 1))).1 0 29 = X.1 0 29 := by
    rw [ws_at, if_neg (by omega), ws_at, if_neg (by omega), asX_at, if_neg (by omega), if_neg (by omega)]
  funext g i
  unfold pushR
  by_cases z : g = 4 ∧ 7 * n ≤ i ∧ i < 7 * n + 7
  · rw [if_pos z]
    obtain ⟨rfl, z1, z2⟩ := z
    rw [coC_p (by unfold cR; rw [decide_eq_true_eq]; omega) ⟨fun _ => by rw [e1]; omega, fun z => absurd z (by decide)⟩, ws_at]
    unfold cL
    simp only [show ¬ (4 : Nat) = 0 by decide, show ¬ (4 : Nat) = 1 by decide, show ¬ (4 : Nat) = 2 by decide, show ¬ (4 : Nat) = 3 by decide, if_false, if_true, show i / 7 = n by omega, show i % 7 = i - 7 * n by omega]
    by_cases h0 : i - 7 * n = 0
    · simp only [h0, if_true, show (0 : Nat) < 6 by decide]
      rw [if_neg (by omega), ws_at, if_neg (by omega), asX_at, if_pos rfl, if_pos (by omega), cr_known]
    · simp only [h0, if_false]
      by_cases h5 : i - 7 * n < 5
      · simp only [h5, if_true, show i - 7 * n < 6 by omega]
        rw [if_neg (by omega), ws_at, if_neg (by omega), asX_at, if_neg (by omega), if_pos (by omega), if_pos (by omega), cr_high (by omega)]
        congr 1
        omega
      · simp only [h5, if_false]
        by_cases h6 : i - 7 * n = 5
        · simp only [h6, if_true, show (5 : Nat) < 6 by decide]
          rw [if_neg (by omega), ws_at, if_neg (by omega), asX_at, if_pos rfl, if_pos (by omega), cr_day]
        · simp only [h6, if_false, show ¬ i - 7 * n < 6 by omega]
          rw [if_neg (by omega), ws_at, if_pos ⟨rfl, rfl⟩]
  · rw [if_neg z]
    by_cases h15 : g = 1 ∧ i = 5
    · obtain ⟨rfl, rfl⟩ := h15
      rw [up2_s, coC_p rfl ⟨fun z => absurd z (by decide), fun z => absurd z (by decide)⟩]
      rfl
    · rw [up2_n _ _ h15]
      by_cases hc : cR g i = true ∧ cLv X g i
      · have hv : cLv (ws (ws (asX X (50 + 2 * n) 15) (50 + 2 * n) 3 (nn w)) 18 1 (nn (n + 1))) g i := by
          refine ⟨fun z4 => ?_, fun z5 hi => ?_⟩
          · rw [e1]
            have := hc.2.1 z4
            rw [e2] at this
            omega
          · rw [e29]
            exact hc.2.2 z5 hi
        have hpl : (cL g i).1 ≠ 50 + 2 * n ∧ (cL g i).1 ≠ 51 + 2 * n := by
          by_cases h4 : g = 4
          · subst h4
            have hlt := hc.2.1 rfl
            rw [e2] at hlt
            have : ∀ i, i < 112 → (cL 4 i).1 = 50 + 2 * (i / 7) ∨ (cL 4 i).1 = 51 + 2 * (i / 7) := by decide +kernel
            have := this i (by omega)
            omega
          · have : (cL g i).1 < 50 := by
              have q0 : ∀ i, i < 53 → (cL 0 i).1 < 50 := by decide +kernel
              have q1 : ∀ i, i < 7 → (cL 1 i).1 < 50 := by decide +kernel
              have q2 : ∀ i, i < 7 → (cL 2 i).1 < 50 := by decide +kernel
              have q3 : ∀ i, i < 400 → (cL 3 i).1 < 50 := by decide +kernel
              have q5 : ∀ i, i < 6 → (cL 5 i).1 < 50 := by decide +kernel
              rcases of_decide_eq_true hc.1 with ⟨rfl, hi⟩ | ⟨rfl, hi⟩ | ⟨rfl, hi⟩ | ⟨rfl, hi⟩ | ⟨rfl, hi⟩ | ⟨rfl, hi⟩
              · exact q0 i hi
              · exact q1 i hi
              · exact q2 i hi
              · exact q3 i hi
              · exact absurd rfl h4
              · exact q5 i hi
            omega
        rw [coC_p hc.1 hc.2, coC_p hc.1 hv, ws_at, if_neg, ws_at, if_neg (fun z => hpl.1 z.1), asX_at, if_neg hpl.1, if_neg (fun z => hpl.2 (by omega))]
        rintro ⟨e3, e4⟩
        have := cIn_cL hc.1
        rw [e3, e4] at this
        have e5 : cIn 18 1 = (1, 5) := rfl
        rw [e5] at this
        exact h15 ⟨congrArg Prod.fst this.symm, congrArg Prod.snd this.symm⟩
      · rw [coC_n hc, coC_n]
        rintro ⟨h1, h2, h3⟩
        refine hc ⟨h1, fun z4 => ?_, fun z5 hi => ?_⟩
        · have := h2 z4
          rw [e1] at this
          rw [e2]
          subst z4
          omega
        · rw [← e29]
          exact h3 z5 hi
section R7
variable {A : AT} {hb : Hp} {X : XT} {M : TM} {b l s t u : Nat}
theorem C_appJ {n w : Nat} (hu : X.1 18 1 = nn n) (hn : n < 16) : ∃ X', X3_append_J49 (A.1 18) (A.1 15) (nn w) (ovC A X hb) = some (ovC A X' hb) ∧ coC X' = pushR n w (coC X) ∧ X'.2 = X.2 ∧ ∀ j, j ≠ 18 → (j < 50 ∨ 82 ≤ j) → X'.1 j = X.1 j := by
  have hbk : bk (50 + 2 * n) = true := by
    unfold bk
    rw [decide_eq_true_eq]
    omega
  refine ⟨ws (ws (asX X (50 + 2 * n) 15) (50 + 2 * n) 3 (nn w)) 18 1 (nn (n + 1)), ?_, co_row hu hn, rfl, fun j h1 h2 => ?_⟩
  rotate_left
  · funext k
    rw [ws_at, if_neg (fun z => h1 z.1), ws_at, if_neg (by omega), asX_at, if_neg (by omega), if_neg (by omega)]
  have e1 : (ws (asX X (50 + 2 * n) 15) (50 + 2 * n) 3 (nn w)).1 18 1 = nn n := by
    rw [ws_at, if_neg (by omega), asX_at, if_neg (by omega), if_neg (by omega), hu]
  unfold X3_append_J49
  rw [og_18_0, Option.bind_some, og_18_1, Option.bind_some, hu, aR_undo hn, Option.bind_some, C_as hbk (by decide) (by omega), bd2_some, po_oc (bk_s hbk).2.2.2.1, Option.bind_some, og_18_1, Option.bind_some, e1, show (1 : Int32) = nn 1 from rfl, nn_add, op_18_1, Option.bind_some]
/-- a layout with the same places, those of undos perhaps in another order -/
def samA (A A' : AT) : Prop := (∀ j, j < 50 ∨ 82 ≤ j → A'.1 j = A.1 j) ∧ ∀ j, j < nP → ∃ i, i < nP ∧ A'.1 j = A.1 i
theorem samA_refl (A : AT) : samA A A := ⟨fun _ _ => rfl, fun j h => ⟨j, h, rfl⟩⟩
theorem samA_trans {A B C : AT} (h : samA A B) (g : samA B C) : samA A C := by
  refine ⟨fun j hj => by rw [g.1 j hj, h.1 j hj], fun j hj => ?_⟩
  obtain ⟨i, hi, e⟩ := g.2 j hj
  obtain ⟨k, hk, e'⟩ := h.2 i hi
  exact ⟨k, hk, by rw [e, e']⟩
theorem samA_rot (A : AT) : samA A (rotA A) := by
  refine ⟨fun j hj => ?_, fun j hj => ⟨sg j, sg_lt hj, rfl⟩⟩
  show A.1 (sg j) = A.1 j
  rw [sg_n hj]
theorem C_app {w : Nat} (hu : X.1 18 1 = nn u) (h16 : u ≤ 16) : ∃ A' X', X3_append (A.1 18) (A.1 15) (nn w) (ovC A X hb) = some (ovC A' X' hb) ∧ coC X' = pushU u w (coC X) ∧ X'.2 = X.2 ∧ samA A A' ∧ ∀ j, j ≠ 18 → (j < 50 ∨ 82 ≤ j) → X'.1 j = X.1 j := by
  unfold X3_append X3_append_b pushU
  rw [og_18, og_18_1, Option.bind_some, hu]
  by_cases h : u = 16
  · subst h
    rw [if_pos (by rfl), if_pos rfl, og_18_0, Option.bind_some, show (0 : Int32) = nn 0 from rfl, aR_undo (by omega), Option.bind_some, Option.bind_some, Option.bind_some]
    have hq : arQ (ovC A X hb) (A.1 19) 6 = some (16, fun i => if i < 16 then some (A.1 (50 + 2 * i)) else none) := arQ_oc (j := 19) rfl
    have hc : cpQ (ovC A X hb) 6 [2] (A.1 19) (1 : Int32) (A.1 19) (nn 0) (15 : Int32) = some (up (ovC A X hb) (A.1 19) (.inl (6, 16, .inr (.inr (.inr (.inr (va_cpy (fun i => if i < 16 then some (A.1 (50 + 2 * i)) else none) (fun i => if i < 16 then some (A.1 (50 + 2 * i)) else none) 1 0 15))))))) := by
      unfold cpQ
      rw [hq, Option.bind_some, Option.bind_some, if_pos]
      · rfl
      · refine ⟨by decide, by decide, by decide, by show Int32.toNatClampNeg 1 + Int32.toNatClampNeg 15 ≤ 16; decide, by show (nn 0).toNatClampNeg + Int32.toNatClampNeg 15 ≤ 16; decide, ?_⟩
        unfold chkQ
        rw [List.all_eq_true]
        intro i hi
        have hi' : i < 15 := List.mem_range.mp hi
        show (match (if Int32.toNatClampNeg 1 + i < 16 then some (A.1 (50 + 2 * (Int32.toNatClampNeg 1 + i))) else none) with | some y => (ob (ovC A X hb) y [2]).isSome | none => true) = true
        have h1 : Int32.toNatClampNeg 1 = 1 := rfl
        rw [h1, if_pos (by omega)]
        have hbk : bk (50 + 2 * (1 + i)) = true := by
          unfold bk
          rw [decide_eq_true_eq]
          omega
        have := (bk_s hbk).1
        show (ob (ovC A X hb) (A.1 (50 + 2 * (1 + i))) [2]).isSome = true
        have hz := ob_ocS (A := A) (X := X) (hb := hb) (α := Bool) (f := fun _ => some true) (r := some true) this (fun _ => rfl)
        cases ho : ob (ovC A X hb) (A.1 (50 + 2 * (1 + i))) [2] with
        | none => rw [ho] at hz; cases hz
        | some o => rfl
    rw [hc, Option.bind_some]
    have hcell : ∀ e, (up (ovC A X hb) (A.1 19) e).2.2.2 (A.1 19) = some e := by
      intro e
      show (if A.1 19 = A.1 19 then some e else _) = some e
      rw [if_pos rfl]
    have hoth : ∀ e j, j < nP → j ≠ 19 → (up (ovC A X hb) (A.1 19) e).2.2.2 (A.1 j) = (ovC A X hb).2.2.2 (A.1 j) := by
      intro e j hj hne
      show (if A.1 j = A.1 19 then some e else _) = _
      rw [if_neg (fun z => hne (A.2 _ _ hj (by decide) z))]
    have g18 : ∀ e, gr (up (ovC A X hb) (A.1 19) e) (A.1 18) [3] 0 = some (A.1 19) := by
      intro e
      have := og_18_0 (A := A) (X := X) (hb := hb)
      unfold gr ob at this ⊢
      rw [hoth e 18 (by decide) (by decide)]
      exact this
    rw [g18, Option.bind_some]
    have hs : ∀ f, sR (up (ovC A X hb) (A.1 19) (.inl (6, 16, .inr (.inr (.inr (.inr f)))))) (A.1 19) 6 [2] (15 : Int32) (A.1 (50 + 2 * 0)) = some (up (ovC A X hb) (A.1 19) (.inl (6, 16, .inr (.inr (.inr (.inr (va_up f 15 (some (A.1 (50 + 2 * 0)))))))))) := by
      intro f
      have hq2 : arQ (up (ovC A X hb) (A.1 19) (.inl (6, 16, .inr (.inr (.inr (.inr f)))))) (A.1 19) 6 = some (16, f) := by
        unfold arQ ar
        rw [hcell]
        rfl
      have ho2 : ∃ o, ob (up (ovC A X hb) (A.1 19) (.inl (6, 16, .inr (.inr (.inr (.inr f)))))) (A.1 50) [2] = some o := by
        have hz := ob_ocS (A := A) (X := X) (hb := hb) (α := Bool) (f := fun _ => some true) (r := some true) (j := 50) (cs := [2]) (by decide) (fun _ => rfl)
        unfold ob at hz ⊢
        rw [hoth _ 50 (by decide) (by decide)]
        split at hz
        · next o ho =>
          split at hz
          · next hm => exact ⟨o, by simp only [hm, if_true]⟩
          · cases hz
        · cases hz
      obtain ⟨o, ho⟩ := ho2
      unfold sR
      rw [hq2, Option.bind_some]
      show ((ob _ (A.1 50) [2]).bind fun _ => _) = _
      rw [ho, Option.bind_some, if_pos (by show inb 15 16 = true; decide)]
      congr 1
      unfold up
      refine Prod.ext rfl (Prod.ext rfl (Prod.ext rfl ?_))
      funext j
      show (if j = A.1 19 then _ else (if j = A.1 19 then _ else _)) = (if j = A.1 19 then _ else _)
      by_cases hj : j = A.1 19
      · rw [if_pos hj, if_pos hj]
        rfl
      · rw [if_neg hj, if_neg hj, if_neg hj]
    rw [hs, Option.bind_some]
    have hf : va_up (va_cpy (fun i => if i < 16 then some (A.1 (50 + 2 * i)) else none) (fun i => if i < 16 then some (A.1 (50 + 2 * i)) else none) 1 0 15) 15 (some (A.1 (50 + 2 * 0))) = rowR A := by
      funext i
      unfold va_up va_cpy rowR sg
      by_cases h15 : i = 15
      · subst h15
        rw [if_pos rfl, if_pos (by omega), if_pos (by omega)]
      · rw [if_neg h15]
        by_cases hi : i < 16
        · rw [if_pos (by omega), if_pos hi]
          show (if 1 + (i - 0) < 16 then some (A.1 (50 + 2 * (1 + (i - 0)))) else none) = _
          rw [if_pos (by omega), if_pos (by omega)]
          exact congrArg (fun z => some (A.1 z)) (by omega)
        · rw [if_neg (by omega), if_neg hi]
          exact if_neg hi
    rw [hf, rot_up]
    have e18 : (rotA A).1 18 = A.1 18 := rfl
    have e15 : (rotA A).1 15 = A.1 15 := rfl
    rw [← e18, og_18_1, Option.bind_some]
    have er : (rotX X).1 18 1 = nn 16 := hu
    rw [er, show (1 : Int32) = nn 1 from rfl, nn_sub (by omega), op_18_1, Option.bind_some, ← e15]
    obtain ⟨X', f1, f2, f3, f4⟩ := C_appJ (A := rotA A) (hb := hb) (X := ws (rotX X) 18 1 (nn 15)) (n := 15) (w := w) rfl (by omega)
    refine ⟨rotA A, X', f1, ?_, f3, samA_rot A, fun j h1 h2 => ?_⟩
    rotate_left
    · rw [f4 j h1 h2]
      funext k
      rw [ws_at, if_neg (fun z => h1 z.1)]
      show X.1 (sg j) k = X.1 j k
      rw [sg_n h2]
    rw [f2, co_rot hu]
  · have hne : ¬ nn u = (16 : Int32) := by
      rw [show (16 : Int32) = nn 16 from rfl, nn_inj (by omega) (by omega)]
      exact h
    rw [if_neg hne, if_neg h]
    obtain ⟨X', f1, f2, f3, f4⟩ := C_appJ (A := A) (hb := hb) (X := X) (n := u) (w := w) hu (by omega)
    exact ⟨A, X', f1, f2, f3, samA_refl A, f4⟩
end R7
