/-! PLAIN LAW: the Model reckons a row of words as the grammar tells -/
set_option maxRecDepth 100000
def evS (M : TM) (g : Nat) (b : Bool) : TM := tsi (tsi M 22 (nn g)) 24 (bz b)
theorem evS_22 (M : TM) (g g' : Nat) (b : Bool) : tsi (evS M g b) 22 (nn g') = evS M g' b := by
  refine Prod.ext ?_ rfl
  funext j
  unfold evS
  simp only [tsi_1]
  by_cases h : j = 22
  · subst h; simp
  · simp [h]
theorem evS_24 (M : TM) (g : Nat) (b b' : Bool) : tsi (evS M g b) 24 (bz b') = evS M g b' := by
  refine Prod.ext ?_ rfl
  funext j
  unfold evS
  simp only [tsi_1]
  by_cases h : j = 24
  · subst h; simp
  · simp [h]
theorem evS_g (M : TM) (g : Nat) (b : Bool) : (evS M g b).1 22 = nn g := rfl
theorem evS_b (M : TM) (g : Nat) (b : Bool) : (evS M g b).1 24 = bz b := rfl
theorem evS_o (M : TM) (g : Nat) (b : Bool) {j : Nat} (h : j ≠ 22) (h' : j ≠ 24) : (evS M g b).1 j = M.1 j := by
  unfold evS
  rw [tsi_1, if_neg h', tsi_1, if_neg h]
theorem evS_2 (M : TM) (g : Nat) (b : Bool) : (evS M g b).2 = M.2 := rfl
theorem evS_ev (M : TM) (g g' : Nat) (b b' : Bool) : evS (evS M g b) g' b' = evS M g' b' := by
  show tsi (tsi (evS M g b) 22 (nn g')) 24 (bz b') = _
  rw [evS_22, evS_24]
theorem fT_ev (M : TM) (g : Nat) (b : Bool) : fT (evS M g b) = fT M := by
  unfold evS
  rw [fT_tsi rfl, fT_tsi rfl]
/-- the Model is about to reckon these words, asked e -/
def TE (N : Nat) (M : TM) (od : Bool) (cd vl : Nat → Int32) (base nt : Nat) (e : EV) : Prop :=
  base ≤ 2400 ∧ nt ≤ 400 ∧ M.1 23 = nn (base + nt) ∧ (∀ k, k < nt → M.2.2.1 2 (60 + base + k) = cd k) ∧ (∀ k, nt ≤ k → cd k = 0) ∧ (∀ k, k < nt → M.2.2.1 2 (2860 + base + k) = vl k) ∧ M.1 25 = bz od
  ∧ (od = false → ∀ c, 8 ≤ c → c ≤ 16 → (M.2.2.1 26 (c - 8)).toInt64 = e (wdx false (nn c)) 0)
  ∧ (od = true → ∀ g b c k, 14 ≤ c → c ≤ 20 → k < 8 → (c = 14 ∨ c = 20 ∨ k = 0) → ∃ v, T_orderValue N (evS M g b) (nn c) (nn k) = some v ∧ v.toInt64 = e (wdx true (nn c)) k)
/-- what was reckoned, if it was asked for and nothing was broken before -/
def ER (o : Option Int64) (live br : Bool) (v : Int64) (br' : Bool) : Prop := (br = true → br' = true) ∧ (live = false → br' = br) ∧ (live = true → br = false → match o with
  | some x => v = x ∧ br' = false
  | none => br' = true)
section TEV
variable {N : Nat} {M : TM} {od : Bool} {cd vl : Nat → Int32} {base nt : Nat} {e : EV}
theorem te_lt (h : TE N M od cd vl base nt e) {k : Nat} (hc : cd k ≠ 0) : k < nt := by
  rcases Nat.lt_or_ge k nt with z | z
  · exact z
  · exact absurd (h.2.2.2.2.1 k z) hc
theorem te_code (h : TE N M od cd vl base nt e) {k : Nat} (hk : k ≤ nt) (b : Bool) : T_codeAt (evS M (base + k) b) (nn (base + k)) = some (cd k) := by
  obtain ⟨h1, h2, h3, h4, h5, -⟩ := h
  unfold T_codeAt
  rw [evS_o _ _ _ (by decide) (by decide), h3]
  by_cases hlt : k < nt
  · rw [if_neg (by rw [nn_le (by omega) (by omega)]; omega), show (60 : Int32) = nn 60 from rfl, nn_add, tra_nn (by omega) (by omega), evS_2, ← Nat.add_assoc, h4 k hlt]
    rfl
  · rw [if_pos (by rw [nn_le (by omega) (by omega)]; omega), h5 k (by omega)]
theorem te_pass (h : TE N M od cd vl base nt e) {k : Nat} (hk : k ≤ nt) (b : Bool) (c : Int32) : T_passes0 c (evS M (base + k) b) = some (bz (decide (cd k = c)), evS M (base + (if cd k = c then k + 1 else k)) b) := by
  unfold T_passes0
  rw [evS_g, te_code h hk, Option.bind_some, bz_ite]
  unfold T_passes0_J17
  by_cases hc : cd k = c
  · rw [decide_eq_true hc, if_neg (by decide), evS_g, show (1 : Int32) = nn 1 from rfl, nn_add, evS_22, if_pos hc, Option.bind_some, rz_bz]
    rfl
  · rw [decide_eq_false hc, if_pos (by rfl), rz_bz, if_neg hc]
    rfl
def outB (v : Int64) : Bool := decide (v > 1000000000 ∨ v < -1000000000)
theorem te_bnd (v : Int64) (live b : Bool) (g : Nat) : T_bounded v (bz live) (evS M g b) = some (if (b || (live && outB v)) = true then 0 else v, evS M g (b || (live && outB v))) := by
  have h25 : ∀ b, T_bounded_J25 v (evS M g b) = some (if b = true then 0 else v, evS M g b) := by
    intro b
    unfold T_bounded_J25
    rw [evS_b]
    cases b <;> rfl
  have h20 : T_bounded_J20 v (evS M g b) = some (0, evS M g true) := by
    unfold T_bounded_J20
    rw [show (1 : Int32) = bz true from rfl, tsz_bz, Option.bind_some, evS_24, h25]
    rfl
  unfold T_bounded
  cases live
  · rw [if_pos (by rfl), h25]
    simp
  · rw [if_neg (by decide)]
    simp only [cmp_gt, cmp_ge]
    unfold outB
    by_cases h1 : (1000000000 : Int64) < v
    · rw [if_pos h1, h20, decide_eq_true (Or.inl h1)]
      simp
    · rw [if_neg h1]
      by_cases h2 : (-1000000000 : Int64) ≤ v
      · have h3 : ¬ (v > 1000000000 ∨ v < -1000000000) := by
          rintro (z | z)
          · exact h1 z
          · rw [Int64.lt_iff_toInt_lt] at z
            rw [Int64.le_iff_toInt_le] at h2
            omega
        rw [if_pos h2, h25, decide_eq_false h3]
        simp
      · have h3 : (v > 1000000000 ∨ v < -1000000000) := by
          right
          rw [Int64.lt_iff_toInt_lt]
          rw [Int64.le_iff_toInt_le] at h2
          omega
        rw [if_neg h2, h20, decide_eq_true h3]
        simp
theorem bndS_o (v : Int64) : bndS v = if outB v = true then none else some v := by
  unfold bndS outB
  simp only [decide_eq_true_eq]
theorem outB_f {v : Int64} (h : -1000000000 ≤ v.toInt ∧ v.toInt ≤ 1000000000) : outB v = false := by
  unfold outB
  rw [decide_eq_false_iff_not, gt_iff_lt, Int64.lt_iff_toInt_lt, Int64.lt_iff_toInt_lt, c9, c9n]
  omega
def jo (s : Int32) (F G : Option Int64) : Option Int64 := match F with
  | none => none
  | some p => match G with
    | none => none
    | some q => opS s p q
theorem joinS_jo (s : Int32) (f g : SDn) (e : EV) : joinS s f g e = jo s (f e) (g e) := by
  unfold joinS jo
  cases f e with
  | none => rfl
  | some p => cases g e <;> rfl
/-- a product, a quotient, a rest -/
theorem er_mul {F G : Option Int64} {live b0 b1 b2 : Bool} {v w : Int64} (hf : ER F live b0 v b1) (hg : ER G live b1 w b2) {s : Int32} {v' : Int64} {b3 : Bool} (h23 : b2 = true → b3 = true) (hl : live = false → b3 = b2) (hop : live = true → b2 = false → match opS s v w with
    | some x => v' = x ∧ b3 = false
    | none => b3 = true) : ER (jo s F G) live b0 v' b3 := by
  refine ⟨fun z => h23 (hg.1 (hf.1 z)), fun z => by rw [hl z, hg.2.1 z, hf.2.1 z], fun z1 z2 => ?_⟩
  have a1 := hf.2.2 z1 z2
  cases F with
  | none =>
    exact h23 (hg.1 a1)
  | some p =>
    obtain ⟨rfl, a2⟩ := a1
    have a3 := hg.2.2 z1 a2
    cases G with
    | none =>
      exact h23 a3
    | some q =>
      obtain ⟨rfl, a4⟩ := a3
      exact hop z1 a4
/-- one more factor, divisor -/
theorem te_mulS (h : TE N M od cd vl base nt e) {c6 : Int32 → Int64 → TM → Option (Int64 × TM)} {ff : Int32 → TM → Option (Int64 × TM)} {k k' : Nat} {live b0 b1 b2 : Bool} {v w : Int64} {f g : SDn} (hk : k ≤ nt) (hm : isMul (cd k) = true) (hbf : BD f) (he : EB e) (hf : ER (f e) live b0 v b1) (hp : T_partOf N ff (bz live) (evS M (base + (k + 1)) b1) = some (w, evS M (base + k') b2)) (hg : ER (g e) live b1 w b2) : ∃ v' b3, T_termOf_J54 N ff c6 (bz live) v (evS M (base + k) b1) = c6 (bz live) v' (evS M (base + k') b3) ∧ ER (joinS (cd k - 100) f g e) live b0 v' b3 := by
  have hgo : tsi (evS M (base + k) b1) 22 ((evS M (base + k) b1).1 22 + 1) = evS M (base + (k + 1)) b1 := by
    rw [evS_g, show (1 : Int32) = nn 1 from rfl, nn_add, evS_22]
    rfl
  have hst : T_termOf_J54 N ff c6 (bz live) v (evS M (base + k) b1) = (if cd k = 142 then T_termOf_J121 N ff c6 (bz live) v (cd k) w (evS M (base + k') b2) else if w = 0 then (if b2 = false ∧ live = false then T_termOf_J115 N ff c6 (bz live) v (cd k) 0 (evS M (base + k') b2) else T_termOf_J115 N ff c6 (bz live) v (cd k) 1 (evS M (base + k') b2)) else T_termOf_J121 N ff c6 (bz live) v (cd k) w (evS M (base + k') b2)) := by
    unfold T_termOf_J54
    rw [evS_g, te_code h hk, Option.bind_some, Option.bind_some]
    rw [evS_g] at hgo
    rw [hgo, hp, bd2_some]
    unfold T_sign T_termOf_J110
    rw [Option.bind_some, show (100 : Int32) + 42 = 142 from by decide]
    by_cases h142 : cd k = 142
    · rw [if_pos h142, if_pos h142]
    · rw [if_neg h142, if_neg h142]
      simp only [cmp_eq, evS_b, bz_0]
      by_cases hw : w = 0
      · rw [if_pos hw, if_pos hw]
        cases b2 <;> cases live <;> rfl
      · rw [if_neg hw, if_neg hw]
  have h160 : ∀ x b, T_termOf_J160 N ff c6 (bz live) x (evS M (base + k') b) = c6 (bz live) (if (b || (live && outB x)) = true then 0 else x) (evS M (base + k') (b || (live && outB x))) := by
    intro x b
    unfold T_termOf_J160
    rw [te_bnd, bd2_some]
  have hdo : ∀ x b, (b = b2 ∨ (b = true)) → (b2 = true → b = true) → (live = false → b = b2) → (live = true → b2 = false → match opS (cd k - 100) v w with
      | some y => (x = y ∧ b = false ∧ outB x = false)
      | none => (b = true ∨ outB x = true)) → ∃ v' b3, T_termOf_J160 N ff c6 (bz live) x (evS M (base + k') b) = c6 (bz live) v' (evS M (base + k') b3) ∧ ER (joinS (cd k - 100) f g e) live b0 v' b3 := by
    intro x b hb1 hb2 hb3 hb4
    refine ⟨_, _, h160 x b, ?_⟩
    rw [joinS_jo]
    refine er_mul hf hg ?_ ?_ ?_
    · intro z
      rw [hb2 z]
      rfl
    · intro z
      rw [hb3 z, z]
      cases b2 <;> rfl
    · intro z1 z2
      have := hb4 z1 z2
      cases ho : opS (cd k - 100) v w with
      | some y =>
        rw [ho] at this
        simp only at this ⊢
        obtain ⟨rfl, r2, r3⟩ := this
        rw [r2, r3, z1]
        simp
      | none =>
        rw [ho] at this
        simp only at this ⊢
        rcases this with r | r
        · rw [r]; rfl
        · rw [r, z1]; cases b <;> rfl
  unfold isMul at hm
  simp only [Bool.or_eq_true, decide_eq_true_eq] at hm
  have hvb : live = true → b2 = false → -1000000000 ≤ v.toInt ∧ v.toInt ≤ 1000000000 := by
    intro z1 z2
    have hb1 : b1 = false := by
      cases hb : b1
      · rfl
      · have := hg.1 hb; rw [z2] at this; cases this
    have hb0 : b0 = false := by
      cases hb : b0
      · rfl
      · have := hf.1 hb; rw [hb1] at this; cases this
    have a1 := hf.2.2 z1 hb0
    cases hfe : f e with
    | none => rw [hfe] at a1; simp only at a1; rw [hb1] at a1; cases a1
    | some p =>
      rw [hfe] at a1
      simp only at a1
      rw [a1.1]
      exact hbf e he p hfe
  by_cases h142 : cd k = 142
  · rw [hst, if_pos h142]
    unfold T_termOf_J121 T_sign
    rw [Option.bind_some, show (100 : Int32) + 42 = 142 from by decide, if_pos h142]
    refine hdo (v * w) b2 (Or.inl rfl) id (fun _ => rfl) (fun z1 z2 => ?_)
    have e1 : opS (cd k - 100) v w = bndS (v * w) := by
      rw [h142]
      rfl
    rw [e1, bndS_o]
    cases ho : outB (v * w)
    · exact ⟨rfl, z2, rfl⟩
    · exact Or.inr rfl
  · rw [hst, if_neg h142]
    have hdm : cd k = 147 ∨ cd k = 137 := by
      rcases hm with (hm | hm) | hm
      · exact absurd hm h142
      · exact Or.inl hm
      · exact Or.inr hm
    have h121 : ∀ x b, x ≠ 0 → T_termOf_J121 N ff c6 (bz live) v (cd k) x (evS M (base + k') b) = T_termOf_J160 N ff c6 (bz live) (if cd k = 147 then v / x else v - v / x * x) (evS M (base + k') b) := by
      intro x b hx
      unfold T_termOf_J121 T_sign
      rw [Option.bind_some, show (100 : Int32) + 42 = 142 from by decide, if_neg h142, Option.bind_some, show (100 : Int32) + 47 = 147 from by decide, if_neg hx, if_neg hx]
      split <;> rfl
    have h115 : ∀ y : Bool, T_termOf_J115 N ff c6 (bz live) v (cd k) (bz y) (evS M (base + k') b2) = T_termOf_J160 N ff c6 (bz live) (if cd k = 147 then v / 1 else v - v / 1 * 1) (evS M (base + k') y) := by
      intro y
      unfold T_termOf_J115
      rw [tsz_bz, Option.bind_some, evS_24, h121 _ _ (by decide)]
    have hop0 : opS (cd k - 100) v 0 = none := by
      rcases hdm with z | z
      · rw [z]; rfl
      · rw [z]; rfl
    by_cases hw : w = 0
    · rw [if_pos hw]
      by_cases hbl : b2 = false ∧ live = false
      · rw [if_pos hbl, show (0 : Int32) = bz false from rfl, h115]
        refine hdo _ false (Or.inl hbl.1.symm) (fun z => by rw [hbl.1] at z; cases z) (fun _ => hbl.1.symm) (fun z => by rw [hbl.2] at z; cases z)
      · rw [if_neg hbl, show (1 : Int32) = bz true from rfl, h115]
        refine hdo _ true (Or.inr rfl) (fun _ => rfl) (fun z => ?_) (fun z1 z2 => ?_)
        · cases hb : b2
          · exact absurd ⟨hb, z⟩ hbl
          · rfl
        · rw [hw, hop0]
          exact Or.inl rfl
    · rw [if_neg hw, h121 _ _ hw]
      refine hdo _ b2 (Or.inl rfl) id (fun _ => rfl) (fun z1 z2 => ?_)
      have hv := hvb z1 z2
      rcases hdm with z | z
      · have e1 : opS (cd k - 100) v w = some (v / w) := by
          rw [z]
          show (if w = 0 then none else some (v / w)) = _
          rw [if_neg hw]
        rw [e1, if_pos z]
        exact ⟨rfl, z2, outB_f (div_b hv hw)⟩
      · have e1 : opS (cd k - 100) v w = some (v - v / w * w) := by
          rw [z]
          show (if w = 0 then none else some (v - v / w * w)) = _
          rw [if_neg hw]
        rw [e1, if_neg (by rw [z]; decide)]
        exact ⟨rfl, z2, outB_f (mod_b hv)⟩
/-- one more summand -/
theorem te_addS (h : TE N M od cd vl base nt e) {c6 : Int32 → Int64 → TM → Option (Int64 × TM)} {ff : Int32 → TM → Option (Int64 × TM)} {k k' : Nat} {live b0 b1 b2 : Bool} {v w : Int64} {f g : SDn} (hk : k ≤ nt) (hm : isAdd (cd k) = true) (hf : ER (f e) live b0 v b1) (hp : T_termOf N ff (bz live) (evS M (base + (k + 1)) b1) = some (w, evS M (base + k') b2)) (hg : ER (g e) live b1 w b2) : ∃ v' b3, T_sumOf_o_J38 N ff c6 (bz live) v (evS M (base + k) b1) = c6 (bz live) v' (evS M (base + k') b3) ∧ ER (joinS (cd k - 100) f g e) live b0 v' b3 := by
  have hst : T_sumOf_o_J38 N ff c6 (bz live) v (evS M (base + k) b1) = T_sumOf_o_J95 N ff c6 (bz live) (if cd k = 143 then v + w else v - w) (evS M (base + k') b2) := by
    unfold T_sumOf_o_J38
    rw [evS_g, te_code h hk, Option.bind_some]
    unfold T_sign
    rw [Option.bind_some, show (100 : Int32) + 43 = 143 from by decide, bz_ite]
    unfold T_sumOf_o_J59
    rw [evS_g, show (1 : Int32) = nn 1 from rfl, nn_add, evS_22, Option.bind_some, Nat.add_assoc, hp, bd2_some]
    by_cases hc : cd k = 143
    · rw [decide_eq_true hc, if_neg (by decide), if_pos hc]
    · rw [decide_eq_false hc, if_pos (by rfl), if_neg hc]
  rw [hst]
  refine ⟨_, _, by unfold T_sumOf_o_J95; rw [te_bnd, bd2_some], ?_⟩
  rw [joinS_jo]
  refine er_mul hf hg ?_ ?_ ?_
  · intro z; rw [z]; rfl
  · intro z; rw [z]; cases b2 <;> rfl
  · intro z1 z2
    have e1 : opS (cd k - 100) v w = bndS (if cd k = 143 then v + w else v - w) := by
      unfold isAdd at hm
      simp only [Bool.or_eq_true, decide_eq_true_eq] at hm
      rcases hm with z | z
      · rw [z]; rfl
      · rw [z]; rfl
    rw [e1, bndS_o, z1, z2]
    cases ho : outB (if cd k = 143 then v + w else v - w)
    · simp
    · simp
end TEV
