/-! PLAIN LAW: a row of books comes: the call -/
set_option maxRecDepth 100000
theorem div3 : ∀ n, n < 401 → decide ((nn n - nn n / (3 : Int32) * (3 : Int32)) = 0) = decide (n % 3 = 0) := by decide +kernel
section RP
variable {A : AT} {X : XT} {hb : Hp} {M : TM} {D : List CDn} {b l s t u N : Nat} {a n : Nat} {f : Nat → Int32}
def eHb (ρ : Nat) (hb : Hp) : Hp := if ρ = 0 then hb else h3 hb
theorem row_L {x : Nat → Int32 → Hp → Option (Int32 × Hp)} {y : Int32 → TM → Option (Int32 × TM)} {e ρ : Nat} (ha : ∀ j, j < nP → A.1 j ≠ a) (hn : n ≤ 400) (hρ : ρ < 3) (he : e = if ρ = 0 then 0 else 1) : ∀ (q i m m' came c b : Nat) (X : XT) (M : TM), i + 3 * q + ρ = n → q + 1 < m → q < m' → RW X M e c b l s t → (∀ k, k < n → fT M 3 k = f k ∧ isBy (f k)) → ∃ X' M' b' came', C_row_L49 N x m (A.1 0) a (nn came) (nn i) (ovC A X (BL hb a n f)) = x (A.1 0) (nn came') (ovC A X' (BL (eHb ρ hb) a n f)) ∧ T_row_L40 N y m' (nn n) (nn came) (nn i) M = y (nn came') M' ∧ Mt (coC X') (fT M') ∧ SOb b' l s t 0 (noU (fT M')) ∧ X'.2.2 = X.2.2 ∧ (∀ g, 6 ≤ g → fT M' g = fT M g) ∧ came' ≤ came + q := by
  intro q
  induction q with
  | zero =>
    intro i m m' came c b X M h1 h2 hq hW hf
    obtain ⟨m', rfl⟩ : ∃ k, m' = k + 1 := ⟨m' - 1, by omega⟩
    obtain ⟨m, rfl⟩ : ∃ k, m = k + 2 := ⟨m - 2, by omega⟩
    have hT : T_row_L40 N y (m' + 1) (nn n) (nn came) (nn i) M = y (nn came) M := by
      rw [T_row_L40, show (3 : Int32) = nn 3 from rfl, nn_add, if_pos (by rw [nn_lt (by omega) (by omega)]; omega)]
    by_cases hz : ρ = 0
    · rw [if_pos hz] at he
      subst hz
      subst he
      refine ⟨X, M, b, came, ?_, hT, ?_, hW.2.2, rfl, fun _ _ => rfl, by omega⟩
      · rw [C_row_L49, alen_BL ha, Option.bind_some, if_pos (by rw [nn_le (by omega) (by omega)]; omega)]
        rfl
      · have := hW.1
        rw [Nat.add_zero, up2_id hW.2.1] at this
        exact this
    · rw [if_neg hz] at he
      subst he
      have h12 : X.1 0 12 = nn c := by rw [cr_sl, hW.2.1]
      have hg : C_row_J142 N (C_row_L49 N x (m + 1)) (A.1 0) a (nn i) (0 : Int32) (if (0 : Int32) = 0 then (0 : Int32) else (1 : Int32)) (nn came) (ovC A X (BL (h3 hb) a n f)) = x (A.1 0) (nn came) (ovC A (ws X 0 12 (nn (c + 1))) (BL (h3 hb) a n f)) := by
        rw [rowC2 h12, C_row_L49, alen_BL ha, Option.bind_some, if_pos (by rw [nn_le (by omega) (by omega)]; omega)]
      have ec : coC (ws X 0 12 (nn (c + 1))) = up2 (coC X) 1 2 (nn (c + 1)) := co_sl
      refine ⟨ws X 0 12 (nn (c + 1)), M, b, came, ?_, hT, ?_, hW.2.2, rfl, fun _ _ => rfl, by omega⟩
      · rw [show eHb ρ hb = h3 hb from if_neg hz, ← hg]
        rw [C_row_L49, alen_BL ha, Option.bind_some, if_neg (by rw [nn_le (by omega) (by omega)]; omega), byc_in ha (by omega) (by omega), show nn i + (1 : Int32) = nn (i + 1) from nn_add i 1, show nn i + (2 : Int32) = nn (i + 2) from nn_add i 2]
        by_cases hr : ρ = 1
        · rw [byc_out ha (by omega) (by omega)]
          rfl
        · rw [byc_in ha (by omega) (by omega), byc_out ha (by omega) (by omega)]
          rfl
      · rw [ec]; exact hW.1
  | succ q ih =>
    intro i m m' came c b X M h1 h2 hq hW hf
    obtain ⟨m', rfl⟩ : ∃ k, m' = k + 1 := ⟨m' - 1, by omega⟩
    obtain ⟨m, rfl⟩ : ∃ k, m = k + 1 := ⟨m - 1, by omega⟩
    obtain ⟨X1, M1, b1, c1, came1, s1, s2, s3, s4, s5, s6, s7⟩ := row_step (N := N) (hb := hb) (x := x) (y := y) (m := m) (m' := m') (came := came) ha hn (show i + 3 ≤ n by omega) hW hf
    obtain ⟨X', M', b', came', r1, r2, r3, r4, r5, r6, r7⟩ := ih (i + 3) m m' came1 c1 b1 X1 M1 (by omega) (by omega) (by omega) s3 (fun k hk => by rw [s6]; exact hf k hk)
    exact ⟨X', M', b', came', by rw [s1, r1], by rw [s2, r2], r3, r4, by rw [r5, s4], fun g hg => by rw [r6 g hg, s5 g hg], by omega⟩
theorem op_row (hN : 20000 ≤ N) (h : Wk A X hb M D b l s t u) (hi : HI A hb) : OpG A X hb M t (C_row N (A.1 0)) (T_row N) := by
  obtain ⟨n, hn, en⟩ := h.2.2.1.taped
  have e13 : M.1 13 = nn n := by rw [show M.1 13 = fT M 1 4 from fT_1 (i := 4) (by omega), en]
  have e15 : X.1 0 15 = nn n := by rw [cr_td, h.2.1.at (by omega), en]
  have ef1 : fT (tsi M 13 (nn 0)) = up2 (fT M) 1 4 (nn 0) := fT_i (i := 4) (by decide)
  by_cases hz : n = 0
  · subst hz
    rw [up2_id en] at ef1
    obtain ⟨X', c1, c2, c3⟩ := C_ref (A := A) (X := X) (hb := hb) (k := 6) (by omega) (by omega)
    obtain ⟨M', t1, t2⟩ := T_ref (k := 6) (tsi M 13 (nn 0)) (by omega)
    refine ⟨-nn 6, A, X', hb, M', ?_, ?_, ?_, ⟨b, l, s, u, ?_⟩, by rw [c3], Gx_td (Td_refl hb) hi, samA_refl A, fun g hg => ?_⟩
    · unfold C_row C_row_b
      rw [og_0, og_0_15, Option.bind_some, e15, if_pos (by rfl), show (-6 : Int32) = -nn 6 from rfl, c1]
      rfl
    · unfold T_row
      rw [show (0 : Int32) = nn 0 from rfl, Option.bind_some, e13, if_pos rfl, show (-6 : Int32) = -nn 6 from rfl, t1]
      rfl
    · rw [c2, t2, ef1]; exact Mt_tl h.2.1 6
    · rw [t2, ef1]; exact SOb_tl h.2.2.1 6
    · rw [t2, tlS_g _ _ hg, ef1]
  have hnz : ¬ nn n = 0 := by rw [nn_z (by omega)]; exact hz
  have ha : ∀ j, j < nP → A.1 j ≠ hb.1 := fun j hj z => absurd (hi.1 j hj) (by omega)
  let hbn : Hp := (hb.1 + 1, hb.2.1 + n, hb.2.2.1, hb.2.2.2)
  let f : Nat → Int32 := va_cpy (X.1 35) (fun _ => 0) 0 0 n
  have hf : ∀ k, k < n → fT M 3 k = f k ∧ isBy (f k) := by
    intro k hk
    have e1 : f k = X.1 35 k := by
      show va_cpy (X.1 35) (fun _ => 0) 0 0 n k = _
      unfold va_cpy
      rw [if_pos (by omega)]
      exact congrArg (X.1 35) (by omega)
    rw [e1, cr_tape (by omega), h.2.1.at (by omega)]
    exact ⟨rfl, h.2.2.1.tape k⟩
  obtain ⟨e, he⟩ : ∃ e, e = if n % 3 = 0 then 0 else 1 := ⟨_, rfl⟩
  have hd3 := div3 n (by omega)
  have hev : (if (nn n - nn n / (3 : Int32) * (3 : Int32)) = 0 then (0 : Int32) else (1 : Int32)) = nn e := by
    rw [he]
    by_cases z : n % 3 = 0
    · rw [decide_eq_true z] at hd3
      rw [if_pos (of_decide_eq_true hd3), if_pos z]
      rfl
    · rw [decide_eq_false z] at hd3
      rw [if_neg (of_decide_eq_false hd3), if_neg z]
      rfl
  have ec1 : coC (ws (ws X 0 15 (nn 0)) 0 12 (nn 0)) = up2 (up2 (coC X) 1 4 (nn 0)) 1 2 (nn 0) := by rw [co_sl, co_td]
  have ef2 : fT (tsi (tsi M 13 (nn 0)) 6 (nn e)) = up2 (up2 (fT M) 1 4 (nn 0)) 1 2 (nn e) := by
    rw [← ef1]
    exact fT_i (i := 2) (by decide)
  have hW : RW (ws (ws X 0 15 (nn 0)) 0 12 (nn 0)) (tsi (tsi M 13 (nn 0)) 6 (nn e)) e 0 b l s t := by
    refine ⟨?_, ?_, ?_⟩
    · rw [ec1, ef2, up2_up2, Nat.zero_add]
      exact (h.2.1.up rfl).up rfl
    · rw [ec1, up2_s]
    · rw [ef2]
      have b4 : Bd b l s t u 1 4 (nn 0) := ⟨0, by omega, rfl⟩
      exact SOb_noU ((h.2.2.1.up b4).up trivial)
  obtain ⟨X', M', b', came, r1, r2, r3, r4, r5, r6, r7⟩ := row_L (N := N) (hb := hbn) (a := hb.1) (n := n) (f := f) (x := fun v90 v91 h92 => bd2 (C_settled v90 v91 h92) fun v94 h93 => some (v94, h93)) (y := fun v52 M53 => bd2 (T_settled v52 M53) fun v55 M54 => some (v55, M54)) (ρ := n % 3) (e := e) ha hn (by omega) he (n / 3) 0 N N 0 0 b _ _ (by omega) (by omega) (by omega) hW (fun k hk => by
    rw [ef2, up2_n _ _ (by omega), up2_n _ _ (by omega)]
    exact hf k hk)
  obtain ⟨X2, c1, c2, c3⟩ := C_setg (A := A) (X := X') (hb := BL (eHb (n % 3) hbn) hb.1 n f) (nn_ge came (by omega))
  obtain ⟨M2, t1, t2⟩ := T_set (nn came) M'
  have hst : (BL (eHb (n % 3) hbn) hb.1 n f).1 ≤ hb.1 + 4 ∧ hb.1 + 1 ≤ (BL (eHb (n % 3) hbn) hb.1 n f).1 ∧ (BL (eHb (n % 3) hbn) hb.1 n f).2.1 ≤ hb.2.1 + n + 250 ∧ hb.2.1 ≤ (BL (eHb (n % 3) hbn) hb.1 n f).2.1 ∧ (BL (eHb (n % 3) hbn) hb.1 n f).2.2.1 = hb.2.2.1 ∧ ∀ x, (BL (eHb (n % 3) hbn) hb.1 n f).2.2.2 x = if x = hb.1 then some (.inl (1, n, .inl f)) else hb.2.2.2 x := by
    unfold eHb
    split
    · exact ⟨by show hb.1 + 1 ≤ _; omega, by show _ ≤ hb.1 + 1; omega, by show hb.2.1 + n ≤ _; omega, by show _ ≤ hb.2.1 + n; omega, rfl, fun x => rfl⟩
    · exact ⟨by show hb.1 + 1 + 3 ≤ _; omega, by show _ ≤ hb.1 + 1 + 3; omega, by show hb.2.1 + n + 250 ≤ _; omega, by show _ ≤ hb.2.1 + n + 250; omega, rfl, fun x => rfl⟩
  obtain ⟨k1, k2, k3, k4, k5, k6⟩ := hst
  refine ⟨nn came, A, X2, BL (eHb (n % 3) hbn) hb.1 n f, M2, ?_, ?_, ?_, ⟨b', l, s, 0, ?_⟩, ?_, ?_, samA_refl A, fun g hg => ?_⟩
  · unfold C_row C_row_b
    have hna : na (ovC A X hb) 1 (nn n) (.inl (fun _ => 0)) = some (hb.1, ovC A X (BL hbn hb.1 n (fun _ => 0))) := by
      unfold na
      rw [if_neg (by
        rw [nn_cl (by omega)]
        rintro (z | z)
        · exact nn_neg (by omega) z
        · omega), nn_cl (by omega)]
      congr 2
      exact oc_new ha
    have hcp : cpI (ovC A X (BL hbn hb.1 n (fun _ => 0))) 1 (A.1 35) (0 : Int32) hb.1 (0 : Int32) (nn n) = some (ovC A X (BL hbn hb.1 n f)) := by
      have h0 : (0 : Int32).toNatClampNeg = 0 := rfl
      have har2 : arI (ovC A X (BL hbn hb.1 n (fun _ => 0))) hb.1 1 = some (n, fun _ => 0) := by
        unfold arI
        rw [ar_BL ha]
        rfl
      unfold cpI
      rw [arI_oc (j := 35) (k := 1) (n := 400) (by decide), Option.bind_some, har2, Option.bind_some, h0, nn_cl (by omega), if_pos]
      · congr 1
        rw [oc_upO ha]
        congr 1
        unfold up BL
        refine Prod.ext rfl (Prod.ext rfl (Prod.ext rfl ?_))
        funext j
        show (if j = hb.1 then _ else (if j = hb.1 then _ else _)) = (if j = hb.1 then _ else _)
        by_cases z : j = hb.1
        · rw [if_pos z, if_pos z]
        · rw [if_neg z, if_neg z, if_neg z]
      · refine ⟨by decide, by decide, nn_neg (by omega), by show 0 + n ≤ 400; omega, by show 0 + n ≤ n; omega, ?_⟩
        unfold fitB
        rw [decide_eq_false (by decide), Bool.false_or, decide_eq_true rfl, Bool.true_and, List.all_eq_true]
        intro k hk
        have hk' : k < n := List.mem_range.mp hk
        have hby := h.2.2.1.tape (0 + k)
        rw [← h.2.1.at (by omega), ← cr_tape (by omega)] at hby
        show fits .byte (.int (X.1 35 (0 + k))) = true
        have e2 : nrw 1 (X.1 35 (0 + k)) = (X.1 35 (0 + k)).toInt8.toInt32 := vp_nar_byte _
        unfold isBy at hby
        rw [e2] at hby
        rw [← hby]
        exact pk_fb _
    rw [og_0, og_0_15, Option.bind_some, e15, if_neg hnz, Option.bind_some, hna, bd2_some, og_0_14, Option.bind_some, og_0_15, Option.bind_some, e15, hcp, Option.bind_some, show (0 : Int32) = nn 0 from rfl, op_0_15, Option.bind_some, op_0_12, Option.bind_some]
    refine r1.trans ?_
    show bd2 (C_settled (A.1 0) (nn came) _) _ = _
    rw [c1]
    rfl
  · unfold T_row
    rw [Option.bind_some, e13, if_neg hnz, if_neg (by decide), hev]
    unfold T_row_J35
    rw [show (0 : Int32) = nn 0 from rfl, Option.bind_some]
    refine r2.trans ?_
    show bd2 (T_settled (nn came) M') _ = _
    rw [t1]
    rfl
  · rw [c2, t2]; exact Mt_gd (Mt_noU r3)
  · rw [t2]; exact SOb_gd r4
  · rw [c3, r5]
    rfl
  · refine ⟨by omega, by omega, by omega, by omega, k5, ?_, ?_, ?_⟩
    · intro x e' he'
      refine Or.inl ?_
      rw [k6, if_neg (fun z => by rw [z, hi.2 hb.1 (Nat.le_refl _)] at he'; cases he')]
      exact he'
    · intro x hx he'
      rw [k6, if_neg (by omega)]
      exact he'
    · intro x hx
      rw [k6, if_neg (by omega)]
      exact hi.2 x (by omega)
  · rw [t2, gdS_g _ hg, noU_g _ hg, r6 g hg, ef2, up2_g _ _ (by omega), up2_g _ _ (by omega)]
end RP
