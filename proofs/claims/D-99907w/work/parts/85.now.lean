/-! PLAIN LAW: read, lose, cut, pass: both sides -/
set_option maxRecDepth 100000
def CKu (X X' : XT) : Prop := (∀ j, j ∉ [15, 16, 18, 28, 36] → (j < 50 ∨ 82 ≤ j) → X'.1 j = X.1 j) ∧ X'.2.2 = X.2.2
def TKu (M M' : TM) : Prop := (∀ j, j ∉ [22, 23, 24, 25, 32] → M'.1 j = M.1 j) ∧ M'.2.1 = M.2.1 ∧ (∀ k, k ∉ [2, 26, 29, 30] → M'.2.2.1 k = M.2.2.1 k) ∧ (∀ i, 6 ≤ i → M'.2.2.1 2 i = M.2.2.1 2 i) ∧ M'.2.2.2 = M.2.2.2
theorem CKu_of {X X' : XT} (h : CK X X') : CKu X X' := ⟨fun j h1 _ => by
  simp only [List.mem_cons, List.not_mem_nil, or_false, not_or] at h1
  exact h.1 j h1.1 h1.2.1 h1.2.2.2.1 h1.2.2.2.2, h.2⟩
theorem CKu_trans {X Y Z : XT} (h : CKu X Y) (g : CKu Y Z) : CKu X Z := ⟨fun j a b => by rw [g.1 j a b, h.1 j a b], by rw [g.2, h.2]⟩
theorem CKu_app {X X' : XT} (h : X'.2 = X.2) (g : ∀ j, j ≠ 18 → (j < 50 ∨ 82 ≤ j) → X'.1 j = X.1 j) : CKu X X' := ⟨fun j h1 h2 => g j (fun z => h1 (by rw [z]; decide)) h2, by rw [h]⟩
theorem CKu_ws {X : XT} {j k : Nat} {v : Int32} (h : j = 15 ∨ j = 16 ∨ j = 36) : CKu X (ws X j k v) := CKu_of (CK_ws h)
theorem TKu_of {M M' : TM} (h : TK M M') : TKu M M' := ⟨fun j hj => h.1 j (fun z => hj (by
  simp only [List.mem_cons, List.not_mem_nil, or_false] at z ⊢
  omega)), h.2.1, fun k hk => by
  simp only [List.mem_cons, List.not_mem_nil, or_false, not_or] at hk
  exact h.2.2.1 k hk.1 hk.2.1 hk.2.2.1, h.2.2.2.1, h.2.2.2.2⟩
theorem TKu_U {M M' : TM} (h : TU M M') : TKu M M' := ⟨fun j hj => h.1 j (fun z => hj (by rw [z]; decide)), h.2.1, fun k hk => h.2.2.1 k (fun z => hk (by rw [z]; decide)), fun i _ => by rw [h.2.2.1 2 (by decide)], h.2.2.2⟩
theorem TKu_trans {M M1 M2 : TM} (h : TKu M M1) (g : TKu M1 M2) : TKu M M2 := ⟨fun j hj => by rw [g.1 j hj, h.1 j hj], by rw [g.2.1, h.2.1], fun k a => by rw [g.2.2.1 k a, h.2.2.1 k a], fun i hi => by rw [g.2.2.2.1 i hi, h.2.2.2.1 i hi], by rw [g.2.2.2.2, h.2.2.2.2]⟩
theorem TKu_g {M M' : TM} (h : TKu M M') {g : Nat} (hg : 6 ≤ g) : fT M' g = fT M g := by
  funext i
  have h2 : ∀ j, 6 ≤ j → M'.2.2.1 2 j = M.2.2.1 2 j := h.2.2.2.1
  unfold fT
  rw [if_neg (show ¬ g = 0 by omega), if_neg (show ¬ g = 0 by omega), if_neg (show ¬ g = 1 by omega), if_neg (show ¬ g = 1 by omega), if_neg (show ¬ g = 2 by omega), if_neg (show ¬ g = 2 by omega), if_neg (show ¬ g = 3 by omega), if_neg (show ¬ g = 3 by omega), if_neg (show ¬ g = 4 by omega), if_neg (show ¬ g = 4 by omega), if_neg (show ¬ g = 5 by omega), if_neg (show ¬ g = 5 by omega), h.2.2.1 3 (by decide), h.2.2.1 4 (by decide), h.2.2.1 7 (by decide)]
  by_cases z : 53 ≤ i ∧ i < 59 ∨ 60 ≤ i ∧ i < 2460 ∨ 2860 ≤ i ∧ i < 5260
  · rw [h2 i (by omega)]
  · rw [if_neg z, if_neg z]
/-- a step: equal answers (none: why not), the states again alike -/
def NowL (A : AT) (X : XT) (hb : Hp) (M : TM) (D : List CDn) (b l s t : Nat) (C : Hp → Option (Int32 × Hp)) (T : TM → Option (Int32 × TM)) : Prop := ∃ v u' A' X' hb' M', C (ovC A X hb) = some (v, ovC A' X' hb') ∧ T M = some (v, M') ∧ (v = -nn 2 ∨ v = -nn 3 ∨ ∃ n, n ≤ 999 ∧ v = nn n) ∧ Wk A' X' hb' M' D b l s t u' ∧ samA A A' ∧ Td hb hb' ∧ CKu X X' ∧ TKu M M'
section NW
variable {A : AT} {X : XT} {hb : Hp} {M : TM} {D : List CDn} {b l s t u N : Nat}
theorem Wk_A {A' : AT} (h : Wk A X hb M D b l s t u) (hA : samA A A') : Wk A' X hb M D b l s t u := by
  obtain ⟨w1, w2, w3, w4, w5⟩ := h
  refine ⟨fun j hj => ?_, w2, w3, ⟨w4.1, ?_⟩, w5⟩
  · obtain ⟨i, hi, e⟩ := hA.2 j hj
    rw [e]
    exact w1 i hi
  · rcases w4.2 with h7 | ⟨t', a, m, q, k1, k2, k3, k4, k5, k6, k7⟩
    · exact Or.inl h7
    · exact Or.inr ⟨t', a, m, q, k1, k2, k3, k4, k5, k6, by rw [hA.1 0 (by omega)]; exact k7⟩
theorem Now_v {v : Int32} {X' : XT} {hb' : Hp} {M' : TM} {C : Hp → Option (Int32 × Hp)} {T : TM → Option (Int32 × TM)} (h : Wk A X hb M D b l s t u) (hv : v = -nn 2 ∨ v = -nn 3) (hC : C (ovC A X hb) = some (v, ovC A X' hb')) (hT : T M = some (v, M')) (h1 : q28 X' = q28 X) (h2 : X'.2.2 = X.2.2) (h3 : Td hb hb') (h4 : TF M M') : NowL A X hb M D b l s t C T := ⟨v, u, A, X', hb', M', hC, hT, hv.elim Or.inl (fun z => Or.inr (Or.inl z)), Wk_mv h h1 h2 h3 h4, samA_refl A, h3, CKu_of (CK_q h1 h2), TKu_of (TK_TF h4)⟩
/-- a step is laid aside -/
theorem sim_app (hN : 20000 ≤ N) (h : Wk A X hb M D b l s t u) {w : Nat} (hw : w ≤ 3) : ∃ u' A' X' M', X3_append (A.1 18) (A.1 15) (nn w) (ovC A X hb) = some (ovC A' X' hb) ∧ T_keeps N (nn w) M = some M' ∧ Wk A' X' hb M' D b l s t u' ∧ samA A A' ∧ CKu X X' ∧ TKu M M' ∧ fT M' 0 = fT M 0 := by
  have hu : X.1 18 1 = nn u := by rw [cr_p (g := 1) (i := 5) rfl rfl (by decide), h.2.1.at (by omega), h.2.2.1.nu]
  obtain ⟨A', X', c1, c2, c3, c4, c5⟩ := C_app (A := A) (hb := hb) (w := w) hu h.2.2.1.1.2.2.2.2
  obtain ⟨M', t1, t2, t3⟩ := T_kee (N := N) hN (w := w) h.2.2.1
  obtain ⟨u', hS⟩ := SOb_push h.2.2.1 hw
  refine ⟨u', A', X', M', c1, t1, Wk_up (Wk_A h c4) ?_ (by rw [t2]; exact hS) (by rw [c3]) (Td_refl hb) ?_ ?_, c4, CKu_app c3 c5, TKu_U t3, by rw [t2, push_0]⟩
  · rw [c2, t2]; exact Mt_push h.2.1 u w
  · rw [t2, push_0]
  · rw [t2, push_g _ _ _ (by omega)]
theorem now_read (hN : 20000 ≤ N) (h : Wk A X hb M D b l s t u) (a : Int32) : NowL A X hb M D b l s t (C_readNow N (A.1 0) a) (T_readsKept N a) := by
  have h48 : fT M 0 48 = nn b := h.2.2.1.nb
  have h48' : coC X 0 48 = nn b := by rw [h.2.1.at (by omega), h48]
  have h8 := h.2.2.1.1.1
  cases hb1 : wi a (nn 0) (nn b - nn 1)
  · refine Now_v (v := -nn 2) (X' := X) (hb' := hb) (M' := M) h (Or.inl rfl) ?_ ?_ rfl rfl (Td_refl hb) (TF_refl M)
    · simp only [C_readNow, C_readNow_b, og_0]
      rw [C_isB, h48', hb1, Option.bind_some, if_pos (by rfl)]
      rfl
    · unfold T_readsKept
      rw [T_isB, h48, hb1, Option.bind_some, if_pos (by rfl)]
      rfl
  obtain ⟨k, hk, rfl⟩ := isB_k h.2.2.1 hb1
  obtain ⟨dy, hdy, edy⟩ := h.2.2.1.day
  obtain ⟨le, hle, ele⟩ := h.2.2.1.len (i := k) (by omega)
  obtain ⟨p, X1, hb', M1, s1, s2, s3, s4, s5, s6, s7⟩ := sim_can hN h hk edy ele hdy hle
  have eC : ∀ r, (if bz p = 0 then some (-3, ovC A X1 hb') else if bz (decide (dy + le ≤ 999)) = 0 then some (-3, ovC A X1 hb') else (X3_append (A.1 18) (A.1 15) (0 : Int32) (ovC A X1 hb')).bind fun h27 => bd2 (C_readIt N (A.1 0) (nn k) h27) fun v29 h28 => some (v29, h28)) = r → C_readNow N (A.1 0) (nn k) (ovC A X hb) = r := by
    intro r hr
    rw [← hr]
    simp only [C_readNow, C_readNow_b, og_0]
    rw [C_isB, h48', hb1, Option.bind_some, if_neg (by decide), s1, bd2_some, s2, Option.bind_some, og_0_2, Option.bind_some, C_bks, Option.bind_some]
  have eT : ∀ r, (if bz (p && decide (dy + le ≤ 999)) = 0 then some (-3, M1) else (T_keeps N (0 : Int32) M1).bind fun M4 => bd2 (T_reading N (nn k) M4) fun v6 M5 => some (v6, M5)) = r → T_readsKept N (nn k) M = r := by
    intro r hr
    rw [← hr]
    unfold T_readsKept
    rw [T_isB, h48, hb1, Option.bind_some, if_neg (by decide), s3, bd2_some]
  cases p
  · exact Now_v (v := -nn 3) h (Or.inr rfl) (eC _ (by rw [if_pos (by rfl)]; rfl)) (eT _ (by rw [Bool.false_and, if_pos (by rfl)]; rfl)) s4 s5 s6 s7
  by_cases hd : dy + le ≤ 999
  · rw [decide_eq_true hd] at eC eT
    have hW := Wk_mv h s4 s5 s6 s7
    obtain ⟨u', A2, X2, M2, p1, p2, p3, p4, p5, p6, p7⟩ := sim_app (N := N) hN hW (w := 0) (by omega)
    obtain ⟨v, X3, hb3, M3, hv, r1, r2, r3, r4, r5, r6⟩ := sim_rd hN p3 hk (dy := dy) (le := le) (by rw [p7, TF_fT s7, edy]) (by rw [p7, TF_fT s7, ele]) hd
    refine ⟨nn v, u', A2, X3, hb3, M3, eC _ ?_, eT _ ?_, Or.inr (Or.inr ⟨v, by omega, rfl⟩), r3, p4, Td_trans s6 r6, CKu_trans (CKu_of (CK_q s4 s5)) (CKu_trans p5 (CKu_of r4)), TKu_trans (TKu_of (TK_TF s7)) (TKu_trans p6 (TKu_of r5))⟩
    · rw [if_neg (by decide), if_neg (by decide), show (0 : Int32) = nn 0 from rfl, p1, Option.bind_some, ← p4.1 0 (by omega), r1, bd2_some]
    · rw [if_neg (by decide), show (0 : Int32) = nn 0 from rfl, p2, Option.bind_some, r2, bd2_some]
  · rw [decide_eq_false hd] at eC eT
    exact Now_v (v := -nn 3) h (Or.inr rfl) (eC _ (by rw [if_neg (by decide), if_pos (by rfl)]; rfl)) (eT _ (by rw [if_pos (by rfl)]; rfl)) s4 s5 s6 s7
theorem cl_C {x : Int32 → Option Int32} {k : Nat} (hb8 : b ≤ 8) (h48 : coC X 0 48 = nn b) : ∀ (r i n : Nat) (p : Bool), i + r = b → r < n → C_canLose_L8 N (ovC A X hb) x n (A.1 0) (nn k) (bz p) (nn i) = x (bz (fo (fun j a => a && !(bt (coC X 0 0) (nn j) && bt (coC X 0 (22 + j)) (nn k))) r i p)) := by
  intro r
  induction r with
  | zero =>
    intro i n p hi hn
    obtain ⟨n, rfl⟩ : ∃ m, n = m + 1 := ⟨n - 1, by omega⟩
    rw [C_canLose_L8, C_nBk, h48, Option.bind_some, if_pos (by rw [nn_le (by omega) (by omega)]; omega)]
    rfl
  | succ r ih =>
    intro i n p hi hn
    obtain ⟨n, rfl⟩ : ∃ m, n = m + 1 := ⟨n - 1, by omega⟩
    rw [C_canLose_L8, C_nBk, h48, Option.bind_some, if_neg (by rw [nn_le (by omega) (by omega)]; omega), C_isR, Option.bind_some, fo_s, og_0_0, Option.bind_some, og_1_3, Option.bind_some, oa_4 (by omega), Option.bind_some, C_hs, Option.bind_some, cr_need (by omega)]
    unfold C_canLose_J41 C_canLose_J46
    rw [show (1 : Int32) = bz true from rfl, show (0 : Int32) = bz false from rfl, bz_and, bz_and, show nn i + bz true = nn (i + 1) from nn_add i 1, ih (i + 1) n _ (by omega) (by omega), ih (i + 1) n _ (by omega) (by omega)]
    cases bt (coC X 0 0) (nn i)
    · rw [if_pos (by rfl)]; rfl
    · rw [if_neg (by decide)]
      cases bt (coC X 0 (22 + i)) (nn k)
      · rw [if_pos (by rfl)]; rfl
      · rw [if_neg (by decide)]; rfl
theorem cl_T {x : Int32 → Option Int32} {k : Nat} (hb8 : b ≤ 8) (h48 : fT M 0 48 = nn b) : ∀ (r i n : Nat) (p : Bool), i + r = b → r < n → T_canLose_L8 N M x n (nn k) (bz p) (nn i) = x (bz (fo (fun j a => a && !(bt (fT M 0 0) (nn j) && bt (fT M 0 (22 + j)) (nn k))) r i p)) := by
  intro r
  induction r with
  | zero =>
    intro i n p hi hn
    obtain ⟨n, rfl⟩ : ∃ m, n = m + 1 := ⟨n - 1, by omega⟩
    rw [T_canLose_L8, T_bM, h48, Option.bind_some, if_pos (by rw [nn_le (by omega) (by omega)]; omega)]
    rfl
  | succ r ih =>
    intro i n p hi hn
    obtain ⟨n, rfl⟩ : ∃ m, n = m + 1 := ⟨n - 1, by omega⟩
    rw [T_canLose_L8, T_bM, h48, Option.bind_some, if_neg (by rw [nn_le (by omega) (by omega)]; omega), T_isR, Option.bind_some, fo_s, show (22 : Int32) + nn i = nn (22 + i) from nn_add 22 i, tra_nn (by omega) (by omega), Option.bind_some, T_isI, Option.bind_some, fT_0 (by omega)]
    unfold T_canLose_J44 T_canLose_J48 T_canLose_J49
    rw [show (1 : Int32) = bz true from rfl, show nn i + bz true = nn (i + 1) from nn_add i 1, show (0 : Int32) = bz false from rfl, ih (i + 1) n _ (by omega) (by omega), ih (i + 1) n _ (by omega) (by omega)]
    cases p
    · rw [if_pos (by rfl)]; rfl
    · rw [if_neg (by decide)]
      cases bt (fT M 0 0) (nn i)
      · rw [if_pos (by rfl)]; rfl
      · rw [if_neg (by decide)]
        cases bt (fT M 0 (22 + i)) (nn k)
        · rw [if_pos (by rfl)]; rfl
        · rw [if_neg (by decide)]; rfl
theorem sim_cl (hN : 20000 ≤ N) (hM : Mt (coC X) (fT M)) (hS : SOb b l s t u (fT M)) (k : Nat) : ∃ p : Bool, C_canLose N (ovC A X hb) (A.1 0) (nn k) = some (bz p) ∧ T_canLose N M (nn k) = some (bz p) := by
  have h8 := hS.1.1
  have m : ∀ i, coC X 0 i = fT M 0 i := fun i => hM.at (by omega) i
  refine ⟨fo (fun j a => a && !(bt (fT M 0 0) (nn j) && bt (fT M 0 (22 + j)) (nn k))) b 0 (bt (fT M 0 0) (nn k)), ?_, ?_⟩
  · unfold C_canLose C_canLose_b
    rw [og_0, C_isR, Option.bind_some, show (0 : Int32) = nn 0 from rfl, cl_C (b := b) h8 (by rw [m, hS.nb]) b 0 N _ (by omega) (by omega), rz_bz, Option.bind_some]
    simp only [m]
  · unfold T_canLose
    rw [T_isR, Option.bind_some, show (0 : Int32) = nn 0 from rfl, cl_T (b := b) h8 hS.nb b 0 N _ (by omega) (by omega), rz_bz, Option.bind_some]
theorem now_lose (hN : 20000 ≤ N) (h : Wk A X hb M D b l s t u) (a : Int32) : NowL A X hb M D b l s t (C_loseNow N (A.1 0) a) (T_losesKept N a) := by
  have h48 : fT M 0 48 = nn b := h.2.2.1.nb
  have h48' : coC X 0 48 = nn b := by rw [h.2.1.at (by omega), h48]
  have h8 := h.2.2.1.1.1
  cases hb1 : wi a (nn 0) (nn b - nn 1)
  · refine Now_v (v := -nn 2) (X' := X) (hb' := hb) (M' := M) h (Or.inl rfl) ?_ ?_ rfl rfl (Td_refl hb) (TF_refl M)
    · simp only [C_loseNow, C_loseNow_b, og_0]
      rw [C_isB, h48', hb1, Option.bind_some, if_pos (by rfl)]
      rfl
    · unfold T_losesKept
      rw [T_isB, h48, hb1, Option.bind_some, if_pos (by rfl)]
      rfl
  obtain ⟨k, hk, rfl⟩ := isB_k h.2.2.1 hb1
  obtain ⟨p, c1, c2⟩ := sim_cl (A := A) (X := X) (hb := hb) hN h.2.1 h.2.2.1 k
  cases p
  · refine Now_v (v := -nn 3) (X' := X) (hb' := hb) (M' := M) h (Or.inr rfl) ?_ ?_ rfl rfl (Td_refl hb) (TF_refl M)
    · simp only [C_loseNow, C_loseNow_b, og_0]
      rw [C_isB, h48', hb1, Option.bind_some, if_neg (by decide), c1, Option.bind_some, if_pos (by rfl)]
      rfl
    · unfold T_losesKept
      rw [T_isB, h48, hb1, Option.bind_some, if_neg (by decide), c2, Option.bind_some, if_pos (by rfl)]
      rfl
  obtain ⟨u', A2, X2, M2, p1, p2, p3, p4, p5, p6, p7⟩ := sim_app (N := N) hN h (w := 1) (by omega)
  obtain ⟨x, hx, ex⟩ := p3.2.2.1.known
  have hx' : x < 256 := Nat.lt_of_lt_of_le hx (pw_le h8)
  have hsd : sd x (2 ^ k) < 2 ^ b := sd_lt hx
  have hsd' : sd x (2 ^ k) < 256 := Nat.lt_of_lt_of_le hsd (pw_le h8)
  have ec : coC (ws X2 15 1 (nn (sd x (2 ^ k)))) = up2 (coC X2) 0 0 (nn (sd x (2 ^ k))) := co_known
  have ef : fT (tw M2 2 0 (nn (sd x (2 ^ k)))) = up2 (fT M2) 0 0 (nn (sd x (2 ^ k))) := fT_k (by omega)
  have hpc := pc8 (sd x (2 ^ k))
  refine ⟨nn (pc 8 (sd x (2 ^ k))), u', A2, ws X2 15 1 (nn (sd x (2 ^ k))), hb, tw M2 2 0 (nn (sd x (2 ^ k))), ?_, ?_, Or.inr (Or.inr ⟨_, by omega, rfl⟩), ?_, p4, Td_refl hb, CKu_trans p5 (CKu_ws (Or.inl rfl)), TKu_trans p6 (TKu_of (TK_2 (by omega)))⟩
  · simp only [C_loseNow, C_loseNow_b, og_0]
    rw [C_isB, h48', hb1, Option.bind_some, if_neg (by decide), c1, Option.bind_some, if_neg (by decide), og_0_2, Option.bind_some, C_bks, Option.bind_some, show X3_append (A.1 18) (A.1 15) 1 (ovC A X hb) = _ from p1, Option.bind_some, ← p4.1 0 (by omega), C_bks, Option.bind_some, og_15_1, Option.bind_some, cr_known, p3.2.1.at (by omega), ex, sh_nn (by omega), dif_nn hx', op_15_1, Option.bind_some, C_bks, Option.bind_some, og_15_1, Option.bind_some, ws_at, if_pos ⟨rfl, rfl⟩, C_on hsd', Option.bind_some]
  · unfold T_losesKept
    rw [T_isB, h48, hb1, Option.bind_some, if_neg (by decide), c2, Option.bind_some, if_neg (by decide), show T_keeps N 1 M = _ from p2, Option.bind_some, show (0 : Int32) = nn 0 from rfl, tra_nn (by omega) (by omega), Option.bind_some, fT_0 (by omega), ex, sh_nn (by omega), dif_nn hx', twa_nn (by omega) (by omega), Option.bind_some, tra_nn (by omega) (by omega), Option.bind_some, tw_2, if_pos rfl, upd_s, T_on hN hsd', Option.bind_some]
  · refine Wk_up p3 ?_ ?_ rfl (Td_refl hb) ?_ ?_
    · rw [ec, ef]; exact p3.2.1.up rfl
    · rw [ef]
      have b0 : Bd b l s t u' 0 0 (nn (sd x (2 ^ k))) := ⟨_, hsd, rfl⟩
      exact p3.2.2.1.up b0
    · rw [ef, up2_n _ _ (by omega)]
    · rw [ef, up2_g _ _ (by omega)]
theorem now_cut (hN : 20000 ≤ N) (h : Wk A X hb M D b l s t u) (a : Int32) : NowL A X hb M D b l s t (C_cutNow (A.1 0) a) (T_cutsKept N a) := by
  have h49 : fT M 0 49 = nn l := h.2.2.1.nl
  have h49' : coC X 0 49 = nn l := by rw [h.2.1.at (by omega), h49]
  have h4 := h.2.2.1.1.2.1
  cases hl1 : wi a (nn 0) (nn l - nn 1)
  · refine Now_v (v := -nn 2) (X' := X) (hb' := hb) (M' := M) h (Or.inl rfl) ?_ ?_ rfl rfl (Td_refl hb) (TF_refl M)
    · simp only [C_cutNow, C_cutNow_b, og_0]
      rw [C_isL, h49', hl1, Option.bind_some, if_pos (by rfl)]
      rfl
    · unfold T_cutsKept
      rw [T_isL, h49, hl1, Option.bind_some, if_pos (by rfl)]
      rfl
  obtain ⟨k, hk, rfl⟩ := isL_k h.2.2.1 hl1
  obtain ⟨hg, hhg, ehg⟩ := h.2.2.1.high (i := k) (by omega)
  by_cases hz : hg = 0
  · have hz' : nn hg = 0 := by rw [hz]; rfl
    refine Now_v (v := -nn 3) (X' := X) (hb' := hb) (M' := M) h (Or.inr rfl) ?_ ?_ rfl rfl (Td_refl hb) (TF_refl M)
    · simp only [C_cutNow, C_cutNow_b, og_0]
      rw [C_isL, h49', hl1, Option.bind_some, if_neg (by decide), C_bks, Option.bind_some, og_15_0, Option.bind_some, oa_16 (by omega), Option.bind_some, cr_high (by omega), h.2.1.at (by omega), ehg, if_pos hz']
      rfl
    · unfold T_cutsKept
      rw [T_isL, h49, hl1, Option.bind_some, if_neg (by decide), show (1 : Int32) = nn 1 from rfl, nn_add, tra_nn (by omega) (by omega), Option.bind_some, fT_0 (by omega), ehg, if_pos hz']
      rfl
  have hz' : ¬ nn hg = 0 := by rw [nn_z (by omega)]; exact hz
  obtain ⟨u', A2, X2, M2, p1, p2, p3, p4, p5, p6, p7⟩ := sim_app (N := N) hN h (w := 2) (by omega)
  refine ⟨nn hg, u', A2, ws X2 16 k (nn 0), hb, tw M2 2 (1 + k) (nn 0), ?_, ?_, Or.inr (Or.inr ⟨_, hhg, rfl⟩), Wk_hi p3 hk (by omega), p4, Td_refl hb, CKu_trans p5 (CKu_ws (Or.inr (Or.inl rfl))), TKu_trans p6 (TKu_of (TK_2 (by omega)))⟩
  · simp only [C_cutNow, C_cutNow_b, og_0]
    rw [C_isL, h49', hl1, Option.bind_some, if_neg (by decide), C_bks, Option.bind_some, og_15_0, Option.bind_some, oa_16 (by omega), Option.bind_some, cr_high (by omega), h.2.1.at (by omega), ehg, if_neg hz', og_0_2, Option.bind_some, Option.bind_some, show X3_append (A.1 18) (A.1 15) 2 (ovC A X hb) = _ from p1, Option.bind_some, ← p4.1 0 (by omega), C_bks, Option.bind_some, og_15_0, Option.bind_some, os_16 (by omega), Option.bind_some]
    rfl
  · unfold T_cutsKept
    rw [T_isL, h49, hl1, Option.bind_some, if_neg (by decide), show (1 : Int32) = nn 1 from rfl, nn_add, tra_nn (by omega) (by omega), Option.bind_some, fT_0 (by omega), ehg, if_neg hz', show T_keeps N 2 M = _ from p2, Option.bind_some, twa_nn (by omega) (by omega), Option.bind_some]
    rfl
theorem now_pass (hN : 20000 ≤ N) (h : Wk A X hb M D b l s t u) : NowL A X hb M D b l s t (C_passNow N (A.1 0)) (T_passesKept N) := by
  obtain ⟨dy, hdy, edy⟩ := h.2.2.1.day
  have e9 : (nn dy = (999 : Int32)) = (dy = 999) := nn_inj (b := 999) (by omega) (by omega)
  by_cases hz : dy = 999
  · have hz' : nn dy = (999 : Int32) := by rw [hz]; rfl
    refine Now_v (v := -nn 3) (X' := X) (hb' := hb) (M' := M) h (Or.inr rfl) ?_ ?_ rfl rfl (Td_refl hb) (TF_refl M)
    · simp only [C_passNow, C_passNow_b, og_0]
      rw [C_bks, Option.bind_some, og_15_2, Option.bind_some, cr_day, h.2.1.at (by omega), edy, if_pos hz']
      rfl
    · unfold T_passesKept
      rw [show (5 : Int32) = nn 5 from rfl, tra_nn (by omega) (by omega), Option.bind_some, fT_0 (by omega), edy, if_pos hz']
      rfl
  have hz' : ¬ nn dy = (999 : Int32) := by rw [e9]; exact hz
  obtain ⟨u', A2, X2, M2, p1, p2, p3, p4, p5, p6, p7⟩ := sim_app (N := N) hN h (w := 3) (by omega)
  obtain ⟨v, X3, hb3, M3, hv, r1, r2, r3, r4, r5, r6⟩ := sim_ps hN p3 (dy := dy) (by rw [p7, edy]) (by omega)
  refine ⟨nn v, u', A2, X3, hb3, M3, ?_, ?_, Or.inr (Or.inr ⟨v, by omega, rfl⟩), r3, p4, r6, CKu_trans p5 (CKu_of r4), TKu_trans p6 (TKu_of r5)⟩
  · simp only [C_passNow, C_passNow_b, og_0]
    rw [C_bks, Option.bind_some, og_15_2, Option.bind_some, cr_day, h.2.1.at (by omega), edy, if_neg hz', og_0_2, Option.bind_some, Option.bind_some, show X3_append (A.1 18) (A.1 15) 3 (ovC A X hb) = _ from p1, Option.bind_some, ← p4.1 0 (by omega), r1, bd2_some]
  · unfold T_passesKept
    rw [show (5 : Int32) = nn 5 from rfl, tra_nn (by omega) (by omega), Option.bind_some, fT_0 (by omega), edy, if_neg hz', show T_keeps N 3 M = _ from p2, Option.bind_some, r2, bd2_some]
/-- told as all calls tell -/
theorem Now_tell {C : Hp → Option (Int32 × Hp)} {T : TM → Option (Int32 × TM)} (h : NowL A X hb M D b l s t C T) : OpL A X hb M t (fun h => bd2 (C h) fun v22 h21 => bd2 (C_tell (A.1 0) v22 h21) fun v24 h23 => some (v24, h23)) (fun M => bd2 (T M) fun v2 M1 => bd2 (T_goodOr v2 M1) fun v4 M3 => some (v4, M3)) := by
  obtain ⟨v, u', A', X', hb', M', h1, h2, h3, h4, h5, h6, h7, h8⟩ := h
  have e0 : A.1 0 = A'.1 0 := (h5.1 0 (by omega)).symm
  have hr : (∃ k, 0 < k ∧ k < 7 ∧ v = -nn k ∧ ¬ 0 ≤ v) ∨ ∃ n, n ≤ 999 ∧ v = nn n := by
    rcases h3 with z | z | z
    · exact Or.inl ⟨2, by omega, by omega, z, by rw [z]; decide⟩
    · exact Or.inl ⟨3, by omega, by omega, z, by rw [z]; decide⟩
    · exact Or.inr z
  rcases hr with ⟨k, k0, k7, rfl, hneg⟩ | ⟨n, hn, rfl⟩
  · obtain ⟨X2, c1, c2, c3⟩ := C_ref (A := A') (X := X') (hb := hb') k0 k7
    obtain ⟨M2, t1, t2⟩ := T_ref M' k7
    refine ⟨-nn k, A', X2, hb', M2, ?_, ?_, ?_, ⟨b, l, s, u', ?_⟩, ?_, h6, h5, ?_⟩
    · show bd2 (C (ovC A X hb)) _ = _
      rw [h1, bd2_some, bd2_eta, e0, c1]
    · show bd2 (T M) _ = _
      rw [h2, bd2_some, bd2_eta]
      unfold T_goodOr
      rw [if_neg hneg, bd2_eta, t1]
    · rw [c2, t2]; exact Mt_tl h4.2.1 k
    · rw [t2]; exact SOb_tl h4.2.2.1 k
    · rw [c3]; exact h7.2
    · intro g hg
      rw [t2, tlS_g _ _ hg, TKu_g h8 hg]
  · obtain ⟨X2, c1, c2, c3⟩ := C_goo (A := A') (X := X') (hb := hb') (nn_ge n (by omega))
    obtain ⟨M2, t1, t2⟩ := T_goo (nn n) M'
    refine ⟨nn n, A', X2, hb', M2, ?_, ?_, ?_, ⟨b, l, s, u', ?_⟩, ?_, h6, h5, ?_⟩
    · show bd2 (C (ovC A X hb)) _ = _
      rw [h1, bd2_some, bd2_eta, e0, c1]
    · show bd2 (T M) _ = _
      rw [h2, bd2_some, bd2_eta]
      unfold T_goodOr
      rw [if_pos (nn_ge n (by omega)), bd2_eta, t1]
    · rw [c2, t2]; exact Mt_gd h4.2.1
    · rw [t2]; exact SOb_gd h4.2.2.1
    · rw [c3]; exact h7.2
    · intro g hg
      rw [t2, gdS_g _ hg, TKu_g h8 hg]
theorem OpL_C {C C' : Hp → Option (Int32 × Hp)} {T T' : TM → Option (Int32 × TM)} (h : OpL A X hb M t C T) (hC : C' (ovC A X hb) = C (ovC A X hb)) (hT : T' M = T M) : OpL A X hb M t C' T' := by
  obtain ⟨v, A', X', hb', M', h1, h2, h3⟩ := h
  exact ⟨v, A', X', hb', M', by rw [hC, h1], by rw [hT, h2], h3⟩
theorem op_read (hN : 20000 ≤ N) (h : Wk A X hb M D b l s t u) (a : Int32) : OpL A X hb M t (C_read N (A.1 0) a) (T_read N a) := OpL_C (Now_tell (now_read hN h a)) (by unfold C_read C_read_b; rw [og_0]) (by unfold T_read; rfl)
theorem op_lose (hN : 20000 ≤ N) (h : Wk A X hb M D b l s t u) (a : Int32) : OpL A X hb M t (C_lose N (A.1 0) a) (T_lose N a) := OpL_C (Now_tell (now_lose hN h a)) (by unfold C_lose C_lose_b; rw [og_0]) (by unfold T_lose; rfl)
theorem op_cut (hN : 20000 ≤ N) (h : Wk A X hb M D b l s t u) (a : Int32) : OpL A X hb M t (C_cut (A.1 0) a) (T_cut N a) := OpL_C (Now_tell (now_cut hN h a)) (by unfold C_cut C_cut_b; rw [og_0]) (by unfold T_cut; rfl)
theorem op_pass (hN : 20000 ≤ N) (h : Wk A X hb M D b l s t u) : OpL A X hb M t (C_pass N (A.1 0)) (T_pass N) := OpL_C (Now_tell (now_pass hN h)) (by unfold C_pass C_pass_b; rw [og_0]) (by unfold T_pass; rfl)
end NW
