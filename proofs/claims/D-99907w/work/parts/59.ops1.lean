/-! PLAIN LAW: books, needs, leeks, terms and what is told -/
set_option maxRecDepth 100000
/-- one call on both sides: equal answers, the states again alike -/
def Sim (A : AT) (hb : Hp) (X : XT) (M : TM) (t : Nat) (C : Hp → Option (Int32 × Hp)) (T : TM → Option (Int32 × TM)) : Prop := ∃ v X' M', C (ovC A X hb) = some (v, ovC A X' hb) ∧ T M = some (v, M') ∧ Mt (coC X') (fT M') ∧ (∃ b l s u, SOb b l s t u (fT M')) ∧ X'.2.2 = X.2.2 ∧ ∀ g, 6 ≤ g → fT M' g = fT M g
section R1
variable {A : AT} {hb : Hp} {X : XT} {M : TM} {b l s t u : Nat}
theorem tlS_g (k : Nat) (S : Nat → Nat → Int32) {g : Nat} (h : 6 ≤ g) : tlS k S g = S g := by
  unfold tlS
  rw [up2_g _ _ (by omega), up2_g _ _ (by omega)]
theorem gdS_g (S : Nat → Nat → Int32) {g : Nat} (h : 6 ≤ g) : gdS S g = S g := by
  unfold gdS
  rw [up2_g _ _ (by omega)]
theorem noU_g (S : Nat → Nat → Int32) {g : Nat} (h : 6 ≤ g) : noU S g = S g := by
  funext i
  rw [noU_n _ _ (by omega), up2_g _ _ (by omega)]
/-- both refuse -/
theorem Sim_ref {X1 : XT} {M1 : TM} {k : Nat} (h0 : 0 < k) (h : k < 7) (hM : Mt (coC X1) (fT M1)) (hS : SOb b l s t u (fT M1)) (hx : X1.2.2 = X.2.2) (hg : ∀ g, 6 ≤ g → fT M1 g = fT M g) {C : Hp → Option (Int32 × Hp)} {T : TM → Option (Int32 × TM)} (hC : C (ovC A X hb) = C_tell (A.1 0) (-nn k) (ovC A X1 hb)) (hT : T M = T_refuses (-nn k) M1) : Sim A hb X M t C T := by
  obtain ⟨X', e1, e2, e3⟩ := C_ref (A := A) (X := X1) (hb := hb) h0 h
  obtain ⟨M', f1, f2⟩ := T_ref M1 h
  refine ⟨_, X', M', by rw [hC, e1], by rw [hT, f1], ?_, ⟨b, l, s, u, ?_⟩, by rw [e3]; exact hx, ?_⟩
  · rw [e2, f2]; exact Mt_tl hM k
  · rw [f2]; exact SOb_tl hS k
  · intro g z
    rw [f2, tlS_g _ _ z, hg g z]
/-- both say v -/
theorem Sim_goo {X1 : XT} {M1 : TM} {v : Int32} (h : 0 ≤ v) (hM : Mt (coC X1) (fT M1)) (hS : SOb b l s t u (fT M1)) (hx : X1.2.2 = X.2.2) (hg : ∀ g, 6 ≤ g → fT M1 g = fT M g) {C : Hp → Option (Int32 × Hp)} {T : TM → Option (Int32 × TM)} (hC : C (ovC A X hb) = C_tell (A.1 0) v (ovC A X1 hb)) (hT : T M = T_good v M1) : Sim A hb X M t C T := by
  obtain ⟨X', e1, e2, e3⟩ := C_goo (A := A) (X := X1) (hb := hb) h
  obtain ⟨M', f1, f2⟩ := T_goo v M1
  refine ⟨_, X', M', by rw [hC, e1], by rw [hT, f1], ?_, ⟨b, l, s, u, ?_⟩, by rw [e3]; exact hx, ?_⟩
  · rw [e2, f2]; exact Mt_gd hM
  · rw [f2]; exact SOb_gd hS
  · intro g z
    rw [f2, gdS_g _ z, hg g z]
theorem Sim_had {X1 : XT} {M1 : TM} {v : Int32} (hM : Mt (coC X1) (fT M1)) (hS : SOb b l s t u (fT M1)) (hx : X1.2.2 = X.2.2) (hg : ∀ g, 6 ≤ g → fT M1 g = fT M g) {C : Hp → Option (Int32 × Hp)} {T : TM → Option (Int32 × TM)} (hC : C (ovC A X hb) = C_had (A.1 0) v (ovC A X1 hb)) (hT : T M = T_good v M1) : Sim A hb X M t C T := by
  obtain ⟨X', e1, e2, e3⟩ := C_hadd (A := A) (X := X1) (hb := hb) v
  obtain ⟨M', f1, f2⟩ := T_goo v M1
  refine ⟨_, X', M', by rw [hC, e1], by rw [hT, f1], ?_, ⟨b, l, s, u, ?_⟩, by rw [e3]; exact hx, ?_⟩
  · rw [e2, f2]; exact Mt_gd hM
  · rw [f2]; exact SOb_gd hS
  · intro g z
    rw [f2, gdS_g _ z, hg g z]
theorem Sim_setg {X1 : XT} {M1 : TM} {v : Int32} (h : 0 ≤ v) (hM : Mt (coC X1) (fT M1)) (hS : SOb b l s t 0 (noU (fT M1))) (hx : X1.2.2 = X.2.2) (hg : ∀ g, 6 ≤ g → fT M1 g = fT M g) {C : Hp → Option (Int32 × Hp)} {T : TM → Option (Int32 × TM)} (hC : C (ovC A X hb) = C_settled (A.1 0) v (ovC A X1 hb)) (hT : T M = T_settled v M1) : Sim A hb X M t C T := by
  obtain ⟨X', e1, e2, e3⟩ := C_setg (A := A) (X := X1) (hb := hb) h
  obtain ⟨M', f1, f2⟩ := T_set v M1
  refine ⟨_, X', M', by rw [hC, e1], by rw [hT, f1], ?_, ⟨b, l, s, 0, ?_⟩, by rw [e3]; exact hx, ?_⟩
  · rw [e2, f2]; exact Mt_gd (Mt_noU hM)
  · rw [f2]; exact SOb_gd hS
  · intro g z
    rw [f2, gdS_g _ z, noU_g _ z, hg g z]
theorem nn_ge (n : Nat) (h : n < 2147483648) : 0 ≤ nn n := by
  rw [Int32.le_iff_toInt_le, nn_toInt h]
  exact Int.natCast_nonneg n
end R1
/-- a book more -/
def addS (b : Nat) (x y z : Int32) (S : Nat → Nat → Int32) : Nat → Nat → Int32 := up2 (up2 (up2 (up2 (up2 S 0 (6 + b) x) 0 (14 + b) y) 0 (22 + b) z) 0 0 (S 0 0 &&& (((1 : Int32) <<< (nn b &&& 31)) ^^^ (-1 : Int32)))) 0 48 (nn (b + 1))
theorem Mt_add {S S' : Nat → Nat → Int32} (h : Mt S S') (b : Nat) (x y z : Int32) : Mt (addS b x y z S) (addS b x y z S') := by
  unfold addS
  exact ((((h.up rfl).up rfl).up rfl).up (by rw [h.at (by omega)])).up rfl
theorem T_canB (x y : Int32) : T_canBook x y = some (bz (wi x (nn 1) (nn 9) && wi y (nn 0) (nn 3))) := by
  unfold T_canBook
  rw [T_lies_w, Option.bind_some]
  cases h1 : wi x (nn 1) (nn 9)
  · have h1' : wi x 1 9 = false := h1
    rw [h1', if_pos (by rfl)]
    rfl
  · have h1' : wi x 1 9 = true := h1
    rw [h1', if_neg (by decide), T_lies_w, Option.bind_some]
    cases h2 : wi y (nn 0) (nn 3)
    · have h2' : wi y 0 3 = false := h2
      rw [h2', if_pos (by rfl)]
      rfl
    · have h2' : wi y 0 3 = true := h2
      rw [h2', if_neg (by decide)]
      rfl
theorem T_add {M : TM} {b : Nat} (hb : fT M 0 48 = nn b) (h8 : b < 8) (x y z : Int32) : ∃ M', T_adds x y z M = some M' ∧ fT M' = addS b x y z (fT M) := by
  refine ⟨tw (tw (tw (tw (tw M 2 (6 + b) x) 2 (14 + b) y) 2 (22 + b) z) 2 0 (M.2.2.1 2 0 &&& (((1 : Int32) <<< (nn b &&& 31)) ^^^ (-1 : Int32)))) 2 48 (nn (b + 1)), ?_, ?_⟩
  · have hk : M.2.2.1 2 48 = nn b := by rw [fT_0 (by omega), hb]
    unfold T_adds
    rw [T_bM, hb, Option.bind_some, show (6 : Int32) = nn 6 from rfl, nn_add, twa_nn (by omega) (by omega), Option.bind_some, show (14 : Int32) = nn 14 from rfl, nn_add, twa_nn (by omega) (by omega), Option.bind_some, show (22 : Int32) = nn 22 from rfl, nn_add, twa_nn (by omega) (by omega), Option.bind_some, show (0 : Int32) = nn 0 from rfl, tra_nn (by omega) (by omega), Option.bind_some, twa_nn (by omega) (by omega), Option.bind_some, show (48 : Int32) = nn 48 from rfl, tra_nn (by omega) (by omega), Option.bind_some, twa_nn (by omega) (by omega), Option.bind_some]
    have e0 : (tw (tw (tw M 2 (6 + b) x) 2 (14 + b) y) 2 (22 + b) z).2.2.1 2 0 = M.2.2.1 2 0 := by
      simp only [tw_2, if_true]
      rw [upd_n _ _ (by omega), upd_n _ _ (by omega), upd_n _ _ (by omega)]
    rw [e0]
    have e1 : ∀ w, (tw (tw (tw (tw M 2 (6 + b) x) 2 (14 + b) y) 2 (22 + b) z) 2 0 w).2.2.1 2 48 = nn b := by
      intro w
      simp only [tw_2, if_true]
      rw [upd_n _ _ (by omega), upd_n _ _ (by omega), upd_n _ _ (by omega), upd_n _ _ (by omega), hk]
    rw [e1, show (1 : Int32) = nn 1 from rfl, nn_add]
  · rw [fT_k (by omega), fT_k (by omega), fT_k (by omega), fT_k (by omega), fT_k (by omega), fT_0 (by omega)]
    rfl
theorem SOb_add {b l s t u : Nat} {S : Nat → Nat → Int32} (h : SOb b l s t u S) (h8 : b < 8) {x y z : Int32} (hx : ∃ n, n ≤ 9 ∧ x = nn n) (hy : ∃ n, n ≤ 3 ∧ y = nn n) (hz : ∃ n, n < 2 ^ b ∧ z = nn n) : SOb (b + 1) l s t 0 (noU (addS b x y z S)) := by
  refine ⟨⟨by omega, h.1.2.1, h.1.2.2.1, h.1.2.2.2.1, by omega⟩, fun g i => ?_⟩
  have hp : 2 ^ b < 2 ^ (b + 1) := Nat.pow_lt_pow_right (by omega) (by omega)
  have hp8 := pw_le (show b ≤ 8 by omega)
  by_cases h4 : g = 4
  · subst h4
    unfold Bd
    simp
  rw [noU_n _ _ h4]
  by_cases h15 : g = 1 ∧ i = 5
  · obtain ⟨rfl, rfl⟩ := h15
    rw [up2_s]
    rfl
  rw [up2_n _ _ h15]
  unfold addS
  by_cases h48 : g = 0 ∧ i = 48
  · obtain ⟨rfl, rfl⟩ := h48
    rw [up2_s]
    rfl
  rw [up2_n _ _ h48]
  by_cases h0 : g = 0 ∧ i = 0
  · obtain ⟨rfl, rfl⟩ := h0
    rw [up2_s]
    obtain ⟨n, hn, e⟩ := h.known
    rw [e, sh_nn (by omega), dif_nn (by omega)]
    exact ⟨_, Nat.lt_trans (sd_lt hn) hp, rfl⟩
  rw [up2_n _ _ h0]
  by_cases hn : g = 0 ∧ i = 22 + b
  · obtain ⟨rfl, rfl⟩ := hn
    rw [up2_s]
    unfold Bd
    rw [if_pos rfl, if_neg (by omega), if_neg (by omega), if_neg (by omega), if_neg (by omega), if_pos (by omega)]
    intro _
    obtain ⟨n, hn, e⟩ := hz
    exact ⟨n, by omega, e⟩
  rw [up2_n _ _ hn]
  by_cases hk : g = 0 ∧ i = 14 + b
  · obtain ⟨rfl, rfl⟩ := hk
    rw [up2_s]
    unfold Bd
    rw [if_pos rfl, if_neg (by omega), if_neg (by omega), if_neg (by omega), if_pos (by omega)]
    exact hy
  rw [up2_n _ _ hk]
  by_cases hl : g = 0 ∧ i = 6 + b
  · obtain ⟨rfl, rfl⟩ := hl
    rw [up2_s]
    unfold Bd
    rw [if_pos rfl, if_neg (by omega), if_neg (by omega), if_pos (by omega)]
    exact hx
  rw [up2_n _ _ hl]
  have e := h.2 g i
  unfold Bd at e ⊢
  by_cases hg : g = 0
  · subst hg
    rw [if_pos rfl] at e ⊢
    by_cases a1 : i = 0
    · exact absurd ⟨rfl, a1⟩ h0
    rw [if_neg a1] at e ⊢
    by_cases a2 : i < 6
    · rw [if_pos a2] at e ⊢; exact e
    rw [if_neg a2] at e ⊢
    by_cases a3 : i < 14
    · rw [if_pos a3] at e ⊢; exact e
    rw [if_neg a3] at e ⊢
    by_cases a4 : i < 22
    · rw [if_pos a4] at e ⊢; exact e
    rw [if_neg a4] at e ⊢
    by_cases a5 : i < 30
    · rw [if_pos a5] at e ⊢
      intro hi
      obtain ⟨n, hn', e'⟩ := e (by omega)
      exact ⟨n, by omega, e'⟩
    rw [if_neg a5] at e ⊢
    by_cases a6 : i < 34
    · rw [if_pos a6] at e ⊢; exact e
    rw [if_neg a6] at e ⊢
    by_cases a7 : i < 46
    · rw [if_pos a7] at e ⊢; exact e
    rw [if_neg a7] at e ⊢
    by_cases a8 : i < 48
    · rw [if_pos a8] at e ⊢; exact e
    rw [if_neg a8] at e ⊢
    by_cases a9 : i = 48
    · exact absurd ⟨rfl, a9⟩ h48
    rw [if_neg a9] at e ⊢
    exact e
  · rw [if_neg hg] at e ⊢
    by_cases b1 : g = 1
    · subst b1
      rw [if_pos rfl] at e ⊢
      by_cases c1 : i = 4
      · rw [if_pos c1] at e ⊢; exact e
      rw [if_neg c1] at e ⊢
      rw [if_neg (fun z => h15 ⟨rfl, z⟩)]
      trivial
    rw [if_neg b1] at e ⊢
    by_cases b3 : g = 3
    · rw [if_pos b3] at e ⊢; exact e
    rw [if_neg b3] at e ⊢
    rw [if_neg h4] at e ⊢
    exact e
theorem C_comeN {A : AT} {X : XT} {hb : Hp} {x y z : Int32} (h : (wi x (nn 1) (nn 9) && wi y (nn 0) (nn 3)) = false) : C_come (A.1 0) x y z (ovC A X hb) = some (-nn 1, ovC A X hb) := by
  unfold C_come C_come_b
  rw [og_0, show (1 : Int64) = (nn 1).toInt64 by decide, show (9 : Int64) = (nn 9).toInt64 by decide, C_in_w, Option.bind_some]
  cases h1 : wi x (nn 1) (nn 9)
  · rw [if_pos (by rfl)]; rfl
  · rw [if_neg (by decide), show (0 : Int64) = (nn 0).toInt64 by decide, show (3 : Int64) = (nn 3).toInt64 by decide, C_in_w, Option.bind_some]
    rw [h1, Bool.true_and] at h
    rw [h, if_pos (by rfl)]; rfl
theorem C_comeY {A : AT} {X : XT} {hb : Hp} {b : Nat} {x y z : Int32} (hb' : coC X 0 48 = nn b) (h8 : b ≤ 8) (h : (wi x (nn 1) (nn 9) && wi y (nn 0) (nn 3)) = true) (r : Option (Int32 × Hp)) (hr : (if (z &&& (nn (2 ^ b - 1) ^^^ (-1 : Int32))) = 0 then (if b = 8 then some (-nn 5, ovC A X hb) else some (nn b, ovC A (ws (ws (ws (ws (ws X 2 b x) 3 b y) 4 b z) 15 1 (X.1 15 1 &&& (((1 : Int32) <<< (nn b &&& 31)) ^^^ (-1 : Int32)))) 1 8 (nn (b + 1))) hb)) else some (-nn 1, ovC A X hb)) = r) : C_come (A.1 0) x y z (ovC A X hb) = r := by
  rw [Bool.and_eq_true] at h
  have e9 : (1 : Int32) <<< (nn b &&& 31) - 1 = nn (2 ^ b - 1) := by
    rw [sh_nn (by omega), show (1 : Int32) = nn 1 from rfl, nn_sub (Nat.one_le_two_pow)]
  unfold C_come C_come_b
  rw [og_0, show (1 : Int64) = (nn 1).toInt64 by decide, show (9 : Int64) = (nn 9).toInt64 by decide, C_in_w, Option.bind_some, h.1, if_neg (by decide), show (0 : Int64) = (nn 0).toInt64 by decide, show (3 : Int64) = (nn 3).toInt64 by decide, C_in_w, Option.bind_some, h.2, if_neg (by decide), C_nBk, hb', Option.bind_some, e9]
  rw [← hr]
  by_cases hz : (z &&& (nn (2 ^ b - 1) ^^^ (-1 : Int32))) = 0
  · rw [if_pos hz, if_pos hz, Option.bind_some]
    by_cases h88 : b = 8
    · subst h88
      rw [if_pos (by rfl), if_pos rfl]
      rfl
    · have hlt : b < 8 := by omega
      have hne : ¬ nn b = (8 : Int32) := by
        rw [show (8 : Int32) = nn 8 from rfl, nn_inj (by omega) (by omega)]
        exact h88
      rw [if_neg hne, if_neg h88, og_0_0, Option.bind_some, og_1_1, Option.bind_some, os_2 hlt, Option.bind_some, og_0_0, Option.bind_some, og_1_2, Option.bind_some, os_3 hlt, Option.bind_some, og_0_0, Option.bind_some, og_1_3, Option.bind_some, os_4 hlt, Option.bind_some, C_bks, Option.bind_some, og_15_1, Option.bind_some, op_15_1, Option.bind_some, og_0_0, Option.bind_some, og_1_8, Option.bind_some, op_1_8, Option.bind_some]
      have e1 : X.1 1 8 = nn b := by rw [cr_nB, hb']
      simp only [ws_at]
      simp [e1]
      rw [show nn (b + 1) = nn b + 1 from (nn_add b 1).symm]
  · rw [if_neg hz, if_neg hz]
    rfl
section R2
variable {A : AT} {hb : Hp} {X : XT} {M : TM} {b l s t u : Nat}
theorem co_come {x y z : Int32} (h8 : b < 8) : coC (ws (ws (ws (ws (ws X 2 b x) 3 b y) 4 b z) 15 1 (X.1 15 1 &&& (((1 : Int32) <<< (nn b &&& 31)) ^^^ (-1 : Int32)))) 1 8 (nn (b + 1))) = addS b x y z (coC X) := by
  rw [co_nB, co_known, co_need h8, co_kind h8, co_len h8, cr_known]
  rfl
theorem wi_k {x : Int32} {n m : Nat} (hn : n < 2147483648) (hm : m < 2147483648) (h : wi x (nn n) (nn m) = true) : ∃ k, n ≤ k ∧ k ≤ m ∧ x = nn k := by
  obtain ⟨h1, h2⟩ := wi_t h
  have h0 : (0 : Int32) ≤ x := by
    have := nn_ge n hn
    rw [Int32.le_iff_toInt_le] at *
    omega
  obtain ⟨k, e, hk⟩ := nn_in' hm h0 h2
  rw [e, nn_le hn (by omega)] at h1
  exact ⟨k, h1, hk, e⟩
theorem C_setn {k : Nat} (h0 : 0 < k) (h : k < 7) : C_settled (A.1 0) (-nn k) (ovC A X hb) = C_tell (A.1 0) (-nn k) (ovC A X hb) := by
  have hneg : -nn k < 0 := by
    have : ∀ k, k < 7 → 0 < k → -nn k < 0 := by decide
    exact this k h h0
  unfold C_settled C_settled_b
  rw [og_0, if_pos hneg]
  unfold C_settled_J12
  exact bd2_eta _
theorem op_book (hM : Mt (coC X) (fT M)) (hS : SOb b l s t u (fT M)) (a1 a2 : Int32) : Sim A hb X M t (C_book (A.1 0) a1 a2) (T_book a1 a2) := by
  have h48 : fT M 0 48 = nn b := hS.nb
  have h48' : coC X 0 48 = nn b := by rw [hM.at (by omega), h48]
  have h8 := hS.1.1
  cases hw : (wi a1 (nn 1) (nn 9) && wi a2 (nn 0) (nn 3))
  · refine Sim_ref (k := 1) (by omega) (by omega) hM hS rfl (fun _ _ => rfl) ?_ ?_
    · simp only [C_book, C_book_b, og_0, C_comeN hw, bd2_some, bd2_eta]
      exact C_setn (by omega) (by omega)
    · simp only [T_book, T_canB, hw, Option.bind_some, bz_0, if_true, bd2_eta]
      rfl
  · have hz0 : ((nn 0) &&& (nn (2 ^ b - 1) ^^^ (-1 : Int32))) = 0 := by
      rw [show nn 0 = 0 from rfl]
      exact Int32.zero_and
    by_cases hb8 : b = 8
    · refine Sim_ref (k := 5) (by omega) (by omega) hM hS rfl (fun _ _ => rfl) ?_ ?_
      · have e := C_comeY (A := A) (hb := hb) (z := nn 0) h48' h8 hw _ rfl
        rw [if_pos hz0, if_pos hb8] at e
        simp only [C_book, C_book_b, og_0]
        rw [show (0 : Int32) = nn 0 from rfl, e, bd2_some, bd2_eta]
        exact C_setn (by omega) (by omega)
      · subst hb8
        simp only [T_book, T_canB, hw, Option.bind_some, bz_0, T_bM, h48]
        rw [if_neg (by decide), if_pos (by rfl), bd2_eta]
        rfl
    · have hlt : b < 8 := by omega
      have e := C_comeY (A := A) (hb := hb) (z := nn 0) h48' h8 hw _ rfl
      rw [if_pos hz0, if_neg hb8] at e
      obtain ⟨M1, f1, f2⟩ := T_add h48 hlt a1 a2 (nn 0)
      rw [Bool.and_eq_true] at hw
      obtain ⟨k1, -, hk1, rfl⟩ := wi_k (by omega) (by omega) hw.1
      obtain ⟨k2, -, hk2, rfl⟩ := wi_k (by omega) (by omega) hw.2
      refine Sim_setg (X := X) (M := M) (b := b + 1) (l := l) (s := s) (v := nn b) (nn_ge b (by omega)) (M1 := M1) (X1 := ws (ws (ws (ws (ws X 2 b (nn k1)) 3 b (nn k2)) 4 b (nn 0)) 15 1 (X.1 15 1 &&& (((1 : Int32) <<< (nn b &&& 31)) ^^^ (-1 : Int32)))) 1 8 (nn (b + 1))) ?_ ?_ rfl ?_ ?_ ?_
      · rw [f2, co_come hlt]
        exact Mt_add hM b _ _ _
      · rw [f2]
        exact SOb_add hS hlt ⟨_, hk1, rfl⟩ ⟨_, hk2, rfl⟩ ⟨0, Nat.two_pow_pos b, rfl⟩
      · intro g hg
        rw [f2]
        unfold addS
        rw [up2_g _ _ (by omega), up2_g _ _ (by omega), up2_g _ _ (by omega), up2_g _ _ (by omega), up2_g _ _ (by omega)]
      · simp only [C_book, C_book_b, og_0]
        rw [show (0 : Int32) = nn 0 from rfl, e, bd2_some, bd2_eta]
      · have hne : ¬ nn b = (8 : Int32) := by
          rw [show (8 : Int32) = nn 8 from rfl, nn_inj (by omega) (by omega)]
          exact hb8
        have h48n : fT M1 0 48 = nn (b + 1) := by
          rw [f2]
          exact up2_s _ _ _ _
        simp only [T_book, T_canB, Option.bind_some, bz_0, T_bM, h48]
        rw [hw.1, hw.2, if_neg (by decide), if_neg hne, show (0 : Int32) = nn 0 from rfl, f1, Option.bind_some, h48n, show (1 : Int32) = nn 1 from rfl, nn_sub (by omega), bd2_eta]
        rfl
end R2
