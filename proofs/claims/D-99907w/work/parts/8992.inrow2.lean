/-! PLAIN LAW: books one behind the other: the component's side -/
set_option maxRecDepth 100000
/-- while not all is taken, one is open -/
def ncl (S : Nat → Nat → Int32) (b st : Nat) : Prop := ∀ k, k < b → st.testBit k = true → su (nd S k) (kn S ||| st)
def exO (S : Nat → Nat → Int32) (w b : Nat) : Prop := ∀ st, su st w → ncl S b st → lw (pWO S w (kn S ||| st)) b 0 = none → su w st
theorem ncl_0 (S : Nat → Nat → Int32) (b : Nat) : ncl S b 0 := fun k _ h => by
  rw [Nat.zero_testBit] at h
  cases h
theorem ncl_s {S : Nat → Nat → Int32} {b w st k : Nat} (h : ncl S b st) (hn : nd S k < 256) (hp : pWO S w (kn S ||| st) k = true) : ncl S b (st ||| 2 ^ k) := by
  unfold pWO at hp
  rw [Bool.and_eq_true, opN_t hn] at hp
  have hup : su (kn S ||| st) (kn S ||| (st ||| 2 ^ k)) := su_or (su_or_l _ _) (su_trans (su_or_l _ _) (su_or_r _ _))
  intro j hj hb
  rw [Nat.testBit_or, tb_pw, Bool.or_eq_true, decide_eq_true_eq] at hb
  rcases hb with hb | hb
  · exact su_trans (h j hj hb) hup
  · rw [← hb]
    exact su_trans hp.2.2 hup
section IC
variable {A : AT} {X : XT} {hb : Hp} {b l s t u N : Nat}
theorem ir_C (hN : 20000 ≤ N) (hS : SOb b l s t u (coC X)) {w i : Nat} (hw : w < 256) (hE : exO (coC X) w b) (hi : i < 2147483648) : ∀ (m n d st : Nat) (its : Int32), 8 ≤ m + pc 8 (kn (coC X) ||| st) → m + 1 < n → d ≤ i + 1 → su st w → ncl (coC X) b st → i + 1 - d ≤ pc 8 (kn (coC X) ||| st) → C_rows_L37 N (fun v37 h38 => some (v37, h38)) n (A.1 0) (nn i) (nn w) (nn st) its (nn (i + 1 - d)) (ovC A X hb) = some (inr (coC X) w b d st its, ovC A X hb) ∧ C_to_L51 N (ovC A X hb) (fun v37 => some v37) n (A.1 0) (nn i) (nn w) (nn st) its (nn (i + 1 - d)) = some (inr (coC X) w b d st its) := by
  have h8 := hS.1.1
  have h2b := pw_le h8
  have hkn := (kn_s hS).2
  intro m
  induction m with
  | zero =>
    intro n d st its h1 h2 h3 h4 hc h5
    obtain ⟨n, rfl⟩ : ∃ m, n = m + 1 := ⟨n - 1, by omega⟩
    have hst : st < 256 := Nat.lt_of_le_of_lt (su_le h4) hw
    have hp8 := pc8 (kn (coC X) ||| st)
    cases d with
    | zero =>
      refine ⟨?_, ?_⟩
      · rw [C_rows_L37, if_pos (by rw [nn_lt (by omega) (by omega)]; omega)]
        rfl
      · rw [C_to_L51, if_pos (by rw [nn_lt (by omega) (by omega)]; omega)]
        rfl
    | succ d =>
      have hno : lw (pWO (coC X) w (kn (coC X) ||| st)) b 0 = none := by
        cases h : lw (pWO (coC X) w (kn (coC X) ||| st)) b 0 with
        | none => rfl
        | some k =>
          obtain ⟨k1, _, k3⟩ := lw_new h
          have := pc_new (show k < 8 by omega) k3
          have := pc8 (kn (coC X) ||| st ||| 2 ^ k)
          omega
      have hw2 : st = w := su_anti h4 (hE st h4 hc hno)
      unfold inr
      rw [hno]
      refine ⟨?_, ?_⟩
      · rw [C_rows_L37, if_neg (by rw [nn_lt (by omega) (by omega)]; omega), if_pos (by rw [hw2])]
      · rw [C_to_L51, if_neg (by rw [nn_lt (by omega) (by omega)]; omega), if_pos (by rw [hw2])]
  | succ m ih =>
    intro n d st its h1 h2 h3 h4 hc h5
    obtain ⟨n, rfl⟩ : ∃ m, n = m + 1 := ⟨n - 1, by omega⟩
    have hst : st < 256 := Nat.lt_of_le_of_lt (su_le h4) hw
    have hr : kn (coC X) ||| st < 2 ^ 8 := Nat.or_lt_two_pow (by omega) (by omega)
    have hp8 := pc8 (kn (coC X) ||| st)
    cases d with
    | zero =>
      refine ⟨?_, ?_⟩
      · rw [C_rows_L37, if_pos (by rw [nn_lt (by omega) (by omega)]; omega)]
        rfl
      · rw [C_to_L51, if_pos (by rw [nn_lt (by omega) (by omega)]; omega)]
        rfl
    | succ d =>
      cases h : lw (pWO (coC X) w (kn (coC X) ||| st)) b 0 with
      | none =>
        have hw2 : st = w := su_anti h4 (hE st h4 hc h)
        unfold inr
        rw [h]
        refine ⟨?_, ?_⟩
        · rw [C_rows_L37, if_neg (by rw [nn_lt (by omega) (by omega)]; omega), if_pos (by rw [hw2])]
        · rw [C_to_L51, if_neg (by rw [nn_lt (by omega) (by omega)]; omega), if_pos (by rw [hw2])]
      | some k =>
        obtain ⟨k1, k2, k3⟩ := lw_new h
        have hne : ¬ nn st = nn w := by
          rw [nn_inj (by omega) (by omega)]
          intro z
          rw [z, pWO_su] at h
          cases h
        have hpn := pc_new (show k < 8 by omega) k3
        have hf : C_firstOpen N (ovC A X hb) (A.1 0) (nn (sd w st)) (nn (kn (coC X) ||| st)) = some (nn k) := by
          refine fo_C hN hS ?_ hr (by rw [pWO_sd hw]; exact h)
          exact Nat.lt_of_le_of_lt Nat.and_le_left hw
        rw [Nat.or_assoc] at hpn
        obtain ⟨r1, r2⟩ := ih n d (st ||| 2 ^ k) (nn k) (by omega) (by omega) (by omega) (su_or h4 (su_pw k2)) (ncl_s hc (by have := (nd_s hS k1).2; omega) (lw_lt b 0 h).2.2) (by omega)
        unfold inr
        rw [h]
        refine ⟨?_, ?_⟩
        · rw [C_rows_L37, if_neg (by rw [nn_lt (by omega) (by omega)]; omega), if_neg hne, C_bks, Option.bind_some, og_15_1, Option.bind_some, cr_known, (kn_s hS).1, dif_nn hw, or_nn, hf, Option.bind_some, sh_nn (by omega), or_nn, Option.bind_some, show (1 : Int32) = nn 1 from rfl, nn_add, show i + 1 - (d + 1) + 1 = i + 1 - d by omega, r1]
        · rw [C_to_L51, if_neg (by rw [nn_lt (by omega) (by omega)]; omega), if_neg hne, C_bks, Option.bind_some, og_15_1, Option.bind_some, cr_known, (kn_s hS).1, dif_nn hw, or_nn, hf, Option.bind_some, sh_nn (by omega), or_nn, Option.bind_some, show (1 : Int32) = nn 1 from rfl, nn_add, show i + 1 - (d + 1) + 1 = i + 1 - d by omega, r2]
end IC
