/-! PLAIN LAW: books one behind the other, the lowest open one each time -/
set_option maxRecDepth 100000
def inr (S : Nat → Nat → Int32) (w b : Nat) : Nat → Nat → Int32 → Int32
  | 0, _, its => its
  | d + 1, st, _ => match lw (pWO S w (kn S ||| st)) b 0 with
    | none => -1
    | some k => inr S w b d (st ||| 2 ^ k) (nn k)
theorem pWO_sd {S : Nat → Nat → Int32} {w st : Nat} (hw : w < 256) : pWO S (sd w st) (kn S ||| st) = pWO S w (kn S ||| st) := by
  funext k
  unfold pWO opN
  rw [sd_tb hw, Nat.testBit_or]
  cases w.testBit k <;> cases st.testBit k <;> cases (kn S).testBit k <;> simp
theorem pWO_su {S : Nat → Nat → Int32} {w : Nat} (b : Nat) : lw (pWO S w (kn S ||| w)) b 0 = none := by
  cases h : lw (pWO S w (kn S ||| w)) b 0 with
  | none => rfl
  | some k =>
    obtain ⟨_, _, h3⟩ := lw_lt b 0 h
    unfold pWO opN at h3
    rw [Nat.testBit_or] at h3
    cases hw : w.testBit k
    · rw [hw] at h3; cases h3
    · rw [hw] at h3
      simp at h3
theorem lw_new {S : Nat → Nat → Int32} {w b st k : Nat} (h : lw (pWO S w (kn S ||| st)) b 0 = some k) : k < b ∧ w.testBit k = true ∧ (kn S ||| st).testBit k = false := by
  obtain ⟨_, h2, h3⟩ := lw_lt b 0 h
  unfold pWO opN at h3
  rw [Bool.and_eq_true, Bool.and_eq_true, Bool.not_eq_true'] at h3
  exact ⟨by omega, h3.1, h3.2.1⟩
theorem pc_new {x k : Nat} (hk : k < 8) (h : x.testBit k = false) : pc 8 x < pc 8 (x ||| 2 ^ k) := by
  refine pc_lt (su_or_l _ _) hk h ?_
  rw [Nat.testBit_or, tb_pw, decide_eq_true rfl, Bool.or_true]
section IR
variable {A : AT} {X : XT} {hb : Hp} {M : TM} {b l s t u N : Nat}
theorem ir_T (hN : 20000 ≤ N) (hS : SOb b l s t u (fT M)) {w i : Nat} (hw : w < 256) (hi : i < 2147483648) : ∀ (m n d st : Nat) (its : Int32), 8 ≤ m + pc 8 (kn (fT M) ||| st) → m + 1 < n → d ≤ i + 1 → st < 256 → i + 1 - d ≤ pc 8 (kn (fT M) ||| st) → T_inRow_L13 N M (fun v11 => some v11) n (nn w) (nn i) (nn (kn (fT M) ||| st)) its (nn (i + 1 - d)) = some (inr (fT M) w b d st its) := by
  have h8 := hS.1.1
  have h2b := pw_le h8
  have hkn := (kn_s hS).2
  intro m
  induction m with
  | zero =>
    intro n d st its h1 h2 h3 h4 h5
    obtain ⟨n, rfl⟩ : ∃ m, n = m + 1 := ⟨n - 1, by omega⟩
    have hr : kn (fT M) ||| st < 2 ^ 8 := Nat.or_lt_two_pow (by omega) (by omega)
    have hp8 := pc8 (kn (fT M) ||| st)
    cases d with
    | zero =>
      rw [T_inRow_L13, if_pos (by rw [nn_lt (by omega) (by omega)]; omega)]
      rfl
    | succ d =>
      have hno : lw (pWO (fT M) w (kn (fT M) ||| st)) b 0 = none := by
        cases h : lw (pWO (fT M) w (kn (fT M) ||| st)) b 0 with
        | none => rfl
        | some k =>
          obtain ⟨k1, _, k3⟩ := lw_new h
          have := pc_new (show k < 8 by omega) k3
          have := pc8 (kn (fT M) ||| st ||| 2 ^ k)
          omega
      rw [T_inRow_L13, if_neg (by rw [nn_lt (by omega) (by omega)]; omega), lo_T hN hS hw hr, hno, Option.bind_some, if_pos (by rfl)]
      unfold inr
      rw [hno]
  | succ m ih =>
    intro n d st its h1 h2 h3 h4 h5
    obtain ⟨n, rfl⟩ : ∃ m, n = m + 1 := ⟨n - 1, by omega⟩
    have hr : kn (fT M) ||| st < 2 ^ 8 := Nat.or_lt_two_pow (by omega) (by omega)
    have hp8 := pc8 (kn (fT M) ||| st)
    cases d with
    | zero =>
      rw [T_inRow_L13, if_pos (by rw [nn_lt (by omega) (by omega)]; omega)]
      rfl
    | succ d =>
      rw [T_inRow_L13, if_neg (by rw [nn_lt (by omega) (by omega)]; omega), lo_T hN hS hw hr, Option.bind_some]
      unfold inr
      cases h : lw (pWO (fT M) w (kn (fT M) ||| st)) b 0 with
      | none => rw [show enc none = (-1 : Int32) from rfl, if_pos rfl]
      | some k =>
        obtain ⟨k1, _, k3⟩ := lw_new h
        have hpn := pc_new (show k < 8 by omega) k3
        have hk2 : 2 ^ k < 2 ^ 8 := Nat.pow_lt_pow_right (by omega) (by omega)
        have hst : st ||| 2 ^ k < 2 ^ 8 := Nat.or_lt_two_pow (by omega) hk2
        rw [show enc (some k) = nn k from rfl, if_neg (nn_m1 (by omega)), sh_nn (by omega), or_nn, Option.bind_some, Nat.or_assoc, show (1 : Int32) = nn 1 from rfl, nn_add, show i + 1 - (d + 1) + 1 = i + 1 - d by omega]
        rw [Nat.or_assoc] at hpn
        exact ih n d (st ||| 2 ^ k) (nn k) (by omega) (by omega) (by omega) (by omega) (by omega)
end IR
