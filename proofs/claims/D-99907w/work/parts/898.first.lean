/-! PLAIN LAW: the lowest book that is open -/
set_option maxRecDepth 100000
def lw (p : Nat → Bool) : Nat → Nat → Option Nat
  | 0, _ => none
  | d + 1, i => if p i = true then some i else lw p d (i + 1)
def enc : Option Nat → Int32
  | some k => nn k
  | none => -1
/-- of w, open when r is read -/
def pWO (S : Nat → Nat → Int32) (w r k : Nat) : Bool := w.testBit k && opN (nd S k) r k
theorem lw_lt {p : Nat → Bool} : ∀ (d i : Nat) {k : Nat}, lw p d i = some k → i ≤ k ∧ k < i + d ∧ p k = true := by
  intro d
  induction d with
  | zero => intro i k h; cases h
  | succ d ih =>
    intro i k h
    unfold lw at h
    by_cases z : p i = true
    · rw [if_pos z] at h
      cases h
      exact ⟨Nat.le_refl _, by omega, z⟩
    · rw [if_neg z] at h
      obtain ⟨h1, h2, h3⟩ := ih (i + 1) h
      exact ⟨by omega, by omega, h3⟩
theorem lw_none {p : Nat → Bool} : ∀ (d i : Nat), lw p d i = none → ∀ k, i ≤ k → k < i + d → p k = false := by
  intro d
  induction d with
  | zero => intro i h k h1 h2; omega
  | succ d ih =>
    intro i h k h1 h2
    unfold lw at h
    by_cases z : p i = true
    · rw [if_pos z] at h; cases h
    · rw [if_neg z] at h
      by_cases hk : k = i
      · subst hk
        cases hp : p k
        · rfl
        · exact absurd hp z
      · exact ih (i + 1) h k (by omega) (by omega)
section FO
variable {A : AT} {X : XT} {hb : Hp} {M : TM} {b l s t u N : Nat}
theorem lo_T (hN : 20000 ≤ N) (hS : SOb b l s t u (fT M)) {w r : Nat} (hw : w < 256) (hr : r < 256) : T_lowestOpen N M (nn r) (nn w) = some (enc (lw (pWO (fT M) w r) b 0)) := by
  have h8 := hS.1.1
  have h2b := pw_le h8
  have hin : ∀ (c n : Nat), c ≤ b → c < n → T_lowestOpen_L10 N M (fun v18 => some v18) n (nn r) (nn w) (enc (lw (pWO (fT M) w r) (b - c) c)) (nn c - nn 1) = some (enc (lw (pWO (fT M) w r) b 0)) := by
    intro c
    induction c with
    | zero =>
      intro n h1 h2
      obtain ⟨n, rfl⟩ : ∃ m, n = m + 1 := ⟨n - 1, by omega⟩
      rw [T_lowestOpen_L10, if_pos (by decide)]
      rfl
    | succ c ih =>
      intro n h1 h2
      obtain ⟨n, rfl⟩ : ∃ m, n = m + 1 := ⟨n - 1, by omega⟩
      have hid : nn (c + 1) - nn 1 = nn c := by rw [nn_sub (by omega)]; rfl
      have hdn : nn c + (-1 : Int32) = nn c - nn 1 := (Int32.sub_eq_add_neg _ _).symm
      obtain ⟨n1, n2⟩ := nd_s hS (show c < b by omega)
      have hrec := ih n (by omega) (by omega)
      have hst : lw (pWO (fT M) w r) (b - c) c = if pWO (fT M) w r c = true then some c else lw (pWO (fT M) w r) (b - (c + 1)) (c + 1) := by
        rw [show b - c = (b - (c + 1)) + 1 by omega]
        rfl
      rw [hst] at hrec
      rw [T_lowestOpen_L10, hid, if_neg (nn_neg (by omega)), T_isI, Option.bind_some, bt_nn hw (by omega), T_isO M _ (by omega), Option.bind_some, n1, opn_nn (by omega) hr (by omega)]
      unfold T_lowestOpen_J39 T_lowestOpen_J40
      rw [hdn]
      unfold pWO at hrec ⊢
      cases h3 : w.testBit c
      · rw [h3, Bool.false_and, if_neg (by decide)] at hrec
        rw [if_pos (by rfl)]
        exact hrec
      · rw [if_neg (by decide)]
        rw [h3, Bool.true_and] at hrec
        cases h4 : opN (nd (fT M) c) r c
        · rw [h4, if_neg (by decide)] at hrec
          rw [if_pos (by rfl)]
          exact hrec
        · rw [h4, if_pos rfl] at hrec
          rw [if_neg (by decide)]
          exact hrec
  unfold T_lowestOpen
  rw [T_bM, hS.nb, Option.bind_some]
  have := hin b N (Nat.le_refl _) (by omega)
  rw [Nat.sub_self] at this
  exact this
theorem fo_C (hN : 20000 ≤ N) (hS : SOb b l s t u (coC X)) {w r k : Nat} (hw : w < 256) (hr : r < 256) (hk : lw (pWO (coC X) w r) b 0 = some k) : C_firstOpen N (ovC A X hb) (A.1 0) (nn w) (nn r) = some (nn k) := by
  have h8 := hS.1.1
  have h2b := pw_le h8
  have hin : ∀ (d i n : Nat), i + d = b → d < n → lw (pWO (coC X) w r) d i = some k → C_firstOpen_L2 N (ovC A X hb) (fun v33 => some v33) n (A.1 0) (nn w) (nn r) (nn i) = some (nn k) := by
    intro d
    induction d with
    | zero => intro i n h1 h2 h3; cases h3
    | succ d ih =>
      intro i n h1 h2 h3
      obtain ⟨n, rfl⟩ : ∃ m, n = m + 1 := ⟨n - 1, by omega⟩
      obtain ⟨n1, n2⟩ := nd_s hS (show i < b by omega)
      unfold lw at h3
      have hp : pWO (coC X) w r i = (w.testBit i && opN (nd (coC X) i) r i) := rfl
      rw [hp] at h3
      rw [C_firstOpen_L2, C_hs, Option.bind_some, bt_nn hw (by omega), C_isO _ (by omega), Option.bind_some, n1, opn_nn (by omega) hr (by omega)]
      unfold C_firstOpen_J19
      rw [show nn i + (1 : Int32) = nn (i + 1) from nn_add i 1]
      cases h5 : w.testBit i
      · rw [h5, Bool.false_and, if_neg (by decide)] at h3
        rw [if_pos (by rfl)]
        exact ih (i + 1) n (by omega) (by omega) h3
      · rw [h5, Bool.true_and] at h3
        rw [if_neg (by decide)]
        cases h6 : opN (nd (coC X) i) r i
        · rw [h6, if_neg (by decide)] at h3
          rw [if_pos (by rfl)]
          exact ih (i + 1) n (by omega) (by omega) h3
        · rw [h6, if_pos rfl] at h3
          rw [if_neg (by decide)]
          cases h3
          rfl
  unfold C_firstOpen C_firstOpen_b
  rw [og_0]
  exact hin b 0 N (by omega) (by omega) hk
end FO
