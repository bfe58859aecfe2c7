/-! PLAIN LAW: the book that most need -/
set_option maxRecDepth 100000
theorem allN_s {b l s t u : Nat} {S : Nat → Nat → Int32} (hS : SOb b l s t u S) {k : Nat} (hk : k < b) : allN S b k < 2 ^ b ∧ su (nd S k) (allN S b k) ∧ clo pIn (nd S) b (allN S b k) := by
  have hV : ∀ k, k < b → nd S k < 2 ^ b := fun k hk => (nd_s hS hk).2
  have hs : ∀ a, a < 2 ^ b → su a (rT pIn (nd S) b a) ∧ rT pIn (nd S) b a < 2 ^ b := fun a ha => ⟨rT_up a b 0 a, rT_lt (a := a) hV b 0 a (by omega) ha⟩
  obtain ⟨c1, c2, c3⟩ := itr_spec hs (2 ^ b) (nd S k) (hV k hk) (by omega)
  exact ⟨c2, c3, rT_clo c1⟩
def ncF (S : Nat → Nat → Int32) (b w k : Nat) : Nat → Nat → Nat := fun o a => if o ≠ k ∧ w.testBit o = true ∧ (allN S b o).testBit k = true then a + 1 else a
def kyF (S : Nat → Nat → Int32) (b w : Nat) : Nat → Int32 × Int32 → Int32 × Int32 := fun k st => if w.testBit k = true then (if st.2 < nn (fo (ncF S b w k) b 0 0) then (nn k, nn (fo (ncF S b w k) b 0 0)) else st) else st
section KY
variable {A : AT} {X : XT} {hb : Hp} {M : TM} {b l s t u N : Nat}
theorem ni_T (hN : 20000 ≤ N) (hS : SOb b l s t u (fT M)) {w k : Nat} (hw : w < 256) (hk : k < b) {x5 : Int32 → Option Int32} : ∀ (r i n a : Nat), i + r = b → r < n → T_needIt_L5 N M x5 n (nn k) (nn w) (nn a) (nn i) = x5 (nn (fo (ncF (fT M) b w k) r i a)) := by
  have h8 := hS.1.1
  have h2b := pw_le h8
  intro r
  induction r with
  | zero =>
    intro i n a hi hn
    obtain ⟨n, rfl⟩ : ∃ m, n = m + 1 := ⟨n - 1, by omega⟩
    rw [T_needIt_L5, T_bM, hS.nb, Option.bind_some, if_pos (by rw [nn_le (by omega) (by omega)]; omega)]
    rfl
  | succ r ih =>
    intro i n a hi hn
    obtain ⟨n, rfl⟩ : ∃ m, n = m + 1 := ⟨n - 1, by omega⟩
    have hal := (allN_s hS (show i < b by omega)).1
    rw [T_needIt_L5, T_bM, hS.nb, Option.bind_some, if_neg (by rw [nn_le (by omega) (by omega)]; omega), T_isI, Option.bind_some, bt_nn hw (by omega), an_T hN hS (show i < b by omega), Option.bind_some, T_isI, Option.bind_some, bt_nn (by omega) (by omega), fo_s]
    unfold T_needIt_J47 T_needIt_J48
    rw [show (1 : Int32) = nn 1 from rfl, show (0 : Int32) = nn 0 from rfl, nn_add, nn_add, nn_add, Nat.add_zero, ih (i + 1) n _ (by omega) (by omega), ih (i + 1) n _ (by omega) (by omega)]
    unfold ncF
    by_cases z : i = k
    · rw [if_pos (by rw [z]), if_neg (fun y => y.1 z)]
    · rw [if_neg (by rw [nn_inj (by omega) (by omega)]; exact z)]
      cases h1 : w.testBit i
      · rw [if_pos (by rfl), if_neg (fun y => absurd y.2.1 (by decide))]
      · rw [if_neg (by decide)]
        cases h2 : (allN (fT M) b i).testBit k
        · rw [if_pos (by rfl), if_neg (fun y => absurd y.2.2 (by decide))]
        · rw [if_neg (by decide), if_pos ⟨z, rfl, rfl⟩]
theorem ni_C (hN : 20000 ≤ N) (hS : SOb b l s t u (coC X)) {w k : Nat} (hw : w < 256) (hk : k < b) {x52 : Nat → Int32 → Int32 → Int32 → Int32 → Int32 → Int32 → Option Int32} {a1 p q : Int32} : ∀ (r i n a : Nat), i + r = b → r < n → C_key_L52 N (ovC A X hb) x52 n (A.1 0) a1 (nn w) p q (nn k) (nn a) (nn i) = x52 (A.1 0) a1 (nn w) p q (nn k) (nn (fo (ncF (coC X) b w k) r i a)) := by
  have h8 := hS.1.1
  have h2b := pw_le h8
  intro r
  induction r with
  | zero =>
    intro i n a hi hn
    obtain ⟨n, rfl⟩ : ∃ m, n = m + 1 := ⟨n - 1, by omega⟩
    rw [C_key_L52, C_nBk, hS.nb, Option.bind_some, if_pos (by rw [nn_le (by omega) (by omega)]; omega)]
    rfl
  | succ r ih =>
    intro i n a hi hn
    obtain ⟨n, rfl⟩ : ∃ m, n = m + 1 := ⟨n - 1, by omega⟩
    have hal := (allN_s hS (show i < b by omega)).1
    rw [C_key_L52, C_nBk, hS.nb, Option.bind_some, if_neg (by rw [nn_le (by omega) (by omega)]; omega), C_hs, Option.bind_some, bt_nn hw (by omega), an_C hN hS (show i < b by omega), Option.bind_some, C_hs, Option.bind_some, bt_nn (by omega) (by omega), fo_s]
    unfold C_key_J97 C_key_J98
    rw [show (1 : Int32) = nn 1 from rfl, show (0 : Int32) = nn 0 from rfl, nn_add, nn_add, nn_add, Nat.add_zero, ih (i + 1) n _ (by omega) (by omega), ih (i + 1) n _ (by omega) (by omega)]
    unfold ncF
    by_cases z : i = k
    · rw [if_pos (by rw [z]), if_neg (fun y => y.1 z)]
    · rw [if_neg (by rw [nn_inj (by omega) (by omega)]; exact z)]
      cases h1 : w.testBit i
      · rw [if_pos (by rfl), if_neg (fun y => absurd y.2.1 (by decide))]
      · rw [if_neg (by decide)]
        cases h2 : (allN (coC X) b i).testBit k
        · rw [if_pos (by rfl), if_neg (fun y => absurd y.2.2 (by decide))]
        · rw [if_neg (by decide), if_pos ⟨z, rfl, rfl⟩]
theorem ky_T (hN : 20000 ≤ N) (hS : SOb b l s t u (fT M)) {w : Nat} (hw : w < 256) {x24 : Int32 → Int32 → Int32 → Option Int32} {a1 : Int32} : ∀ (r i n : Nat) (st : Int32 × Int32), i + r = b → r < n → -1 ≤ st.2.toInt → T_key_L24 N M x24 n a1 (nn w) st.1 st.2 (nn i) = x24 a1 (fo (kyF (fT M) b w) r i st).1 (fo (kyF (fT M) b w) r i st).2 := by
  have h8 := hS.1.1
  intro r
  induction r with
  | zero =>
    intro i n st hi hn hm
    obtain ⟨n, rfl⟩ : ∃ m, n = m + 1 := ⟨n - 1, by omega⟩
    rw [T_key_L24, T_bM, hS.nb, Option.bind_some, if_pos (by rw [nn_le (by omega) (by omega)]; omega)]
    rfl
  | succ r ih =>
    intro i n st hi hn hm
    obtain ⟨n, rfl⟩ : ∃ m, n = m + 1 := ⟨n - 1, by omega⟩
    rw [T_key_L24, T_bM, hS.nb, Option.bind_some, if_neg (by rw [nn_le (by omega) (by omega)]; omega), T_isI, Option.bind_some, bt_nn hw (by omega), fo_s]
    unfold T_needIt
    rw [show (0 : Int32) = nn 0 from rfl, ni_T hN hS hw (show i < b by omega) b 0 N 0 (by omega) (by omega), Option.bind_some]
    unfold T_key_J53 T_key_J72
    rw [show (1 : Int32) = nn 1 from rfl, nn_add]
    have hle : fo (ncF (fT M) b w i) b 0 0 ≤ 0 + 1 * b := by
      have : ∀ d j a, fo (ncF (fT M) b w i) d j a ≤ a + 1 * d := by
        intro d
        induction d with
        | zero => intro j a; show a ≤ _; omega
        | succ d ihd =>
          intro j a
          rw [fo_s]
          have h1 := ihd (j + 1) (ncF (fT M) b w i j a)
          have h2 : ncF (fT M) b w i j a ≤ a + 1 := by
            unfold ncF
            split <;> omega
          omega
      exact this b 0 0
    have hnt : (nn (fo (ncF (fT M) b w i) b 0 0)).toInt = (fo (ncF (fT M) b w i) b 0 0 : Nat) := nn_toInt (by omega)
    cases h1 : w.testBit i
    · have e : kyF (fT M) b w i st = st := by
        unfold kyF
        rw [if_neg (by rw [h1]; decide)]
      have e1 : (-nn 1).toInt = -1 := by decide
      rw [if_pos (by rfl), if_neg (by rw [Int32.lt_iff_toInt_lt, e1]; omega), e, ih (i + 1) n st (by omega) (by omega) hm]
    · rw [if_neg (by decide)]
      by_cases z : st.2 < nn (fo (ncF (fT M) b w i) b 0 0)
      · have e : kyF (fT M) b w i st = (nn i, nn (fo (ncF (fT M) b w i) b 0 0)) := by
          unfold kyF
          rw [if_pos h1, if_pos z]
        rw [if_pos z, e]
        exact ih (i + 1) n (nn i, nn (fo (ncF (fT M) b w i) b 0 0)) (by omega) (by omega) (by show -1 ≤ (nn _).toInt; rw [hnt]; omega)
      · have e : kyF (fT M) b w i st = st := by
          unfold kyF
          rw [if_pos h1, if_neg z]
        rw [if_neg z, e, ih (i + 1) n st (by omega) (by omega) hm]
theorem ky_C (hN : 20000 ≤ N) (hS : SOb b l s t u (coC X)) {w : Nat} (hw : w < 256) {x25 : Int32 → Int32 → Int32 → Option Int32} {a1 : Int32} : ∀ (r i n : Nat) (st : Int32 × Int32), i + r = b → r < n → C_key_L25 N (ovC A X hb) x25 n (A.1 0) a1 (nn w) st.2 st.1 (nn i) = x25 a1 (fo (kyF (coC X) b w) r i st).2 (fo (kyF (coC X) b w) r i st).1 := by
  have h8 := hS.1.1
  intro r
  induction r with
  | zero =>
    intro i n st hi hn
    obtain ⟨n, rfl⟩ : ∃ m, n = m + 1 := ⟨n - 1, by omega⟩
    rw [C_key_L25, C_nBk, hS.nb, Option.bind_some, if_pos (by rw [nn_le (by omega) (by omega)]; omega)]
    rfl
  | succ r ih =>
    intro i n st hi hn
    obtain ⟨n, rfl⟩ : ∃ m, n = m + 1 := ⟨n - 1, by omega⟩
    rw [C_key_L25, C_nBk, hS.nb, Option.bind_some, if_neg (by rw [nn_le (by omega) (by omega)]; omega), C_hs, Option.bind_some, bt_nn hw (by omega), fo_s, show (0 : Int32) = nn 0 from rfl, ni_C hN hS hw (show i < b by omega) b 0 N 0 (by omega) (by omega)]
    unfold C_key_J120 C_key_J129
    rw [show (1 : Int32) = nn 1 from rfl, nn_add, Option.bind_some]
    cases h1 : w.testBit i
    · have e : kyF (coC X) b w i st = st := by
        unfold kyF
        rw [if_neg (by rw [h1]; decide)]
      rw [if_pos (by rfl), e, ih (i + 1) n st (by omega) (by omega)]
    · rw [if_neg (by decide)]
      by_cases z : st.2 < nn (fo (ncF (coC X) b w i) b 0 0)
      · have e : kyF (coC X) b w i st = (nn i, nn (fo (ncF (coC X) b w i) b 0 0)) := by
          unfold kyF
          rw [if_pos h1, if_pos z]
        rw [if_pos z, if_neg (by rw [Int32.le_iff_toInt_le]; rw [Int32.lt_iff_toInt_lt] at z; omega), e]
        exact ih (i + 1) n (nn i, nn (fo (ncF (coC X) b w i) b 0 0)) (by omega) (by omega)
      · have e : kyF (coC X) b w i st = st := by
          unfold kyF
          rw [if_pos h1, if_neg z]
        rw [if_neg z, if_pos (by rw [Int32.le_iff_toInt_le]; rw [Int32.lt_iff_toInt_lt] at z; omega), e, ih (i + 1) n st (by omega) (by omega)]
theorem op_key (hN : 20000 ≤ N) (hM : Mt (coC X) (fT M)) (hS : SOb b l s t u (fT M)) (a1 : Int32) : ∃ v, C_key N (ovC A X hb) (A.1 0) a1 = some v ∧ T_key N M a1 = some v := by
  have h8 := hS.1.1
  have h2b := pw_le h8
  have hC := SOb_c hM hS
  have hin : C_in a1.toInt64 (0 : Int64) (1 : Int64) = some (bz (wi a1 (nn 0) (nn 1))) := by
    rw [show (0 : Int64) = (nn 0).toInt64 by decide, show (1 : Int64) = (nn 1).toInt64 by decide, C_in_w]
  have hin' : T_lies a1 (0 : Int32) (1 : Int32) = some (bz (wi a1 (nn 0) (nn 1))) := T_lies_w _ _ _
  have hw : tcm (fT M) b < 256 := Nat.lt_of_lt_of_le (sd_lt (atL_s hS).1) h2b
  have hwe : tcm (coC X) b = tcm (fT M) b := by
    unfold tcm
    rw [atL_c hM]
    unfold kn
    rw [hM.at (by omega)]
  have hky : kyF (coC X) b (tcm (fT M) b) = kyF (fT M) b (tcm (fT M) b) := by
    funext k st
    unfold kyF
    have : ncF (coC X) b (tcm (fT M) b) k = ncF (fT M) b (tcm (fT M) b) k := by
      funext o a
      unfold ncF
      rw [allN_c hM]
    rw [this]
  cases hwi : wi a1 (nn 0) (nn 1)
  · refine ⟨-1, ?_, ?_⟩
    · unfold C_key C_key_b
      rw [og_0, hin, hwi, Option.bind_some, if_pos (by rfl)]
    · unfold T_key
      rw [hin', hwi, Option.bind_some, if_pos (by rfl)]
  · have hT := ky_T hN hS hw (a1 := a1) (x24 := fun v26 v27 v28 => if v27 = (-1 : Int32) then some v27 else if v26 = 0 then some v27 else some v28) b 0 N (-1, -1) (by omega) (by omega) (by decide)
    have hCC := ky_C (A := A) (hb := hb) hN hC hw (a1 := a1) (x25 := fun v93 v94 v95 => if v95 = (-1 : Int32) then some v95 else if v93 = 0 then some v95 else some v94) b 0 N (-1, -1) (by omega) (by omega)
    rw [hky] at hCC
    obtain ⟨v, hv⟩ : ∃ v, (if (fo (kyF (fT M) b (tcm (fT M) b)) b 0 (-1, -1)).1 = (-1 : Int32) then some (fo (kyF (fT M) b (tcm (fT M) b)) b 0 (-1, -1)).1 else if a1 = 0 then some (fo (kyF (fT M) b (tcm (fT M) b)) b 0 (-1, -1)).1 else some (fo (kyF (fT M) b (tcm (fT M) b)) b 0 (-1, -1)).2) = some v := by
      split
      · exact ⟨_, rfl⟩
      · split
        · exact ⟨_, rfl⟩
        · exact ⟨_, rfl⟩
    refine ⟨v, ?_, ?_⟩
    · unfold C_key C_key_b
      rw [og_0, hin, hwi, Option.bind_some, if_neg (by decide), tc_C hN hC, Option.bind_some, hwe]
      exact hCC.trans hv
    · unfold T_key
      rw [hin', hwi, Option.bind_some, if_neg (by decide), tc_T hN hS, Option.bind_some]
      exact hT.trans hv
end KY
