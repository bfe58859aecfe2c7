/-! PLAIN LAW: by how much leeks grow, wilt; what is barred (the component) -/
set_option maxRecDepth 100000
/-- a law's text -/
def TxR (hb : Hp) (x0 a : Nat) (l : List CDn) : Prop := ∃ (arr : Nat) (q : Nat → Option Nat), hb.2.2.2 a = some (.inr (.inl (5, [.ref arr]))) ∧ hb.2.2.2 arr = some (.inl (7, l.length, .inr (.inr (.inr (.inr q))))) ∧ l.length ≤ 12 ∧ ∀ i, (h : i < l.length) → ∃ c, q i = some c ∧ CR false hb x0 c (l[i]'h)
theorem TxR_ex {hb hb' : Hp} {x0 a : Nat} {l : List CDn} (hx : Ex hb hb') (h : TxR hb x0 a l) : TxR hb' x0 a l := by
  obtain ⟨arr, q, h1, h2, h3, h4⟩ := h
  refine ⟨arr, q, Ex_o hx h1 (fun l z => by cases z), Ex_o hx h2 (fun l z => by cases z), h3, fun i hi => ?_⟩
  obtain ⟨c, c1, c2⟩ := h4 i hi
  exact ⟨c, c1, CR_ex hx c2⟩
theorem clamp_c {top v : Int64} (h : 0 ≤ top) : (if (if v < top then v else top) < 0 then 0 else if v < top then v else top) = clamp top v := by
  unfold clamp
  have e0 : (0 : Int64).toInt = 0 := by decide
  by_cases h1 : v < top
  · rw [if_pos h1, if_neg (show ¬ top < v by rw [Int64.lt_iff_toInt_lt] at *; omega)]
  · rw [if_neg h1]
    rw [Int64.le_iff_toInt_le] at h
    rw [Int64.lt_iff_toInt_lt] at h1
    have h2 : ¬ top < 0 := by rw [Int64.lt_iff_toInt_lt]; omega
    have h3 : ¬ v < 0 := by rw [Int64.lt_iff_toInt_lt]; omega
    rw [if_neg h2, if_neg h3]
    by_cases h4 : top < v
    · rw [if_pos h4]
    · rw [if_neg h4]
      apply Int64.toInt.inj
      rw [Int64.lt_iff_toInt_lt] at h4
      omega
section CG
variable {A : AT} {X : XT} {hb : Hp} {e : EV} {N : Nat}
theorem nn_i {a b : Nat} (ha : a < 3) (hb : b < 3) : (nn a = nn b) = (a = b) := nn_inj (by omega) (by omega)
/-- what a text tells -/
theorem c_tells (hN : 20000 ≤ N) {hd : Nat} (hhd : hd ≤ 2) {top wo : Int32} (ht : 0 ≤ top.toInt64) {a : Nat} {l : List CDn} (hl : ∀ c ∈ l, okC c) (n : NB A hb) (htx : TxR hb (A.1 0) a l) (hce : CEv false A X hb e) : ∃ X' hb', X5_tells N a (nn hd) (A.1 28) wo top (ovC A X hb) = some ((l.foldl (tlF 0 hd top.toInt64 e) wo.toInt64).toInt32, ovC A X' hb') ∧ q28 X' = q28 X ∧ X'.2 = X.2 ∧ Td hb hb' := by
  obtain ⟨arr, q, h1, h2, h3, h4⟩ := htx
  have hloop : ∀ (r i m : Nat) (its : Int64) (X1 : XT) (hb1 : Hp), i + r = l.length → r < m → q28 X1 = q28 X → X1.2 = X.2 → Td hb hb1 → ∃ X' hb', X5_tells_L7 N (fun v52 h53 => some (v52.toInt32, h53)) m a (nn hd) (A.1 28) top its (nn i) (ovC A X1 hb1) = some (((l.drop i).foldl (tlF 0 hd top.toInt64 e) its).toInt32, ovC A X' hb') ∧ q28 X' = q28 X ∧ X'.2 = X.2 ∧ Td hb hb' := by
    intro r
    induction r with
    | zero =>
      intro i m its X1 hb1 hi hm c1 c2 c3
      obtain ⟨m', rfl⟩ : ∃ m', m = m' + 1 := ⟨m - 1, by omega⟩
      have n1 := Td_NB c3 n
      have g1 := Ex_o c3.2.2.2.1 h1 (fun l z => by cases z)
      have g2 := Ex_o c3.2.2.2.1 h2 (fun l z => by cases z)
      refine ⟨X1, hb1, ?_, c1, c2, c3⟩
      rw [X5_tells_L7, gr_bg n1 g1 (by decide) rfl, Option.bind_some, alen_bg n1 g2, Option.bind_some, if_pos (by rw [nn_le (by omega) (by omega)]; omega), List.drop_of_length_le (by omega)]
      rfl
    | succ r ihr =>
      intro i m its X1 hb1 hi hm c1 c2 c3
      obtain ⟨m', rfl⟩ : ∃ m', m = m' + 1 := ⟨m - 1, by omega⟩
      have n1 := Td_NB c3 n
      have g1 := Ex_o c3.2.2.2.1 h1 (fun l z => by cases z)
      have g2 := Ex_o c3.2.2.2.1 h2 (fun l z => by cases z)
      have hlt : i < l.length := by omega
      obtain ⟨c, d1, d2⟩ := h4 i hlt
      have d3 := CR_ex c3.2.2.2.1 d2
      have hok := hl (l[i]'hlt) (List.getElem_mem hlt)
      obtain ⟨qs, qt, told, k1, k2, k3⟩ := d3
      have hce1 : CEv false A X1 hb1 e := CEv_l c2 hce
      rw [List.drop_eq_getElem_cons hlt]
      rw [X5_tells_L7, gr_bg n1 g1 (by decide) rfl, Option.bind_some, alen_bg n1 g2, Option.bind_some, if_neg (by rw [nn_le (by omega) (by omega)]; omega), Option.bind_some, aR_bg n1 g2 hlt (by omega) d1, Option.bind_some, gi_bg n1 k1 (by decide) rfl, Option.bind_some]
      by_cases hh : (l[i]'hlt).1 = hd
      · have hh' : nn (l[i]'hlt).1 = nn hd := by rw [hh]
        rw [if_pos hh', Option.bind_some, aR_bg n1 g2 hlt (by omega) d1, Option.bind_some]
        obtain ⟨X2, hb2, t1, t2, t3, t4, t5⟩ := c_holds hN n1 ⟨qs, qt, told, k1, k2, k3⟩ hce1
        rw [t1, bd2_some]
        have c4 := Td_trans c3 t4
        have n2 := Td_NB c4 n
        have g1' := Ex_o c4.2.2.2.1 h1 (fun l z => by cases z)
        have g2' := Ex_o c4.2.2.2.1 h2 (fun l z => by cases z)
        have hfo : ∀ x, List.foldl (tlF 0 hd top.toInt64 e) x ((l[i]'hlt) :: l.drop (i + 1)) = List.foldl (tlF 0 hd top.toInt64 e) (tlF 0 hd top.toInt64 e x (l[i]'hlt)) (l.drop (i + 1)) := fun x => rfl
        rw [hfo]
        cases hv : clV 0 (l[i]'hlt) e with
        | none =>
          show ∃ X' hb', (if bz false = 0 then _ else _) = _ ∧ _
          rw [if_pos (by rfl)]
          unfold X5_tells_J67
          rw [show (1 : Int32) = nn 1 from rfl, nn_add]
          have := ihr (i + 1) m' its X2 hb2 (by omega) (by omega) (by rw [t2, c1]) (by rw [t3, c2]) c4
          unfold tlF
          rw [if_pos hh]
          simp only [hv]
          exact this
        | some v =>
          show ∃ X' hb', (if bz true = 0 then _ else _) = _ ∧ _
          obtain ⟨x, y, z, hcell⟩ := t5 v hv
          rw [if_neg (by decide), gr_bg n2 g1' (by decide) rfl, Option.bind_some, aR_bg n2 g2' hlt (by omega) d1, Option.bind_some, gl_bg n2 hcell (by decide) rfl, Option.bind_some, Option.bind_some, Option.bind_some, clamp_c ht]
          unfold X5_tells_J67
          rw [show (1 : Int32) = nn 1 from rfl, nn_add]
          have := ihr (i + 1) m' (clamp top.toInt64 v) X2 hb2 (by omega) (by omega) (by rw [t2, c1]) (by rw [t3, c2]) c4
          unfold tlF
          rw [if_pos hh]
          simp only [hv]
          exact this
      · have hh' : ¬ nn (l[i]'hlt).1 = nn hd := by
          rw [nn_i (by have := hok.1; omega) (by omega)]
          exact hh
        rw [if_neg hh']
        unfold X5_tells_J67
        rw [show (1 : Int32) = nn 1 from rfl, nn_add]
        have hfo : ∀ x, List.foldl (tlF 0 hd top.toInt64 e) x ((l[i]'hlt) :: l.drop (i + 1)) = List.foldl (tlF 0 hd top.toInt64 e) (tlF 0 hd top.toInt64 e x (l[i]'hlt)) (l.drop (i + 1)) := fun x => rfl
        rw [hfo]
        have e3 : tlF 0 hd top.toInt64 e its (l[i]'hlt) = its := by
          unfold tlF
          rw [if_neg hh]
        rw [e3]
        exact ihr (i + 1) m' its X1 hb1 (by omega) (by omega) c1 c2 c3
  unfold X5_tells X5_tells_b
  rw [ob_bg n h1 (by decide), Option.bind_some]
  have := hloop l.length 0 N wo.toInt64 X hb (by omega) (by omega) rfl rfl (Td_refl hb)
  rw [List.drop_zero] at this
  exact this
/-- whether a clause of a head holds -/
theorem c_has (hN : 20000 ≤ N) {a : Nat} {l : List CDn} (hl : ∀ c ∈ l, okC c) (n : NB A hb) (htx : TxR hb (A.1 0) a l) (hce : CEv false A X hb e) : ∃ X' hb', X5_has N a (nn 2) (A.1 28) (ovC A X hb) = some (bz (l.any fun c => decide (c.1 = 2) && (clV 0 c e).isSome), ovC A X' hb') ∧ q28 X' = q28 X ∧ X'.2 = X.2 ∧ Td hb hb' := by
  obtain ⟨arr, q, h1, h2, h3, h4⟩ := htx
  have hloop : ∀ (r i m : Nat) (X1 : XT) (hb1 : Hp), i + r = l.length → r < m → q28 X1 = q28 X → X1.2 = X.2 → Td hb hb1 → ∃ X' hb', X5_has_L2 N (fun h42 => some ((0 : Int32), h42)) m a (nn 2) (A.1 28) (nn i) (ovC A X1 hb1) = some (bz ((l.drop i).any fun c => decide (c.1 = 2) && (clV 0 c e).isSome), ovC A X' hb') ∧ q28 X' = q28 X ∧ X'.2 = X.2 ∧ Td hb hb' := by
    intro r
    induction r with
    | zero =>
      intro i m X1 hb1 hi hm c1 c2 c3
      obtain ⟨m', rfl⟩ : ∃ m', m = m' + 1 := ⟨m - 1, by omega⟩
      have n1 := Td_NB c3 n
      have g1 := Ex_o c3.2.2.2.1 h1 (fun l z => by cases z)
      have g2 := Ex_o c3.2.2.2.1 h2 (fun l z => by cases z)
      refine ⟨X1, hb1, ?_, c1, c2, c3⟩
      rw [X5_has_L2, gr_bg n1 g1 (by decide) rfl, Option.bind_some, alen_bg n1 g2, Option.bind_some, if_pos (by rw [nn_le (by omega) (by omega)]; omega), List.drop_of_length_le (by omega)]
      rfl
    | succ r ihr =>
      intro i m X1 hb1 hi hm c1 c2 c3
      obtain ⟨m', rfl⟩ : ∃ m', m = m' + 1 := ⟨m - 1, by omega⟩
      have n1 := Td_NB c3 n
      have g1 := Ex_o c3.2.2.2.1 h1 (fun l z => by cases z)
      have g2 := Ex_o c3.2.2.2.1 h2 (fun l z => by cases z)
      have hlt : i < l.length := by omega
      obtain ⟨c, d1, d2⟩ := h4 i hlt
      have d3 := CR_ex c3.2.2.2.1 d2
      have hok := hl (l[i]'hlt) (List.getElem_mem hlt)
      obtain ⟨qs, qt, told, k1, k2, k3⟩ := d3
      have hce1 : CEv false A X1 hb1 e := CEv_l c2 hce
      rw [List.drop_eq_getElem_cons hlt, List.any_cons]
      rw [X5_has_L2, gr_bg n1 g1 (by decide) rfl, Option.bind_some, alen_bg n1 g2, Option.bind_some, if_neg (by rw [nn_le (by omega) (by omega)]; omega), Option.bind_some, aR_bg n1 g2 hlt (by omega) d1, Option.bind_some, gi_bg n1 k1 (by decide) rfl, Option.bind_some]
      by_cases hh : (l[i]'hlt).1 = 2
      · have hh' : nn (l[i]'hlt).1 = nn 2 := by rw [hh]
        rw [if_pos hh', Option.bind_some, aR_bg n1 g2 hlt (by omega) d1, Option.bind_some, decide_eq_true hh, Bool.true_and]
        obtain ⟨X2, hb2, t1, t2, t3, t4, t5⟩ := c_holds hN n1 ⟨qs, qt, told, k1, k2, k3⟩ hce1
        rw [t1, bd2_some]
        have c4 := Td_trans c3 t4
        cases hv : (clV 0 (l[i]'hlt) e).isSome
        · rw [if_pos (by rfl), Bool.false_or]
          unfold X5_has_J39
          rw [show (1 : Int32) = nn 1 from rfl, nn_add]
          exact ihr (i + 1) m' X2 hb2 (by omega) (by omega) (by rw [t2, c1]) (by rw [t3, c2]) c4
        · rw [if_neg (by decide), Bool.true_or]
          exact ⟨X2, hb2, rfl, by rw [t2, c1], by rw [t3, c2], c4⟩
      · have hh' : ¬ nn (l[i]'hlt).1 = nn 2 := by
          rw [nn_i (by have := hok.1; omega) (by omega)]
          exact hh
        rw [if_neg hh', decide_eq_false hh, Bool.false_and, Bool.false_or]
        unfold X5_has_J39
        rw [show (1 : Int32) = nn 1 from rfl, nn_add]
        exact ihr (i + 1) m' X1 hb1 (by omega) (by omega) c1 c2 c3
  unfold X5_has X5_has_b
  rw [ob_bg n h1 (by decide), Option.bind_some]
  have := hloop l.length 0 N X hb (by omega) (by omega) rfl rfl (Td_refl hb)
  rw [List.drop_zero] at this
  exact this
/-- the empty text -/
theorem c_tells0 {hd : Nat} {top wo : Int32} (hN : 20000 ≤ N) : X5_tells N (A.1 32) (nn hd) (A.1 28) wo top (ovC A X hb) = some (wo, ovC A X hb) := by
  have hq : alen (ovC A X hb) (A.1 33) 7 = some 0 := by
    unfold alen ar
    rw [oc_at (by decide)]
    rfl
  obtain ⟨m, rfl⟩ : ∃ m, N = m + 1 := ⟨N - 1, by omega⟩
  unfold X5_tells X5_tells_b
  rw [og_32, X5_tells_L7, og_32_0, Option.bind_some, hq, Option.bind_some, if_pos (by decide), i64_32]
theorem c_has0 (hN : 20000 ≤ N) : X5_has N (A.1 32) (nn 2) (A.1 28) (ovC A X hb) = some (0, ovC A X hb) := by
  have hq : alen (ovC A X hb) (A.1 33) 7 = some 0 := by
    unfold alen ar
    rw [oc_at (by decide)]
    rfl
  obtain ⟨m, rfl⟩ : ∃ m, N = m + 1 := ⟨N - 1, by omega⟩
  unfold X5_has X5_has_b
  rw [og_32, X5_has_L2, og_32_0, Option.bind_some, hq, Option.bind_some, if_pos (by decide)]
/-- the law in force, as a tree -/
def LC (A : AT) (X : XT) (hb : Hp) (D : List CDn) : Prop := (∀ c ∈ D, okC c) ∧ ((coC X 0 52 = -1 ∧ D = []) ∨ ∃ t a m q, t < 6 ∧ coC X 0 52 = nn t ∧ (∃ s, coC X 0 51 = nn s ∧ t < s ∧ s ≤ 6) ∧ hb.2.2.2 X.2.2.1 = some (.inl (11, m, .inr (.inr (.inr (.inr q))))) ∧ t < m ∧ q t = some a ∧ TxR hb (A.1 0) a D)
theorem c_law1 {D : List CDn} (n : NB A hb) (h : LC A X hb D) : ∃ a, C_law1 (A.1 0) (ovC A X hb) = some (a, ovC A X hb) ∧ ((a = A.1 32 ∧ D = []) ∨ TxR hb (A.1 0) a D) := by
  unfold C_law1 C_law1_b
  rw [og_0, og_0_0, Option.bind_some, og_1_11, Option.bind_some, cr_nF]
  rcases h.2 with ⟨h1, h2⟩ | ⟨t, a, m, q, ht, h1, ⟨s, hs, hts, hs6⟩, h2, h3, h4, h5⟩
  · refine ⟨A.1 32, ?_, Or.inl ⟨rfl, h2⟩⟩
    rw [if_pos h1, og_0_8, Option.bind_some]
  · refine ⟨a, ?_, Or.inr h5⟩
    have hne : ¬ nn t = (-1 : Int32) := by
      intro z
      have := congrArg Int32.toInt z
      rw [nn_toInt (by omega)] at this
      have e1 : (-1 : Int32).toInt = -1 := by decide
      omega
    have hE : gr (ovC A X hb) (A.1 14) [20] 1 = some X.2.2.1 := by
      unfold gr
      rw [ob_oc (by decide) (show oK 14 = some (20, [0, 1, 0]) from rfl) (by decide)]
      rfl
    obtain ⟨arr, q', k1, k2, k3, k4⟩ := h5
    rw [h1, if_neg hne, Option.bind_some, og_1_0, Option.bind_some, Option.bind_some, og_1_11, Option.bind_some, cr_nF, h1]
    unfold J2_get J2_get_b
    rw [og_14, og_14_2, Option.bind_some, cr_nT, hs]
    unfold J5_checkIndex J6_checkIndex
    rw [if_neg (nn_neg (by omega)), if_pos (by rw [nn_lt (by omega) (by omega)]; exact hts), bd2_some, bd2_some]
    unfold J2_elementData J2_elementData_b
    rw [og_14, hE, Option.bind_some, aR_bg n h2 h3 (by omega) h4, Option.bind_some, Option.bind_some, bd2_some, ob_bg n k1 (by decide), Option.bind_some]
end CG
