/-! PLAIN LAW: what is to be read till a book is -/
set_option maxRecDepth 100000
def nl (S : Nat → Nat → Int32) (k : Nat) : Nat := sd (nd S k) (kn S)
def ldN (S : Nat → Nat → Int32) (b x : Nat) : Nat := itr (rT pIn (nl S) b) (2 ^ b) x
section LDS
variable {A : AT} {X : XT} {hb : Hp} {M : TM} {b l s t u N : Nat}
theorem nl_lt {S : Nat → Nat → Int32} (hS : SOb b l s t u S) : ∀ k, k < b → nl S k < 2 ^ b := fun k hk => sd_lt (nd_s hS hk).2
theorem rf_T (hN : 20000 ≤ N) (hS : SOb b l s t u (fT M)) {k : Nat} (hk : k < b) : T_readFor N M (nn k) = some (nn (ldN (fT M) b (2 ^ k))) := by
  have h8 := hS.1.1
  have h2b := pw_le h8
  have hin : ∀ (x22 : Int32 → Int32 → Option Int32) (w : Nat), w < 256 → ∀ (r i n a : Nat), i + r = b → r < n → T_readFor_L16 N M x22 n (nn a) (nn w) (nn i) = x22 (nn (fo (fun k a => a ||| (if pIn w k = true then nl (fT M) k else 0)) r i a)) (nn w) := by
    intro x22 w hw r
    induction r with
    | zero =>
      intro i n a hi hn
      obtain ⟨n, rfl⟩ : ∃ m, n = m + 1 := ⟨n - 1, by omega⟩
      rw [T_readFor_L16, T_bM, hS.nb, Option.bind_some, if_pos (by rw [nn_le (by omega) (by omega)]; omega)]
      rfl
    | succ r ih =>
      intro i n a hi hn
      obtain ⟨n, rfl⟩ : ∃ m, n = m + 1 := ⟨n - 1, by omega⟩
      obtain ⟨n1, n2⟩ := nd_s hS (show i < b by omega)
      rw [T_readFor_L16, T_bM, hS.nb, Option.bind_some, if_neg (by rw [nn_le (by omega) (by omega)]; omega), T_isI, Option.bind_some, bt_nn hw (by omega), show (22 : Int32) + nn i = nn (22 + i) from nn_add 22 i, tra_nn (by omega) (by omega), Option.bind_some, show tra M 2 5660 (0 : Int32) = some (M.2.2.1 2 0) from tra_nn (i := 0) (by omega) (by omega), Option.bind_some, fT_0 (by omega), fT_0 (by omega), n1, (kn_s hS).1, dif_nn (by omega), fo_s]
      unfold T_readFor_J58
      rw [show (1 : Int32) = nn 1 from rfl, show (0 : Int32) = nn 0 from rfl, or_nn, or_nn, nn_add, ih (i + 1) n _ (by omega) (by omega), ih (i + 1) n _ (by omega) (by omega)]
      unfold pIn nl
      cases w.testBit i
      · rw [if_pos (by rfl), if_neg (by decide)]
      · rw [if_neg (by decide), if_pos rfl]
  have hV := nl_lt hS
  have hs : ∀ a, a < 2 ^ b → su a (rT pIn (nl (fT M)) b a) ∧ rT pIn (nl (fT M)) b a < 2 ^ b := fun a ha => ⟨rT_up a b 0 a, rT_lt (a := a) hV b 0 a (by omega) ha⟩
  have hkb : 2 ^ k < 2 ^ b := Nat.pow_lt_pow_right (by omega) hk
  have hkp := Nat.two_pow_pos k
  unfold T_readFor
  rw [sh_nn (by omega), Option.bind_some]
  refine loop_itr (L := fun n a w => T_readFor_L6 N M (fun v22 => some v22) n a w) (x := fun v22 => some v22) (step := rT pIn (nl (fT M)) b) (B := 2 ^ b) h2b hs ?_ ?_ (2 ^ b) (2 ^ k) N 0 hkb (by omega) (by omega) (fun z => by
    rw [show (0 : Int32) = nn 0 from rfl, nn_inj (by omega) (by omega)] at z
    omega)
  · intro m a ha
    show T_readFor_L6 N M (fun v22 => some v22) (m + 1) (nn a) (nn a) = _
    rw [T_readFor_L6, if_pos rfl]
  · intro m a w ha hw
    show T_readFor_L6 N M (fun v22 => some v22) (m + 1) (nn a) w = _
    rw [T_readFor_L6, if_neg (fun z => hw z.symm), show (0 : Int32) = nn 0 from rfl, hin _ a (by omega) b 0 N a (by omega) (by omega)]
    rfl
theorem lt_C (hN : 20000 ≤ N) (hS : SOb b l s t u (coC X)) {k : Nat} (hk : k < b) : C_leadsTo N (ovC A X hb) (A.1 0) (nn k) = some (nn (ldN (coC X) b (if (kn (coC X)).testBit k = true then 0 else 2 ^ k))) := by
  have h8 := hS.1.1
  have h2b := pw_le h8
  have hV := nl_lt hS
  have hin : ∀ (x22 : Nat → Int32 → Int32 → Option Int32) (w : Nat), ∀ (r i n a : Nat), i + r = b → r < n → a < 2 ^ b → C_leadsTo_L28 N (ovC A X hb) x22 n (A.1 0) (nn a) (nn w) (nn i) = x22 (A.1 0) (nn (fo (fun k a => a ||| (if pIn a k = true then nl (coC X) k else 0)) r i a)) (nn w) := by
    intro x22 w r
    induction r with
    | zero =>
      intro i n a hi hn ha
      obtain ⟨n, rfl⟩ : ∃ m, n = m + 1 := ⟨n - 1, by omega⟩
      rw [C_leadsTo_L28, C_nBk, hS.nb, Option.bind_some, if_pos (by rw [nn_le (by omega) (by omega)]; omega)]
      rfl
    | succ r ih =>
      intro i n a hi hn ha
      obtain ⟨n, rfl⟩ : ∃ m, n = m + 1 := ⟨n - 1, by omega⟩
      obtain ⟨n1, n2⟩ := nd_s hS (show i < b by omega)
      have ho : a ||| nl (coC X) i < 2 ^ b := Nat.or_lt_two_pow ha (hV i (by omega))
      rw [C_leadsTo_L28, C_nBk, hS.nb, Option.bind_some, if_neg (by rw [nn_le (by omega) (by omega)]; omega), C_hs, Option.bind_some, bt_nn (by omega) (by omega), og_0_0, Option.bind_some, og_1_3, Option.bind_some, oa_4 (by omega), Option.bind_some, C_bks, Option.bind_some, og_15_1, Option.bind_some, cr_need (by omega), cr_known, n1, (kn_s hS).1, dif_nn (by omega), fo_s]
      unfold C_leadsTo_J71
      rw [show (1 : Int32) = nn 1 from rfl, show (0 : Int32) = nn 0 from rfl, or_nn, or_nn, nn_add, Nat.or_zero, ih (i + 1) n _ (by omega) (by omega) ha]
      have e1 : nn (a ||| sd (nd (coC X) i) (kn (coC X))) = nn (a ||| nl (coC X) i) := rfl
      rw [e1, ih (i + 1) n _ (by omega) (by omega) ho]
      unfold pIn
      cases a.testBit i
      · rw [if_pos (by rfl), if_neg (by decide), Nat.or_zero]
      · rw [if_neg (by decide), if_pos rfl]
  have hs : ∀ a, a < 2 ^ b → su a (rC pIn (nl (coC X)) b a) ∧ rC pIn (nl (coC X)) b a < 2 ^ b := fun a ha => ⟨rC_up b 0 a, rC_lt hV b 0 a (by omega) ha⟩
  have hkb : 2 ^ k < 2 ^ b := Nat.pow_lt_pow_right (by omega) hk
  have hst : (if (kn (coC X)).testBit k = true then 0 else 2 ^ k) < 2 ^ b := by
    split
    · exact Nat.two_pow_pos b
    · exact hkb
  have hkn := (kn_s hS).2
  unfold ldN
  rw [← clo_eq (P := pIn) hV (fun y hy a k hk ha hp => hy k hk (ha k hp)) hst]
  unfold C_leadsTo C_leadsTo_b
  rw [og_0, C_isR, Option.bind_some, (kn_s hS).1, bt_nn (by omega) (by omega)]
  have hv : (if bz ((kn (coC X)).testBit k) = 0 then ((1 : Int32) <<< (nn k &&& 31)) else (0 : Int32)) = nn (if (kn (coC X)).testBit k = true then 0 else 2 ^ k) := by
    cases (kn (coC X)).testBit k
    · rw [if_pos (by rfl), if_neg (by decide), sh_nn (by omega)]
    · rw [if_neg (by decide), if_pos rfl]; rfl
  rw [hv]
  unfold C_leadsTo_J15
  refine loop_itr (L := fun n a w => C_leadsTo_L18 N (ovC A X hb) (fun v52 => some v52) n (A.1 0) a w) (x := fun v52 => some v52) (step := rC pIn (nl (coC X)) b) (B := 2 ^ b) h2b hs ?_ ?_ (2 ^ b) _ N (-1) hst (by omega) (by omega) (fun z => nn_m1 (by omega) z.symm)
  · intro m a ha
    show C_leadsTo_L18 N (ovC A X hb) (fun v52 => some v52) (m + 1) (A.1 0) (nn a) (nn a) = _
    rw [C_leadsTo_L18, if_pos rfl]
  · intro m a w ha hw
    show C_leadsTo_L18 N (ovC A X hb) (fun v52 => some v52) (m + 1) (A.1 0) (nn a) w = _
    rw [C_leadsTo_L18, if_neg hw, show (0 : Int32) = nn 0 from rfl, hin _ a b 0 N a (by omega) (by omega) ha]
    rfl
end LDS
