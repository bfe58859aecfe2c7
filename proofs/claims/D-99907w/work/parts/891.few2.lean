/-! PLAIN LAW: how few are left -/
set_option maxRecDepth 100000
def ML (M : TM) (g : Nat → Int64) : TM := (M.1, M.2.1, M.2.2.1, g)
/-- longs lie at a, apart from all places -/
def HL (hb : Hp) (a : Nat) (f : Nat → Int64) : Hp := (hb.1, hb.2.1, hb.2.2.1, fun j => if j = a then some (.inl (3, 21, .inr (.inl f))) else hb.2.2.2 j)
def sm21 (f g : Nat → Int64) : Prop := ∀ j, j ≤ 20 → f j = g j
theorem sm21_u {f g : Nat → Int64} (h : sm21 f g) (k : Nat) (v : Int64) : sm21 (vp_updL f k v) (vp_updL g k v) := by
  intro j hj
  unfold vp_updL
  by_cases z : j = k
  · rw [if_pos z, if_pos z]
  · rw [if_neg z, if_neg z, h j hj]
section FX
variable {A : AT} {X : XT} {hb : Hp} {M : TM} {D : List CDn} {b l s t u N : Nat} {a : Nat} {f g : Nat → Int64}
theorem HL_at : (HL hb a f).2.2.2 a = some (.inl (3, 21, .inr (.inl f))) := by
  show (if a = a then _ else _) = _
  rw [if_pos rfl]
theorem arL_HL (h : ∀ j, j < nP → A.1 j ≠ a) : arL (ovC A X (HL hb a f)) a 3 = some (21, f) := by
  unfold arL ar
  rw [oc_off h, HL_at]
  rfl
theorem aL_HL (h : ∀ j, j < nP → A.1 j ≠ a) {i : Nat} (hi : i < 21) : aL (ovC A X (HL hb a f)) a 3 (nn i) = some (f i) := by
  unfold aL
  rw [arL_HL h]
  show (if inb (nn i) 21 = true then some (f (nn i).toNatClampNeg) else none) = _
  rw [inb_nn (by omega), nn_cl (by omega), decide_eq_true hi, if_pos rfl]
theorem sL_HL (h : ∀ j, j < nP → A.1 j ≠ a) {i : Nat} (hi : i < 21) {v : Int64} : sL (ovC A X (HL hb a f)) a 3 (nn i) v = some (ovC A X (HL hb a (vp_updL f i v))) := by
  unfold sL
  rw [arL_HL h]
  show (if inb (nn i) 21 = true then some (up (ovC A X (HL hb a f)) a (.inl (3, 21, .inr (.inl (vp_updL f (nn i).toNatClampNeg v))))) else none) = _
  rw [inb_nn (by omega), nn_cl (by omega), decide_eq_true hi, if_pos rfl, oc_upO h]
  congr 2
  unfold up HL
  refine Prod.ext rfl (Prod.ext rfl (Prod.ext rfl ?_))
  funext j
  show (if j = a then _ else (if j = a then _ else _)) = (if j = a then _ else _)
  by_cases z : j = a
  · rw [if_pos z, if_pos z]
  · rw [if_neg z, if_neg z, if_neg z]
theorem trl_ML {i : Nat} (hi : i < 21) : trl (ML M g) 21 (nn i) = some (g i) := trl_nn hi (by omega)
theorem twl_ML {i : Nat} (hi : i < 21) {v : Int64} : twl (ML M g) 21 (nn i) v = some (ML M (vp_updL g i v)) := twl_nn hi (by omega)
theorem fw_67 (ha : ∀ j, j < nP → A.1 j ≠ a) {x : Int32 → Int32 → Nat → Int32 → Int32 → Hp → Option (Int64 × Hp)} {y : Int32 → Int32 → Int32 → TM → Option (Int64 × TM)} {a1 a2 m : Int32} : ∀ (c n n' : Nat) (f g : Nat → Int64), c ≤ 20 → c < n → c < n' → sm21 f g → ∃ f' g', sm21 f' g' ∧ C_few_L64 N x n a1 a2 a (M.2.2.1 2 46) m (nn c - nn 1) (ovC A X (HL hb a f)) = x a1 a2 a (M.2.2.1 2 46) m (ovC A X (HL hb a f')) ∧ T_few_L67 N y n' a1 a2 m (nn c - nn 1) (ML M g) = y a1 a2 m (ML M g') := by
  intro c
  induction c with
  | zero =>
    intro n n' f g h1 h2 h3 hfg
    obtain ⟨n, rfl⟩ : ∃ m, n = m + 1 := ⟨n - 1, by omega⟩
    obtain ⟨n', rfl⟩ : ∃ m, n' = m + 1 := ⟨n' - 1, by omega⟩
    refine ⟨f, g, hfg, ?_, ?_⟩
    · rw [C_few_L64, if_pos (by decide)]
    · rw [T_few_L67, if_pos (by decide)]
  | succ c ih =>
    intro n n' f g h1 h2 h3 hfg
    obtain ⟨n, rfl⟩ : ∃ m, n = m + 1 := ⟨n - 1, by omega⟩
    obtain ⟨n', rfl⟩ : ∃ m, n' = m + 1 := ⟨n' - 1, by omega⟩
    have hid : nn (c + 1) - nn 1 = nn c := by rw [nn_sub (by omega)]; rfl
    have hdn : nn c + (-1 : Int32) = nn c - nn 1 := (Int32.sub_eq_add_neg _ _).symm
    have h46 : tra (ML M g) 2 5660 (46 : Int32) = some (M.2.2.1 2 46) := tra_nn (M := ML M g) (i := 46) (by omega) (by omega)
    have h46' : ∀ g', tra (ML M g') 2 5660 (46 : Int32) = some (M.2.2.1 2 46) := fun g' => tra_nn (M := ML M g') (i := 46) (by omega) (by omega)
    have e1 := hfg c (by omega)
    have e2 := hfg (c + 1) (by omega)
    have s1 := sm21_u hfg (c + 1) (f (c + 1) + f c * (M.2.2.1 2 46).toInt64 / (10 : Int64))
    have e3 := s1 c (by omega)
    have s2 := sm21_u s1 c (vp_updL f (c + 1) (f (c + 1) + f c * (M.2.2.1 2 46).toInt64 / (10 : Int64)) c * (((10 : Int32) - M.2.2.1 2 46).toInt64) / (10 : Int64))
    obtain ⟨f', g', r1, r2, r3⟩ := ih n n' _ _ (by omega) (by omega) (by omega) s2
    refine ⟨f', g', r1, ?_, ?_⟩
    · rw [C_few_L64, hid, if_neg (nn_neg (by omega)), show (1 : Int32) = nn 1 from rfl, nn_add, aL_HL ha (by omega), Option.bind_some, aL_HL ha (by omega), Option.bind_some, if_neg (by decide), sL_HL ha (by omega), Option.bind_some, aL_HL ha (by omega), Option.bind_some, if_neg (by decide), sL_HL ha (by omega), Option.bind_some, show -nn 1 = (-1 : Int32) from rfl, hdn]
      exact r2
    · rw [T_few_L67, hid, if_neg (nn_neg (by omega)), show (1 : Int32) = nn 1 from rfl, nn_add, trl_ML (by omega), Option.bind_some, trl_ML (by omega), Option.bind_some, h46, Option.bind_some, if_neg (by decide), twl_ML (by omega), Option.bind_some, trl_ML (by omega), Option.bind_some, h46', Option.bind_some, if_neg (by decide), twl_ML (by omega), Option.bind_some, show -nn 1 = (-1 : Int32) from rfl, hdn, ← e1, ← e2, ← e3]
      exact r3
theorem fw_57 (hN : 20000 ≤ N) (ha : ∀ j, j < nP → A.1 j ≠ a) {x : Int32 → Nat → Hp → Option (Int64 × Hp)} {y : Int32 → TM → Option (Int64 × TM)} {k q : Nat} (hk : k ≤ 20) (hq : q ≤ 99) : ∀ (r i n n' : Nat) (f g : Nat → Int64), i + r = q → r < n → r < n' → sm21 f g → ∃ f' g', sm21 f' g' ∧ C_few_L53 N x n (nn k) (nn q) a (M.2.2.1 2 46) (nn i) (ovC A X (HL hb a f)) = x (nn k) a (ovC A X (HL hb a f')) ∧ T_few_L57 N y n' (nn k) (nn q) (nn i) (ML M g) = y (nn k) (ML M g') := by
  intro r
  induction r with
  | zero =>
    intro i n n' f g h1 h2 h3 hfg
    obtain ⟨n, rfl⟩ : ∃ m, n = m + 1 := ⟨n - 1, by omega⟩
    obtain ⟨n', rfl⟩ : ∃ m, n' = m + 1 := ⟨n' - 1, by omega⟩
    refine ⟨f, g, hfg, ?_, ?_⟩
    · rw [C_few_L53, if_pos (by rw [nn_le (by omega) (by omega)]; omega)]
    · rw [T_few_L57, if_pos (by rw [nn_le (by omega) (by omega)]; omega)]
  | succ r ih =>
    intro i n n' f g h1 h2 h3 hfg
    obtain ⟨n, rfl⟩ : ∃ m, n = m + 1 := ⟨n - 1, by omega⟩
    obtain ⟨n', rfl⟩ : ∃ m, n' = m + 1 := ⟨n' - 1, by omega⟩
    obtain ⟨f1, g1, s1, s2, s3⟩ := fw_67 (N := N) (M := M) (X := X) (hb := hb) ha (x := fun v57 v58 v59 v60 v61 h62 => C_few_L53 N x n v57 v58 v59 v60 (v61 + (1 : Int32)) h62) (y := fun v44 v45 v46 M47 => T_few_L57 N y n' v44 v45 (v46 + (1 : Int32)) M47) (a1 := nn k) (a2 := nn q) (m := nn i) k N N f g hk (by omega) (by omega) hfg
    obtain ⟨f', g', r1, r2, r3⟩ := ih (i + 1) n n' f1 g1 (by omega) (by omega) (by omega) s1
    refine ⟨f', g', r1, ?_, ?_⟩
    · rw [C_few_L53, if_neg (by rw [nn_le (by omega) (by omega)]; omega), show (1 : Int32) = nn 1 from rfl]
      refine s2.trans ?_
      show C_few_L53 N x n (nn k) (nn q) a (M.2.2.1 2 46) (nn i + (1 : Int32)) _ = _
      rw [show (1 : Int32) = nn 1 from rfl, nn_add, r2]
    · rw [T_few_L57, if_neg (by rw [nn_le (by omega) (by omega)]; omega), show (1 : Int32) = nn 1 from rfl]
      refine s3.trans ?_
      show T_few_L57 N y n' (nn k) (nn q) (nn i + (1 : Int32)) _ = _
      rw [show (1 : Int32) = nn 1 from rfl, nn_add, r3]
theorem fw_sC (ha : ∀ j, j < nP → A.1 j ≠ a) {x : Int64 → Hp → Option (Int64 × Hp)} {k : Nat} (hk : k ≤ 20) : ∀ (r i n : Nat) (v : Int64), i + r = k → r < n → C_few_L127 N x n (nn k) a v (nn i) (ovC A X (HL hb a f)) = x (fo (fun j w => w + f j) r i v) (ovC A X (HL hb a f)) := by
  intro r
  induction r with
  | zero =>
    intro i n v h1 h2
    obtain ⟨n, rfl⟩ : ∃ m, n = m + 1 := ⟨n - 1, by omega⟩
    rw [C_few_L127, if_pos (by rw [nn_le (by omega) (by omega)]; omega)]
    rfl
  | succ r ih =>
    intro i n v h1 h2
    obtain ⟨n, rfl⟩ : ∃ m, n = m + 1 := ⟨n - 1, by omega⟩
    rw [C_few_L127, if_neg (by rw [nn_le (by omega) (by omega)]; omega), aL_HL ha (by omega), Option.bind_some, show (1 : Int32) = nn 1 from rfl, nn_add, ih (i + 1) n _ (by omega) (by omega), fo_s]
theorem fw_sT {x : Int64 → TM → Option (Int64 × TM)} {k : Nat} (hk : k ≤ 20) : ∀ (r i n : Nat) (v : Int64), i + r = k → r < n → T_few_L151 N x n (nn k) v (nn i) (ML M g) = x (fo (fun j w => w + g j) r i v) (ML M g) := by
  intro r
  induction r with
  | zero =>
    intro i n v h1 h2
    obtain ⟨n, rfl⟩ : ∃ m, n = m + 1 := ⟨n - 1, by omega⟩
    rw [T_few_L151, if_pos (by rw [nn_le (by omega) (by omega)]; omega)]
    rfl
  | succ r ih =>
    intro i n v h1 h2
    obtain ⟨n, rfl⟩ : ∃ m, n = m + 1 := ⟨n - 1, by omega⟩
    rw [T_few_L151, if_neg (by rw [nn_le (by omega) (by omega)]; omega), trl_ML (by omega), Option.bind_some, show (1 : Int32) = nn 1 from rfl, nn_add, ih (i + 1) n _ (by omega) (by omega), fo_s]
theorem fw_0 {x : Int32 → Int32 → TM → Option (Int64 × TM)} {a1 a2 : Int32} : ∀ (r i n : Nat) (g : Nat → Int64), i + r = 21 → r < n → (∀ j, j < i → g j = if j = 0 then (1000000000000 : Int64) else 0) → ∃ g', T_few_L26 N x n a1 a2 (nn i) (ML M g) = x a1 a2 (ML M g') ∧ ∀ j, j < 21 → g' j = if j = 0 then (1000000000000 : Int64) else 0 := by
  intro r
  induction r with
  | zero =>
    intro i n g h1 h2 h3
    obtain ⟨n, rfl⟩ : ∃ m, n = m + 1 := ⟨n - 1, by omega⟩
    obtain rfl : i = 21 := by omega
    refine ⟨g, ?_, h3⟩
    rw [T_few_L26, if_pos (by decide)]
  | succ r ih =>
    intro i n g h1 h2 h3
    obtain ⟨n, rfl⟩ : ∃ m, n = m + 1 := ⟨n - 1, by omega⟩
    obtain ⟨g', e1, e2⟩ := ih (i + 1) n (vp_updL g i (if i = 0 then (1000000000000 : Int64) else 0)) (by omega) (by omega) (by
      intro j hj
      unfold vp_updL
      by_cases z : j = i
      · rw [if_pos z, z]
      · rw [if_neg z]
        exact h3 j (by omega))
    refine ⟨g', ?_, e2⟩
    rw [T_few_L26, if_neg (by rw [show (20 : Int32) = nn 20 from rfl, nn_lt (by omega) (by omega)]; omega)]
    unfold T_few_J48
    rw [twl_ML (by omega), twl_ML (by omega), Option.bind_some, Option.bind_some, show (1 : Int32) = nn 1 from rfl, nn_add]
    by_cases z : i = 0
    · rw [if_pos z] at e1
      rw [if_pos (by rw [z]; rfl), e1]
    · rw [if_neg z] at e1
      rw [if_neg (by rw [nn_z (by omega)]; exact z), e1]
theorem op_few (hN : 20000 ≤ N) (h : Wk A X hb M D b l s t u) (hi : HI A hb) (a1 a2 : Int32) : OpG A X hb M t (C_few N (A.1 0) a1 a2) (T_few N a1 a2) := by
  have hsame : ∀ v : Int64, C_few N (A.1 0) a1 a2 (ovC A X hb) = some (v, ovC A X hb) → T_few N a1 a2 M = some (v, M) → OpG A X hb M t (C_few N (A.1 0) a1 a2) (T_few N a1 a2) := fun v e1 e2 => ⟨v, A, X, hb, M, e1, e2, h.2.1, ⟨b, l, s, u, h.2.2.1⟩, rfl, Gx_td (Td_refl hb) hi, samA_refl A, fun _ _ => rfl⟩
  have hin1 : C_in a1.toInt64 (1 : Int64) (20 : Int64) = some (bz (wi a1 (nn 1) (nn 20))) := by
    rw [show (1 : Int64) = (nn 1).toInt64 by decide, show (20 : Int64) = (nn 20).toInt64 by decide, C_in_w]
  have hin2 : C_in a2.toInt64 (0 : Int64) (99 : Int64) = some (bz (wi a2 (nn 0) (nn 99))) := by
    rw [show (0 : Int64) = (nn 0).toInt64 by decide, show (99 : Int64) = (nn 99).toInt64 by decide, C_in_w]
  have hl1 : T_lies a1 (1 : Int32) (20 : Int32) = some (bz (wi a1 (nn 1) (nn 20))) := T_lies_w _ _ _
  have hl2 : T_lies a2 (0 : Int32) (99 : Int32) = some (bz (wi a2 (nn 0) (nn 99))) := T_lies_w _ _ _
  cases hw1 : wi a1 (nn 1) (nn 20)
  · refine hsame (-1) ?_ ?_
    · unfold C_few C_few_b
      rw [og_0, hin1, hw1, Option.bind_some, if_pos (by rfl)]
    · unfold T_few
      rw [hl1, hw1, Option.bind_some, if_pos (by rfl)]
  cases hw2 : wi a2 (nn 0) (nn 99)
  · refine hsame (-1) ?_ ?_
    · unfold C_few C_few_b
      rw [og_0, hin1, hw1, Option.bind_some, if_neg (by decide), hin2, hw2, Option.bind_some, if_pos (by rfl)]
    · unfold T_few
      rw [hl1, hw1, Option.bind_some, if_neg (by decide), hl2, hw2, Option.bind_some, if_pos (by rfl)]
  obtain ⟨k, k1, k2, rfl⟩ := wi_k (n := 1) (m := 20) (by omega) (by omega) hw1
  obtain ⟨q, q1, q2, rfl⟩ := wi_k (n := 0) (m := 99) (by omega) (by omega) hw2
  have ha : ∀ j, j < nP → A.1 j ≠ hb.1 := fun j hj z => absurd (hi.1 j hj) (by omega)
  have hML : ML M M.2.2.2 = M := rfl
  obtain ⟨g0, t1, t2⟩ := fw_0 (N := N) (M := M) (x := fun v18 v19 M20 => T_few_L57 N (fun v49 M50 => T_few_L151 N (fun v59 M60 => some (v59, M60)) N v49 (0 : Int64) (0 : Int32) M50) N v18 v19 (0 : Int32) M20) (a1 := nn k) (a2 := nn q) 21 0 N M.2.2.2 (by omega) (by omega) (fun j hj => absurd hj (by omega))
  have hsm : sm21 (vp_updL (fun _ => 0) 0 (1000000000000 : Int64)) g0 := by
    intro j hj
    rw [t2 j (by omega)]
    rfl
  obtain ⟨f', g', s1, s2, s3⟩ := fw_57 (N := N) (M := M) (X := X) (hb := (hb.1 + 1, hb.2.1 + 21, hb.2.2.1, hb.2.2.2)) (a := hb.1) hN ha (x := fun v64 v65 h66 => C_few_L127 N (fun v76 h77 => some (v76, h77)) N v64 v65 (0 : Int64) (0 : Int32) h66) (y := fun v49 M50 => T_few_L151 N (fun v59 M60 => some (v59, M60)) N v49 (0 : Int64) (0 : Int32) M50) (k := k) (q := q) k2 q2 q 0 N N _ _ (by omega) (by omega) (by omega) hsm
  have hsum : fo (fun j w => w + f' j) k 0 (0 : Int64) = fo (fun j w => w + g' j) k 0 (0 : Int64) := fo_congr _ (fun i _ hi w => by rw [s1 i (by omega)])
  have hc46 : X.1 6 1 = M.2.2.1 2 46 := by rw [cr_term (i := 1) (by omega) (by omega), h.2.1.at (by omega), fT_0 (by omega)]
  refine ⟨fo (fun j w => w + g' j) k 0 (0 : Int64), A, X, HL (hb.1 + 1, hb.2.1 + 21, hb.2.2.1, hb.2.2.2) hb.1 f', ML M g', ?_, ?_, h.2.1, ⟨b, l, s, u, h.2.2.1⟩, rfl, ?_, samA_refl A, fun _ _ => rfl⟩
  · unfold C_few C_few_b
    have hna : na (ovC A X hb) 3 (21 : Int32) (.inr (.inl (fun _ => 0))) = some (hb.1, ovC A X (HL (hb.1 + 1, hb.2.1 + 21, hb.2.2.1, hb.2.2.2) hb.1 (fun _ => 0))) := by
      unfold na
      rw [if_neg (by decide)]
      congr 2
      exact oc_new ha
    rw [og_0, hin1, hw1, Option.bind_some, if_neg (by decide), hin2, hw2, Option.bind_some, if_neg (by decide), hna, bd2_some, show (0 : Int32) = nn 0 from rfl, sL_HL ha (by omega), Option.bind_some, og_0_0, Option.bind_some, og_1_5, Option.bind_some, show (1 : Int32) = nn 1 from rfl, oa_6 (by omega), Option.bind_some, hc46]
    refine s2.trans ?_
    show C_few_L127 N _ N (nn k) hb.1 (0 : Int64) (0 : Int32) _ = _
    rw [show (0 : Int32) = nn 0 from rfl, fw_sC ha k2 k 0 N 0 (by omega) (by omega), hsum]
  · unfold T_few
    rw [hl1, hw1, Option.bind_some, if_neg (by decide), hl2, hw2, Option.bind_some, if_neg (by decide)]
    refine t1.trans ?_
    refine s3.trans ?_
    show T_few_L151 N _ N (nn k) (0 : Int64) (0 : Int32) _ = _
    rw [show (0 : Int32) = nn 0 from rfl, fw_sT k2 k 0 N 0 (by omega) (by omega)]
  · refine ⟨by show hb.1 ≤ hb.1 + 1; omega, by show hb.1 + 1 ≤ hb.1 + 18756; omega, by show hb.2.1 ≤ hb.2.1 + 21; omega, by show hb.2.1 + 21 ≤ hb.2.1 + 85714; omega, rfl, ?_, ?_, ?_⟩
    · intro x e he
      refine Or.inl ?_
      show (if x = hb.1 then _ else hb.2.2.2 x) = _
      rw [if_neg (fun z => by rw [z, hi.2 hb.1 (Nat.le_refl _)] at he; cases he)]
      exact he
    · intro x hx he
      show (if x = hb.1 then _ else hb.2.2.2 x) = _
      rw [if_neg (by omega)]
      exact he
    · intro x hx
      have hx' : hb.1 + 1 ≤ x := hx
      show (if x = hb.1 then _ else hb.2.2.2 x) = _
      rw [if_neg (by omega)]
      exact hi.2 x (by omega)
end FX
