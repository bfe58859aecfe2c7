/-! PLAIN LAW: which leek tells most -/
set_option maxRecDepth 100000
def cnF (w : Nat) (g : Nat → Nat) (v : Nat) : Nat → Nat → Nat := fun k a => if w.testBit k = true ∧ g k = v then a + 1 else a
def cnt (w : Nat) (g : Nat → Nat) (i v : Nat) : Nat := fo (cnF w g v) i 0 0
def mcF (w : Nat) (g : Nat → Nat) : Nat → Nat → Nat := fun k m => if w.testBit k = true then max m (cnt w g (k + 1) (g k)) else m
def mtF (w : Nat) (g : Nat → Nat) (B : Nat) : Nat → Nat → Nat := fun a m => if w.testBit a = true then max m (cnt w g B (g a)) else m
theorem cnt_s (w : Nat) (g : Nat → Nat) (i v : Nat) : cnt w g (i + 1) v = if w.testBit i = true ∧ g i = v then cnt w g i v + 1 else cnt w g i v := by
  unfold cnt
  rw [fo_snoc, Nat.zero_add]
  rfl
theorem cnt_le (w : Nat) (g : Nat → Nat) (i v : Nat) : cnt w g i v ≤ i := by
  induction i with
  | zero => exact Nat.le_refl _
  | succ i ih =>
    rw [cnt_s]
    split <;> omega
theorem cnt_mono (w : Nat) (g : Nat → Nat) (v : Nat) {i j : Nat} (h : i ≤ j) : cnt w g i v ≤ cnt w g j v := by
  induction j with
  | zero => rw [show i = 0 by omega]; exact Nat.le_refl _
  | succ j ih =>
    by_cases z : i = j + 1
    · rw [z]; exact Nat.le_refl _
    · have := ih (by omega)
      rw [cnt_s]
      split <;> omega
theorem fo_ge {f : Nat → Nat → Nat} (hf : ∀ k m, m ≤ f k m) : ∀ (d b a : Nat), a ≤ fo f d b a
  | 0, _, a => Nat.le_refl a
  | d + 1, b, a => by
    rw [fo_s]
    exact Nat.le_trans (hf b a) (fo_ge hf d (b + 1) (f b a))
theorem mc_ge (w : Nat) (g : Nat → Nat) (k m : Nat) : m ≤ mcF w g k m := by
  unfold mcF
  split <;> omega
theorem mt_ge (w : Nat) (g : Nat → Nat) (B k m : Nat) : m ≤ mtF w g B k m := by
  unfold mtF
  split <;> omega
theorem mc_all (w : Nat) (g : Nat → Nat) (v i : Nat) : cnt w g i v ≤ fo (mcF w g) i 0 0 := by
  induction i with
  | zero => exact Nat.le_refl _
  | succ i ih =>
    rw [fo_snoc, Nat.zero_add, cnt_s]
    by_cases z : w.testBit i = true ∧ g i = v
    · rw [if_pos z]
      unfold mcF
      rw [if_pos z.1, z.2, cnt_s, if_pos z]
      omega
    · rw [if_neg z]
      exact Nat.le_trans ih (mc_ge w g i _)
theorem mt_le (w : Nat) (g : Nat → Nat) (B m : Nat) (h : ∀ v, cnt w g B v ≤ m) : ∀ i, fo (mtF w g B) i 0 0 ≤ m := by
  intro i
  induction i with
  | zero => exact Nat.zero_le _
  | succ i ih =>
    rw [fo_snoc, Nat.zero_add]
    have e : mtF w g B i (fo (mtF w g B) i 0 0) = if w.testBit i = true then max (fo (mtF w g B) i 0 0) (cnt w g B (g i)) else fo (mtF w g B) i 0 0 := rfl
    rw [e]
    split
    · have := h (g i); omega
    · exact ih
theorem mt_at (w : Nat) (g : Nat → Nat) (B : Nat) {k : Nat} (hk : w.testBit k = true) : ∀ i, k < i → cnt w g B (g k) ≤ fo (mtF w g B) i 0 0 := by
  intro i
  induction i with
  | zero => intro h; omega
  | succ i ih =>
    intro h
    rw [fo_snoc, Nat.zero_add]
    by_cases z : k = i
    · subst z
      unfold mtF
      rw [if_pos hk]
      omega
    · exact Nat.le_trans (ih (by omega)) (mt_ge w g B i _)
/-- both ways to count -/
theorem mc_mt (w : Nat) (g : Nat → Nat) (B : Nat) : fo (mcF w g) B 0 0 = fo (mtF w g B) B 0 0 := by
  apply Nat.le_antisymm
  · have : ∀ i, i ≤ B → fo (mcF w g) i 0 0 ≤ fo (mtF w g B) B 0 0 := by
      intro i
      induction i with
      | zero => intro _; exact Nat.zero_le _
      | succ i ih =>
        intro hi
        have h1 := ih (by omega)
        rw [fo_snoc, Nat.zero_add]
        unfold mcF at h1 ⊢
        split
        · next z =>
          have h2 := mt_at w g B z B (by omega)
          have h3 := cnt_mono w g (g i) (i := i + 1) (j := B) (by omega)
          omega
        · exact h1
    exact this B (Nat.le_refl _)
  · exact mt_le w g B _ (fun v => mc_all w g v B) B
theorem mc_8 (w : Nat) (g : Nat → Nat) {B : Nat} (hB : B ≤ 8) : fo (mcF w g) B 0 0 ≤ 8 := by
  rw [mc_mt]
  exact mt_le w g B 8 (fun v => by have := cnt_le w g B v; omega) B
theorem cb_lt {D : List CDn} {S : Nat → Nat → Int32} {s b : Nat} : fo (cbF D S s) b 0 0 < 2 ^ b := by
  have := fo_inv (f := cbF D S s) (d := b) (b := 0) (a := 0) (fun _ a => a < 2 ^ b) (Nat.two_pow_pos b) (fun i _ hi a ha => by
    unfold cbF
    apply Nat.or_lt_two_pow ha
    split
    · exact Nat.pow_lt_pow_right (by omega) (by omega)
    · exact Nat.two_pow_pos b)
  exact this
section LK
variable {A : AT} {X : XT} {hb : Hp} {M : TM} {D : List CDn} {b l s t u N : Nat}
theorem fill_L {x : Hp → Option Hp} : ∀ (r i n : Nat) (X : XT), i + r = 100 → r < n → (∀ v, v < i → X.1 40 v = nn 0) → ∃ X', J16_fill_L5 N x n (A.1 40) (nn 0) (nn i) (nn 100) (ovC A X hb) = x (ovC A X' hb) ∧ (∀ v, v < 100 → X'.1 40 v = nn 0) ∧ coC X' = coC X ∧ X'.2 = X.2 := by
  intro r
  induction r with
  | zero =>
    intro i n X hi hn hv
    obtain ⟨n, rfl⟩ : ∃ m, n = m + 1 := ⟨n - 1, by omega⟩
    refine ⟨X, ?_, fun v h => hv v (by omega), rfl, rfl⟩
    rw [J16_fill_L5, if_pos (by rw [nn_le (by omega) (by omega)]; omega)]
  | succ r ih =>
    intro i n X hi hn hv
    obtain ⟨n, rfl⟩ : ∃ m, n = m + 1 := ⟨n - 1, by omega⟩
    obtain ⟨X', e1, e2, e3, e4⟩ := ih (i + 1) n (ws X 40 i (nn 0)) (by omega) (by omega) (by
      intro v h
      rw [ws_at]
      by_cases z : v = i
      · rw [if_pos ⟨rfl, z⟩]
      · rw [if_neg (fun w => z w.2)]
        exact hv v (by omega))
    refine ⟨X', ?_, e2, by rw [e3, co_s rfl], by rw [e4]; rfl⟩
    rw [J16_fill_L5, if_neg (by rw [nn_le (by omega) (by omega)]; omega), os_40 (by omega), Option.bind_some, show (1 : Int32) = nn 1 from rfl, nn_add, e1]
theorem C_fill (hN : 20000 ≤ N) : ∃ X', J16_fill N (A.1 40) (0 : Int32) (ovC A X hb) = some (ovC A X' hb) ∧ (∀ v, v < 100 → X'.1 40 v = nn 0) ∧ coC X' = coC X ∧ X'.2 = X.2 := by
  unfold J16_fill
  rw [on_40, Option.bind_some]
  exact fill_L (x := fun h30 => some h30) 100 0 N X (by omega) (by omega) (fun v h => absurd h (by omega))
theorem mx_ite {a c : Nat} (ha : a < 2147483648) (hc : c < 2147483648) : (if nn a < nn c then nn c else nn a) = nn (max a c) := by
  have e : (nn a < nn c) = (a < c) := nn_lt ha hc
  by_cases z : a < c
  · rw [if_pos (by rw [e]; exact z), Nat.max_eq_right (by omega)]
  · rw [if_neg (by rw [e]; exact z), Nat.max_eq_left (by omega)]
theorem ma_13 (hN : 20000 ≤ N) {x : Int32 → Hp → Option (Int32 × Hp)} {w lk : Nat} (hw : w < 256) (hlk : lk < 4) : ∀ (r i n m : Nat) (X : XT) (hb : Hp), Wk A X hb M D b l s t u → i + r = b → r < n → m ≤ 8 → (∀ v, v < 100 → X.1 40 v = nn (cnt w (gV D (fT M) lk) i v)) → ∃ X' hb', C_mostAlike_L13 N x n (A.1 0) (nn w) (nn lk) (nn m) (nn i) (ovC A X hb) = x (nn (fo (mcF w (gV D (fT M) lk)) r i m)) (ovC A X' hb') ∧ Wk A X' hb' M D b l s t u ∧ coC X' = coC X ∧ X'.2.2 = X.2.2 ∧ Td hb hb' := by
  intro r
  induction r with
  | zero =>
    intro i n m X hb h hi hn hm hv
    obtain ⟨n, rfl⟩ : ∃ m, n = m + 1 := ⟨n - 1, by omega⟩
    have h8 := h.2.2.1.1.1
    refine ⟨X, hb, ?_, h, rfl, rfl, Td_refl hb⟩
    rw [C_mostAlike_L13, C_nBk, h.2.1.at (by omega), h.2.2.1.nb, Option.bind_some, if_pos (by rw [nn_le (by omega) (by omega)]; omega)]
    rfl
  | succ r ih =>
    intro i n m X hb h hi hn hm hv
    obtain ⟨n, rfl⟩ : ∃ m, n = m + 1 := ⟨n - 1, by omega⟩
    have h8 := h.2.2.1.1.1
    rw [C_mostAlike_L13, C_nBk, h.2.1.at (by omega), h.2.2.1.nb, Option.bind_some, if_neg (by rw [nn_le (by omega) (by omega)]; omega), C_hs, Option.bind_some, bt_nn hw (by omega), fo_s]
    unfold C_mostAlike_J53
    cases hbt : w.testBit i
    · have hmc : mcF w (gV D (fT M) lk) i m = m := by
        unfold mcF
        rw [if_neg (by rw [hbt]; decide)]
      rw [if_pos (by rfl), hmc, show (1 : Int32) = nn 1 from rfl, nn_add]
      exact ih (i + 1) n m X hb h (by omega) (by omega) hm (fun v hv' => by
        rw [cnt_s, if_neg (fun z => by rw [hbt] at z; exact absurd z.1 (by decide))]
        exact hv v hv')
    · obtain ⟨X1, hb1, M1, t1, _, t3, t4, t5, t6, t7⟩ := sim_gv hN h (lk := lk) (bb := i) hlk (by omega)
      have hW := Wk_mv h t3 t4 t5 (TF_refl M)
      have hcl := cnt_le w (gV D (fT M) lk) i (gV D (fT M) lk i)
      have hc1 : cnt w (gV D (fT M) lk) (i + 1) (gV D (fT M) lk i) = cnt w (gV D (fT M) lk) i (gV D (fT M) lk i) + 1 := by
        rw [cnt_s, if_pos ⟨hbt, rfl⟩]
      have hmc : mcF w (gV D (fT M) lk) i m = max m (cnt w (gV D (fT M) lk) i (gV D (fT M) lk i) + 1) := by
        unfold mcF
        rw [if_pos hbt, hc1]
      have hW2 : Wk A (ws X1 40 (gV D (fT M) lk i) (nn (cnt w (gV D (fT M) lk) i (gV D (fT M) lk i) + 1))) hb1 M D b l s t u := Wk_same hW (co_s rfl) rfl rfl
      obtain ⟨X', hb', e1, e2, e3, e4, e5⟩ := ih (i + 1) n (mcF w (gV D (fT M) lk) i m) _ hb1 hW2 (by omega) (by omega) (by rw [hmc]; omega) (by
        intro v hv'
        rw [ws_at, cnt_s]
        by_cases z : v = gV D (fT M) lk i
        · rw [if_pos ⟨rfl, z⟩, if_pos ⟨hbt, z.symm⟩, z]
        · rw [if_neg (fun y => z y.2), if_neg (fun y => z y.2.symm), q28_at t3 (by decide)]
          exact hv v hv')
      refine ⟨X', hb', ?_, e2, by rw [e3, co_s rfl, q28_co t3], by rw [e4]; exact t4, Td_trans t5 e5⟩
      rw [if_neg (by decide), og_0_25, Option.bind_some, t1, bd2_some, oa_40 (by omega), Option.bind_some, q28_at t3 (by decide), hv _ (by omega), show (1 : Int32) = nn 1 from rfl, nn_add, os_40 (by omega), Option.bind_some, Option.bind_some, mx_ite (by omega) (by omega), ← hmc, nn_add, e1]
theorem C_ma (hN : 20000 ≤ N) (h : Wk A X hb M D b l s t u) {w lk : Nat} (hw : w < 256) (hlk : lk < 4) : ∃ X' hb', C_mostAlike N (A.1 0) (nn w) (nn lk) (ovC A X hb) = some (nn (fo (mcF w (gV D (fT M) lk)) b 0 0), ovC A X' hb') ∧ Wk A X' hb' M D b l s t u ∧ coC X' = coC X ∧ X'.2.2 = X.2.2 ∧ Td hb hb' := by
  have h8 := h.2.2.1.1.1
  obtain ⟨X1, f1, f2, f3, f4⟩ := C_fill (A := A) (X := X) (hb := hb) hN
  have hW : Wk A X1 hb M D b l s t u := Wk_same h f3 (by rw [f4]) rfl
  obtain ⟨X', hb', e1, e2, e3, e4, e5⟩ := ma_13 (x := fun v46 h47 => some (v46, h47)) hN hw hlk b 0 N 0 X1 hb hW (by omega) (by omega) (by omega) f2
  refine ⟨X', hb', ?_, e2, by rw [e3, f3], by rw [e4, f4], e5⟩
  unfold C_mostAlike C_mostAlike_b
  rw [og_0, og_0_25, Option.bind_some, f1, Option.bind_some]
  exact e1
theorem ma_20 {S : Nat → Nat → Int32} {x : Int32 → Int32 → Int32 → Int32 → Int32 → Option Int32} {w lk a : Nat} {m : Int32} (h : Wk A X hb M D b l s t u) (hg : GA D S M (fun lk' k => lk' < l ∧ k < b)) (hv : ∀ k, k < b → gV D S lk k ≤ 99) (hw : w < 256) (hlk : lk < l) (ha : a < b) : ∀ (r i n c : Nat), i + r = b → r < n → T_mostAlike_L20 N M x n (nn w) (nn lk) m (nn a) (nn c) (nn i) = x (nn w) (nn lk) m (nn a) (nn (fo (cnF w (gV D S lk) (gV D S lk a)) r i c)) := by
  have h8 := h.2.2.1.1.1
  have h4 := h.2.2.1.1.2.1
  intro r
  induction r with
  | zero =>
    intro i n c hi hn
    obtain ⟨n, rfl⟩ : ∃ m, n = m + 1 := ⟨n - 1, by omega⟩
    rw [T_mostAlike_L20, T_bM, h.2.2.1.nb, Option.bind_some, if_pos (by rw [nn_le (by omega) (by omega)]; omega)]
    rfl
  | succ r ih =>
    intro i n c hi hn
    obtain ⟨n, rfl⟩ : ∃ m, n = m + 1 := ⟨n - 1, by omega⟩
    have g1 := hg lk a (by omega) ⟨hlk, ha⟩
    have g2 := hg lk i (by omega) ⟨hlk, by omega⟩
    rw [T_mostAlike_L20, T_bM, h.2.2.1.nb, Option.bind_some, if_neg (by rw [nn_le (by omega) (by omega)]; omega), T_isI, Option.bind_some, bt_nn hw (by omega), fo_s, show (8 : Int32) = nn 8 from rfl, nn_mul, nn_add, nn_add, tra_nn (by omega) (by omega), Option.bind_some, tra_nn (by omega) (by omega), Option.bind_some, g1, g2]
    unfold T_mostAlike_J71 T_mostAlike_J72
    rw [show (1 : Int32) = nn 1 from rfl, show (0 : Int32) = nn 0 from rfl, nn_add, nn_add, nn_add, ih (i + 1) n _ (by omega) (by omega), ih (i + 1) n _ (by omega) (by omega)]
    have v1 := hv a ha
    have v2 := hv i (by omega)
    cases hbt : w.testBit i
    · have e : cnF w (gV D S lk) (gV D S lk a) i c = c := by
        unfold cnF
        rw [if_neg (fun z => by rw [hbt] at z; exact absurd z.1 (by decide))]
      rw [if_pos (by rfl), e]
      rfl
    · rw [if_neg (by decide)]
      by_cases z : gV D S lk i = gV D S lk a
      · have e : cnF w (gV D S lk) (gV D S lk a) i c = c + 1 := by
          unfold cnF
          rw [if_pos ⟨hbt, z⟩]
        rw [if_pos (by rw [z]), e]
      · have e : cnF w (gV D S lk) (gV D S lk a) i c = c := by
          unfold cnF
          rw [if_neg (fun y => z y.2)]
        rw [if_neg (by rw [nn_inj (by omega) (by omega)]; exact fun y => z y.symm), e]
        rfl
theorem ma_5 {S : Nat → Nat → Int32} {x : Int32 → Option Int32} {w lk : Nat} (hN : 20000 ≤ N) (h : Wk A X hb M D b l s t u) (hg : GA D S M (fun lk' k => lk' < l ∧ k < b)) (hv : ∀ k, k < b → gV D S lk k ≤ 99) (hw : w < 256) (hlk : lk < l) : ∀ (r i n m : Nat), i + r = b → r < n → m ≤ 8 → T_mostAlike_L5 N M x n (nn w) (nn lk) (nn m) (nn i) = x (nn (fo (mtF w (gV D S lk) b) r i m)) := by
  have h8 := h.2.2.1.1.1
  have h4 := h.2.2.1.1.2.1
  intro r
  induction r with
  | zero =>
    intro i n m hi hn hm
    obtain ⟨n, rfl⟩ : ∃ m, n = m + 1 := ⟨n - 1, by omega⟩
    rw [T_mostAlike_L5, T_bM, h.2.2.1.nb, Option.bind_some, if_pos (by rw [nn_le (by omega) (by omega)]; omega)]
    rfl
  | succ r ih =>
    intro i n m hi hn hm
    obtain ⟨n, rfl⟩ : ∃ m, n = m + 1 := ⟨n - 1, by omega⟩
    have hc := cnt_le w (gV D S lk) b (gV D S lk i)
    rw [T_mostAlike_L5, T_bM, h.2.2.1.nb, Option.bind_some, if_neg (by rw [nn_le (by omega) (by omega)]; omega), show (0 : Int32) = nn 0 from rfl, ma_20 h hg hv hw hlk (a := i) (by omega) b 0 N 0 (by omega) (by omega), T_isI, Option.bind_some, bt_nn hw (by omega), fo_s]
    unfold T_mostAlike_J100 T_greater
    have hcn : fo (cnF w (gV D S lk) (gV D S lk i)) b 0 0 = cnt w (gV D S lk) b (gV D S lk i) := rfl
    rw [hcn, Option.bind_some, show (1 : Int32) = nn 1 from rfl, nn_add]
    cases hbt : w.testBit i
    · have e : mtF w (gV D S lk) b i m = m := by
        unfold mtF
        rw [if_neg (by rw [hbt]; decide)]
      rw [if_pos (by rfl), e, ih (i + 1) n m (by omega) (by omega) hm]
    · have e : mtF w (gV D S lk) b i m = max m (cnt w (gV D S lk) b (gV D S lk i)) := by
        unfold mtF
        rw [if_pos hbt]
      have e2 : (if nn m ≤ nn (cnt w (gV D S lk) b (gV D S lk i)) then nn (cnt w (gV D S lk) b (gV D S lk i)) else nn m) = nn (max m (cnt w (gV D S lk) b (gV D S lk i))) := by
        have e3 : (nn m ≤ nn (cnt w (gV D S lk) b (gV D S lk i))) = (m ≤ cnt w (gV D S lk) b (gV D S lk i)) := nn_le (by omega) (by omega)
        by_cases z : m ≤ cnt w (gV D S lk) b (gV D S lk i)
        · rw [if_pos (by rw [e3]; exact z), Nat.max_eq_right (by omega)]
        · rw [if_neg (by rw [e3]; exact z), Nat.max_eq_left (by omega)]
      rw [if_neg (by decide), e2, e, ih (i + 1) n _ (by omega) (by omega) (by omega)]
theorem T_ma {S : Nat → Nat → Int32} {w lk : Nat} (hN : 20000 ≤ N) (h : Wk A X hb M D b l s t u) (hg : GA D S M (fun lk' k => lk' < l ∧ k < b)) (hv : ∀ k, k < b → gV D S lk k ≤ 99) (hw : w < 256) (hlk : lk < l) : T_mostAlike N M (nn w) (nn lk) = some (nn (fo (mcF w (gV D S lk)) b 0 0)) := by
  have h8 := h.2.2.1.1.1
  unfold T_mostAlike
  rw [show (0 : Int32) = nn 0 from rfl, ma_5 hN h hg hv hw hlk b 0 N 0 (by omega) (by omega) (by omega), mc_mt]
/-- which leek so far: both sides -/
def lkR (its leC leT : Int32) : Prop := (its = -1 ∧ leC = nn 100000000 ∧ leT = nn 1000000) ∨ ∃ q m, q < 4 ∧ m ≤ 8 ∧ its = nn q ∧ leC = nn m ∧ leT = nn m
theorem lk_31 (hN : 20000 ≤ N) {x : Int32 → Int32 → Int32 → Hp → Option (Int32 × Hp)} {y : Int32 → Int32 → Int32 → TM → Option (Int32 × TM)} {a1 : Int32} {w : Nat} (hw : w < 256) (hw0 : w ≠ 0) (hg : GA D (fT M) M (fun lk' k => lk' < l ∧ k < b)) : ∀ (r i n n' : Nat) (its leC leT : Int32) (X : XT) (hb : Hp), Wk A X hb M D b l s t u → i + r = l → r < n → r < n' → lkR its leC leT → ∃ its' leC' leT' X' hb', C_look_L31 N x n (A.1 0) a1 (nn w) leC its (nn i) (ovC A X hb) = x a1 leC' its' (ovC A X' hb') ∧ T_look_L25 N y n' a1 (nn w) its leT (nn i) M = y a1 its' leT' M ∧ lkR its' leC' leT' ∧ Wk A X' hb' M D b l s t u ∧ coC X' = coC X ∧ X'.2.2 = X.2.2 ∧ Td hb hb' := by
  intro r
  induction r with
  | zero =>
    intro i n n' its leC leT X hb h hi hn hn' hR
    obtain ⟨n, rfl⟩ : ∃ m, n = m + 1 := ⟨n - 1, by omega⟩
    obtain ⟨n', rfl⟩ : ∃ m, n' = m + 1 := ⟨n' - 1, by omega⟩
    have h4 := h.2.2.1.1.2.1
    refine ⟨its, leC, leT, X, hb, ?_, ?_, hR, h, rfl, rfl, Td_refl hb⟩
    · rw [C_look_L31, C_nLk, h.2.1.at (by omega), h.2.2.1.nl, Option.bind_some, if_pos (by rw [nn_le (by omega) (by omega)]; omega)]
    · rw [T_look_L25, T_lM, h.2.2.1.nl, Option.bind_some, if_pos (by rw [nn_le (by omega) (by omega)]; omega)]
  | succ r ih =>
    intro i n n' its leC leT X hb h hi hn hn' hR
    obtain ⟨n, rfl⟩ : ∃ m, n = m + 1 := ⟨n - 1, by omega⟩
    obtain ⟨n', rfl⟩ : ∃ m, n' = m + 1 := ⟨n' - 1, by omega⟩
    have h4 := h.2.2.1.1.2.1
    have h8 := h.2.2.1.1.1
    obtain ⟨X1, hb1, c1, c2, c3, c4, c5⟩ := C_ma hN h hw (lk := i) (by omega)
    have hv : ∀ k, k < b → gV D (fT M) i k ≤ 99 := by
      intro k hk
      obtain ⟨_, _, _, _, _, _, _, _, _, z⟩ := sim_gv hN h (lk := i) (bb := k) (by omega) (by omega)
      exact z
    have t1 := T_ma (w := w) hN h hg hv hw (by omega)
    have hm8 := mc_8 w (gV D (fT M) i) (B := b) h8
    have hlt : ∀ q m, q ≤ 100000000 → m ≤ 8 → ((nn m < nn q) = (m < q)) := fun q m h1 h2 => nn_lt (by omega) (by omega)
    obtain ⟨its', leC', leT', hR', hdC, hdT⟩ : ∃ its' leC' leT', lkR its' leC' leT' ∧ (∀ α (f : Int32 → Int32 → α), (if nn (fo (mcF w (gV D (fT M) i)) b 0 0) < leC then f (nn (fo (mcF w (gV D (fT M) i)) b 0 0)) (nn i) else f leC its) = f leC' its') ∧ (∀ α (f : Int32 → Int32 → α), (if nn (fo (mcF w (gV D (fT M) i)) b 0 0) < leT then f (nn i) (nn (fo (mcF w (gV D (fT M) i)) b 0 0)) else f its leT) = f its' leT') := by
      rcases hR with ⟨z1, z2, z3⟩ | ⟨q, m, q1, m1, z1, z2, z3⟩
      · refine ⟨nn i, nn (fo (mcF w (gV D (fT M) i)) b 0 0), nn (fo (mcF w (gV D (fT M) i)) b 0 0), Or.inr ⟨i, _, by omega, hm8, rfl, rfl, rfl⟩, fun α f => ?_, fun α f => ?_⟩
        · rw [z2, if_pos (by rw [hlt _ _ (by omega) hm8]; omega)]
        · rw [z3, if_pos (by rw [hlt _ _ (by omega) hm8]; omega)]
      · by_cases hz : fo (mcF w (gV D (fT M) i)) b 0 0 < m
        · refine ⟨nn i, nn (fo (mcF w (gV D (fT M) i)) b 0 0), nn (fo (mcF w (gV D (fT M) i)) b 0 0), Or.inr ⟨i, _, by omega, hm8, rfl, rfl, rfl⟩, fun α f => ?_, fun α f => ?_⟩
          · rw [z2, if_pos (by rw [hlt _ _ (by omega) hm8]; exact hz)]
          · rw [z3, if_pos (by rw [hlt _ _ (by omega) hm8]; exact hz)]
        · refine ⟨its, leC, leT, Or.inr ⟨q, m, q1, m1, z1, z2, z3⟩, fun α f => ?_, fun α f => ?_⟩
          · rw [z2, if_neg (by rw [hlt _ _ (by omega) hm8]; exact hz)]
          · rw [z3, if_neg (by rw [hlt _ _ (by omega) hm8]; exact hz)]
    obtain ⟨i2, l2, l3, X2, hb2, e1, e2, e3, e4, e5, e6, e7⟩ := ih (i + 1) n n' its' leC' leT' X1 hb1 c2 (by omega) (by omega) (by omega) hR'
    refine ⟨i2, l2, l3, X2, hb2, ?_, ?_, e3, e4, by rw [e5, c3], by rw [e6, c4], Td_trans c5 e7⟩
    · rw [C_look_L31, C_nLk, h.2.1.at (by omega), h.2.2.1.nl, Option.bind_some, if_neg (by rw [nn_le (by omega) (by omega)]; omega), c1, bd2_some]
      unfold C_look_J65
      rw [show (1 : Int32) = nn 1 from rfl, nn_add]
      exact (hdC _ (fun p q => C_look_L31 N x n (A.1 0) a1 (nn w) p q (nn (i + 1)) (ovC A X1 hb1))).trans e1
    · rw [T_look_L25, T_lM, h.2.2.1.nl, Option.bind_some, if_neg (by rw [nn_le (by omega) (by omega)]; omega), if_neg (by rw [nn_z (by omega)]; exact hw0), t1, Option.bind_some]
      unfold T_look_J64
      rw [show (1 : Int32) = nn 1 from rfl, nn_add]
      exact (hdT _ (fun p q => T_look_L25 N y n' a1 (nn w) p q (nn (i + 1)) M)).trans e2
theorem op_look (hN : 20000 ≤ N) (h : Wk A X hb M D b l s t u) (a1 : Int32) : OpL A X hb M t (C_look N (A.1 0) a1) (T_look N a1) := by
  have h8 := h.2.2.1.1.1
  have h4 := h.2.2.1.1.2.1
  obtain ⟨X1, hb1, M1, c1, t1, hW, d3, d4, d5, d6, d7⟩ := sim_cb hN h
  have hc : coC X1 = coC X := q28_co d3
  have hw2 := cb_lt (D := D) (S := fT M) (s := s) (b := b)
  have hw : fo (cbF D (fT M) s) b 0 0 < 256 := Nat.lt_of_lt_of_le hw2 (pw_le h8)
  have hin : C_in a1.toInt64 (0 : Int64) (1 : Int64) = some (bz (wi a1 (nn 0) (nn 1))) := by
    rw [show (0 : Int64) = (nn 0).toInt64 by decide, show (1 : Int64) = (nn 1).toInt64 by decide, C_in_w]
  have hin' : T_lies a1 (0 : Int32) (1 : Int32) = some (bz (wi a1 (nn 0) (nn 1))) := T_lies_w _ _ _
  cases hwi : wi a1 (nn 0) (nn 1)
  · refine ⟨-1, A, X1, hb1, M, ?_, ?_, by rw [hc]; exact h.2.1, ⟨b, l, s, u, h.2.2.1⟩, d4, d5, samA_refl A, fun _ _ => rfl⟩
    · unfold C_look C_look_b
      rw [og_0, c1, bd2_some, hin, hwi, Option.bind_some, if_pos (by rfl)]
    · unfold T_look
      rw [hin', hwi, Option.bind_some, if_pos (by rfl)]
  by_cases hz : fo (cbF D (fT M) s) b 0 0 = 0
  · refine ⟨-1, A, X1, hb1, M1, ?_, ?_, hW.2.1, ⟨b, l, s, u, hW.2.2.1⟩, d4, d5, samA_refl A, fun g _ => by rw [d6]⟩
    · unfold C_look C_look_b
      rw [og_0, c1, bd2_some, hin, hwi, Option.bind_some, if_neg (by decide), hz, if_pos (by rfl)]
    · unfold T_look
      rw [hin', hwi, Option.bind_some, if_neg (by decide), t1, bd2_some, hz]
      obtain ⟨m, rfl⟩ : ∃ m, N = m + 1 := ⟨N - 1, by omega⟩
      rw [T_look_L25, T_lM, hW.2.2.1.nl, Option.bind_some]
      have hJ : T_look_J70 (m + 1) a1 (-1) 1000000 M1 = some (-1, M1) := by
        unfold T_look_J70
        rw [if_pos rfl]
      split
      · exact hJ
      · rw [if_pos (by rfl)]
        exact hJ
  · obtain ⟨its', leC', leT', X2, hb2, e1, e2, e3, e4, e5, e6, e7⟩ := lk_31 (x := fun v46 v47 v48 h49 => if v48 = (-1 : Int32) then some (v48, h49) else if v46 = 0 then some (v48, h49) else some (v47, h49)) (y := fun v23 v24 v25 M26 => T_look_J70 N v23 v24 v25 M26) (a1 := a1) hN hw hz (by rw [d6]; exact d7) l 0 N N (-1) (nn 100000000) (nn 1000000) X1 hb1 hW (by omega) (by omega) (by omega) (Or.inl ⟨rfl, rfl, rfl⟩)
    have hval : ∃ v, (∀ h49 : Hp, (if its' = (-1 : Int32) then some (its', h49) else if a1 = 0 then some (its', h49) else some (leC', h49)) = some (v, h49)) ∧ T_look_J70 N a1 its' leT' M1 = some (v, M1) := by
      unfold T_look_J70
      rcases e3 with ⟨z1, z2, z3⟩ | ⟨q, m, q1, m1, z1, z2, z3⟩
      · rw [z1]
        exact ⟨-1, fun _ => by rw [if_pos rfl], by rw [if_pos rfl]⟩
      · have hne : ¬ its' = (-1 : Int32) := by rw [z1]; exact nn_m1 (by omega)
        by_cases ha : a1 = 0
        · exact ⟨its', fun _ => by rw [if_neg hne, if_pos ha], by rw [if_neg hne, if_pos ha]⟩
        · exact ⟨nn m, fun _ => by rw [if_neg hne, if_neg ha, z2], by rw [if_neg hne, if_neg ha, z3]⟩
    obtain ⟨v, v1, v2⟩ := hval
    refine ⟨v, A, X2, hb2, M1, ?_, ?_, e4.2.1, ⟨b, l, s, u, e4.2.2.1⟩, by rw [e6, d4], Td_trans d5 e7, samA_refl A, fun g _ => by rw [d6]⟩
    · unfold C_look C_look_b
      rw [og_0, c1, bd2_some, hin, hwi, Option.bind_some, if_neg (by decide), if_neg (by rw [nn_z (by omega)]; exact hz)]
      exact e1.trans (v1 _)
    · unfold T_look
      rw [hin', hwi, Option.bind_some, if_neg (by decide), t1, bd2_some]
      exact e2.trans v2
end LK
