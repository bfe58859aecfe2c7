/-! PLAIN LAW: closures: all that is needed, all that can be read -/
set_option maxRecDepth 100000
/-- one round, asked of what there was (T), of what there is by then (C) -/
def rT (P : Nat → Nat → Bool) (V : Nat → Nat) (b : Nat) (w : Nat) : Nat := fo (fun k a => a ||| (if P w k = true then V k else 0)) b 0 w
def rC (P : Nat → Nat → Bool) (V : Nat → Nat) (b : Nat) (w : Nat) : Nat := fo (fun k a => a ||| (if P a k = true then V k else 0)) b 0 w
def clo (P : Nat → Nat → Bool) (V : Nat → Nat) (b y : Nat) : Prop := ∀ k, k < b → P y k = true → su (V k) y
section CL
variable {P : Nat → Nat → Bool} {V : Nat → Nat} {b : Nat}
theorem or_su {x y : Nat} (h : su y x) : x ||| y = x := su_anti (su_or (su_refl x) h) (su_or_l x y)
theorem rT_up (w : Nat) : ∀ d i a, su a (fo (fun k a => a ||| (if P w k = true then V k else 0)) d i a) := by
  intro d
  induction d with
  | zero => intro i a; exact su_refl a
  | succ d ih => intro i a; rw [fo_s]; exact su_trans (su_or_l _ _) (ih (i + 1) _)
theorem rC_up : ∀ d i a, su a (fo (fun k a => a ||| (if P a k = true then V k else 0)) d i a) := by
  intro d
  induction d with
  | zero => intro i a; exact su_refl a
  | succ d ih => intro i a; rw [fo_s]; exact su_trans (su_or_l _ _) (ih (i + 1) _)
theorem rT_lt {w a : Nat} (hV : ∀ k, k < b → V k < 2 ^ b) : ∀ d i a, i + d ≤ b → a < 2 ^ b → fo (fun k a => a ||| (if P w k = true then V k else 0)) d i a < 2 ^ b := by
  intro d
  induction d with
  | zero => intro i a _ h; exact h
  | succ d ih =>
    intro i a hi h
    rw [fo_s]
    refine ih (i + 1) _ (by omega) (Nat.or_lt_two_pow h ?_)
    split
    · exact hV i (by omega)
    · exact Nat.two_pow_pos b
theorem rC_lt (hV : ∀ k, k < b → V k < 2 ^ b) : ∀ d i a, i + d ≤ b → a < 2 ^ b → fo (fun k a => a ||| (if P a k = true then V k else 0)) d i a < 2 ^ b := by
  intro d
  induction d with
  | zero => intro i a _ h; exact h
  | succ d ih =>
    intro i a hi h
    rw [fo_s]
    refine ih (i + 1) _ (by omega) (Nat.or_lt_two_pow h ?_)
    split
    · exact hV i (by omega)
    · exact Nat.two_pow_pos b
/-- what a round gives lies in all that is closed -/
theorem rT_in {y : Nat} (hm : ∀ a k, k < b → su a y → P a k = true → su (V k) y) {w : Nat} (hw : su w y) : ∀ d i a, i + d ≤ b → su a y → su (fo (fun k a => a ||| (if P w k = true then V k else 0)) d i a) y := by
  intro d
  induction d with
  | zero => intro i a _ h; exact h
  | succ d ih =>
    intro i a hi h
    rw [fo_s]
    refine ih (i + 1) _ (by omega) (su_or h ?_)
    split
    · next z => exact hm w i (by omega) hw z
    · exact su_0 y
theorem rC_in {y : Nat} (hm : ∀ a k, k < b → su a y → P a k = true → su (V k) y) : ∀ d i a, i + d ≤ b → su a y → su (fo (fun k a => a ||| (if P a k = true then V k else 0)) d i a) y := by
  intro d
  induction d with
  | zero => intro i a _ h; exact h
  | succ d ih =>
    intro i a hi h
    rw [fo_s]
    refine ih (i + 1) _ (by omega) (su_or h ?_)
    split
    · next z => exact hm a i (by omega) h z
    · exact su_0 y
/-- a round that adds nothing: closed -/
theorem rT_clo {y : Nat} (h : rT P V b y = y) : clo P V b y := by
  have key : ∀ d i a, su (fo (fun k a => a ||| (if P y k = true then V k else 0)) d i a) y → ∀ k, i ≤ k → k < i + d → P y k = true → su (V k) y := by
    intro d
    induction d with
    | zero => intro i a _ k h1 h2; omega
    | succ d ih =>
      intro i a hs k h1 h2 hp
      rw [fo_s] at hs
      by_cases z : k = i
      · subst z
        refine su_trans ?_ (su_trans (rT_up (P := P) (V := V) y d (k + 1) _) hs)
        rw [if_pos hp]
        exact su_or_r _ _
      · exact ih (i + 1) _ hs k (by omega) (by omega) hp
  intro k hk hp
  refine key b 0 y ?_ k (by omega) (by omega) hp
  show su (rT P V b y) y
  rw [h]
  exact su_refl y
theorem rC_clo {y : Nat} (h : rC P V b y = y) : clo P V b y := by
  have key : ∀ d i, fo (fun k a => a ||| (if P a k = true then V k else 0)) d i y = y → ∀ k, i ≤ k → k < i + d → P y k = true → su (V k) y := by
    intro d
    induction d with
    | zero => intro i _ k h1 h2; omega
    | succ d ih =>
      intro i hs k h1 h2 hp
      rw [fo_s] at hs
      have e : y ||| (if P y i = true then V i else 0) = y := by
        apply su_anti
        · have := rC_up (P := P) (V := V) d (i + 1) (y ||| (if P y i = true then V i else 0))
          rw [hs] at this
          exact this
        · exact su_or_l _ _
      by_cases z : k = i
      · subst z
        rw [if_pos hp] at e
        rw [← e]
        exact su_or_r _ _
      · rw [e] at hs
        exact ih (i + 1) hs k (by omega) (by omega) hp
  exact fun k hk hp => key b 0 h k (by omega) (by omega) hp
/-- both ways lead to the same -/
theorem clo_eq (hV : ∀ k, k < b → V k < 2 ^ b) (hm : ∀ y, clo P V b y → ∀ a k, k < b → su a y → P a k = true → su (V k) y) {x : Nat} (hx : x < 2 ^ b) : itr (rC P V b) (2 ^ b) x = itr (rT P V b) (2 ^ b) x := by
  have h1 : ∀ a, a < 2 ^ b → su a (rC P V b a) ∧ rC P V b a < 2 ^ b := fun a ha => ⟨rC_up b 0 a, rC_lt hV b 0 a (by omega) ha⟩
  have h2 : ∀ a, a < 2 ^ b → su a (rT P V b a) ∧ rT P V b a < 2 ^ b := fun a ha => ⟨rT_up a b 0 a, rT_lt (a := a) hV b 0 a (by omega) ha⟩
  obtain ⟨c1, c2, c3⟩ := itr_spec h1 (2 ^ b) x hx (by omega)
  obtain ⟨t1, t2, t3⟩ := itr_spec h2 (2 ^ b) x hx (by omega)
  have cc := rC_clo c1
  have ct := rT_clo t1
  apply su_anti
  · exact itr_in (fun a ha => rC_in (hm _ ct) b 0 a (by omega) ha) _ _ t3
  · exact itr_in (fun a ha => rT_in (hm _ cc) ha b 0 a (by omega) ha) _ _ c3
end CL
/-- a loop that goes on till nothing is new -/
theorem loop_itr {L : Nat → Int32 → Int32 → Option Int32} {x : Int32 → Option Int32} {step : Nat → Nat} {B : Nat} (hB : B ≤ 256) (hs : ∀ a, a < B → su a (step a) ∧ step a < B) (h1 : ∀ m a, a < B → L (m + 1) (nn a) (nn a) = x (nn a)) (h2 : ∀ m a w, a < B → w ≠ nn a → L (m + 1) (nn a) w = L m (nn (step a)) (nn a)) : ∀ n a m w, a < B → B ≤ n + a → n + 2 ≤ m → w ≠ nn a → L m (nn a) w = x (nn (itr step n a)) := by
  intro n
  induction n with
  | zero => intro a m w h3 h4; omega
  | succ n ih =>
    intro a m w h3 h4 h5 h6
    obtain ⟨m, rfl⟩ : ∃ k, m = k + 2 := ⟨m - 2, by omega⟩
    obtain ⟨s1, s2⟩ := hs a h3
    rw [h2 (m + 1) a w h3 h6]
    unfold itr
    by_cases z : step a = a
    · rw [if_pos z, z, h1 m a h3]
    · rw [if_neg z]
      have hle := su_le s1
      refine ih (step a) (m + 1) (nn a) s2 (by omega) (by omega) ?_
      intro e
      rw [nn_inj (by omega) (by omega)] at e
      exact z e.symm
/-- what a book needs, as a number -/
def nd (S : Nat → Nat → Int32) (k : Nat) : Nat := (S 0 (22 + k)).toNatClampNeg
theorem nd_s {b l s t u : Nat} {S : Nat → Nat → Int32} (h : SOb b l s t u S) {k : Nat} (hk : k < b) : S 0 (22 + k) = nn (nd S k) ∧ nd S k < 2 ^ b := by
  obtain ⟨n, h1, h2⟩ := h.need hk
  have := pw_le h.1.1
  unfold nd
  rw [h2, nn_cl (by omega)]
  exact ⟨rfl, h1⟩
def kn (S : Nat → Nat → Int32) : Nat := (S 0 0).toNatClampNeg
theorem kn_s {b l s t u : Nat} {S : Nat → Nat → Int32} (h : SOb b l s t u S) : S 0 0 = nn (kn S) ∧ kn S < 2 ^ b := by
  obtain ⟨n, h1, h2⟩ := h.known
  have := pw_le h.1.1
  unfold kn
  rw [h2, nn_cl (by omega)]
  exact ⟨rfl, h1⟩
def pIn (w k : Nat) : Bool := w.testBit k
def pOp (S : Nat → Nat → Int32) (w k : Nat) : Bool := opN (nd S k) w k
/-- all that a book needs; all that is read at last -/
def allN (S : Nat → Nat → Int32) (b k : Nat) : Nat := itr (rT pIn (nd S) b) (2 ^ b) (nd S k)
def atL (S : Nat → Nat → Int32) (b : Nat) : Nat := itr (rT (pOp S) (fun k => 2 ^ k) b) (2 ^ b) (kn S)
section CN
variable {A : AT} {X : XT} {hb : Hp} {M : TM} {b l s t u N : Nat}
theorem an_T (hN : 20000 ≤ N) (hS : SOb b l s t u (fT M)) {k : Nat} (hk : k < b) : T_allNeeds N M (nn k) = some (nn (allN (fT M) b k)) := by
  have h8 := hS.1.1
  have h2b := pw_le h8
  have hin : ∀ (x22 : Int32 → Int32 → Option Int32) (w : Nat), w < 256 → ∀ (r i n a : Nat), i + r = b → r < n → T_allNeeds_L22 N M x22 n (nn a) (nn w) (nn i) = x22 (nn (fo (fun k a => a ||| (if pIn w k = true then nd (fT M) k else 0)) r i a)) (nn w) := by
    intro x22 w hw r
    induction r with
    | zero =>
      intro i n a hi hn
      obtain ⟨n, rfl⟩ : ∃ m, n = m + 1 := ⟨n - 1, by omega⟩
      rw [T_allNeeds_L22, T_bM, hS.nb, Option.bind_some, if_pos (by rw [nn_le (by omega) (by omega)]; omega)]
      rfl
    | succ r ih =>
      intro i n a hi hn
      obtain ⟨n, rfl⟩ : ∃ m, n = m + 1 := ⟨n - 1, by omega⟩
      rw [T_allNeeds_L22, T_bM, hS.nb, Option.bind_some, if_neg (by rw [nn_le (by omega) (by omega)]; omega), T_isI, Option.bind_some, bt_nn hw (by omega), show (22 : Int32) + nn i = nn (22 + i) from nn_add 22 i, tra_nn (by omega) (by omega), Option.bind_some, fT_0 (by omega), (nd_s hS (show i < b by omega)).1, fo_s]
      unfold T_allNeeds_J55
      rw [show (1 : Int32) = nn 1 from rfl, show (0 : Int32) = nn 0 from rfl, or_nn, or_nn, nn_add, ih (i + 1) n _ (by omega) (by omega), ih (i + 1) n _ (by omega) (by omega)]
      unfold pIn
      cases w.testBit i
      · rw [if_pos (by rfl), if_neg (by decide)]
      · rw [if_neg (by decide), if_pos rfl]
  have hV : ∀ k, k < b → nd (fT M) k < 2 ^ b := fun k hk => (nd_s hS hk).2
  have hs : ∀ a, a < 2 ^ b → su a (rT pIn (nd (fT M)) b a) ∧ rT pIn (nd (fT M)) b a < 2 ^ b := fun a ha => ⟨rT_up a b 0 a, rT_lt (a := a) hV b 0 a (by omega) ha⟩
  unfold T_allNeeds
  rw [show (22 : Int32) + nn k = nn (22 + k) from nn_add 22 k, tra_nn (by omega) (by omega), Option.bind_some, fT_0 (by omega), (nd_s hS hk).1]
  have hlt := (nd_s hS hk).2
  refine loop_itr (L := fun n a w => T_allNeeds_L12 N M (fun v21 => some v21) n a w) (x := fun v21 => some v21) (step := rT pIn (nd (fT M)) b) (B := 2 ^ b) h2b hs ?_ ?_ (2 ^ b) (nd (fT M) k) N (-1) hlt (by omega) (by omega) (fun z => nn_m1 (by omega) z.symm)
  · intro m a ha
    show T_allNeeds_L12 N M (fun v21 => some v21) (m + 1) (nn a) (nn a) = _
    rw [T_allNeeds_L12, if_pos rfl]
  · intro m a w ha hw
    show T_allNeeds_L12 N M (fun v21 => some v21) (m + 1) (nn a) w = _
    rw [T_allNeeds_L12, if_neg (fun z => hw z.symm), show (0 : Int32) = nn 0 from rfl, hin _ a (by omega) b 0 N a (by omega) (by omega)]
    rfl
theorem an_C (hN : 20000 ≤ N) (hS : SOb b l s t u (coC X)) {k : Nat} (hk : k < b) : C_allNeeds N (ovC A X hb) (A.1 0) (nn k) = some (nn (allN (coC X) b k)) := by
  have h8 := hS.1.1
  have h2b := pw_le h8
  have hV : ∀ k, k < b → nd (coC X) k < 2 ^ b := fun k hk => (nd_s hS hk).2
  have hin : ∀ (x22 : Nat → Int32 → Int32 → Option Int32) (w : Nat), ∀ (r i n a : Nat), i + r = b → r < n → a < 2 ^ b → C_allNeeds_L22 N (ovC A X hb) x22 n (A.1 0) (nn a) (nn w) (nn i) = x22 (A.1 0) (nn (fo (fun k a => a ||| (if pIn a k = true then nd (coC X) k else 0)) r i a)) (nn w) := by
    intro x22 w r
    induction r with
    | zero =>
      intro i n a hi hn ha
      obtain ⟨n, rfl⟩ : ∃ m, n = m + 1 := ⟨n - 1, by omega⟩
      rw [C_allNeeds_L22, C_nBk, hS.nb, Option.bind_some, if_pos (by rw [nn_le (by omega) (by omega)]; omega)]
      rfl
    | succ r ih =>
      intro i n a hi hn ha
      obtain ⟨n, rfl⟩ : ∃ m, n = m + 1 := ⟨n - 1, by omega⟩
      have ho : a ||| nd (coC X) i < 2 ^ b := Nat.or_lt_two_pow ha (hV i (by omega))
      rw [C_allNeeds_L22, C_nBk, hS.nb, Option.bind_some, if_neg (by rw [nn_le (by omega) (by omega)]; omega), C_hs, Option.bind_some, bt_nn (by omega) (by omega), og_0_0, Option.bind_some, og_1_3, Option.bind_some, oa_4 (by omega), Option.bind_some, cr_need (by omega), (nd_s hS (show i < b by omega)).1, fo_s]
      unfold C_allNeeds_J55
      rw [show (1 : Int32) = nn 1 from rfl, show (0 : Int32) = nn 0 from rfl, or_nn, or_nn, nn_add, Nat.or_zero, ih (i + 1) n _ (by omega) (by omega) ha, ih (i + 1) n _ (by omega) (by omega) ho]
      unfold pIn
      cases a.testBit i
      · rw [if_pos (by rfl), if_neg (by decide), Nat.or_zero]
      · rw [if_neg (by decide), if_pos rfl]
  have hs : ∀ a, a < 2 ^ b → su a (rC pIn (nd (coC X)) b a) ∧ rC pIn (nd (coC X)) b a < 2 ^ b := fun a ha => ⟨rC_up b 0 a, rC_lt hV b 0 a (by omega) ha⟩
  have hlt := (nd_s hS hk).2
  unfold allN
  rw [← clo_eq (P := pIn) hV (fun y hy a k hk ha hp => hy k hk (ha k hp)) hlt]
  unfold C_allNeeds C_allNeeds_b
  rw [og_0, og_0_0, Option.bind_some, og_1_3, Option.bind_some, oa_4 (by omega), Option.bind_some, cr_need (by omega), (nd_s hS hk).1]
  refine loop_itr (L := fun n a w => C_allNeeds_L12 N (ovC A X hb) (fun v21 => some v21) n (A.1 0) a w) (x := fun v21 => some v21) (step := rC pIn (nd (coC X)) b) (B := 2 ^ b) h2b hs ?_ ?_ (2 ^ b) (nd (coC X) k) N (-1) hlt (by omega) (by omega) (fun z => nn_m1 (by omega) z.symm)
  · intro m a ha
    show C_allNeeds_L12 N (ovC A X hb) (fun v21 => some v21) (m + 1) (A.1 0) (nn a) (nn a) = _
    rw [C_allNeeds_L12, if_pos rfl]
  · intro m a w ha hw
    show C_allNeeds_L12 N (ovC A X hb) (fun v21 => some v21) (m + 1) (A.1 0) (nn a) w = _
    rw [C_allNeeds_L12, if_neg hw, show (0 : Int32) = nn 0 from rfl, hin _ a b 0 N a (by omega) (by omega) ha]
    rfl
theorem SOb_c (hM : Mt (coC X) (fT M)) (hS : SOb b l s t u (fT M)) : SOb b l s t u (coC X) := by
  refine ⟨hS.1, fun g i => ?_⟩
  by_cases hg : g < 6
  · rw [hM.at hg]
    exact hS.2 g i
  · unfold Bd
    rw [if_neg (by omega), if_neg (by omega), if_neg (by omega), if_neg (by omega), if_neg (by omega)]
    trivial
theorem allN_c (hM : Mt (coC X) (fT M)) (b k : Nat) : allN (coC X) b k = allN (fT M) b k := by
  have : nd (coC X) = nd (fT M) := by
    funext j
    unfold nd
    rw [hM.at (by omega)]
  unfold allN
  rw [this]
theorem op_needs (hN : 20000 ≤ N) (hM : Mt (coC X) (fT M)) (hS : SOb b l s t u (fT M)) (a : Int32) : ∃ v, C_needs N (ovC A X hb) (A.1 0) a = some v ∧ T_needs N M a = some v := by
  have h48' : coC X 0 48 = nn b := by rw [hM.at (by omega), hS.nb]
  cases hb1 : wi a (nn 0) (nn b - nn 1)
  · refine ⟨-1, ?_, ?_⟩
    · unfold C_needs C_needs_b
      rw [og_0, C_isB, h48', hb1, Option.bind_some, if_pos (by rfl)]
    · unfold T_needs
      rw [T_isB, hS.nb, hb1, Option.bind_some, if_pos (by rfl)]
  · obtain ⟨k, hk, rfl⟩ := isB_k hS hb1
    refine ⟨nn (allN (fT M) b k), ?_, ?_⟩
    · unfold C_needs C_needs_b
      rw [og_0, C_isB, h48', hb1, Option.bind_some, if_neg (by decide), an_C hN (SOb_c hM hS) hk, allN_c hM]
      rfl
    · unfold T_needs
      rw [T_isB, hS.nb, hb1, Option.bind_some, if_neg (by decide), an_T hN hS hk]
      rfl
end CN
