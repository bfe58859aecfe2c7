/-! PLAIN LAW: clauses, and what the Model tells by a law -/
set_option maxRecDepth 100000
section CL
variable (cd : Nat → Int32) (vl : Nat → Int32)
def pIf (F k lv hd : Nat) (sm : Option SDn) : PR CDn := if cd k = 4 then (match pTest false cd vl F 8 (k + 1) lv with
  | .inl e => .inl e
  | .inr (k', lv', t) => .inr (k', lv', (hd, (sm, some t)))) else .inr (k, lv, (hd, (sm, none)))
def pClause (F k lv : Nat) : PR CDn :=
  if cd k = 1 ∨ cd k = 2 then (match pSum false cd vl F 8 (k + 1) lv with
  | .inl e => .inl e
  | .inr (k', lv', f) => pIf cd vl F k' lv' (if cd k = 1 then 0 else 1) (some f))
  else if cd k = 3 then pIf cd vl F (k + 1) lv 2 none
  else .inl k
def pMore {α : Type} (item : Nat → Nat → PR α) : Nat → Nat → Nat → List α → PR (List α)
  | 0, k, lv, l => if cd k = 159 then .inl (k + 1) else .inr (k, lv, l)
  | n + 1, k, lv, l => if cd k = 159 then (match item (k + 1) lv with
    | .inl e => .inl e
    | .inr (k', lv', c) => pMore item n k' lv' (l ++ [c])) else .inr (k, lv, l)
def pAll {α : Type} (item : Nat → Nat → PR α) (nt : Nat) : Nat ⊕ List α := match item 0 0 with
  | .inl e => .inl e
  | .inr (k, lv, c) => match pMore cd item 11 k lv [c] with
    | .inl e => .inl e
    | .inr (k2, _, l) => if k2 = nt then .inr l else .inl k2
end CL
/-- what a clause tells, if it holds -/
def clT (o : Option TDn) (e : EV) : Bool := match o with
  | none => true
  | some t => match t e with
    | some v => v
    | none => false
def clV (d : Int64) (c : CDn) (e : EV) : Option Int64 := if clT c.2.2 e = true then (match c.2.1 with
  | none => some d
  | some f => f e) else none
def clamp (top v : Int64) : Int64 := if v < 0 then 0 else if top < v then top else v
def tlF (d : Int64) (hd : Nat) (top : Int64) (e : EV) (its : Int64) (c : CDn) : Int64 := if c.1 = hd then (match clV d c e with
  | some v => clamp top v
  | none => its) else its
/-- heads are 0, 1 with a sum, 2 without -/
def okC (c : CDn) : Prop := c.1 ≤ 2 ∧ (c.1 = 2 ↔ c.2.1 = none)
section TT
variable {N : Nat} {M : TM} {cd vl : Nat → Int32} {base nt : Nat} {e : EV}
theorem tt_if (h : TE N M false cd vl base nt e) (he : EB e) (hvn : VN vl) {F : Nat} (hF : F ≤ N) (hFn : nt < F) {k lv hd k' lv' : Nat} {sm : Option SDn} {c : CDn} (hc : pIf cd vl F k lv hd sm = .inr (k', lv', c)) (hk : k ≤ nt) : k' ≤ nt ∧ k ≤ k' ∧ c.1 = hd ∧ c.2.1 = sm ∧ ∀ (c61 : Int32 → Int32 → Int64 → TM → Option (Int32 × TM)) (hh top : Int32) (told sum : Int64) (is : Int32) (b sb : Bool), (is = hh ↔ hd = (hh - 1).toNatClampNeg) → ∃ b', T_tells_J112 N c61 hh top told is sum (evS M (base + k) sb) = c61 hh top (if is = hh ∧ clT c.2.2 e = true ∧ sb = false then clamp top.toInt64 sum else told) (evS M (base + (k' + 1)) b') := by
  have hend : ∀ (c61 : Int32 → Int32 → Int64 → TM → Option (Int32 × TM)) (hh top : Int32) (told sum : Int64) (is : Int32) (b : Bool) (sb v : Bool) (k' : Nat), T_tells_J146 N c61 hh top told is sum (bz sb) (bz v) (evS M (base + k') b) = c61 hh top (if is = hh ∧ (v = true ∧ b = false) ∧ sb = false then clamp top.toInt64 sum else told) (evS M (base + (k' + 1)) b) := by
    intro c61 hh top told sum is b sb v k'
    have h199 : ∀ x, T_tells_J199 N c61 hh top x (evS M (base + k') b) = c61 hh top x (evS M (base + (k' + 1)) b) := by
      intro x
      unfold T_tells_J199
      rw [evS_g, show (1 : Int32) = nn 1 from rfl, nn_add, evS_22, Option.bind_some]
      rfl
    unfold T_tells_J146 T_tells_J197
    by_cases hi : is = hh
    · rw [if_pos hi]
      cases v
      · rw [if_pos (by rfl), h199, if_neg (by rintro ⟨-, ⟨z, -⟩, -⟩; cases z)]
      · rw [if_neg (by decide), evS_b]
        cases b
        · rw [if_pos (by rfl)]
          cases sb
          · have hr : (if is = hh ∧ (true = true ∧ false = false) ∧ false = false then clamp top.toInt64 sum else told) = clamp top.toInt64 sum := if_pos ⟨hi, ⟨rfl, rfl⟩, rfl⟩
            rw [if_pos (by rfl), hr]
            simp only [cmp_ge, cmp_le, h199]
            unfold clamp
            by_cases h0 : (0 : Int64) ≤ sum
            · have h0' : ¬ sum < 0 := by rw [Int64.lt_iff_toInt_lt]; rw [Int64.le_iff_toInt_le] at h0; omega
              rw [if_pos h0, if_neg h0']
              by_cases h1 : sum ≤ top.toInt64
              · have h1' : ¬ top.toInt64 < sum := by rw [Int64.lt_iff_toInt_lt]; rw [Int64.le_iff_toInt_le] at h1; omega
                rw [if_pos h1, if_neg h1']
              · have h1' : top.toInt64 < sum := by rw [Int64.lt_iff_toInt_lt]; rw [Int64.le_iff_toInt_le] at h1; omega
                rw [if_neg h1, if_pos h1']
            · have h0' : sum < 0 := by rw [Int64.lt_iff_toInt_lt]; rw [Int64.le_iff_toInt_le] at h0; omega
              rw [if_neg h0, if_pos h0']
          · rw [if_neg (by decide), h199, if_neg (by rintro ⟨-, -, z⟩; cases z)]
        · rw [if_neg (by decide), h199, if_neg (by rintro ⟨-, ⟨-, z⟩, -⟩; cases z)]
    · rw [if_neg hi, h199, if_neg (fun z => hi z.1)]
  unfold pIf at hc
  by_cases h4 : cd k = 4
  · rw [if_pos h4] at hc
    have hk1 : k < nt := te_lt h (by rw [h4]; decide)
    cases hi : pTest false cd vl F 8 (k + 1) lv with
    | inl q => rw [hi] at hc; cases hc
    | inr r =>
      obtain ⟨k1, lv1, t⟩ := r
      rw [hi] at hc
      cases hc
      obtain ⟨p1, p2, p3, p5⟩ := te_test h he hvn hF hFn 8 16 (by omega) (by omega) _ _ _ _ _ hi (by omega)
      refine ⟨p1, by omega, rfl, rfl, fun c61 hh top told sum is b sb hih => ?_⟩
      obtain ⟨v, b', t1, t2⟩ := p5 true false
      have t3 := t2.2.2 rfl rfl
      refine ⟨b', ?_⟩
      unfold T_tells_J112
      rw [show (0 : Int32) = bz false from rfl, tsz_bz, evS_24, Option.bind_some, te_pass h (by omega), bd2_some, decide_eq_true h4, if_neg (by decide), if_pos h4, evS_b]
      have t1' : T_testOf N 16 1 (evS M (base + (k + 1)) false) = some (bz v, evS M (base + k') b') := t1
      rw [t1', bd2_some]
      have hcl : (v = true ∧ b' = false) ↔ clT (some t) e = true := by
        show _ ↔ (match t e with | some v => v | none => false) = true
        cases ht : t e with
        | none =>
          rw [ht] at t3
          rw [t3]
          simp
        | some x =>
          rw [ht] at t3
          rw [t3.1, t3.2]
          simp
      cases v
      · rw [if_pos (by rfl), show bz false = bz false from rfl, hend]
        congr 1
        have : ¬ clT (some t) e = true := fun z => by have := hcl.mpr z; cases this.1
        rw [if_neg (by rintro ⟨-, ⟨z, -⟩, -⟩; cases z), if_neg (fun z => this z.2.1)]
      · rw [if_neg (by decide)]
        unfold T_tells_J141
        rw [show (1 : Int32) = bz true from rfl, hend]
        congr 1
        by_cases hz : is = hh ∧ clT (some t) e = true ∧ sb = false
        · rw [if_pos ⟨hz.1, hcl.mpr hz.2.1, hz.2.2⟩, if_pos hz]
        · rw [if_neg (fun z => hz ⟨z.1, hcl.mp z.2.1, z.2.2⟩), if_neg hz]
  · rw [if_neg h4] at hc
    cases hc
    refine ⟨hk, Nat.le_refl _, rfl, rfl, fun c61 hh top told sum is b sb hih => ⟨false, ?_⟩⟩
    unfold T_tells_J112
    rw [show (0 : Int32) = bz false from rfl, tsz_bz, evS_24, Option.bind_some, te_pass h hk, bd2_some, decide_eq_false h4, if_pos (by rfl), if_neg h4, evS_b]
    unfold T_tells_J141
    rw [show (1 : Int32) = bz true from rfl, hend]
    congr 1
    by_cases hz : is = hh ∧ sb = false
    · rw [if_pos ⟨hz.1, ⟨rfl, rfl⟩, hz.2⟩, if_pos ⟨hz.1, rfl, hz.2⟩]
    · rw [if_neg (fun z => hz ⟨z.1, z.2.2⟩), if_neg (fun z => hz ⟨z.1, z.2.2⟩)]
/-- one clause: the Model's number of its head is one more -/
theorem tt_clause (h : TE N M false cd vl base nt e) (he : EB e) (hvn : VN vl) {F : Nat} (hF : F ≤ N) (hFn : nt < F) {k lv k' lv' : Nat} {c : CDn} (hc : pClause cd vl F k lv = .inr (k', lv', c)) (hk : k ≤ nt) : k < nt ∧ k' ≤ nt ∧ k < k' ∧ okC c ∧ ∀ (x61 : Int64 → TM → Option (Int32 × TM)) (m hd : Nat) (top : Int32) (told : Int64) (M0 : TM), hd ≤ 2 → M0.1 22 = nn (base + k) → tsi M0 24 (bz false) = evS M (base + k) false → ∃ b', T_tells_L61 N x61 (m + 1) (nn (hd + 1)) top told M0 = T_tells_L61 N x61 m (nn (hd + 1)) top (tlF 1 hd top.toInt64 e told c) (evS M (base + (k' + 1)) b') := by
  have hb := h.1
  have hn := h.2.1
  have hk1 : k < nt := by
    apply te_lt h
    intro z
    unfold pClause at hc
    rw [z, if_neg (by decide), if_neg (by decide)] at hc
    cases hc
  have key : ∀ (hd0 k1 lv1 : Nat) (sm : Option SDn), pIf cd vl F k1 lv1 hd0 sm = .inr (k', lv', c) → k < k1 → k1 ≤ nt → hd0 ≤ 2 → cd k = nn (hd0 + 1) → (hd0 = 2 ↔ sm = none) → (∀ (M0 : TM) (rest : Int64 → TM → Option (Int32 × TM)), tsi M0 24 (bz false) = evS M (base + k) false → ∃ s b, (if cd k = (3 : Int32) then rest (1 : Int64) (evS M (base + (k + 1)) false) else bd2 (T_sumOf N 16 (1 : Int32) (evS M (base + (k + 1)) false)) fun v18 M17 => rest v18 M17) = rest s (evS M (base + k1) b) ∧ (match sm with | none => s = 1 ∧ b = false | some f => match f e with | some x => s = x ∧ b = false | none => b = true)) → k' ≤ nt ∧ k < k' ∧ okC c ∧ ∀ (x61 : Int64 → TM → Option (Int32 × TM)) (m hd : Nat) (top : Int32) (told : Int64) (M0 : TM), hd ≤ 2 → M0.1 22 = nn (base + k) → tsi M0 24 (bz false) = evS M (base + k) false → ∃ b', T_tells_L61 N x61 (m + 1) (nn (hd + 1)) top told M0 = T_tells_L61 N x61 m (nn (hd + 1)) top (tlF 1 hd top.toInt64 e told c) (evS M (base + (k' + 1)) b') := by
    intro hd0 k1 lv1 sm hcc hk1' hk1n hd2 hcd hsm hsum
    obtain ⟨i1, i2, i3, i4, i5⟩ := tt_if h he hvn hF hFn hcc hk1n
    refine ⟨i1, by omega, ⟨by rw [i3]; exact hd2, by rw [i3, i4]; exact hsm⟩, fun x61 m hd top told M0 hhd hM0 hM1 => ?_⟩
    obtain ⟨s, b, s1, s2⟩ := hsum M0 (fun s M' => T_tells_J112 N (T_tells_L61 N x61 m) (nn (hd + 1)) top told (cd k) s M') hM1
    have e23 : M0.1 23 = nn (base + nt) := by
      have : (tsi M0 24 (bz false)).1 23 = M0.1 23 := rfl
      rw [← this, hM1, evS_o _ _ _ (by decide) (by decide), h.2.2.1]
    have e2 : M0.2 = M.2 := by
      have : (tsi M0 24 (bz false)).2 = M0.2 := rfl
      rw [← this, hM1, evS_2]
    have ecode : T_codeAt M0 (nn (base + k)) = some (cd k) := by
      unfold T_codeAt
      rw [e23, if_neg (by rw [nn_le (by omega) (by omega)]; omega), show (60 : Int32) = nn 60 from rfl, nn_add, tra_nn (by omega) (by omega), e2, ← Nat.add_assoc, h.2.2.2.1 k hk1]
      rfl
    have hstep : T_tells_L61 N x61 (m + 1) (nn (hd + 1)) top told M0 = T_tells_J112 N (T_tells_L61 N x61 m) (nn (hd + 1)) top told (cd k) s (evS M (base + k1) b) := by
      rw [T_tells_L61, e23, hM0, if_neg (by rw [nn_le (by omega) (by omega)]; omega), ecode, Option.bind_some, show (0 : Int32) = bz false from rfl, tsz_bz, hM1, Option.bind_some, evS_g, show (1 : Int32) = nn 1 from rfl, nn_add, evS_22, Option.bind_some, ← s1]
      rfl
    rw [hstep]
    have hih : cd k = nn (hd + 1) ↔ hd0 = (nn (hd + 1) - 1).toNatClampNeg := by
      rw [show (1 : Int32) = nn 1 from rfl, nn_sub (by omega), nn_cl (by omega), hcd, nn_inj (by omega) (by omega)]
      omega
    obtain ⟨b', t1⟩ := i5 (T_tells_L61 N x61 m) (nn (hd + 1)) top told s (cd k) false b hih
    refine ⟨b', ?_⟩
    rw [t1]
    congr 1
    unfold tlF clV
    have hdd : cd k = nn (hd + 1) ↔ c.1 = hd := by
      rw [i3, hcd, nn_inj (by omega) (by omega)]
      omega
    rw [i4]
    by_cases z1 : c.1 = hd
    · rw [if_pos z1]
      by_cases z2 : clT c.2.2 e = true
      · rw [if_pos z2]
        cases sm with
        | none =>
          simp only at s2 ⊢
          rw [if_pos ⟨hdd.mpr z1, z2, s2.2⟩, s2.1]
        | some f =>
          simp only at s2 ⊢
          cases hf : f e with
          | none =>
            rw [hf] at s2
            simp only at s2 ⊢
            rw [if_neg]
            rintro ⟨-, -, z⟩
            rw [s2] at z
            cases z
          | some x =>
            rw [hf] at s2
            simp only at s2 ⊢
            rw [if_pos ⟨hdd.mpr z1, z2, s2.2⟩, s2.1]
      · rw [if_neg z2, if_neg (fun z => z2 z.2.1)]
    · rw [if_neg z1, if_neg (fun z => z1 (hdd.mp z.1))]
  unfold pClause at hc
  by_cases h12 : cd k = 1 ∨ cd k = 2
  · rw [if_pos h12] at hc
    cases hi : pSum false cd vl F 8 (k + 1) lv with
    | inl q => rw [hi] at hc; cases hc
    | inr r =>
      obtain ⟨k1, lv1, f⟩ := r
      rw [hi] at hc
      simp only at hc
      obtain ⟨p1, p2, p3, p4, p5⟩ := te_sum h he hvn hF (d := 8) (D := 16) (by omega) _ _ _ _ _ hi (by omega)
      obtain ⟨q1, q2, q3, q4⟩ := key (if cd k = 1 then 0 else 1) k1 lv1 (some f) hc (by omega) p1 (by split <;> omega) (by rcases h12 with z | z <;> rw [z] <;> rfl) ⟨fun z => by split at z <;> omega, fun z => by cases z⟩ (by
        intro M0 rest hM0
        obtain ⟨v, b', t1, t2⟩ := p5 true false
        refine ⟨v, b', ?_, t2.2.2 rfl rfl⟩
        rw [if_neg (by rcases h12 with z | z <;> rw [z] <;> decide)]
        have t1' : T_sumOf N 16 1 (evS M (base + (k + 1)) false) = some (v, evS M (base + k1) b') := t1
        rw [t1', bd2_some])
      exact ⟨hk1, q1, q2, q3, q4⟩
  · rw [if_neg h12] at hc
    by_cases h3 : cd k = 3
    · rw [if_pos h3] at hc
      obtain ⟨q1, q2, q3, q4⟩ := key 2 (k + 1) lv none hc (by omega) (by omega) (by omega) h3 (by simp) (by
        intro M0 rest hM0
        refine ⟨1, false, ?_, rfl, rfl⟩
        rw [if_pos h3])
      exact ⟨hk1, q1, q2, q3, q4⟩
    · rw [if_neg h3] at hc
      cases hc
/-- the other clauses -/
theorem tt_more (h : TE N M false cd vl base nt e) (he : EB e) (hvn : VN vl) {F : Nat} (hF : F ≤ N) (hFn : nt < F) {x61 : Int64 → TM → Option (Int32 × TM)} {hd : Nat} {top : Int32} (hhd : hd ≤ 2) {d0 : Int64} : ∀ (n k lv : Nat) (l : List CDn) (k2 lv2 : Nat) (l2 : List CDn), pMore cd (pClause cd vl F) n k lv l = .inr (k2, lv2, l2) → k2 = nt → k ≤ nt → (∀ c ∈ l, okC c) → (∀ c ∈ l2, okC c) ∧ ∀ m, n < m → ∀ b, ∃ b', T_tells_L61 N x61 m (nn (hd + 1)) top (l.foldl (tlF 1 hd top.toInt64 e) d0) (evS M (base + (k + 1)) b) = x61 (l2.foldl (tlF 1 hd top.toInt64 e) d0) (evS M (base + (nt + 1)) b') := by
  have hb := h.1
  have hn := h.2.1
  intro n
  induction n with
  | zero =>
    intro k lv l k2 lv2 l2 hc hk2 hk hl
    unfold pMore at hc
    split at hc
    · cases hc
    · cases hc
      refine ⟨hl, fun m hm b => ⟨b, ?_⟩⟩
      obtain ⟨m', rfl⟩ : ∃ m', m = m' + 1 := ⟨m - 1, by omega⟩
      rw [T_tells_L61, evS_o _ _ _ (by decide) (by decide), h.2.2.1, evS_g, if_pos (by rw [nn_le (by omega) (by omega)]; omega), hk2]
  | succ n ih =>
    intro k lv l k2 lv2 l2 hc hk2 hk hl
    unfold pMore at hc
    by_cases h59 : cd k = 159
    · rw [if_pos h59] at hc
      have hk1 : k < nt := te_lt h (by rw [h59]; decide)
      cases hi : pClause cd vl F (k + 1) lv with
      | inl q => rw [hi] at hc; cases hc
      | inr r =>
        obtain ⟨k', lv', c⟩ := r
        rw [hi] at hc
        simp only at hc
        obtain ⟨p1, p2, p3, p4, p5⟩ := tt_clause h he hvn hF hFn hi (by omega)
        have hl' : ∀ c' ∈ l ++ [c], okC c' := by
          intro c' hc'
          rcases List.mem_append.mp hc' with z | z
          · exact hl c' z
          · rw [List.mem_singleton.mp z]; exact p4
        obtain ⟨i1, i2⟩ := ih _ _ _ _ _ _ hc hk2 p2 hl'
        refine ⟨i1, fun m hm b => ?_⟩
        obtain ⟨m', rfl⟩ : ∃ m', m = m' + 1 := ⟨m - 1, by omega⟩
        obtain ⟨b1, t1⟩ := p5 x61 m' hd top (l.foldl (tlF 1 hd top.toInt64 e) d0) (evS M (base + (k + 1)) b) hhd rfl (evS_24 _ _ _ _)
        obtain ⟨b2, t2⟩ := i2 m' (by omega) b1
        refine ⟨b2, ?_⟩
        rw [t1, ← t2, List.foldl_append]
        rfl
    · rw [if_neg h59] at hc
      cases hc
      refine ⟨hl, fun m hm b => ⟨b, ?_⟩⟩
      obtain ⟨m', rfl⟩ : ∃ m', m = m' + 1 := ⟨m - 1, by omega⟩
      rw [T_tells_L61, evS_o _ _ _ (by decide) (by decide), h.2.2.1, evS_g, if_pos (by rw [nn_le (by omega) (by omega)]; omega), hk2]
/-- all clauses -/
theorem tt_all (h : TE N M false cd vl base nt e) (he : EB e) (hvn : VN vl) {F : Nat} (hF : F ≤ N) (hFn : nt < F) {l : List CDn} (hc : pAll cd (pClause cd vl F) nt = .inr l) : (∀ c ∈ l, okC c) ∧ ∀ (x61 : Int64 → TM → Option (Int32 × TM)) (m hd : Nat) (top : Int32) (told : Int64) (M0 : TM), hd ≤ 2 → 13 ≤ m → M0.1 22 = nn base → tsi M0 24 (bz false) = evS M base false → ∃ b', T_tells_L61 N x61 m (nn (hd + 1)) top told M0 = x61 (l.foldl (tlF 1 hd top.toInt64 e) told) (evS M (base + (nt + 1)) b') := by
  unfold pAll at hc
  cases hi : pClause cd vl F 0 0 with
  | inl q => rw [hi] at hc; cases hc
  | inr r =>
    obtain ⟨k, lv, c⟩ := r
    rw [hi] at hc
    simp only at hc
    cases hm : pMore cd (pClause cd vl F) 11 k lv [c] with
    | inl q => rw [hm] at hc; cases hc
    | inr r =>
      obtain ⟨k2, lv2, l2⟩ := r
      rw [hm] at hc
      simp only at hc
      split at hc
      · next hk2 =>
        cases hc
        obtain ⟨p1, p2, p3, p4, p5⟩ := tt_clause h he hvn hF hFn hi (by omega)
        have hl : ∀ c' ∈ [c], okC c' := by
          intro c' hc'
          rw [List.mem_singleton.mp hc']
          exact p4
        refine ⟨(tt_more (hd := 0) (top := 0) (d0 := 0) (x61 := fun _ _ => none) h he hvn hF hFn (by omega) _ _ _ _ _ _ _ hm hk2 p2 hl).1, fun x61 m hd top told M0 hhd hm13 hM0 hM1 => ?_⟩
        obtain ⟨m', rfl⟩ : ∃ m', m = m' + 1 := ⟨m - 1, by omega⟩
        obtain ⟨b1, t1⟩ := p5 x61 m' hd top told M0 hhd hM0 hM1
        obtain ⟨b2, t2⟩ := (tt_more (d0 := told) (x61 := x61) h he hvn hF hFn hhd _ _ _ _ _ _ _ hm hk2 p2 hl).2 m' (by omega) b1
        refine ⟨b2, ?_⟩
        rw [t1, ← t2]
        rfl
      · cases hc
end TT
