/-! PLAIN LAW: the Model tells tests -/
set_option maxRecDepth 100000
/-- what a test told, if it was asked for and nothing was broken before -/
def EB2 (o : Option Bool) (live br : Bool) (v br' : Bool) : Prop := (br = true → br' = true) ∧ (live = false → br' = br) ∧ (live = true → br = false → match o with
  | some x => v = x ∧ br' = false
  | none => br' = true)
section TE4
variable {N : Nat} {M : TM} {od : Bool} {cd vl : Nat → Int32} {base nt : Nat} {e : EV}
def Hp2 (N : Nat) (M : TM) (base nt : Nat) (e : EV) (item : Nat → Nat → PR TDn) (tf : Int32 → TM → Option (Int32 × TM)) : Prop := ∀ k lv k' lv' f, item k lv = .inr (k', lv', f) → k ≤ nt → k' ≤ nt ∧ k < k' ∧ lv < lv' ∧ ∀ live b, ∃ v b', tf (bz live) (evS M (base + k) b) = some (bz v, evS M (base + k') b') ∧ EB2 (f e) live b v b'
/-- one more of a row -/
theorem er_row {all : Bool} {l : List TDn} {g : TDn} {live b0 b1 b2 v w : Bool} (hf : EB2 (rowE all e l) live b0 v b1) (hg : EB2 (g e) (live && (v == all)) b1 w b2) : EB2 (rowE all e (l ++ [g])) live b0 (if v = all then w else v) b2 := by
  refine ⟨fun z => hg.1 (hf.1 z), fun z => by rw [hg.2.1 (by rw [z]; rfl), hf.2.1 z], fun z1 z2 => ?_⟩
  have a1 := hf.2.2 z1 z2
  rw [rowE_app]
  cases hr : rowE all e l with
  | none =>
    rw [hr] at a1
    exact hg.1 a1
  | some x =>
    rw [hr] at a1
    obtain ⟨rfl, a2⟩ := a1
    by_cases hv : v = all
    · have a3 := hg.2.2 (by rw [z1, hv]; cases all <;> rfl) a2
      simp only [hv, if_true]
      exact a3
    · have a3 := hg.2.1 (by rw [z1]; cases v <;> cases all <;> first | rfl | exact absurd rfl hv)
      simp only [hv, if_false]
      refine ⟨trivial, by rw [a3, a2]⟩
theorem te_rowA (h : TE N M od cd vl base nt e) {item : Nat → Nat → PR TDn} {ff : Int32 → TM → Option (Int32 × TM)} (hp : Hp2 N M base nt e item (T_plainOf N ff)) {x6 : Int32 → TM → Option (Int32 × TM)} : ∀ (n k lv : Nat) (l : List TDn) (k' lv' : Nat) (l' : List TDn), pList cd 6 item n k lv l = .inr (k', lv', l') → k ≤ nt → k' ≤ nt ∧ k ≤ k' ∧ lv ≤ lv' ∧ ∀ m, n ≤ m → ∀ live b0 v b1, EB2 (rowE true e l) live b0 v b1 → ∃ v' b3, T_bothOf_L6 N ff x6 m (bz live) (bz v) (evS M (base + k) b1) = x6 (bz v') (evS M (base + k') b3) ∧ EB2 (rowE true e l') live b0 v' b3 := by
  intro n
  induction n with
  | zero => intro k lv l k' lv' l' hc; cases hc
  | succ n ih =>
    intro k lv l k' lv' l' hc hk
    unfold pList at hc
    by_cases h6 : cd k = 6
    · rw [if_pos h6] at hc
      have hk1 : k < nt := te_lt h (by rw [h6]; decide)
      cases hi : item (k + 1) lv with
      | inl q => rw [hi] at hc; cases hc
      | inr r =>
        obtain ⟨k1, lv1, g⟩ := r
        rw [hi] at hc
        obtain ⟨p1, p2, p3, p5⟩ := hp _ _ _ _ _ hi (by omega)
        obtain ⟨i1, i2, i3, i5⟩ := ih _ _ _ _ _ _ hc p1
        refine ⟨i1, by omega, by omega, fun m hm' live b0 v b1 hf => ?_⟩
        obtain ⟨m', rfl⟩ : ∃ m', m = m' + 1 := ⟨m - 1, by omega⟩
        obtain ⟨w, b2, t1, t2⟩ := p5 (live && (v == true)) b1
        have t3 := er_row hf t2
        obtain ⟨v'', b4, r1, r2⟩ := i5 m' (by omega) live b0 _ b2 t3
        refine ⟨v'', b4, ?_, r2⟩
        rw [← r1, T_bothOf_L6, te_pass h hk, bd2_some, decide_eq_true h6, if_neg (by decide), if_pos h6]
        cases live
        · rw [if_pos (by rfl)]
          unfold T_bothOf_J28 T_bothOf_J29
          have t1' : T_plainOf N ff 0 (evS M (base + (k + 1)) b1) = some (bz w, evS M (base + k1) b2) := t1
          rw [t1', bd2_some]
          unfold T_bothOf_J45 T_bothOf_J46
          cases v
          · rw [if_pos (by rfl)]; rfl
          · rw [if_neg (by decide)]; cases w <;> rfl
        · rw [if_neg (by decide)]
          cases v
          · rw [if_pos (by rfl)]
            unfold T_bothOf_J28 T_bothOf_J29
            have t1' : T_plainOf N ff 0 (evS M (base + (k + 1)) b1) = some (bz w, evS M (base + k1) b2) := t1
            rw [t1', bd2_some]
            unfold T_bothOf_J45 T_bothOf_J46
            rw [if_pos (by rfl)]; rfl
          · rw [if_neg (by decide)]
            unfold T_bothOf_J29
            have t1' : T_plainOf N ff 1 (evS M (base + (k + 1)) b1) = some (bz w, evS M (base + k1) b2) := t1
            rw [t1', bd2_some]
            unfold T_bothOf_J45 T_bothOf_J46
            rw [if_neg (by decide)]; cases w <;> rfl
    · rw [if_neg h6] at hc
      cases hc
      refine ⟨hk, Nat.le_refl _, Nat.le_refl _, fun m hm' live b0 v b1 hf => ?_⟩
      obtain ⟨m', rfl⟩ : ∃ m', m = m' + 1 := ⟨m - 1, by omega⟩
      refine ⟨v, b1, ?_, hf⟩
      rw [T_bothOf_L6, te_pass h hk, bd2_some, decide_eq_false h6, if_pos (by rfl), if_neg h6]
theorem EB2_1 {all : Bool} {f : TDn} {live b v b' : Bool} (h : EB2 (f e) live b v b') : EB2 (rowE all e [f]) live b v b' := by
  have : rowE all e [f] = f e := congrFun (rowS_1 all f) e
  rw [this]
  exact h
theorem te_both (h : TE N M od cd vl base nt e) {F : Nat} (hF : F ≤ N) {item : Nat → Nat → PR TDn} {ff : Int32 → TM → Option (Int32 × TM)} (hp : Hp2 N M base nt e item (T_plainOf N ff)) : Hp2 N M base nt e (pRow cd true 6 F item) (T_bothOf N ff) := by
  intro k lv k' lv' f hc hk
  unfold pRow at hc
  cases hi : item k lv with
  | inl q => rw [hi] at hc; cases hc
  | inr r =>
    obtain ⟨k1, lv1, g⟩ := r
    rw [hi] at hc
    simp only at hc
    cases hl : pList cd 6 item F k1 lv1 [g] with
    | inl q => rw [hl] at hc; cases hc
    | inr r =>
      obtain ⟨k2, lv2, l⟩ := r
      rw [hl] at hc
      cases hc
      obtain ⟨p1, p2, p3, p5⟩ := hp _ _ _ _ _ hi hk
      obtain ⟨i1, i2, i3, i5⟩ := te_rowA (x6 := fun v25 M26 => (rz v25).bind fun v27 => some (v27, M26)) h hp _ _ _ _ _ _ _ hl p1
      refine ⟨i1, by omega, by omega, fun live b => ?_⟩
      obtain ⟨v, b1, t1, t2⟩ := p5 live b
      obtain ⟨v', b3, r1, r2⟩ := i5 N hF live b v b1 (EB2_1 t2)
      refine ⟨v', b3, ?_, r2⟩
      unfold T_bothOf
      rw [t1, bd2_some, r1, rz_bz, Option.bind_some]
theorem te_rowO (h : TE N M od cd vl base nt e) {item : Nat → Nat → PR TDn} {ff : Int32 → TM → Option (Int32 × TM)} (hp : Hp2 N M base nt e item (T_bothOf N ff)) {x6 : Int32 → TM → Option (Int32 × TM)} : ∀ (n k lv : Nat) (l : List TDn) (k' lv' : Nat) (l' : List TDn), pList cd 5 item n k lv l = .inr (k', lv', l') → k ≤ nt → k' ≤ nt ∧ k ≤ k' ∧ lv ≤ lv' ∧ ∀ m, n ≤ m → ∀ live b0 v b1, EB2 (rowE false e l) live b0 v b1 → ∃ v' b3, T_testOf_o_L6 N ff x6 m (bz live) (bz v) (evS M (base + k) b1) = x6 (bz v') (evS M (base + k') b3) ∧ EB2 (rowE false e l') live b0 v' b3 := by
  intro n
  induction n with
  | zero => intro k lv l k' lv' l' hc; cases hc
  | succ n ih =>
    intro k lv l k' lv' l' hc hk
    unfold pList at hc
    by_cases h5 : cd k = 5
    · rw [if_pos h5] at hc
      have hk1 : k < nt := te_lt h (by rw [h5]; decide)
      cases hi : item (k + 1) lv with
      | inl q => rw [hi] at hc; cases hc
      | inr r =>
        obtain ⟨k1, lv1, g⟩ := r
        rw [hi] at hc
        obtain ⟨p1, p2, p3, p5⟩ := hp _ _ _ _ _ hi (by omega)
        obtain ⟨i1, i2, i3, i5⟩ := ih _ _ _ _ _ _ hc p1
        refine ⟨i1, by omega, by omega, fun m hm' live b0 v b1 hf => ?_⟩
        obtain ⟨m', rfl⟩ : ∃ m', m = m' + 1 := ⟨m - 1, by omega⟩
        obtain ⟨w, b2, t1, t2⟩ := p5 (live && (v == false)) b1
        have t3 := er_row hf t2
        obtain ⟨v'', b4, r1, r2⟩ := i5 m' (by omega) live b0 _ b2 t3
        refine ⟨v'', b4, ?_, r2⟩
        rw [← r1, T_testOf_o_L6, te_pass h hk, bd2_some, decide_eq_true h5, if_neg (by decide), if_pos h5]
        cases live
        · rw [if_pos (by rfl)]
          unfold T_testOf_o_J27 T_testOf_o_J28
          have t1' : T_bothOf N ff 0 (evS M (base + (k + 1)) b1) = some (bz w, evS M (base + k1) b2) := t1
          rw [t1', bd2_some]
          unfold T_testOf_o_J40 T_testOf_o_J45
          cases v
          · rw [if_pos (by rfl)]; cases w <;> rfl
          · rw [if_neg (by decide)]; rfl
        · rw [if_neg (by decide)]
          cases v
          · rw [if_pos (by rfl)]
            unfold T_testOf_o_J28
            have t1' : T_bothOf N ff 1 (evS M (base + (k + 1)) b1) = some (bz w, evS M (base + k1) b2) := t1
            rw [t1', bd2_some]
            unfold T_testOf_o_J40 T_testOf_o_J45
            rw [if_pos (by rfl)]; cases w <;> rfl
          · rw [if_neg (by decide)]
            unfold T_testOf_o_J27 T_testOf_o_J28
            have t1' : T_bothOf N ff 0 (evS M (base + (k + 1)) b1) = some (bz w, evS M (base + k1) b2) := t1
            rw [t1', bd2_some]
            unfold T_testOf_o_J40 T_testOf_o_J45
            rw [if_neg (by decide)]; rfl
    · rw [if_neg h5] at hc
      cases hc
      refine ⟨hk, Nat.le_refl _, Nat.le_refl _, fun m hm' live b0 v b1 hf => ?_⟩
      obtain ⟨m', rfl⟩ : ∃ m', m = m' + 1 := ⟨m - 1, by omega⟩
      refine ⟨v, b1, ?_, hf⟩
      rw [T_testOf_o_L6, te_pass h hk, bd2_some, decide_eq_false h5, if_pos (by rfl), if_neg h5]
theorem te_testO (h : TE N M od cd vl base nt e) {F : Nat} (hF : F ≤ N) {item : Nat → Nat → PR TDn} {ff : Int32 → TM → Option (Int32 × TM)} (hp : Hp2 N M base nt e item (T_bothOf N ff)) : Hp2 N M base nt e (pRow cd false 5 F item) (T_testOf_o N ff) := by
  intro k lv k' lv' f hc hk
  unfold pRow at hc
  cases hi : item k lv with
  | inl q => rw [hi] at hc; cases hc
  | inr r =>
    obtain ⟨k1, lv1, g⟩ := r
    rw [hi] at hc
    simp only at hc
    cases hl : pList cd 5 item F k1 lv1 [g] with
    | inl q => rw [hl] at hc; cases hc
    | inr r =>
      obtain ⟨k2, lv2, l⟩ := r
      rw [hl] at hc
      cases hc
      obtain ⟨p1, p2, p3, p5⟩ := hp _ _ _ _ _ hi hk
      obtain ⟨i1, i2, i3, i5⟩ := te_rowO (x6 := fun v25 M26 => (rz v25).bind fun v27 => some (v27, M26)) h hp _ _ _ _ _ _ _ hl p1
      refine ⟨i1, by omega, by omega, fun live b => ?_⟩
      obtain ⟨v, b1, t1, t2⟩ := p5 live b
      obtain ⟨v', b3, r1, r2⟩ := i5 N hF live b v b1 (EB2_1 t2)
      refine ⟨v', b3, ?_, r2⟩
      unfold T_testOf_o
      rw [t1, bd2_some, r1, rz_bz, Option.bind_some]
/-- nots are passed -/
theorem te_nots (h : TE N M od cd vl base nt e) {ff : Int32 → TM → Option (Int32 × TM)} {x2 : Int32 → Int32 → TM → Option (Int32 × TM)} {live b : Bool} : ∀ (n k : Nat) (no : Bool), nt < n + k → k ≤ nt → ∃ k' no', pNots cd n k no = (k', no') ∧ k ≤ k' ∧ k' ≤ nt ∧ cd k' ≠ 7 ∧ ∀ m, n ≤ m → T_plainOf_L2 N ff x2 m (bz live) (bz no) (evS M (base + k) b) = x2 (bz live) (bz no') (evS M (base + k') b) := by
  intro n
  induction n with
  | zero => intro k no h1 h2; omega
  | succ n ih =>
    intro k no h1 hk
    unfold pNots
    by_cases h7 : cd k = 7
    · have hk1 : k < nt := te_lt h (by rw [h7]; decide)
      rw [if_pos h7]
      obtain ⟨k', no', i1, i2, i3, i4, i5⟩ := ih (k + 1) (!no) (by omega) (by omega)
      refine ⟨k', no', i1, by omega, i3, i4, fun m hm => ?_⟩
      obtain ⟨m', rfl⟩ : ∃ m', m = m' + 1 := ⟨m - 1, by omega⟩
      rw [← i5 m' (by omega), T_plainOf_L2, te_pass h hk, bd2_some, decide_eq_true h7, if_neg (by decide), if_pos h7]
      unfold T_plainOf_J20
      cases no <;> rfl
    · rw [if_neg h7]
      refine ⟨k, no, rfl, Nat.le_refl _, hk, h7, fun m hm => ?_⟩
      obtain ⟨m', rfl⟩ : ∃ m', m = m' + 1 := ⟨m - 1, by omega⟩
      rw [T_plainOf_L2, te_pass h hk, bd2_some, decide_eq_false h7, if_pos (by rfl), if_neg h7]
/-- two sums compared -/
theorem te_comp (h : TE N M od cd vl base nt e) (he : EB e) (hvn : VN vl) {F : Nat} (hF : F ≤ N) {d : Nat} (hd : d < 16) {ff : Int32 → TM → Option (Int32 × TM)} {no : Bool} {k lv k' lv' : Nat} {f : TDn} (hc : pComp od cd vl F d no k lv = .inr (k', lv', f)) (hk : k ≤ nt) (h140 : cd k ≠ 140) : k' ≤ nt ∧ k < k' ∧ lv < lv' ∧ ∀ live b, ∃ v b' g, T_positiveOf N ff (bz live) (evS M (base + k) b) = some (bz v, evS M (base + k') b') ∧ f = notB no g ∧ EB2 (g e) live b v b' := by
  have hs := te_sum h he hvn hF hd
  unfold pComp at hc
  cases hi : pSum od cd vl F d k lv with
  | inl q => rw [hi] at hc; cases hc
  | inr r =>
    obtain ⟨k1, lv1, f1⟩ := r
    rw [hi] at hc
    simp only at hc
    obtain ⟨p1, p2, p3, p4, p5⟩ := hs _ _ _ _ _ hi hk
    split at hc
    · next hsg =>
      have hk1 : k1 < nt := te_lt h (by rcases hsg with z | z | z <;> rw [z] <;> decide)
      cases hj : pSum od cd vl F d (k1 + 1) lv1 with
      | inl q => rw [hj] at hc; cases hc
      | inr r =>
        obtain ⟨k2, lv2, f2⟩ := r
        rw [hj] at hc
        cases hc
        obtain ⟨q1, q2, q3, q4, q5⟩ := hs _ _ _ _ _ hj (by omega)
        refine ⟨q1, by omega, by omega, fun live b => ?_⟩
        obtain ⟨v1, b1, t1, t2⟩ := p5 live b
        obtain ⟨v2, b2, t3, t4⟩ := q5 live b1
        refine ⟨live && !b2 && opC (cd k1 - 100) v1 v2, b2, cmpS (cd k1 - 100) f1 f2, ?_, rfl, ?_⟩
        · unfold T_positiveOf T_sign
          rw [Option.bind_some, show (100 : Int32) + 40 = 140 from by decide, te_pass h hk, bd2_some, decide_eq_false h140, if_pos (by rfl), if_neg h140, t1, bd2_some, evS_g, te_code h p1, Option.bind_some, show (1 : Int32) = nn 1 from rfl, nn_add, evS_22, Option.bind_some, Nat.add_assoc, t3, bd2_some]
          cases live
          · rw [if_pos (by rfl)]; rfl
          · rw [if_neg (by decide), evS_b]
            cases b2
            · rw [if_pos (by rfl), Option.bind_some, show (100 : Int32) + 60 = 160 from by decide, show (100 : Int32) + 62 = 162 from by decide]
              simp only [cmp_ge, cmp_le, cmp_eq, Option.bind_some]
              unfold opC
              rcases hsg with z | z | z
              · rw [if_pos z, z, if_pos (show (160 : Int32) - 100 = 60 by decide)]
                by_cases hlt : v1 < v2
                · rw [if_neg (by rw [Int64.le_iff_toInt_le]; rw [Int64.lt_iff_toInt_lt] at hlt; omega), decide_eq_true hlt]; rfl
                · rw [if_pos (by rw [Int64.le_iff_toInt_le]; rw [Int64.lt_iff_toInt_lt] at hlt; omega), decide_eq_false hlt]; rfl
              · rw [if_neg (by rw [z]; decide), if_pos z, z, if_neg (show ¬ (162 : Int32) - 100 = 60 by decide), if_pos (show (162 : Int32) - 100 = 62 by decide)]
                by_cases hlt : v2 < v1
                · rw [if_neg (by rw [Int64.le_iff_toInt_le]; rw [Int64.lt_iff_toInt_lt] at hlt; omega), decide_eq_true hlt]; rfl
                · rw [if_pos (by rw [Int64.le_iff_toInt_le]; rw [Int64.lt_iff_toInt_lt] at hlt; omega), decide_eq_false hlt]; rfl
              · rw [if_neg (by rw [z]; decide), if_neg (by rw [z]; decide), z, if_neg (show ¬ (161 : Int32) - 100 = 60 by decide), if_neg (show ¬ (161 : Int32) - 100 = 62 by decide)]
                by_cases hlt : v1 = v2
                · rw [if_pos hlt, decide_eq_true hlt]; rfl
                · rw [if_neg hlt, decide_eq_false hlt]; rfl
            · rw [if_neg (by decide)]; rfl
        · refine ⟨fun z => t4.1 (t2.1 z), fun z => by rw [t4.2.1 z, t2.2.1 z], fun z1 z2 => ?_⟩
          have a1 := t2.2.2 z1 z2
          unfold cmpS
          cases hf1 : f1 e with
          | none =>
            rw [hf1] at a1
            exact t4.1 a1
          | some x =>
            rw [hf1] at a1
            obtain ⟨rfl, a2⟩ := a1
            have a3 := t4.2.2 z1 a2
            cases hf2 : f2 e with
            | none =>
              rw [hf2] at a3
              exact a3
            | some y =>
              rw [hf2] at a3
              obtain ⟨rfl, a4⟩ := a3
              refine ⟨?_, a4⟩
              rw [z1, a4]
              rfl
    · cases hc
theorem EB2_not {no : Bool} {g : TDn} {live b v b' : Bool} (h : EB2 (g e) live b v b') : EB2 (notB no g e) live b (v != no) b' := by
  refine ⟨h.1, h.2.1, fun z1 z2 => ?_⟩
  have a := h.2.2 z1 z2
  unfold notB notS
  cases no
  · rw [if_neg (by decide)]
    cases hg : g e with
    | none => rw [hg] at a; exact a
    | some x => rw [hg] at a; exact ⟨by rw [a.1]; cases x <;> rfl, a.2⟩
  · rw [if_pos rfl]
    cases hg : g e with
    | none => rw [hg] at a; exact a
    | some x => rw [hg] at a; exact ⟨by rw [a.1]; cases x <;> rfl, a.2⟩
/-- whole tests -/
theorem te_test (h : TE N M od cd vl base nt e) (he : EB e) (hvn : VN vl) {F : Nat} (hF : F ≤ N) (hFn : nt < F) : ∀ (d D : Nat), d < D → d < 16 → Hp2 N M base nt e (pTest od cd vl F d) (T_testOf N D) := by
  intro d
  induction d with
  | zero =>
    intro D hD hd
    obtain ⟨D', rfl⟩ : ∃ D', D = D' + 1 := ⟨D - 1, by omega⟩
    show Hp2 N M base nt e (pTest od cd vl F 0) (T_testOf_o N (T_testOf N D'))
    have hpl : Hp2 N M base nt e (fun k lv => match pNots cd F k false with
      | (k', no) => if cd k' = 140 then .inl k' else pComp od cd vl F 0 no k' lv) (T_plainOf N (T_testOf N D')) := by
      intro k lv k' lv' f hc hk
      obtain ⟨k1, no, n1, n2, n3, n4, n5⟩ := te_nots (ff := T_testOf N D') (x2 := fun _ _ _ => none) (live := true) (b := true) h F k false (by omega) hk
      simp only [n1] at hc
      split at hc
      · cases hc
      · next h140 =>
        obtain ⟨c1, c2, c3, c5⟩ := te_comp (ff := T_testOf N D') h he hvn hF hd hc n3 h140
        refine ⟨c1, by omega, c3, fun live b => ?_⟩
        obtain ⟨v, b', g, t1, rfl, t3⟩ := c5 live b
        refine ⟨v != no, b', ?_, EB2_not t3⟩
        obtain ⟨k2, no2, m1, -, -, -, m5⟩ := te_nots (ff := T_testOf N D') (x2 := fun v13 v14 M15 => bd2 (T_positiveOf N (T_testOf N D') v13 M15) fun v17 M16 => (rz (if v17 = v14 then (0 : Int32) else (1 : Int32))).bind fun v18 => some (v18, M16)) (live := live) (b := b) h F k false (by omega) hk
        rw [n1] at m1
        cases m1
        unfold T_plainOf
        have := m5 N hF
        refine Eq.trans this ?_
        rw [t1, bd2_some]
        cases v <;> cases no <;> rfl
    intro k lv k' lv' f hc hk
    unfold pTest at hc
    exact te_testO h hF (te_both h hF hpl) k lv k' lv' f hc hk
  | succ d ih =>
    intro D hD hd
    obtain ⟨D', rfl⟩ : ∃ D', D = D' + 1 := ⟨D - 1, by omega⟩
    show Hp2 N M base nt e (pTest od cd vl F (d + 1)) (T_testOf_o N (T_testOf N D'))
    have hpl : Hp2 N M base nt e (fun k lv => match pNots cd F k false with
      | (k', no) => if cd k' = 140 then (match pTest od cd vl F d (k' + 1) lv with
        | .inl e => .inl e
        | .inr (k2, lv2, f) => if cd k2 = 141 then .inr (k2 + 1, lv2, notB no f) else .inl k2) else pComp od cd vl F (d + 1) no k' lv) (T_plainOf N (T_testOf N D')) := by
      intro k lv k' lv' f hc hk
      obtain ⟨k1, no, n1, n2, n3, n4, n5⟩ := te_nots (ff := T_testOf N D') (x2 := fun _ _ _ => none) (live := true) (b := true) h F k false (by omega) hk
      simp only [n1] at hc
      have hfin : ∀ live b v b', T_positiveOf N (T_testOf N D') (bz live) (evS M (base + k1) b) = some (bz v, evS M (base + k') b') → T_plainOf N (T_testOf N D') (bz live) (evS M (base + k) b) = some (bz (v != no), evS M (base + k') b') := by
        intro live b v b' t1
        obtain ⟨k2, no2, m1, -, -, -, m5⟩ := te_nots (ff := T_testOf N D') (x2 := fun v13 v14 M15 => bd2 (T_positiveOf N (T_testOf N D') v13 M15) fun v17 M16 => (rz (if v17 = v14 then (0 : Int32) else (1 : Int32))).bind fun v18 => some (v18, M16)) (live := live) (b := b) h F k false (by omega) hk
        rw [n1] at m1
        cases m1
        unfold T_plainOf
        have := m5 N hF
        refine Eq.trans this ?_
        rw [t1, bd2_some]
        cases v <;> cases no <;> rfl
      split at hc
      · next h140 =>
        have hk1 : k1 < nt := te_lt h (by rw [h140]; decide)
        cases hi : pTest od cd vl F d (k1 + 1) lv with
        | inl q => rw [hi] at hc; cases hc
        | inr r =>
          obtain ⟨k2, lv2, g⟩ := r
          rw [hi] at hc
          simp only at hc
          split at hc
          · next h141 =>
            cases hc
            obtain ⟨p1, p2, p3, p5⟩ := ih D' (by omega) (by omega) _ _ _ _ _ hi (by omega)
            have hk2 : k2 < nt := te_lt h (by rw [h141]; decide)
            refine ⟨by omega, by omega, p3, fun live b => ?_⟩
            obtain ⟨v, b', t1, t2⟩ := p5 live b
            refine ⟨v != no, b', hfin live b v b' ?_, EB2_not t2⟩
            unfold T_positiveOf T_sign
            rw [Option.bind_some, show (100 : Int32) + 40 = 140 from by decide, te_pass h n3, bd2_some, decide_eq_true h140, if_neg (by decide), if_pos h140, t1, bd2_some, evS_g, show (1 : Int32) = nn 1 from rfl, nn_add, evS_22, Option.bind_some, rz_bz, Option.bind_some]
            rfl
          · cases hc
      · next h140 =>
        obtain ⟨c1, c2, c3, c5⟩ := te_comp (ff := T_testOf N D') h he hvn hF hd hc n3 h140
        refine ⟨c1, by omega, c3, fun live b => ?_⟩
        obtain ⟨v, b', g, t1, rfl, t3⟩ := c5 live b
        exact ⟨v != no, b', hfin live b v b' t1, EB2_not t3⟩
    intro k lv k' lv' f hc hk
    unfold pTest at hc
    exact te_testO h hF (te_both h hF hpl) k lv k' lv' f hc hk
end TE4
