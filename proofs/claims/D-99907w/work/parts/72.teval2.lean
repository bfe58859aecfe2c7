/-! PLAIN LAW: the Model reckons sums -/
set_option maxRecDepth 100000
section TE2
variable {N : Nat} {M : TM} {od : Bool} {cd vl : Nat → Int32} {base nt : Nat} {e : EV}
/-- a reader of parts and what the Model makes of what it accepts -/
def Hp1 (N : Nat) (M : TM) (base nt : Nat) (e : EV) (item : Nat → Nat → PR SDn) (tf : Int32 → TM → Option (Int64 × TM)) : Prop := ∀ k lv k' lv' f, item k lv = .inr (k', lv', f) → k ≤ nt → k' ≤ nt ∧ k < k' ∧ lv < lv' ∧ BD f ∧ ∀ live b, ∃ v b', tf (bz live) (evS M (base + k) b) = some (v, evS M (base + k') b') ∧ ER (f e) live b v b'
theorem te_chM (h : TE N M od cd vl base nt e) (he : EB e) {part : Nat → Nat → PR SDn} {ff : Int32 → TM → Option (Int64 × TM)} (hp : Hp1 N M base nt e part (T_partOf N ff)) {x6 : Int64 → TM → Option (Int64 × TM)} : ∀ (n k lv : Nat) (f : SDn) (k' lv' : Nat) (f' : SDn), pChain cd isMul part n k lv f = .inr (k', lv', f') → k ≤ nt → BD f → k' ≤ nt ∧ k ≤ k' ∧ lv ≤ lv' ∧ BD f' ∧ ∀ m, n ≤ m → ∀ live b0 v b1, ER (f e) live b0 v b1 → ∃ v' b3, T_termOf_L6 N ff x6 m (bz live) v (evS M (base + k) b1) = x6 v' (evS M (base + k') b3) ∧ ER (f' e) live b0 v' b3 := by
  intro n
  induction n with
  | zero => intro k lv f k' lv' f' hc; cases hc
  | succ n ih =>
    intro k lv f k' lv' f' hc hk hbf
    unfold pChain at hc
    by_cases hm : isMul (cd k) = true
    · rw [if_pos hm] at hc
      have hk1 : k < nt := te_lt h (by intro z; rw [z] at hm; exact absurd hm (by decide))
      cases hi : part (k + 1) lv with
      | inl q => rw [hi] at hc; cases hc
      | inr r =>
        obtain ⟨k1, lv1, g⟩ := r
        rw [hi] at hc
        obtain ⟨p1, p2, p3, p4, p5⟩ := hp _ _ _ _ _ hi (by omega)
        obtain ⟨i1, i2, i3, i4, i5⟩ := ih _ _ _ _ _ _ hc p1 (joinS_b hbf)
        refine ⟨i1, by omega, by omega, i4, fun m hm' live b0 v b1 hf => ?_⟩
        obtain ⟨m', rfl⟩ : ∃ m', m = m' + 1 := ⟨m - 1, by omega⟩
        obtain ⟨w, b2, t1, t2⟩ := p5 live b1
        obtain ⟨v', b3, s1, s2⟩ := te_mulS (c6 := T_termOf_L6 N ff x6 m') h (by omega) hm hbf he hf t1 t2
        obtain ⟨v'', b4, r1, r2⟩ := i5 m' (by omega) live b0 v' b3 s2
        refine ⟨v'', b4, ?_, r2⟩
        rw [← r1, ← s1, T_termOf_L6, evS_g, te_code h (by omega)]
        unfold T_sign
        rw [Option.bind_some, Option.bind_some, show (100 : Int32) + 42 = 142 from by decide]
        by_cases c1 : cd k = 142
        · rw [if_pos c1]
        rw [if_neg c1, Option.bind_some, Option.bind_some, show (100 : Int32) + 47 = 147 from by decide]
        by_cases c2 : cd k = 147
        · rw [if_pos c2]
        rw [if_neg c2, Option.bind_some, Option.bind_some, show (100 : Int32) + 37 = 137 from by decide]
        unfold isMul at hm
        simp only [c1, c2, decide_false, Bool.false_or, decide_eq_true_eq] at hm
        rw [if_pos hm]
    · rw [if_neg hm] at hc
      cases hc
      refine ⟨hk, Nat.le_refl _, Nat.le_refl _, hbf, fun m hm' live b0 v b1 hf => ?_⟩
      obtain ⟨m', rfl⟩ : ∃ m', m = m' + 1 := ⟨m - 1, by omega⟩
      refine ⟨v, b1, ?_, hf⟩
      unfold isMul at hm
      simp only [Bool.or_eq_true, decide_eq_true_eq, not_or] at hm
      rw [T_termOf_L6, evS_g, te_code h (by omega)]
      unfold T_sign
      rw [Option.bind_some, Option.bind_some, show (100 : Int32) + 42 = 142 from by decide, if_neg hm.1.1, Option.bind_some, Option.bind_some, show (100 : Int32) + 47 = 147 from by decide, if_neg hm.1.2, Option.bind_some, Option.bind_some, show (100 : Int32) + 37 = 137 from by decide, if_neg hm.2]
theorem te_term (h : TE N M od cd vl base nt e) (he : EB e) {F : Nat} (hF : F ≤ N) {part : Nat → Nat → PR SDn} {ff : Int32 → TM → Option (Int64 × TM)} (hp : Hp1 N M base nt e part (T_partOf N ff)) : Hp1 N M base nt e (pTermOf cd F part) (T_termOf N ff) := by
  intro k lv k' lv' f hc hk
  unfold pTermOf at hc
  cases hi : part k lv with
  | inl q => rw [hi] at hc; cases hc
  | inr r =>
    obtain ⟨k1, lv1, g⟩ := r
    rw [hi] at hc
    obtain ⟨p1, p2, p3, p4, p5⟩ := hp _ _ _ _ _ hi hk
    obtain ⟨i1, i2, i3, i4, i5⟩ := te_chM (x6 := fun v M => some (v, M)) h he hp _ _ _ _ _ _ _ hc p1 p4
    refine ⟨i1, by omega, by omega, i4, fun live b => ?_⟩
    obtain ⟨v, b1, t1, t2⟩ := p5 live b
    obtain ⟨v', b3, r1, r2⟩ := i5 N hF live b v b1 t2
    refine ⟨v', b3, ?_, r2⟩
    unfold T_termOf
    rw [t1, bd2_some]
    exact r1
theorem te_chA (h : TE N M od cd vl base nt e) {item : Nat → Nat → PR SDn} {ff : Int32 → TM → Option (Int64 × TM)} (hp : Hp1 N M base nt e item (T_termOf N ff)) {x6 : Int64 → TM → Option (Int64 × TM)} : ∀ (n k lv : Nat) (f : SDn) (k' lv' : Nat) (f' : SDn), pChain cd isAdd item n k lv f = .inr (k', lv', f') → k ≤ nt → BD f → k' ≤ nt ∧ k ≤ k' ∧ lv ≤ lv' ∧ BD f' ∧ ∀ m, n ≤ m → ∀ live b0 v b1, ER (f e) live b0 v b1 → ∃ v' b3, T_sumOf_o_L6 N ff x6 m (bz live) v (evS M (base + k) b1) = x6 v' (evS M (base + k') b3) ∧ ER (f' e) live b0 v' b3 := by
  intro n
  induction n with
  | zero => intro k lv f k' lv' f' hc; cases hc
  | succ n ih =>
    intro k lv f k' lv' f' hc hk hbf
    unfold pChain at hc
    by_cases hm : isAdd (cd k) = true
    · rw [if_pos hm] at hc
      have hk1 : k < nt := te_lt h (by intro z; rw [z] at hm; exact absurd hm (by decide))
      cases hi : item (k + 1) lv with
      | inl q => rw [hi] at hc; cases hc
      | inr r =>
        obtain ⟨k1, lv1, g⟩ := r
        rw [hi] at hc
        obtain ⟨p1, p2, p3, p4, p5⟩ := hp _ _ _ _ _ hi (by omega)
        obtain ⟨i1, i2, i3, i4, i5⟩ := ih _ _ _ _ _ _ hc p1 (joinS_b hbf)
        refine ⟨i1, by omega, by omega, i4, fun m hm' live b0 v b1 hf => ?_⟩
        obtain ⟨m', rfl⟩ : ∃ m', m = m' + 1 := ⟨m - 1, by omega⟩
        obtain ⟨w, b2, t1, t2⟩ := p5 live b1
        obtain ⟨v', b3, s1, s2⟩ := te_addS (c6 := T_sumOf_o_L6 N ff x6 m') h (by omega) hm hf t1 t2
        obtain ⟨v'', b4, r1, r2⟩ := i5 m' (by omega) live b0 v' b3 s2
        refine ⟨v'', b4, ?_, r2⟩
        rw [← r1, ← s1, T_sumOf_o_L6, evS_g, te_code h (by omega)]
        unfold T_sign
        rw [Option.bind_some, Option.bind_some, show (100 : Int32) + 43 = 143 from by decide]
        by_cases c1 : cd k = 143
        · rw [if_pos c1]
        rw [if_neg c1, Option.bind_some, Option.bind_some, show (100 : Int32) + 45 = 145 from by decide]
        unfold isAdd at hm
        simp only [c1, decide_false, Bool.false_or, decide_eq_true_eq] at hm
        rw [if_pos hm]
    · rw [if_neg hm] at hc
      cases hc
      refine ⟨hk, Nat.le_refl _, Nat.le_refl _, hbf, fun m hm' live b0 v b1 hf => ?_⟩
      obtain ⟨m', rfl⟩ : ∃ m', m = m' + 1 := ⟨m - 1, by omega⟩
      refine ⟨v, b1, ?_, hf⟩
      unfold isAdd at hm
      simp only [Bool.or_eq_true, decide_eq_true_eq, not_or] at hm
      rw [T_sumOf_o_L6, evS_g, te_code h (by omega)]
      unfold T_sign
      rw [Option.bind_some, Option.bind_some, show (100 : Int32) + 43 = 143 from by decide, if_neg hm.1, Option.bind_some, Option.bind_some, show (100 : Int32) + 45 = 145 from by decide, if_neg hm.2]
theorem te_sumO (h : TE N M od cd vl base nt e) (he : EB e) {F : Nat} (hF : F ≤ N) {part : Nat → Nat → PR SDn} {ff : Int32 → TM → Option (Int64 × TM)} (hp : Hp1 N M base nt e part (T_partOf N ff)) : Hp1 N M base nt e (pSumOf cd F part) (T_sumOf_o N ff) := by
  intro k lv k' lv' f hc hk
  have ht := te_term h he hF hp
  unfold pSumOf at hc
  cases hi : pTermOf cd F part k lv with
  | inl q => rw [hi] at hc; cases hc
  | inr r =>
    obtain ⟨k1, lv1, g⟩ := r
    rw [hi] at hc
    obtain ⟨p1, p2, p3, p4, p5⟩ := ht _ _ _ _ _ hi hk
    obtain ⟨i1, i2, i3, i4, i5⟩ := te_chA (x6 := fun v M => some (v, M)) h ht _ _ _ _ _ _ _ hc p1 p4
    refine ⟨i1, by omega, by omega, i4, fun live b => ?_⟩
    obtain ⟨v, b1, t1, t2⟩ := p5 live b
    obtain ⟨v', b3, r1, r2⟩ := i5 N hF live b v b1 t2
    refine ⟨v', b3, ?_, r2⟩
    unfold T_sumOf_o
    rw [t1, bd2_some]
    exact r1
theorem BD_env (w k : Nat) : BD (fun e => some (e w k)) := by
  intro e he x hx
  cases hx
  exact he w k
theorem BD_num {n : Int32} (h : n ≤ 1000) (h0 : -1000000000 ≤ n.toInt) : BD (fun _ => some n.toInt64) := by
  intro e he x hx
  cases hx
  rw [Int32.toInt_toInt64]
  rw [Int32.le_iff_toInt_le] at h
  have : (1000 : Int32).toInt = 1000 := by decide
  omega
/-- numbers on the row are not below 0 -/
def VN (vl : Nat → Int32) : Prop := ∀ k, 0 ≤ (vl k).toInt
/-- no bracket: the Model's way to the value -/
theorem te_partS (h : TE N M od cd vl base nt e) {k : Nat} (hk : k ≤ nt) (h91 : cd k ≠ 191) (ff : Int32 → TM → Option (Int64 × TM)) (live b : Bool) : T_partOf N ff (bz live) (evS M (base + k) b) = if od = true ∧ (cd k = 14 ∨ cd k = 20) then T_partOf_J70 N ff (bz live) (cd k) (evS M (base + (k + 1)) b) else T_partOf_J94 N ff (bz live) (cd k) 0 (evS M (base + (k + 1)) b) := by
  unfold T_partOf T_sign
  rw [Option.bind_some, show (100 : Int32) + 91 = 191 from by decide, te_pass h hk, bd2_some, decide_eq_false h91, if_pos (by rfl), if_neg h91, evS_g, te_code h hk, Option.bind_some, show (1 : Int32) = nn 1 from rfl, nn_add, evS_22, Option.bind_some, evS_o _ _ _ (by decide) (by decide), h.2.2.2.2.2.2.1, Nat.add_assoc]
  cases od
  · rw [if_pos (by rfl), if_neg (by rintro ⟨z, -⟩; cases z)]
  · rw [if_neg (by decide)]
    by_cases c1 : cd k = 14
    · rw [if_pos c1, if_pos ⟨rfl, Or.inl c1⟩]
    · rw [if_neg c1]
      by_cases c2 : cd k = 20
      · rw [if_pos c2, if_pos ⟨rfl, Or.inr c2⟩]
      · rw [if_neg c2, if_neg]
        rintro ⟨-, z | z⟩
        · exact c1 z
        · exact c2 z
/-- the value itself -/
theorem te_J94 {ff : Int32 → TM → Option (Int64 × TM)} {live b : Bool} {c kk : Int32} {g : Nat} {x : Int64} (hx : live = true → b = false → (if c = 50 then (tra (evS M g b) 2 5660 (((2860 : Int32) + ((evS M g b).1 22)) - (1 : Int32))).bind fun v12 => some (v12.toInt64, evS M g b) else if ((evS M g b).1 25) = 0 then (tra (evS M g b) 26 9 (c - (8 : Int32))).bind fun v10 => some (v10.toInt64, evS M g b) else (T_orderValue N (evS M g b) c kk).bind fun v11 => some (v11.toInt64, evS M g b)) = some (x, evS M g b)) : ∃ v b', T_partOf_J94 N ff (bz live) c kk (evS M g b) = some (v, evS M g b') ∧ ER (some x) live b v b' := by
  unfold T_partOf_J94
  cases live
  · rw [if_pos (by rfl)]
    exact ⟨0, b, rfl, id, fun _ => rfl, fun z => by cases z⟩
  · rw [if_neg (by decide), evS_b]
    cases b
    · rw [if_pos (by rfl)]
      exact ⟨x, false, hx rfl rfl, id, fun _ => rfl, fun _ _ => ⟨rfl, rfl⟩⟩
    · rw [if_neg (by decide)]
      exact ⟨0, true, rfl, id, fun _ => rfl, fun _ z => by cases z⟩
end TE2
