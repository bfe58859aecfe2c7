/-! PLAIN LAW: room that a call takes; the tape is fed; what was drawn -/
set_option maxRecDepth 100000
/-- nothing lies at what is not given out yet -/
def HI (A : AT) (hb : Hp) : Prop := (∀ j, j < nP → A.1 j < hb.1) ∧ ∀ a, hb.1 ≤ a → hb.2.2.2 a = none
/-- a heap goes on: at most k cells, m slots more -/
def Gx (k m : Nat) (hb hb' : Hp) : Prop := hb.1 ≤ hb'.1 ∧ hb'.1 ≤ hb.1 + k ∧ hb.2.1 ≤ hb'.2.1 ∧ hb'.2.1 ≤ hb.2.1 + m ∧ hb'.2.2.1 = hb.2.2.1 ∧ Ex hb hb' ∧ (∀ a, a < hb.1 → hb.2.2.2 a = none → hb'.2.2.2 a = none) ∧ ∀ a, hb'.1 ≤ a → hb'.2.2.2 a = none
theorem Gx_td {k m : Nat} {A : AT} {hb hb' : Hp} (h : Td hb hb') (hi : HI A hb) : Gx k m hb hb' := ⟨by rw [h.1]; exact Nat.le_refl _, by rw [h.1]; omega, by rw [h.2.1]; exact Nat.le_refl _, by rw [h.2.1]; omega, h.2.2.1, h.2.2.2.1, fun a _ => h.2.2.2.2 a, fun a ha => h.2.2.2.2 a (hi.2 a (by rw [h.1] at ha; exact ha))⟩
theorem Gx_trans {k m k' m' : Nat} {h1 h2 h3 : Hp} (a : Gx k m h1 h2) (b : Gx k' m' h2 h3) : Gx (k + k') (m + m') h1 h3 := by
  obtain ⟨a1, a2, a3, a4, a5, a6, a7, a8⟩ := a
  obtain ⟨b1, b2, b3, b4, b5, b6, b7, b8⟩ := b
  refine ⟨by omega, by omega, by omega, by omega, by rw [b5, a5], Ex_trans a6 b6, fun x hx h => b7 x (by omega) (a7 x hx h), b8⟩
theorem Gx_le {k m k' m' : Nat} {h1 h2 : Hp} (a : Gx k m h1 h2) (hk : k ≤ k') (hm : m ≤ m') : Gx k' m' h1 h2 := by
  obtain ⟨a1, a2, a3, a4, a5, a6, a7, a8⟩ := a
  exact ⟨a1, by omega, a3, by omega, a5, a6, a7, a8⟩
theorem HI_gx {k m : Nat} {A : AT} {hb hb' : Hp} (h : HI A hb) (g : Gx k m hb hb') : HI A hb' := ⟨fun j hj => Nat.lt_of_lt_of_le (h.1 j hj) g.1, g.2.2.2.2.2.2.2⟩
theorem NB_gx {k m : Nat} {A : AT} {hb hb' : Hp} (h : HI A hb) (n : NB A hb) (g : Gx k m hb hb') : NB A hb' := fun j hj => g.2.2.2.2.2.2.1 _ (h.1 j hj) (n j hj)
theorem HI_A {A A' : AT} {hb : Hp} (h : HI A hb) (hA : samA A A') : HI A' hb := ⟨fun j hj => by
  obtain ⟨i, hi, e⟩ := hA.2 j hj
  rw [e]
  exact h.1 i hi, h.2⟩
/-- one call: equal answers, the states again alike, room told -/
def OpG {α : Type} (A : AT) (X : XT) (hb : Hp) (M : TM) (t : Nat) (C : Hp → Option (α × Hp)) (T : TM → Option (α × TM)) : Prop := ∃ v A' X' hb' M', C (ovC A X hb) = some (v, ovC A' X' hb') ∧ T M = some (v, M') ∧ Mt (coC X') (fT M') ∧ (∃ b l s u, SOb b l s t u (fT M')) ∧ X'.2.2 = X.2.2 ∧ Gx 18756 85714 hb hb' ∧ samA A A' ∧ ∀ g, 6 ≤ g → fT M' g = fT M g
theorem OpG_l {A : AT} {X : XT} {hb : Hp} {M : TM} {t : Nat} {C : Hp → Option (Int32 × Hp)} {T : TM → Option (Int32 × TM)} (hi : HI A hb) (h : OpL A X hb M t C T) : OpG A X hb M t C T := by
  obtain ⟨v, A', X', hb', M', h1, h2, h3, h4, h5, h6, h7⟩ := h
  exact ⟨v, A', X', hb', M', h1, h2, h3, h4, h5, Gx_td h6 hi, h7⟩
/-- bytes are laid on the tape -/
def w3 (S : Nat → Nat → Int32) (tp k : Nat) (F : Nat → Int32) : Nat → Nat → Int32 := fun g i => if g = 3 ∧ tp ≤ i ∧ i < tp + k then F (i - tp) else S g i
def feS (S : Nat → Nat → Int32) (tp k : Nat) (F : Nat → Int32) : Nat → Nat → Int32 := up2 (w3 S tp k F) 1 4 (nn (tp + k))
def bv (v : Int32) (k : Nat) : Int32 := nrw 1 ((v >>> (nn (24 - 8 * k) &&& 31)).toInt8.toInt32)
theorem bv_by (v : Int32) (k : Nat) : isBy (bv v k) := by
  have e : ∀ x : Int32, nrw 1 x = x.toInt8.toInt32 := fun x => vp_nar_byte x
  unfold isBy bv
  rw [e, e]
  simp
theorem w3_s (S : Nat → Nat → Int32) (tp k : Nat) (F : Nat → Int32) : up2 (w3 S tp k F) 3 (tp + k) (F k) = w3 S tp (k + 1) F := by
  funext g i
  unfold up2 w3
  by_cases h : g = 3 ∧ i = tp + k
  · rw [if_pos h, if_pos ⟨h.1, by omega, by omega⟩]
    exact congrArg F (by omega)
  · rw [if_neg h]
    by_cases h2 : g = 3 ∧ tp ≤ i ∧ i < tp + k
    · rw [if_pos h2, if_pos ⟨h2.1, h2.2.1, by omega⟩]
    · rw [if_neg h2, if_neg]
      rintro ⟨z1, z2, z3⟩
      by_cases z4 : i = tp + k
      · exact h ⟨z1, z4⟩
      · exact h2 ⟨z1, z2, by omega⟩
theorem fe_s (S : Nat → Nat → Int32) (tp k : Nat) (F : Nat → Int32) : up2 (up2 (feS S tp k F) 3 (tp + k) (F k)) 1 4 (nn (tp + k + 1)) = feS S tp (k + 1) F := by
  unfold feS
  rw [← w3_s]
  funext g i
  unfold up2
  by_cases h : g = 1 ∧ i = 4
  · rw [if_pos h, if_pos h]
    rfl
  · rw [if_neg h, if_neg h]
    by_cases h2 : g = 3 ∧ i = tp + k
    · rw [if_pos h2, if_neg h]
    · rw [if_neg h2, if_neg h]
theorem Mt_fe {S S' : Nat → Nat → Int32} (h : Mt S S') (tp k : Nat) (F : Nat → Int32) : Mt (feS S tp k F) (feS S' tp k F) := by
  unfold feS
  apply Mt.up _ rfl
  intro g hg
  funext i
  unfold w3
  rw [h g hg]
theorem SOb_fe {b l s t u : Nat} {S : Nat → Nat → Int32} (h : SOb b l s t u S) {tp k : Nat} (hk : tp + k ≤ 400) {F : Nat → Int32} (hF : ∀ j, isBy (F j)) : SOb b l s t u (feS S tp k F) := by
  unfold feS
  refine SOb.up (⟨h.1, fun g i => ?_⟩) ⟨_, hk, rfl⟩
  unfold w3
  split
  · next z =>
    obtain ⟨rfl, _⟩ := z
    exact hF _
  · exact h.2 g i
section FD
variable {A : AT} {X : XT} {hb : Hp} {M : TM} {D : List CDn} {b l s t u N : Nat}
theorem C_four1 {S : Nat → Nat → Int32} {tp k : Nat} {F : Nat → Int32} {x : Hp → Option Hp} {n : Nat} {v by' : Int32} {j : Nat} (hX : coC X = feS S tp k F) (hk : tp + k < 400) (hy : by' = nn (24 - 8 * j)) (hF : F k = bv v j) : ∃ X', C_four_L3 N x (n + 1) (A.1 0) v by' (ovC A X hb) = C_four_L3 N x n (A.1 0) v (by' + (-8 : Int32)) (ovC A X' hb) ∧ coC X' = feS S tp (k + 1) F ∧ X'.2 = X.2 := by
  have htp : X.1 0 15 = nn (tp + k) := by
    rw [cr_td, hX]
    unfold feS
    rw [up2_s]
  refine ⟨ws (ws X 35 (tp + k) (bv v j)) 0 15 (nn (tp + k + 1)), ?_, ?_, rfl⟩
  · rw [C_four_L3, if_neg (by rw [hy]; exact nn_neg (by omega)), og_0_14, Option.bind_some, og_0_15, Option.bind_some, htp, os_35 (by omega), Option.bind_some, og_0_15, Option.bind_some, ws_at, if_neg (by omega), htp, show (1 : Int32) = nn 1 from rfl, nn_add, op_0_15, Option.bind_some, hy]
    rfl
  · rw [co_td, co_tape (by omega), hX, ← hF, fe_s]
theorem C_fou (hN : 20000 ≤ N) {S : Nat → Nat → Int32} {tp k : Nat} {F : Nat → Int32} {v : Int32} (hX : coC X = feS S tp k F) (hk : tp + k + 4 ≤ 400) (hF : ∀ j, j < 4 → F (k + j) = bv v j) : ∃ X', C_four N (A.1 0) v (ovC A X hb) = some (ovC A X' hb) ∧ coC X' = feS S tp (k + 4) F ∧ X'.2 = X.2 := by
  obtain ⟨m, rfl⟩ : ∃ m, N = m + 5 := ⟨N - 5, by omega⟩
  obtain ⟨X1, a1, a2, a3⟩ := C_four1 (A := A) (hb := hb) (N := m + 5) (x := fun h32 => some h32) (n := m + 4) (v := v) (j := 0) (by' := 24) hX (by omega) rfl (hF 0 (by omega))
  obtain ⟨X2, b1, b2, b3⟩ := C_four1 (A := A) (hb := hb) (N := m + 5) (x := fun h32 => some h32) (n := m + 3) (v := v) (j := 1) (by' := 24 + (-8)) a2 (by omega) (by decide) (hF 1 (by omega))
  obtain ⟨X3, c1, c2, c3⟩ := C_four1 (A := A) (hb := hb) (N := m + 5) (x := fun h32 => some h32) (n := m + 2) (v := v) (j := 2) (by' := 24 + (-8) + (-8)) b2 (by omega) (by decide) (hF 2 (by omega))
  obtain ⟨X4, d1, d2, d3⟩ := C_four1 (A := A) (hb := hb) (N := m + 5) (x := fun h32 => some h32) (n := m + 1) (v := v) (j := 3) (by' := 24 + (-8) + (-8) + (-8)) c2 (by omega) (by decide) (hF 3 (by omega))
  refine ⟨X4, ?_, d2, by rw [d3, c3, b3, a3]⟩
  unfold C_four C_four_b
  rw [og_0, a1, b1, c1, d1, C_four_L3, if_pos (by decide)]
theorem feed_ar : ∀ k, k < 20 → nn k / (4 : Int32) = nn (k / 4) ∧ ((24 : Int32) - ((8 : Int32) * (nn k - nn (k / 4) * (4 : Int32)))) = nn (24 - 8 * (k % 4)) := by decide +kernel
theorem T_feedL {S : Nat → Nat → Int32} {tp : Nat} {av : Nat → Int32} {x : TM → Option (Int32 × TM)} (htp : tp + 20 ≤ 400) : ∀ (r k n : Nat) (M : TM), k + r = 20 → r < n → M.1 13 = nn tp → (∀ j, j < 5 → M.2.2.1 12 j = av j) → fT M = w3 S tp k (fun j => bv (av (j / 4)) (j % 4)) → ∃ M', T_feed_L55 N x n (nn k) M = x M' ∧ M'.1 13 = nn tp ∧ fT M' = w3 S tp 20 (fun j => bv (av (j / 4)) (j % 4)) := by
  intro r
  induction r with
  | zero =>
    intro k n M hk hn h13 h12 hS
    obtain ⟨n, rfl⟩ : ∃ m, n = m + 1 := ⟨n - 1, by omega⟩
    obtain rfl : k = 20 := by omega
    refine ⟨M, ?_, h13, hS⟩
    rw [T_feed_L55, if_pos (by decide)]
  | succ r ih =>
    intro k n M hk hn h13 h12 hS
    obtain ⟨n, rfl⟩ : ∃ m, n = m + 1 := ⟨n - 1, by omega⟩
    obtain ⟨e1, e2⟩ := feed_ar k (by omega)
    have hf : fT (tw M 11 (tp + k) (bv (av (k / 4)) (k % 4))) = w3 S tp (k + 1) (fun j => bv (av (j / 4)) (j % 4)) := by
      rw [fT_tp (by omega), hS, ← w3_s]
    obtain ⟨M', f1, f2, f3⟩ := ih (k + 1) n (tw M 11 (tp + k) (bv (av (k / 4)) (k % 4))) (by omega) (by omega) h13 (fun j hj => by rw [tw_2, if_neg (by decide)]; exact h12 j hj) hf
    refine ⟨M', ?_, f2, f3⟩
    rw [T_feed_L55, if_neg (by rw [show (20 : Int32) = nn 20 from rfl, nn_le (by omega) (by omega)]; omega), if_neg (by decide), e1, tra_nn (by omega) (by omega), Option.bind_some, if_neg (by decide), e2, h12 _ (by omega), h13, nn_add, twb_nn (by omega) (by omega), Option.bind_some, show (1 : Int32) = nn 1 from rfl, nn_add]
    exact f1
def a5F (a1 a2 a3 a4 a5 : Int32) (j : Nat) : Int32 := if j = 0 then a1 else if j = 1 then a2 else if j = 2 then a3 else if j = 3 then a4 else a5
def fdF (a1 a2 a3 a4 a5 : Int32) (j : Nat) : Int32 := bv (a5F a1 a2 a3 a4 a5 (j / 4)) (j % 4)
theorem fd_at (a1 a2 a3 a4 a5 : Int32) {q j : Nat} (hj : j < 4) : fdF a1 a2 a3 a4 a5 (4 * q + j) = bv (a5F a1 a2 a3 a4 a5 q) j := by
  unfold fdF
  rw [show (4 * q + j) / 4 = q by omega, show (4 * q + j) % 4 = j by omega]
theorem tw5_at (M : TM) (a1 a2 a3 a4 a5 : Int32) {j : Nat} (hj : j < 5) : (tw (tw (tw (tw (tw M 12 0 a1) 12 1 a2) 12 2 a3) 12 3 a4) 12 4 a5).2.2.1 12 j = a5F a1 a2 a3 a4 a5 j := by
  simp only [tw_2, if_true]
  unfold a5F upd
  have hc : j = 0 ∨ j = 1 ∨ j = 2 ∨ j = 3 ∨ j = 4 := by omega
  rcases hc with rfl | rfl | rfl | rfl | rfl <;> simp
theorem op_feed (hN : 20000 ≤ N) (h : Wk A X hb M D b l s t u) (a1 a2 a3 a4 a5 : Int32) : OpL A X hb M t (C_feed N (A.1 0) a1 a2 a3 a4 a5) (T_feed N a1 a2 a3 a4 a5) := by
  obtain ⟨tp, htp, etp⟩ := h.2.2.1.taped
  have e13 : M.1 13 = nn tp := by rw [show M.1 13 = fT M 1 4 from fT_1 (i := 4) (by omega), etp]
  have e15 : X.1 0 15 = nn tp := by rw [cr_td, h.2.1.at (by omega), etp]
  have hle : ((nn tp + (20 : Int32)) ≤ (400 : Int32)) = (tp + 20 ≤ 400) := by
    rw [show (20 : Int32) = nn 20 from rfl, show (400 : Int32) = nn 400 from rfl, nn_add, nn_le (by omega) (by omega)]
  by_cases hz : tp + 20 ≤ 400
  · have hc0 : coC X = feS (coC X) tp 0 (fdF a1 a2 a3 a4 a5) := by
      unfold feS
      funext g i
      unfold up2 w3
      by_cases z : g = 1 ∧ i = 4
      · rw [if_pos z, z.1, z.2, ← cr_td, e15]
        rfl
      · rw [if_neg z, if_neg (by omega)]
    obtain ⟨X1, p1, p2, p3⟩ := C_fou (A := A) (hb := hb) (v := a1) hN hc0 (by omega) (fun j hj => fd_at a1 a2 a3 a4 a5 (q := 0) hj)
    obtain ⟨X2, q1, q2, q3⟩ := C_fou (A := A) (hb := hb) (v := a2) hN p2 (by omega) (fun j hj => fd_at a1 a2 a3 a4 a5 (q := 1) hj)
    obtain ⟨X3, r1, r2, r3⟩ := C_fou (A := A) (hb := hb) (v := a3) hN q2 (by omega) (fun j hj => fd_at a1 a2 a3 a4 a5 (q := 2) hj)
    obtain ⟨X4, s1, s2, s3⟩ := C_fou (A := A) (hb := hb) (v := a4) hN r2 (by omega) (fun j hj => fd_at a1 a2 a3 a4 a5 (q := 3) hj)
    obtain ⟨X5, t1, t2, t3⟩ := C_fou (A := A) (hb := hb) (v := a5) hN s2 (by omega) (fun j hj => fd_at a1 a2 a3 a4 a5 (q := 4) hj)
    have h5 : X5.1 0 15 = nn (tp + 20) := by
      rw [cr_td, t2]
      unfold feS
      rw [up2_s]
    have hM5 : fT (tw (tw (tw (tw (tw M 12 0 a1) 12 1 a2) 12 2 a3) 12 3 a4) 12 4 a5) = w3 (fT M) tp 0 (fdF a1 a2 a3 a4 a5) := by
      rw [fT_tw rfl, fT_tw rfl, fT_tw rfl, fT_tw rfl, fT_tw rfl]
      funext g i
      unfold w3
      rw [if_neg (by omega)]
    obtain ⟨M', f1, f2, f3⟩ := T_feedL (N := N) (S := fT M) (tp := tp) (av := a5F a1 a2 a3 a4 a5) (x := fun M12 => (some (tsi M12 13 ((M12.1 13) + (20 : Int32)))).bind fun (M13 : TM) => some ((M13.1 13), M13)) hz 20 0 N (tw (tw (tw (tw (tw M 12 0 a1) 12 1 a2) 12 2 a3) 12 3 a4) 12 4 a5) (by omega) (by omega) e13 (fun j hj => tw5_at M a1 a2 a3 a4 a5 hj) hM5
    have hfin : fT (tsi M' 13 (nn (tp + 20))) = feS (fT M) tp 20 (fdF a1 a2 a3 a4 a5) := by
      unfold feS
      show _ = up2 (w3 (fT M) tp 20 (fun j => bv (a5F a1 a2 a3 a4 a5 (j / 4)) (j % 4))) 1 4 _
      rw [← f3]
      exact fT_i (i := 4) (by decide)
    refine ⟨nn (tp + 20), A, X5, hb, tsi M' 13 (nn (tp + 20)), ?_, ?_, ?_, ⟨b, l, s, u, ?_⟩, by rw [t3, s3, r3, q3, p3], Td_refl hb, samA_refl A, fun g hg => ?_⟩
    · unfold C_feed C_feed_b
      rw [og_0, og_0_15, Option.bind_some, e15, if_pos (by rw [hle]; exact hz), p1, Option.bind_some, q1, Option.bind_some, r1, Option.bind_some, s1, Option.bind_some, t1, Option.bind_some, og_0_15, Option.bind_some, h5]
    · unfold T_feed
      rw [e13, if_pos (by rw [hle]; exact hz), show (0 : Int32) = nn 0 from rfl, show (1 : Int32) = nn 1 from rfl, show (2 : Int32) = nn 2 from rfl, show (3 : Int32) = nn 3 from rfl, show (4 : Int32) = nn 4 from rfl, twa_nn (by omega) (by omega), Option.bind_some, twa_nn (by omega) (by omega), Option.bind_some, twa_nn (by omega) (by omega), Option.bind_some, twa_nn (by omega) (by omega), Option.bind_some, twa_nn (by omega) (by omega), Option.bind_some]
      refine f1.trans ?_
      show (some (tsi M' 13 (M'.1 13 + (20 : Int32)))).bind _ = _
      rw [f2, show (20 : Int32) = nn 20 from rfl, nn_add, Option.bind_some, tsi_1, if_pos rfl]
    · rw [t2, hfin]; exact Mt_fe h.2.1 _ _ _
    · rw [hfin]; exact SOb_fe h.2.2.1 hz (fun j => bv_by _ _)
    · rw [hfin]
      unfold feS
      rw [up2_g _ _ (by omega)]
      funext i
      unfold w3
      rw [if_neg (by omega)]
  · refine OpL_v (v := -1) h ?_ ?_
    · unfold C_feed C_feed_b
      rw [og_0, og_0_15, Option.bind_some, e15, if_neg (by rw [hle]; exact hz)]
    · unfold T_feed
      rw [e13, if_neg (by rw [hle]; exact hz)]
end FD
