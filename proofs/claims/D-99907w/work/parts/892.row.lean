/-! PLAIN LAW: a row of books comes -/
set_option maxRecDepth 100000
def byN (n : Nat) : Int32 := (nn n).toInt8.toInt32
theorem by_ex {x : Int32} (h : isBy x) : ∃ n, n < 256 ∧ x = byN n := by
  have e : nrw 1 x = x.toInt8.toInt32 := vp_nar_byte x
  unfold isBy at h
  rw [e] at h
  refine ⟨x.toInt8.toBitVec.toNat, x.toInt8.toBitVec.isLt, ?_⟩
  unfold byN
  have h2 : (nn x.toInt8.toBitVec.toNat).toInt8 = x.toInt8 := by
    apply Int8.toBitVec_inj.1
    rw [Int32.toBitVec_toInt8, nn_bv]
    apply BitVec.eq_of_toNat_eq
    have := x.toInt8.toBitVec.isLt
    rw [BitVec.signExtend_eq_setWidth_of_le _ (by omega), BitVec.toNat_setWidth, BitVec.toNat_ofNat]
    omega
  rw [h2, h]
theorem by_f : ∀ n, n < 256 → (byN n &&& 255) = nn n ∧ wi (byN n) (nn 1) (nn 9) = wi (nn n) (nn 1) (nn 9) ∧ wi (byN n) (nn 0) (nn 3) = wi (nn n) (nn 0) (nn 3) ∧ (wi (nn n) (nn 1) (nn 9) = true → byN n = nn n) ∧ (wi (nn n) (nn 0) (nn 3) = true → byN n = nn n) := by decide +kernel
theorem up2_up2 (S : Nat → Nat → Int32) (a c : Nat) (x y : Int32) : up2 (up2 S a c x) a c y = up2 S a c y := by
  funext g i
  unfold up2
  by_cases z : g = a ∧ i = c
  · rw [if_pos z, if_pos z]
  · rw [if_neg z, if_neg z, if_neg z]
theorem up2_id {S : Nat → Nat → Int32} {a c : Nat} {x : Int32} (h : S a c = x) : up2 S a c x = S := by
  funext g i
  unfold up2
  by_cases z : g = a ∧ i = c
  · rw [if_pos z, z.1, z.2, h]
  · rw [if_neg z]
theorem addS_up (b : Nat) (x y z : Int32) (S : Nat → Nat → Int32) (v : Int32) : addS b x y z (up2 S 1 2 v) = up2 (addS b x y z S) 1 2 v := by
  funext g i
  unfold addS up2
  by_cases h : g = 0
  · subst h
    simp
  · simp [h]
theorem noU_up (S : Nat → Nat → Int32) (v : Int32) : noU (up2 S 1 2 v) = up2 (noU S) 1 2 v := by
  funext g i
  unfold noU up2
  by_cases h : g = 4
  · subst h
    simp
  · by_cases h1 : g = 1
    · subst h1
      by_cases h2 : i = 2
      · subst h2; simp
      · simp [h2]
    · simp [h, h1]
theorem noU_add (b : Nat) (x y z : Int32) (S : Nat → Nat → Int32) : noU (addS b x y z (noU S)) = noU (addS b x y z S) := by
  funext g i
  unfold addS
  by_cases h : g = 4
  · subst h
    rfl
  · rw [noU_n _ _ h, noU_n _ _ h]
    by_cases h0 : g = 0
    · subst h0
      unfold up2
      simp [noU, up2]
    · unfold up2
      by_cases h1 : g = 1 ∧ i = 5
      · rw [if_pos h1, if_pos h1]
      · rw [if_neg h1, if_neg h1]
        simp [h0, noU, up2, h, h1]
theorem noU_up15 (S : Nat → Nat → Int32) : noU (noU S) = noU S := by
  funext g i
  by_cases h : g = 4
  · subst h
    rfl
  · rw [noU_n _ _ h, noU_n _ _ h]
    unfold up2
    by_cases h1 : g = 1 ∧ i = 5
    · rw [if_pos h1, if_pos h1]
    · rw [if_neg h1, if_neg h1, noU_n _ _ h, up2_n _ _ h1]
theorem nz_ok {nz b : Nat} (hz : nz < 256) (hb : b ≤ 8) : sd nz (2 ^ b - 1) = 0 ↔ nz < 2 ^ b := by
  rw [sd_0 hz]
  constructor
  · intro h
    have := su_le h
    have := Nat.two_pow_pos b
    omega
  · intro h k hk
    rw [tb_all, decide_eq_true_eq]
    apply Classical.byContradiction
    intro hn
    have h2 : 2 ^ b ≤ 2 ^ k := Nat.pow_le_pow_right (by omega) (by omega)
    rw [Nat.testBit_lt_two_pow (by omega)] at hk
    cases hk
/-- bytes lie at a, apart from all places -/
def BL (hb : Hp) (a n : Nat) (f : Nat → Int32) : Hp := (hb.1, hb.2.1, hb.2.2.1, fun j => if j = a then some (.inl (1, n, .inl f)) else hb.2.2.2 j)
section RO
variable {A : AT} {X : XT} {hb : Hp} {M : TM} {D : List CDn} {b l s t u N : Nat} {a n : Nat} {f : Nat → Int32}
theorem ar_BL (h : ∀ j, j < nP → A.1 j ≠ a) : ar (ovC A X (BL hb a n f)) a 1 = some (n, .inl f) := by
  have h2 : (BL hb a n f).2.2.2 a = some (.inl (1, n, .inl f)) := by
    show (if a = a then _ else _) = _
    rw [if_pos rfl]
  unfold ar
  rw [oc_off h, h2]
  rfl
theorem byc_in {β : Type} (h : ∀ j, j < nP → A.1 j ≠ a) {i : Nat} (hi : i < n) (hn : n < 512) {F : Int32 → Option β} {g : Option β} : byc (C_byteAt (ovC A X (BL hb a n f)) a (nn i)) (ovC A X (BL hb a n f)) a (nn i) F g = F (f i &&& 255) := by
  unfold byc
  rw [ar_BL h]
  show (if inb (nn i) n = true then _ else _) = _
  rw [inb_nn (by omega), decide_eq_true hi, if_pos rfl]
  unfold C_byteAt aI arI
  rw [ar_BL h]
  show ((if inb (nn i) n = true then some (f (nn i).toNatClampNeg) else none).bind fun v21 => some (v21 &&& (255 : Int32))).bind F = _
  rw [inb_nn (by omega), decide_eq_true hi, if_pos rfl, nn_cl (by omega)]
  rfl
theorem byc_out {β : Type} (h : ∀ j, j < nP → A.1 j ≠ a) {i : Nat} (hi : i = n) (hn : n < 512) {F : Int32 → Option β} {g : Option β} {c : Option Int32} : byc c (ovC A X (BL hb a n f)) a (nn i) F g = g := by
  subst hi
  unfold byc
  rw [ar_BL h]
  show (if inb (nn i) i = true then _ else if i < 512 ∧ nn i = Int32.ofNat (i + 0) then g else _) = _
  rw [inb_nn (by omega), decide_eq_false (by omega), if_neg (by decide), if_pos ⟨hn, rfl⟩]
theorem alen_BL (h : ∀ j, j < nP → A.1 j ≠ a) : alen (ovC A X (BL hb a n f)) a 1 = some (nn n) := by
  unfold alen
  rw [ar_BL h]
  rfl
theorem rowT0 {c40 : Int32 → Int32 → Int32 → TM → Option (Int32 × TM)} {sz came i c : Nat} {z : Int32} (h : M.1 6 = nn c) : T_row_J105 N c40 (nn sz) (nn came) (nn i) z M = c40 (nn sz) (nn came) (nn (i + 3)) (tsi M 6 (nn (c + 1))) := by
  unfold T_row_J105 T_row_J106
  rw [if_pos rfl]
  unfold T_row_J133 T_row_J144 T_row_J161
  rw [if_pos rfl, if_pos rfl, h, show (1 : Int32) = nn 1 from rfl, show (0 : Int32) = nn 0 from rfl, show (3 : Int32) = nn 3 from rfl, nn_add, nn_add, nn_add, Option.bind_some]
  rfl
theorem rowT1 {c40 : Int32 → Int32 → Int32 → TM → Option (Int32 × TM)} {sz came i c : Nat} (h : M.1 6 = nn c) : T_row_J133 N c40 (nn sz) (nn came) (nn i) 1 M = c40 (nn sz) (nn (came + 1)) (nn (i + 3)) (tsi M 6 (nn c)) := by
  unfold T_row_J133 T_row_J144 T_row_J161
  rw [if_neg (by decide), if_neg (by decide), h, show (1 : Int32) = nn 1 from rfl, show (0 : Int32) = nn 0 from rfl, show (3 : Int32) = nn 3 from rfl, nn_add, nn_add, nn_add, Option.bind_some]
  rfl
theorem rowC0 {c49 : Nat → Nat → Int32 → Int32 → Hp → Option (Int32 × Hp)} {came i c : Nat} (h : X.1 0 12 = nn c) : C_row_J89 N c49 (A.1 0) a (nn came) (nn i) 0 (ovC A X hb) = c49 (A.1 0) a (nn came) (nn (i + 3)) (ovC A (ws X 0 12 (nn (c + 1))) hb) := by
  unfold C_row_J89 C_row_J102
  rw [if_pos rfl, og_0_12, Option.bind_some]
  unfold C_row_J119 C_row_J203
  rw [if_pos rfl, h, show (1 : Int32) = nn 1 from rfl, show (0 : Int32) = nn 0 from rfl, show (3 : Int32) = nn 3 from rfl, nn_add, nn_add, nn_add, op_0_12, Option.bind_some]
  rfl
theorem rowC1 {c49 : Nat → Nat → Int32 → Int32 → Hp → Option (Int32 × Hp)} {came i c : Nat} (h : X.1 0 12 = nn c) : C_row_J89 N c49 (A.1 0) a (nn came) (nn i) 1 (ovC A X hb) = c49 (A.1 0) a (nn (came + 1)) (nn (i + 3)) (ovC A (ws X 0 12 (nn c)) hb) := by
  unfold C_row_J89 C_row_J102
  rw [if_neg (by decide), og_0_12, Option.bind_some]
  unfold C_row_J119 C_row_J203
  rw [if_neg (by decide), h, show (1 : Int32) = nn 1 from rfl, show (0 : Int32) = nn 0 from rfl, show (3 : Int32) = nn 3 from rfl, nn_add, nn_add, nn_add, op_0_12, Option.bind_some]
  rfl
theorem rowC2 {c49 : Nat → Nat → Int32 → Int32 → Hp → Option (Int32 × Hp)} {came i c : Nat} (h : X.1 0 12 = nn c) : C_row_J142 N c49 (A.1 0) a (nn i) (0 : Int32) (if (0 : Int32) = 0 then (0 : Int32) else (1 : Int32)) (nn came) (ovC A X hb) = c49 (A.1 0) a (nn came) (nn (i + 3)) (ovC A (ws X 0 12 (nn (c + 1))) hb) := by
  unfold C_row_J142
  rw [if_pos rfl, og_0_12, Option.bind_some]
  unfold C_row_J159 C_row_J203
  rw [if_pos rfl, h, show (1 : Int32) = nn 1 from rfl, show (0 : Int32) = nn 0 from rfl, show (3 : Int32) = nn 3 from rfl, nn_add, nn_add, nn_add, op_0_12, Option.bind_some]
  rfl
/-- both sides within a row: e slugs are told ahead by the Model -/
def RW (X : XT) (M : TM) (e c b l s t : Nat) : Prop := Mt (up2 (coC X) 1 2 (nn (c + e))) (fT M) ∧ coC X 1 2 = nn c ∧ SOb b l s t 0 (noU (fT M))
theorem RW0 {e c : Nat} (h : RW X M e c b l s t) : RW (ws X 0 12 (nn (c + 1))) (tsi M 6 (nn (c + e + 1))) e (c + 1) b l s t := by
  obtain ⟨h1, h2, h3⟩ := h
  have ec : coC (ws X 0 12 (nn (c + 1))) = up2 (coC X) 1 2 (nn (c + 1)) := co_sl
  have ef : fT (tsi M 6 (nn (c + e + 1))) = up2 (fT M) 1 2 (nn (c + e + 1)) := fT_i (i := 2) (by decide)
  refine ⟨?_, ?_, ?_⟩
  · rw [ec, ef, up2_up2]
    have := h1.up (a := 1) (c := 2) (x := nn (c + e + 1)) rfl
    rw [up2_up2] at this
    rw [show c + 1 + e = c + e + 1 by omega]
    exact this
  · rw [ec, up2_s]
  · rw [ef, noU_up]
    exact h3.up trivial
theorem RW1 {e c : Nat} {X1 : XT} {M1 : TM} {x y z : Int32} (h : RW X M e c b l s t) (h8 : b < 8) (hx : ∃ n, n ≤ 9 ∧ x = nn n) (hy : ∃ n, n ≤ 3 ∧ y = nn n) (hz : ∃ n, n < 2 ^ b ∧ z = nn n) (hX : coC X1 = addS b x y z (coC X)) (hM : fT M1 = addS b x y z (fT M)) : RW (ws X1 0 12 (nn c)) (tsi M1 6 (nn (c + e))) e c (b + 1) l s t := by
  obtain ⟨h1, h2, h3⟩ := h
  have ec : coC (ws X1 0 12 (nn c)) = up2 (coC X1) 1 2 (nn c) := co_sl
  have ef : fT (tsi M1 6 (nn (c + e))) = up2 (fT M1) 1 2 (nn (c + e)) := fT_i (i := 2) (by decide)
  refine ⟨?_, ?_, ?_⟩
  · rw [ec, ef, up2_up2, hX, hM]
    have := (Mt_add h1 b x y z).up (a := 1) (c := 2) (x := nn (c + e)) rfl
    rw [addS_up, up2_up2] at this
    exact this
  · rw [ec, up2_s]
  · rw [ef, noU_up, hM, ← noU_add]
    exact (SOb_add h3 h8 hx hy hz).up trivial
/-- one book of a row: both sides -/
theorem row_step {x : Nat → Int32 → Hp → Option (Int32 × Hp)} {y : Int32 → TM → Option (Int32 × TM)} {e c i came m m' : Nat} (ha : ∀ j, j < nP → A.1 j ≠ a) (hn : n ≤ 400) (hi : i + 3 ≤ n) (hW : RW X M e c b l s t) (hf : ∀ k, k < n → fT M 3 k = f k ∧ isBy (f k)) : ∃ X' M' b' c' came', C_row_L49 N x (m + 1) (A.1 0) a (nn came) (nn i) (ovC A X (BL hb a n f)) = C_row_L49 N x m (A.1 0) a (nn came') (nn (i + 3)) (ovC A X' (BL hb a n f)) ∧ T_row_L40 N y (m' + 1) (nn n) (nn came) (nn i) M = T_row_L40 N y m' (nn n) (nn came') (nn (i + 3)) M' ∧ RW X' M' e c' b' l s t ∧ X'.2.2 = X.2.2 ∧ (∀ g, 6 ≤ g → fT M' g = fT M g) ∧ fT M' 3 = fT M 3 ∧ came' ≤ came + 1 := by
  have h8 := hW.2.2.1.1
  have hnb : fT M 0 48 = nn b := by
    have := hW.2.2.nb
    rw [noU_n _ _ (by omega), up2_n _ _ (by omega)] at this
    exact this
  have hnb' : coC X 0 48 = nn b := by
    have := hW.1.at (g := 0) (by omega) 48
    rw [up2_n _ _ (by omega)] at this
    rw [this, hnb]
  have h12 : X.1 0 12 = nn c := by rw [cr_sl, hW.2.1]
  have h6 : M.1 6 = nn (c + e) := by
    rw [show M.1 6 = fT M 1 2 from fT_1 (i := 2) (by omega), ← hW.1.at (by omega), up2_s]
  obtain ⟨nx, nx1, nx2⟩ := by_ex (hf i (by omega)).2
  obtain ⟨ny, ny1, ny2⟩ := by_ex (hf (i + 1) (by omega)).2
  obtain ⟨nz, nz1, nz2⟩ := by_ex (hf (i + 2) (by omega)).2
  obtain ⟨x1, x2, _, x4, _⟩ := by_f nx nx1
  obtain ⟨y1, _, y3, _, y5⟩ := by_f ny ny1
  obtain ⟨z1, _⟩ := by_f nz nz1
  have tx : M.2.2.1 11 i = byN nx := by rw [fT_3 (by omega), (hf i (by omega)).1, nx2]
  have ty : M.2.2.1 11 (i + 1) = byN ny := by rw [fT_3 (by omega), (hf (i + 1) (by omega)).1, ny2]
  have tz : M.2.2.1 11 (i + 2) = byN nz := by rw [fT_3 (by omega), (hf (i + 2) (by omega)).1, nz2]
  have eC : ∀ v h', C_come (A.1 0) (nn nx) (nn ny) (nn nz) (ovC A X (BL hb a n f)) = some (v, h') → C_row_L49 N x (m + 1) (A.1 0) a (nn came) (nn i) (ovC A X (BL hb a n f)) = C_row_J89 N (C_row_L49 N x m) (A.1 0) a (nn came) (nn i) (if v < 0 then (0 : Int32) else (1 : Int32)) h' := by
    intro v h' hv
    rw [C_row_L49, alen_BL ha, Option.bind_some, if_neg (by rw [nn_le (by omega) (by omega)]; omega), byc_in ha (by omega) (by omega), show (1 : Int32) = nn 1 from rfl, show (2 : Int32) = nn 2 from rfl, nn_add, nn_add, byc_in ha (by omega) (by omega), byc_in ha (by omega) (by omega), nx2, ny2, nz2, x1, y1, z1, hv, bd2_some]
  have eT : ∀ r, (if (8 : Int32) ≤ nn b then T_row_J105 N (T_row_L40 N y m') (nn n) (nn came) (nn i) (nn nz) M else if bz (wi (nn nx) (nn 1) (nn 9) && wi (nn ny) (nn 0) (nn 3)) = 0 then T_row_J105 N (T_row_L40 N y m') (nn n) (nn came) (nn i) (nn nz) M else if nn (2 ^ b) ≤ nn nz then T_row_J105 N (T_row_L40 N y m') (nn n) (nn came) (nn i) (nn nz) M else (T_adds (byN nx) (byN ny) (nn nz) M).bind fun M46 => T_row_J133 N (T_row_L40 N y m') (nn n) (nn came) (nn i) 1 M46) = r → T_row_L40 N y (m' + 1) (nn n) (nn came) (nn i) M = r := by
    intro r hr
    rw [← hr]
    rw [T_row_L40, show (3 : Int32) = nn 3 from rfl, show (2 : Int32) = nn 2 from rfl, nn_add, nn_add, if_neg (by rw [nn_lt (by omega) (by omega)]; omega), tra_nn (by omega) (by omega), Option.bind_some, T_bM, hnb, Option.bind_some, Option.bind_some, tra_nn (by omega) (by omega), Option.bind_some, show (1 : Int32) = nn 1 from rfl, nn_add, tra_nn (by omega) (by omega), Option.bind_some, tx, ty, tz, z1, T_canB, Option.bind_some, x2, y3, show nn 1 <<< (nn b &&& 31) = nn (2 ^ b) from sh_nn (by omega)]
    unfold T_row_J106
    rw [if_neg (show ¬ nn 1 = 0 by decide), tra_nn (by omega) (by omega), Option.bind_some, show (1 : Int32) = nn 1 from rfl, nn_add, tra_nn (by omega) (by omega), Option.bind_some, tx, ty]
  have h88 : ((8 : Int32) ≤ nn b) = (8 ≤ b) := nn_le (a := 8) (by omega) (by omega)
  have h2b := pw_le h8
  have hpz : (nn (2 ^ b) ≤ nn nz) = (2 ^ b ≤ nz) := nn_le (by omega) (by omega)
  have hno : ∀ v, (v : Int32) < 0 → C_come (A.1 0) (nn nx) (nn ny) (nn nz) (ovC A X (BL hb a n f)) = some (v, ovC A X (BL hb a n f)) → T_row_L40 N y (m' + 1) (nn n) (nn came) (nn i) M = T_row_J105 N (T_row_L40 N y m') (nn n) (nn came) (nn i) (nn nz) M → ∃ X' M' b' c' came', C_row_L49 N x (m + 1) (A.1 0) a (nn came) (nn i) (ovC A X (BL hb a n f)) = C_row_L49 N x m (A.1 0) a (nn came') (nn (i + 3)) (ovC A X' (BL hb a n f)) ∧ T_row_L40 N y (m' + 1) (nn n) (nn came) (nn i) M = T_row_L40 N y m' (nn n) (nn came') (nn (i + 3)) M' ∧ RW X' M' e c' b' l s t ∧ X'.2.2 = X.2.2 ∧ (∀ g, 6 ≤ g → fT M' g = fT M g) ∧ fT M' 3 = fT M 3 ∧ came' ≤ came + 1 := by
    intro v hv h1 h2
    have ef : fT (tsi M 6 (nn (c + e + 1))) = up2 (fT M) 1 2 (nn (c + e + 1)) := fT_i (i := 2) (by decide)
    refine ⟨ws X 0 12 (nn (c + 1)), tsi M 6 (nn (c + e + 1)), b, c + 1, came, ?_, ?_, RW0 hW, rfl, fun g hg => ?_, ?_, by omega⟩
    · rw [eC _ _ h1, if_pos hv, rowC0 h12]
    · rw [h2, rowT0 h6]
    · rw [ef, up2_g _ _ (by omega)]
    · rw [ef, up2_g _ _ (by omega)]
  cases hP : (wi (nn nx) (nn 1) (nn 9) && wi (nn ny) (nn 0) (nn 3))
  · refine hno (-nn 1) (by decide) (C_comeN hP) (eT _ ?_)
    rw [hP]
    by_cases hb8 : 8 ≤ b
    · rw [if_pos (by rw [h88]; exact hb8)]
    · rw [if_neg (by rw [h88]; exact hb8), if_pos (by rfl)]
  · have hsd : nn nz &&& (nn (2 ^ b - 1) ^^^ (-1 : Int32)) = nn (sd nz (2 ^ b - 1)) := dif_nn nz1
    have hsl : sd nz (2 ^ b - 1) < 2 ^ 8 := sd_lt nz1
    have hz0 : (nn (sd nz (2 ^ b - 1)) = 0) = (sd nz (2 ^ b - 1) = 0) := nn_z (by omega)
    by_cases hz : nz < 2 ^ b
    · have hz1 : (nn nz &&& (nn (2 ^ b - 1) ^^^ (-1 : Int32))) = 0 := by rw [hsd, hz0]; exact (nz_ok nz1 h8).mpr hz
      by_cases hb8 : b = 8
      · refine hno (-nn 5) (by decide) (C_comeY hnb' h8 hP _ (by rw [if_pos hz1, if_pos hb8])) (eT _ ?_)
        rw [if_pos (by rw [h88]; omega)]
      · have hlt : b < 8 := by omega
        have hc := C_comeY (A := A) (hb := BL hb a n f) hnb' h8 hP _ (by rw [if_pos hz1, if_neg hb8])
        rw [Bool.and_eq_true] at hP
        obtain ⟨M1, m1, m2⟩ := T_add hnb hlt (nn nx) (nn ny) (nn nz)
        have hx9 : ∃ n, n ≤ 9 ∧ nn nx = nn n := by
          obtain ⟨k, k1, k2, k3⟩ := wi_k (n := 1) (m := 9) (by omega) (by omega) hP.1
          exact ⟨k, k2, k3⟩
        have hy3 : ∃ n, n ≤ 3 ∧ nn ny = nn n := by
          obtain ⟨k, k1, k2, k3⟩ := wi_k (n := 0) (m := 3) (by omega) (by omega) hP.2
          exact ⟨k, k2, k3⟩
        have h12' : (ws (ws (ws (ws (ws X 2 b (nn nx)) 3 b (nn ny)) 4 b (nn nz)) 15 1 (X.1 15 1 &&& (((1 : Int32) <<< (nn b &&& 31)) ^^^ (-1 : Int32)))) 1 8 (nn (b + 1))).1 0 12 = nn c := by
          simp only [ws_at]
          simp [h12]
        have h6' : M1.1 6 = nn (c + e) := by
          rw [show M1.1 6 = fT M1 1 2 from fT_1 (i := 2) (by omega), m2, ← h6, show M.1 6 = fT M 1 2 from fT_1 (i := 2) (by omega)]
          rfl
        have ef : fT (tsi M1 6 (nn (c + e))) = up2 (fT M1) 1 2 (nn (c + e)) := fT_i (i := 2) (by decide)
        refine ⟨_, tsi M1 6 (nn (c + e)), b + 1, c, came + 1, ?_, eT _ ?_, RW1 hW hlt hx9 hy3 ⟨nz, hz, rfl⟩ (co_come hlt) m2, rfl, fun g hg => ?_, ?_, by omega⟩
        · rw [eC _ _ hc, if_neg (nn_neg (by omega)), rowC1 h12']
        · rw [if_neg (by rw [h88]; omega), Bool.and_eq_true _ _ |>.mpr hP, if_neg (by decide), if_neg (by rw [hpz]; omega), x4 hP.1, y5 hP.2, m1, Option.bind_some, rowT1 h6']
        · rw [ef, up2_g _ _ (by omega), m2]
          unfold addS
          rw [up2_g _ _ (by omega), up2_g _ _ (by omega), up2_g _ _ (by omega), up2_g _ _ (by omega), up2_g _ _ (by omega)]
        · rw [ef, up2_g _ _ (by omega), m2]
          unfold addS
          rw [up2_g _ _ (by omega), up2_g _ _ (by omega), up2_g _ _ (by omega), up2_g _ _ (by omega), up2_g _ _ (by omega)]
    · have hz1 : ¬ (nn nz &&& (nn (2 ^ b - 1) ^^^ (-1 : Int32))) = 0 := by rw [hsd, hz0]; exact fun z => hz ((nz_ok nz1 h8).mp z)
      refine hno (-nn 1) (by decide) (C_comeY hnb' h8 hP _ (by rw [if_neg hz1])) (eT _ ?_)
      by_cases hb8 : 8 ≤ b
      · rw [if_pos (by rw [h88]; exact hb8)]
      · rw [if_neg (by rw [h88]; exact hb8), hP, if_neg (by decide), if_pos (by rw [hpz]; omega)]
end RO
