/-! PLAIN LAW: the component's objects as a state of numbers, laid over a heap -/
set_option maxRecDepth 100000
/-- places: 0 LeekReadings, 1 its Bed, 2 .. 6 lengths kinds needs likes terms, 7 seen, 8 .. 13 its rows, 14 laws, 15/16 books, 17 images, 18/19 undos, 20/21 before, 22/23 ahead, 24/25 real, 26/27 drawn, 28/29 asked, 30/31 inOrders, 32/33 nothingTold, 34 refused, 35 tape, 36 change, 37 orders, 38 tried, 39 best, 40 alike; 50 + 2 i (51 + 2 i) the Books of undos, 90 + 2 i those of before -/
def nP : Nat := 130
/-- where the places lie: apart -/
abbrev AT : Type := { f : Nat → Nat // ∀ i j, i < nP → j < nP → f i = f j → i = j }
/-- ints by place, longs by place, the laws' array, the images -/
abbrev XT : Type := (Nat → Nat → Int32) × ((Nat → Nat → Int64) × (Nat × (Nat → Option Nat)))
/-- an object's class and fields: 0 an int, 1 the laws' array, p + 2 the place p -/
def oK (j : Nat) : Option (Nat × List Nat) :=
  if j = 0 then some (0, [3, 19, 20, 22, 24, 26, 30, 32, 34, 36, 0, 0, 0, 0, 37, 0, 38, 39, 40, 41, 0, 0, 0, 0, 0, 42, 0, 0, 28, 0, 0])
  else if j = 1 then some (1, [16, 4, 5, 6, 7, 8, 9, 17, 0, 0, 0, 0])
  else if j = 14 then some (20, [0, 1, 0])
  else if j = 18 then some (3, [21, 0])
  else if j = 20 then some (3, [23, 0])
  else if j = 28 then some (4, [31, 0])
  else if j = 30 then some (4, [33, 0])
  else if j = 32 then some (5, [35])
  else if j = 15 ∨ j = 22 ∨ j = 24 ∨ j = 26 ∨ (50 ≤ j ∧ j % 2 = 0) then some (2, [j + 3, 0, 0, 0])
  else none
/-- an array of ints: kind, length -/
def aK (j : Nat) : Option (Nat × Nat) :=
  if j = 2 ∨ j = 3 ∨ j = 4 ∨ j = 38 ∨ j = 39 then some (0, 8)
  else if j = 5 ∨ j = 36 ∨ j = 16 ∨ j = 23 ∨ j = 25 ∨ j = 27 ∨ (50 ≤ j ∧ j % 2 = 1) then some (0, 4)
  else if j = 6 then some (0, 3)
  else if 8 ≤ j ∧ j < 14 then some (0, 2)
  else if j = 34 then some (0, 7)
  else if j = 35 then some (1, 400)
  else if j = 37 then some (0, 256)
  else if j = 40 then some (0, 100)
  else none
def fv (A : Nat → Nat) (E c : Nat) (x : Int32) : Value := if c = 0 then .int x else if c = 1 then .ref E else .ref (A (c - 2))
def fvs (A : Nat → Nat) (E : Nat) (w : Nat → Int32) : Nat → List Nat → List Value
  | _, [] => []
  | i, c :: cs => fv A E c (w i) :: fvs A E w (i + 1) cs
/-- an array of references: kind, length, what it holds -/
def qK (A : Nat → Nat) (im : Nat → Option Nat) (j : Nat) : Nat × (Nat × (Nat → Option Nat)) :=
  if j = 7 then (4, 6, fun i => if i < 6 then some (A (8 + i)) else none)
  else if j = 17 then (5, 2, im)
  else if j = 19 then (6, 16, fun i => if i < 16 then some (A (50 + 2 * i)) else none)
  else if j = 21 then (6, 16, fun i => if i < 16 then some (A (90 + 2 * i)) else none)
  else (7, 0, fun _ => none)
def cC (A : Nat → Nat) (w : Nat → Int32) (lg : Nat → Int64) (E : Nat) (im : Nat → Option Nat) (j : Nat) : CE := match oK j with
  | some o => .inr (.inl (o.1, fvs A E w 0 o.2))
  | none => match aK j with
    | some q => .inl (q.1, q.2, .inl w)
    | none => if j = 29 ∨ j = 31 then .inl (3, 9, .inr (.inl lg)) else .inl ((qK A im j).1, (qK A im j).2.1, .inr (.inr (.inr (.inr (qK A im j).2.2))))
def cCX (A : Nat → Nat) (X : XT) (j : Nat) : CE := cC A (X.1 j) (X.2.1 j) X.2.2.1 X.2.2.2 j
/-- the component's objects over a heap -/
noncomputable def ovC (A : AT) (X : XT) (hb : Hp) : Hp := (hb.1, hb.2.1, hb.2.2.1, fun a => @dite _ (∃ j, j < nP ∧ A.1 j = a) (Classical.propDecidable _) (fun z => some (cCX A.1 X z.choose)) (fun _ => hb.2.2.2 a))
theorem oc_at {A : AT} {X : XT} {hb : Hp} {j : Nat} (h : j < nP) : (ovC A X hb).2.2.2 (A.1 j) = some (cCX A.1 X j) := by
  show @dite _ (∃ i, i < nP ∧ A.1 i = A.1 j) (Classical.propDecidable _) _ _ = _
  have z : ∃ i, i < nP ∧ A.1 i = A.1 j := ⟨j, h, rfl⟩
  rw [dif_pos z]
  have e := z.choose_spec
  rw [A.2 _ _ e.1 h e.2]
theorem oc_off {A : AT} {X : XT} {hb : Hp} {a : Nat} (h : ∀ j, j < nP → A.1 j ≠ a) : (ovC A X hb).2.2.2 a = hb.2.2.2 a := by
  show @dite _ (∃ i, i < nP ∧ A.1 i = a) (Classical.propDecidable _) _ _ = _
  rw [dif_neg]
  rintro ⟨j, h1, h2⟩
  exact h j h1 h2
theorem oc_ext {A : AT} {X' : XT} {hb' h : Hp} (h1 : h.1 = hb'.1) (h2 : h.2.1 = hb'.2.1) (h3 : h.2.2.1 = hb'.2.2.1) (hp : ∀ j, j < nP → h.2.2.2 (A.1 j) = some (cCX A.1 X' j)) (ho : ∀ a, (∀ j, j < nP → A.1 j ≠ a) → h.2.2.2 a = hb'.2.2.2 a) : h = ovC A X' hb' := by
  refine Prod.ext h1 (Prod.ext h2 (Prod.ext h3 ?_))
  funext a
  by_cases z : ∃ j, j < nP ∧ A.1 j = a
  · obtain ⟨j, hj, rfl⟩ := z
    rw [hp j hj]
    exact (oc_at hj).symm
  · have z' : ∀ j, j < nP → A.1 j ≠ a := fun j hj e => z ⟨j, hj, e⟩
    rw [ho a z']
    exact (oc_off z').symm
/-- a place's cell is changed -/
theorem oc_up {A : AT} {X X' : XT} {hb : Hp} {j : Nat} {e : CE} (hj : j < nP) (h : ∀ i, i < nP → cCX A.1 X' i = if i = j then e else cCX A.1 X i) : up (ovC A X hb) (A.1 j) e = ovC A X' hb := by
  refine oc_ext rfl rfl rfl (fun i hi => ?_) (fun a ha => ?_)
  · show (if A.1 i = A.1 j then some e else (ovC A X hb).2.2.2 (A.1 i)) = _
    rw [h i hi]
    by_cases hij : i = j
    · rw [if_pos (by rw [hij]), if_pos hij]
    · rw [if_neg (fun z => hij (A.2 _ _ hi hj z)), if_neg hij, oc_at hi]
  · show (if a = A.1 j then some e else (ovC A X hb).2.2.2 a) = _
    rw [if_neg (fun z => ha j hj z.symm), oc_off ha]
/-- a cell beside the places -/
theorem oc_upO {A : AT} {X : XT} {hb : Hp} {a : Nat} {e : CE} (ha : ∀ j, j < nP → A.1 j ≠ a) : up (ovC A X hb) a e = ovC A X (up hb a e) := by
  refine oc_ext rfl rfl rfl (fun i hi => ?_) (fun b hb' => ?_)
  · show (if A.1 i = a then some e else (ovC A X hb).2.2.2 (A.1 i)) = _
    rw [if_neg (ha i hi), oc_at hi]
  · show (if b = a then some e else (ovC A X hb).2.2.2 b) = (if b = a then some e else hb.2.2.2 b)
    by_cases h : b = a
    · rw [if_pos h, if_pos h]
    · rw [if_neg h, if_neg h, oc_off hb']
/-- new cells -/
theorem oc_new {A : AT} {X : XT} {hb : Hp} {e : CE} {n m : Nat} (ha : ∀ j, j < nP → A.1 j ≠ hb.1) : ((n, m, hb.2.2.1, fun j => if j = hb.1 then some e else (ovC A X hb).2.2.2 j) : Hp) = ovC A X (n, m, hb.2.2.1, fun j => if j = hb.1 then some e else hb.2.2.2 j) := by
  refine oc_ext rfl rfl rfl (fun i hi => ?_) (fun b hb' => ?_)
  · show (if A.1 i = hb.1 then some e else (ovC A X hb).2.2.2 (A.1 i)) = _
    rw [if_neg (ha i hi), oc_at hi]
  · show (if b = hb.1 then some e else (ovC A X hb).2.2.2 b) = (if b = hb.1 then some e else hb.2.2.2 b)
    by_cases h : b = hb.1
    · rw [if_pos h, if_pos h]
    · rw [if_neg h, if_neg h, oc_off hb']
def ws (X : XT) (j k : Nat) (v : Int32) : XT := (up2 X.1 j k v, X.2)
def wl (X : XT) (j k : Nat) (v : Int64) : XT := (X.1, (fun a b => if a = j ∧ b = k then v else X.2.1 a b), X.2.2)
theorem fvs_get {A : Nat → Nat} {E : Nat} {w : Nat → Int32} : ∀ (cs : List Nat) (i k : Nat), (fvs A E w i cs)[k]? = cs[k]?.map fun c => fv A E c (w (i + k))
  | [], i, k => rfl
  | c :: cs, i, 0 => rfl
  | c :: cs, i, k + 1 => by
    show (fvs A E w (i + 1) cs)[k]? = _
    rw [fvs_get cs (i + 1) k]
    show _ = cs[k]?.map fun c => fv A E c (w (i + (k + 1)))
    rw [show i + 1 + k = i + (k + 1) by omega]
theorem fvs_len {A : Nat → Nat} {E : Nat} {w : Nat → Int32} : ∀ (cs : List Nat) (i : Nat), (fvs A E w i cs).length = cs.length
  | [], i => rfl
  | c :: cs, i => congrArg (· + 1) (fvs_len cs (i + 1))
theorem fvs_ext {A : Nat → Nat} {E E' : Nat} {w w' : Nat → Int32} {cs : List Nat} (h : ∀ k c, cs[k]? = some c → fv A E c (w k) = fv A E' c (w' k)) : fvs A E w 0 cs = fvs A E' w' 0 cs := by
  apply List.ext_getElem?
  intro k
  rw [fvs_get, fvs_get, Nat.zero_add]
  cases hc : cs[k]? with
  | none => rfl
  | some c => exact congrArg some (h k c hc)
theorem fvs_set {A : Nat → Nat} {E : Nat} {w : Nat → Int32} {cs : List Nat} {k : Nat} {v : Int32} (h : cs[k]? = some 0) : (fvs A E w 0 cs).set k (.int v) = fvs A E (upd w k v) 0 cs := by
  apply List.ext_getElem?
  intro i
  have hk : k < cs.length := by
    rcases Nat.lt_or_ge k cs.length with z | z
    · exact z
    · rw [List.getElem?_eq_none z] at h; cases h
  rw [List.getElem?_set, fvs_get, fvs_get, Nat.zero_add, fvs_len]
  by_cases hi : k = i
  · subst hi
    rw [if_pos rfl, if_pos hk, h, upd_s]
    rfl
  · rw [if_neg hi, upd_n _ _ (fun z => hi z.symm)]
/-- place j is an object of one of the classes, its field k an int -/
def fI (j : Nat) (cs : List Nat) (k : Nat) : Bool := decide (j < nP) && match oK j with
  | some o => decide (o.1 ∈ cs) && decide (o.2[k]? = some 0)
  | none => false
/-- the place that field k of place j refers to -/
def fR (j : Nat) (cs : List Nat) (k : Nat) : Option Nat := if j < nP then match oK j with
  | some o => if o.1 ∈ cs then (match o.2[k]? with
    | some (c + 2) => some c
    | _ => none) else none
  | none => none else none
def fO (j : Nat) (cs : List Nat) : Bool := decide (j < nP) && match oK j with
  | some o => decide (o.1 ∈ cs)
  | none => false
section OC
variable {A : AT} {X : XT} {hb : Hp}
theorem ob_oc {j : Nat} {cs : List Nat} {o : Nat × List Nat} (hj : j < nP) (ho : oK j = some o) (hc : o.1 ∈ cs) : ob (ovC A X hb) (A.1 j) cs = some (o.1, fvs A.1 X.2.2.1 (X.1 j) 0 o.2) := by
  unfold ob
  rw [oc_at hj]
  unfold cCX cC
  rw [ho]
  show (if o.1 ∈ cs then _ else none) = _
  rw [if_pos hc]
theorem ob_ocS {j : Nat} {cs : List Nat} {α : Type} {f : Nat × List Value → Option α} {r : Option α} (h : fO j cs = true) (hf : ∀ o, f o = r) : (ob (ovC A X hb) (A.1 j) cs).bind f = r := by
  unfold fO at h
  rw [Bool.and_eq_true, decide_eq_true_eq] at h
  obtain ⟨h1, h2⟩ := h
  split at h2
  · next o ho =>
    rw [ob_oc h1 ho (of_decide_eq_true h2)]
    exact hf _
  · cases h2
theorem ob_ocK {j : Nat} {cs : List Nat} {α : Type} {r : Option α} (h : fO j cs = true) : ((ob (ovC A X hb) (A.1 j) cs).bind fun _ => r) = r := ob_ocS h (fun _ => rfl)
theorem gi_oc {j k : Nat} {cs : List Nat} (h : fI j cs k = true) : gi (ovC A X hb) (A.1 j) cs k = some (X.1 j k) := by
  unfold fI at h
  rw [Bool.and_eq_true, decide_eq_true_eq] at h
  obtain ⟨h1, h2⟩ := h
  split at h2
  · next o ho =>
    rw [Bool.and_eq_true, decide_eq_true_eq, decide_eq_true_eq] at h2
    unfold gi
    rw [ob_oc h1 ho h2.1]
    show vI (fvs A.1 X.2.2.1 (X.1 j) 0 o.2)[k]? = _
    rw [fvs_get, h2.2, Nat.zero_add]
    rfl
  · cases h2
theorem gr_oc {j k p : Nat} {cs : List Nat} (h : fR j cs k = some p) : gr (ovC A X hb) (A.1 j) cs k = some (A.1 p) := by
  unfold fR at h
  split at h
  · next h1 =>
    split at h
    · next o ho =>
      split at h
      · next hc =>
        split at h
        · next c hk =>
          cases h
          unfold gr
          rw [ob_oc h1 ho hc]
          show vR (fvs A.1 X.2.2.1 (X.1 j) 0 o.2)[k]? = _
          rw [fvs_get, hk]
          show some (A.1 (p + 2 - 2)) = _
          rw [Nat.add_sub_cancel]
        · cases h
      · cases h
    · cases h
  · cases h
theorem cCX_ws {j k i : Nat} {v : Int32} : cCX A.1 (ws X j k v) i = cC A.1 (if i = j then upd (X.1 j) k v else X.1 i) (X.2.1 i) X.2.2.1 X.2.2.2 i := by
  unfold cCX ws
  show cC A.1 (up2 X.1 j k v i) _ _ _ i = _
  by_cases h : i = j
  · subst h
    rw [if_pos rfl, up2_0]
  · rw [if_neg h, up2_g _ _ h]
theorem po_oc {j k : Nat} {cs : List Nat} {v : Int32} (h : fI j cs k = true) : po (ovC A X hb) (A.1 j) cs k (.int v) = some (ovC A (ws X j k v) hb) := by
  unfold fI at h
  rw [Bool.and_eq_true, decide_eq_true_eq] at h
  obtain ⟨h1, h2⟩ := h
  split at h2
  · next o ho =>
    rw [Bool.and_eq_true, decide_eq_true_eq, decide_eq_true_eq] at h2
    unfold po
    rw [ob_oc h1 ho h2.1]
    have hk : k < o.2.length := by
      rcases Nat.lt_or_ge k o.2.length with z | z
      · exact z
      · have := h2.2; rw [List.getElem?_eq_none z] at this; cases this
    show (if k < (fvs A.1 X.2.2.1 (X.1 j) 0 o.2).length then _ else none) = _
    rw [if_pos (by rw [fvs_len]; exact hk)]
    show some (up _ _ (.inr (.inl (o.1, (fvs A.1 X.2.2.1 (X.1 j) 0 o.2).set k (.int v))))) = _
    rw [fvs_set h2.2]
    rw [oc_up h1]
    intro i hi
    rw [cCX_ws]
    by_cases hij : i = j
    · subst hij
      rw [if_pos rfl, if_pos rfl]
      unfold cC
      rw [ho]
    · rw [if_neg hij, if_neg hij]
      rfl
  · cases h2
theorem pz_oc {j k : Nat} {cs : List Nat} {p : Bool} (h : fI j cs k = true) : pz (ovC A X hb) (A.1 j) cs k (bz p) = some (ovC A (ws X j k (bz p)) hb) := by
  unfold pz
  rw [if_pos (bz_01 p), po_oc h]
def fA (j k n : Nat) : Bool := decide (j < nP) && decide (oK j = none) && decide (aK j = some (k, n))
theorem fA_s {j k n : Nat} (h : fA j k n = true) : j < nP ∧ oK j = none ∧ aK j = some (k, n) := by
  unfold fA at h
  simp only [Bool.and_eq_true, decide_eq_true_eq] at h
  exact ⟨h.1.1, h.1.2, h.2⟩
theorem ar_oc {j k n : Nat} (h : fA j k n = true) : ar (ovC A X hb) (A.1 j) k = some (n, .inl (X.1 j)) := by
  obtain ⟨h1, h2, h3⟩ := fA_s h
  unfold ar
  rw [oc_at h1]
  unfold cCX cC
  rw [h2, h3]
  show (if k = k then _ else none) = _
  rw [if_pos rfl]
theorem arI_oc {j k n : Nat} (h : fA j k n = true) : arI (ovC A X hb) (A.1 j) k = some (n, X.1 j) := by
  unfold arI
  rw [ar_oc h]
  rfl
theorem alen_oc {j k n : Nat} (h : fA j k n = true) : alen (ovC A X hb) (A.1 j) k = some (nn n) := by
  unfold alen
  rw [ar_oc h]
  rfl
theorem aI_oc {j k n i : Nat} (h : fA j k n = true) (hi : i < n) (h2 : i < 2147483648) : aI (ovC A X hb) (A.1 j) k (nn i) = some (X.1 j i) := by
  unfold aI
  rw [arI_oc h]
  show (if inb (nn i) n = true then some (X.1 j (nn i).toNatClampNeg) else none) = _
  rw [inb_nn h2, nn_cl h2, decide_eq_true hi, if_pos rfl]
theorem up_A {j k n : Nat} {f : Nat → Int32} (h : fA j k n = true) : up (ovC A X hb) (A.1 j) (.inl (k, n, .inl f)) = ovC A ((fun a => if a = j then f else X.1 a), X.2) hb := by
  obtain ⟨h1, h2, h3⟩ := fA_s h
  refine oc_up h1 (fun i hi => ?_)
  unfold cCX
  by_cases hij : i = j
  · subst hij
    simp only [if_true]
    unfold cC
    rw [h2, h3]
  · simp only [hij, if_false]
theorem sI_oc {j k n i : Nat} {v : Int32} (h : fA j k n = true) (hi : i < n) (h2 : i < 2147483648) : sI (ovC A X hb) (A.1 j) k (nn i) v = some (ovC A (ws X j i (nrw k v)) hb) := by
  unfold sI
  rw [arI_oc h]
  show (if inb (nn i) n = true then some (up _ _ (.inl (k, n, .inl (upd (X.1 j) (nn i).toNatClampNeg (nrw k v))))) else none) = _
  rw [inb_nn h2, nn_cl h2, decide_eq_true hi, if_pos rfl, up_A h]
  congr 2
  unfold ws
  congr 1
  funext a
  by_cases ha : a = j
  · subst ha
    rw [if_pos rfl, up2_0]
  · rw [if_neg ha, up2_g _ _ ha]
def fL (j : Nat) : Bool := decide (j = 29 ∨ j = 31)
theorem fL_s {j : Nat} (h : fL j = true) : j < nP ∧ oK j = none ∧ aK j = none ∧ (j = 29 ∨ j = 31) := by
  unfold fL at h
  rcases of_decide_eq_true h with rfl | rfl <;> decide
theorem arL_oc {j : Nat} (h : fL j = true) : arL (ovC A X hb) (A.1 j) 3 = some (9, X.2.1 j) := by
  obtain ⟨h1, h2, h3, h4⟩ := fL_s h
  unfold arL ar
  rw [oc_at h1]
  unfold cCX cC
  rw [h2, h3]
  simp only [h4, if_true]
  rfl
theorem aL_oc {j i : Nat} (h : fL j = true) (hi : i < 9) : aL (ovC A X hb) (A.1 j) 3 (nn i) = some (X.2.1 j i) := by
  unfold aL
  rw [arL_oc h]
  show (if inb (nn i) 9 = true then some (X.2.1 j (nn i).toNatClampNeg) else none) = _
  rw [inb_nn (by omega), nn_cl (by omega), decide_eq_true hi, if_pos rfl]
theorem sL_oc {j i : Nat} {v : Int64} (h : fL j = true) (hi : i < 9) : sL (ovC A X hb) (A.1 j) 3 (nn i) v = some (ovC A (wl X j i v) hb) := by
  unfold sL
  rw [arL_oc h]
  show (if inb (nn i) 9 = true then some (up _ _ (.inl (3, 9, .inr (.inl (vp_updL (X.2.1 j) (nn i).toNatClampNeg v))))) else none) = _
  obtain ⟨h1, h2, h3, h4⟩ := fL_s h
  rw [inb_nn (by omega), nn_cl (by omega), decide_eq_true hi, if_pos rfl, oc_up h1]
  intro a ha
  unfold cCX wl
  show cC A.1 (X.1 a) (fun b => if a = j ∧ b = i then v else X.2.1 a b) _ _ a = _
  by_cases haj : a = j
  · subst haj
    rw [if_pos rfl]
    unfold cC
    rw [h2, h3]
    simp only [h4, if_true, true_and]
    rfl
  · rw [if_neg haj]
    simp only [haj, false_and, if_false]
def fQ (j : Nat) : Bool := decide (j = 7 ∨ j = 17 ∨ j = 19 ∨ j = 21 ∨ j = 33)
theorem fQ_s {j : Nat} (h : fQ j = true) : j < nP ∧ oK j = none ∧ aK j = none ∧ ¬ (j = 29 ∨ j = 31) := by
  unfold fQ at h
  rcases of_decide_eq_true h with rfl | rfl | rfl | rfl | rfl <;> decide
theorem arQ_oc {j : Nat} (h : fQ j = true) : arQ (ovC A X hb) (A.1 j) (qK A.1 X.2.2.2 j).1 = some (qK A.1 X.2.2.2 j).2 := by
  obtain ⟨h1, h2, h3, h4⟩ := fQ_s h
  unfold arQ ar
  rw [oc_at h1]
  unfold cCX cC
  rw [h2, h3]
  simp only [h4, if_false, if_true]
  rfl
theorem aQ_oc {j i : Nat} (h : fQ j = true) (hi : i < (qK A.1 X.2.2.2 j).2.1) (h2 : i < 2147483648) : aQ (ovC A X hb) (A.1 j) (qK A.1 X.2.2.2 j).1 (nn i) = some ((qK A.1 X.2.2.2 j).2.2 i) := by
  unfold aQ
  rw [arQ_oc h]
  show (if inb (nn i) (qK A.1 X.2.2.2 j).2.1 = true then some ((qK A.1 X.2.2.2 j).2.2 (nn i).toNatClampNeg) else none) = _
  rw [inb_nn h2, nn_cl h2, decide_eq_true hi, if_pos rfl]
/-- rows of seen -/
theorem aR_seen {i : Nat} (hi : i < 6) : aR (ovC A X hb) (A.1 7) 4 (nn i) = some (A.1 (8 + i)) := by
  unfold aR
  have := aQ_oc (A := A) (X := X) (hb := hb) (j := 7) (i := i) rfl hi (by omega)
  rw [show (4 : Nat) = (qK A.1 X.2.2.2 7).1 from rfl, this]
  show (if i < 6 then some (A.1 (8 + i)) else none) = _
  rw [if_pos hi]
theorem aQ_im {i : Nat} (hi : i < 2) : aQ (ovC A X hb) (A.1 17) 5 (nn i) = some (X.2.2.2 i) := aQ_oc (j := 17) rfl hi (by omega)
theorem aR_undo {i : Nat} (hi : i < 16) : aR (ovC A X hb) (A.1 19) 6 (nn i) = some (A.1 (50 + 2 * i)) := by
  unfold aR
  have := aQ_oc (A := A) (X := X) (hb := hb) (j := 19) (i := i) rfl hi (by omega)
  rw [show (6 : Nat) = (qK A.1 X.2.2.2 19).1 from rfl, this]
  show (if i < 16 then some (A.1 (50 + 2 * i)) else none) = _
  rw [if_pos hi]
theorem aR_before {i : Nat} (hi : i < 16) : aR (ovC A X hb) (A.1 21) 6 (nn i) = some (A.1 (90 + 2 * i)) := by
  unfold aR
  have := aQ_oc (A := A) (X := X) (hb := hb) (j := 21) (i := i) rfl hi (by omega)
  rw [show (6 : Nat) = (qK A.1 X.2.2.2 21).1 from rfl, this]
  show (if i < 16 then some (A.1 (90 + 2 * i)) else none) = _
  rw [if_pos hi]
end OC
theorem ws_1 (X : XT) (j k a : Nat) (v : Int32) : (ws X j k v).1 a = if a = j then upd (X.1 j) k v else X.1 a := by
  by_cases h : a = j
  · subst h
    rw [if_pos rfl]
    exact up2_0 _ _ _ _
  · rw [if_neg h]
    exact up2_g _ _ h
theorem ws_2 (X : XT) (j k : Nat) (v : Int32) : (ws X j k v).2 = X.2 := rfl
theorem wl_1 (X : XT) (j k : Nat) (v : Int64) : (wl X j k v).1 = X.1 := rfl
theorem wl_2 (X : XT) (j k : Nat) (v : Int64) : (wl X j k v).2.2 = X.2.2 := rfl
theorem wl_L (X : XT) (j k a b : Nat) (v : Int64) : (wl X j k v).2.1 a b = if a = j ∧ b = k then v else X.2.1 a b := rfl
