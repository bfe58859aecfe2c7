/-! TWIN: LeekReadingsModel's one object and its arrays, as a state of numbers: ovT lays it over a heap -/
set_option maxRecDepth 100000
/-- int fields by their number, the long field, int arrays by their field's number, the array of longs -/
abbrev TM : Type := (Nat → Int32) × (Int64 × ((Nat → Nat → Int32) × (Nat → Int64)))
/-- what stands behind the object: field, kind, length -/
def tOff (j : Nat) : Nat × (Nat × Nat) := match j with
  | 1 => (1, 0, 7)
  | 2 => (2, 0, 5660)
  | 3 => (3, 0, 11320)
  | 4 => (4, 2, 2)
  | 5 => (5, 0, 12)
  | 6 => (7, 1, 122)
  | 7 => (11, 1, 400)
  | 8 => (12, 0, 5)
  | 9 => (15, 0, 401)
  | 10 => (16, 0, 401)
  | 11 => (17, 0, 401)
  | 12 => (26, 0, 9)
  | 13 => (29, 0, 4)
  | 14 => (30, 0, 112)
  | 15 => (31, 0, 112)
  | 16 => (33, 0, 256)
  | 17 => (34, 0, 8)
  | 18 => (35, 2, 2048)
  | 19 => (36, 0, 8)
  | 20 => (37, 0, 8)
  | 21 => (43, 0, 32)
  | 22 => (44, 3, 21)
  | 23 => (52, 0, 6)
  | _ => (100 + j, 0, 0)
def tFv (m0 : Nat) (M : TM) (k : Nat) : Value := match k with
  | 1 => .ref (m0 + 1)
  | 2 => .ref (m0 + 2)
  | 3 => .ref (m0 + 3)
  | 4 => .ref (m0 + 4)
  | 5 => .ref (m0 + 5)
  | 7 => .ref (m0 + 6)
  | 11 => .ref (m0 + 7)
  | 12 => .ref (m0 + 8)
  | 15 => .ref (m0 + 9)
  | 16 => .ref (m0 + 10)
  | 17 => .ref (m0 + 11)
  | 26 => .ref (m0 + 12)
  | 29 => .ref (m0 + 13)
  | 30 => .ref (m0 + 14)
  | 31 => .ref (m0 + 15)
  | 33 => .ref (m0 + 16)
  | 34 => .ref (m0 + 17)
  | 35 => .ref (m0 + 18)
  | 36 => .ref (m0 + 19)
  | 37 => .ref (m0 + 20)
  | 43 => .ref (m0 + 21)
  | 44 => .ref (m0 + 22)
  | 52 => .ref (m0 + 23)
  | 51 => .long M.2.1
  | k => .int (M.1 k)
def tFs (m0 : Nat) (M : TM) : List Value := (List.range 56).map (tFv m0 M)
def cellT (m0 : Nat) (M : TM) (j : Nat) : CE := if j = 0 then .inr (.inl (6, tFs m0 M)) else if (tOff j).2.1 = 3 then .inl (3, (tOff j).2.2, .inr (.inl M.2.2.2)) else .inl ((tOff j).2.1, (tOff j).2.2, .inl (M.2.2.1 (tOff j).1))
def ovT (m0 : Nat) (M : TM) (hb : Hp) : Hp := (hb.1, hb.2.1, hb.2.2.1, fun a => if m0 ≤ a ∧ a < m0 + 24 then some (cellT m0 M (a - m0)) else hb.2.2.2 a)
def tsi (M : TM) (k : Nat) (v : Int32) : TM := (fun j => if j = k then v else M.1 j, M.2)
def tsz (M : TM) (k : Nat) (v : Int32) : Option TM := if v = 0 ∨ v = 1 then some (tsi M k v) else none
def tsl (M : TM) (v : Int64) : TM := (M.1, v, M.2.2)
def tra (M : TM) (k n : Nat) (i : Int32) : Option Int32 := if inb i n = true then some (M.2.2.1 k i.toNatClampNeg) else none
def trl (M : TM) (n : Nat) (i : Int32) : Option Int64 := if inb i n = true then some (M.2.2.2 i.toNatClampNeg) else none
def tAset (M : TM) (k : Nat) (f : Nat → Int32) : TM := (M.1, M.2.1, (fun j => if j = k then f else M.2.2.1 j), M.2.2.2)
def twa (M : TM) (k n : Nat) (i x : Int32) : Option TM := if inb i n = true then some (tAset M k (upd (M.2.2.1 k) i.toNatClampNeg x)) else none
/-- into an array of bytes (kd = 1) or booleans (2) -/
def twb (M : TM) (kd k n : Nat) (i x : Int32) : Option TM := if inb i n = true then some (tAset M k (upd (M.2.2.1 k) i.toNatClampNeg (nrw kd x))) else none
def twl (M : TM) (n : Nat) (i : Int32) (x : Int64) : Option TM := if inb i n = true then some (M.1, M.2.1, M.2.2.1, vp_updL M.2.2.2 i.toNatClampNeg x) else none
theorem ov_at {m0 : Nat} {M : TM} {hb : Hp} {j : Nat} (hj : j < 24) : (ovT m0 M hb).2.2.2 (m0 + j) = some (cellT m0 M j) := by
  show (if m0 ≤ m0 + j ∧ m0 + j < m0 + 24 then some (cellT m0 M (m0 + j - m0)) else _) = _
  rw [if_pos ⟨Nat.le_add_right _ _, by omega⟩, Nat.add_sub_cancel_left]
theorem ov_up {m0 : Nat} {M M' : TM} {hb : Hp} {j : Nat} {e : CE} (hj : j < 24) (h : ∀ i, i < 24 → cellT m0 M' i = if i = j then e else cellT m0 M i) : up (ovT m0 M hb) (m0 + j) e = ovT m0 M' hb := by
  refine Prod.ext rfl (Prod.ext rfl (Prod.ext rfl ?_))
  funext a
  show (if a = m0 + j then some e else (if m0 ≤ a ∧ a < m0 + 24 then some (cellT m0 M (a - m0)) else hb.2.2.2 a)) = (if m0 ≤ a ∧ a < m0 + 24 then some (cellT m0 M' (a - m0)) else hb.2.2.2 a)
  by_cases ha : m0 ≤ a ∧ a < m0 + 24
  · rw [if_pos ha, if_pos ha, h (a - m0) (by omega)]
    by_cases hb : a = m0 + j
    · rw [if_pos hb, if_pos (by omega)]
    · rw [if_neg hb, if_neg (by omega)]
  · rw [if_neg ha, if_neg ha, if_neg (by omega)]
theorem tOff_inj : ∀ i, i < 24 → ∀ j, j < 24 → i ≠ 0 → j ≠ 0 → (tOff i).1 = (tOff j).1 → i = j := by decide +kernel
theorem cellT_A {m0 : Nat} {M : TM} {k : Nat} {f : Nat → Int32} {j : Nat} (hj : j < 24) (h0 : j ≠ 0) (hk : (tOff j).1 = k) (h3 : (tOff j).2.1 ≠ 3) : ∀ i, i < 24 → cellT m0 (tAset M k f) i = if i = j then .inl ((tOff j).2.1, (tOff j).2.2, .inl f) else cellT m0 M i := by
  intro i hi
  unfold cellT
  by_cases hi0 : i = 0
  · rw [if_pos hi0, if_pos hi0, if_neg (by rw [hi0]; exact h0.symm)]
    rfl
  · rw [if_neg hi0, if_neg hi0]
    by_cases hij : i = j
    · subst hij
      rw [if_pos rfl, if_neg h3]
      show (Sum.inl ((tOff i).2.1, (tOff i).2.2, .inl (if (tOff i).1 = k then f else M.2.2.1 (tOff i).1)) : CE) = _
      rw [if_pos hk]
    · rw [if_neg hij]
      have hne : (tOff i).1 ≠ k := fun z => hij (tOff_inj i hi j hj hi0 h0 (z.trans hk.symm))
      show (if (tOff i).2.1 = 3 then (Sum.inl (3, (tOff i).2.2, Sum.inr (Sum.inl M.2.2.2)) : CE) else .inl ((tOff i).2.1, (tOff i).2.2, .inl (if (tOff i).1 = k then f else M.2.2.1 (tOff i).1))) = _
      rw [if_neg hne]
theorem cellT_L {m0 : Nat} {M : TM} {f : Nat → Int64} : ∀ i, i < 24 → cellT m0 (M.1, M.2.1, M.2.2.1, f) i = if i = 22 then .inl (3, 21, .inr (.inl f)) else cellT m0 M i := by
  intro i hi
  unfold cellT
  by_cases hi0 : i = 0
  · rw [if_pos hi0, if_pos hi0, if_neg (by omega)]
    rfl
  · rw [if_neg hi0, if_neg hi0]
    by_cases hij : i = 22
    · subst hij
      rfl
    · rw [if_neg hij]
      have h3 : ∀ i, i < 24 → i ≠ 22 → (tOff i).2.1 ≠ 3 := by decide +kernel
      rw [if_neg (h3 i hi hij), if_neg (h3 i hi hij)]
theorem cellT_F {m0 : Nat} {M M' : TM} (h : M'.2.2 = M.2.2) : ∀ i, i < 24 → cellT m0 M' i = if i = 0 then .inr (.inl (6, tFs m0 M')) else cellT m0 M i := by
  intro i hi
  unfold cellT
  by_cases hi0 : i = 0
  · rw [if_pos hi0, if_pos hi0]
  · rw [if_neg hi0, if_neg hi0, h, if_neg hi0]
theorem tFs_set {m0 : Nat} {M M' : TM} {k : Nat} {v : Value} (hk : k < 56) (h : ∀ j, j < 56 → tFv m0 M' j = if j = k then v else tFv m0 M j) : (tFs m0 M).set k v = tFs m0 M' := by
  apply List.ext_getElem?
  intro j
  unfold tFs
  rw [List.getElem?_set]
  simp only [List.length_map, List.length_range, List.getElem?_map]
  by_cases hj : j < 56
  · rw [List.getElem?_range hj]
    simp only [Option.map_some]
    rw [h j hj]
    by_cases hjk : k = j
    · rw [if_pos hjk, if_pos hk, if_pos hjk.symm]
    · rw [if_neg hjk, if_neg (fun z => hjk z.symm)]
  · rw [List.getElem?_eq_none (by simpa using hj)]
    rw [if_neg (by omega)]
    rfl
/-- which fields are ints (or booleans) -/
def tIs (k : Nat) : Bool := decide (k < 56) && !(decide (k ∈ [1, 2, 3, 4, 5, 7, 11, 12, 15, 16, 17, 26, 29, 30, 31, 33, 34, 35, 36, 37, 43, 44, 51, 52]))
theorem tFv_i {m0 : Nat} {M : TM} {k : Nat} (h : tIs k = true) : tFv m0 M k = .int (M.1 k) := by
  have h1 : k < 56 := by
    unfold tIs at h
    simp only [Bool.and_eq_true, decide_eq_true_eq] at h
    exact h.1
  have key : ∀ (k : Nat), k < 56 → tIs k = true → tFv m0 M k = .int (M.1 k) := by
    intro k hk
    match k, hk with
    | 0, _ => intro; rfl
    | 1, _ => intro h; cases h
    | 2, _ => intro h; cases h
    | 3, _ => intro h; cases h
    | 4, _ => intro h; cases h
    | 5, _ => intro h; cases h
    | 6, _ => intro; rfl
    | 7, _ => intro h; cases h
    | 8, _ => intro; rfl
    | 9, _ => intro; rfl
    | 10, _ => intro; rfl
    | 11, _ => intro h; cases h
    | 12, _ => intro h; cases h
    | 13, _ => intro; rfl
    | 14, _ => intro; rfl
    | 15, _ => intro h; cases h
    | 16, _ => intro h; cases h
    | 17, _ => intro h; cases h
    | 18, _ => intro; rfl
    | 19, _ => intro; rfl
    | 20, _ => intro; rfl
    | 21, _ => intro; rfl
    | 22, _ => intro; rfl
    | 23, _ => intro; rfl
    | 24, _ => intro; rfl
    | 25, _ => intro; rfl
    | 26, _ => intro h; cases h
    | 27, _ => intro; rfl
    | 28, _ => intro; rfl
    | 29, _ => intro h; cases h
    | 30, _ => intro h; cases h
    | 31, _ => intro h; cases h
    | 32, _ => intro; rfl
    | 33, _ => intro h; cases h
    | 34, _ => intro h; cases h
    | 35, _ => intro h; cases h
    | 36, _ => intro h; cases h
    | 37, _ => intro h; cases h
    | 38, _ => intro; rfl
    | 39, _ => intro; rfl
    | 40, _ => intro; rfl
    | 41, _ => intro; rfl
    | 42, _ => intro; rfl
    | 43, _ => intro h; cases h
    | 44, _ => intro h; cases h
    | 45, _ => intro; rfl
    | 46, _ => intro; rfl
    | 47, _ => intro; rfl
    | 48, _ => intro; rfl
    | 49, _ => intro; rfl
    | 50, _ => intro; rfl
    | 51, _ => intro h; cases h
    | 52, _ => intro h; cases h
    | 53, _ => intro; rfl
    | 54, _ => intro; rfl
    | 55, _ => intro; rfl
    | k + 56, hk => omega
  exact key k h1 h
theorem tFv_tsi {m0 : Nat} {M : TM} {k : Nat} {v : Int32} (h : tIs k = true) : ∀ j, j < 56 → tFv m0 (tsi M k v) j = if j = k then .int v else tFv m0 M j := by
  intro j hj
  by_cases hjk : j = k
  · subst hjk
    rw [if_pos rfl, tFv_i h]
    show Value.int (if j = j then v else _) = _
    rw [if_pos rfl]
  · rw [if_neg hjk]
    by_cases hi : tIs j = true
    · rw [tFv_i hi, tFv_i hi]
      show Value.int (if j = k then v else _) = _
      rw [if_neg hjk]
    · have key : ∀ j, j < 56 → ¬ tIs j = true → j ∈ [1, 2, 3, 4, 5, 7, 11, 12, 15, 16, 17, 26, 29, 30, 31, 33, 34, 35, 36, 37, 43, 44, 51, 52] := by decide +kernel
      have hm := key j hj hi
      simp only [List.mem_cons, List.not_mem_nil, or_false] at hm
      rcases hm with rfl | rfl | rfl | rfl | rfl | rfl | rfl | rfl | rfl | rfl | rfl | rfl | rfl | rfl | rfl | rfl | rfl | rfl | rfl | rfl | rfl | rfl | rfl | rfl <;> rfl
section VT
variable {l : Launch} {G : GT} {cc : ByteArray} {own nm : String} {nL : Nat} {ret : Option FieldType} {fr lo : Nat} {h0 hE hb : Hp} {Qf : List Frame → Array Value → State → State → Prop} {pc : Nat} {L L' : List (Nat × Value)} {st : List Value} {α : Type} {r : α} {m0 : Nat} {M : TM}
theorem ob_ov : ob (ovT m0 M hb) m0 [6] = some (6, tFs m0 M) := by
  have h := ov_at (m0 := m0) (M := M) (hb := hb) (j := 0) (by decide)
  rw [Nat.add_zero] at h
  unfold ob
  rw [h]
  rfl
theorem rc_ov : RC (ovT m0 M hb) m0 [6] := ⟨_, ob_ov⟩
theorem t_geti {idx : Nat} (k : Nat) (hd : decode cc pc = .ok (.getfield idx, 3)) (fl : FL own idx [6] k) (hk : tIs k = true) (kk : V l G cc own nm nL ret fr lo h0 hE Qf (pc + 3) L (.int (M.1 k) :: st) (ovT m0 M hb)) : V l G cc own nm nL ret fr lo h0 hE Qf pc L (.ref m0 :: st) (ovT m0 M hb) := by
  have h1 : k < 56 := by
    unfold tIs at hk
    simp only [Bool.and_eq_true, decide_eq_true_eq] at hk
    exact hk.1
  refine v_getv hd fl ob_ov (v := .int (M.1 k)) ?_ kk
  show ((List.range 56).map (tFv m0 M))[k]? = _
  rw [List.getElem?_map, List.getElem?_range h1, ← tFv_i (m0 := m0) (M := M) hk]
  rfl
theorem t_getl {idx : Nat} (hd : decode cc pc = .ok (.getfield idx, 3)) (fl : FL own idx [6] 51) (kk : V l G cc own nm nL ret fr lo h0 hE Qf (pc + 3) L (.long M.2.1 :: st) (ovT m0 M hb)) : V l G cc own nm nL ret fr lo h0 hE Qf pc L (.ref m0 :: st) (ovT m0 M hb) :=
  v_getv hd fl ob_ov (v := .long M.2.1) rfl kk
/-- an array's field: k its number, j its place behind the object -/
theorem t_geta {idx : Nat} (k j : Nat) (hd : decode cc pc = .ok (.getfield idx, 3)) (fl : FL own idx [6] k) (hk : k < 56) (hj : ∀ (m0 : Nat) (M : TM), tFv m0 M k = .ref (m0 + j)) (kk : V l G cc own nm nL ret fr lo h0 hE Qf (pc + 3) L (.ref (m0 + j) :: st) (ovT m0 M hb)) : V l G cc own nm nL ret fr lo h0 hE Qf pc L (.ref m0 :: st) (ovT m0 M hb) := by
  refine v_getv hd fl ob_ov (v := .ref (m0 + j)) ?_ kk
  show ((List.range 56).map (tFv m0 M))[k]? = _
  rw [List.getElem?_map, List.getElem?_range hk, ← hj m0 M]
  rfl
theorem t_puti {idx : Nat} {v : Int32} (k : Nat) (hd : decode cc pc = .ok (.putfield idx, 3)) (pl : PL own idx [6] k .int false) (hk : tIs k = true) (kk : V l G cc own nm nL ret fr lo h0 hE Qf (pc + 3) L st (ovT m0 (tsi M k v) hb)) : V l G cc own nm nL ret fr lo h0 hE Qf pc L (.int v :: .ref m0 :: st) (ovT m0 M hb) := by
  have h1 : k < 56 := by
    unfold tIs at hk
    simp only [Bool.and_eq_true, decide_eq_true_eq] at hk
    exact hk.1
  have e : po (ovT m0 M hb) m0 [6] k (.int v) = some (ovT m0 (tsi M k v) hb) := by
    unfold po
    rw [ob_ov]
    simp only [Option.bind_some]
    rw [if_pos (by simp [tFs]; exact h1), tFs_set h1 (tFv_tsi hk)]
    have := ov_up (m0 := m0) (M := M) (M' := tsi M k v) (hb := hb) (j := 0) (by decide) (cellT_F rfl)
    rw [Nat.add_zero] at this
    rw [this]
  exact v_put (rest := fun h' => some h') (r := ovT m0 (tsi M k v) hb) hd pl (fun z => by cases z) rfl rfl (by rw [e]; rfl) (fun h' z => by cases z; exact kk)
theorem t_putz {idx : Nat} {v : Int32} {rest : TM → Option α} (k : Nat) (hd : decode cc pc = .ok (.putfield idx, 3)) (pl : PL own idx [6] k .boolean false) (hk : tIs k = true) (hF : (tsz M k v).bind rest = some r) (kk : ∀ M', rest M' = some r → V l G cc own nm nL ret fr lo h0 hE Qf (pc + 3) L st (ovT m0 M' hb)) : V l G cc own nm nL ret fr lo h0 hE Qf pc L (.int v :: .ref m0 :: st) (ovT m0 M hb) := by
  obtain ⟨M', q1, q2⟩ := Option.bind_eq_some_iff.mp hF
  obtain ⟨hv, rfl⟩ := ifs q1
  have h1 : k < 56 := by
    unfold tIs at hk
    simp only [Bool.and_eq_true, decide_eq_true_eq] at hk
    exact hk.1
  have e : po (ovT m0 M hb) m0 [6] k (.int v) = some (ovT m0 (tsi M k v) hb) := by
    unfold po
    rw [ob_ov]
    simp only [Option.bind_some]
    rw [if_pos (by simp [tFs]; exact h1), tFs_set h1 (tFv_tsi hk)]
    have := ov_up (m0 := m0) (M := M) (M' := tsi M k v) (hb := hb) (j := 0) (by decide) (cellT_F rfl)
    rw [Nat.add_zero] at this
    rw [this]
  refine v_putz (rest := fun h' => some h') (r := ovT m0 (tsi M k v) hb) hd pl (fun z => by cases z) ?_ (fun h' z => by cases z; exact kk _ q2)
  unfold pz
  rw [if_pos hv, e]
  rfl
theorem t_putl {idx : Nat} {v : Int64} (hd : decode cc pc = .ok (.putfield idx, 3)) (pl : PL own idx [6] 51 .long false) (kk : V l G cc own nm nL ret fr lo h0 hE Qf (pc + 3) L st (ovT m0 (tsl M v) hb)) : V l G cc own nm nL ret fr lo h0 hE Qf pc L (.long v :: .ref m0 :: st) (ovT m0 M hb) := by
  have hs : ∀ j, j < 56 → tFv m0 (tsl M v) j = if j = 51 then .long v else tFv m0 M j := by
    intro j hj
    by_cases h : j = 51
    · subst h; rfl
    · rw [if_neg h]
      by_cases hi : tIs j = true
      · rw [tFv_i hi, tFv_i hi]; rfl
      · have key : ∀ j, j < 56 → ¬ tIs j = true → j ≠ 51 → j ∈ [1, 2, 3, 4, 5, 7, 11, 12, 15, 16, 17, 26, 29, 30, 31, 33, 34, 35, 36, 37, 43, 44, 52] := by decide +kernel
        have hm := key j hj hi h
        simp only [List.mem_cons, List.not_mem_nil, or_false] at hm
        rcases hm with rfl | rfl | rfl | rfl | rfl | rfl | rfl | rfl | rfl | rfl | rfl | rfl | rfl | rfl | rfl | rfl | rfl | rfl | rfl | rfl | rfl | rfl | rfl <;> rfl
  have e : po (ovT m0 M hb) m0 [6] 51 (.long v) = some (ovT m0 (tsl M v) hb) := by
    unfold po
    rw [ob_ov]
    simp only [Option.bind_some]
    rw [if_pos (by simp [tFs]), tFs_set (by decide) hs]
    have := ov_up (m0 := m0) (M := M) (M' := tsl M v) (hb := hb) (j := 0) (by decide) (cellT_F rfl)
    rw [Nat.add_zero] at this
    rw [this]
  exact v_put (rest := fun h' => some h') (r := ovT m0 (tsl M v) hb) hd pl (fun z => by cases z) rfl rfl (by rw [e]; rfl) (fun h' z => by cases z; exact kk)
theorem arI_ov {j : Nat} (hj : j < 24) (hz : j ≠ 0) (h3 : (tOff j).2.1 ≠ 3) : arI (ovT m0 M hb) (m0 + j) (tOff j).2.1 = some ((tOff j).2.2, M.2.2.1 (tOff j).1) := by
  unfold arI ar
  rw [ov_at hj]
  unfold cellT
  rw [if_neg hz, if_neg h3]
  simp
theorem aI_ov {j k n kd : Nat} {i : Int32} (hj : j < 24) (hz : j ≠ 0) (h3 : kd ≠ 3) (ht : tOff j = (k, kd, n)) : aI (ovT m0 M hb) (m0 + j) kd i = tra M k n i := by
  have h := arI_ov (m0 := m0) (M := M) (hb := hb) hj hz (by rw [ht]; exact h3)
  rw [ht] at h
  unfold aI tra
  rw [show arI (ovT m0 M hb) (m0 + j) kd = some (n, M.2.2.1 k) from h]
  rfl
theorem sI_ov {j k n kd : Nat} {i x : Int32} (hj : j < 24) (hz : j ≠ 0) (h3 : kd ≠ 3) (ht : tOff j = (k, kd, n)) : sI (ovT m0 M hb) (m0 + j) kd i x = (twb M kd k n i x).map (fun M' => ovT m0 M' hb) := by
  have h := arI_ov (m0 := m0) (M := M) (hb := hb) hj hz (by rw [ht]; exact h3)
  rw [ht] at h
  unfold sI twb
  rw [show arI (ovT m0 M hb) (m0 + j) kd = some (n, M.2.2.1 k) from h]
  simp only [Option.bind_some]
  split
  · have e := ov_up (m0 := m0) (M := M) (M' := tAset M k (upd (M.2.2.1 k) i.toNatClampNeg (nrw kd x))) (hb := hb) (e := .inl (kd, n, .inl (upd (M.2.2.1 k) i.toNatClampNeg (nrw kd x)))) hj (by
      have := cellT_A (m0 := m0) (M := M) (k := k) (f := upd (M.2.2.1 k) i.toNatClampNeg (nrw kd x)) hj hz (by rw [ht]) (by rw [ht]; exact h3)
      rw [ht] at this
      exact this)
    rw [e]
    rfl
  · rfl
theorem arL_ov : arL (ovT m0 M hb) (m0 + 22) 3 = some (21, M.2.2.2) := by
  unfold arL ar
  rw [ov_at (by decide)]
  rfl
theorem t_iald {i : Int32} {rest : Int32 → Option α} (j : Nat) {k n : Nat} (hd : decode cc pc = .ok (.iaload, 1)) (ht : tOff j = (k, 0, n)) (hj : j < 24) (hz : j ≠ 0) (hF : (tra M k n i).bind rest = some r) (kk : ∀ x, rest x = some r → V l G cc own nm nL ret fr lo h0 hE Qf (pc + 1) L (.int x :: st) (ovT m0 M hb)) : V l G cc own nm nL ret fr lo h0 hE Qf pc L (.int i :: .ref (m0 + j) :: st) (ovT m0 M hb) :=
  v_iald hd (by rw [aI_ov hj hz (by decide) ht]; exact hF) kk
theorem t_bald {i : Int32} {rest : Int32 → Option α} (j : Nat) {k n : Nat} (hd : decode cc pc = .ok (.baload, 1)) (ht : tOff j = (k, 1, n)) (hj : j < 24) (hz : j ≠ 0) (hF : (tra M k n i).bind rest = some r) (kk : ∀ x, rest x = some r → V l G cc own nm nL ret fr lo h0 hE Qf (pc + 1) L (.int x :: st) (ovT m0 M hb)) : V l G cc own nm nL ret fr lo h0 hE Qf pc L (.int i :: .ref (m0 + j) :: st) (ovT m0 M hb) :=
  v_bald hd (by rw [aI_ov hj hz (by decide) ht]; exact hF) kk
theorem t_zald {i : Int32} {rest : Int32 → Option α} (j : Nat) {k n : Nat} (hd : decode cc pc = .ok (.baload, 1)) (ht : tOff j = (k, 2, n)) (hj : j < 24) (hz : j ≠ 0) (hF : (tra M k n i).bind rest = some r) (kk : ∀ x, rest x = some r → V l G cc own nm nL ret fr lo h0 hE Qf (pc + 1) L (.int x :: st) (ovT m0 M hb)) : V l G cc own nm nL ret fr lo h0 hE Qf pc L (.int i :: .ref (m0 + j) :: st) (ovT m0 M hb) :=
  v_zald hd (by rw [aI_ov hj hz (by decide) ht]; exact hF) kk
theorem t_lald {i : Int32} {rest : Int64 → Option α} (hd : decode cc pc = .ok (.laload, 1)) (hF : (trl M 21 i).bind rest = some r) (kk : ∀ x, rest x = some r → V l G cc own nm nL ret fr lo h0 hE Qf (pc + 1) L (.long x :: st) (ovT m0 M hb)) : V l G cc own nm nL ret fr lo h0 hE Qf pc L (.int i :: .ref (m0 + 22) :: st) (ovT m0 M hb) := by
  refine v_lald hd (rest := rest) ?_ kk
  unfold aL
  rw [arL_ov]
  exact hF
theorem t_iast {i x : Int32} {rest : TM → Option α} (j : Nat) {k n : Nat} (hd : decode cc pc = .ok (.iastore, 1)) (ht : tOff j = (k, 0, n)) (hj : j < 24) (hz : j ≠ 0) (hF : (twa M k n i x).bind rest = some r) (kk : ∀ M', rest M' = some r → V l G cc own nm nL ret fr lo h0 hE Qf (pc + 1) L st (ovT m0 M' hb)) : V l G cc own nm nL ret fr lo h0 hE Qf pc L (.int x :: .int i :: .ref (m0 + j) :: st) (ovT m0 M hb) := by
  obtain ⟨M', q1, q2⟩ := Option.bind_eq_some_iff.mp hF
  refine v_iast (rest := fun h' => some h') (r := ovT m0 M' hb) hd ?_ (fun h' z => by cases z; exact kk M' q2)
  rw [sI_ov hj hz (by decide) ht, show twb M 0 k n i x = twa M k n i x from rfl, q1]
  rfl
theorem t_bast {i x : Int32} {rest : TM → Option α} (j : Nat) {k n : Nat} (hd : decode cc pc = .ok (.bastore, 1)) (ht : tOff j = (k, 1, n)) (hj : j < 24) (hz : j ≠ 0) (hF : (twb M 1 k n i x).bind rest = some r) (kk : ∀ M', rest M' = some r → V l G cc own nm nL ret fr lo h0 hE Qf (pc + 1) L st (ovT m0 M' hb)) : V l G cc own nm nL ret fr lo h0 hE Qf pc L (.int x :: .int i :: .ref (m0 + j) :: st) (ovT m0 M hb) := by
  obtain ⟨M', q1, q2⟩ := Option.bind_eq_some_iff.mp hF
  refine v_bast (rest := fun h' => some h') (r := ovT m0 M' hb) hd ?_ (fun h' z => by cases z; exact kk M' q2)
  rw [sI_ov hj hz (by decide) ht, q1]
  rfl
theorem t_zast {i x : Int32} {rest : TM → Option α} (j : Nat) {k n : Nat} (hd : decode cc pc = .ok (.bastore, 1)) (ht : tOff j = (k, 2, n)) (hj : j < 24) (hz : j ≠ 0) (hF : (twb M 2 k n i x).bind rest = some r) (kk : ∀ M', rest M' = some r → V l G cc own nm nL ret fr lo h0 hE Qf (pc + 1) L st (ovT m0 M' hb)) : V l G cc own nm nL ret fr lo h0 hE Qf pc L (.int x :: .int i :: .ref (m0 + j) :: st) (ovT m0 M hb) := by
  obtain ⟨M', q1, q2⟩ := Option.bind_eq_some_iff.mp hF
  refine v_zast (rest := fun h' => some h') (r := ovT m0 M' hb) hd ?_ (fun h' z => by cases z; exact kk M' q2)
  rw [sI_ov hj hz (by decide) ht, q1]
  rfl
theorem t_last {i : Int32} {x : Int64} {rest : TM → Option α} (hd : decode cc pc = .ok (.lastore, 1)) (hF : (twl M 21 i x).bind rest = some r) (kk : ∀ M', rest M' = some r → V l G cc own nm nL ret fr lo h0 hE Qf (pc + 1) L st (ovT m0 M' hb)) : V l G cc own nm nL ret fr lo h0 hE Qf pc L (.long x :: .int i :: .ref (m0 + 22) :: st) (ovT m0 M hb) := by
  obtain ⟨M', q1, q2⟩ := Option.bind_eq_some_iff.mp hF
  obtain ⟨hi, rfl⟩ := ifs q1
  refine v_last (rest := fun h' => some h') (r := ovT m0 (M.1, M.2.1, M.2.2.1, vp_updL M.2.2.2 i.toNatClampNeg x) hb) hd ?_ (fun h' z => by cases z; exact kk _ q2)
  unfold sL
  rw [arL_ov]
  simp only [Option.bind_some]
  rw [if_pos hi, ov_up (by decide) cellT_L]
  rfl
theorem t_alen (j : Nat) {k kd n : Nat} {ty : FieldType} {v : Int32} (hd : decode cc pc = .ok (.arraylength, 1)) (ht : tOff j = (k, kd, n)) (hty : tyx[kd]? = some ty) (hj : j < 24) (hz : j ≠ 0) (h3 : kd ≠ 3) (hv : Int32.ofNat n = v) (kk : V l G cc own nm nL ret fr lo h0 hE Qf (pc + 1) L (.int v :: st) (ovT m0 M hb)) : V l G cc own nm nL ret fr lo h0 hE Qf pc L (.ref (m0 + j) :: st) (ovT m0 M hb) := by
  subst hv
  refine v_alen (rest := fun x => some x) (r := Int32.ofNat n) hty hd ?_ (fun x z => by cases z; exact kk)
  unfold alen ar
  rw [ov_at hj]
  unfold cellT
  rw [if_neg hz, ht, if_neg h3]
  simp
/-- a number gets a name -/
theorem v_leti {h : Hp} {x : Int32} {rest : Int32 → Option α} (hF : (some x).bind rest = some r) (kk : ∀ y, rest y = some r → V l G cc own nm nL ret fr lo h0 hE Qf pc L (.int y :: st) h) : V l G cc own nm nL ret fr lo h0 hE Qf pc L (.int x :: st) h := kk x hF
theorem v_letl {h : Hp} {x : Int64} {rest : Int64 → Option α} (hF : (some x).bind rest = some r) (kk : ∀ y, rest y = some r → V l G cc own nm nL ret fr lo h0 hE Qf pc L (.long y :: st) h) : V l G cc own nm nL ret fr lo h0 hE Qf pc L (.long x :: st) h := kk x hF
end VT
