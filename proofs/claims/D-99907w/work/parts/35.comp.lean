/-! printed by tools/gen.py -/
set_option maxRecDepth 100000
set_option linter.unusedVariables false
theorem fl_X0_97 : FL RX0 97 [0] 30 := by
  intro ci h
  simp only [List.mem_cons, List.not_mem_nil, or_false] at h
  subst h; exact ⟨RX0, _, TX0, 31, rfl, in_X0, by decide, Or.inl q389, Or.inl rfl⟩
theorem fl_X0_94 : FL RX0 94 [0] 29 := by
  intro ci h
  simp only [List.mem_cons, List.not_mem_nil, or_false] at h
  subst h; exact ⟨RX0, _, TX0, 31, rfl, in_X0, by decide, Or.inl q388, Or.inl rfl⟩
def C_drawn_b (h : Hp) (a0 : Nat) (a1 : Int32) (a2 : Int32) : Option Int32 :=
  if a2 = 0 then
    (gi h a0 [0] 29).bind fun v26 =>
    (C_in a1.toInt64 (0 : Int64) ((v26 - (1 : Int32)).toInt64)).bind fun v27 =>
    if v27 = 0 then
      some (-1 : Int32)
    else
      (gr h a0 [0] 28).bind fun v28 =>
      (gi h v28 [2] 1).bind fun v29 =>
      some ((v29 >>> (a1 &&& 31)) &&& (1 : Int32))
  else
    if a2 = (1 : Int32) then
      (gi h a0 [0] 30).bind fun v21 =>
      (C_in a1.toInt64 (0 : Int64) ((v21 - (1 : Int32)).toInt64)).bind fun v22 =>
      if v22 = 0 then
        some (-1 : Int32)
      else
        (gr h a0 [0] 28).bind fun v23 =>
        (gr h v23 [2] 0).bind fun v24 =>
        (aI h v24 0 a1).bind fun v25 =>
        some v25
    else
      some (-1 : Int32)
theorem w_C_drawn_b {l : Launch} {G : GT} {fr lo : Nat} {h0 : Hp} {h : Hp} {r : Int32} (hfr : 1 ≤ fr) (hlo : 25 ≤ lo) {a0 : Nat} {a1 : Int32} {a2 : Int32} (hF : C_drawn_b h a0 a1 a2 = some r) : V l G cX0_drawn RX0 "drawn" 3 (Option.some Jvm.ClassFile.FieldType.int) fr lo h0 h (QM G (some (.int r)) h0 h) 0 [(0, .ref a0), (1, .int a1), (2, .int a2)] [] h := by
  unfold C_drawn_b at hF
  refine v_iload_n dX0_drawn_0 rfl 2 rfl ?_
  refine v_if_ne (tgt := 36) dX0_drawn_1 (by decide) hF (fun hF => ?_) (fun hF => ?_)
  · refine v_iload_n dX0_drawn_36 rfl 2 rfl ?_
    refine v_iconst dX0_drawn_37 (v := 1) (by decide) ?_
    refine v_icmp_ne (tgt := 69) dX0_drawn_38 (by decide) hF (fun hF => ?_) (fun hF => ?_)
    · refine v_iconst dX0_drawn_69 (v := -1) (by decide) ?_
      cases hF
      exact v_iret dX0_drawn_70 rfl rfl rfl rfl
    · refine v_iload_n dX0_drawn_41 rfl 1 rfl ?_
      refine v_i2l dX0_drawn_42 ?_
      refine v_lconst dX0_drawn_43 (v := 0) (by decide) ?_
      refine v_aload_n dX0_drawn_44 rfl 0 rfl ?_
      refine v_geti dX0_drawn_45 fl_X0_97 hF (fun v21 hF => ?_)
      refine v_iconst dX0_drawn_48 (v := 1) (by decide) ?_
      refine v_isub dX0_drawn_49 ?_
      refine v_i2l dX0_drawn_50 ?_
      obtain ⟨v22, e_v22, hF⟩ := Option.bind_eq_some_iff.mp hF
      refine v_calS1 dX0_drawn_51 sl_X0_128 q468 (ct_C_in e_v22) rfl rfl (Nat.le_trans (Nat.le_of_ble_eq_true rfl) hfr) (Nat.le_trans (Nat.le_of_ble_eq_true rfl) hlo) (Nat.le_of_ble_eq_true rfl) ?_
      refine v_if_eq (tgt := 69) dX0_drawn_54 (by decide) hF (fun hF => ?_) (fun hF => ?_)
      · refine v_iconst dX0_drawn_69 (v := -1) (by decide) ?_
        cases hF
        exact v_iret dX0_drawn_70 rfl rfl rfl rfl
      · refine v_aload_n dX0_drawn_57 rfl 0 rfl ?_
        refine v_getr dX0_drawn_58 fl_X0_91 hF (fun v23 hF => ?_)
        refine v_getr dX0_drawn_61 fl_X0_188 hF (fun v24 hF => ?_)
        refine v_iload_n dX0_drawn_64 rfl 1 rfl ?_
        refine v_iald dX0_drawn_65 hF (fun v25 hF => ?_)
        refine v_goto (tgt := 70) dX0_drawn_66 (by decide) ?_
        cases hF
        exact v_iret dX0_drawn_70 rfl rfl rfl rfl
  · refine v_iload_n dX0_drawn_4 rfl 1 rfl ?_
    refine v_i2l dX0_drawn_5 ?_
    refine v_lconst dX0_drawn_6 (v := 0) (by decide) ?_
    refine v_aload_n dX0_drawn_7 rfl 0 rfl ?_
    refine v_geti dX0_drawn_8 fl_X0_94 hF (fun v26 hF => ?_)
    refine v_iconst dX0_drawn_11 (v := 1) (by decide) ?_
    refine v_isub dX0_drawn_12 ?_
    refine v_i2l dX0_drawn_13 ?_
    obtain ⟨v27, e_v27, hF⟩ := Option.bind_eq_some_iff.mp hF
    refine v_calS1 dX0_drawn_14 sl_X0_128 q468 (ct_C_in e_v27) rfl rfl (Nat.le_trans (Nat.le_of_ble_eq_true rfl) hfr) (Nat.le_trans (Nat.le_of_ble_eq_true rfl) hlo) (Nat.le_of_ble_eq_true rfl) ?_
    refine v_if_eq (tgt := 34) dX0_drawn_17 (by decide) hF (fun hF => ?_) (fun hF => ?_)
    · refine v_iconst dX0_drawn_34 (v := -1) (by decide) ?_
      cases hF
      exact v_iret dX0_drawn_35 rfl rfl rfl rfl
    · refine v_aload_n dX0_drawn_20 rfl 0 rfl ?_
      refine v_getr dX0_drawn_21 fl_X0_91 hF (fun v28 hF => ?_)
      refine v_geti dX0_drawn_24 fl_X0_138 hF (fun v29 hF => ?_)
      refine v_iload_n dX0_drawn_27 rfl 1 rfl ?_
      refine v_ishr dX0_drawn_28 ?_
      refine v_iconst dX0_drawn_29 (v := 1) (by decide) ?_
      refine v_iand dX0_drawn_30 ?_
      refine v_goto (tgt := 35) dX0_drawn_31 (by decide) ?_
      cases hF
      exact v_iret dX0_drawn_35 rfl rfl rfl rfl
def C_drawn (h : Hp) (a0 : Nat) (a1 : Int32) (a2 : Int32) : Option Int32 := (ob h a0 [0]).bind fun _ => C_drawn_b h a0 a1 a2
theorem rc_C_drawn {h : Hp}  {r : Int32} {a0 : Nat} {a1 : Int32} {a2 : Int32} (hF : C_drawn h a0 a1 a2 = some r) : RC h a0 [0] := by
  obtain ⟨o, ho, -⟩ := Option.bind_eq_some_iff.mp hF
  exact ⟨o, ho⟩
theorem ct_C_drawn {l : Launch} {G : GT} {h : Hp} {r : Int32} {a0 : Nat} {a1 : Int32} {a2 : Int32} (hF : C_drawn h a0 a1 a2 = some r) : Ct l G yX0_drawn (ws_ yX0_drawn cX0_drawn 3 (Option.some Jvm.ClassFile.FieldType.int)) 1 25 [.ref a0, .int a1, .int a2] h (some (.int r)) h :=
  ct_of (by decide) (Nat.le_of_ble_eq_true rfl) (w_C_drawn_b (Nat.le_refl _) (Nat.le_refl _) (Option.bind_eq_some_iff.mp hF).choose_spec.2)
theorem nl_X1_13 : NL RX1 13 1 12 [.null, .null, .null, .null, .null, .null, .null, .null, .int 0, .int 0, .int 0, .int 0] := ⟨RX1, TX1, tyX1, rfl, in_X1, tyX1_ok, q1595, q187, q138, by decide +kernel⟩
theorem il_X1_50 : IL RX1 50 yX1_init 0 := ⟨q138, ⟨by decide, by decide⟩, by decide +kernel, q189, rfl, Or.inl q1596⟩
theorem vl_X1_51 : ∀ ci ∈ [20], VL RX1 51 ci yJ2_addAll 1 := by
  intro ci h
  simp only [List.mem_cons, List.not_mem_nil, or_false] at h
  subst h; exact ⟨RJ2, TJ2, 3, rfl, q141, ⟨by decide, by decide⟩, by decide +kernel, q1598, Or.inl ⟨q1597, q1599⟩⟩
theorem ac_X1_55 : ACL RX1 55 := ⟨q1612, q735, q734, q157⟩
theorem fl_X1_36 : FL RX1 36 [1] 6 := by
  intro ci h
  simp only [List.mem_cons, List.not_mem_nil, or_false] at h
  subst h; exact ⟨RX1, _, TX1, 12, rfl, in_X1, by decide, Or.inl q260, Or.inl rfl⟩
theorem vl_X1_61 : ∀ ci ∈ [2], VL RX1 61 ci yX2_as 1 := by
  intro ci h
  simp only [List.mem_cons, List.not_mem_nil, or_false] at h
  subst h; exact ⟨RX2, TX2, 4, rfl, q142, ⟨by decide, by decide⟩, by decide +kernel, q1316, Or.inl ⟨q1613, q1317⟩⟩
theorem pl_X1_65 : PL RX1 65 [1] 8 (.int) false := by
  intro ci h
  simp only [List.mem_cons, List.not_mem_nil, or_false] at h
  subst h; exact ⟨RX1, _, TX1, 12, tyX1, rfl, in_X1, by decide, Or.inl q264, Or.inl rfl, tyX1_ok, rfl, by decide +kernel, rfl, fun z => by cases z⟩
theorem pl_X1_68 : PL RX1 68 [1] 9 (.int) false := by
  intro ci h
  simp only [List.mem_cons, List.not_mem_nil, or_false] at h
  subst h; exact ⟨RX1, _, TX1, 12, tyX1, rfl, in_X1, by decide, Or.inl q266, Or.inl rfl, tyX1_ok, rfl, by decide +kernel, rfl, fun z => by cases z⟩
theorem pl_X1_71 : PL RX1 71 [1] 10 (.int) false := by
  intro ci h
  simp only [List.mem_cons, List.not_mem_nil, or_false] at h
  subst h; exact ⟨RX1, _, TX1, 12, tyX1, rfl, in_X1, by decide, Or.inl q268, Or.inl rfl, tyX1_ok, rfl, by decide +kernel, rfl, fun z => by cases z⟩
theorem fl_X1_46 : FL RX1 46 [1] 11 := by
  intro ci h
  simp only [List.mem_cons, List.not_mem_nil, or_false] at h
  subst h; exact ⟨RX1, _, TX1, 12, rfl, in_X1, by decide, Or.inl q270, Or.inl rfl⟩
theorem fl_X1_71 : FL RX1 71 [1] 10 := by
  intro ci h
  simp only [List.mem_cons, List.not_mem_nil, or_false] at h
  subst h; exact ⟨RX1, _, TX1, 12, rfl, in_X1, by decide, Or.inl q268, Or.inl rfl⟩
theorem fl_X1_68 : FL RX1 68 [1] 9 := by
  intro ci h
  simp only [List.mem_cons, List.not_mem_nil, or_false] at h
  subst h; exact ⟨RX1, _, TX1, 12, rfl, in_X1, by decide, Or.inl q266, Or.inl rfl⟩
theorem fl_X1_65 : FL RX1 65 [1] 8 := by
  intro ci h
  simp only [List.mem_cons, List.not_mem_nil, or_false] at h
  subst h; exact ⟨RX1, _, TX1, 12, rfl, in_X1, by decide, Or.inl q264, Or.inl rfl⟩
theorem fl_X1_42 : FL RX1 42 [1] 7 := by
  intro ci h
  simp only [List.mem_cons, List.not_mem_nil, or_false] at h
  subst h; exact ⟨RX1, _, TX1, 12, rfl, in_X1, by decide, Or.inl q262, Or.inl rfl⟩
theorem fl_X1_31 : FL RX1 31 [1] 5 := by
  intro ci h
  simp only [List.mem_cons, List.not_mem_nil, or_false] at h
  subst h; exact ⟨RX1, _, TX1, 12, rfl, in_X1, by decide, Or.inl q258, Or.inl rfl⟩
theorem fl_X1_28 : FL RX1 28 [1] 4 := by
  intro ci h
  simp only [List.mem_cons, List.not_mem_nil, or_false] at h
  subst h; exact ⟨RX1, _, TX1, 12, rfl, in_X1, by decide, Or.inl q256, Or.inl rfl⟩
theorem fl_X1_25 : FL RX1 25 [1] 3 := by
  intro ci h
  simp only [List.mem_cons, List.not_mem_nil, or_false] at h
  subst h; exact ⟨RX1, _, TX1, 12, rfl, in_X1, by decide, Or.inl q254, Or.inl rfl⟩
theorem fl_X1_22 : FL RX1 22 [1] 2 := by
  intro ci h
  simp only [List.mem_cons, List.not_mem_nil, or_false] at h
  subst h; exact ⟨RX1, _, TX1, 12, rfl, in_X1, by decide, Or.inl q252, Or.inl rfl⟩
theorem fl_X1_18 : FL RX1 18 [1] 1 := by
  intro ci h
  simp only [List.mem_cons, List.not_mem_nil, or_false] at h
  subst h; exact ⟨RX1, _, TX1, 12, rfl, in_X1, by decide, Or.inl q250, Or.inl rfl⟩
theorem fl_X1_12 : FL RX1 12 [1] 0 := by
  intro ci h
  simp only [List.mem_cons, List.not_mem_nil, or_false] at h
  subst h; exact ⟨RX1, _, TX1, 12, rfl, in_X1, by decide, Or.inl q248, Or.inl rfl⟩
def X1_copy_L99 (N : Nat) (x99 : Nat → Nat → Hp → Option (Nat × Hp)) : Nat → Nat → Nat → Int32 → Hp → Option (Nat × Hp)
  | 0, _, _, _, _ => none
  | n57 + 1, v45, v46, v47, h48 =>
    if (6 : Int32) ≤ v47 then
      x99 v45 v46 h48
    else
      (gr h48 v45 [1] 6).bind fun v52 =>
      (aR h48 v52 4 v47).bind fun v53 =>
      (gr h48 v46 [1] 6).bind fun v54 =>
      (aR h48 v54 4 v47).bind fun v55 =>
      (cpI h48 0 v53 (0 : Int32) v55 (0 : Int32) (2 : Int32)).bind fun h56 =>
      (X1_copy_L99 N x99 n57) v45 v46 (v47 + (1 : Int32)) h56
theorem w_X1_copy_L99 {l : Launch} {G : GT} {fr lo : Nat} {h0 : Hp} {N : Nat} {r : (Nat × Hp)} (hfr : 5 ≤ fr) (hlo : 149 ≤ lo) {x99 : Nat → Nat → Hp → Option (Nat × Hp)} (hx99 : ∀ (v49 : Nat) (v50 : Nat) (h51 : Hp), x99 v49 v50 h51 = some r → V l G cX1_copy RX1 "copy" 3 (Option.some (Jvm.ClassFile.FieldType.object "LeekReadings$Bed")) fr lo h0 r.2 (QM G (some (.ref r.1)) h0 r.2) 129 [(0, .ref v49), (1, .ref v50)] [] h51) : ∀ (n : Nat) (v45 : Nat) (v46 : Nat) (v47 : Int32) (h48 : Hp), X1_copy_L99 N x99 n v45 v46 v47 h48 = some r → V l G cX1_copy RX1 "copy" 3 (Option.some (Jvm.ClassFile.FieldType.object "LeekReadings$Bed")) fr lo h0 r.2 (QM G (some (.ref r.1)) h0 r.2) 99 [(0, .ref v45), (1, .ref v46), (2, .int v47)] [] h48 := by
  intro n
  induction n with
  | zero =>
    intro v45 v46 v47 h48 hF
    cases (show (none : Option (Nat × Hp)) = some r from hF)
  | succ n hc99 =>
    intro v45 v46 v47 h48 hF
    rw [X1_copy_L99] at hF
    refine v_iload_n dX1_copy_99 rfl 2 rfl ?_
    refine v_bipush dX1_copy_100 (v := 6) (by decide) ?_
    refine v_icmp_ge (tgt := 129) dX1_copy_102 (by decide) hF (fun hF => ?_) (fun hF => ?_)
    · exact v_sub [0, 1] rfl (hx99 _ _ _ hF)
    · refine v_aload_n dX1_copy_105 rfl 0 rfl ?_
      refine v_getr dX1_copy_106 fl_X1_36 hF (fun v52 hF => ?_)
      refine v_iload_n dX1_copy_109 rfl 2 rfl ?_
      refine v_aaldr rfl rfl dX1_copy_110 hF (fun v53 hF => ?_)
      refine v_iconst dX1_copy_111 (v := 0) (by decide) ?_
      refine v_aload_n dX1_copy_112 rfl 1 rfl ?_
      refine v_getr dX1_copy_113 fl_X1_36 hF (fun v54 hF => ?_)
      refine v_iload_n dX1_copy_116 rfl 2 rfl ?_
      refine v_aaldr rfl rfl dX1_copy_117 hF (fun v55 hF => ?_)
      refine v_iconst dX1_copy_118 (v := 0) (by decide) ?_
      refine v_iconst dX1_copy_119 (v := 2) (by decide) ?_
      refine v_cpI dX1_copy_120 ac_X1_55 (k := 0) rfl (Or.inl ⟨rfl, rfl⟩) (by omega) (by have : lwAC ≤ 60 := Nat.le_of_ble_eq_true rfl; omega) (Nat.le_of_ble_eq_true rfl) hF (fun h56 hF => ?_)
      refine v_iinc dX1_copy_123 2 rfl (v := v47 + (1 : Int32)) (by rfl) (Nat.le_of_ble_eq_true rfl) (L' := [(2, .int (v47 + (1 : Int32))), (0, .ref v45), (1, .ref v46)]) rfl ?_
      refine v_goto (tgt := 99) dX1_copy_126 (by decide) ?_
      exact v_sub [1, 2, 0] rfl (hc99 _ _ _ _ hF)
def X1_copy_b (N : Nat) (a0 : Nat) (h : Hp) : Option (Nat × Hp) :=
  bd2 (nwo h 1 12 [.null, .null, .null, .null, .null, .null, .null, .null, .int 0, .int 0, .int 0, .int 0]) fun a21 h22 =>
  (X1_init a21 h22).bind fun h23 =>
  (gr h23 a21 [1] 0).bind fun v24 =>
  (gr h23 a0 [1] 0).bind fun v25 =>
  bd2 (J2_addAll v24 v25 h23) fun v27 h26 =>
  (gr h26 a0 [1] 1).bind fun v28 =>
  (gr h26 a21 [1] 1).bind fun v29 =>
  (cpI h26 0 v28 (0 : Int32) v29 (0 : Int32) (8 : Int32)).bind fun h30 =>
  (gr h30 a0 [1] 2).bind fun v31 =>
  (gr h30 a21 [1] 2).bind fun v32 =>
  (cpI h30 0 v31 (0 : Int32) v32 (0 : Int32) (8 : Int32)).bind fun h33 =>
  (gr h33 a0 [1] 3).bind fun v34 =>
  (gr h33 a21 [1] 3).bind fun v35 =>
  (cpI h33 0 v34 (0 : Int32) v35 (0 : Int32) (8 : Int32)).bind fun h36 =>
  (gr h36 a0 [1] 4).bind fun v37 =>
  (gr h36 a21 [1] 4).bind fun v38 =>
  (cpI h36 0 v37 (0 : Int32) v38 (0 : Int32) (4 : Int32)).bind fun h39 =>
  (gr h39 a0 [1] 5).bind fun v40 =>
  (gr h39 a21 [1] 5).bind fun v41 =>
  (gr h39 a0 [1] 5).bind fun v42 =>
  (alen h39 v42 0).bind fun v43 =>
  (cpI h39 0 v40 (0 : Int32) v41 (0 : Int32) v43).bind fun h44 =>
  X1_copy_L99 N (fun v58 v59 h60 =>
    (gr h60 v59 [1] 7).bind fun v61 =>
    (gr h60 v58 [1] 7).bind fun v62 =>
    bd2 (X2_as v61 v62 h60) fun v64 h63 =>
    (gi h63 v58 [1] 8).bind fun v65 =>
    (po h63 v59 [1] 8 (.int v65)).bind fun h66 =>
    (gi h66 v58 [1] 9).bind fun v67 =>
    (po h66 v59 [1] 9 (.int v67)).bind fun h68 =>
    (gi h68 v58 [1] 10).bind fun v69 =>
    (po h68 v59 [1] 10 (.int v69)).bind fun h70 =>
    (gi h70 v58 [1] 11).bind fun v71 =>
    (po h70 v59 [1] 11 (.int v71)).bind fun h72 =>
    some (v59, h72)) N a0 a21 (0 : Int32) h44
theorem w_X1_copy_b {l : Launch} {G : GT} {fr lo : Nat} {h0 : Hp} {N : Nat} {r : (Nat × Hp)} (hfr : 5 ≤ fr) (hlo : 149 ≤ lo) {a0 : Nat} {h : Hp} (hF : X1_copy_b N a0 h = some r) : V l G cX1_copy RX1 "copy" 3 (Option.some (Jvm.ClassFile.FieldType.object "LeekReadings$Bed")) fr lo h0 r.2 (QM G (some (.ref r.1)) h0 r.2) 0 [(0, .ref a0)] [] h := by
  unfold X1_copy_b at hF
  refine v_new dX1_copy_0 nl_X1_13 hF (fun a21 h22 hF => ?_)
  refine v_dup dX1_copy_3 rfl ?_
  obtain ⟨h23, e_h23, hF⟩ := Option.bind_eq_some_iff.mp hF
  refine v_calI dX1_copy_4 il_X1_50 q190 (ct_X1_init e_h23) rfl rfl (Nat.le_trans (Nat.le_of_ble_eq_true rfl) hfr) (Nat.le_trans (Nat.le_of_ble_eq_true rfl) hlo) (Nat.le_of_ble_eq_true rfl) ?_
  refine v_astore_n dX1_copy_7 rfl (Nat.le_of_ble_eq_true rfl) (L' := [(1, .ref a21), (0, .ref a0)]) rfl ?_
  refine v_aload_n dX1_copy_8 rfl 0 rfl ?_
  refine v_getr dX1_copy_9 fl_X1_12 hF (fun v24 hF => ?_)
  refine v_aload_n dX1_copy_12 rfl 1 rfl ?_
  refine v_getr dX1_copy_13 fl_X1_12 hF (fun v25 hF => ?_)
  obtain ⟨v27, h26, e_v27, hF⟩ := bd2_spec hF
  refine v_calV1 dX1_copy_16 vl_X1_51 q1600 (rc_J2_addAll e_v27) (ct_J2_addAll e_v27) rfl rfl (Nat.le_trans (Nat.le_of_ble_eq_true rfl) hfr) (Nat.le_trans (Nat.le_of_ble_eq_true rfl) hlo) (Nat.le_of_ble_eq_true rfl) ?_
  refine v_pop dX1_copy_19 rfl ?_
  refine v_aload_n dX1_copy_20 rfl 1 rfl ?_
  refine v_getr dX1_copy_21 fl_X1_18 hF (fun v28 hF => ?_)
  refine v_iconst dX1_copy_24 (v := 0) (by decide) ?_
  refine v_aload_n dX1_copy_25 rfl 0 rfl ?_
  refine v_getr dX1_copy_26 fl_X1_18 hF (fun v29 hF => ?_)
  refine v_iconst dX1_copy_29 (v := 0) (by decide) ?_
  refine v_bipush dX1_copy_30 (v := 8) (by decide) ?_
  refine v_cpI dX1_copy_32 ac_X1_55 (k := 0) rfl (Or.inl ⟨rfl, rfl⟩) (by omega) (by have : lwAC ≤ 60 := Nat.le_of_ble_eq_true rfl; omega) (Nat.le_of_ble_eq_true rfl) hF (fun h30 hF => ?_)
  refine v_aload_n dX1_copy_35 rfl 1 rfl ?_
  refine v_getr dX1_copy_36 fl_X1_22 hF (fun v31 hF => ?_)
  refine v_iconst dX1_copy_39 (v := 0) (by decide) ?_
  refine v_aload_n dX1_copy_40 rfl 0 rfl ?_
  refine v_getr dX1_copy_41 fl_X1_22 hF (fun v32 hF => ?_)
  refine v_iconst dX1_copy_44 (v := 0) (by decide) ?_
  refine v_bipush dX1_copy_45 (v := 8) (by decide) ?_
  refine v_cpI dX1_copy_47 ac_X1_55 (k := 0) rfl (Or.inl ⟨rfl, rfl⟩) (by omega) (by have : lwAC ≤ 60 := Nat.le_of_ble_eq_true rfl; omega) (Nat.le_of_ble_eq_true rfl) hF (fun h33 hF => ?_)
  refine v_aload_n dX1_copy_50 rfl 1 rfl ?_
  refine v_getr dX1_copy_51 fl_X1_25 hF (fun v34 hF => ?_)
  refine v_iconst dX1_copy_54 (v := 0) (by decide) ?_
  refine v_aload_n dX1_copy_55 rfl 0 rfl ?_
  refine v_getr dX1_copy_56 fl_X1_25 hF (fun v35 hF => ?_)
  refine v_iconst dX1_copy_59 (v := 0) (by decide) ?_
  refine v_bipush dX1_copy_60 (v := 8) (by decide) ?_
  refine v_cpI dX1_copy_62 ac_X1_55 (k := 0) rfl (Or.inl ⟨rfl, rfl⟩) (by omega) (by have : lwAC ≤ 60 := Nat.le_of_ble_eq_true rfl; omega) (Nat.le_of_ble_eq_true rfl) hF (fun h36 hF => ?_)
  refine v_aload_n dX1_copy_65 rfl 1 rfl ?_
  refine v_getr dX1_copy_66 fl_X1_28 hF (fun v37 hF => ?_)
  refine v_iconst dX1_copy_69 (v := 0) (by decide) ?_
  refine v_aload_n dX1_copy_70 rfl 0 rfl ?_
  refine v_getr dX1_copy_71 fl_X1_28 hF (fun v38 hF => ?_)
  refine v_iconst dX1_copy_74 (v := 0) (by decide) ?_
  refine v_iconst dX1_copy_75 (v := 4) (by decide) ?_
  refine v_cpI dX1_copy_76 ac_X1_55 (k := 0) rfl (Or.inl ⟨rfl, rfl⟩) (by omega) (by have : lwAC ≤ 60 := Nat.le_of_ble_eq_true rfl; omega) (Nat.le_of_ble_eq_true rfl) hF (fun h39 hF => ?_)
  refine v_aload_n dX1_copy_79 rfl 1 rfl ?_
  refine v_getr dX1_copy_80 fl_X1_31 hF (fun v40 hF => ?_)
  refine v_iconst dX1_copy_83 (v := 0) (by decide) ?_
  refine v_aload_n dX1_copy_84 rfl 0 rfl ?_
  refine v_getr dX1_copy_85 fl_X1_31 hF (fun v41 hF => ?_)
  refine v_iconst dX1_copy_88 (v := 0) (by decide) ?_
  refine v_aload_n dX1_copy_89 rfl 1 rfl ?_
  refine v_getr dX1_copy_90 fl_X1_31 hF (fun v42 hF => ?_)
  refine v_alen (k := 0) rfl dX1_copy_93 hF (fun v43 hF => ?_)
  refine v_cpI dX1_copy_94 ac_X1_55 (k := 0) rfl (Or.inl ⟨rfl, rfl⟩) (by omega) (by have : lwAC ≤ 60 := Nat.le_of_ble_eq_true rfl; omega) (Nat.le_of_ble_eq_true rfl) hF (fun h44 hF => ?_)
  refine v_iconst dX1_copy_97 (v := 0) (by decide) ?_
  refine v_istore_n dX1_copy_98 rfl (Nat.le_of_ble_eq_true rfl) (L' := [(2, .int (0 : Int32)), (1, .ref a21), (0, .ref a0)]) rfl ?_
  refine v_sub [2, 1, 0] rfl (w_X1_copy_L99 hfr hlo ?_ N _ _ _ _ hF)
  intro v58 v59 h60 hF
  refine v_aload_n dX1_copy_129 rfl 1 rfl ?_
  refine v_getr dX1_copy_130 fl_X1_42 hF (fun v61 hF => ?_)
  refine v_aload_n dX1_copy_133 rfl 0 rfl ?_
  refine v_getr dX1_copy_134 fl_X1_42 hF (fun v62 hF => ?_)
  obtain ⟨v64, h63, e_v64, hF⟩ := bd2_spec hF
  refine v_calV1 dX1_copy_137 vl_X1_61 q1318 (rc_X2_as e_v64) (ct_X2_as e_v64) rfl rfl (Nat.le_trans (Nat.le_of_ble_eq_true rfl) hfr) (Nat.le_trans (Nat.le_of_ble_eq_true rfl) hlo) (Nat.le_of_ble_eq_true rfl) ?_
  refine v_pop dX1_copy_140 rfl ?_
  refine v_aload_n dX1_copy_141 rfl 1 rfl ?_
  refine v_aload_n dX1_copy_142 rfl 0 rfl ?_
  refine v_geti dX1_copy_143 fl_X1_65 hF (fun v65 hF => ?_)
  refine v_put dX1_copy_146 pl_X1_65 (fun z => by cases z) rfl rfl hF (fun h66 hF => ?_)
  refine v_aload_n dX1_copy_149 rfl 1 rfl ?_
  refine v_aload_n dX1_copy_150 rfl 0 rfl ?_
  refine v_geti dX1_copy_151 fl_X1_68 hF (fun v67 hF => ?_)
  refine v_put dX1_copy_154 pl_X1_68 (fun z => by cases z) rfl rfl hF (fun h68 hF => ?_)
  refine v_aload_n dX1_copy_157 rfl 1 rfl ?_
  refine v_aload_n dX1_copy_158 rfl 0 rfl ?_
  refine v_geti dX1_copy_159 fl_X1_71 hF (fun v69 hF => ?_)
  refine v_put dX1_copy_162 pl_X1_71 (fun z => by cases z) rfl rfl hF (fun h70 hF => ?_)
  refine v_aload_n dX1_copy_165 rfl 1 rfl ?_
  refine v_aload_n dX1_copy_166 rfl 0 rfl ?_
  refine v_geti dX1_copy_167 fl_X1_46 hF (fun v71 hF => ?_)
  refine v_put dX1_copy_170 pl_X1_46 (fun z => by cases z) rfl rfl hF (fun h72 hF => ?_)
  refine v_aload_n dX1_copy_173 rfl 1 rfl ?_
  cases hF
  exact v_aret (x := some _) dX1_copy_174 rfl (Or.inl ⟨_, rfl⟩) rfl rfl
def X1_copy (N : Nat) (a0 : Nat) (h : Hp) : Option (Nat × Hp) := (ob h a0 [1]).bind fun _ => X1_copy_b N a0 h
theorem rc_X1_copy {N : Nat}  {r : (Nat × Hp)} {a0 : Nat} {h : Hp} (hF : X1_copy N a0 h = some r) : RC h a0 [1] := by
  obtain ⟨o, ho, -⟩ := Option.bind_eq_some_iff.mp hF
  exact ⟨o, ho⟩
theorem ct_X1_copy {l : Launch} {G : GT} {N : Nat} {r : (Nat × Hp)} {a0 : Nat} {h : Hp} (hF : X1_copy N a0 h = some r) : Ct l G yX1_copy (ws_ yX1_copy cX1_copy 3 (Option.some (Jvm.ClassFile.FieldType.object "LeekReadings$Bed"))) 5 149 [.ref a0] h (some (.ref r.1)) r.2 :=
  ct_of (by decide) (Nat.le_of_ble_eq_true rfl) (w_X1_copy_b (Nat.le_refl _) (Nat.le_refl _) (Option.bind_eq_some_iff.mp hF).choose_spec.2)
theorem vl_X0_455 : ∀ ci ∈ [1], VL RX0 455 ci yX1_copy 0 := by
  intro ci h
  simp only [List.mem_cons, List.not_mem_nil, or_false] at h
  subst h; exact ⟨RX1, TX1, 12, rfl, q138, ⟨by decide, by decide⟩, by decide +kernel, q1592, Or.inl ⟨q1591, q1593⟩⟩
theorem al_5 : AL "LeekReadings$Bed" [1] := by
  intro ci h
  simp only [List.mem_cons, List.not_mem_nil, or_false] at h
  subst h; exact ⟨(RX1, TX1, 12), rfl, Or.inl rfl⟩
theorem fl_X0_16 : FL RX0 16 [0] 1 := by
  intro ci h
  simp only [List.mem_cons, List.not_mem_nil, or_false] at h
  subst h; exact ⟨RX0, _, TX0, 31, rfl, in_X0, by decide, Or.inl q354, Or.inl rfl⟩
def C_image_b (N : Nat) (a0 : Nat) (a1 : Int32) (h : Hp) : Option (Int32 × Hp) :=
  (C_in a1.toInt64 (0 : Int64) (1 : Int64)).bind fun v21 =>
  if v21 = 0 then
    bd2 (C_tell a0 (-1 : Int32) h) fun v30 h29 =>
    some (v30, h29)
  else
    (gr h a0 [0] 1).bind fun v22 =>
    (gr h a0 [0] 0).bind fun v23 =>
    bd2 (X1_copy N v23 h) fun v25 h24 =>
    (sR h24 v22 5 [1] a1 v25).bind fun h26 =>
    bd2 (C_tell a0 (0 : Int32) h26) fun v28 h27 =>
    some (v28, h27)
theorem w_C_image_b {l : Launch} {G : GT} {fr lo : Nat} {h0 : Hp} {N : Nat} {r : (Int32 × Hp)} (hfr : 6 ≤ fr) (hlo : 171 ≤ lo) {a0 : Nat} {a1 : Int32} {h : Hp} (hF : C_image_b N a0 a1 h = some r) : V l G cX0_image RX0 "image" 2 (Option.some Jvm.ClassFile.FieldType.int) fr lo h0 r.2 (QM G (some (.int r.1)) h0 r.2) 0 [(0, .ref a0), (1, .int a1)] [] h := by
  unfold C_image_b at hF
  refine v_iload_n dX0_image_0 rfl 1 rfl ?_
  refine v_i2l dX0_image_1 ?_
  refine v_lconst dX0_image_2 (v := 0) (by decide) ?_
  refine v_lconst dX0_image_3 (v := 1) (by decide) ?_
  obtain ⟨v21, e_v21, hF⟩ := Option.bind_eq_some_iff.mp hF
  refine v_calS1 dX0_image_4 sl_X0_128 q468 (ct_C_in e_v21) rfl rfl (Nat.le_trans (Nat.le_of_ble_eq_true rfl) hfr) (Nat.le_trans (Nat.le_of_ble_eq_true rfl) hlo) (Nat.le_of_ble_eq_true rfl) ?_
  refine v_if_ne (tgt := 16) dX0_image_7 (by decide) hF (fun hF => ?_) (fun hF => ?_)
  · refine v_aload_n dX0_image_16 rfl 0 rfl ?_
    refine v_getr dX0_image_17 fl_X0_16 hF (fun v22 hF => ?_)
    refine v_iload_n dX0_image_20 rfl 1 rfl ?_
    refine v_aload_n dX0_image_21 rfl 0 rfl ?_
    refine v_getr dX0_image_22 fl_X0_10 hF (fun v23 hF => ?_)
    obtain ⟨v25, h24, e_v25, hF⟩ := bd2_spec hF
    refine v_calV1 dX0_image_25 vl_X0_455 q1594 (rc_X1_copy e_v25) (ct_X1_copy e_v25) rfl rfl (Nat.le_trans (Nat.le_of_ble_eq_true rfl) hfr) (Nat.le_trans (Nat.le_of_ble_eq_true rfl) hlo) (Nat.le_of_ble_eq_true rfl) ?_
    refine v_aast rfl al_5 dX0_image_28 hF (fun h26 hF => ?_)
    refine v_aload_n dX0_image_29 rfl 0 rfl ?_
    refine v_iconst dX0_image_30 (v := 0) (by decide) ?_
    obtain ⟨v28, h27, e_v28, hF⟩ := bd2_spec hF
    refine v_calV1 dX0_image_31 vl_X0_112 q494 (rc_C_tell e_v28) (ct_C_tell e_v28) rfl rfl (Nat.le_trans (Nat.le_of_ble_eq_true rfl) hfr) (Nat.le_trans (Nat.le_of_ble_eq_true rfl) hlo) (Nat.le_of_ble_eq_true rfl) ?_
    cases hF
    exact v_iret dX0_image_34 rfl rfl rfl rfl
  · refine v_aload_n dX0_image_10 rfl 0 rfl ?_
    refine v_iconst dX0_image_11 (v := -1) (by decide) ?_
    obtain ⟨v30, h29, e_v30, hF⟩ := bd2_spec hF
    refine v_calV1 dX0_image_12 vl_X0_112 q494 (rc_C_tell e_v30) (ct_C_tell e_v30) rfl rfl (Nat.le_trans (Nat.le_of_ble_eq_true rfl) hfr) (Nat.le_trans (Nat.le_of_ble_eq_true rfl) hlo) (Nat.le_of_ble_eq_true rfl) ?_
    cases hF
    exact v_iret dX0_image_15 rfl rfl rfl rfl
def C_image (N : Nat) (a0 : Nat) (a1 : Int32) (h : Hp) : Option (Int32 × Hp) := (ob h a0 [0]).bind fun _ => C_image_b N a0 a1 h
theorem rc_C_image {N : Nat}  {r : (Int32 × Hp)} {a0 : Nat} {a1 : Int32} {h : Hp} (hF : C_image N a0 a1 h = some r) : RC h a0 [0] := by
  obtain ⟨o, ho, -⟩ := Option.bind_eq_some_iff.mp hF
  exact ⟨o, ho⟩
theorem ct_C_image {l : Launch} {G : GT} {N : Nat} {r : (Int32 × Hp)} {a0 : Nat} {a1 : Int32} {h : Hp} (hF : C_image N a0 a1 h = some r) : Ct l G yX0_image (ws_ yX0_image cX0_image 2 (Option.some Jvm.ClassFile.FieldType.int)) 6 171 [.ref a0, .int a1] h (some (.int r.1)) r.2 :=
  ct_of (by decide) (Nat.le_of_ble_eq_true rfl) (w_C_image_b (Nat.le_refl _) (Nat.le_refl _) (Option.bind_eq_some_iff.mp hF).choose_spec.2)
def C_back_b (N : Nat) (a0 : Nat) (a1 : Int32) (h : Hp) : Option (Int32 × Hp) :=
  (C_in a1.toInt64 (0 : Int64) (1 : Int64)).bind fun v21 =>
  if v21 = 0 then
    bd2 (C_tell a0 (-1 : Int32) h) fun v35 h34 =>
    some (v35, h34)
  else
    (gr h a0 [0] 1).bind fun v22 =>
    (aQ h v22 5 a1).bind fun v23 =>
    v23.elim
      (bd2 (C_tell a0 (-2 : Int32) h) fun v26 h25 =>
      some (v26, h25))
      (fun a24 =>
        (gr h a0 [0] 1).bind fun v27 =>
        (aR h v27 5 a1).bind fun v28 =>
        bd2 (X1_copy N v28 h) fun v30 h29 =>
        (po h29 a0 [0] 0 (.ref v30)).bind fun h31 =>
        bd2 (C_settled a0 (0 : Int32) h31) fun v33 h32 =>
        some (v33, h32))
theorem w_C_back_b {l : Launch} {G : GT} {fr lo : Nat} {h0 : Hp} {N : Nat} {r : (Int32 × Hp)} (hfr : 6 ≤ fr) (hlo : 171 ≤ lo) {a0 : Nat} {a1 : Int32} {h : Hp} (hF : C_back_b N a0 a1 h = some r) : V l G cX0_back RX0 "back" 2 (Option.some Jvm.ClassFile.FieldType.int) fr lo h0 r.2 (QM G (some (.int r.1)) h0 r.2) 0 [(0, .ref a0), (1, .int a1)] [] h := by
  unfold C_back_b at hF
  refine v_iload_n dX0_back_0 rfl 1 rfl ?_
  refine v_i2l dX0_back_1 ?_
  refine v_lconst dX0_back_2 (v := 0) (by decide) ?_
  refine v_lconst dX0_back_3 (v := 1) (by decide) ?_
  obtain ⟨v21, e_v21, hF⟩ := Option.bind_eq_some_iff.mp hF
  refine v_calS1 dX0_back_4 sl_X0_128 q468 (ct_C_in e_v21) rfl rfl (Nat.le_trans (Nat.le_of_ble_eq_true rfl) hfr) (Nat.le_trans (Nat.le_of_ble_eq_true rfl) hlo) (Nat.le_of_ble_eq_true rfl) ?_
  refine v_if_ne (tgt := 16) dX0_back_7 (by decide) hF (fun hF => ?_) (fun hF => ?_)
  · refine v_aload_n dX0_back_16 rfl 0 rfl ?_
    refine v_getr dX0_back_17 fl_X0_16 hF (fun v22 hF => ?_)
    refine v_iload_n dX0_back_20 rfl 1 rfl ?_
    refine v_aald rfl rfl dX0_back_21 hF (fun v23 hF => ?_)
    refine v_ifnonnull (tgt := 32) dX0_back_22 (by decide) hF (fun hq hG => ?_) (fun a24 hq hG => ?_)
    · subst hq
      have hF := hG
      refine v_aload_n dX0_back_25 rfl 0 rfl ?_
      refine v_bipush dX0_back_26 (v := -2) (by decide) ?_
      obtain ⟨v26, h25, e_v26, hF⟩ := bd2_spec hF
      refine v_calV1 dX0_back_28 vl_X0_112 q494 (rc_C_tell e_v26) (ct_C_tell e_v26) rfl rfl (Nat.le_trans (Nat.le_of_ble_eq_true rfl) hfr) (Nat.le_trans (Nat.le_of_ble_eq_true rfl) hlo) (Nat.le_of_ble_eq_true rfl) ?_
      cases hF
      exact v_iret dX0_back_31 rfl rfl rfl rfl
    · subst hq
      have hF := hG
      refine v_aload_n dX0_back_32 rfl 0 rfl ?_
      refine v_aload_n dX0_back_33 rfl 0 rfl ?_
      refine v_getr dX0_back_34 fl_X0_16 hF (fun v27 hF => ?_)
      refine v_iload_n dX0_back_37 rfl 1 rfl ?_
      refine v_aaldr rfl rfl dX0_back_38 hF (fun v28 hF => ?_)
      obtain ⟨v30, h29, e_v30, hF⟩ := bd2_spec hF
      refine v_calV1 dX0_back_39 vl_X0_455 q1594 (rc_X1_copy e_v30) (ct_X1_copy e_v30) rfl rfl (Nat.le_trans (Nat.le_of_ble_eq_true rfl) hfr) (Nat.le_trans (Nat.le_of_ble_eq_true rfl) hlo) (Nat.le_of_ble_eq_true rfl) ?_
      refine v_put dX0_back_42 pl_X0_10 (fun z => by cases z) rfl rfl hF (fun h31 hF => ?_)
      refine v_aload_n dX0_back_45 rfl 0 rfl ?_
      refine v_iconst dX0_back_46 (v := 0) (by decide) ?_
      obtain ⟨v33, h32, e_v33, hF⟩ := bd2_spec hF
      refine v_calV1 dX0_back_47 vl_X0_169 q490 (rc_C_settled e_v33) (ct_C_settled e_v33) rfl rfl (Nat.le_trans (Nat.le_of_ble_eq_true rfl) hfr) (Nat.le_trans (Nat.le_of_ble_eq_true rfl) hlo) (Nat.le_of_ble_eq_true rfl) ?_
      cases hF
      exact v_iret dX0_back_50 rfl rfl rfl rfl
  · refine v_aload_n dX0_back_10 rfl 0 rfl ?_
    refine v_iconst dX0_back_11 (v := -1) (by decide) ?_
    obtain ⟨v35, h34, e_v35, hF⟩ := bd2_spec hF
    refine v_calV1 dX0_back_12 vl_X0_112 q494 (rc_C_tell e_v35) (ct_C_tell e_v35) rfl rfl (Nat.le_trans (Nat.le_of_ble_eq_true rfl) hfr) (Nat.le_trans (Nat.le_of_ble_eq_true rfl) hlo) (Nat.le_of_ble_eq_true rfl) ?_
    cases hF
    exact v_iret dX0_back_15 rfl rfl rfl rfl
def C_back (N : Nat) (a0 : Nat) (a1 : Int32) (h : Hp) : Option (Int32 × Hp) := (ob h a0 [0]).bind fun _ => C_back_b N a0 a1 h
theorem rc_C_back {N : Nat}  {r : (Int32 × Hp)} {a0 : Nat} {a1 : Int32} {h : Hp} (hF : C_back N a0 a1 h = some r) : RC h a0 [0] := by
  obtain ⟨o, ho, -⟩ := Option.bind_eq_some_iff.mp hF
  exact ⟨o, ho⟩
theorem ct_C_back {l : Launch} {G : GT} {N : Nat} {r : (Int32 × Hp)} {a0 : Nat} {a1 : Int32} {h : Hp} (hF : C_back N a0 a1 h = some r) : Ct l G yX0_back (ws_ yX0_back cX0_back 2 (Option.some Jvm.ClassFile.FieldType.int)) 6 171 [.ref a0, .int a1] h (some (.int r.1)) r.2 :=
  ct_of (by decide) (Nat.le_of_ble_eq_true rfl) (w_C_back_b (Nat.le_refl _) (Nat.le_refl _) (Option.bind_eq_some_iff.mp hF).choose_spec.2)
def C_count_b (h : Hp) (a0 : Nat) (a1 : Int32) : Option Int32 :=
  if a1.toInt < 0 ∨ 12 < a1.toInt then
    (C_in a1.toInt64 (13 : Int64) (15 : Int64)).bind fun v21 =>
    if v21 = 0 then
      some (-1 : Int32)
    else
      (C_term h a0 (a1 - (13 : Int32))).bind fun v22 =>
      some v22
  else
  if a1.toInt = 0 then
    (C_nBooks h a0).bind fun v23 =>
    some v23
  else
  if a1.toInt = 1 then
    (C_nLeeks h a0).bind fun v24 =>
    some v24
  else
  if a1.toInt = 2 then
    (C_books h a0).bind fun v25 =>
    (gi h v25 [2] 1).bind fun v26 =>
    (J4_bitCount v26).bind fun v27 =>
    some v27
  else
  if a1.toInt = 3 then
    (gr h a0 [0] 0).bind fun v28 =>
    (gi h v28 [1] 10).bind fun v29 =>
    some v29
  else
  if a1.toInt = 4 then
    (gr h a0 [0] 0).bind fun v30 =>
    (gr h v30 [1] 0).bind fun v31 =>
    (J2_size h v31).bind fun v32 =>
    some v32
  else
  if a1.toInt = 5 then
    (gr h a0 [0] 2).bind fun v33 =>
    (gi h v33 [3] 1).bind fun v34 =>
    some v34
  else
  if a1.toInt = 6 then
    (gi h a0 [0] 15).bind fun v35 =>
    some v35
  else
  if a1.toInt = 7 then
    (gr h a0 [0] 9).bind fun v36 =>
    (aI h v36 0 (1 : Int32)).bind fun v37 =>
    some v37
  else
  if a1.toInt = 8 then
    (gr h a0 [0] 9).bind fun v38 =>
    (aI h v38 0 (2 : Int32)).bind fun v39 =>
    some v39
  else
  if a1.toInt = 9 then
    (gr h a0 [0] 9).bind fun v40 =>
    (aI h v40 0 (3 : Int32)).bind fun v41 =>
    some v41
  else
  if a1.toInt = 10 then
    (gr h a0 [0] 9).bind fun v42 =>
    (aI h v42 0 (5 : Int32)).bind fun v43 =>
    some v43
  else
  if a1.toInt = 11 then
    (gr h a0 [0] 9).bind fun v44 =>
    (aI h v44 0 (6 : Int32)).bind fun v45 =>
    some v45
  else
    (gr h a0 [0] 0).bind fun v46 =>
    (gi h v46 [1] 11).bind fun v47 =>
    some v47
theorem w_C_count_b {l : Launch} {G : GT} {fr lo : Nat} {h0 : Hp} {h : Hp} {r : Int32} (hfr : 2 ≤ fr) (hlo : 41 ≤ lo) {a0 : Nat} {a1 : Int32} (hF : C_count_b h a0 a1 = some r) : V l G cX0_count RX0 "count" 2 (Option.some Jvm.ClassFile.FieldType.int) fr lo h0 h (QM G (some (.int r)) h0 h) 0 [(0, .ref a0), (1, .int a1)] [] h := by
  unfold C_count_b at hF
  refine v_iload_n dX0_count_0 rfl 1 rfl ?_
  refine v_swOut (td := 165) dX0_count_1 (by decide) hF (fun hF => ?_) (fun hs1 hs2 hF => ?_)
  · refine v_iload_n dX0_count_165 rfl 1 rfl ?_
    refine v_i2l dX0_count_166 ?_
    refine v_ldc2 dX0_count_167 q1622 ?_
    refine v_ldc2 dX0_count_170 q1623 ?_
    obtain ⟨v21, e_v21, hF⟩ := Option.bind_eq_some_iff.mp hF
    refine v_calS1 dX0_count_173 sl_X0_128 q468 (ct_C_in e_v21) rfl rfl (Nat.le_trans (Nat.le_of_ble_eq_true rfl) hfr) (Nat.le_trans (Nat.le_of_ble_eq_true rfl) hlo) (Nat.le_of_ble_eq_true rfl) ?_
    refine v_if_eq (tgt := 190) dX0_count_176 (by decide) hF (fun hF => ?_) (fun hF => ?_)
    · refine v_iconst dX0_count_190 (v := -1) (by decide) ?_
      cases hF
      exact v_iret dX0_count_191 rfl rfl rfl rfl
    · refine v_aload_n dX0_count_179 rfl 0 rfl ?_
      refine v_iload_n dX0_count_180 rfl 1 rfl ?_
      refine v_bipush dX0_count_181 (v := 13) (by decide) ?_
      refine v_isub dX0_count_183 ?_
      obtain ⟨v22, e_v22, hF⟩ := Option.bind_eq_some_iff.mp hF
      refine v_calV1 dX0_count_184 vl_X0_213 q650 (rc_C_term e_v22) (ct_C_term e_v22) rfl rfl (Nat.le_trans (Nat.le_of_ble_eq_true rfl) hfr) (Nat.le_trans (Nat.le_of_ble_eq_true rfl) hlo) (Nat.le_of_ble_eq_true rfl) ?_
      refine v_goto (tgt := 191) dX0_count_187 (by decide) ?_
      cases hF
      exact v_iret dX0_count_191 rfl rfl rfl rfl
  · refine v_case (i := 0) hF (fun hc hF => ?_) (fun hc0 hF => ?_)
    · refine v_swIn (i := 0) (off := 67) (tgt := 68) dX0_count_1 hc (by decide) (by decide) rfl (by decide) ?_
      refine v_aload_n dX0_count_68 rfl 0 rfl ?_
      obtain ⟨v23, e_v23, hF⟩ := Option.bind_eq_some_iff.mp hF
      refine v_calV1 dX0_count_69 vl_X0_125 q482 (rc_C_nBooks e_v23) (ct_C_nBooks e_v23) rfl rfl (Nat.le_trans (Nat.le_of_ble_eq_true rfl) hfr) (Nat.le_trans (Nat.le_of_ble_eq_true rfl) hlo) (Nat.le_of_ble_eq_true rfl) ?_
      cases hF
      exact v_iret dX0_count_72 rfl rfl rfl rfl
    refine v_case (i := 1) hF (fun hc hF => ?_) (fun hc1 hF => ?_)
    · refine v_swIn (i := 1) (off := 72) (tgt := 73) dX0_count_1 hc (by decide) (by decide) rfl (by decide) ?_
      refine v_aload_n dX0_count_73 rfl 0 rfl ?_
      obtain ⟨v24, e_v24, hF⟩ := Option.bind_eq_some_iff.mp hF
      refine v_calV1 dX0_count_74 vl_X0_132 q587 (rc_C_nLeeks e_v24) (ct_C_nLeeks e_v24) rfl rfl (Nat.le_trans (Nat.le_of_ble_eq_true rfl) hfr) (Nat.le_trans (Nat.le_of_ble_eq_true rfl) hlo) (Nat.le_of_ble_eq_true rfl) ?_
      cases hF
      exact v_iret dX0_count_77 rfl rfl rfl rfl
    refine v_case (i := 2) hF (fun hc hF => ?_) (fun hc2 hF => ?_)
    · refine v_swIn (i := 2) (off := 77) (tgt := 78) dX0_count_1 hc (by decide) (by decide) rfl (by decide) ?_
      refine v_aload_n dX0_count_78 rfl 0 rfl ?_
      obtain ⟨v25, e_v25, hF⟩ := Option.bind_eq_some_iff.mp hF
      refine v_calV1 dX0_count_79 vl_X0_135 q486 (rc_C_books e_v25) (ct_C_books e_v25) rfl rfl (Nat.le_trans (Nat.le_of_ble_eq_true rfl) hfr) (Nat.le_trans (Nat.le_of_ble_eq_true rfl) hlo) (Nat.le_of_ble_eq_true rfl) ?_
      refine v_geti dX0_count_82 fl_X0_138 hF (fun v26 hF => ?_)
      obtain ⟨v27, e_v27, hF⟩ := Option.bind_eq_some_iff.mp hF
      refine v_calS1 dX0_count_85 sl_X0_277 q532 (ct_J4_bitCount e_v27) rfl rfl (Nat.le_trans (Nat.le_of_ble_eq_true rfl) hfr) (Nat.le_trans (Nat.le_of_ble_eq_true rfl) hlo) (Nat.le_of_ble_eq_true rfl) ?_
      cases hF
      exact v_iret dX0_count_88 rfl rfl rfl rfl
    refine v_case (i := 3) hF (fun hc hF => ?_) (fun hc3 hF => ?_)
    · refine v_swIn (i := 3) (off := 88) (tgt := 89) dX0_count_1 hc (by decide) (by decide) rfl (by decide) ?_
      refine v_aload_n dX0_count_89 rfl 0 rfl ?_
      refine v_getr dX0_count_90 fl_X0_10 hF (fun v28 hF => ?_)
      refine v_geti dX0_count_93 fl_X0_395 hF (fun v29 hF => ?_)
      cases hF
      exact v_iret dX0_count_96 rfl rfl rfl rfl
    refine v_case (i := 4) hF (fun hc hF => ?_) (fun hc4 hF => ?_)
    · refine v_swIn (i := 4) (off := 96) (tgt := 97) dX0_count_1 hc (by decide) (by decide) rfl (by decide) ?_
      refine v_aload_n dX0_count_97 rfl 0 rfl ?_
      refine v_getr dX0_count_98 fl_X0_10 hF (fun v30 hF => ?_)
      refine v_getr dX0_count_101 fl_X0_234 hF (fun v31 hF => ?_)
      obtain ⟨v32, e_v32, hF⟩ := Option.bind_eq_some_iff.mp hF
      refine v_calV1 dX0_count_104 vl_X0_238 q751 (rc_J2_size e_v32) (ct_J2_size e_v32) rfl rfl (Nat.le_trans (Nat.le_of_ble_eq_true rfl) hfr) (Nat.le_trans (Nat.le_of_ble_eq_true rfl) hlo) (Nat.le_of_ble_eq_true rfl) ?_
      cases hF
      exact v_iret dX0_count_107 rfl rfl rfl rfl
    refine v_case (i := 5) hF (fun hc hF => ?_) (fun hc5 hF => ?_)
    · refine v_swIn (i := 5) (off := 107) (tgt := 108) dX0_count_1 hc (by decide) (by decide) rfl (by decide) ?_
      refine v_aload_n dX0_count_108 rfl 0 rfl ?_
      refine v_getr dX0_count_109 fl_X0_23 hF (fun v33 hF => ?_)
      refine v_geti dX0_count_112 fl_X0_109 hF (fun v34 hF => ?_)
      cases hF
      exact v_iret dX0_count_115 rfl rfl rfl rfl
    refine v_case (i := 6) hF (fun hc hF => ?_) (fun hc6 hF => ?_)
    · refine v_swIn (i := 6) (off := 115) (tgt := 116) dX0_count_1 hc (by decide) (by decide) rfl (by decide) ?_
      refine v_aload_n dX0_count_116 rfl 0 rfl ?_
      refine v_geti dX0_count_117 fl_X0_148 hF (fun v35 hF => ?_)
      cases hF
      exact v_iret dX0_count_120 rfl rfl rfl rfl
    refine v_case (i := 7) hF (fun hc hF => ?_) (fun hc7 hF => ?_)
    · refine v_swIn (i := 7) (off := 120) (tgt := 121) dX0_count_1 hc (by decide) (by decide) rfl (by decide) ?_
      refine v_aload_n dX0_count_121 rfl 0 rfl ?_
      refine v_getr dX0_count_122 fl_X0_61 hF (fun v36 hF => ?_)
      refine v_iconst dX0_count_125 (v := 1) (by decide) ?_
      refine v_iald dX0_count_126 hF (fun v37 hF => ?_)
      cases hF
      exact v_iret dX0_count_127 rfl rfl rfl rfl
    refine v_case (i := 8) hF (fun hc hF => ?_) (fun hc8 hF => ?_)
    · refine v_swIn (i := 8) (off := 127) (tgt := 128) dX0_count_1 hc (by decide) (by decide) rfl (by decide) ?_
      refine v_aload_n dX0_count_128 rfl 0 rfl ?_
      refine v_getr dX0_count_129 fl_X0_61 hF (fun v38 hF => ?_)
      refine v_iconst dX0_count_132 (v := 2) (by decide) ?_
      refine v_iald dX0_count_133 hF (fun v39 hF => ?_)
      cases hF
      exact v_iret dX0_count_134 rfl rfl rfl rfl
    refine v_case (i := 9) hF (fun hc hF => ?_) (fun hc9 hF => ?_)
    · refine v_swIn (i := 9) (off := 134) (tgt := 135) dX0_count_1 hc (by decide) (by decide) rfl (by decide) ?_
      refine v_aload_n dX0_count_135 rfl 0 rfl ?_
      refine v_getr dX0_count_136 fl_X0_61 hF (fun v40 hF => ?_)
      refine v_iconst dX0_count_139 (v := 3) (by decide) ?_
      refine v_iald dX0_count_140 hF (fun v41 hF => ?_)
      cases hF
      exact v_iret dX0_count_141 rfl rfl rfl rfl
    refine v_case (i := 10) hF (fun hc hF => ?_) (fun hc10 hF => ?_)
    · refine v_swIn (i := 10) (off := 141) (tgt := 142) dX0_count_1 hc (by decide) (by decide) rfl (by decide) ?_
      refine v_aload_n dX0_count_142 rfl 0 rfl ?_
      refine v_getr dX0_count_143 fl_X0_61 hF (fun v42 hF => ?_)
      refine v_iconst dX0_count_146 (v := 5) (by decide) ?_
      refine v_iald dX0_count_147 hF (fun v43 hF => ?_)
      cases hF
      exact v_iret dX0_count_148 rfl rfl rfl rfl
    refine v_case (i := 11) hF (fun hc hF => ?_) (fun hc11 hF => ?_)
    · refine v_swIn (i := 11) (off := 148) (tgt := 149) dX0_count_1 hc (by decide) (by decide) rfl (by decide) ?_
      refine v_aload_n dX0_count_149 rfl 0 rfl ?_
      refine v_getr dX0_count_150 fl_X0_61 hF (fun v44 hF => ?_)
      refine v_bipush dX0_count_153 (v := 6) (by decide) ?_
      refine v_iald dX0_count_155 hF (fun v45 hF => ?_)
      cases hF
      exact v_iret dX0_count_156 rfl rfl rfl rfl
    refine v_swIn (i := 12) (off := 156) (tgt := 157) dX0_count_1 (by omega) (by decide) (by decide) rfl (by decide) ?_
    refine v_aload_n dX0_count_157 rfl 0 rfl ?_
    refine v_getr dX0_count_158 fl_X0_10 hF (fun v46 hF => ?_)
    refine v_geti dX0_count_161 fl_X0_264 hF (fun v47 hF => ?_)
    cases hF
    exact v_iret dX0_count_164 rfl rfl rfl rfl
def C_count (h : Hp) (a0 : Nat) (a1 : Int32) : Option Int32 := (ob h a0 [0]).bind fun _ => C_count_b h a0 a1
theorem rc_C_count {h : Hp}  {r : Int32} {a0 : Nat} {a1 : Int32} (hF : C_count h a0 a1 = some r) : RC h a0 [0] := by
  obtain ⟨o, ho, -⟩ := Option.bind_eq_some_iff.mp hF
  exact ⟨o, ho⟩
theorem ct_C_count {l : Launch} {G : GT} {h : Hp} {r : Int32} {a0 : Nat} {a1 : Int32} (hF : C_count h a0 a1 = some r) : Ct l G yX0_count (ws_ yX0_count cX0_count 2 (Option.some Jvm.ClassFile.FieldType.int)) 2 41 [.ref a0, .int a1] h (some (.int r)) h :=
  ct_of (by decide) (Nat.le_of_ble_eq_true rfl) (w_C_count_b (Nat.le_refl _) (Nat.le_refl _) (Option.bind_eq_some_iff.mp hF).choose_spec.2)
theorem fl_X0_106 : FL RX0 106 [0] 10 := by
  intro ci h
  simp only [List.mem_cons, List.not_mem_nil, or_false] at h
  subst h; exact ⟨RX0, _, TX0, 31, rfl, in_X0, by decide, Or.inl q364, Or.inl rfl⟩
def C_status_b (h : Hp) (a0 : Nat) : Option Int32 :=
  (gi h a0 [0] 10).bind fun v21 =>
  some v21
theorem w_C_status_b {l : Launch} {G : GT} {fr lo : Nat} {h0 : Hp} {h : Hp} {r : Int32} (hfr : 0 ≤ fr) (hlo : 0 ≤ lo) {a0 : Nat} (hF : C_status_b h a0 = some r) : V l G cX0_status RX0 "status" 1 (Option.some Jvm.ClassFile.FieldType.int) fr lo h0 h (QM G (some (.int r)) h0 h) 0 [(0, .ref a0)] [] h := by
  unfold C_status_b at hF
  refine v_aload_n dX0_status_0 rfl 0 rfl ?_
  refine v_geti dX0_status_1 fl_X0_106 hF (fun v21 hF => ?_)
  cases hF
  exact v_iret dX0_status_4 rfl rfl rfl rfl
def C_status (h : Hp) (a0 : Nat) : Option Int32 := (ob h a0 [0]).bind fun _ => C_status_b h a0
theorem rc_C_status {h : Hp}  {r : Int32} {a0 : Nat} (hF : C_status h a0 = some r) : RC h a0 [0] := by
  obtain ⟨o, ho, -⟩ := Option.bind_eq_some_iff.mp hF
  exact ⟨o, ho⟩
theorem ct_C_status {l : Launch} {G : GT} {h : Hp} {r : Int32} {a0 : Nat} (hF : C_status h a0 = some r) : Ct l G yX0_status (ws_ yX0_status cX0_status 1 (Option.some Jvm.ClassFile.FieldType.int)) 0 0 [.ref a0] h (some (.int r)) h :=
  ct_of (by decide) (Nat.le_of_ble_eq_true rfl) (w_C_status_b (Nat.le_refl _) (Nat.le_refl _) (Option.bind_eq_some_iff.mp hF).choose_spec.2)
theorem pl_X6_7 : PL RX6 7 [6] 1 (.array (.int)) true := by
  intro ci h
  simp only [List.mem_cons, List.not_mem_nil, or_false] at h
  subst h; exact ⟨RX6, _, TX6, 56, tyX6, rfl, in_X6, by decide, Or.inl q1635, Or.inl rfl, tyX6_ok, rfl, by decide +kernel, rfl, fun _ => rfl⟩
theorem pl_X6_24 : PL RX6 24 [6] 2 (.array (.int)) true := by
  intro ci h
  simp only [List.mem_cons, List.not_mem_nil, or_false] at h
  subst h; exact ⟨RX6, _, TX6, 56, tyX6, rfl, in_X6, by decide, Or.inl q1636, Or.inl rfl, tyX6_ok, rfl, by decide +kernel, rfl, fun _ => rfl⟩
theorem pl_X6_27 : PL RX6 27 [6] 3 (.array (.int)) true := by
  intro ci h
  simp only [List.mem_cons, List.not_mem_nil, or_false] at h
  subst h; exact ⟨RX6, _, TX6, 56, tyX6, rfl, in_X6, by decide, Or.inl q1637, Or.inl rfl, tyX6_ok, rfl, by decide +kernel, rfl, fun _ => rfl⟩
theorem pl_X6_30 : PL RX6 30 [6] 4 (.array (.boolean)) true := by
  intro ci h
  simp only [List.mem_cons, List.not_mem_nil, or_false] at h
  subst h; exact ⟨RX6, _, TX6, 56, tyX6, rfl, in_X6, by decide, Or.inl q1638, Or.inl rfl, tyX6_ok, rfl, by decide +kernel, rfl, fun _ => rfl⟩
theorem pl_X6_34 : PL RX6 34 [6] 5 (.array (.int)) true := by
  intro ci h
  simp only [List.mem_cons, List.not_mem_nil, or_false] at h
  subst h; exact ⟨RX6, _, TX6, 56, tyX6, rfl, in_X6, by decide, Or.inl q1639, Or.inl rfl, tyX6_ok, rfl, by decide +kernel, rfl, fun _ => rfl⟩
theorem pl_X6_37 : PL RX6 37 [6] 7 (.array (.byte)) true := by
  intro ci h
  simp only [List.mem_cons, List.not_mem_nil, or_false] at h
  subst h; exact ⟨RX6, _, TX6, 56, tyX6, rfl, in_X6, by decide, Or.inl q1641, Or.inl rfl, tyX6_ok, rfl, by decide +kernel, rfl, fun _ => rfl⟩
theorem pl_X6_41 : PL RX6 41 [6] 11 (.array (.byte)) true := by
  intro ci h
  simp only [List.mem_cons, List.not_mem_nil, or_false] at h
  subst h; exact ⟨RX6, _, TX6, 56, tyX6, rfl, in_X6, by decide, Or.inl q1645, Or.inl rfl, tyX6_ok, rfl, by decide +kernel, rfl, fun _ => rfl⟩
theorem pl_X6_44 : PL RX6 44 [6] 12 (.array (.int)) true := by
  intro ci h
  simp only [List.mem_cons, List.not_mem_nil, or_false] at h
  subst h; exact ⟨RX6, _, TX6, 56, tyX6, rfl, in_X6, by decide, Or.inl q1646, Or.inl rfl, tyX6_ok, rfl, by decide +kernel, rfl, fun _ => rfl⟩
theorem pl_X6_50 : PL RX6 50 [6] 15 (.array (.int)) true := by
  intro ci h
  simp only [List.mem_cons, List.not_mem_nil, or_false] at h
  subst h; exact ⟨RX6, _, TX6, 56, tyX6, rfl, in_X6, by decide, Or.inl q1649, Or.inl rfl, tyX6_ok, rfl, by decide +kernel, rfl, fun _ => rfl⟩
theorem pl_X6_53 : PL RX6 53 [6] 16 (.array (.int)) true := by
  intro ci h
  simp only [List.mem_cons, List.not_mem_nil, or_false] at h
  subst h; exact ⟨RX6, _, TX6, 56, tyX6, rfl, in_X6, by decide, Or.inl q1650, Or.inl rfl, tyX6_ok, rfl, by decide +kernel, rfl, fun _ => rfl⟩
theorem pl_X6_56 : PL RX6 56 [6] 17 (.array (.int)) true := by
  intro ci h
  simp only [List.mem_cons, List.not_mem_nil, or_false] at h
  subst h; exact ⟨RX6, _, TX6, 56, tyX6, rfl, in_X6, by decide, Or.inl q1651, Or.inl rfl, tyX6_ok, rfl, by decide +kernel, rfl, fun _ => rfl⟩
theorem pl_X6_59 : PL RX6 59 [6] 26 (.array (.int)) true := by
  intro ci h
  simp only [List.mem_cons, List.not_mem_nil, or_false] at h
  subst h; exact ⟨RX6, _, TX6, 56, tyX6, rfl, in_X6, by decide, Or.inl q1660, Or.inl rfl, tyX6_ok, rfl, by decide +kernel, rfl, fun _ => rfl⟩
theorem pl_X6_62 : PL RX6 62 [6] 29 (.array (.int)) true := by
  intro ci h
  simp only [List.mem_cons, List.not_mem_nil, or_false] at h
  subst h; exact ⟨RX6, _, TX6, 56, tyX6, rfl, in_X6, by decide, Or.inl q1663, Or.inl rfl, tyX6_ok, rfl, by decide +kernel, rfl, fun _ => rfl⟩
theorem pl_X6_65 : PL RX6 65 [6] 30 (.array (.int)) true := by
  intro ci h
  simp only [List.mem_cons, List.not_mem_nil, or_false] at h
  subst h; exact ⟨RX6, _, TX6, 56, tyX6, rfl, in_X6, by decide, Or.inl q1664, Or.inl rfl, tyX6_ok, rfl, by decide +kernel, rfl, fun _ => rfl⟩
theorem pl_X6_68 : PL RX6 68 [6] 31 (.array (.int)) true := by
  intro ci h
  simp only [List.mem_cons, List.not_mem_nil, or_false] at h
  subst h; exact ⟨RX6, _, TX6, 56, tyX6, rfl, in_X6, by decide, Or.inl q1665, Or.inl rfl, tyX6_ok, rfl, by decide +kernel, rfl, fun _ => rfl⟩
theorem pl_X6_71 : PL RX6 71 [6] 33 (.array (.int)) true := by
  intro ci h
  simp only [List.mem_cons, List.not_mem_nil, or_false] at h
  subst h; exact ⟨RX6, _, TX6, 56, tyX6, rfl, in_X6, by decide, Or.inl q1667, Or.inl rfl, tyX6_ok, rfl, by decide +kernel, rfl, fun _ => rfl⟩
theorem pl_X6_74 : PL RX6 74 [6] 34 (.array (.int)) true := by
  intro ci h
  simp only [List.mem_cons, List.not_mem_nil, or_false] at h
  subst h; exact ⟨RX6, _, TX6, 56, tyX6, rfl, in_X6, by decide, Or.inl q1668, Or.inl rfl, tyX6_ok, rfl, by decide +kernel, rfl, fun _ => rfl⟩
theorem pl_X6_77 : PL RX6 77 [6] 35 (.array (.boolean)) true := by
  intro ci h
  simp only [List.mem_cons, List.not_mem_nil, or_false] at h
  subst h; exact ⟨RX6, _, TX6, 56, tyX6, rfl, in_X6, by decide, Or.inl q1669, Or.inl rfl, tyX6_ok, rfl, by decide +kernel, rfl, fun _ => rfl⟩
theorem pl_X6_80 : PL RX6 80 [6] 36 (.array (.int)) true := by
  intro ci h
  simp only [List.mem_cons, List.not_mem_nil, or_false] at h
  subst h; exact ⟨RX6, _, TX6, 56, tyX6, rfl, in_X6, by decide, Or.inl q1670, Or.inl rfl, tyX6_ok, rfl, by decide +kernel, rfl, fun _ => rfl⟩
theorem pl_X6_83 : PL RX6 83 [6] 37 (.array (.int)) true := by
  intro ci h
  simp only [List.mem_cons, List.not_mem_nil, or_false] at h
  subst h; exact ⟨RX6, _, TX6, 56, tyX6, rfl, in_X6, by decide, Or.inl q1671, Or.inl rfl, tyX6_ok, rfl, by decide +kernel, rfl, fun _ => rfl⟩
theorem pl_X6_86 : PL RX6 86 [6] 43 (.array (.int)) true := by
  intro ci h
  simp only [List.mem_cons, List.not_mem_nil, or_false] at h
  subst h; exact ⟨RX6, _, TX6, 56, tyX6, rfl, in_X6, by decide, Or.inl q1677, Or.inl rfl, tyX6_ok, rfl, by decide +kernel, rfl, fun _ => rfl⟩
theorem pl_X6_89 : PL RX6 89 [6] 44 (.array (.long)) true := by
  intro ci h
  simp only [List.mem_cons, List.not_mem_nil, or_false] at h
  subst h; exact ⟨RX6, _, TX6, 56, tyX6, rfl, in_X6, by decide, Or.inl q1678, Or.inl rfl, tyX6_ok, rfl, by decide +kernel, rfl, fun _ => rfl⟩
theorem pl_X6_96 : PL RX6 96 [6] 52 (.array (.int)) true := by
  intro ci h
  simp only [List.mem_cons, List.not_mem_nil, or_false] at h
  subst h; exact ⟨RX6, _, TX6, 56, tyX6, rfl, in_X6, by decide, Or.inl q1686, Or.inl rfl, tyX6_ok, rfl, by decide +kernel, rfl, fun _ => rfl⟩
def T_init_b (a0 : Nat) (h : Hp) : Option Hp :=
  bd2 (na h 0 (7 : Int32) (.inl (fun _ => 0))) fun a21 h22 =>
  (po h22 a0 [6] 1 (.ref a21)).bind fun h23 =>
  bd2 (na h23 0 (5660 : Int32) (.inl (fun _ => 0))) fun a24 h25 =>
  (po h25 a0 [6] 2 (.ref a24)).bind fun h26 =>
  bd2 (na h26 0 (11320 : Int32) (.inl (fun _ => 0))) fun a27 h28 =>
  (po h28 a0 [6] 3 (.ref a27)).bind fun h29 =>
  bd2 (na h29 2 (2 : Int32) (.inl (fun _ => 0))) fun a30 h31 =>
  (po h31 a0 [6] 4 (.ref a30)).bind fun h32 =>
  bd2 (na h32 0 (12 : Int32) (.inl (fun _ => 0))) fun a33 h34 =>
  (po h34 a0 [6] 5 (.ref a33)).bind fun h35 =>
  bd2 (na h35 1 (122 : Int32) (.inl (fun _ => 0))) fun a36 h37 =>
  (sI h37 a36 1 (0 : Int32) (103 : Int32)).bind fun h38 =>
  (sI h38 a36 1 (1 : Int32) (114 : Int32)).bind fun h39 =>
  (sI h39 a36 1 (2 : Int32) (111 : Int32)).bind fun h40 =>
  (sI h40 a36 1 (3 : Int32) (119 : Int32)).bind fun h41 =>
  (sI h41 a36 1 (4 : Int32) (115 : Int32)).bind fun h42 =>
  (sI h42 a36 1 (5 : Int32) (32 : Int32)).bind fun h43 =>
  (sI h43 a36 1 (6 : Int32) (119 : Int32)).bind fun h44 =>
  (sI h44 a36 1 (7 : Int32) (105 : Int32)).bind fun h45 =>
  (sI h45 a36 1 (8 : Int32) (108 : Int32)).bind fun h46 =>
  (sI h46 a36 1 (9 : Int32) (116 : Int32)).bind fun h47 =>
  (sI h47 a36 1 (10 : Int32) (115 : Int32)).bind fun h48 =>
  (sI h48 a36 1 (11 : Int32) (32 : Int32)).bind fun h49 =>
  (sI h49 a36 1 (12 : Int32) (98 : Int32)).bind fun h50 =>
  (sI h50 a36 1 (13 : Int32) (97 : Int32)).bind fun h51 =>
  (sI h51 a36 1 (14 : Int32) (114 : Int32)).bind fun h52 =>
  (sI h52 a36 1 (15 : Int32) (115 : Int32)).bind fun h53 =>
  (sI h53 a36 1 (16 : Int32) (32 : Int32)).bind fun h54 =>
  (sI h54 a36 1 (17 : Int32) (105 : Int32)).bind fun h55 =>
  (sI h55 a36 1 (18 : Int32) (102 : Int32)).bind fun h56 =>
  (sI h56 a36 1 (19 : Int32) (32 : Int32)).bind fun h57 =>
  (sI h57 a36 1 (20 : Int32) (111 : Int32)).bind fun h58 =>
  (sI h58 a36 1 (21 : Int32) (114 : Int32)).bind fun h59 =>
  (sI h59 a36 1 (22 : Int32) (32 : Int32)).bind fun h60 =>
  (sI h60 a36 1 (23 : Int32) (97 : Int32)).bind fun h61 =>
  (sI h61 a36 1 (24 : Int32) (110 : Int32)).bind fun h62 =>
  (sI h62 a36 1 (25 : Int32) (100 : Int32)).bind fun h63 =>
  (sI h63 a36 1 (26 : Int32) (32 : Int32)).bind fun h64 =>
  (sI h64 a36 1 (27 : Int32) (110 : Int32)).bind fun h65 =>
  (sI h65 a36 1 (28 : Int32) (111 : Int32)).bind fun h66 =>
  (sI h66 a36 1 (29 : Int32) (116 : Int32)).bind fun h67 =>
  (sI h67 a36 1 (30 : Int32) (32 : Int32)).bind fun h68 =>
  (sI h68 a36 1 (31 : Int32) (108 : Int32)).bind fun h69 =>
  (sI h69 a36 1 (32 : Int32) (101 : Int32)).bind fun h70 =>
  (sI h70 a36 1 (33 : Int32) (101 : Int32)).bind fun h71 =>
  (sI h71 a36 1 (34 : Int32) (107 : Int32)).bind fun h72 =>
  (sI h72 a36 1 (35 : Int32) (32 : Int32)).bind fun h73 =>
  (sI h73 a36 1 (36 : Int32) (108 : Int32)).bind fun h74 =>
  (sI h74 a36 1 (37 : Int32) (105 : Int32)).bind fun h75 =>
  (sI h75 a36 1 (38 : Int32) (107 : Int32)).bind fun h76 =>
  (sI h76 a36 1 (39 : Int32) (101 : Int32)).bind fun h77 =>
  (sI h77 a36 1 (40 : Int32) (115 : Int32)).bind fun h78 =>
  (sI h78 a36 1 (41 : Int32) (32 : Int32)).bind fun h79 =>
  (sI h79 a36 1 (42 : Int32) (98 : Int32)).bind fun h80 =>
  (sI h80 a36 1 (43 : Int32) (111 : Int32)).bind fun h81 =>
  (sI h81 a36 1 (44 : Int32) (111 : Int32)).bind fun h82 =>
  (sI h82 a36 1 (45 : Int32) (107 : Int32)).bind fun h83 =>
  (sI h83 a36 1 (46 : Int32) (32 : Int32)).bind fun h84 =>
  (sI h84 a36 1 (47 : Int32) (108 : Int32)).bind fun h85 =>
  (sI h85 a36 1 (48 : Int32) (111 : Int32)).bind fun h86 =>
  (sI h86 a36 1 (49 : Int32) (110 : Int32)).bind fun h87 =>
  (sI h87 a36 1 (50 : Int32) (103 : Int32)).bind fun h88 =>
  (sI h88 a36 1 (51 : Int32) (32 : Int32)).bind fun h89 =>
  (sI h89 a36 1 (52 : Int32) (107 : Int32)).bind fun h90 =>
  (sI h90 a36 1 (53 : Int32) (105 : Int32)).bind fun h91 =>
  (sI h91 a36 1 (54 : Int32) (110 : Int32)).bind fun h92 =>
  (sI h92 a36 1 (55 : Int32) (100 : Int32)).bind fun h93 =>
  (sI h93 a36 1 (56 : Int32) (32 : Int32)).bind fun h94 =>
  (sI h94 a36 1 (57 : Int32) (109 : Int32)).bind fun h95 =>
  (sI h95 a36 1 (58 : Int32) (111 : Int32)).bind fun h96 =>
  (sI h96 a36 1 (59 : Int32) (111 : Int32)).bind fun h97 =>
  (sI h97 a36 1 (60 : Int32) (100 : Int32)).bind fun h98 =>
  (sI h98 a36 1 (61 : Int32) (32 : Int32)).bind fun h99 =>
  (sI h99 a36 1 (62 : Int32) (104 : Int32)).bind fun h100 =>
  (sI h100 a36 1 (63 : Int32) (105 : Int32)).bind fun h101 =>
  (sI h101 a36 1 (64 : Int32) (103 : Int32)).bind fun h102 =>
  (sI h102 a36 1 (65 : Int32) (104 : Int32)).bind fun h103 =>
  (sI h103 a36 1 (66 : Int32) (32 : Int32)).bind fun h104 =>
  (sI h104 a36 1 (67 : Int32) (107 : Int32)).bind fun h105 =>
  (sI h105 a36 1 (68 : Int32) (110 : Int32)).bind fun h106 =>
  (sI h106 a36 1 (69 : Int32) (111 : Int32)).bind fun h107 =>
  (sI h107 a36 1 (70 : Int32) (119 : Int32)).bind fun h108 =>
  (sI h108 a36 1 (71 : Int32) (110 : Int32)).bind fun h109 =>
  (sI h109 a36 1 (72 : Int32) (32 : Int32)).bind fun h110 =>
  (sI h110 a36 1 (73 : Int32) (100 : Int32)).bind fun h111 =>
  (sI h111 a36 1 (74 : Int32) (97 : Int32)).bind fun h112 =>
  (sI h112 a36 1 (75 : Int32) (121 : Int32)).bind fun h113 =>
  (sI h113 a36 1 (76 : Int32) (32 : Int32)).bind fun h114 =>
  (sI h114 a36 1 (77 : Int32) (100 : Int32)).bind fun h115 =>
  (sI h115 a36 1 (78 : Int32) (111 : Int32)).bind fun h116 =>
  (sI h116 a36 1 (79 : Int32) (110 : Int32)).bind fun h117 =>
  (sI h117 a36 1 (80 : Int32) (101 : Int32)).bind fun h118 =>
  (sI h118 a36 1 (81 : Int32) (32 : Int32)).bind fun h119 =>
  (sI h119 a36 1 (82 : Int32) (108 : Int32)).bind fun h120 =>
  (sI h120 a36 1 (83 : Int32) (97 : Int32)).bind fun h121 =>
  (sI h121 a36 1 (84 : Int32) (116 : Int32)).bind fun h122 =>
  (sI h122 a36 1 (85 : Int32) (101 : Int32)).bind fun h123 =>
  (sI h123 a36 1 (86 : Int32) (115 : Int32)).bind fun h124 =>
  (sI h124 a36 1 (87 : Int32) (116 : Int32)).bind fun h125 =>
  (sI h125 a36 1 (88 : Int32) (32 : Int32)).bind fun h126 =>
  (sI h126 a36 1 (89 : Int32) (97 : Int32)).bind fun h127 =>
  (sI h127 a36 1 (90 : Int32) (108 : Int32)).bind fun h128 =>
  (sI h128 a36 1 (91 : Int32) (108 : Int32)).bind fun h129 =>
  (sI h129 a36 1 (92 : Int32) (32 : Int32)).bind fun h130 =>
  (sI h130 a36 1 (93 : Int32) (104 : Int32)).bind fun h131 =>
  (sI h131 a36 1 (94 : Int32) (97 : Int32)).bind fun h132 =>
  (sI h132 a36 1 (95 : Int32) (115 : Int32)).bind fun h133 =>
  (sI h133 a36 1 (96 : Int32) (32 : Int32)).bind fun h134 =>
  (sI h134 a36 1 (97 : Int32) (114 : Int32)).bind fun h135 =>
  (sI h135 a36 1 (98 : Int32) (101 : Int32)).bind fun h136 =>
  (sI h136 a36 1 (99 : Int32) (97 : Int32)).bind fun h137 =>
  (sI h137 a36 1 (100 : Int32) (100 : Int32)).bind fun h138 =>
  (sI h138 a36 1 (101 : Int32) (32 : Int32)).bind fun h139 =>
  (sI h139 a36 1 (102 : Int32) (108 : Int32)).bind fun h140 =>
  (sI h140 a36 1 (103 : Int32) (111 : Int32)).bind fun h141 =>
  (sI h141 a36 1 (104 : Int32) (115 : Int32)).bind fun h142 =>
  (sI h142 a36 1 (105 : Int32) (101 : Int32)).bind fun h143 =>
  (sI h143 a36 1 (106 : Int32) (32 : Int32)).bind fun h144 =>
  (sI h144 a36 1 (107 : Int32) (99 : Int32)).bind fun h145 =>
  (sI h145 a36 1 (108 : Int32) (117 : Int32)).bind fun h146 =>
  (sI h146 a36 1 (109 : Int32) (116 : Int32)).bind fun h147 =>
  (sI h147 a36 1 (110 : Int32) (32 : Int32)).bind fun h148 =>
  (sI h148 a36 1 (111 : Int32) (112 : Int32)).bind fun h149 =>
  (sI h149 a36 1 (112 : Int32) (97 : Int32)).bind fun h150 =>
  (sI h150 a36 1 (113 : Int32) (115 : Int32)).bind fun h151 =>
  (sI h151 a36 1 (114 : Int32) (115 : Int32)).bind fun h152 =>
  (sI h152 a36 1 (115 : Int32) (32 : Int32)).bind fun h153 =>
  (sI h153 a36 1 (116 : Int32) (116 : Int32)).bind fun h154 =>
  (sI h154 a36 1 (117 : Int32) (105 : Int32)).bind fun h155 =>
  (sI h155 a36 1 (118 : Int32) (109 : Int32)).bind fun h156 =>
  (sI h156 a36 1 (119 : Int32) (101 : Int32)).bind fun h157 =>
  (sI h157 a36 1 (120 : Int32) (115 : Int32)).bind fun h158 =>
  (sI h158 a36 1 (121 : Int32) (32 : Int32)).bind fun h159 =>
  (po h159 a0 [6] 7 (.ref a36)).bind fun h160 =>
  bd2 (na h160 1 (400 : Int32) (.inl (fun _ => 0))) fun a161 h162 =>
  (po h162 a0 [6] 11 (.ref a161)).bind fun h163 =>
  bd2 (na h163 0 (5 : Int32) (.inl (fun _ => 0))) fun a164 h165 =>
  (po h165 a0 [6] 12 (.ref a164)).bind fun h166 =>
  (po h166 a0 [6] 14 (.int (-1 : Int32))).bind fun h167 =>
  bd2 (na h167 0 (401 : Int32) (.inl (fun _ => 0))) fun a168 h169 =>
  (po h169 a0 [6] 15 (.ref a168)).bind fun h170 =>
  bd2 (na h170 0 (401 : Int32) (.inl (fun _ => 0))) fun a171 h172 =>
  (po h172 a0 [6] 16 (.ref a171)).bind fun h173 =>
  bd2 (na h173 0 (401 : Int32) (.inl (fun _ => 0))) fun a174 h175 =>
  (po h175 a0 [6] 17 (.ref a174)).bind fun h176 =>
  bd2 (na h176 0 (9 : Int32) (.inl (fun _ => 0))) fun a177 h178 =>
  (po h178 a0 [6] 26 (.ref a177)).bind fun h179 =>
  bd2 (na h179 0 (4 : Int32) (.inl (fun _ => 0))) fun a180 h181 =>
  (po h181 a0 [6] 29 (.ref a180)).bind fun h182 =>
  bd2 (na h182 0 (112 : Int32) (.inl (fun _ => 0))) fun a183 h184 =>
  (po h184 a0 [6] 30 (.ref a183)).bind fun h185 =>
  bd2 (na h185 0 (112 : Int32) (.inl (fun _ => 0))) fun a186 h187 =>
  (po h187 a0 [6] 31 (.ref a186)).bind fun h188 =>
  bd2 (na h188 0 (256 : Int32) (.inl (fun _ => 0))) fun a189 h190 =>
  (po h190 a0 [6] 33 (.ref a189)).bind fun h191 =>
  bd2 (na h191 0 (8 : Int32) (.inl (fun _ => 0))) fun a192 h193 =>
  (po h193 a0 [6] 34 (.ref a192)).bind fun h194 =>
  bd2 (na h194 2 (2048 : Int32) (.inl (fun _ => 0))) fun a195 h196 =>
  (po h196 a0 [6] 35 (.ref a195)).bind fun h197 =>
  bd2 (na h197 0 (8 : Int32) (.inl (fun _ => 0))) fun a198 h199 =>
  (po h199 a0 [6] 36 (.ref a198)).bind fun h200 =>
  bd2 (na h200 0 (8 : Int32) (.inl (fun _ => 0))) fun a201 h202 =>
  (po h202 a0 [6] 37 (.ref a201)).bind fun h203 =>
  bd2 (na h203 0 (32 : Int32) (.inl (fun _ => 0))) fun a204 h205 =>
  (po h205 a0 [6] 43 (.ref a204)).bind fun h206 =>
  bd2 (na h206 3 (21 : Int32) (.inr (.inl (fun _ => 0)))) fun a207 h208 =>
  (po h208 a0 [6] 44 (.ref a207)).bind fun h209 =>
  (po h209 a0 [6] 45 (.int (-1 : Int32))).bind fun h210 =>
  bd2 (na h210 0 (6 : Int32) (.inl (fun _ => 0))) fun a211 h212 =>
  (po h212 a0 [6] 52 (.ref a211)).bind fun h213 =>
  (po h213 a0 [6] 53 (.int (-1 : Int32))).bind fun h214 =>
  (gr h214 a0 [6] 2).bind fun v215 =>
  (sI h214 v215 0 (46 : Int32) (1 : Int32)).bind fun h216 =>
  (gr h216 a0 [6] 2).bind fun v217 =>
  (sI h216 v217 0 (52 : Int32) (-1 : Int32)).bind fun h218 =>
  some h218
theorem w_T_init_b {l : Launch} {G : GT} {fr lo : Nat} {h0 : Hp} {r : Hp} (hfr : 1 ≤ fr) (hlo : 20 ≤ lo) {a0 : Nat} {h : Hp} (hF : T_init_b a0 h = some r) : V l G cX6_init RX6 "<init>" 1 (Option.none : Option Jvm.ClassFile.FieldType) fr lo h0 r (QM G none h0 r) 0 [(0, .ref a0)] [] h := by
  unfold T_init_b at hF
  refine v_aload_n dX6_init_0 rfl 0 rfl ?_
  refine v_objInit dX6_init_1 q1633 q184 q185 (by omega) (by omega) (Nat.le_of_ble_eq_true rfl) ?_
  refine v_aload_n dX6_init_4 rfl 0 rfl ?_
  refine v_bipush dX6_init_5 (v := 7) (by decide) ?_
  refine v_newarr dX6_init_7 rfl rfl q247 (fun _ _ h => h) (by decide) (fun _ _ => rfl) hF (fun a21 h22 hF => ?_)
  refine v_put dX6_init_9 pl_X6_7 (fun _ => rfl) rfl rfl hF (fun h23 hF => ?_)
  refine v_aload_n dX6_init_12 rfl 0 rfl ?_
  refine v_sipush dX6_init_13 (v := 5660) (by decide) ?_
  refine v_newarr dX6_init_16 rfl rfl q247 (fun _ _ h => h) (by decide) (fun _ _ => rfl) hF (fun a24 h25 hF => ?_)
  refine v_put dX6_init_18 pl_X6_24 (fun _ => rfl) rfl rfl hF (fun h26 hF => ?_)
  refine v_aload_n dX6_init_21 rfl 0 rfl ?_
  refine v_sipush dX6_init_22 (v := 11320) (by decide) ?_
  refine v_newarr dX6_init_25 rfl rfl q247 (fun _ _ h => h) (by decide) (fun _ _ => rfl) hF (fun a27 h28 hF => ?_)
  refine v_put dX6_init_27 pl_X6_27 (fun _ => rfl) rfl rfl hF (fun h29 hF => ?_)
  refine v_aload_n dX6_init_30 rfl 0 rfl ?_
  refine v_iconst dX6_init_31 (v := 2) (by decide) ?_
  refine v_newarr dX6_init_32 rfl rfl q1803 (fun _ _ h => h) (by decide) (fun _ _ => rfl) hF (fun a30 h31 hF => ?_)
  refine v_put dX6_init_34 pl_X6_30 (fun _ => rfl) rfl rfl hF (fun h32 hF => ?_)
  refine v_aload_n dX6_init_37 rfl 0 rfl ?_
  refine v_bipush dX6_init_38 (v := 12) (by decide) ?_
  refine v_newarr dX6_init_40 rfl rfl q247 (fun _ _ h => h) (by decide) (fun _ _ => rfl) hF (fun a33 h34 hF => ?_)
  refine v_put dX6_init_42 pl_X6_34 (fun _ => rfl) rfl rfl hF (fun h35 hF => ?_)
  refine v_aload_n dX6_init_45 rfl 0 rfl ?_
  refine v_bipush dX6_init_46 (v := 122) (by decide) ?_
  refine v_newarr dX6_init_48 rfl rfl q453 (fun _ _ h => h) (by decide) (fun _ _ => rfl) hF (fun a36 h37 hF => ?_)
  refine v_dup dX6_init_50 rfl ?_
  refine v_iconst dX6_init_51 (v := 0) (by decide) ?_
  refine v_bipush dX6_init_52 (v := 103) (by decide) ?_
  refine v_bast dX6_init_54 hF (fun h38 hF => ?_)
  refine v_dup dX6_init_55 rfl ?_
  refine v_iconst dX6_init_56 (v := 1) (by decide) ?_
  refine v_bipush dX6_init_57 (v := 114) (by decide) ?_
  refine v_bast dX6_init_59 hF (fun h39 hF => ?_)
  refine v_dup dX6_init_60 rfl ?_
  refine v_iconst dX6_init_61 (v := 2) (by decide) ?_
  refine v_bipush dX6_init_62 (v := 111) (by decide) ?_
  refine v_bast dX6_init_64 hF (fun h40 hF => ?_)
  refine v_dup dX6_init_65 rfl ?_
  refine v_iconst dX6_init_66 (v := 3) (by decide) ?_
  refine v_bipush dX6_init_67 (v := 119) (by decide) ?_
  refine v_bast dX6_init_69 hF (fun h41 hF => ?_)
  refine v_dup dX6_init_70 rfl ?_
  refine v_iconst dX6_init_71 (v := 4) (by decide) ?_
  refine v_bipush dX6_init_72 (v := 115) (by decide) ?_
  refine v_bast dX6_init_74 hF (fun h42 hF => ?_)
  refine v_dup dX6_init_75 rfl ?_
  refine v_iconst dX6_init_76 (v := 5) (by decide) ?_
  refine v_bipush dX6_init_77 (v := 32) (by decide) ?_
  refine v_bast dX6_init_79 hF (fun h43 hF => ?_)
  refine v_dup dX6_init_80 rfl ?_
  refine v_bipush dX6_init_81 (v := 6) (by decide) ?_
  refine v_bipush dX6_init_83 (v := 119) (by decide) ?_
  refine v_bast dX6_init_85 hF (fun h44 hF => ?_)
  refine v_dup dX6_init_86 rfl ?_
  refine v_bipush dX6_init_87 (v := 7) (by decide) ?_
  refine v_bipush dX6_init_89 (v := 105) (by decide) ?_
  refine v_bast dX6_init_91 hF (fun h45 hF => ?_)
  refine v_dup dX6_init_92 rfl ?_
  refine v_bipush dX6_init_93 (v := 8) (by decide) ?_
  refine v_bipush dX6_init_95 (v := 108) (by decide) ?_
  refine v_bast dX6_init_97 hF (fun h46 hF => ?_)
  refine v_dup dX6_init_98 rfl ?_
  refine v_bipush dX6_init_99 (v := 9) (by decide) ?_
  refine v_bipush dX6_init_101 (v := 116) (by decide) ?_
  refine v_bast dX6_init_103 hF (fun h47 hF => ?_)
  refine v_dup dX6_init_104 rfl ?_
  refine v_bipush dX6_init_105 (v := 10) (by decide) ?_
  refine v_bipush dX6_init_107 (v := 115) (by decide) ?_
  refine v_bast dX6_init_109 hF (fun h48 hF => ?_)
  refine v_dup dX6_init_110 rfl ?_
  refine v_bipush dX6_init_111 (v := 11) (by decide) ?_
  refine v_bipush dX6_init_113 (v := 32) (by decide) ?_
  refine v_bast dX6_init_115 hF (fun h49 hF => ?_)
  refine v_dup dX6_init_116 rfl ?_
  refine v_bipush dX6_init_117 (v := 12) (by decide) ?_
  refine v_bipush dX6_init_119 (v := 98) (by decide) ?_
  refine v_bast dX6_init_121 hF (fun h50 hF => ?_)
  refine v_dup dX6_init_122 rfl ?_
  refine v_bipush dX6_init_123 (v := 13) (by decide) ?_
  refine v_bipush dX6_init_125 (v := 97) (by decide) ?_
  refine v_bast dX6_init_127 hF (fun h51 hF => ?_)
  refine v_dup dX6_init_128 rfl ?_
  refine v_bipush dX6_init_129 (v := 14) (by decide) ?_
  refine v_bipush dX6_init_131 (v := 114) (by decide) ?_
  refine v_bast dX6_init_133 hF (fun h52 hF => ?_)
  refine v_dup dX6_init_134 rfl ?_
  refine v_bipush dX6_init_135 (v := 15) (by decide) ?_
  refine v_bipush dX6_init_137 (v := 115) (by decide) ?_
  refine v_bast dX6_init_139 hF (fun h53 hF => ?_)
  refine v_dup dX6_init_140 rfl ?_
  refine v_bipush dX6_init_141 (v := 16) (by decide) ?_
  refine v_bipush dX6_init_143 (v := 32) (by decide) ?_
  refine v_bast dX6_init_145 hF (fun h54 hF => ?_)
  refine v_dup dX6_init_146 rfl ?_
  refine v_bipush dX6_init_147 (v := 17) (by decide) ?_
  refine v_bipush dX6_init_149 (v := 105) (by decide) ?_
  refine v_bast dX6_init_151 hF (fun h55 hF => ?_)
  refine v_dup dX6_init_152 rfl ?_
  refine v_bipush dX6_init_153 (v := 18) (by decide) ?_
  refine v_bipush dX6_init_155 (v := 102) (by decide) ?_
  refine v_bast dX6_init_157 hF (fun h56 hF => ?_)
  refine v_dup dX6_init_158 rfl ?_
  refine v_bipush dX6_init_159 (v := 19) (by decide) ?_
  refine v_bipush dX6_init_161 (v := 32) (by decide) ?_
  refine v_bast dX6_init_163 hF (fun h57 hF => ?_)
  refine v_dup dX6_init_164 rfl ?_
  refine v_bipush dX6_init_165 (v := 20) (by decide) ?_
  refine v_bipush dX6_init_167 (v := 111) (by decide) ?_
  refine v_bast dX6_init_169 hF (fun h58 hF => ?_)
  refine v_dup dX6_init_170 rfl ?_
  refine v_bipush dX6_init_171 (v := 21) (by decide) ?_
  refine v_bipush dX6_init_173 (v := 114) (by decide) ?_
  refine v_bast dX6_init_175 hF (fun h59 hF => ?_)
  refine v_dup dX6_init_176 rfl ?_
  refine v_bipush dX6_init_177 (v := 22) (by decide) ?_
  refine v_bipush dX6_init_179 (v := 32) (by decide) ?_
  refine v_bast dX6_init_181 hF (fun h60 hF => ?_)
  refine v_dup dX6_init_182 rfl ?_
  refine v_bipush dX6_init_183 (v := 23) (by decide) ?_
  refine v_bipush dX6_init_185 (v := 97) (by decide) ?_
  refine v_bast dX6_init_187 hF (fun h61 hF => ?_)
  refine v_dup dX6_init_188 rfl ?_
  refine v_bipush dX6_init_189 (v := 24) (by decide) ?_
  refine v_bipush dX6_init_191 (v := 110) (by decide) ?_
  refine v_bast dX6_init_193 hF (fun h62 hF => ?_)
  refine v_dup dX6_init_194 rfl ?_
  refine v_bipush dX6_init_195 (v := 25) (by decide) ?_
  refine v_bipush dX6_init_197 (v := 100) (by decide) ?_
  refine v_bast dX6_init_199 hF (fun h63 hF => ?_)
  refine v_dup dX6_init_200 rfl ?_
  refine v_bipush dX6_init_201 (v := 26) (by decide) ?_
  refine v_bipush dX6_init_203 (v := 32) (by decide) ?_
  refine v_bast dX6_init_205 hF (fun h64 hF => ?_)
  refine v_dup dX6_init_206 rfl ?_
  refine v_bipush dX6_init_207 (v := 27) (by decide) ?_
  refine v_bipush dX6_init_209 (v := 110) (by decide) ?_
  refine v_bast dX6_init_211 hF (fun h65 hF => ?_)
  refine v_dup dX6_init_212 rfl ?_
  refine v_bipush dX6_init_213 (v := 28) (by decide) ?_
  refine v_bipush dX6_init_215 (v := 111) (by decide) ?_
  refine v_bast dX6_init_217 hF (fun h66 hF => ?_)
  refine v_dup dX6_init_218 rfl ?_
  refine v_bipush dX6_init_219 (v := 29) (by decide) ?_
  refine v_bipush dX6_init_221 (v := 116) (by decide) ?_
  refine v_bast dX6_init_223 hF (fun h67 hF => ?_)
  refine v_dup dX6_init_224 rfl ?_
  refine v_bipush dX6_init_225 (v := 30) (by decide) ?_
  refine v_bipush dX6_init_227 (v := 32) (by decide) ?_
  refine v_bast dX6_init_229 hF (fun h68 hF => ?_)
  refine v_dup dX6_init_230 rfl ?_
  refine v_bipush dX6_init_231 (v := 31) (by decide) ?_
  refine v_bipush dX6_init_233 (v := 108) (by decide) ?_
  refine v_bast dX6_init_235 hF (fun h69 hF => ?_)
  refine v_dup dX6_init_236 rfl ?_
  refine v_bipush dX6_init_237 (v := 32) (by decide) ?_
  refine v_bipush dX6_init_239 (v := 101) (by decide) ?_
  refine v_bast dX6_init_241 hF (fun h70 hF => ?_)
  refine v_dup dX6_init_242 rfl ?_
  refine v_bipush dX6_init_243 (v := 33) (by decide) ?_
  refine v_bipush dX6_init_245 (v := 101) (by decide) ?_
  refine v_bast dX6_init_247 hF (fun h71 hF => ?_)
  refine v_dup dX6_init_248 rfl ?_
  refine v_bipush dX6_init_249 (v := 34) (by decide) ?_
  refine v_bipush dX6_init_251 (v := 107) (by decide) ?_
  refine v_bast dX6_init_253 hF (fun h72 hF => ?_)
  refine v_dup dX6_init_254 rfl ?_
  refine v_bipush dX6_init_255 (v := 35) (by decide) ?_
  refine v_bipush dX6_init_257 (v := 32) (by decide) ?_
  refine v_bast dX6_init_259 hF (fun h73 hF => ?_)
  refine v_dup dX6_init_260 rfl ?_
  refine v_bipush dX6_init_261 (v := 36) (by decide) ?_
  refine v_bipush dX6_init_263 (v := 108) (by decide) ?_
  refine v_bast dX6_init_265 hF (fun h74 hF => ?_)
  refine v_dup dX6_init_266 rfl ?_
  refine v_bipush dX6_init_267 (v := 37) (by decide) ?_
  refine v_bipush dX6_init_269 (v := 105) (by decide) ?_
  refine v_bast dX6_init_271 hF (fun h75 hF => ?_)
  refine v_dup dX6_init_272 rfl ?_
  refine v_bipush dX6_init_273 (v := 38) (by decide) ?_
  refine v_bipush dX6_init_275 (v := 107) (by decide) ?_
  refine v_bast dX6_init_277 hF (fun h76 hF => ?_)
  refine v_dup dX6_init_278 rfl ?_
  refine v_bipush dX6_init_279 (v := 39) (by decide) ?_
  refine v_bipush dX6_init_281 (v := 101) (by decide) ?_
  refine v_bast dX6_init_283 hF (fun h77 hF => ?_)
  refine v_dup dX6_init_284 rfl ?_
  refine v_bipush dX6_init_285 (v := 40) (by decide) ?_
  refine v_bipush dX6_init_287 (v := 115) (by decide) ?_
  refine v_bast dX6_init_289 hF (fun h78 hF => ?_)
  refine v_dup dX6_init_290 rfl ?_
  refine v_bipush dX6_init_291 (v := 41) (by decide) ?_
  refine v_bipush dX6_init_293 (v := 32) (by decide) ?_
  refine v_bast dX6_init_295 hF (fun h79 hF => ?_)
  refine v_dup dX6_init_296 rfl ?_
  refine v_bipush dX6_init_297 (v := 42) (by decide) ?_
  refine v_bipush dX6_init_299 (v := 98) (by decide) ?_
  refine v_bast dX6_init_301 hF (fun h80 hF => ?_)
  refine v_dup dX6_init_302 rfl ?_
  refine v_bipush dX6_init_303 (v := 43) (by decide) ?_
  refine v_bipush dX6_init_305 (v := 111) (by decide) ?_
  refine v_bast dX6_init_307 hF (fun h81 hF => ?_)
  refine v_dup dX6_init_308 rfl ?_
  refine v_bipush dX6_init_309 (v := 44) (by decide) ?_
  refine v_bipush dX6_init_311 (v := 111) (by decide) ?_
  refine v_bast dX6_init_313 hF (fun h82 hF => ?_)
  refine v_dup dX6_init_314 rfl ?_
  refine v_bipush dX6_init_315 (v := 45) (by decide) ?_
  refine v_bipush dX6_init_317 (v := 107) (by decide) ?_
  refine v_bast dX6_init_319 hF (fun h83 hF => ?_)
  refine v_dup dX6_init_320 rfl ?_
  refine v_bipush dX6_init_321 (v := 46) (by decide) ?_
  refine v_bipush dX6_init_323 (v := 32) (by decide) ?_
  refine v_bast dX6_init_325 hF (fun h84 hF => ?_)
  refine v_dup dX6_init_326 rfl ?_
  refine v_bipush dX6_init_327 (v := 47) (by decide) ?_
  refine v_bipush dX6_init_329 (v := 108) (by decide) ?_
  refine v_bast dX6_init_331 hF (fun h85 hF => ?_)
  refine v_dup dX6_init_332 rfl ?_
  refine v_bipush dX6_init_333 (v := 48) (by decide) ?_
  refine v_bipush dX6_init_335 (v := 111) (by decide) ?_
  refine v_bast dX6_init_337 hF (fun h86 hF => ?_)
  refine v_dup dX6_init_338 rfl ?_
  refine v_bipush dX6_init_339 (v := 49) (by decide) ?_
  refine v_bipush dX6_init_341 (v := 110) (by decide) ?_
  refine v_bast dX6_init_343 hF (fun h87 hF => ?_)
  refine v_dup dX6_init_344 rfl ?_
  refine v_bipush dX6_init_345 (v := 50) (by decide) ?_
  refine v_bipush dX6_init_347 (v := 103) (by decide) ?_
  refine v_bast dX6_init_349 hF (fun h88 hF => ?_)
  refine v_dup dX6_init_350 rfl ?_
  refine v_bipush dX6_init_351 (v := 51) (by decide) ?_
  refine v_bipush dX6_init_353 (v := 32) (by decide) ?_
  refine v_bast dX6_init_355 hF (fun h89 hF => ?_)
  refine v_dup dX6_init_356 rfl ?_
  refine v_bipush dX6_init_357 (v := 52) (by decide) ?_
  refine v_bipush dX6_init_359 (v := 107) (by decide) ?_
  refine v_bast dX6_init_361 hF (fun h90 hF => ?_)
  refine v_dup dX6_init_362 rfl ?_
  refine v_bipush dX6_init_363 (v := 53) (by decide) ?_
  refine v_bipush dX6_init_365 (v := 105) (by decide) ?_
  refine v_bast dX6_init_367 hF (fun h91 hF => ?_)
  refine v_dup dX6_init_368 rfl ?_
  refine v_bipush dX6_init_369 (v := 54) (by decide) ?_
  refine v_bipush dX6_init_371 (v := 110) (by decide) ?_
  refine v_bast dX6_init_373 hF (fun h92 hF => ?_)
  refine v_dup dX6_init_374 rfl ?_
  refine v_bipush dX6_init_375 (v := 55) (by decide) ?_
  refine v_bipush dX6_init_377 (v := 100) (by decide) ?_
  refine v_bast dX6_init_379 hF (fun h93 hF => ?_)
  refine v_dup dX6_init_380 rfl ?_
  refine v_bipush dX6_init_381 (v := 56) (by decide) ?_
  refine v_bipush dX6_init_383 (v := 32) (by decide) ?_
  refine v_bast dX6_init_385 hF (fun h94 hF => ?_)
  refine v_dup dX6_init_386 rfl ?_
  refine v_bipush dX6_init_387 (v := 57) (by decide) ?_
  refine v_bipush dX6_init_389 (v := 109) (by decide) ?_
  refine v_bast dX6_init_391 hF (fun h95 hF => ?_)
  refine v_dup dX6_init_392 rfl ?_
  refine v_bipush dX6_init_393 (v := 58) (by decide) ?_
  refine v_bipush dX6_init_395 (v := 111) (by decide) ?_
  refine v_bast dX6_init_397 hF (fun h96 hF => ?_)
  refine v_dup dX6_init_398 rfl ?_
  refine v_bipush dX6_init_399 (v := 59) (by decide) ?_
  refine v_bipush dX6_init_401 (v := 111) (by decide) ?_
  refine v_bast dX6_init_403 hF (fun h97 hF => ?_)
  refine v_dup dX6_init_404 rfl ?_
  refine v_bipush dX6_init_405 (v := 60) (by decide) ?_
  refine v_bipush dX6_init_407 (v := 100) (by decide) ?_
  refine v_bast dX6_init_409 hF (fun h98 hF => ?_)
  refine v_dup dX6_init_410 rfl ?_
  refine v_bipush dX6_init_411 (v := 61) (by decide) ?_
  refine v_bipush dX6_init_413 (v := 32) (by decide) ?_
  refine v_bast dX6_init_415 hF (fun h99 hF => ?_)
  refine v_dup dX6_init_416 rfl ?_
  refine v_bipush dX6_init_417 (v := 62) (by decide) ?_
  refine v_bipush dX6_init_419 (v := 104) (by decide) ?_
  refine v_bast dX6_init_421 hF (fun h100 hF => ?_)
  refine v_dup dX6_init_422 rfl ?_
  refine v_bipush dX6_init_423 (v := 63) (by decide) ?_
  refine v_bipush dX6_init_425 (v := 105) (by decide) ?_
  refine v_bast dX6_init_427 hF (fun h101 hF => ?_)
  refine v_dup dX6_init_428 rfl ?_
  refine v_bipush dX6_init_429 (v := 64) (by decide) ?_
  refine v_bipush dX6_init_431 (v := 103) (by decide) ?_
  refine v_bast dX6_init_433 hF (fun h102 hF => ?_)
  refine v_dup dX6_init_434 rfl ?_
  refine v_bipush dX6_init_435 (v := 65) (by decide) ?_
  refine v_bipush dX6_init_437 (v := 104) (by decide) ?_
  refine v_bast dX6_init_439 hF (fun h103 hF => ?_)
  refine v_dup dX6_init_440 rfl ?_
  refine v_bipush dX6_init_441 (v := 66) (by decide) ?_
  refine v_bipush dX6_init_443 (v := 32) (by decide) ?_
  refine v_bast dX6_init_445 hF (fun h104 hF => ?_)
  refine v_dup dX6_init_446 rfl ?_
  refine v_bipush dX6_init_447 (v := 67) (by decide) ?_
  refine v_bipush dX6_init_449 (v := 107) (by decide) ?_
  refine v_bast dX6_init_451 hF (fun h105 hF => ?_)
  refine v_dup dX6_init_452 rfl ?_
  refine v_bipush dX6_init_453 (v := 68) (by decide) ?_
  refine v_bipush dX6_init_455 (v := 110) (by decide) ?_
  refine v_bast dX6_init_457 hF (fun h106 hF => ?_)
  refine v_dup dX6_init_458 rfl ?_
  refine v_bipush dX6_init_459 (v := 69) (by decide) ?_
  refine v_bipush dX6_init_461 (v := 111) (by decide) ?_
  refine v_bast dX6_init_463 hF (fun h107 hF => ?_)
  refine v_dup dX6_init_464 rfl ?_
  refine v_bipush dX6_init_465 (v := 70) (by decide) ?_
  refine v_bipush dX6_init_467 (v := 119) (by decide) ?_
  refine v_bast dX6_init_469 hF (fun h108 hF => ?_)
  refine v_dup dX6_init_470 rfl ?_
  refine v_bipush dX6_init_471 (v := 71) (by decide) ?_
  refine v_bipush dX6_init_473 (v := 110) (by decide) ?_
  refine v_bast dX6_init_475 hF (fun h109 hF => ?_)
  refine v_dup dX6_init_476 rfl ?_
  refine v_bipush dX6_init_477 (v := 72) (by decide) ?_
  refine v_bipush dX6_init_479 (v := 32) (by decide) ?_
  refine v_bast dX6_init_481 hF (fun h110 hF => ?_)
  refine v_dup dX6_init_482 rfl ?_
  refine v_bipush dX6_init_483 (v := 73) (by decide) ?_
  refine v_bipush dX6_init_485 (v := 100) (by decide) ?_
  refine v_bast dX6_init_487 hF (fun h111 hF => ?_)
  refine v_dup dX6_init_488 rfl ?_
  refine v_bipush dX6_init_489 (v := 74) (by decide) ?_
  refine v_bipush dX6_init_491 (v := 97) (by decide) ?_
  refine v_bast dX6_init_493 hF (fun h112 hF => ?_)
  refine v_dup dX6_init_494 rfl ?_
  refine v_bipush dX6_init_495 (v := 75) (by decide) ?_
  refine v_bipush dX6_init_497 (v := 121) (by decide) ?_
  refine v_bast dX6_init_499 hF (fun h113 hF => ?_)
  refine v_dup dX6_init_500 rfl ?_
  refine v_bipush dX6_init_501 (v := 76) (by decide) ?_
  refine v_bipush dX6_init_503 (v := 32) (by decide) ?_
  refine v_bast dX6_init_505 hF (fun h114 hF => ?_)
  refine v_dup dX6_init_506 rfl ?_
  refine v_bipush dX6_init_507 (v := 77) (by decide) ?_
  refine v_bipush dX6_init_509 (v := 100) (by decide) ?_
  refine v_bast dX6_init_511 hF (fun h115 hF => ?_)
  refine v_dup dX6_init_512 rfl ?_
  refine v_bipush dX6_init_513 (v := 78) (by decide) ?_
  refine v_bipush dX6_init_515 (v := 111) (by decide) ?_
  refine v_bast dX6_init_517 hF (fun h116 hF => ?_)
  refine v_dup dX6_init_518 rfl ?_
  refine v_bipush dX6_init_519 (v := 79) (by decide) ?_
  refine v_bipush dX6_init_521 (v := 110) (by decide) ?_
  refine v_bast dX6_init_523 hF (fun h117 hF => ?_)
  refine v_dup dX6_init_524 rfl ?_
  refine v_bipush dX6_init_525 (v := 80) (by decide) ?_
  refine v_bipush dX6_init_527 (v := 101) (by decide) ?_
  refine v_bast dX6_init_529 hF (fun h118 hF => ?_)
  refine v_dup dX6_init_530 rfl ?_
  refine v_bipush dX6_init_531 (v := 81) (by decide) ?_
  refine v_bipush dX6_init_533 (v := 32) (by decide) ?_
  refine v_bast dX6_init_535 hF (fun h119 hF => ?_)
  refine v_dup dX6_init_536 rfl ?_
  refine v_bipush dX6_init_537 (v := 82) (by decide) ?_
  refine v_bipush dX6_init_539 (v := 108) (by decide) ?_
  refine v_bast dX6_init_541 hF (fun h120 hF => ?_)
  refine v_dup dX6_init_542 rfl ?_
  refine v_bipush dX6_init_543 (v := 83) (by decide) ?_
  refine v_bipush dX6_init_545 (v := 97) (by decide) ?_
  refine v_bast dX6_init_547 hF (fun h121 hF => ?_)
  refine v_dup dX6_init_548 rfl ?_
  refine v_bipush dX6_init_549 (v := 84) (by decide) ?_
  refine v_bipush dX6_init_551 (v := 116) (by decide) ?_
  refine v_bast dX6_init_553 hF (fun h122 hF => ?_)
  refine v_dup dX6_init_554 rfl ?_
  refine v_bipush dX6_init_555 (v := 85) (by decide) ?_
  refine v_bipush dX6_init_557 (v := 101) (by decide) ?_
  refine v_bast dX6_init_559 hF (fun h123 hF => ?_)
  refine v_dup dX6_init_560 rfl ?_
  refine v_bipush dX6_init_561 (v := 86) (by decide) ?_
  refine v_bipush dX6_init_563 (v := 115) (by decide) ?_
  refine v_bast dX6_init_565 hF (fun h124 hF => ?_)
  refine v_dup dX6_init_566 rfl ?_
  refine v_bipush dX6_init_567 (v := 87) (by decide) ?_
  refine v_bipush dX6_init_569 (v := 116) (by decide) ?_
  refine v_bast dX6_init_571 hF (fun h125 hF => ?_)
  refine v_dup dX6_init_572 rfl ?_
  refine v_bipush dX6_init_573 (v := 88) (by decide) ?_
  refine v_bipush dX6_init_575 (v := 32) (by decide) ?_
  refine v_bast dX6_init_577 hF (fun h126 hF => ?_)
  refine v_dup dX6_init_578 rfl ?_
  refine v_bipush dX6_init_579 (v := 89) (by decide) ?_
  refine v_bipush dX6_init_581 (v := 97) (by decide) ?_
  refine v_bast dX6_init_583 hF (fun h127 hF => ?_)
  refine v_dup dX6_init_584 rfl ?_
  refine v_bipush dX6_init_585 (v := 90) (by decide) ?_
  refine v_bipush dX6_init_587 (v := 108) (by decide) ?_
  refine v_bast dX6_init_589 hF (fun h128 hF => ?_)
  refine v_dup dX6_init_590 rfl ?_
  refine v_bipush dX6_init_591 (v := 91) (by decide) ?_
  refine v_bipush dX6_init_593 (v := 108) (by decide) ?_
  refine v_bast dX6_init_595 hF (fun h129 hF => ?_)
  refine v_dup dX6_init_596 rfl ?_
  refine v_bipush dX6_init_597 (v := 92) (by decide) ?_
  refine v_bipush dX6_init_599 (v := 32) (by decide) ?_
  refine v_bast dX6_init_601 hF (fun h130 hF => ?_)
  refine v_dup dX6_init_602 rfl ?_
  refine v_bipush dX6_init_603 (v := 93) (by decide) ?_
  refine v_bipush dX6_init_605 (v := 104) (by decide) ?_
  refine v_bast dX6_init_607 hF (fun h131 hF => ?_)
  refine v_dup dX6_init_608 rfl ?_
  refine v_bipush dX6_init_609 (v := 94) (by decide) ?_
  refine v_bipush dX6_init_611 (v := 97) (by decide) ?_
  refine v_bast dX6_init_613 hF (fun h132 hF => ?_)
  refine v_dup dX6_init_614 rfl ?_
  refine v_bipush dX6_init_615 (v := 95) (by decide) ?_
  refine v_bipush dX6_init_617 (v := 115) (by decide) ?_
  refine v_bast dX6_init_619 hF (fun h133 hF => ?_)
  refine v_dup dX6_init_620 rfl ?_
  refine v_bipush dX6_init_621 (v := 96) (by decide) ?_
  refine v_bipush dX6_init_623 (v := 32) (by decide) ?_
  refine v_bast dX6_init_625 hF (fun h134 hF => ?_)
  refine v_dup dX6_init_626 rfl ?_
  refine v_bipush dX6_init_627 (v := 97) (by decide) ?_
  refine v_bipush dX6_init_629 (v := 114) (by decide) ?_
  refine v_bast dX6_init_631 hF (fun h135 hF => ?_)
  refine v_dup dX6_init_632 rfl ?_
  refine v_bipush dX6_init_633 (v := 98) (by decide) ?_
  refine v_bipush dX6_init_635 (v := 101) (by decide) ?_
  refine v_bast dX6_init_637 hF (fun h136 hF => ?_)
  refine v_dup dX6_init_638 rfl ?_
  refine v_bipush dX6_init_639 (v := 99) (by decide) ?_
  refine v_bipush dX6_init_641 (v := 97) (by decide) ?_
  refine v_bast dX6_init_643 hF (fun h137 hF => ?_)
  refine v_dup dX6_init_644 rfl ?_
  refine v_bipush dX6_init_645 (v := 100) (by decide) ?_
  refine v_bipush dX6_init_647 (v := 100) (by decide) ?_
  refine v_bast dX6_init_649 hF (fun h138 hF => ?_)
  refine v_dup dX6_init_650 rfl ?_
  refine v_bipush dX6_init_651 (v := 101) (by decide) ?_
  refine v_bipush dX6_init_653 (v := 32) (by decide) ?_
  refine v_bast dX6_init_655 hF (fun h139 hF => ?_)
  refine v_dup dX6_init_656 rfl ?_
  refine v_bipush dX6_init_657 (v := 102) (by decide) ?_
  refine v_bipush dX6_init_659 (v := 108) (by decide) ?_
  refine v_bast dX6_init_661 hF (fun h140 hF => ?_)
  refine v_dup dX6_init_662 rfl ?_
  refine v_bipush dX6_init_663 (v := 103) (by decide) ?_
  refine v_bipush dX6_init_665 (v := 111) (by decide) ?_
  refine v_bast dX6_init_667 hF (fun h141 hF => ?_)
  refine v_dup dX6_init_668 rfl ?_
  refine v_bipush dX6_init_669 (v := 104) (by decide) ?_
  refine v_bipush dX6_init_671 (v := 115) (by decide) ?_
  refine v_bast dX6_init_673 hF (fun h142 hF => ?_)
  refine v_dup dX6_init_674 rfl ?_
  refine v_bipush dX6_init_675 (v := 105) (by decide) ?_
  refine v_bipush dX6_init_677 (v := 101) (by decide) ?_
  refine v_bast dX6_init_679 hF (fun h143 hF => ?_)
  refine v_dup dX6_init_680 rfl ?_
  refine v_bipush dX6_init_681 (v := 106) (by decide) ?_
  refine v_bipush dX6_init_683 (v := 32) (by decide) ?_
  refine v_bast dX6_init_685 hF (fun h144 hF => ?_)
  refine v_dup dX6_init_686 rfl ?_
  refine v_bipush dX6_init_687 (v := 107) (by decide) ?_
  refine v_bipush dX6_init_689 (v := 99) (by decide) ?_
  refine v_bast dX6_init_691 hF (fun h145 hF => ?_)
  refine v_dup dX6_init_692 rfl ?_
  refine v_bipush dX6_init_693 (v := 108) (by decide) ?_
  refine v_bipush dX6_init_695 (v := 117) (by decide) ?_
  refine v_bast dX6_init_697 hF (fun h146 hF => ?_)
  refine v_dup dX6_init_698 rfl ?_
  refine v_bipush dX6_init_699 (v := 109) (by decide) ?_
  refine v_bipush dX6_init_701 (v := 116) (by decide) ?_
  refine v_bast dX6_init_703 hF (fun h147 hF => ?_)
  refine v_dup dX6_init_704 rfl ?_
  refine v_bipush dX6_init_705 (v := 110) (by decide) ?_
  refine v_bipush dX6_init_707 (v := 32) (by decide) ?_
  refine v_bast dX6_init_709 hF (fun h148 hF => ?_)
  refine v_dup dX6_init_710 rfl ?_
  refine v_bipush dX6_init_711 (v := 111) (by decide) ?_
  refine v_bipush dX6_init_713 (v := 112) (by decide) ?_
  refine v_bast dX6_init_715 hF (fun h149 hF => ?_)
  refine v_dup dX6_init_716 rfl ?_
  refine v_bipush dX6_init_717 (v := 112) (by decide) ?_
  refine v_bipush dX6_init_719 (v := 97) (by decide) ?_
  refine v_bast dX6_init_721 hF (fun h150 hF => ?_)
  refine v_dup dX6_init_722 rfl ?_
  refine v_bipush dX6_init_723 (v := 113) (by decide) ?_
  refine v_bipush dX6_init_725 (v := 115) (by decide) ?_
  refine v_bast dX6_init_727 hF (fun h151 hF => ?_)
  refine v_dup dX6_init_728 rfl ?_
  refine v_bipush dX6_init_729 (v := 114) (by decide) ?_
  refine v_bipush dX6_init_731 (v := 115) (by decide) ?_
  refine v_bast dX6_init_733 hF (fun h152 hF => ?_)
  refine v_dup dX6_init_734 rfl ?_
  refine v_bipush dX6_init_735 (v := 115) (by decide) ?_
  refine v_bipush dX6_init_737 (v := 32) (by decide) ?_
  refine v_bast dX6_init_739 hF (fun h153 hF => ?_)
  refine v_dup dX6_init_740 rfl ?_
  refine v_bipush dX6_init_741 (v := 116) (by decide) ?_
  refine v_bipush dX6_init_743 (v := 116) (by decide) ?_
  refine v_bast dX6_init_745 hF (fun h154 hF => ?_)
  refine v_dup dX6_init_746 rfl ?_
  refine v_bipush dX6_init_747 (v := 117) (by decide) ?_
  refine v_bipush dX6_init_749 (v := 105) (by decide) ?_
  refine v_bast dX6_init_751 hF (fun h155 hF => ?_)
  refine v_dup dX6_init_752 rfl ?_
  refine v_bipush dX6_init_753 (v := 118) (by decide) ?_
  refine v_bipush dX6_init_755 (v := 109) (by decide) ?_
  refine v_bast dX6_init_757 hF (fun h156 hF => ?_)
  refine v_dup dX6_init_758 rfl ?_
  refine v_bipush dX6_init_759 (v := 119) (by decide) ?_
  refine v_bipush dX6_init_761 (v := 101) (by decide) ?_
  refine v_bast dX6_init_763 hF (fun h157 hF => ?_)
  refine v_dup dX6_init_764 rfl ?_
  refine v_bipush dX6_init_765 (v := 120) (by decide) ?_
  refine v_bipush dX6_init_767 (v := 115) (by decide) ?_
  refine v_bast dX6_init_769 hF (fun h158 hF => ?_)
  refine v_dup dX6_init_770 rfl ?_
  refine v_bipush dX6_init_771 (v := 121) (by decide) ?_
  refine v_bipush dX6_init_773 (v := 32) (by decide) ?_
  refine v_bast dX6_init_775 hF (fun h159 hF => ?_)
  refine v_put dX6_init_776 pl_X6_37 (fun _ => rfl) rfl rfl hF (fun h160 hF => ?_)
  refine v_aload_n dX6_init_779 rfl 0 rfl ?_
  refine v_sipush dX6_init_780 (v := 400) (by decide) ?_
  refine v_newarr dX6_init_783 rfl rfl q453 (fun _ _ h => h) (by decide) (fun _ _ => rfl) hF (fun a161 h162 hF => ?_)
  refine v_put dX6_init_785 pl_X6_41 (fun _ => rfl) rfl rfl hF (fun h163 hF => ?_)
  refine v_aload_n dX6_init_788 rfl 0 rfl ?_
  refine v_iconst dX6_init_789 (v := 5) (by decide) ?_
  refine v_newarr dX6_init_790 rfl rfl q247 (fun _ _ h => h) (by decide) (fun _ _ => rfl) hF (fun a164 h165 hF => ?_)
  refine v_put dX6_init_792 pl_X6_44 (fun _ => rfl) rfl rfl hF (fun h166 hF => ?_)
  refine v_aload_n dX6_init_795 rfl 0 rfl ?_
  refine v_iconst dX6_init_796 (v := -1) (by decide) ?_
  refine v_put dX6_init_797 pl_X6_47 (fun z => by cases z) rfl rfl hF (fun h167 hF => ?_)
  refine v_aload_n dX6_init_800 rfl 0 rfl ?_
  refine v_sipush dX6_init_801 (v := 401) (by decide) ?_
  refine v_newarr dX6_init_804 rfl rfl q247 (fun _ _ h => h) (by decide) (fun _ _ => rfl) hF (fun a168 h169 hF => ?_)
  refine v_put dX6_init_806 pl_X6_50 (fun _ => rfl) rfl rfl hF (fun h170 hF => ?_)
  refine v_aload_n dX6_init_809 rfl 0 rfl ?_
  refine v_sipush dX6_init_810 (v := 401) (by decide) ?_
  refine v_newarr dX6_init_813 rfl rfl q247 (fun _ _ h => h) (by decide) (fun _ _ => rfl) hF (fun a171 h172 hF => ?_)
  refine v_put dX6_init_815 pl_X6_53 (fun _ => rfl) rfl rfl hF (fun h173 hF => ?_)
  refine v_aload_n dX6_init_818 rfl 0 rfl ?_
  refine v_sipush dX6_init_819 (v := 401) (by decide) ?_
  refine v_newarr dX6_init_822 rfl rfl q247 (fun _ _ h => h) (by decide) (fun _ _ => rfl) hF (fun a174 h175 hF => ?_)
  refine v_put dX6_init_824 pl_X6_56 (fun _ => rfl) rfl rfl hF (fun h176 hF => ?_)
  refine v_aload_n dX6_init_827 rfl 0 rfl ?_
  refine v_bipush dX6_init_828 (v := 9) (by decide) ?_
  refine v_newarr dX6_init_830 rfl rfl q247 (fun _ _ h => h) (by decide) (fun _ _ => rfl) hF (fun a177 h178 hF => ?_)
  refine v_put dX6_init_832 pl_X6_59 (fun _ => rfl) rfl rfl hF (fun h179 hF => ?_)
  refine v_aload_n dX6_init_835 rfl 0 rfl ?_
  refine v_iconst dX6_init_836 (v := 4) (by decide) ?_
  refine v_newarr dX6_init_837 rfl rfl q247 (fun _ _ h => h) (by decide) (fun _ _ => rfl) hF (fun a180 h181 hF => ?_)
  refine v_put dX6_init_839 pl_X6_62 (fun _ => rfl) rfl rfl hF (fun h182 hF => ?_)
  refine v_aload_n dX6_init_842 rfl 0 rfl ?_
  refine v_bipush dX6_init_843 (v := 112) (by decide) ?_
  refine v_newarr dX6_init_845 rfl rfl q247 (fun _ _ h => h) (by decide) (fun _ _ => rfl) hF (fun a183 h184 hF => ?_)
  refine v_put dX6_init_847 pl_X6_65 (fun _ => rfl) rfl rfl hF (fun h185 hF => ?_)
  refine v_aload_n dX6_init_850 rfl 0 rfl ?_
  refine v_bipush dX6_init_851 (v := 112) (by decide) ?_
  refine v_newarr dX6_init_853 rfl rfl q247 (fun _ _ h => h) (by decide) (fun _ _ => rfl) hF (fun a186 h187 hF => ?_)
  refine v_put dX6_init_855 pl_X6_68 (fun _ => rfl) rfl rfl hF (fun h188 hF => ?_)
  refine v_aload_n dX6_init_858 rfl 0 rfl ?_
  refine v_sipush dX6_init_859 (v := 256) (by decide) ?_
  refine v_newarr dX6_init_862 rfl rfl q247 (fun _ _ h => h) (by decide) (fun _ _ => rfl) hF (fun a189 h190 hF => ?_)
  refine v_put dX6_init_864 pl_X6_71 (fun _ => rfl) rfl rfl hF (fun h191 hF => ?_)
  refine v_aload_n dX6_init_867 rfl 0 rfl ?_
  refine v_bipush dX6_init_868 (v := 8) (by decide) ?_
  refine v_newarr dX6_init_870 rfl rfl q247 (fun _ _ h => h) (by decide) (fun _ _ => rfl) hF (fun a192 h193 hF => ?_)
  refine v_put dX6_init_872 pl_X6_74 (fun _ => rfl) rfl rfl hF (fun h194 hF => ?_)
  refine v_aload_n dX6_init_875 rfl 0 rfl ?_
  refine v_sipush dX6_init_876 (v := 2048) (by decide) ?_
  refine v_newarr dX6_init_879 rfl rfl q1803 (fun _ _ h => h) (by decide) (fun _ _ => rfl) hF (fun a195 h196 hF => ?_)
  refine v_put dX6_init_881 pl_X6_77 (fun _ => rfl) rfl rfl hF (fun h197 hF => ?_)
  refine v_aload_n dX6_init_884 rfl 0 rfl ?_
  refine v_bipush dX6_init_885 (v := 8) (by decide) ?_
  refine v_newarr dX6_init_887 rfl rfl q247 (fun _ _ h => h) (by decide) (fun _ _ => rfl) hF (fun a198 h199 hF => ?_)
  refine v_put dX6_init_889 pl_X6_80 (fun _ => rfl) rfl rfl hF (fun h200 hF => ?_)
  refine v_aload_n dX6_init_892 rfl 0 rfl ?_
  refine v_bipush dX6_init_893 (v := 8) (by decide) ?_
  refine v_newarr dX6_init_895 rfl rfl q247 (fun _ _ h => h) (by decide) (fun _ _ => rfl) hF (fun a201 h202 hF => ?_)
  refine v_put dX6_init_897 pl_X6_83 (fun _ => rfl) rfl rfl hF (fun h203 hF => ?_)
  refine v_aload_n dX6_init_900 rfl 0 rfl ?_
  refine v_bipush dX6_init_901 (v := 32) (by decide) ?_
  refine v_newarr dX6_init_903 rfl rfl q247 (fun _ _ h => h) (by decide) (fun _ _ => rfl) hF (fun a204 h205 hF => ?_)
  refine v_put dX6_init_905 pl_X6_86 (fun _ => rfl) rfl rfl hF (fun h206 hF => ?_)
  refine v_aload_n dX6_init_908 rfl 0 rfl ?_
  refine v_bipush dX6_init_909 (v := 21) (by decide) ?_
  refine v_newarr dX6_init_911 rfl rfl q340 (fun _ _ h => h) (by decide) (fun _ _ => rfl) hF (fun a207 h208 hF => ?_)
  refine v_put dX6_init_913 pl_X6_89 (fun _ => rfl) rfl rfl hF (fun h209 hF => ?_)
  refine v_aload_n dX6_init_916 rfl 0 rfl ?_
  refine v_iconst dX6_init_917 (v := -1) (by decide) ?_
  refine v_put dX6_init_918 pl_X6_93 (fun z => by cases z) rfl rfl hF (fun h210 hF => ?_)
  refine v_aload_n dX6_init_921 rfl 0 rfl ?_
  refine v_bipush dX6_init_922 (v := 6) (by decide) ?_
  refine v_newarr dX6_init_924 rfl rfl q247 (fun _ _ h => h) (by decide) (fun _ _ => rfl) hF (fun a211 h212 hF => ?_)
  refine v_put dX6_init_926 pl_X6_96 (fun _ => rfl) rfl rfl hF (fun h213 hF => ?_)
  refine v_aload_n dX6_init_929 rfl 0 rfl ?_
  refine v_iconst dX6_init_930 (v := -1) (by decide) ?_
  refine v_put dX6_init_931 pl_X6_99 (fun z => by cases z) rfl rfl hF (fun h214 hF => ?_)
  refine v_aload_n dX6_init_934 rfl 0 rfl ?_
  refine v_getr dX6_init_935 fl_X6_24 hF (fun v215 hF => ?_)
  refine v_bipush dX6_init_938 (v := 46) (by decide) ?_
  refine v_iconst dX6_init_940 (v := 1) (by decide) ?_
  refine v_iast dX6_init_941 hF (fun h216 hF => ?_)
  refine v_aload_n dX6_init_942 rfl 0 rfl ?_
  refine v_getr dX6_init_943 fl_X6_24 hF (fun v217 hF => ?_)
  refine v_bipush dX6_init_946 (v := 52) (by decide) ?_
  refine v_iconst dX6_init_948 (v := -1) (by decide) ?_
  refine v_iast dX6_init_949 hF (fun h218 hF => ?_)
  cases hF
  exact v_vret dX6_init_950 rfl rfl rfl
def T_init (a0 : Nat) (h : Hp) : Option Hp := (ob h a0 [6]).bind fun _ => T_init_b a0 h
theorem rc_T_init  {r : Hp} {a0 : Nat} {h : Hp} (hF : T_init a0 h = some r) : RC h a0 [6] := by
  obtain ⟨o, ho, -⟩ := Option.bind_eq_some_iff.mp hF
  exact ⟨o, ho⟩
theorem ct_T_init {l : Launch} {G : GT} {r : Hp} {a0 : Nat} {h : Hp} (hF : T_init a0 h = some r) : Ct l G yX6_init (ws_ yX6_init cX6_init 1 (Option.none : Option Jvm.ClassFile.FieldType)) 1 20 [.ref a0] h none r :=
  ct_of (by decide) (Nat.le_of_ble_eq_true rfl) (w_T_init_b (Nat.le_refl _) (Nat.le_refl _) (Option.bind_eq_some_iff.mp hF).choose_spec.2)
