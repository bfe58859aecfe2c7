/-! printed by tools/gen.py -/
set_option maxRecDepth 100000
set_option linter.unusedVariables false
theorem pl_X6_3 : PL RX6 3 [6] 0 (.int) false := by
  intro ci h
  simp only [List.mem_cons, List.not_mem_nil, or_false] at h
  subst h; exact ⟨RX6, _, TX6, 56, tyX6, rfl, in_X6, by decide, Or.inl q1634, Or.inl rfl, tyX6_ok, rfl, by decide +kernel, rfl, fun z => by cases z⟩
def T_good (a1 : Int32) (M : TM) : Option (Int32 × TM) :=
  (some (tsi M 0 (0 : Int32))).bind fun (M1 : TM) =>
  some (a1, M1)
theorem w_T_good {l : Launch} {G : GT} {fr lo : Nat} {h0 : Hp} {m0 : Nat} {hb : Hp} {r : (Int32 × TM)} (hfr : 0 ≤ fr) (hlo : 0 ≤ lo) {a1 : Int32} {M : TM} (hF : T_good a1 M = some r) : V l G cX6_good RX6 "good" 2 (Option.some Jvm.ClassFile.FieldType.int) fr lo h0 (ovT m0 r.2 hb) (QM G (some (.int r.1)) h0 (ovT m0 r.2 hb)) 0 [(0, .ref m0), (1, .int a1)] [] (ovT m0 M hb) := by
  unfold T_good at hF
  refine v_aload_n dX6_good_0 rfl 0 rfl ?_
  refine v_iconst dX6_good_1 (v := 0) (by decide) ?_
  refine t_puti 0 dX6_good_2 pl_X6_3 rfl ?_
  refine v_letM hF (fun M1 hF => ?_)
  refine v_iload_n dX6_good_5 rfl 1 rfl ?_
  cases hF
  exact v_iret dX6_good_6 rfl rfl rfl rfl
theorem ct_T_good {l : Launch} {G : GT} {m0 : Nat} {hb : Hp} {r : (Int32 × TM)} {a1 : Int32} {M : TM} (hF : T_good a1 M = some r) : Ct l G yX6_good (ws_ yX6_good cX6_good 2 (Option.some Jvm.ClassFile.FieldType.int)) 0 0 [.ref m0, .int a1] (ovT m0 M hb) (some (.int r.1)) (ovT m0 r.2 hb) :=
  ct_of (by decide) (Nat.le_of_ble_eq_true rfl) (w_T_good (Nat.le_refl _) (Nat.le_refl _) hF)
def T_lies (a1 : Int32) (a2 : Int32) (a3 : Int32) : Option Int32 :=
  if a1 < a2 then
    some (0 : Int32)
  else
    if a3 < a1 then
      some (0 : Int32)
    else
      some (1 : Int32)
theorem w_T_lies {l : Launch} {G : GT} {fr lo : Nat} {h0 : Hp} {h : Hp} {r : Int32} (hfr : 0 ≤ fr) (hlo : 0 ≤ lo) {a1 : Int32} {a2 : Int32} {a3 : Int32} (hF : T_lies a1 a2 a3 = some r) : V l G cX6_lies RX6 "lies" 3 (Option.some Jvm.ClassFile.FieldType.boolean) fr lo h0 h (QM G (some (.int r)) h0 h) 0 [(0, .int a1), (1, .int a2), (2, .int a3)] [] h := by
  unfold T_lies at hF
  refine v_iload_n dX6_lies_0 rfl 0 rfl ?_
  refine v_iload_n dX6_lies_1 rfl 1 rfl ?_
  refine v_icmp_lt (tgt := 14) dX6_lies_2 (by decide) hF (fun hF => ?_) (fun hF => ?_)
  · refine v_iconst dX6_lies_14 (v := 0) (by decide) ?_
    cases hF
    exact v_iret dX6_lies_15 rfl (by decide) rfl rfl
  · refine v_iload_n dX6_lies_5 rfl 0 rfl ?_
    refine v_iload_n dX6_lies_6 rfl 2 rfl ?_
    refine v_icmp_gt (tgt := 14) dX6_lies_7 (by decide) hF (fun hF => ?_) (fun hF => ?_)
    · refine v_iconst dX6_lies_14 (v := 0) (by decide) ?_
      cases hF
      exact v_iret dX6_lies_15 rfl (by decide) rfl rfl
    · refine v_iconst dX6_lies_10 (v := 1) (by decide) ?_
      refine v_goto (tgt := 15) dX6_lies_11 (by decide) ?_
      cases hF
      exact v_iret dX6_lies_15 rfl (by decide) rfl rfl
theorem ct_T_lies {l : Launch} {G : GT} {h : Hp} {r : Int32} {a1 : Int32} {a2 : Int32} {a3 : Int32} (hF : T_lies a1 a2 a3 = some r) : Ct l G yX6_lies (ws_ yX6_lies cX6_lies 3 (Option.some Jvm.ClassFile.FieldType.boolean)) 0 0 [.int a1, .int a2, .int a3] h (some (.int r)) h :=
  ct_of (by decide) (Nat.le_of_ble_eq_true rfl) (w_T_lies (Nat.le_refl _) (Nat.le_refl _) hF)
theorem fl_X6_7 : FL RX6 7 [6] 1 := by
  intro ci h
  simp only [List.mem_cons, List.not_mem_nil, or_false] at h
  subst h; exact ⟨RX6, _, TX6, 56, rfl, in_X6, by decide, Or.inl q1635, Or.inl rfl⟩
def T_refuses (a1 : Int32) (M : TM) : Option (Int32 × TM) :=
  (some (tsi M 0 a1)).bind fun (M1 : TM) =>
  (tra M1 1 7 (-a1)).bind fun v2 =>
  (twa M1 1 7 (-a1) (v2 + (1 : Int32))).bind fun M3 =>
  some (a1, M3)
theorem w_T_refuses {l : Launch} {G : GT} {fr lo : Nat} {h0 : Hp} {m0 : Nat} {hb : Hp} {r : (Int32 × TM)} (hfr : 0 ≤ fr) (hlo : 0 ≤ lo) {a1 : Int32} {M : TM} (hF : T_refuses a1 M = some r) : V l G cX6_refuses RX6 "refuses" 2 (Option.some Jvm.ClassFile.FieldType.int) fr lo h0 (ovT m0 r.2 hb) (QM G (some (.int r.1)) h0 (ovT m0 r.2 hb)) 0 [(0, .ref m0), (1, .int a1)] [] (ovT m0 M hb) := by
  unfold T_refuses at hF
  refine v_aload_n dX6_refuses_0 rfl 0 rfl ?_
  refine v_iload_n dX6_refuses_1 rfl 1 rfl ?_
  refine t_puti 0 dX6_refuses_2 pl_X6_3 rfl ?_
  refine v_letM hF (fun M1 hF => ?_)
  refine v_aload_n dX6_refuses_5 rfl 0 rfl ?_
  refine t_geta 1 1 dX6_refuses_6 fl_X6_7 (Nat.le_of_ble_eq_true rfl) (fun _ _ => rfl) ?_
  refine v_iload_n dX6_refuses_9 rfl 1 rfl ?_
  refine v_ineg dX6_refuses_10 ?_
  refine v_dup2 dX6_refuses_11 rfl rfl ?_
  refine t_iald 1 dX6_refuses_12 rfl (Nat.le_of_ble_eq_true rfl) (by decide) hF (fun v2 hF => ?_)
  refine v_iconst dX6_refuses_13 (v := 1) (by decide) ?_
  refine v_iadd dX6_refuses_14 ?_
  refine t_iast 1 dX6_refuses_15 rfl (Nat.le_of_ble_eq_true rfl) (by decide) hF (fun M3 hF => ?_)
  refine v_iload_n dX6_refuses_16 rfl 1 rfl ?_
  cases hF
  exact v_iret dX6_refuses_17 rfl rfl rfl rfl
theorem ct_T_refuses {l : Launch} {G : GT} {m0 : Nat} {hb : Hp} {r : (Int32 × TM)} {a1 : Int32} {M : TM} (hF : T_refuses a1 M = some r) : Ct l G yX6_refuses (ws_ yX6_refuses cX6_refuses 2 (Option.some Jvm.ClassFile.FieldType.int)) 0 0 [.ref m0, .int a1] (ovT m0 M hb) (some (.int r.1)) (ovT m0 r.2 hb) :=
  ct_of (by decide) (Nat.le_of_ble_eq_true rfl) (w_T_refuses (Nat.le_refl _) (Nat.le_refl _) hF)
theorem sl_X6_102 : SL RX6 102 yX6_lies 3 := ⟨q146, ⟨by decide, by decide⟩, by decide +kernel, q1809, Or.inl q1808⟩
theorem fl_X6_27 : FL RX6 27 [6] 3 := by
  intro ci h
  simp only [List.mem_cons, List.not_mem_nil, or_false] at h
  subst h; exact ⟨RX6, _, TX6, 56, rfl, in_X6, by decide, Or.inl q1637, Or.inl rfl⟩
theorem fl_X6_24 : FL RX6 24 [6] 2 := by
  intro ci h
  simp only [List.mem_cons, List.not_mem_nil, or_false] at h
  subst h; exact ⟨RX6, _, TX6, 56, rfl, in_X6, by decide, Or.inl q1636, Or.inl rfl⟩
theorem fl_X6_30 : FL RX6 30 [6] 4 := by
  intro ci h
  simp only [List.mem_cons, List.not_mem_nil, or_false] at h
  subst h; exact ⟨RX6, _, TX6, 56, rfl, in_X6, by decide, Or.inl q1638, Or.inl rfl⟩
theorem vl_X6_14 : ∀ ci ∈ [6], VL RX6 14 ci yX6_good 1 := by
  intro ci h
  simp only [List.mem_cons, List.not_mem_nil, or_false] at h
  subst h; exact ⟨RX6, TX6, 56, rfl, q146, ⟨by decide, by decide⟩, by decide +kernel, q1817, Or.inl ⟨q1815, qs51⟩⟩
theorem vl_X6_106 : ∀ ci ∈ [6], VL RX6 106 ci yX6_refuses 1 := by
  intro ci h
  simp only [List.mem_cons, List.not_mem_nil, or_false] at h
  subst h; exact ⟨RX6, TX6, 56, rfl, q146, ⟨by decide, by decide⟩, by decide +kernel, q1813, Or.inl ⟨q1811, qs50⟩⟩
def T_image_L17 (N : Nat) (x17 : Int32 → TM → Option (Int32 × TM)) : Nat → Int32 → Int32 → TM → Option (Int32 × TM)
  | 0, _, _, _ => none
  | n9 + 1, v2, v3, M4 =>
    if (5660 : Int32) ≤ v3 then
      x17 v2 M4
    else
      (tra M4 2 5660 v3).bind fun v7 =>
      (twa M4 3 11320 (((5660 : Int32) * v2) + v3) v7).bind fun M8 =>
      (T_image_L17 N x17 n9) v2 (v3 + (1 : Int32)) M8
theorem w_T_image_L17 {l : Launch} {G : GT} {fr lo : Nat} {h0 : Hp} {m0 : Nat} {hb : Hp} {N : Nat} {r : (Int32 × TM)} (hfr : 1 ≤ fr) (hlo : 22 ≤ lo) {x17 : Int32 → TM → Option (Int32 × TM)} (hx17 : ∀ (v5 : Int32) (M6 : TM), x17 v5 M6 = some r → V l G cX6_image RX6 "image" 3 (Option.some Jvm.ClassFile.FieldType.int) fr lo h0 (ovT m0 r.2 hb) (QM G (some (.int r.1)) h0 (ovT m0 r.2 hb)) 48 [(0, .ref m0), (1, .int v5)] [] (ovT m0 M6 hb)) : ∀ (n : Nat) (v2 : Int32) (v3 : Int32) (M4 : TM), T_image_L17 N x17 n v2 v3 M4 = some r → V l G cX6_image RX6 "image" 3 (Option.some Jvm.ClassFile.FieldType.int) fr lo h0 (ovT m0 r.2 hb) (QM G (some (.int r.1)) h0 (ovT m0 r.2 hb)) 17 [(0, .ref m0), (1, .int v2), (2, .int v3)] [] (ovT m0 M4 hb) := by
  intro n
  induction n with
  | zero =>
    intro v2 v3 M4 hF
    cases (show (none : Option (Int32 × TM)) = some r from hF)
  | succ n hc17 =>
    intro v2 v3 M4 hF
    rw [T_image_L17] at hF
    refine v_iload_n dX6_image_17 rfl 2 rfl ?_
    refine v_sipush dX6_image_18 (v := 5660) (by decide) ?_
    refine v_icmp_ge (tgt := 48) dX6_image_21 (by decide) hF (fun hF => ?_) (fun hF => ?_)
    · exact v_sub [0, 1] rfl (hx17 _ _ hF)
    · refine v_aload_n dX6_image_24 rfl 0 rfl ?_
      refine t_geta 3 3 dX6_image_25 fl_X6_27 (Nat.le_of_ble_eq_true rfl) (fun _ _ => rfl) ?_
      refine v_sipush dX6_image_28 (v := 5660) (by decide) ?_
      refine v_iload_n dX6_image_31 rfl 1 rfl ?_
      refine v_imul dX6_image_32 ?_
      refine v_iload_n dX6_image_33 rfl 2 rfl ?_
      refine v_iadd dX6_image_34 ?_
      refine v_aload_n dX6_image_35 rfl 0 rfl ?_
      refine t_geta 2 2 dX6_image_36 fl_X6_24 (Nat.le_of_ble_eq_true rfl) (fun _ _ => rfl) ?_
      refine v_iload_n dX6_image_39 rfl 2 rfl ?_
      refine t_iald 2 dX6_image_40 rfl (Nat.le_of_ble_eq_true rfl) (by decide) hF (fun v7 hF => ?_)
      refine t_iast 3 dX6_image_41 rfl (Nat.le_of_ble_eq_true rfl) (by decide) hF (fun M8 hF => ?_)
      refine v_iinc dX6_image_42 2 rfl (v := v3 + (1 : Int32)) (by rfl) (Nat.le_of_ble_eq_true rfl) (L' := [(2, .int (v3 + (1 : Int32))), (0, .ref m0), (1, .int v2)]) rfl ?_
      refine v_goto (tgt := 17) dX6_image_45 (by decide) ?_
      exact v_sub [1, 2, 0] rfl (hc17 _ _ _ hF)
def T_image (N : Nat) (a1 : Int32) (M : TM) : Option (Int32 × TM) :=
  (T_lies a1 (0 : Int32) (1 : Int32)).bind fun v1 =>
  if v1 = 0 then
    bd2 (T_refuses (-1 : Int32) M) fun v16 M15 =>
    some (v16, M15)
  else
    T_image_L17 N (fun v10 M11 =>
      (twb M11 2 4 2 v10 (1 : Int32)).bind fun M12 =>
      bd2 (T_good (0 : Int32) M12) fun v14 M13 =>
      some (v14, M13)) N a1 (0 : Int32) M
theorem w_T_image {l : Launch} {G : GT} {fr lo : Nat} {h0 : Hp} {m0 : Nat} {hb : Hp} {N : Nat} {r : (Int32 × TM)} (hfr : 1 ≤ fr) (hlo : 22 ≤ lo) {a1 : Int32} {M : TM} (hF : T_image N a1 M = some r) : V l G cX6_image RX6 "image" 3 (Option.some Jvm.ClassFile.FieldType.int) fr lo h0 (ovT m0 r.2 hb) (QM G (some (.int r.1)) h0 (ovT m0 r.2 hb)) 0 [(0, .ref m0), (1, .int a1)] [] (ovT m0 M hb) := by
  unfold T_image at hF
  refine v_iload_n dX6_image_0 rfl 1 rfl ?_
  refine v_iconst dX6_image_1 (v := 0) (by decide) ?_
  refine v_iconst dX6_image_2 (v := 1) (by decide) ?_
  obtain ⟨v1, e_v1, hF⟩ := Option.bind_eq_some_iff.mp hF
  refine v_calS1 dX6_image_3 sl_X6_102 q1810 (ct_T_lies e_v1) rfl rfl (Nat.le_trans (Nat.le_of_ble_eq_true rfl) hfr) (Nat.le_trans (Nat.le_of_ble_eq_true rfl) hlo) (Nat.le_of_ble_eq_true rfl) ?_
  refine v_if_ne (tgt := 15) dX6_image_6 (by decide) hF (fun hF => ?_) (fun hF => ?_)
  · refine v_iconst dX6_image_15 (v := 0) (by decide) ?_
    refine v_istore_n dX6_image_16 rfl (Nat.le_of_ble_eq_true rfl) (L' := [(2, .int (0 : Int32)), (0, .ref m0), (1, .int a1)]) rfl ?_
    refine v_sub [1, 2, 0] rfl (w_T_image_L17 hfr hlo ?_ N _ _ _ hF)
    intro v10 M11 hF
    refine v_aload_n dX6_image_48 rfl 0 rfl ?_
    refine t_geta 4 4 dX6_image_49 fl_X6_30 (Nat.le_of_ble_eq_true rfl) (fun _ _ => rfl) ?_
    refine v_iload_n dX6_image_52 rfl 1 rfl ?_
    refine v_iconst dX6_image_53 (v := 1) (by decide) ?_
    refine t_zast 4 dX6_image_54 rfl (Nat.le_of_ble_eq_true rfl) (by decide) hF (fun M12 hF => ?_)
    refine v_aload_n dX6_image_55 rfl 0 rfl ?_
    refine v_iconst dX6_image_56 (v := 0) (by decide) ?_
    obtain ⟨v14, M13, e_v14, hF⟩ := bd2_spec hF
    refine v_calV1 dX6_image_57 vl_X6_14 q1818 rc_ov (ct_T_good e_v14) rfl rfl (Nat.le_trans (Nat.le_of_ble_eq_true rfl) hfr) (Nat.le_trans (Nat.le_of_ble_eq_true rfl) hlo) (Nat.le_of_ble_eq_true rfl) ?_
    cases hF
    exact v_iret dX6_image_60 rfl rfl rfl rfl
  · refine v_aload_n dX6_image_9 rfl 0 rfl ?_
    refine v_iconst dX6_image_10 (v := -1) (by decide) ?_
    obtain ⟨v16, M15, e_v16, hF⟩ := bd2_spec hF
    refine v_calV1 dX6_image_11 vl_X6_106 q1814 rc_ov (ct_T_refuses e_v16) rfl rfl (Nat.le_trans (Nat.le_of_ble_eq_true rfl) hfr) (Nat.le_trans (Nat.le_of_ble_eq_true rfl) hlo) (Nat.le_of_ble_eq_true rfl) ?_
    cases hF
    exact v_iret dX6_image_14 rfl rfl rfl rfl
theorem ct_T_image {l : Launch} {G : GT} {m0 : Nat} {hb : Hp} {N : Nat} {r : (Int32 × TM)} {a1 : Int32} {M : TM} (hF : T_image N a1 M = some r) : Ct l G yX6_image (ws_ yX6_image cX6_image 3 (Option.some Jvm.ClassFile.FieldType.int)) 1 22 [.ref m0, .int a1] (ovT m0 M hb) (some (.int r.1)) (ovT m0 r.2 hb) :=
  ct_of (by decide) (Nat.le_of_ble_eq_true rfl) (w_T_image (Nat.le_refl _) (Nat.le_refl _) hF)
theorem pl_X6_11 : PL RX6 11 [6] 32 (.int) false := by
  intro ci h
  simp only [List.mem_cons, List.not_mem_nil, or_false] at h
  subst h; exact ⟨RX6, _, TX6, 56, tyX6, rfl, in_X6, by decide, Or.inl q1666, Or.inl rfl, tyX6_ok, rfl, by decide +kernel, rfl, fun z => by cases z⟩
def T_settled (a1 : Int32) (M : TM) : Option (Int32 × TM) :=
  (some (tsi M 32 (0 : Int32))).bind fun (M1 : TM) =>
  bd2 (T_good a1 M1) fun v3 M2 =>
  some (v3, M2)
theorem w_T_settled {l : Launch} {G : GT} {fr lo : Nat} {h0 : Hp} {m0 : Nat} {hb : Hp} {r : (Int32 × TM)} (hfr : 1 ≤ fr) (hlo : 21 ≤ lo) {a1 : Int32} {M : TM} (hF : T_settled a1 M = some r) : V l G cX6_settled RX6 "settled" 2 (Option.some Jvm.ClassFile.FieldType.int) fr lo h0 (ovT m0 r.2 hb) (QM G (some (.int r.1)) h0 (ovT m0 r.2 hb)) 0 [(0, .ref m0), (1, .int a1)] [] (ovT m0 M hb) := by
  unfold T_settled at hF
  refine v_aload_n dX6_settled_0 rfl 0 rfl ?_
  refine v_iconst dX6_settled_1 (v := 0) (by decide) ?_
  refine t_puti 32 dX6_settled_2 pl_X6_11 rfl ?_
  refine v_letM hF (fun M1 hF => ?_)
  refine v_aload_n dX6_settled_5 rfl 0 rfl ?_
  refine v_iload_n dX6_settled_6 rfl 1 rfl ?_
  obtain ⟨v3, M2, e_v3, hF⟩ := bd2_spec hF
  refine v_calV1 dX6_settled_7 vl_X6_14 q1818 rc_ov (ct_T_good e_v3) rfl rfl (Nat.le_trans (Nat.le_of_ble_eq_true rfl) hfr) (Nat.le_trans (Nat.le_of_ble_eq_true rfl) hlo) (Nat.le_of_ble_eq_true rfl) ?_
  cases hF
  exact v_iret dX6_settled_10 rfl rfl rfl rfl
theorem ct_T_settled {l : Launch} {G : GT} {m0 : Nat} {hb : Hp} {r : (Int32 × TM)} {a1 : Int32} {M : TM} (hF : T_settled a1 M = some r) : Ct l G yX6_settled (ws_ yX6_settled cX6_settled 2 (Option.some Jvm.ClassFile.FieldType.int)) 1 21 [.ref m0, .int a1] (ovT m0 M hb) (some (.int r.1)) (ovT m0 r.2 hb) :=
  ct_of (by decide) (Nat.le_of_ble_eq_true rfl) (w_T_settled (Nat.le_refl _) (Nat.le_refl _) hF)
theorem vl_X6_109 : ∀ ci ∈ [6], VL RX6 109 ci yX6_settled 1 := by
  intro ci h
  simp only [List.mem_cons, List.not_mem_nil, or_false] at h
  subst h; exact ⟨RX6, TX6, 56, rfl, q146, ⟨by decide, by decide⟩, by decide +kernel, q1825, Or.inl ⟨q1823, qs52⟩⟩
def T_back_L33 (N : Nat) (x33 : TM → Option (Int32 × TM)) : Nat → Int32 → Int32 → TM → Option (Int32 × TM)
  | 0, _, _, _ => none
  | n9 + 1, v3, v4, M5 =>
    if (5660 : Int32) ≤ v4 then
      x33 M5
    else
      (tra M5 3 11320 (((5660 : Int32) * v3) + v4)).bind fun v7 =>
      (twa M5 2 5660 v4 v7).bind fun M8 =>
      (T_back_L33 N x33 n9) v3 (v4 + (1 : Int32)) M8
theorem w_T_back_L33 {l : Launch} {G : GT} {fr lo : Nat} {h0 : Hp} {m0 : Nat} {hb : Hp} {N : Nat} {r : (Int32 × TM)} (hfr : 2 ≤ fr) (hlo : 42 ≤ lo) {x33 : TM → Option (Int32 × TM)} (hx33 : ∀ (M6 : TM), x33 M6 = some r → V l G cX6_back RX6 "back" 3 (Option.some Jvm.ClassFile.FieldType.int) fr lo h0 (ovT m0 r.2 hb) (QM G (some (.int r.1)) h0 (ovT m0 r.2 hb)) 64 [(0, .ref m0)] [] (ovT m0 M6 hb)) : ∀ (n : Nat) (v3 : Int32) (v4 : Int32) (M5 : TM), T_back_L33 N x33 n v3 v4 M5 = some r → V l G cX6_back RX6 "back" 3 (Option.some Jvm.ClassFile.FieldType.int) fr lo h0 (ovT m0 r.2 hb) (QM G (some (.int r.1)) h0 (ovT m0 r.2 hb)) 33 [(0, .ref m0), (1, .int v3), (2, .int v4)] [] (ovT m0 M5 hb) := by
  intro n
  induction n with
  | zero =>
    intro v3 v4 M5 hF
    cases (show (none : Option (Int32 × TM)) = some r from hF)
  | succ n hc33 =>
    intro v3 v4 M5 hF
    rw [T_back_L33] at hF
    refine v_iload_n dX6_back_33 rfl 2 rfl ?_
    refine v_sipush dX6_back_34 (v := 5660) (by decide) ?_
    refine v_icmp_ge (tgt := 64) dX6_back_37 (by decide) hF (fun hF => ?_) (fun hF => ?_)
    · exact v_sub [0] rfl (hx33 _ hF)
    · refine v_aload_n dX6_back_40 rfl 0 rfl ?_
      refine t_geta 2 2 dX6_back_41 fl_X6_24 (Nat.le_of_ble_eq_true rfl) (fun _ _ => rfl) ?_
      refine v_iload_n dX6_back_44 rfl 2 rfl ?_
      refine v_aload_n dX6_back_45 rfl 0 rfl ?_
      refine t_geta 3 3 dX6_back_46 fl_X6_27 (Nat.le_of_ble_eq_true rfl) (fun _ _ => rfl) ?_
      refine v_sipush dX6_back_49 (v := 5660) (by decide) ?_
      refine v_iload_n dX6_back_52 rfl 1 rfl ?_
      refine v_imul dX6_back_53 ?_
      refine v_iload_n dX6_back_54 rfl 2 rfl ?_
      refine v_iadd dX6_back_55 ?_
      refine t_iald 3 dX6_back_56 rfl (Nat.le_of_ble_eq_true rfl) (by decide) hF (fun v7 hF => ?_)
      refine t_iast 2 dX6_back_57 rfl (Nat.le_of_ble_eq_true rfl) (by decide) hF (fun M8 hF => ?_)
      refine v_iinc dX6_back_58 2 rfl (v := v4 + (1 : Int32)) (by rfl) (Nat.le_of_ble_eq_true rfl) (L' := [(2, .int (v4 + (1 : Int32))), (0, .ref m0), (1, .int v3)]) rfl ?_
      refine v_goto (tgt := 33) dX6_back_61 (by decide) ?_
      exact v_sub [1, 2, 0] rfl (hc33 _ _ _ hF)
def T_back (N : Nat) (a1 : Int32) (M : TM) : Option (Int32 × TM) :=
  (T_lies a1 (0 : Int32) (1 : Int32)).bind fun v1 =>
  if v1 = 0 then
    bd2 (T_refuses (-1 : Int32) M) fun v16 M15 =>
    some (v16, M15)
  else
    (tra M 4 2 a1).bind fun v2 =>
    if v2 = 0 then
      bd2 (T_refuses (-2 : Int32) M) fun v14 M13 =>
      some (v14, M13)
    else
      T_back_L33 N (fun M10 =>
        bd2 (T_settled (0 : Int32) M10) fun v12 M11 =>
        some (v12, M11)) N a1 (0 : Int32) M
theorem w_T_back {l : Launch} {G : GT} {fr lo : Nat} {h0 : Hp} {m0 : Nat} {hb : Hp} {N : Nat} {r : (Int32 × TM)} (hfr : 2 ≤ fr) (hlo : 42 ≤ lo) {a1 : Int32} {M : TM} (hF : T_back N a1 M = some r) : V l G cX6_back RX6 "back" 3 (Option.some Jvm.ClassFile.FieldType.int) fr lo h0 (ovT m0 r.2 hb) (QM G (some (.int r.1)) h0 (ovT m0 r.2 hb)) 0 [(0, .ref m0), (1, .int a1)] [] (ovT m0 M hb) := by
  unfold T_back at hF
  refine v_iload_n dX6_back_0 rfl 1 rfl ?_
  refine v_iconst dX6_back_1 (v := 0) (by decide) ?_
  refine v_iconst dX6_back_2 (v := 1) (by decide) ?_
  obtain ⟨v1, e_v1, hF⟩ := Option.bind_eq_some_iff.mp hF
  refine v_calS1 dX6_back_3 sl_X6_102 q1810 (ct_T_lies e_v1) rfl rfl (Nat.le_trans (Nat.le_of_ble_eq_true rfl) hfr) (Nat.le_trans (Nat.le_of_ble_eq_true rfl) hlo) (Nat.le_of_ble_eq_true rfl) ?_
  refine v_if_ne (tgt := 15) dX6_back_6 (by decide) hF (fun hF => ?_) (fun hF => ?_)
  · refine v_aload_n dX6_back_15 rfl 0 rfl ?_
    refine t_geta 4 4 dX6_back_16 fl_X6_30 (Nat.le_of_ble_eq_true rfl) (fun _ _ => rfl) ?_
    refine v_iload_n dX6_back_19 rfl 1 rfl ?_
    refine t_zald 4 dX6_back_20 rfl (Nat.le_of_ble_eq_true rfl) (by decide) hF (fun v2 hF => ?_)
    refine v_if_ne (tgt := 31) dX6_back_21 (by decide) hF (fun hF => ?_) (fun hF => ?_)
    · refine v_iconst dX6_back_31 (v := 0) (by decide) ?_
      refine v_istore_n dX6_back_32 rfl (Nat.le_of_ble_eq_true rfl) (L' := [(2, .int (0 : Int32)), (0, .ref m0), (1, .int a1)]) rfl ?_
      refine v_sub [1, 2, 0] rfl (w_T_back_L33 hfr hlo ?_ N _ _ _ hF)
      intro M10 hF
      refine v_aload_n dX6_back_64 rfl 0 rfl ?_
      refine v_iconst dX6_back_65 (v := 0) (by decide) ?_
      obtain ⟨v12, M11, e_v12, hF⟩ := bd2_spec hF
      refine v_calV1 dX6_back_66 vl_X6_109 q1826 rc_ov (ct_T_settled e_v12) rfl rfl (Nat.le_trans (Nat.le_of_ble_eq_true rfl) hfr) (Nat.le_trans (Nat.le_of_ble_eq_true rfl) hlo) (Nat.le_of_ble_eq_true rfl) ?_
      cases hF
      exact v_iret dX6_back_69 rfl rfl rfl rfl
    · refine v_aload_n dX6_back_24 rfl 0 rfl ?_
      refine v_bipush dX6_back_25 (v := -2) (by decide) ?_
      obtain ⟨v14, M13, e_v14, hF⟩ := bd2_spec hF
      refine v_calV1 dX6_back_27 vl_X6_106 q1814 rc_ov (ct_T_refuses e_v14) rfl rfl (Nat.le_trans (Nat.le_of_ble_eq_true rfl) hfr) (Nat.le_trans (Nat.le_of_ble_eq_true rfl) hlo) (Nat.le_of_ble_eq_true rfl) ?_
      cases hF
      exact v_iret dX6_back_30 rfl rfl rfl rfl
  · refine v_aload_n dX6_back_9 rfl 0 rfl ?_
    refine v_iconst dX6_back_10 (v := -1) (by decide) ?_
    obtain ⟨v16, M15, e_v16, hF⟩ := bd2_spec hF
    refine v_calV1 dX6_back_11 vl_X6_106 q1814 rc_ov (ct_T_refuses e_v16) rfl rfl (Nat.le_trans (Nat.le_of_ble_eq_true rfl) hfr) (Nat.le_trans (Nat.le_of_ble_eq_true rfl) hlo) (Nat.le_of_ble_eq_true rfl) ?_
    cases hF
    exact v_iret dX6_back_14 rfl rfl rfl rfl
theorem ct_T_back {l : Launch} {G : GT} {m0 : Nat} {hb : Hp} {N : Nat} {r : (Int32 × TM)} {a1 : Int32} {M : TM} (hF : T_back N a1 M = some r) : Ct l G yX6_back (ws_ yX6_back cX6_back 3 (Option.some Jvm.ClassFile.FieldType.int)) 2 42 [.ref m0, .int a1] (ovT m0 M hb) (some (.int r.1)) (ovT m0 r.2 hb) :=
  ct_of (by decide) (Nat.le_of_ble_eq_true rfl) (w_T_back (Nat.le_refl _) (Nat.le_refl _) hF)
def T_bookMany (M : TM) : Option Int32 :=
  (tra M 2 5660 (48 : Int32)).bind fun v1 =>
  some v1
theorem w_T_bookMany {l : Launch} {G : GT} {fr lo : Nat} {h0 : Hp} {m0 : Nat} {hb : Hp} {M : TM} {r : Int32} (hfr : 0 ≤ fr) (hlo : 0 ≤ lo)  (hF : T_bookMany M = some r) : V l G cX6_bookMany RX6 "bookMany" 1 (Option.some Jvm.ClassFile.FieldType.int) fr lo h0 (ovT m0 M hb) (QM G (some (.int r)) h0 (ovT m0 M hb)) 0 [(0, .ref m0)] [] (ovT m0 M hb) := by
  unfold T_bookMany at hF
  refine v_aload_n dX6_bookMany_0 rfl 0 rfl ?_
  refine t_geta 2 2 dX6_bookMany_1 fl_X6_24 (Nat.le_of_ble_eq_true rfl) (fun _ _ => rfl) ?_
  refine v_bipush dX6_bookMany_4 (v := 48) (by decide) ?_
  refine t_iald 2 dX6_bookMany_6 rfl (Nat.le_of_ble_eq_true rfl) (by decide) hF (fun v1 hF => ?_)
  cases hF
  exact v_iret dX6_bookMany_7 rfl rfl rfl rfl
theorem ct_T_bookMany {l : Launch} {G : GT} {m0 : Nat} {hb : Hp} {M : TM} {r : Int32}  (hF : T_bookMany M = some r) : Ct l G yX6_bookMany (ws_ yX6_bookMany cX6_bookMany 1 (Option.some Jvm.ClassFile.FieldType.int)) 0 0 [.ref m0] (ovT m0 M hb) (some (.int r)) (ovT m0 M hb) :=
  ct_of (by decide) (Nat.le_of_ble_eq_true rfl) (w_T_bookMany (Nat.le_refl _) (Nat.le_refl _) hF)
theorem vl_X6_112 : ∀ ci ∈ [6], VL RX6 112 ci yX6_bookMany 0 := by
  intro ci h
  simp only [List.mem_cons, List.not_mem_nil, or_false] at h
  subst h; exact ⟨RX6, TX6, 56, rfl, q146, ⟨by decide, by decide⟩, by decide +kernel, q1836, Or.inl ⟨q1834, qs53⟩⟩
def T_adds (a1 : Int32) (a2 : Int32) (a3 : Int32) (M : TM) : Option TM :=
  (T_bookMany M).bind fun v1 =>
  (twa M 2 5660 ((6 : Int32) + v1) a1).bind fun M2 =>
  (twa M2 2 5660 ((14 : Int32) + v1) a2).bind fun M3 =>
  (twa M3 2 5660 ((22 : Int32) + v1) a3).bind fun M4 =>
  (tra M4 2 5660 (0 : Int32)).bind fun v5 =>
  (twa M4 2 5660 (0 : Int32) (v5 &&& (((1 : Int32) <<< (v1 &&& 31)) ^^^ (-1 : Int32)))).bind fun M6 =>
  (tra M6 2 5660 (48 : Int32)).bind fun v7 =>
  (twa M6 2 5660 (48 : Int32) (v7 + (1 : Int32))).bind fun M8 =>
  some M8
theorem w_T_adds {l : Launch} {G : GT} {fr lo : Nat} {h0 : Hp} {m0 : Nat} {hb : Hp} {r : TM} (hfr : 1 ≤ fr) (hlo : 20 ≤ lo) {a1 : Int32} {a2 : Int32} {a3 : Int32} {M : TM} (hF : T_adds a1 a2 a3 M = some r) : V l G cX6_adds RX6 "adds" 5 (Option.none : Option Jvm.ClassFile.FieldType) fr lo h0 (ovT m0 r hb) (QM G none h0 (ovT m0 r hb)) 0 [(0, .ref m0), (1, .int a1), (2, .int a2), (3, .int a3)] [] (ovT m0 M hb) := by
  unfold T_adds at hF
  refine v_aload_n dX6_adds_0 rfl 0 rfl ?_
  obtain ⟨v1, e_v1, hF⟩ := Option.bind_eq_some_iff.mp hF
  refine v_calV1 dX6_adds_1 vl_X6_112 q1837 rc_ov (ct_T_bookMany e_v1) rfl rfl (Nat.le_trans (Nat.le_of_ble_eq_true rfl) hfr) (Nat.le_trans (Nat.le_of_ble_eq_true rfl) hlo) (Nat.le_of_ble_eq_true rfl) ?_
  refine v_istore dX6_adds_4 (Nat.le_of_ble_eq_true rfl) (L' := [(4, .int v1), (0, .ref m0), (1, .int a1), (2, .int a2), (3, .int a3)]) rfl ?_
  refine v_aload_n dX6_adds_6 rfl 1 rfl ?_
  refine t_geta 2 2 dX6_adds_7 fl_X6_24 (Nat.le_of_ble_eq_true rfl) (fun _ _ => rfl) ?_
  refine v_bipush dX6_adds_10 (v := 6) (by decide) ?_
  refine v_iload dX6_adds_12 0 rfl ?_
  refine v_iadd dX6_adds_14 ?_
  refine v_iload_n dX6_adds_15 rfl 2 rfl ?_
  refine t_iast 2 dX6_adds_16 rfl (Nat.le_of_ble_eq_true rfl) (by decide) hF (fun M2 hF => ?_)
  refine v_aload_n dX6_adds_17 rfl 1 rfl ?_
  refine t_geta 2 2 dX6_adds_18 fl_X6_24 (Nat.le_of_ble_eq_true rfl) (fun _ _ => rfl) ?_
  refine v_bipush dX6_adds_21 (v := 14) (by decide) ?_
  refine v_iload dX6_adds_23 0 rfl ?_
  refine v_iadd dX6_adds_25 ?_
  refine v_iload_n dX6_adds_26 rfl 3 rfl ?_
  refine t_iast 2 dX6_adds_27 rfl (Nat.le_of_ble_eq_true rfl) (by decide) hF (fun M3 hF => ?_)
  refine v_aload_n dX6_adds_28 rfl 1 rfl ?_
  refine t_geta 2 2 dX6_adds_29 fl_X6_24 (Nat.le_of_ble_eq_true rfl) (fun _ _ => rfl) ?_
  refine v_bipush dX6_adds_32 (v := 22) (by decide) ?_
  refine v_iload dX6_adds_34 0 rfl ?_
  refine v_iadd dX6_adds_36 ?_
  refine v_iload_n dX6_adds_37 rfl 4 rfl ?_
  refine t_iast 2 dX6_adds_38 rfl (Nat.le_of_ble_eq_true rfl) (by decide) hF (fun M4 hF => ?_)
  refine v_aload_n dX6_adds_39 rfl 1 rfl ?_
  refine t_geta 2 2 dX6_adds_40 fl_X6_24 (Nat.le_of_ble_eq_true rfl) (fun _ _ => rfl) ?_
  refine v_iconst dX6_adds_43 (v := 0) (by decide) ?_
  refine v_dup2 dX6_adds_44 rfl rfl ?_
  refine t_iald 2 dX6_adds_45 rfl (Nat.le_of_ble_eq_true rfl) (by decide) hF (fun v5 hF => ?_)
  refine v_iconst dX6_adds_46 (v := 1) (by decide) ?_
  refine v_iload dX6_adds_47 0 rfl ?_
  refine v_ishl dX6_adds_49 ?_
  refine v_iconst dX6_adds_50 (v := -1) (by decide) ?_
  refine v_ixor dX6_adds_51 ?_
  refine v_iand dX6_adds_52 ?_
  refine t_iast 2 dX6_adds_53 rfl (Nat.le_of_ble_eq_true rfl) (by decide) hF (fun M6 hF => ?_)
  refine v_aload_n dX6_adds_54 rfl 1 rfl ?_
  refine t_geta 2 2 dX6_adds_55 fl_X6_24 (Nat.le_of_ble_eq_true rfl) (fun _ _ => rfl) ?_
  refine v_bipush dX6_adds_58 (v := 48) (by decide) ?_
  refine v_dup2 dX6_adds_60 rfl rfl ?_
  refine t_iald 2 dX6_adds_61 rfl (Nat.le_of_ble_eq_true rfl) (by decide) hF (fun v7 hF => ?_)
  refine v_iconst dX6_adds_62 (v := 1) (by decide) ?_
  refine v_iadd dX6_adds_63 ?_
  refine t_iast 2 dX6_adds_64 rfl (Nat.le_of_ble_eq_true rfl) (by decide) hF (fun M8 hF => ?_)
  cases hF
  exact v_vret dX6_adds_65 rfl rfl rfl
theorem ct_T_adds {l : Launch} {G : GT} {m0 : Nat} {hb : Hp} {r : TM} {a1 : Int32} {a2 : Int32} {a3 : Int32} {M : TM} (hF : T_adds a1 a2 a3 M = some r) : Ct l G yX6_adds (ws_ yX6_adds cX6_adds 5 (Option.none : Option Jvm.ClassFile.FieldType)) 1 20 [.ref m0, .int a1, .int a2, .int a3] (ovT m0 M hb) none (ovT m0 r hb) :=
  ct_of (by decide) (Nat.le_of_ble_eq_true rfl) (w_T_adds (Nat.le_refl _) (Nat.le_refl _) hF)
def T_canBook (a1 : Int32) (a2 : Int32) : Option Int32 :=
  (T_lies a1 (1 : Int32) (9 : Int32)).bind fun v1 =>
  if v1 = 0 then
    some (0 : Int32)
  else
    (T_lies a2 (0 : Int32) (3 : Int32)).bind fun v2 =>
    if v2 = 0 then
      some (0 : Int32)
    else
      some (1 : Int32)
theorem w_T_canBook {l : Launch} {G : GT} {fr lo : Nat} {h0 : Hp} {h : Hp} {r : Int32} (hfr : 1 ≤ fr) (hlo : 22 ≤ lo) {a1 : Int32} {a2 : Int32} (hF : T_canBook a1 a2 = some r) : V l G cX6_canBook RX6 "canBook" 2 (Option.some Jvm.ClassFile.FieldType.boolean) fr lo h0 h (QM G (some (.int r)) h0 h) 0 [(0, .int a1), (1, .int a2)] [] h := by
  unfold T_canBook at hF
  refine v_iload_n dX6_canBook_0 rfl 0 rfl ?_
  refine v_iconst dX6_canBook_1 (v := 1) (by decide) ?_
  refine v_bipush dX6_canBook_2 (v := 9) (by decide) ?_
  obtain ⟨v1, e_v1, hF⟩ := Option.bind_eq_some_iff.mp hF
  refine v_calS1 dX6_canBook_4 sl_X6_102 q1810 (ct_T_lies e_v1) rfl rfl (Nat.le_trans (Nat.le_of_ble_eq_true rfl) hfr) (Nat.le_trans (Nat.le_of_ble_eq_true rfl) hlo) (Nat.le_of_ble_eq_true rfl) ?_
  refine v_if_eq (tgt := 23) dX6_canBook_7 (by decide) hF (fun hF => ?_) (fun hF => ?_)
  · refine v_iconst dX6_canBook_23 (v := 0) (by decide) ?_
    cases hF
    exact v_iret dX6_canBook_24 rfl (by decide) rfl rfl
  · refine v_iload_n dX6_canBook_10 rfl 1 rfl ?_
    refine v_iconst dX6_canBook_11 (v := 0) (by decide) ?_
    refine v_iconst dX6_canBook_12 (v := 3) (by decide) ?_
    obtain ⟨v2, e_v2, hF⟩ := Option.bind_eq_some_iff.mp hF
    refine v_calS1 dX6_canBook_13 sl_X6_102 q1810 (ct_T_lies e_v2) rfl rfl (Nat.le_trans (Nat.le_of_ble_eq_true rfl) hfr) (Nat.le_trans (Nat.le_of_ble_eq_true rfl) hlo) (Nat.le_of_ble_eq_true rfl) ?_
    refine v_if_eq (tgt := 23) dX6_canBook_16 (by decide) hF (fun hF => ?_) (fun hF => ?_)
    · refine v_iconst dX6_canBook_23 (v := 0) (by decide) ?_
      cases hF
      exact v_iret dX6_canBook_24 rfl (by decide) rfl rfl
    · refine v_iconst dX6_canBook_19 (v := 1) (by decide) ?_
      refine v_goto (tgt := 24) dX6_canBook_20 (by decide) ?_
      cases hF
      exact v_iret dX6_canBook_24 rfl (by decide) rfl rfl
theorem ct_T_canBook {l : Launch} {G : GT} {h : Hp} {r : Int32} {a1 : Int32} {a2 : Int32} (hF : T_canBook a1 a2 = some r) : Ct l G yX6_canBook (ws_ yX6_canBook cX6_canBook 2 (Option.some Jvm.ClassFile.FieldType.boolean)) 1 22 [.int a1, .int a2] h (some (.int r)) h :=
  ct_of (by decide) (Nat.le_of_ble_eq_true rfl) (w_T_canBook (Nat.le_refl _) (Nat.le_refl _) hF)
theorem sl_X6_123 : SL RX6 123 yX6_canBook 2 := ⟨q146, ⟨by decide, by decide⟩, by decide +kernel, q1832, Or.inl q1831⟩
theorem vl_X6_126 : ∀ ci ∈ [6], VL RX6 126 ci yX6_adds 3 := by
  intro ci h
  simp only [List.mem_cons, List.not_mem_nil, or_false] at h
  subst h; exact ⟨RX6, TX6, 56, rfl, q146, ⟨by decide, by decide⟩, by decide +kernel, q1840, Or.inl ⟨q1838, qs54⟩⟩
def T_book (a1 : Int32) (a2 : Int32) (M : TM) : Option (Int32 × TM) :=
  (T_canBook a1 a2).bind fun v1 =>
  if v1 = 0 then
    bd2 (T_refuses (-1 : Int32) M) fun v10 M9 =>
    some (v10, M9)
  else
    (T_bookMany M).bind fun v2 =>
    if v2 = (8 : Int32) then
      bd2 (T_refuses (-5 : Int32) M) fun v8 M7 =>
      some (v8, M7)
    else
      (T_adds a1 a2 (0 : Int32) M).bind fun M3 =>
      (T_bookMany M3).bind fun v4 =>
      bd2 (T_settled (v4 - (1 : Int32)) M3) fun v6 M5 =>
      some (v6, M5)
theorem w_T_book {l : Launch} {G : GT} {fr lo : Nat} {h0 : Hp} {m0 : Nat} {hb : Hp} {r : (Int32 × TM)} (hfr : 2 ≤ fr) (hlo : 44 ≤ lo) {a1 : Int32} {a2 : Int32} {M : TM} (hF : T_book a1 a2 M = some r) : V l G cX6_book RX6 "book" 3 (Option.some Jvm.ClassFile.FieldType.int) fr lo h0 (ovT m0 r.2 hb) (QM G (some (.int r.1)) h0 (ovT m0 r.2 hb)) 0 [(0, .ref m0), (1, .int a1), (2, .int a2)] [] (ovT m0 M hb) := by
  unfold T_book at hF
  refine v_iload_n dX6_book_0 rfl 1 rfl ?_
  refine v_iload_n dX6_book_1 rfl 2 rfl ?_
  obtain ⟨v1, e_v1, hF⟩ := Option.bind_eq_some_iff.mp hF
  refine v_calS1 dX6_book_2 sl_X6_123 q1833 (ct_T_canBook e_v1) rfl rfl (Nat.le_trans (Nat.le_of_ble_eq_true rfl) hfr) (Nat.le_trans (Nat.le_of_ble_eq_true rfl) hlo) (Nat.le_of_ble_eq_true rfl) ?_
  refine v_if_ne (tgt := 14) dX6_book_5 (by decide) hF (fun hF => ?_) (fun hF => ?_)
  · refine v_aload_n dX6_book_14 rfl 0 rfl ?_
    obtain ⟨v2, e_v2, hF⟩ := Option.bind_eq_some_iff.mp hF
    refine v_calV1 dX6_book_15 vl_X6_112 q1837 rc_ov (ct_T_bookMany e_v2) rfl rfl (Nat.le_trans (Nat.le_of_ble_eq_true rfl) hfr) (Nat.le_trans (Nat.le_of_ble_eq_true rfl) hlo) (Nat.le_of_ble_eq_true rfl) ?_
    refine v_bipush dX6_book_18 (v := 8) (by decide) ?_
    refine v_icmp_ne (tgt := 30) dX6_book_20 (by decide) hF (fun hF => ?_) (fun hF => ?_)
    · refine v_aload_n dX6_book_30 rfl 0 rfl ?_
      refine v_iload_n dX6_book_31 rfl 1 rfl ?_
      refine v_iload_n dX6_book_32 rfl 2 rfl ?_
      refine v_iconst dX6_book_33 (v := 0) (by decide) ?_
      obtain ⟨M3, e_M3, hF⟩ := Option.bind_eq_some_iff.mp hF
      refine v_calV0 dX6_book_34 vl_X6_126 q1841 rc_ov (ct_T_adds e_M3) rfl rfl (Nat.le_trans (Nat.le_of_ble_eq_true rfl) hfr) (Nat.le_trans (Nat.le_of_ble_eq_true rfl) hlo) (Nat.le_of_ble_eq_true rfl) ?_
      refine v_aload_n dX6_book_37 rfl 0 rfl ?_
      refine v_aload_n dX6_book_38 rfl 0 rfl ?_
      obtain ⟨v4, e_v4, hF⟩ := Option.bind_eq_some_iff.mp hF
      refine v_calV1 dX6_book_39 vl_X6_112 q1837 rc_ov (ct_T_bookMany e_v4) rfl rfl (Nat.le_trans (Nat.le_of_ble_eq_true rfl) hfr) (Nat.le_trans (Nat.le_of_ble_eq_true rfl) hlo) (Nat.le_of_ble_eq_true rfl) ?_
      refine v_iconst dX6_book_42 (v := 1) (by decide) ?_
      refine v_isub dX6_book_43 ?_
      obtain ⟨v6, M5, e_v6, hF⟩ := bd2_spec hF
      refine v_calV1 dX6_book_44 vl_X6_109 q1826 rc_ov (ct_T_settled e_v6) rfl rfl (Nat.le_trans (Nat.le_of_ble_eq_true rfl) hfr) (Nat.le_trans (Nat.le_of_ble_eq_true rfl) hlo) (Nat.le_of_ble_eq_true rfl) ?_
      cases hF
      exact v_iret dX6_book_47 rfl rfl rfl rfl
    · refine v_aload_n dX6_book_23 rfl 0 rfl ?_
      refine v_bipush dX6_book_24 (v := -5) (by decide) ?_
      obtain ⟨v8, M7, e_v8, hF⟩ := bd2_spec hF
      refine v_calV1 dX6_book_26 vl_X6_106 q1814 rc_ov (ct_T_refuses e_v8) rfl rfl (Nat.le_trans (Nat.le_of_ble_eq_true rfl) hfr) (Nat.le_trans (Nat.le_of_ble_eq_true rfl) hlo) (Nat.le_of_ble_eq_true rfl) ?_
      cases hF
      exact v_iret dX6_book_29 rfl rfl rfl rfl
  · refine v_aload_n dX6_book_8 rfl 0 rfl ?_
    refine v_iconst dX6_book_9 (v := -1) (by decide) ?_
    obtain ⟨v10, M9, e_v10, hF⟩ := bd2_spec hF
    refine v_calV1 dX6_book_10 vl_X6_106 q1814 rc_ov (ct_T_refuses e_v10) rfl rfl (Nat.le_trans (Nat.le_of_ble_eq_true rfl) hfr) (Nat.le_trans (Nat.le_of_ble_eq_true rfl) hlo) (Nat.le_of_ble_eq_true rfl) ?_
    cases hF
    exact v_iret dX6_book_13 rfl rfl rfl rfl
theorem ct_T_book {l : Launch} {G : GT} {m0 : Nat} {hb : Hp} {r : (Int32 × TM)} {a1 : Int32} {a2 : Int32} {M : TM} (hF : T_book a1 a2 M = some r) : Ct l G yX6_book (ws_ yX6_book cX6_book 3 (Option.some Jvm.ClassFile.FieldType.int)) 2 44 [.ref m0, .int a1, .int a2] (ovT m0 M hb) (some (.int r.1)) (ovT m0 r.2 hb) :=
  ct_of (by decide) (Nat.le_of_ble_eq_true rfl) (w_T_book (Nat.le_refl _) (Nat.le_refl _) hF)
def T_isBook (M : TM) (a1 : Int32) : Option Int32 :=
  (T_bookMany M).bind fun v1 =>
  (T_lies a1 (0 : Int32) (v1 - (1 : Int32))).bind fun v2 =>
  (rz v2).bind fun v3 => some v3
theorem w_T_isBook {l : Launch} {G : GT} {fr lo : Nat} {h0 : Hp} {m0 : Nat} {hb : Hp} {M : TM} {r : Int32} (hfr : 1 ≤ fr) (hlo : 22 ≤ lo) {a1 : Int32} (hF : T_isBook M a1 = some r) : V l G cX6_isBook RX6 "isBook" 2 (Option.some Jvm.ClassFile.FieldType.boolean) fr lo h0 (ovT m0 M hb) (QM G (some (.int r)) h0 (ovT m0 M hb)) 0 [(0, .ref m0), (1, .int a1)] [] (ovT m0 M hb) := by
  unfold T_isBook at hF
  refine v_iload_n dX6_isBook_0 rfl 1 rfl ?_
  refine v_iconst dX6_isBook_1 (v := 0) (by decide) ?_
  refine v_aload_n dX6_isBook_2 rfl 0 rfl ?_
  obtain ⟨v1, e_v1, hF⟩ := Option.bind_eq_some_iff.mp hF
  refine v_calV1 dX6_isBook_3 vl_X6_112 q1837 rc_ov (ct_T_bookMany e_v1) rfl rfl (Nat.le_trans (Nat.le_of_ble_eq_true rfl) hfr) (Nat.le_trans (Nat.le_of_ble_eq_true rfl) hlo) (Nat.le_of_ble_eq_true rfl) ?_
  refine v_iconst dX6_isBook_6 (v := 1) (by decide) ?_
  refine v_isub dX6_isBook_7 ?_
  obtain ⟨v2, e_v2, hF⟩ := Option.bind_eq_some_iff.mp hF
  refine v_calS1 dX6_isBook_8 sl_X6_102 q1810 (ct_T_lies e_v2) rfl rfl (Nat.le_trans (Nat.le_of_ble_eq_true rfl) hfr) (Nat.le_trans (Nat.le_of_ble_eq_true rfl) hlo) (Nat.le_of_ble_eq_true rfl) ?_
  refine v_zchk hF (fun v3 hz hF => ?_)
  cases hF
  exact v_iret dX6_isBook_11 rfl (nar_z hz) rfl rfl
theorem ct_T_isBook {l : Launch} {G : GT} {m0 : Nat} {hb : Hp} {M : TM} {r : Int32} {a1 : Int32} (hF : T_isBook M a1 = some r) : Ct l G yX6_isBook (ws_ yX6_isBook cX6_isBook 2 (Option.some Jvm.ClassFile.FieldType.boolean)) 1 22 [.ref m0, .int a1] (ovT m0 M hb) (some (.int r)) (ovT m0 M hb) :=
  ct_of (by decide) (Nat.le_of_ble_eq_true rfl) (w_T_isBook (Nat.le_refl _) (Nat.le_refl _) hF)
theorem vl_X6_130 : ∀ ci ∈ [6], VL RX6 130 ci yX6_isBook 1 := by
  intro ci h
  simp only [List.mem_cons, List.not_mem_nil, or_false] at h
  subst h; exact ⟨RX6, TX6, 56, rfl, q146, ⟨by decide, by decide⟩, by decide +kernel, q1848, Or.inl ⟨q1846, qs55⟩⟩
def T_need_J14 (M1 : TM) : Option (Int32 × TM) :=
  bd2 (T_refuses (-1 : Int32) M1) fun v3 M2 =>
  some (v3, M2)
theorem w_T_need_J14 {l : Launch} {G : GT} {fr lo : Nat} {h0 : Hp} {m0 : Nat} {hb : Hp} {r : (Int32 × TM)} (hfr : 2 ≤ fr) (hlo : 43 ≤ lo)   {M1 : TM} (hF : T_need_J14 M1 = some r) : V l G cX6_need RX6 "need" 5 (Option.some Jvm.ClassFile.FieldType.int) fr lo h0 (ovT m0 r.2 hb) (QM G (some (.int r.1)) h0 (ovT m0 r.2 hb)) 14 [(0, .ref m0)] [] (ovT m0 M1 hb) := by
  unfold T_need_J14 at hF
  refine v_aload_n dX6_need_14 rfl 0 rfl ?_
  refine v_iconst dX6_need_15 (v := -1) (by decide) ?_
  obtain ⟨v3, M2, e_v3, hF⟩ := bd2_spec hF
  refine v_calV1 dX6_need_16 vl_X6_106 q1814 rc_ov (ct_T_refuses e_v3) rfl rfl (Nat.le_trans (Nat.le_of_ble_eq_true rfl) hfr) (Nat.le_trans (Nat.le_of_ble_eq_true rfl) hlo) (Nat.le_of_ble_eq_true rfl) ?_
  cases hF
  exact v_iret dX6_need_19 rfl rfl rfl rfl
def T_need_J36 (M6 : TM) : Option (Int32 × TM) :=
  bd2 (T_refuses (-2 : Int32) M6) fun v8 M7 =>
  some (v8, M7)
theorem w_T_need_J36 {l : Launch} {G : GT} {fr lo : Nat} {h0 : Hp} {m0 : Nat} {hb : Hp} {r : (Int32 × TM)} (hfr : 2 ≤ fr) (hlo : 43 ≤ lo)   {M6 : TM} (hF : T_need_J36 M6 = some r) : V l G cX6_need RX6 "need" 5 (Option.some Jvm.ClassFile.FieldType.int) fr lo h0 (ovT m0 r.2 hb) (QM G (some (.int r.1)) h0 (ovT m0 r.2 hb)) 36 [(0, .ref m0)] [] (ovT m0 M6 hb) := by
  unfold T_need_J36 at hF
  refine v_aload_n dX6_need_36 rfl 0 rfl ?_
  refine v_bipush dX6_need_37 (v := -2) (by decide) ?_
  obtain ⟨v8, M7, e_v8, hF⟩ := bd2_spec hF
  refine v_calV1 dX6_need_39 vl_X6_106 q1814 rc_ov (ct_T_refuses e_v8) rfl rfl (Nat.le_trans (Nat.le_of_ble_eq_true rfl) hfr) (Nat.le_trans (Nat.le_of_ble_eq_true rfl) hlo) (Nat.le_of_ble_eq_true rfl) ?_
  cases hF
  exact v_iret dX6_need_42 rfl rfl rfl rfl
def T_need (a1 : Int32) (a2 : Int32) (a3 : Int32) (M : TM) : Option (Int32 × TM) :=
  if a1 = a2 then
    T_need_J14 M
  else
    (T_lies a3 (0 : Int32) (1 : Int32)).bind fun v4 =>
    if v4 = 0 then
      T_need_J14 M
    else
      (T_isBook M a1).bind fun v5 =>
      if v5 = 0 then
        T_need_J36 M
      else
        (T_isBook M a2).bind fun v9 =>
        if v9 = 0 then
          T_need_J36 M
        else
          (tra M 2 5660 ((22 : Int32) + a1)).bind fun v10 =>
          (some ((v10 >>> (a2 &&& 31)) &&& (1 : Int32))).bind fun (v11 : Int32) =>
          (tra M 2 5660 ((22 : Int32) + a1)).bind fun v12 =>
          (twa M 2 5660 ((22 : Int32) + a1) ((v12 &&& (((1 : Int32) <<< (a2 &&& 31)) ^^^ (-1 : Int32))) ||| (a3 <<< (a2 &&& 31)))).bind fun M13 =>
          bd2 (T_good v11 M13) fun v15 M14 =>
          some (v15, M14)
theorem w_T_need {l : Launch} {G : GT} {fr lo : Nat} {h0 : Hp} {m0 : Nat} {hb : Hp} {r : (Int32 × TM)} (hfr : 2 ≤ fr) (hlo : 43 ≤ lo) {a1 : Int32} {a2 : Int32} {a3 : Int32} {M : TM} (hF : T_need a1 a2 a3 M = some r) : V l G cX6_need RX6 "need" 5 (Option.some Jvm.ClassFile.FieldType.int) fr lo h0 (ovT m0 r.2 hb) (QM G (some (.int r.1)) h0 (ovT m0 r.2 hb)) 0 [(0, .ref m0), (1, .int a1), (2, .int a2), (3, .int a3)] [] (ovT m0 M hb) := by
  unfold T_need at hF
  refine v_iload_n dX6_need_0 rfl 1 rfl ?_
  refine v_iload_n dX6_need_1 rfl 2 rfl ?_
  refine v_icmp_eq (tgt := 14) dX6_need_2 (by decide) hF (fun hF => ?_) (fun hF => ?_)
  · exact v_sub [0] rfl (w_T_need_J14 hfr hlo hF)
  · refine v_iload_n dX6_need_5 rfl 3 rfl ?_
    refine v_iconst dX6_need_6 (v := 0) (by decide) ?_
    refine v_iconst dX6_need_7 (v := 1) (by decide) ?_
    obtain ⟨v4, e_v4, hF⟩ := Option.bind_eq_some_iff.mp hF
    refine v_calS1 dX6_need_8 sl_X6_102 q1810 (ct_T_lies e_v4) rfl rfl (Nat.le_trans (Nat.le_of_ble_eq_true rfl) hfr) (Nat.le_trans (Nat.le_of_ble_eq_true rfl) hlo) (Nat.le_of_ble_eq_true rfl) ?_
    refine v_if_ne (tgt := 20) dX6_need_11 (by decide) hF (fun hF => ?_) (fun hF => ?_)
    · refine v_aload_n dX6_need_20 rfl 0 rfl ?_
      refine v_iload_n dX6_need_21 rfl 1 rfl ?_
      obtain ⟨v5, e_v5, hF⟩ := Option.bind_eq_some_iff.mp hF
      refine v_calV1 dX6_need_22 vl_X6_130 q1849 rc_ov (ct_T_isBook e_v5) rfl rfl (Nat.le_trans (Nat.le_of_ble_eq_true rfl) hfr) (Nat.le_trans (Nat.le_of_ble_eq_true rfl) hlo) (Nat.le_of_ble_eq_true rfl) ?_
      refine v_if_eq (tgt := 36) dX6_need_25 (by decide) hF (fun hF => ?_) (fun hF => ?_)
      · exact v_sub [0] rfl (w_T_need_J36 hfr hlo hF)
      · refine v_aload_n dX6_need_28 rfl 0 rfl ?_
        refine v_iload_n dX6_need_29 rfl 2 rfl ?_
        obtain ⟨v9, e_v9, hF⟩ := Option.bind_eq_some_iff.mp hF
        refine v_calV1 dX6_need_30 vl_X6_130 q1849 rc_ov (ct_T_isBook e_v9) rfl rfl (Nat.le_trans (Nat.le_of_ble_eq_true rfl) hfr) (Nat.le_trans (Nat.le_of_ble_eq_true rfl) hlo) (Nat.le_of_ble_eq_true rfl) ?_
        refine v_if_ne (tgt := 43) dX6_need_33 (by decide) hF (fun hF => ?_) (fun hF => ?_)
        · refine v_aload_n dX6_need_43 rfl 0 rfl ?_
          refine t_geta 2 2 dX6_need_44 fl_X6_24 (Nat.le_of_ble_eq_true rfl) (fun _ _ => rfl) ?_
          refine v_bipush dX6_need_47 (v := 22) (by decide) ?_
          refine v_iload_n dX6_need_49 rfl 1 rfl ?_
          refine v_iadd dX6_need_50 ?_
          refine t_iald 2 dX6_need_51 rfl (Nat.le_of_ble_eq_true rfl) (by decide) hF (fun v10 hF => ?_)
          refine v_iload_n dX6_need_52 rfl 2 rfl ?_
          refine v_ishr dX6_need_53 ?_
          refine v_iconst dX6_need_54 (v := 1) (by decide) ?_
          refine v_iand dX6_need_55 ?_
          refine v_leti hF (fun v11 hF => ?_)
          refine v_istore dX6_need_56 (Nat.le_of_ble_eq_true rfl) (L' := [(4, .int v11), (0, .ref m0), (1, .int a1), (2, .int a2), (3, .int a3)]) rfl ?_
          refine v_aload_n dX6_need_58 rfl 1 rfl ?_
          refine t_geta 2 2 dX6_need_59 fl_X6_24 (Nat.le_of_ble_eq_true rfl) (fun _ _ => rfl) ?_
          refine v_bipush dX6_need_62 (v := 22) (by decide) ?_
          refine v_iload_n dX6_need_64 rfl 2 rfl ?_
          refine v_iadd dX6_need_65 ?_
          refine v_aload_n dX6_need_66 rfl 1 rfl ?_
          refine t_geta 2 2 dX6_need_67 fl_X6_24 (Nat.le_of_ble_eq_true rfl) (fun _ _ => rfl) ?_
          refine v_bipush dX6_need_70 (v := 22) (by decide) ?_
          refine v_iload_n dX6_need_72 rfl 2 rfl ?_
          refine v_iadd dX6_need_73 ?_
          refine t_iald 2 dX6_need_74 rfl (Nat.le_of_ble_eq_true rfl) (by decide) hF (fun v12 hF => ?_)
          refine v_iconst dX6_need_75 (v := 1) (by decide) ?_
          refine v_iload_n dX6_need_76 rfl 3 rfl ?_
          refine v_ishl dX6_need_77 ?_
          refine v_iconst dX6_need_78 (v := -1) (by decide) ?_
          refine v_ixor dX6_need_79 ?_
          refine v_iand dX6_need_80 ?_
          refine v_iload_n dX6_need_81 rfl 4 rfl ?_
          refine v_iload_n dX6_need_82 rfl 3 rfl ?_
          refine v_ishl dX6_need_83 ?_
          refine v_ior dX6_need_84 ?_
          refine t_iast 2 dX6_need_85 rfl (Nat.le_of_ble_eq_true rfl) (by decide) hF (fun M13 hF => ?_)
          refine v_aload_n dX6_need_86 rfl 1 rfl ?_
          refine v_iload dX6_need_87 0 rfl ?_
          obtain ⟨v15, M14, e_v15, hF⟩ := bd2_spec hF
          refine v_calV1 dX6_need_89 vl_X6_14 q1818 rc_ov (ct_T_good e_v15) rfl rfl (Nat.le_trans (Nat.le_of_ble_eq_true rfl) hfr) (Nat.le_trans (Nat.le_of_ble_eq_true rfl) hlo) (Nat.le_of_ble_eq_true rfl) ?_
          cases hF
          exact v_iret dX6_need_92 rfl rfl rfl rfl
        · exact v_sub [0] rfl (w_T_need_J36 hfr hlo hF)
    · exact v_sub [0] rfl (w_T_need_J14 hfr hlo hF)
theorem ct_T_need {l : Launch} {G : GT} {m0 : Nat} {hb : Hp} {r : (Int32 × TM)} {a1 : Int32} {a2 : Int32} {a3 : Int32} {M : TM} (hF : T_need a1 a2 a3 M = some r) : Ct l G yX6_need (ws_ yX6_need cX6_need 5 (Option.some Jvm.ClassFile.FieldType.int)) 2 43 [.ref m0, .int a1, .int a2, .int a3] (ovT m0 M hb) (some (.int r.1)) (ovT m0 r.2 hb) :=
  ct_of (by decide) (Nat.le_of_ble_eq_true rfl) (w_T_need (Nat.le_refl _) (Nat.le_refl _) hF)
theorem fl_X6_59 : FL RX6 59 [6] 26 := by
  intro ci h
  simp only [List.mem_cons, List.not_mem_nil, or_false] at h
  subst h; exact ⟨RX6, _, TX6, 56, rfl, in_X6, by decide, Or.inl q1660, Or.inl rfl⟩
def T_setsAsked_J85 (v22 : Int32) (v23 : Int32) (v24 : Int32) (v25 : Int32) (v26 : Int32) (M27 : TM) : Option TM :=
  (twa M27 26 9 v26 v25).bind fun M28 =>
  (tra M28 2 5660 (47 : Int32)).bind fun v29 =>
  (twa M28 26 9 (5 : Int32) v29).bind fun M30 =>
  (twa M30 26 9 (6 : Int32) v22).bind fun M31 =>
  (twa M31 26 9 (7 : Int32) v23).bind fun M32 =>
  (twa M32 26 9 (8 : Int32) v24).bind fun M33 =>
  some M33
theorem w_T_setsAsked_J85 {l : Launch} {G : GT} {fr lo : Nat} {h0 : Hp} {m0 : Nat} {hb : Hp} {r : TM} (hfr : 0 ≤ fr) (hlo : 0 ≤ lo)   {v22 : Int32} {v23 : Int32} {v24 : Int32} {v25 : Int32} {v26 : Int32} {M27 : TM} (hF : T_setsAsked_J85 v22 v23 v24 v25 v26 M27 = some r) : V l G cX6_setsAsked RX6 "setsAsked" 6 (Option.none : Option Jvm.ClassFile.FieldType) fr lo h0 (ovT m0 r hb) (QM G none h0 (ovT m0 r hb)) 85 [(0, .ref m0), (3, .int v22), (4, .int v23), (5, .int v24)] [.int v25, .int v26, .ref (m0 + 12)] (ovT m0 M27 hb) := by
  unfold T_setsAsked_J85 at hF
  refine t_iast 12 dX6_setsAsked_85 rfl (Nat.le_of_ble_eq_true rfl) (by decide) hF (fun M28 hF => ?_)
  refine v_aload_n dX6_setsAsked_86 rfl 0 rfl ?_
  refine t_geta 26 12 dX6_setsAsked_87 fl_X6_59 (Nat.le_of_ble_eq_true rfl) (fun _ _ => rfl) ?_
  refine v_iconst dX6_setsAsked_90 (v := 5) (by decide) ?_
  refine v_aload_n dX6_setsAsked_91 rfl 0 rfl ?_
  refine t_geta 2 2 dX6_setsAsked_92 fl_X6_24 (Nat.le_of_ble_eq_true rfl) (fun _ _ => rfl) ?_
  refine v_bipush dX6_setsAsked_95 (v := 47) (by decide) ?_
  refine t_iald 2 dX6_setsAsked_97 rfl (Nat.le_of_ble_eq_true rfl) (by decide) hF (fun v29 hF => ?_)
  refine t_iast 12 dX6_setsAsked_98 rfl (Nat.le_of_ble_eq_true rfl) (by decide) hF (fun M30 hF => ?_)
  refine v_aload_n dX6_setsAsked_99 rfl 0 rfl ?_
  refine t_geta 26 12 dX6_setsAsked_100 fl_X6_59 (Nat.le_of_ble_eq_true rfl) (fun _ _ => rfl) ?_
  refine v_bipush dX6_setsAsked_103 (v := 6) (by decide) ?_
  refine v_iload_n dX6_setsAsked_105 rfl 1 rfl ?_
  refine t_iast 12 dX6_setsAsked_106 rfl (Nat.le_of_ble_eq_true rfl) (by decide) hF (fun M31 hF => ?_)
  refine v_aload_n dX6_setsAsked_107 rfl 0 rfl ?_
  refine t_geta 26 12 dX6_setsAsked_108 fl_X6_59 (Nat.le_of_ble_eq_true rfl) (fun _ _ => rfl) ?_
  refine v_bipush dX6_setsAsked_111 (v := 7) (by decide) ?_
  refine v_iload dX6_setsAsked_113 2 rfl ?_
  refine t_iast 12 dX6_setsAsked_115 rfl (Nat.le_of_ble_eq_true rfl) (by decide) hF (fun M32 hF => ?_)
  refine v_aload_n dX6_setsAsked_116 rfl 0 rfl ?_
  refine t_geta 26 12 dX6_setsAsked_117 fl_X6_59 (Nat.le_of_ble_eq_true rfl) (fun _ _ => rfl) ?_
  refine v_bipush dX6_setsAsked_120 (v := 8) (by decide) ?_
  refine v_iload dX6_setsAsked_122 3 rfl ?_
  refine t_iast 12 dX6_setsAsked_124 rfl (Nat.le_of_ble_eq_true rfl) (by decide) hF (fun M33 hF => ?_)
  cases hF
  exact v_vret dX6_setsAsked_125 rfl rfl rfl
def T_setsAsked_J61 (v13 : Int32) (v14 : Int32) (v15 : Int32) (v16 : Int32) (v17 : Int32) (v18 : Int32) (M19 : TM) : Option TM :=
  (twa M19 26 9 v18 v17).bind fun M20 =>
  if v13 = (-1 : Int32) then
    T_setsAsked_J85 v14 v15 v16 (-1 : Int32) (4 : Int32) M20
  else
    (tra M20 2 5660 ((14 : Int32) + v13)).bind fun v21 =>
    T_setsAsked_J85 v14 v15 v16 v21 (4 : Int32) M20
theorem w_T_setsAsked_J61 {l : Launch} {G : GT} {fr lo : Nat} {h0 : Hp} {m0 : Nat} {hb : Hp} {r : TM} (hfr : 0 ≤ fr) (hlo : 0 ≤ lo)   {v13 : Int32} {v14 : Int32} {v15 : Int32} {v16 : Int32} {v17 : Int32} {v18 : Int32} {M19 : TM} (hF : T_setsAsked_J61 v13 v14 v15 v16 v17 v18 M19 = some r) : V l G cX6_setsAsked RX6 "setsAsked" 6 (Option.none : Option Jvm.ClassFile.FieldType) fr lo h0 (ovT m0 r hb) (QM G none h0 (ovT m0 r hb)) 61 [(0, .ref m0), (2, .int v13), (3, .int v14), (4, .int v15), (5, .int v16)] [.int v17, .int v18, .ref (m0 + 12)] (ovT m0 M19 hb) := by
  unfold T_setsAsked_J61 at hF
  refine t_iast 12 dX6_setsAsked_61 rfl (Nat.le_of_ble_eq_true rfl) (by decide) hF (fun M20 hF => ?_)
  refine v_aload_n dX6_setsAsked_62 rfl 0 rfl ?_
  refine t_geta 26 12 dX6_setsAsked_63 fl_X6_59 (Nat.le_of_ble_eq_true rfl) (fun _ _ => rfl) ?_
  refine v_iconst dX6_setsAsked_66 (v := 4) (by decide) ?_
  refine v_iload_n dX6_setsAsked_67 rfl 1 rfl ?_
  refine v_iconst dX6_setsAsked_68 (v := -1) (by decide) ?_
  refine v_icmp_ne (tgt := 76) dX6_setsAsked_69 (by decide) hF (fun hF => ?_) (fun hF => ?_)
  · refine v_aload_n dX6_setsAsked_76 rfl 0 rfl ?_
    refine t_geta 2 2 dX6_setsAsked_77 fl_X6_24 (Nat.le_of_ble_eq_true rfl) (fun _ _ => rfl) ?_
    refine v_bipush dX6_setsAsked_80 (v := 14) (by decide) ?_
    refine v_iload_n dX6_setsAsked_82 rfl 1 rfl ?_
    refine v_iadd dX6_setsAsked_83 ?_
    refine t_iald 2 dX6_setsAsked_84 rfl (Nat.le_of_ble_eq_true rfl) (by decide) hF (fun v21 hF => ?_)
    exact v_sub [0, 2, 3, 4] rfl (w_T_setsAsked_J85 hfr hlo hF)
  · refine v_iconst dX6_setsAsked_72 (v := -1) (by decide) ?_
    refine v_goto (tgt := 85) dX6_setsAsked_73 (by decide) ?_
    exact v_sub [0, 2, 3, 4] rfl (w_T_setsAsked_J85 hfr hlo hF)
def T_setsAsked_J30 (v3 : Int32) (v4 : Int32) (v5 : Int32) (v6 : Int32) (v7 : Int32) (v8 : Int32) (M9 : TM) : Option TM :=
  (twa M9 26 9 v8 v7).bind fun M10 =>
  (twa M10 26 9 (2 : Int32) v3).bind fun M11 =>
  if v3 = (-1 : Int32) then
    T_setsAsked_J61 v3 v4 v5 v6 (-1 : Int32) (3 : Int32) M11
  else
    (tra M11 2 5660 ((6 : Int32) + v3)).bind fun v12 =>
    T_setsAsked_J61 v3 v4 v5 v6 v12 (3 : Int32) M11
theorem w_T_setsAsked_J30 {l : Launch} {G : GT} {fr lo : Nat} {h0 : Hp} {m0 : Nat} {hb : Hp} {r : TM} (hfr : 0 ≤ fr) (hlo : 0 ≤ lo)   {v3 : Int32} {v4 : Int32} {v5 : Int32} {v6 : Int32} {v7 : Int32} {v8 : Int32} {M9 : TM} (hF : T_setsAsked_J30 v3 v4 v5 v6 v7 v8 M9 = some r) : V l G cX6_setsAsked RX6 "setsAsked" 6 (Option.none : Option Jvm.ClassFile.FieldType) fr lo h0 (ovT m0 r hb) (QM G none h0 (ovT m0 r hb)) 30 [(0, .ref m0), (2, .int v3), (3, .int v4), (4, .int v5), (5, .int v6)] [.int v7, .int v8, .ref (m0 + 12)] (ovT m0 M9 hb) := by
  unfold T_setsAsked_J30 at hF
  refine t_iast 12 dX6_setsAsked_30 rfl (Nat.le_of_ble_eq_true rfl) (by decide) hF (fun M10 hF => ?_)
  refine v_aload_n dX6_setsAsked_31 rfl 0 rfl ?_
  refine t_geta 26 12 dX6_setsAsked_32 fl_X6_59 (Nat.le_of_ble_eq_true rfl) (fun _ _ => rfl) ?_
  refine v_iconst dX6_setsAsked_35 (v := 2) (by decide) ?_
  refine v_iload_n dX6_setsAsked_36 rfl 1 rfl ?_
  refine t_iast 12 dX6_setsAsked_37 rfl (Nat.le_of_ble_eq_true rfl) (by decide) hF (fun M11 hF => ?_)
  refine v_aload_n dX6_setsAsked_38 rfl 0 rfl ?_
  refine t_geta 26 12 dX6_setsAsked_39 fl_X6_59 (Nat.le_of_ble_eq_true rfl) (fun _ _ => rfl) ?_
  refine v_iconst dX6_setsAsked_42 (v := 3) (by decide) ?_
  refine v_iload_n dX6_setsAsked_43 rfl 1 rfl ?_
  refine v_iconst dX6_setsAsked_44 (v := -1) (by decide) ?_
  refine v_icmp_ne (tgt := 52) dX6_setsAsked_45 (by decide) hF (fun hF => ?_) (fun hF => ?_)
  · refine v_aload_n dX6_setsAsked_52 rfl 0 rfl ?_
    refine t_geta 2 2 dX6_setsAsked_53 fl_X6_24 (Nat.le_of_ble_eq_true rfl) (fun _ _ => rfl) ?_
    refine v_bipush dX6_setsAsked_56 (v := 6) (by decide) ?_
    refine v_iload_n dX6_setsAsked_58 rfl 1 rfl ?_
    refine v_iadd dX6_setsAsked_59 ?_
    refine t_iald 2 dX6_setsAsked_60 rfl (Nat.le_of_ble_eq_true rfl) (by decide) hF (fun v12 hF => ?_)
    exact v_sub [0, 1, 2, 3, 4] rfl (w_T_setsAsked_J61 hfr hlo hF)
  · refine v_iconst dX6_setsAsked_48 (v := -1) (by decide) ?_
    refine v_goto (tgt := 61) dX6_setsAsked_49 (by decide) ?_
    exact v_sub [0, 1, 2, 3, 4] rfl (w_T_setsAsked_J61 hfr hlo hF)
def T_setsAsked (a1 : Int32) (a2 : Int32) (a3 : Int32) (a4 : Int32) (a5 : Int32) (M : TM) : Option TM :=
  (twa M 26 9 (0 : Int32) a1).bind fun M1 =>
  if a1 = (-1 : Int32) then
    T_setsAsked_J30 a2 a3 a4 a5 (-1 : Int32) (1 : Int32) M1
  else
    (tra M1 2 5660 ((30 : Int32) + a1)).bind fun v2 =>
    T_setsAsked_J30 a2 a3 a4 a5 v2 (1 : Int32) M1
theorem w_T_setsAsked {l : Launch} {G : GT} {fr lo : Nat} {h0 : Hp} {m0 : Nat} {hb : Hp} {r : TM} (hfr : 0 ≤ fr) (hlo : 0 ≤ lo) {a1 : Int32} {a2 : Int32} {a3 : Int32} {a4 : Int32} {a5 : Int32} {M : TM} (hF : T_setsAsked a1 a2 a3 a4 a5 M = some r) : V l G cX6_setsAsked RX6 "setsAsked" 6 (Option.none : Option Jvm.ClassFile.FieldType) fr lo h0 (ovT m0 r hb) (QM G none h0 (ovT m0 r hb)) 0 [(0, .ref m0), (1, .int a1), (2, .int a2), (3, .int a3), (4, .int a4), (5, .int a5)] [] (ovT m0 M hb) := by
  unfold T_setsAsked at hF
  refine v_aload_n dX6_setsAsked_0 rfl 0 rfl ?_
  refine t_geta 26 12 dX6_setsAsked_1 fl_X6_59 (Nat.le_of_ble_eq_true rfl) (fun _ _ => rfl) ?_
  refine v_iconst dX6_setsAsked_4 (v := 0) (by decide) ?_
  refine v_iload_n dX6_setsAsked_5 rfl 1 rfl ?_
  refine t_iast 12 dX6_setsAsked_6 rfl (Nat.le_of_ble_eq_true rfl) (by decide) hF (fun M1 hF => ?_)
  refine v_aload_n dX6_setsAsked_7 rfl 0 rfl ?_
  refine t_geta 26 12 dX6_setsAsked_8 fl_X6_59 (Nat.le_of_ble_eq_true rfl) (fun _ _ => rfl) ?_
  refine v_iconst dX6_setsAsked_11 (v := 1) (by decide) ?_
  refine v_iload_n dX6_setsAsked_12 rfl 1 rfl ?_
  refine v_iconst dX6_setsAsked_13 (v := -1) (by decide) ?_
  refine v_icmp_ne (tgt := 21) dX6_setsAsked_14 (by decide) hF (fun hF => ?_) (fun hF => ?_)
  · refine v_aload_n dX6_setsAsked_21 rfl 0 rfl ?_
    refine t_geta 2 2 dX6_setsAsked_22 fl_X6_24 (Nat.le_of_ble_eq_true rfl) (fun _ _ => rfl) ?_
    refine v_bipush dX6_setsAsked_25 (v := 30) (by decide) ?_
    refine v_iload_n dX6_setsAsked_27 rfl 1 rfl ?_
    refine v_iadd dX6_setsAsked_28 ?_
    refine t_iald 2 dX6_setsAsked_29 rfl (Nat.le_of_ble_eq_true rfl) (by decide) hF (fun v2 hF => ?_)
    exact v_sub [0, 2, 3, 4, 5] rfl (w_T_setsAsked_J30 hfr hlo hF)
  · refine v_iconst dX6_setsAsked_17 (v := -1) (by decide) ?_
    refine v_goto (tgt := 30) dX6_setsAsked_18 (by decide) ?_
    exact v_sub [0, 2, 3, 4, 5] rfl (w_T_setsAsked_J30 hfr hlo hF)
theorem ct_T_setsAsked {l : Launch} {G : GT} {m0 : Nat} {hb : Hp} {r : TM} {a1 : Int32} {a2 : Int32} {a3 : Int32} {a4 : Int32} {a5 : Int32} {M : TM} (hF : T_setsAsked a1 a2 a3 a4 a5 M = some r) : Ct l G yX6_setsAsked (ws_ yX6_setsAsked cX6_setsAsked 6 (Option.none : Option Jvm.ClassFile.FieldType)) 0 0 [.ref m0, .int a1, .int a2, .int a3, .int a4, .int a5] (ovT m0 M hb) none (ovT m0 r hb) :=
  ct_of (by decide) (Nat.le_of_ble_eq_true rfl) (w_T_setsAsked (Nat.le_refl _) (Nat.le_refl _) hF)
theorem fl_X6_265 : FL RX6 265 [6] 23 := by
  intro ci h
  simp only [List.mem_cons, List.not_mem_nil, or_false] at h
  subst h; exact ⟨RX6, _, TX6, 56, rfl, in_X6, by decide, Or.inl q1657, Or.inl rfl⟩
def T_codeAt (M : TM) (a1 : Int32) : Option Int32 :=
  if (M.1 23) ≤ a1 then
    some (0 : Int32)
  else
    (tra M 2 5660 ((60 : Int32) + a1)).bind fun v1 =>
    some v1
theorem w_T_codeAt {l : Launch} {G : GT} {fr lo : Nat} {h0 : Hp} {m0 : Nat} {hb : Hp} {M : TM} {r : Int32} (hfr : 0 ≤ fr) (hlo : 0 ≤ lo) {a1 : Int32} (hF : T_codeAt M a1 = some r) : V l G cX6_codeAt RX6 "codeAt" 2 (Option.some Jvm.ClassFile.FieldType.int) fr lo h0 (ovT m0 M hb) (QM G (some (.int r)) h0 (ovT m0 M hb)) 0 [(0, .ref m0), (1, .int a1)] [] (ovT m0 M hb) := by
  unfold T_codeAt at hF
  refine v_iload_n dX6_codeAt_0 rfl 1 rfl ?_
  refine v_aload_n dX6_codeAt_1 rfl 0 rfl ?_
  refine t_geti 23 dX6_codeAt_2 fl_X6_265 rfl ?_
  refine v_icmp_ge (tgt := 20) dX6_codeAt_5 (by decide) hF (fun hF => ?_) (fun hF => ?_)
  · refine v_iconst dX6_codeAt_20 (v := 0) (by decide) ?_
    cases hF
    exact v_iret dX6_codeAt_21 rfl rfl rfl rfl
  · refine v_aload_n dX6_codeAt_8 rfl 0 rfl ?_
    refine t_geta 2 2 dX6_codeAt_9 fl_X6_24 (Nat.le_of_ble_eq_true rfl) (fun _ _ => rfl) ?_
    refine v_bipush dX6_codeAt_12 (v := 60) (by decide) ?_
    refine v_iload_n dX6_codeAt_14 rfl 1 rfl ?_
    refine v_iadd dX6_codeAt_15 ?_
    refine t_iald 2 dX6_codeAt_16 rfl (Nat.le_of_ble_eq_true rfl) (by decide) hF (fun v1 hF => ?_)
    refine v_goto (tgt := 21) dX6_codeAt_17 (by decide) ?_
    cases hF
    exact v_iret dX6_codeAt_21 rfl rfl rfl rfl
theorem ct_T_codeAt {l : Launch} {G : GT} {m0 : Nat} {hb : Hp} {M : TM} {r : Int32} {a1 : Int32} (hF : T_codeAt M a1 = some r) : Ct l G yX6_codeAt (ws_ yX6_codeAt cX6_codeAt 2 (Option.some Jvm.ClassFile.FieldType.int)) 0 0 [.ref m0, .int a1] (ovT m0 M hb) (some (.int r)) (ovT m0 M hb) :=
  ct_of (by decide) (Nat.le_of_ble_eq_true rfl) (w_T_codeAt (Nat.le_refl _) (Nat.le_refl _) hF)
theorem fl_X6_268 : FL RX6 268 [6] 22 := by
  intro ci h
  simp only [List.mem_cons, List.not_mem_nil, or_false] at h
  subst h; exact ⟨RX6, _, TX6, 56, rfl, in_X6, by decide, Or.inl q1656, Or.inl rfl⟩
theorem vl_X6_271 : ∀ ci ∈ [6], VL RX6 271 ci yX6_codeAt 1 := by
  intro ci h
  simp only [List.mem_cons, List.not_mem_nil, or_false] at h
  subst h; exact ⟨RX6, TX6, 56, rfl, q146, ⟨by decide, by decide⟩, by decide +kernel, q1886, Or.inl ⟨q1884, qs62⟩⟩
theorem pl_X6_268 : PL RX6 268 [6] 22 (.int) false := by
  intro ci h
  simp only [List.mem_cons, List.not_mem_nil, or_false] at h
  subst h; exact ⟨RX6, _, TX6, 56, tyX6, rfl, in_X6, by decide, Or.inl q1656, Or.inl rfl, tyX6_ok, rfl, by decide +kernel, rfl, fun z => by cases z⟩
def T_passes0_J17 (v2 : Int32) (M3 : TM) : Option (Int32 × TM) :=
  if v2 = 0 then
    (rz v2).bind fun v4 => some (v4, M3)
  else
    (some (tsi M3 22 ((M3.1 22) + (1 : Int32)))).bind fun (M5 : TM) =>
    (rz v2).bind fun v6 => some (v6, M5)
theorem w_T_passes0_J17 {l : Launch} {G : GT} {fr lo : Nat} {h0 : Hp} {m0 : Nat} {hb : Hp} {r : (Int32 × TM)} (hfr : 1 ≤ fr) (hlo : 21 ≤ lo)   {v2 : Int32} {M3 : TM} (hF : T_passes0_J17 v2 M3 = some r) : V l G cX6_passes0 RX6 "passes0" 3 (Option.some Jvm.ClassFile.FieldType.boolean) fr lo h0 (ovT m0 r.2 hb) (QM G (some (.int r.1)) h0 (ovT m0 r.2 hb)) 17 [(0, .ref m0)] [.int v2] (ovT m0 M3 hb) := by
  unfold T_passes0_J17 at hF
  refine v_istore_n dX6_passes0_17 rfl (Nat.le_of_ble_eq_true rfl) (L' := [(2, .int v2), (0, .ref m0)]) rfl ?_
  refine v_iload_n dX6_passes0_18 rfl 0 rfl ?_
  refine v_if_eq (tgt := 32) dX6_passes0_19 (by decide) hF (fun hF => ?_) (fun hF => ?_)
  · refine v_iload_n dX6_passes0_32 rfl 0 rfl ?_
    refine v_zchk hF (fun v4 hz hF => ?_)
    cases hF
    exact v_iret dX6_passes0_33 rfl (nar_z hz) rfl rfl
  · refine v_aload_n dX6_passes0_22 rfl 1 rfl ?_
    refine v_dup dX6_passes0_23 rfl ?_
    refine t_geti 22 dX6_passes0_24 fl_X6_268 rfl ?_
    refine v_iconst dX6_passes0_27 (v := 1) (by decide) ?_
    refine v_iadd dX6_passes0_28 ?_
    refine t_puti 22 dX6_passes0_29 pl_X6_268 rfl ?_
    refine v_letM hF (fun M5 hF => ?_)
    refine v_iload_n dX6_passes0_32 rfl 0 rfl ?_
    refine v_zchk hF (fun v6 hz hF => ?_)
    cases hF
    exact v_iret dX6_passes0_33 rfl (nar_z hz) rfl rfl
def T_passes0 (a1 : Int32) (M : TM) : Option (Int32 × TM) :=
  (T_codeAt M (M.1 22)).bind fun v1 =>
  T_passes0_J17 (if v1 = a1 then (1 : Int32) else (0 : Int32)) M
theorem w_T_passes0 {l : Launch} {G : GT} {fr lo : Nat} {h0 : Hp} {m0 : Nat} {hb : Hp} {r : (Int32 × TM)} (hfr : 1 ≤ fr) (hlo : 21 ≤ lo) {a1 : Int32} {M : TM} (hF : T_passes0 a1 M = some r) : V l G cX6_passes0 RX6 "passes0" 3 (Option.some Jvm.ClassFile.FieldType.boolean) fr lo h0 (ovT m0 r.2 hb) (QM G (some (.int r.1)) h0 (ovT m0 r.2 hb)) 0 [(0, .ref m0), (1, .int a1)] [] (ovT m0 M hb) := by
  unfold T_passes0 at hF
  refine v_aload_n dX6_passes0_0 rfl 0 rfl ?_
  refine v_aload_n dX6_passes0_1 rfl 0 rfl ?_
  refine t_geti 22 dX6_passes0_2 fl_X6_268 rfl ?_
  obtain ⟨v1, e_v1, hF⟩ := Option.bind_eq_some_iff.mp hF
  refine v_calV1 dX6_passes0_5 vl_X6_271 q1887 rc_ov (ct_T_codeAt e_v1) rfl rfl (Nat.le_trans (Nat.le_of_ble_eq_true rfl) hfr) (Nat.le_trans (Nat.le_of_ble_eq_true rfl) hlo) (Nat.le_of_ble_eq_true rfl) ?_
  refine v_iload_n dX6_passes0_8 rfl 1 rfl ?_
  refine v_tern (c := v1 = a1) (x := (1 : Int32)) (y := (0 : Int32)) (pcj := 17) (st := []) ?_ (fun kt kf => v_icmp_ne0 (tgt := 16) dX6_passes0_9 (by decide) kt kf) (fun K => ?_) (fun K => ?_)
  · exact v_sub [0] rfl (w_T_passes0_J17 hfr hlo hF)
  · refine v_iconst dX6_passes0_12 (v := 1) (by decide) ?_
    refine v_goto (tgt := 17) dX6_passes0_13 (by decide) ?_
    exact K
  · refine v_iconst dX6_passes0_16 (v := 0) (by decide) ?_
    exact K
theorem ct_T_passes0 {l : Launch} {G : GT} {m0 : Nat} {hb : Hp} {r : (Int32 × TM)} {a1 : Int32} {M : TM} (hF : T_passes0 a1 M = some r) : Ct l G yX6_passes0 (ws_ yX6_passes0 cX6_passes0 3 (Option.some Jvm.ClassFile.FieldType.boolean)) 1 21 [.ref m0, .int a1] (ovT m0 M hb) (some (.int r.1)) (ovT m0 r.2 hb) :=
  ct_of (by decide) (Nat.le_of_ble_eq_true rfl) (w_T_passes0 (Nat.le_refl _) (Nat.le_refl _) hF)
theorem fl_X6_278 : FL RX6 278 [6] 24 := by
  intro ci h
  simp only [List.mem_cons, List.not_mem_nil, or_false] at h
  subst h; exact ⟨RX6, _, TX6, 56, rfl, in_X6, by decide, Or.inl q1658, Or.inl rfl⟩
theorem pl_X6_278 : PL RX6 278 [6] 24 (.boolean) false := by
  intro ci h
  simp only [List.mem_cons, List.not_mem_nil, or_false] at h
  subst h; exact ⟨RX6, _, TX6, 56, tyX6, rfl, in_X6, by decide, Or.inl q1658, Or.inl rfl, tyX6_ok, rfl, by decide +kernel, rfl, fun z => by cases z⟩
def T_bounded_J25 (v1 : Int64) (M2 : TM) : Option (Int64 × TM) :=
  if (M2.1 24) = 0 then
    some (v1, M2)
  else
    some ((0 : Int64), M2)
theorem w_T_bounded_J25 {l : Launch} {G : GT} {fr lo : Nat} {h0 : Hp} {m0 : Nat} {hb : Hp} {r : (Int64 × TM)} (hfr : 0 ≤ fr) (hlo : 0 ≤ lo)   {v1 : Int64} {M2 : TM} (hF : T_bounded_J25 v1 M2 = some r) : V l G cX6_bounded RX6 "bounded" 4 (Option.some Jvm.ClassFile.FieldType.long) fr lo h0 (ovT m0 r.2 hb) (QM G (some (.long r.1)) h0 (ovT m0 r.2 hb)) 25 [(0, .ref m0), (1, .long v1)] [] (ovT m0 M2 hb) := by
  unfold T_bounded_J25 at hF
  refine v_aload_n dX6_bounded_25 rfl 0 rfl ?_
  refine t_geti 24 dX6_bounded_26 fl_X6_278 rfl ?_
  refine v_if_eq (tgt := 36) dX6_bounded_29 (by decide) hF (fun hF => ?_) (fun hF => ?_)
  · refine v_lload_n dX6_bounded_36 rfl 1 rfl ?_
    cases hF
    exact v_lret dX6_bounded_37 rfl rfl rfl
  · refine v_lconst dX6_bounded_32 (v := 0) (by decide) ?_
    refine v_goto (tgt := 37) dX6_bounded_33 (by decide) ?_
    cases hF
    exact v_lret dX6_bounded_37 rfl rfl rfl
def T_bounded_J20 (v3 : Int64) (M4 : TM) : Option (Int64 × TM) :=
  (tsz M4 24 (1 : Int32)).bind fun M5 =>
  T_bounded_J25 v3 M5
theorem w_T_bounded_J20 {l : Launch} {G : GT} {fr lo : Nat} {h0 : Hp} {m0 : Nat} {hb : Hp} {r : (Int64 × TM)} (hfr : 0 ≤ fr) (hlo : 0 ≤ lo)   {v3 : Int64} {M4 : TM} (hF : T_bounded_J20 v3 M4 = some r) : V l G cX6_bounded RX6 "bounded" 4 (Option.some Jvm.ClassFile.FieldType.long) fr lo h0 (ovT m0 r.2 hb) (QM G (some (.long r.1)) h0 (ovT m0 r.2 hb)) 20 [(0, .ref m0), (1, .long v3)] [] (ovT m0 M4 hb) := by
  unfold T_bounded_J20 at hF
  refine v_aload_n dX6_bounded_20 rfl 0 rfl ?_
  refine v_iconst dX6_bounded_21 (v := 1) (by decide) ?_
  refine t_putz 24 dX6_bounded_22 pl_X6_278 rfl hF (fun M5 hF => ?_)
  exact v_sub [0, 1] rfl (w_T_bounded_J25 hfr hlo hF)
def T_bounded (a1 : Int64) (a2 : Int32) (M : TM) : Option (Int64 × TM) :=
  if a2 = 0 then
    T_bounded_J25 a1 M
  else
    if 0 < (lg_cmp a1 (1000000000 : Int64)) then
      T_bounded_J20 a1 M
    else
      if 0 ≤ (lg_cmp a1 (-1000000000 : Int64)) then
        T_bounded_J25 a1 M
      else
        T_bounded_J20 a1 M
theorem w_T_bounded {l : Launch} {G : GT} {fr lo : Nat} {h0 : Hp} {m0 : Nat} {hb : Hp} {r : (Int64 × TM)} (hfr : 0 ≤ fr) (hlo : 0 ≤ lo) {a1 : Int64} {a2 : Int32} {M : TM} (hF : T_bounded a1 a2 M = some r) : V l G cX6_bounded RX6 "bounded" 4 (Option.some Jvm.ClassFile.FieldType.long) fr lo h0 (ovT m0 r.2 hb) (QM G (some (.long r.1)) h0 (ovT m0 r.2 hb)) 0 [(0, .ref m0), (1, .long a1), (3, .int a2)] [] (ovT m0 M hb) := by
  unfold T_bounded at hF
  refine v_iload_n dX6_bounded_0 rfl 2 rfl ?_
  refine v_if_eq (tgt := 25) dX6_bounded_1 (by decide) hF (fun hF => ?_) (fun hF => ?_)
  · exact v_sub [0, 1] rfl (w_T_bounded_J25 hfr hlo hF)
  · refine v_lload_n dX6_bounded_4 rfl 1 rfl ?_
    refine v_ldc2 dX6_bounded_5 q1927 ?_
    refine v_lcmp dX6_bounded_8 ?_
    refine v_if_gt (tgt := 20) dX6_bounded_9 (by decide) hF (fun hF => ?_) (fun hF => ?_)
    · exact v_sub [0, 1] rfl (w_T_bounded_J20 hfr hlo hF)
    · refine v_lload_n dX6_bounded_12 rfl 1 rfl ?_
      refine v_ldc2 dX6_bounded_13 q1928 ?_
      refine v_lcmp dX6_bounded_16 ?_
      refine v_if_ge (tgt := 25) dX6_bounded_17 (by decide) hF (fun hF => ?_) (fun hF => ?_)
      · exact v_sub [0, 1] rfl (w_T_bounded_J25 hfr hlo hF)
      · exact v_sub [0, 1] rfl (w_T_bounded_J20 hfr hlo hF)
theorem ct_T_bounded {l : Launch} {G : GT} {m0 : Nat} {hb : Hp} {r : (Int64 × TM)} {a1 : Int64} {a2 : Int32} {M : TM} (hF : T_bounded a1 a2 M = some r) : Ct l G yX6_bounded (ws_ yX6_bounded cX6_bounded 4 (Option.some Jvm.ClassFile.FieldType.long)) 0 0 [.ref m0, .long a1, .int a2] (ovT m0 M hb) (some (.long r.1)) (ovT m0 r.2 hb) :=
  ct_of (by decide) (Nat.le_of_ble_eq_true rfl) (w_T_bounded (Nat.le_refl _) (Nat.le_refl _) hF)
def T_sign (a1 : Int32) : Option Int32 :=
  some ((100 : Int32) + a1)
theorem w_T_sign {l : Launch} {G : GT} {fr lo : Nat} {h0 : Hp} {h : Hp} {r : Int32} (hfr : 0 ≤ fr) (hlo : 0 ≤ lo) {a1 : Int32} (hF : T_sign a1 = some r) : V l G cX6_sign RX6 "sign" 1 (Option.some Jvm.ClassFile.FieldType.int) fr lo h0 h (QM G (some (.int r)) h0 h) 0 [(0, .int a1)] [] h := by
  unfold T_sign at hF
  refine v_bipush dX6_sign_0 (v := 100) (by decide) ?_
  refine v_iload_n dX6_sign_2 rfl 0 rfl ?_
  refine v_iadd dX6_sign_3 ?_
  cases hF
  exact v_iret dX6_sign_4 rfl rfl rfl rfl
theorem ct_T_sign {l : Launch} {G : GT} {h : Hp} {r : Int32} {a1 : Int32} (hF : T_sign a1 = some r) : Ct l G yX6_sign (ws_ yX6_sign cX6_sign 1 (Option.some Jvm.ClassFile.FieldType.int)) 0 0 [.int a1] h (some (.int r)) h :=
  ct_of (by decide) (Nat.le_of_ble_eq_true rfl) (w_T_sign (Nat.le_refl _) (Nat.le_refl _) hF)
def T_leekMany (M : TM) : Option Int32 :=
  (tra M 2 5660 (49 : Int32)).bind fun v1 =>
  some v1
theorem w_T_leekMany {l : Launch} {G : GT} {fr lo : Nat} {h0 : Hp} {m0 : Nat} {hb : Hp} {M : TM} {r : Int32} (hfr : 0 ≤ fr) (hlo : 0 ≤ lo)  (hF : T_leekMany M = some r) : V l G cX6_leekMany RX6 "leekMany" 1 (Option.some Jvm.ClassFile.FieldType.int) fr lo h0 (ovT m0 M hb) (QM G (some (.int r)) h0 (ovT m0 M hb)) 0 [(0, .ref m0)] [] (ovT m0 M hb) := by
  unfold T_leekMany at hF
  refine v_aload_n dX6_leekMany_0 rfl 0 rfl ?_
  refine t_geta 2 2 dX6_leekMany_1 fl_X6_24 (Nat.le_of_ble_eq_true rfl) (fun _ _ => rfl) ?_
  refine v_bipush dX6_leekMany_4 (v := 49) (by decide) ?_
  refine t_iald 2 dX6_leekMany_6 rfl (Nat.le_of_ble_eq_true rfl) (by decide) hF (fun v1 hF => ?_)
  cases hF
  exact v_iret dX6_leekMany_7 rfl rfl rfl rfl
theorem ct_T_leekMany {l : Launch} {G : GT} {m0 : Nat} {hb : Hp} {M : TM} {r : Int32}  (hF : T_leekMany M = some r) : Ct l G yX6_leekMany (ws_ yX6_leekMany cX6_leekMany 1 (Option.some Jvm.ClassFile.FieldType.int)) 0 0 [.ref m0] (ovT m0 M hb) (some (.int r)) (ovT m0 M hb) :=
  ct_of (by decide) (Nat.le_of_ble_eq_true rfl) (w_T_leekMany (Nat.le_refl _) (Nat.le_refl _) hF)
theorem vl_X6_116 : ∀ ci ∈ [6], VL RX6 116 ci yX6_leekMany 0 := by
  intro ci h
  simp only [List.mem_cons, List.not_mem_nil, or_false] at h
  subst h; exact ⟨RX6, TX6, 56, rfl, q146, ⟨by decide, by decide⟩, by decide +kernel, q1917, Or.inl ⟨q1915, qs69⟩⟩
def T_allHigh_L4 (N : Nat) (M : TM) (x4 : Int32 → Option Int32) : Nat → Int32 → Int32 → Option Int32
  | 0, _, _ => none
  | n6 + 1, v1, v2 =>
    (T_leekMany M).bind fun v4 =>
    if v4 ≤ v2 then
      x4 v1
    else
      (tra M 2 5660 ((1 : Int32) + v2)).bind fun v5 =>
      (T_allHigh_L4 N M x4 n6) (v1 + v5) (v2 + (1 : Int32))
theorem w_T_allHigh_L4 {l : Launch} {G : GT} {fr lo : Nat} {h0 : Hp} {m0 : Nat} {hb : Hp} {N : Nat} {M : TM} {r : Int32} (hfr : 1 ≤ fr) (hlo : 20 ≤ lo) {x4 : Int32 → Option Int32} (hx4 : ∀ (v3 : Int32), x4 v3 = some r → V l G cX6_allHigh RX6 "allHigh" 3 (Option.some Jvm.ClassFile.FieldType.int) fr lo h0 (ovT m0 M hb) (QM G (some (.int r)) h0 (ovT m0 M hb)) 29 [(1, .int v3)] [] (ovT m0 M hb)) : ∀ (n : Nat) (v1 : Int32) (v2 : Int32), T_allHigh_L4 N M x4 n v1 v2 = some r → V l G cX6_allHigh RX6 "allHigh" 3 (Option.some Jvm.ClassFile.FieldType.int) fr lo h0 (ovT m0 M hb) (QM G (some (.int r)) h0 (ovT m0 M hb)) 4 [(0, .ref m0), (1, .int v1), (2, .int v2)] [] (ovT m0 M hb) := by
  intro n
  induction n with
  | zero =>
    intro v1 v2 hF
    cases (show (none : Option Int32) = some r from hF)
  | succ n hc4 =>
    intro v1 v2 hF
    rw [T_allHigh_L4] at hF
    refine v_iload_n dX6_allHigh_4 rfl 2 rfl ?_
    refine v_aload_n dX6_allHigh_5 rfl 0 rfl ?_
    obtain ⟨v4, e_v4, hF⟩ := Option.bind_eq_some_iff.mp hF
    refine v_calV1 dX6_allHigh_6 vl_X6_116 q1918 rc_ov (ct_T_leekMany e_v4) rfl rfl (Nat.le_trans (Nat.le_of_ble_eq_true rfl) hfr) (Nat.le_trans (Nat.le_of_ble_eq_true rfl) hlo) (Nat.le_of_ble_eq_true rfl) ?_
    refine v_icmp_ge (tgt := 29) dX6_allHigh_9 (by decide) hF (fun hF => ?_) (fun hF => ?_)
    · exact v_sub [1] rfl (hx4 _ hF)
    · refine v_iload_n dX6_allHigh_12 rfl 1 rfl ?_
      refine v_aload_n dX6_allHigh_13 rfl 0 rfl ?_
      refine t_geta 2 2 dX6_allHigh_14 fl_X6_24 (Nat.le_of_ble_eq_true rfl) (fun _ _ => rfl) ?_
      refine v_iconst dX6_allHigh_17 (v := 1) (by decide) ?_
      refine v_iload_n dX6_allHigh_18 rfl 2 rfl ?_
      refine v_iadd dX6_allHigh_19 ?_
      refine t_iald 2 dX6_allHigh_20 rfl (Nat.le_of_ble_eq_true rfl) (by decide) hF (fun v5 hF => ?_)
      refine v_iadd dX6_allHigh_21 ?_
      refine v_istore_n dX6_allHigh_22 rfl (Nat.le_of_ble_eq_true rfl) (L' := [(1, .int (v1 + v5)), (0, .ref m0), (2, .int v2)]) rfl ?_
      refine v_iinc dX6_allHigh_23 2 rfl (v := v2 + (1 : Int32)) (by rfl) (Nat.le_of_ble_eq_true rfl) (L' := [(2, .int (v2 + (1 : Int32))), (1, .int (v1 + v5)), (0, .ref m0)]) rfl ?_
      refine v_goto (tgt := 4) dX6_allHigh_26 (by decide) ?_
      exact v_sub [2, 1, 0] rfl (hc4 _ _ hF)
def T_allHigh (N : Nat) (M : TM) : Option Int32 :=
  T_allHigh_L4 N M (fun v7 =>
    some v7) N (0 : Int32) (0 : Int32)
theorem w_T_allHigh {l : Launch} {G : GT} {fr lo : Nat} {h0 : Hp} {m0 : Nat} {hb : Hp} {N : Nat} {M : TM} {r : Int32} (hfr : 1 ≤ fr) (hlo : 20 ≤ lo)  (hF : T_allHigh N M = some r) : V l G cX6_allHigh RX6 "allHigh" 3 (Option.some Jvm.ClassFile.FieldType.int) fr lo h0 (ovT m0 M hb) (QM G (some (.int r)) h0 (ovT m0 M hb)) 0 [(0, .ref m0)] [] (ovT m0 M hb) := by
  unfold T_allHigh at hF
  refine v_iconst dX6_allHigh_0 (v := 0) (by decide) ?_
  refine v_istore_n dX6_allHigh_1 rfl (Nat.le_of_ble_eq_true rfl) (L' := [(1, .int (0 : Int32)), (0, .ref m0)]) rfl ?_
  refine v_iconst dX6_allHigh_2 (v := 0) (by decide) ?_
  refine v_istore_n dX6_allHigh_3 rfl (Nat.le_of_ble_eq_true rfl) (L' := [(2, .int (0 : Int32)), (1, .int (0 : Int32)), (0, .ref m0)]) rfl ?_
  refine v_sub [2, 1, 0] rfl (w_T_allHigh_L4 hfr hlo ?_ N _ _ hF)
  intro v7 hF
  refine v_iload_n dX6_allHigh_29 rfl 0 rfl ?_
  cases hF
  exact v_iret dX6_allHigh_30 rfl rfl rfl rfl
theorem ct_T_allHigh {l : Launch} {G : GT} {m0 : Nat} {hb : Hp} {N : Nat} {M : TM} {r : Int32}  (hF : T_allHigh N M = some r) : Ct l G yX6_allHigh (ws_ yX6_allHigh cX6_allHigh 3 (Option.some Jvm.ClassFile.FieldType.int)) 1 20 [.ref m0] (ovT m0 M hb) (some (.int r)) (ovT m0 M hb) :=
  ct_of (by decide) (Nat.le_of_ble_eq_true rfl) (w_T_allHigh (Nat.le_refl _) (Nat.le_refl _) hF)
def T_isLeek (M : TM) (a1 : Int32) : Option Int32 :=
  (T_leekMany M).bind fun v1 =>
  (T_lies a1 (0 : Int32) (v1 - (1 : Int32))).bind fun v2 =>
  (rz v2).bind fun v3 => some v3
theorem w_T_isLeek {l : Launch} {G : GT} {fr lo : Nat} {h0 : Hp} {m0 : Nat} {hb : Hp} {M : TM} {r : Int32} (hfr : 1 ≤ fr) (hlo : 22 ≤ lo) {a1 : Int32} (hF : T_isLeek M a1 = some r) : V l G cX6_isLeek RX6 "isLeek" 2 (Option.some Jvm.ClassFile.FieldType.boolean) fr lo h0 (ovT m0 M hb) (QM G (some (.int r)) h0 (ovT m0 M hb)) 0 [(0, .ref m0), (1, .int a1)] [] (ovT m0 M hb) := by
  unfold T_isLeek at hF
  refine v_iload_n dX6_isLeek_0 rfl 1 rfl ?_
  refine v_iconst dX6_isLeek_1 (v := 0) (by decide) ?_
  refine v_aload_n dX6_isLeek_2 rfl 0 rfl ?_
  obtain ⟨v1, e_v1, hF⟩ := Option.bind_eq_some_iff.mp hF
  refine v_calV1 dX6_isLeek_3 vl_X6_116 q1918 rc_ov (ct_T_leekMany e_v1) rfl rfl (Nat.le_trans (Nat.le_of_ble_eq_true rfl) hfr) (Nat.le_trans (Nat.le_of_ble_eq_true rfl) hlo) (Nat.le_of_ble_eq_true rfl) ?_
  refine v_iconst dX6_isLeek_6 (v := 1) (by decide) ?_
  refine v_isub dX6_isLeek_7 ?_
  obtain ⟨v2, e_v2, hF⟩ := Option.bind_eq_some_iff.mp hF
  refine v_calS1 dX6_isLeek_8 sl_X6_102 q1810 (ct_T_lies e_v2) rfl rfl (Nat.le_trans (Nat.le_of_ble_eq_true rfl) hfr) (Nat.le_trans (Nat.le_of_ble_eq_true rfl) hlo) (Nat.le_of_ble_eq_true rfl) ?_
  refine v_zchk hF (fun v3 hz hF => ?_)
  cases hF
  exact v_iret dX6_isLeek_11 rfl (nar_z hz) rfl rfl
theorem ct_T_isLeek {l : Launch} {G : GT} {m0 : Nat} {hb : Hp} {M : TM} {r : Int32} {a1 : Int32} (hF : T_isLeek M a1 = some r) : Ct l G yX6_isLeek (ws_ yX6_isLeek cX6_isLeek 2 (Option.some Jvm.ClassFile.FieldType.boolean)) 1 22 [.ref m0, .int a1] (ovT m0 M hb) (some (.int r)) (ovT m0 M hb) :=
  ct_of (by decide) (Nat.le_of_ble_eq_true rfl) (w_T_isLeek (Nat.le_refl _) (Nat.le_refl _) hF)
def T_isIn (a1 : Int32) (a2 : Int32) : Option Int32 :=
  (rz (if ((a1 >>> (a2 &&& 31)) &&& (1 : Int32)) = (1 : Int32) then (1 : Int32) else (0 : Int32))).bind fun v1 => some v1
theorem w_T_isIn {l : Launch} {G : GT} {fr lo : Nat} {h0 : Hp} {h : Hp} {r : Int32} (hfr : 0 ≤ fr) (hlo : 0 ≤ lo) {a1 : Int32} {a2 : Int32} (hF : T_isIn a1 a2 = some r) : V l G cX6_isIn RX6 "isIn" 2 (Option.some Jvm.ClassFile.FieldType.boolean) fr lo h0 h (QM G (some (.int r)) h0 h) 0 [(0, .int a1), (1, .int a2)] [] h := by
  unfold T_isIn at hF
  refine v_iload_n dX6_isIn_0 rfl 0 rfl ?_
  refine v_iload_n dX6_isIn_1 rfl 1 rfl ?_
  refine v_ishr dX6_isIn_2 ?_
  refine v_iconst dX6_isIn_3 (v := 1) (by decide) ?_
  refine v_iand dX6_isIn_4 ?_
  refine v_iconst dX6_isIn_5 (v := 1) (by decide) ?_
  refine v_tern (c := ((a1 >>> (a2 &&& 31)) &&& (1 : Int32)) = (1 : Int32)) (x := (1 : Int32)) (y := (0 : Int32)) (pcj := 14) (st := []) ?_ (fun kt kf => v_icmp_ne0 (tgt := 13) dX6_isIn_6 (by decide) kt kf) (fun K => ?_) (fun K => ?_)
  · refine v_zchk hF (fun v1 hz hF => ?_)
    cases hF
    exact v_iret dX6_isIn_14 rfl (nar_z hz) rfl rfl
  · refine v_iconst dX6_isIn_9 (v := 1) (by decide) ?_
    refine v_goto (tgt := 14) dX6_isIn_10 (by decide) ?_
    exact K
  · refine v_iconst dX6_isIn_13 (v := 0) (by decide) ?_
    exact K
theorem ct_T_isIn {l : Launch} {G : GT} {h : Hp} {r : Int32} {a1 : Int32} {a2 : Int32} (hF : T_isIn a1 a2 = some r) : Ct l G yX6_isIn (ws_ yX6_isIn cX6_isIn 2 (Option.some Jvm.ClassFile.FieldType.boolean)) 0 0 [.int a1, .int a2] h (some (.int r)) h :=
  ct_of (by decide) (Nat.le_of_ble_eq_true rfl) (w_T_isIn (Nat.le_refl _) (Nat.le_refl _) hF)
theorem sl_X6_119 : SL RX6 119 yX6_isIn 2 := ⟨q146, ⟨by decide, by decide⟩, by decide +kernel, q1859, Or.inl q1858⟩
def T_isRead (M : TM) (a1 : Int32) : Option Int32 :=
  (tra M 2 5660 (0 : Int32)).bind fun v1 =>
  (T_isIn v1 a1).bind fun v2 =>
  (rz v2).bind fun v3 => some v3
theorem w_T_isRead {l : Launch} {G : GT} {fr lo : Nat} {h0 : Hp} {m0 : Nat} {hb : Hp} {M : TM} {r : Int32} (hfr : 1 ≤ fr) (hlo : 21 ≤ lo) {a1 : Int32} (hF : T_isRead M a1 = some r) : V l G cX6_isRead RX6 "isRead" 2 (Option.some Jvm.ClassFile.FieldType.boolean) fr lo h0 (ovT m0 M hb) (QM G (some (.int r)) h0 (ovT m0 M hb)) 0 [(0, .ref m0), (1, .int a1)] [] (ovT m0 M hb) := by
  unfold T_isRead at hF
  refine v_aload_n dX6_isRead_0 rfl 0 rfl ?_
  refine t_geta 2 2 dX6_isRead_1 fl_X6_24 (Nat.le_of_ble_eq_true rfl) (fun _ _ => rfl) ?_
  refine v_iconst dX6_isRead_4 (v := 0) (by decide) ?_
  refine t_iald 2 dX6_isRead_5 rfl (Nat.le_of_ble_eq_true rfl) (by decide) hF (fun v1 hF => ?_)
  refine v_iload_n dX6_isRead_6 rfl 1 rfl ?_
  obtain ⟨v2, e_v2, hF⟩ := Option.bind_eq_some_iff.mp hF
  refine v_calS1 dX6_isRead_7 sl_X6_119 q1860 (ct_T_isIn e_v2) rfl rfl (Nat.le_trans (Nat.le_of_ble_eq_true rfl) hfr) (Nat.le_trans (Nat.le_of_ble_eq_true rfl) hlo) (Nat.le_of_ble_eq_true rfl) ?_
  refine v_zchk hF (fun v3 hz hF => ?_)
  cases hF
  exact v_iret dX6_isRead_10 rfl (nar_z hz) rfl rfl
theorem ct_T_isRead {l : Launch} {G : GT} {m0 : Nat} {hb : Hp} {M : TM} {r : Int32} {a1 : Int32} (hF : T_isRead M a1 = some r) : Ct l G yX6_isRead (ws_ yX6_isRead cX6_isRead 2 (Option.some Jvm.ClassFile.FieldType.boolean)) 1 21 [.ref m0, .int a1] (ovT m0 M hb) (some (.int r)) (ovT m0 M hb) :=
  ct_of (by decide) (Nat.le_of_ble_eq_true rfl) (w_T_isRead (Nat.le_refl _) (Nat.le_refl _) hF)
def T_ones_L4 (N : Nat) (x4 : Int32 → Option Int32) : Nat → Int32 → Int32 → Int32 → Option Int32
  | 0, _, _, _ => none
  | n6 + 1, v1, v2, v3 =>
    if (8 : Int32) ≤ v3 then
      x4 v2
    else
      (some (v2 + ((v1 >>> (v3 &&& 31)) &&& (1 : Int32)))).bind fun (v5 : Int32) =>
      (T_ones_L4 N x4 n6) v1 v5 (v3 + (1 : Int32))
theorem w_T_ones_L4 {l : Launch} {G : GT} {fr lo : Nat} {h0 : Hp} {N : Nat} {h : Hp} {r : Int32} (hfr : 0 ≤ fr) (hlo : 0 ≤ lo) {x4 : Int32 → Option Int32} (hx4 : ∀ (v4 : Int32), x4 v4 = some r → V l G cX6_ones RX6 "ones" 3 (Option.some Jvm.ClassFile.FieldType.int) fr lo h0 h (QM G (some (.int r)) h0 h) 24 [(1, .int v4)] [] h) : ∀ (n : Nat) (v1 : Int32) (v2 : Int32) (v3 : Int32), T_ones_L4 N x4 n v1 v2 v3 = some r → V l G cX6_ones RX6 "ones" 3 (Option.some Jvm.ClassFile.FieldType.int) fr lo h0 h (QM G (some (.int r)) h0 h) 4 [(0, .int v1), (1, .int v2), (2, .int v3)] [] h := by
  intro n
  induction n with
  | zero =>
    intro v1 v2 v3 hF
    cases (show (none : Option Int32) = some r from hF)
  | succ n hc4 =>
    intro v1 v2 v3 hF
    rw [T_ones_L4] at hF
    refine v_iload_n dX6_ones_4 rfl 2 rfl ?_
    refine v_bipush dX6_ones_5 (v := 8) (by decide) ?_
    refine v_icmp_ge (tgt := 24) dX6_ones_7 (by decide) hF (fun hF => ?_) (fun hF => ?_)
    · exact v_sub [1] rfl (hx4 _ hF)
    · refine v_iload_n dX6_ones_10 rfl 1 rfl ?_
      refine v_iload_n dX6_ones_11 rfl 0 rfl ?_
      refine v_iload_n dX6_ones_12 rfl 2 rfl ?_
      refine v_ishr dX6_ones_13 ?_
      refine v_iconst dX6_ones_14 (v := 1) (by decide) ?_
      refine v_iand dX6_ones_15 ?_
      refine v_iadd dX6_ones_16 ?_
      refine v_leti hF (fun v5 hF => ?_)
      refine v_istore_n dX6_ones_17 rfl (Nat.le_of_ble_eq_true rfl) (L' := [(1, .int v5), (0, .int v1), (2, .int v3)]) rfl ?_
      refine v_iinc dX6_ones_18 2 rfl (v := v3 + (1 : Int32)) (by rfl) (Nat.le_of_ble_eq_true rfl) (L' := [(2, .int (v3 + (1 : Int32))), (1, .int v5), (0, .int v1)]) rfl ?_
      refine v_goto (tgt := 4) dX6_ones_21 (by decide) ?_
      exact v_sub [2, 1, 0] rfl (hc4 _ _ _ hF)
def T_ones (N : Nat) (a1 : Int32) : Option Int32 :=
  T_ones_L4 N (fun v7 =>
    some v7) N a1 (0 : Int32) (0 : Int32)
theorem w_T_ones {l : Launch} {G : GT} {fr lo : Nat} {h0 : Hp} {N : Nat} {h : Hp} {r : Int32} (hfr : 0 ≤ fr) (hlo : 0 ≤ lo) {a1 : Int32} (hF : T_ones N a1 = some r) : V l G cX6_ones RX6 "ones" 3 (Option.some Jvm.ClassFile.FieldType.int) fr lo h0 h (QM G (some (.int r)) h0 h) 0 [(0, .int a1)] [] h := by
  unfold T_ones at hF
  refine v_iconst dX6_ones_0 (v := 0) (by decide) ?_
  refine v_istore_n dX6_ones_1 rfl (Nat.le_of_ble_eq_true rfl) (L' := [(1, .int (0 : Int32)), (0, .int a1)]) rfl ?_
  refine v_iconst dX6_ones_2 (v := 0) (by decide) ?_
  refine v_istore_n dX6_ones_3 rfl (Nat.le_of_ble_eq_true rfl) (L' := [(2, .int (0 : Int32)), (1, .int (0 : Int32)), (0, .int a1)]) rfl ?_
  refine v_sub [2, 1, 0] rfl (w_T_ones_L4 hfr hlo ?_ N _ _ _ hF)
  intro v7 hF
  refine v_iload_n dX6_ones_24 rfl 0 rfl ?_
  cases hF
  exact v_iret dX6_ones_25 rfl rfl rfl rfl
theorem ct_T_ones {l : Launch} {G : GT} {N : Nat} {h : Hp} {r : Int32} {a1 : Int32} (hF : T_ones N a1 = some r) : Ct l G yX6_ones (ws_ yX6_ones cX6_ones 3 (Option.some Jvm.ClassFile.FieldType.int)) 0 0 [.int a1] h (some (.int r)) h :=
  ct_of (by decide) (Nat.le_of_ble_eq_true rfl) (w_T_ones (Nat.le_refl _) (Nat.le_refl _) hF)
theorem vl_X6_313 : ∀ ci ∈ [6], VL RX6 313 ci yX6_allHigh 0 := by
  intro ci h
  simp only [List.mem_cons, List.not_mem_nil, or_false] at h
  subst h; exact ⟨RX6, TX6, 56, rfl, q146, ⟨by decide, by decide⟩, by decide +kernel, q1921, Or.inl ⟨q1919, qs70⟩⟩
theorem vl_X6_143 : ∀ ci ∈ [6], VL RX6 143 ci yX6_isLeek 1 := by
  intro ci h
  simp only [List.mem_cons, List.not_mem_nil, or_false] at h
  subst h; exact ⟨RX6, TX6, 56, rfl, q146, ⟨by decide, by decide⟩, by decide +kernel, q1913, Or.inl ⟨q1911, qs68⟩⟩
theorem sl_X6_304 : SL RX6 304 yX6_ones 1 := ⟨q146, ⟨by decide, by decide⟩, by decide +kernel, q1870, Or.inl q1869⟩
theorem fl_X6_307 : FL RX6 307 [6] 27 := by
  intro ci h
  simp only [List.mem_cons, List.not_mem_nil, or_false] at h
  subst h; exact ⟨RX6, _, TX6, 56, rfl, in_X6, by decide, Or.inl q1661, Or.inl rfl⟩
theorem fl_X6_310 : FL RX6 310 [6] 28 := by
  intro ci h
  simp only [List.mem_cons, List.not_mem_nil, or_false] at h
  subst h; exact ⟨RX6, _, TX6, 56, rfl, in_X6, by decide, Or.inl q1662, Or.inl rfl⟩
theorem vl_X6_134 : ∀ ci ∈ [6], VL RX6 134 ci yX6_isRead 1 := by
  intro ci h
  simp only [List.mem_cons, List.not_mem_nil, or_false] at h
  subst h; exact ⟨RX6, TX6, 56, rfl, q146, ⟨by decide, by decide⟩, by decide +kernel, q1856, Or.inl ⟨q1854, qs56⟩⟩
def T_orderValue (N : Nat) (M : TM) (a1 : Int32) (a2 : Int32) : Option Int32 :=
  if a1.toInt < 14 ∨ 20 < a1.toInt then
    (T_allHigh N M).bind fun v1 =>
    some v1
  else
  if a1.toInt = 14 then
    (T_isLeek M a2).bind fun v2 =>
    if v2 = 0 then
      some (-1 : Int32)
    else
      (tra M 2 5660 ((1 : Int32) + a2)).bind fun v3 =>
      some v3
  else
  if a1.toInt = 15 then
    (tra M 2 5660 (0 : Int32)).bind fun v4 =>
    (T_ones N v4).bind fun v5 =>
    some v5
  else
  if a1.toInt = 16 then
    (tra M 2 5660 (5 : Int32)).bind fun v6 =>
    some v6
  else
  if a1.toInt = 17 then
    some (M.1 27)
  else
  if a1.toInt = 18 then
    some (M.1 28)
  else
  if a1.toInt = 19 then
    (T_allHigh N M).bind fun v7 =>
    some v7
  else
    (T_isBook M a2).bind fun v8 =>
    if v8 = 0 then
      some (-1 : Int32)
    else
      (T_isRead M a2).bind fun v9 =>
      if v9 = 0 then
        some (0 : Int32)
      else
        some (1 : Int32)
theorem w_T_orderValue {l : Launch} {G : GT} {fr lo : Nat} {h0 : Hp} {m0 : Nat} {hb : Hp} {N : Nat} {M : TM} {r : Int32} (hfr : 2 ≤ fr) (hlo : 43 ≤ lo) {a1 : Int32} {a2 : Int32} (hF : T_orderValue N M a1 a2 = some r) : V l G cX6_orderValue RX6 "orderValue" 3 (Option.some Jvm.ClassFile.FieldType.int) fr lo h0 (ovT m0 M hb) (QM G (some (.int r)) h0 (ovT m0 M hb)) 0 [(0, .ref m0), (1, .int a1), (2, .int a2)] [] (ovT m0 M hb) := by
  unfold T_orderValue at hF
  refine v_iload_n dX6_orderValue_0 rfl 1 rfl ?_
  refine v_swOut (td := 118) dX6_orderValue_1 (by decide) hF (fun hF => ?_) (fun hs1 hs2 hF => ?_)
  · refine v_aload_n dX6_orderValue_118 rfl 0 rfl ?_
    obtain ⟨v1, e_v1, hF⟩ := Option.bind_eq_some_iff.mp hF
    refine v_calV1 dX6_orderValue_119 vl_X6_313 q1922 rc_ov (ct_T_allHigh e_v1) rfl rfl (Nat.le_trans (Nat.le_of_ble_eq_true rfl) hfr) (Nat.le_trans (Nat.le_of_ble_eq_true rfl) hlo) (Nat.le_of_ble_eq_true rfl) ?_
    cases hF
    exact v_iret dX6_orderValue_122 rfl rfl rfl rfl
  · refine v_case (i := 14) hF (fun hc hF => ?_) (fun hc0 hF => ?_)
    · refine v_swIn (i := 14) (off := 43) (tgt := 44) dX6_orderValue_1 hc (by decide) (by decide) rfl (by decide) ?_
      refine v_aload_n dX6_orderValue_44 rfl 0 rfl ?_
      refine v_iload_n dX6_orderValue_45 rfl 2 rfl ?_
      obtain ⟨v2, e_v2, hF⟩ := Option.bind_eq_some_iff.mp hF
      refine v_calV1 dX6_orderValue_46 vl_X6_143 q1914 rc_ov (ct_T_isLeek e_v2) rfl rfl (Nat.le_trans (Nat.le_of_ble_eq_true rfl) hfr) (Nat.le_trans (Nat.le_of_ble_eq_true rfl) hlo) (Nat.le_of_ble_eq_true rfl) ?_
      refine v_if_eq (tgt := 63) dX6_orderValue_49 (by decide) hF (fun hF => ?_) (fun hF => ?_)
      · refine v_iconst dX6_orderValue_63 (v := -1) (by decide) ?_
        cases hF
        exact v_iret dX6_orderValue_64 rfl rfl rfl rfl
      · refine v_aload_n dX6_orderValue_52 rfl 0 rfl ?_
        refine t_geta 2 2 dX6_orderValue_53 fl_X6_24 (Nat.le_of_ble_eq_true rfl) (fun _ _ => rfl) ?_
        refine v_iconst dX6_orderValue_56 (v := 1) (by decide) ?_
        refine v_iload_n dX6_orderValue_57 rfl 2 rfl ?_
        refine v_iadd dX6_orderValue_58 ?_
        refine t_iald 2 dX6_orderValue_59 rfl (Nat.le_of_ble_eq_true rfl) (by decide) hF (fun v3 hF => ?_)
        refine v_goto (tgt := 64) dX6_orderValue_60 (by decide) ?_
        cases hF
        exact v_iret dX6_orderValue_64 rfl rfl rfl rfl
    refine v_case (i := 15) hF (fun hc hF => ?_) (fun hc1 hF => ?_)
    · refine v_swIn (i := 15) (off := 90) (tgt := 91) dX6_orderValue_1 hc (by decide) (by decide) rfl (by decide) ?_
      refine v_aload_n dX6_orderValue_91 rfl 0 rfl ?_
      refine t_geta 2 2 dX6_orderValue_92 fl_X6_24 (Nat.le_of_ble_eq_true rfl) (fun _ _ => rfl) ?_
      refine v_iconst dX6_orderValue_95 (v := 0) (by decide) ?_
      refine t_iald 2 dX6_orderValue_96 rfl (Nat.le_of_ble_eq_true rfl) (by decide) hF (fun v4 hF => ?_)
      obtain ⟨v5, e_v5, hF⟩ := Option.bind_eq_some_iff.mp hF
      refine v_calS1 dX6_orderValue_97 sl_X6_304 q1871 (ct_T_ones e_v5) rfl rfl (Nat.le_trans (Nat.le_of_ble_eq_true rfl) hfr) (Nat.le_trans (Nat.le_of_ble_eq_true rfl) hlo) (Nat.le_of_ble_eq_true rfl) ?_
      cases hF
      exact v_iret dX6_orderValue_100 rfl rfl rfl rfl
    refine v_case (i := 16) hF (fun hc hF => ?_) (fun hc2 hF => ?_)
    · refine v_swIn (i := 16) (off := 100) (tgt := 101) dX6_orderValue_1 hc (by decide) (by decide) rfl (by decide) ?_
      refine v_aload_n dX6_orderValue_101 rfl 0 rfl ?_
      refine t_geta 2 2 dX6_orderValue_102 fl_X6_24 (Nat.le_of_ble_eq_true rfl) (fun _ _ => rfl) ?_
      refine v_iconst dX6_orderValue_105 (v := 5) (by decide) ?_
      refine t_iald 2 dX6_orderValue_106 rfl (Nat.le_of_ble_eq_true rfl) (by decide) hF (fun v6 hF => ?_)
      cases hF
      exact v_iret dX6_orderValue_107 rfl rfl rfl rfl
    refine v_case (i := 17) hF (fun hc hF => ?_) (fun hc3 hF => ?_)
    · refine v_swIn (i := 17) (off := 107) (tgt := 108) dX6_orderValue_1 hc (by decide) (by decide) rfl (by decide) ?_
      refine v_aload_n dX6_orderValue_108 rfl 0 rfl ?_
      refine t_geti 27 dX6_orderValue_109 fl_X6_307 rfl ?_
      cases hF
      exact v_iret dX6_orderValue_112 rfl rfl rfl rfl
    refine v_case (i := 18) hF (fun hc hF => ?_) (fun hc4 hF => ?_)
    · refine v_swIn (i := 18) (off := 112) (tgt := 113) dX6_orderValue_1 hc (by decide) (by decide) rfl (by decide) ?_
      refine v_aload_n dX6_orderValue_113 rfl 0 rfl ?_
      refine t_geti 28 dX6_orderValue_114 fl_X6_310 rfl ?_
      cases hF
      exact v_iret dX6_orderValue_117 rfl rfl rfl rfl
    refine v_case (i := 19) hF (fun hc hF => ?_) (fun hc5 hF => ?_)
    · refine v_swIn (i := 19) (off := 117) (tgt := 118) dX6_orderValue_1 hc (by decide) (by decide) rfl (by decide) ?_
      refine v_aload_n dX6_orderValue_118 rfl 0 rfl ?_
      obtain ⟨v7, e_v7, hF⟩ := Option.bind_eq_some_iff.mp hF
      refine v_calV1 dX6_orderValue_119 vl_X6_313 q1922 rc_ov (ct_T_allHigh e_v7) rfl rfl (Nat.le_trans (Nat.le_of_ble_eq_true rfl) hfr) (Nat.le_trans (Nat.le_of_ble_eq_true rfl) hlo) (Nat.le_of_ble_eq_true rfl) ?_
      cases hF
      exact v_iret dX6_orderValue_122 rfl rfl rfl rfl
    refine v_swIn (i := 20) (off := 64) (tgt := 65) dX6_orderValue_1 (by omega) (by decide) (by decide) rfl (by decide) ?_
    refine v_aload_n dX6_orderValue_65 rfl 0 rfl ?_
    refine v_iload_n dX6_orderValue_66 rfl 2 rfl ?_
    obtain ⟨v8, e_v8, hF⟩ := Option.bind_eq_some_iff.mp hF
    refine v_calV1 dX6_orderValue_67 vl_X6_130 q1849 rc_ov (ct_T_isBook e_v8) rfl rfl (Nat.le_trans (Nat.le_of_ble_eq_true rfl) hfr) (Nat.le_trans (Nat.le_of_ble_eq_true rfl) hlo) (Nat.le_of_ble_eq_true rfl) ?_
    refine v_if_ne (tgt := 77) dX6_orderValue_70 (by decide) hF (fun hF => ?_) (fun hF => ?_)
    · refine v_aload_n dX6_orderValue_77 rfl 0 rfl ?_
      refine v_iload_n dX6_orderValue_78 rfl 2 rfl ?_
      obtain ⟨v9, e_v9, hF⟩ := Option.bind_eq_some_iff.mp hF
      refine v_calV1 dX6_orderValue_79 vl_X6_134 q1857 rc_ov (ct_T_isRead e_v9) rfl rfl (Nat.le_trans (Nat.le_of_ble_eq_true rfl) hfr) (Nat.le_trans (Nat.le_of_ble_eq_true rfl) hlo) (Nat.le_of_ble_eq_true rfl) ?_
      refine v_if_eq (tgt := 89) dX6_orderValue_82 (by decide) hF (fun hF => ?_) (fun hF => ?_)
      · refine v_iconst dX6_orderValue_89 (v := 0) (by decide) ?_
        cases hF
        exact v_iret dX6_orderValue_90 rfl rfl rfl rfl
      · refine v_iconst dX6_orderValue_85 (v := 1) (by decide) ?_
        refine v_goto (tgt := 90) dX6_orderValue_86 (by decide) ?_
        cases hF
        exact v_iret dX6_orderValue_90 rfl rfl rfl rfl
    · refine v_iconst dX6_orderValue_73 (v := -1) (by decide) ?_
      refine v_goto (tgt := 90) dX6_orderValue_74 (by decide) ?_
      cases hF
      exact v_iret dX6_orderValue_90 rfl rfl rfl rfl
theorem ct_T_orderValue {l : Launch} {G : GT} {m0 : Nat} {hb : Hp} {N : Nat} {M : TM} {r : Int32} {a1 : Int32} {a2 : Int32} (hF : T_orderValue N M a1 a2 = some r) : Ct l G yX6_orderValue (ws_ yX6_orderValue cX6_orderValue 3 (Option.some Jvm.ClassFile.FieldType.int)) 2 43 [.ref m0, .int a1, .int a2] (ovT m0 M hb) (some (.int r)) (ovT m0 M hb) :=
  ct_of (by decide) (Nat.le_of_ble_eq_true rfl) (w_T_orderValue (Nat.le_refl _) (Nat.le_refl _) hF)
theorem sl_X6_227 : SL RX6 227 yX6_sign 1 := ⟨q146, ⟨by decide, by decide⟩, by decide +kernel, q1901, Or.inl q1900⟩
theorem vl_X6_292 : ∀ ci ∈ [6], VL RX6 292 ci yX6_passes0 1 := by
  intro ci h
  simp only [List.mem_cons, List.not_mem_nil, or_false] at h
  subst h; exact ⟨RX6, TX6, 56, rfl, q146, ⟨by decide, by decide⟩, by decide +kernel, q1905, Or.inl ⟨q1903, qs66⟩⟩
theorem fl_X6_298 : FL RX6 298 [6] 25 := by
  intro ci h
  simp only [List.mem_cons, List.not_mem_nil, or_false] at h
  subst h; exact ⟨RX6, _, TX6, 56, rfl, in_X6, by decide, Or.inl q1659, Or.inl rfl⟩
theorem vl_X6_301 : ∀ ci ∈ [6], VL RX6 301 ci yX6_orderValue 2 := by
  intro ci h
  simp only [List.mem_cons, List.not_mem_nil, or_false] at h
  subst h; exact ⟨RX6, TX6, 56, rfl, q146, ⟨by decide, by decide⟩, by decide +kernel, q1909, Or.inl ⟨q1907, qs67⟩⟩
theorem vl_X6_295 : ∀ ci ∈ [6], VL RX6 295 ci yX6_sumOf 1 := by
  intro ci h
  simp only [List.mem_cons, List.not_mem_nil, or_false] at h
  subst h; exact ⟨RX6, TX6, 56, rfl, q146, ⟨by decide, by decide⟩, by decide +kernel, q1890, Or.inl ⟨q1888, qs63⟩⟩
def T_partOf_J94 (N : Nat) (f : Int32 → TM → Option (Int64 × TM)) (v6 : Int32) (v7 : Int32) (v8 : Int32) (M9 : TM) : Option (Int64 × TM) :=
  if v6 = 0 then
    some ((0 : Int64), M9)
  else
    if (M9.1 24) = 0 then
      if v7 = (50 : Int32) then
        (tra M9 2 5660 (((2860 : Int32) + (M9.1 22)) - (1 : Int32))).bind fun v12 =>
        some (v12.toInt64, M9)
      else
        if (M9.1 25) = 0 then
          (tra M9 26 9 (v7 - (8 : Int32))).bind fun v10 =>
          some (v10.toInt64, M9)
        else
          (T_orderValue N M9 v7 v8).bind fun v11 =>
          some (v11.toInt64, M9)
    else
      some ((0 : Int64), M9)
theorem w_T_partOf_J94 {l : Launch} {G : GT} {fr lo : Nat} {h0 : Hp} {m0 : Nat} {hb : Hp} {N : Nat} {f : Int32 → TM → Option (Int64 × TM)} {r : (Int64 × TM)} {frf lof : Nat} (hbf : 3 ≤ frf) (hbl : 65 ≤ lof) (hfr : frf + 1 ≤ fr) (hlo : lof + 26 ≤ lo) (hf : ∀ (a1 : Int32) (M : TM) (r : (Int64 × TM)), f a1 M = some r → Ct l G yX6_sumOf (ws_ yX6_sumOf cX6_sumOf 7 (Option.some Jvm.ClassFile.FieldType.long)) frf lof [.ref m0, .int a1] (ovT m0 M hb) (some (.long r.1)) (ovT m0 r.2 hb))   {v6 : Int32} {v7 : Int32} {v8 : Int32} {M9 : TM} (hF : T_partOf_J94 N f v6 v7 v8 M9 = some r) : V l G cX6_partOf RX6 "partOf" 4 (Option.some Jvm.ClassFile.FieldType.long) fr lo h0 (ovT m0 r.2 hb) (QM G (some (.long r.1)) h0 (ovT m0 r.2 hb)) 94 [(0, .ref m0), (1, .int v6), (2, .int v7), (3, .int v8)] [] (ovT m0 M9 hb) := by
  unfold T_partOf_J94 at hF
  refine v_iload_n dX6_partOf_94 rfl 1 rfl ?_
  refine v_if_eq (tgt := 105) dX6_partOf_95 (by decide) hF (fun hF => ?_) (fun hF => ?_)
  · refine v_lconst dX6_partOf_105 (v := 0) (by decide) ?_
    cases hF
    exact v_lret dX6_partOf_106 rfl rfl rfl
  · refine v_aload_n dX6_partOf_98 rfl 0 rfl ?_
    refine t_geti 24 dX6_partOf_99 fl_X6_278 rfl ?_
    refine v_if_eq (tgt := 107) dX6_partOf_102 (by decide) hF (fun hF => ?_) (fun hF => ?_)
    · refine v_iload_n dX6_partOf_107 rfl 2 rfl ?_
      refine v_bipush dX6_partOf_108 (v := 50) (by decide) ?_
      refine v_icmp_ne (tgt := 130) dX6_partOf_110 (by decide) hF (fun hF => ?_) (fun hF => ?_)
      · refine v_aload_n dX6_partOf_130 rfl 0 rfl ?_
        refine t_geti 25 dX6_partOf_131 fl_X6_298 rfl ?_
        refine v_if_eq (tgt := 147) dX6_partOf_134 (by decide) hF (fun hF => ?_) (fun hF => ?_)
        · refine v_aload_n dX6_partOf_147 rfl 0 rfl ?_
          refine t_geta 26 12 dX6_partOf_148 fl_X6_59 (Nat.le_of_ble_eq_true rfl) (fun _ _ => rfl) ?_
          refine v_iload_n dX6_partOf_151 rfl 2 rfl ?_
          refine v_bipush dX6_partOf_152 (v := 8) (by decide) ?_
          refine v_isub dX6_partOf_154 ?_
          refine t_iald 12 dX6_partOf_155 rfl (Nat.le_of_ble_eq_true rfl) (by decide) hF (fun v10 hF => ?_)
          refine v_i2l dX6_partOf_156 ?_
          cases hF
          exact v_lret dX6_partOf_157 rfl rfl rfl
        · refine v_aload_n dX6_partOf_137 rfl 0 rfl ?_
          refine v_iload_n dX6_partOf_138 rfl 2 rfl ?_
          refine v_iload_n dX6_partOf_139 rfl 3 rfl ?_
          obtain ⟨v11, e_v11, hF⟩ := Option.bind_eq_some_iff.mp hF
          refine v_calV1 dX6_partOf_140 vl_X6_301 q1910 rc_ov (ct_T_orderValue e_v11) rfl rfl (by omega) (by omega) (Nat.le_of_ble_eq_true rfl) ?_
          refine v_i2l dX6_partOf_143 ?_
          refine v_goto (tgt := 157) dX6_partOf_144 (by decide) ?_
          cases hF
          exact v_lret dX6_partOf_157 rfl rfl rfl
      · refine v_aload_n dX6_partOf_113 rfl 0 rfl ?_
        refine t_geta 2 2 dX6_partOf_114 fl_X6_24 (Nat.le_of_ble_eq_true rfl) (fun _ _ => rfl) ?_
        refine v_sipush dX6_partOf_117 (v := 2860) (by decide) ?_
        refine v_aload_n dX6_partOf_120 rfl 0 rfl ?_
        refine t_geti 22 dX6_partOf_121 fl_X6_268 rfl ?_
        refine v_iadd dX6_partOf_124 ?_
        refine v_iconst dX6_partOf_125 (v := 1) (by decide) ?_
        refine v_isub dX6_partOf_126 ?_
        refine t_iald 2 dX6_partOf_127 rfl (Nat.le_of_ble_eq_true rfl) (by decide) hF (fun v12 hF => ?_)
        refine v_i2l dX6_partOf_128 ?_
        cases hF
        exact v_lret dX6_partOf_129 rfl rfl rfl
    · refine v_lconst dX6_partOf_105 (v := 0) (by decide) ?_
      cases hF
      exact v_lret dX6_partOf_106 rfl rfl rfl
def T_partOf_J70 (N : Nat) (f : Int32 → TM → Option (Int64 × TM)) (v13 : Int32) (v14 : Int32) (M15 : TM) : Option (Int64 × TM) :=
  (tra M15 2 5660 ((2860 : Int32) + (M15.1 22))).bind fun v16 =>
  (some (tsi M15 22 ((M15.1 22) + (1 : Int32)))).bind fun (M17 : TM) =>
  T_partOf_J94 N f v13 v14 v16 M17
theorem w_T_partOf_J70 {l : Launch} {G : GT} {fr lo : Nat} {h0 : Hp} {m0 : Nat} {hb : Hp} {N : Nat} {f : Int32 → TM → Option (Int64 × TM)} {r : (Int64 × TM)} {frf lof : Nat} (hbf : 3 ≤ frf) (hbl : 65 ≤ lof) (hfr : frf + 1 ≤ fr) (hlo : lof + 26 ≤ lo) (hf : ∀ (a1 : Int32) (M : TM) (r : (Int64 × TM)), f a1 M = some r → Ct l G yX6_sumOf (ws_ yX6_sumOf cX6_sumOf 7 (Option.some Jvm.ClassFile.FieldType.long)) frf lof [.ref m0, .int a1] (ovT m0 M hb) (some (.long r.1)) (ovT m0 r.2 hb))   {v13 : Int32} {v14 : Int32} {M15 : TM} (hF : T_partOf_J70 N f v13 v14 M15 = some r) : V l G cX6_partOf RX6 "partOf" 4 (Option.some Jvm.ClassFile.FieldType.long) fr lo h0 (ovT m0 r.2 hb) (QM G (some (.long r.1)) h0 (ovT m0 r.2 hb)) 70 [(0, .ref m0), (1, .int v13), (2, .int v14)] [] (ovT m0 M15 hb) := by
  unfold T_partOf_J70 at hF
  refine v_aload_n dX6_partOf_70 rfl 0 rfl ?_
  refine t_geta 2 2 dX6_partOf_71 fl_X6_24 (Nat.le_of_ble_eq_true rfl) (fun _ _ => rfl) ?_
  refine v_sipush dX6_partOf_74 (v := 2860) (by decide) ?_
  refine v_aload_n dX6_partOf_77 rfl 0 rfl ?_
  refine t_geti 22 dX6_partOf_78 fl_X6_268 rfl ?_
  refine v_iadd dX6_partOf_81 ?_
  refine t_iald 2 dX6_partOf_82 rfl (Nat.le_of_ble_eq_true rfl) (by decide) hF (fun v16 hF => ?_)
  refine v_istore_n dX6_partOf_83 rfl (Nat.le_of_ble_eq_true rfl) (L' := [(3, .int v16), (0, .ref m0), (1, .int v13), (2, .int v14)]) rfl ?_
  refine v_aload_n dX6_partOf_84 rfl 1 rfl ?_
  refine v_dup dX6_partOf_85 rfl ?_
  refine t_geti 22 dX6_partOf_86 fl_X6_268 rfl ?_
  refine v_iconst dX6_partOf_89 (v := 1) (by decide) ?_
  refine v_iadd dX6_partOf_90 ?_
  refine t_puti 22 dX6_partOf_91 pl_X6_268 rfl ?_
  refine v_letM hF (fun M17 hF => ?_)
  exact v_sub [1, 2, 3, 0] rfl (w_T_partOf_J94 hbf hbl hfr hlo hf hF)
def T_partOf (N : Nat) (f : Int32 → TM → Option (Int64 × TM)) (a1 : Int32) (M : TM) : Option (Int64 × TM) :=
  (T_sign (91 : Int32)).bind fun v1 =>
  bd2 (T_passes0 v1 M) fun v3 M2 =>
  if v3 = 0 then
    (T_codeAt M2 (M2.1 22)).bind fun v4 =>
    (some (tsi M2 22 ((M2.1 22) + (1 : Int32)))).bind fun (M5 : TM) =>
    if (M5.1 25) = 0 then
      T_partOf_J94 N f a1 v4 (0 : Int32) M5
    else
      if v4 = (14 : Int32) then
        T_partOf_J70 N f a1 v4 M5
      else
        if v4 = (20 : Int32) then
          T_partOf_J70 N f a1 v4 M5
        else
          T_partOf_J94 N f a1 v4 (0 : Int32) M5
  else
    bd2 (f a1 M2) fun v19 M18 =>
    (some (tsi M18 22 ((M18.1 22) + (1 : Int32)))).bind fun (M20 : TM) =>
    some (v19, M20)
theorem w_T_partOf {l : Launch} {G : GT} {fr lo : Nat} {h0 : Hp} {m0 : Nat} {hb : Hp} {N : Nat} {f : Int32 → TM → Option (Int64 × TM)} {r : (Int64 × TM)} {frf lof : Nat} (hbf : 3 ≤ frf) (hbl : 65 ≤ lof) (hfr : frf + 1 ≤ fr) (hlo : lof + 26 ≤ lo) (hf : ∀ (a1 : Int32) (M : TM) (r : (Int64 × TM)), f a1 M = some r → Ct l G yX6_sumOf (ws_ yX6_sumOf cX6_sumOf 7 (Option.some Jvm.ClassFile.FieldType.long)) frf lof [.ref m0, .int a1] (ovT m0 M hb) (some (.long r.1)) (ovT m0 r.2 hb)) {a1 : Int32} {M : TM} (hF : T_partOf N f a1 M = some r) : V l G cX6_partOf RX6 "partOf" 4 (Option.some Jvm.ClassFile.FieldType.long) fr lo h0 (ovT m0 r.2 hb) (QM G (some (.long r.1)) h0 (ovT m0 r.2 hb)) 0 [(0, .ref m0), (1, .int a1)] [] (ovT m0 M hb) := by
  unfold T_partOf at hF
  refine v_aload_n dX6_partOf_0 rfl 0 rfl ?_
  refine v_bipush dX6_partOf_1 (v := 91) (by decide) ?_
  obtain ⟨v1, e_v1, hF⟩ := Option.bind_eq_some_iff.mp hF
  refine v_calS1 dX6_partOf_3 sl_X6_227 q1902 (ct_T_sign e_v1) rfl rfl (by omega) (by omega) (Nat.le_of_ble_eq_true rfl) ?_
  obtain ⟨v3, M2, e_v3, hF⟩ := bd2_spec hF
  refine v_calV1 dX6_partOf_6 vl_X6_292 q1906 rc_ov (ct_T_passes0 e_v3) rfl rfl (by omega) (by omega) (Nat.le_of_ble_eq_true rfl) ?_
  refine v_if_eq (tgt := 30) dX6_partOf_9 (by decide) hF (fun hF => ?_) (fun hF => ?_)
  · refine v_aload_n dX6_partOf_30 rfl 0 rfl ?_
    refine v_aload_n dX6_partOf_31 rfl 0 rfl ?_
    refine t_geti 22 dX6_partOf_32 fl_X6_268 rfl ?_
    obtain ⟨v4, e_v4, hF⟩ := Option.bind_eq_some_iff.mp hF
    refine v_calV1 dX6_partOf_35 vl_X6_271 q1887 rc_ov (ct_T_codeAt e_v4) rfl rfl (by omega) (by omega) (Nat.le_of_ble_eq_true rfl) ?_
    refine v_istore_n dX6_partOf_38 rfl (Nat.le_of_ble_eq_true rfl) (L' := [(2, .int v4), (0, .ref m0), (1, .int a1)]) rfl ?_
    refine v_iconst dX6_partOf_39 (v := 0) (by decide) ?_
    refine v_istore_n dX6_partOf_40 rfl (Nat.le_of_ble_eq_true rfl) (L' := [(3, .int (0 : Int32)), (2, .int v4), (0, .ref m0), (1, .int a1)]) rfl ?_
    refine v_aload_n dX6_partOf_41 rfl 2 rfl ?_
    refine v_dup dX6_partOf_42 rfl ?_
    refine t_geti 22 dX6_partOf_43 fl_X6_268 rfl ?_
    refine v_iconst dX6_partOf_46 (v := 1) (by decide) ?_
    refine v_iadd dX6_partOf_47 ?_
    refine t_puti 22 dX6_partOf_48 pl_X6_268 rfl ?_
    refine v_letM hF (fun M5 hF => ?_)
    refine v_aload_n dX6_partOf_51 rfl 2 rfl ?_
    refine t_geti 25 dX6_partOf_52 fl_X6_298 rfl ?_
    refine v_if_eq (tgt := 94) dX6_partOf_55 (by decide) hF (fun hF => ?_) (fun hF => ?_)
    · exact v_sub [2, 3, 1, 0] rfl (w_T_partOf_J94 hbf hbl hfr hlo hf hF)
    · refine v_iload_n dX6_partOf_58 rfl 1 rfl ?_
      refine v_bipush dX6_partOf_59 (v := 14) (by decide) ?_
      refine v_icmp_eq (tgt := 70) dX6_partOf_61 (by decide) hF (fun hF => ?_) (fun hF => ?_)
      · exact v_sub [2, 3, 1] rfl (w_T_partOf_J70 hbf hbl hfr hlo hf hF)
      · refine v_iload_n dX6_partOf_64 rfl 1 rfl ?_
        refine v_bipush dX6_partOf_65 (v := 20) (by decide) ?_
        refine v_icmp_ne (tgt := 94) dX6_partOf_67 (by decide) hF (fun hF => ?_) (fun hF => ?_)
        · exact v_sub [2, 3, 1, 0] rfl (w_T_partOf_J94 hbf hbl hfr hlo hf hF)
        · exact v_sub [2, 3, 1] rfl (w_T_partOf_J70 hbf hbl hfr hlo hf hF)
  · refine v_aload_n dX6_partOf_12 rfl 0 rfl ?_
    refine v_iload_n dX6_partOf_13 rfl 1 rfl ?_
    obtain ⟨v19, M18, e_v19, hF⟩ := bd2_spec hF
    refine v_calV1 dX6_partOf_14 vl_X6_295 q1891 rc_ov (hf _ _ _ e_v19) rfl rfl (by omega) (by omega) (Nat.le_of_ble_eq_true rfl) ?_
    refine v_lstore_n dX6_partOf_17 rfl (Nat.le_of_ble_eq_true rfl) (L' := [(2, .long v19), (0, .ref m0), (1, .int a1)]) rfl ?_
    refine v_aload_n dX6_partOf_18 rfl 1 rfl ?_
    refine v_dup dX6_partOf_19 rfl ?_
    refine t_geti 22 dX6_partOf_20 fl_X6_268 rfl ?_
    refine v_iconst dX6_partOf_23 (v := 1) (by decide) ?_
    refine v_iadd dX6_partOf_24 ?_
    refine t_puti 22 dX6_partOf_25 pl_X6_268 rfl ?_
    refine v_letM hF (fun M20 hF => ?_)
    refine v_lload_n dX6_partOf_28 rfl 0 rfl ?_
    cases hF
    exact v_lret dX6_partOf_29 rfl rfl rfl
theorem ct_T_partOf {l : Launch} {G : GT} {m0 : Nat} {hb : Hp} {N : Nat} {f : Int32 → TM → Option (Int64 × TM)} {frf lof : Nat} (hbf : 3 ≤ frf) (hbl : 65 ≤ lof) (hf : ∀ (a1 : Int32) (M : TM) (r : (Int64 × TM)), f a1 M = some r → Ct l G yX6_sumOf (ws_ yX6_sumOf cX6_sumOf 7 (Option.some Jvm.ClassFile.FieldType.long)) frf lof [.ref m0, .int a1] (ovT m0 M hb) (some (.long r.1)) (ovT m0 r.2 hb)) {r : (Int64 × TM)} {a1 : Int32} {M : TM} (hF : T_partOf N f a1 M = some r) : Ct l G yX6_partOf (ws_ yX6_partOf cX6_partOf 4 (Option.some Jvm.ClassFile.FieldType.long)) (frf + 1) (lof + 26) [.ref m0, .int a1] (ovT m0 M hb) (some (.long r.1)) (ovT m0 r.2 hb) :=
  ct_of (by decide) (Nat.le_of_ble_eq_true rfl) (w_T_partOf hbf hbl (Nat.le_refl _) (Nat.le_refl _) hf hF)
theorem vl_X6_289 : ∀ ci ∈ [6], VL RX6 289 ci yX6_partOf 1 := by
  intro ci h
  simp only [List.mem_cons, List.not_mem_nil, or_false] at h
  subst h; exact ⟨RX6, TX6, 56, rfl, q146, ⟨by decide, by decide⟩, by decide +kernel, q1898, Or.inl ⟨q1896, qs65⟩⟩
theorem vl_X6_285 : ∀ ci ∈ [6], VL RX6 285 ci yX6_bounded 2 := by
  intro ci h
  simp only [List.mem_cons, List.not_mem_nil, or_false] at h
  subst h; exact ⟨RX6, TX6, 56, rfl, q146, ⟨by decide, by decide⟩, by decide +kernel, q1925, Or.inl ⟨q1923, qs71⟩⟩
def T_termOf_J160 (N : Nat) (f : Int32 → TM → Option (Int64 × TM)) (c6 : Int32 → Int64 → TM → Option (Int64 × TM)) (v25 : Int32) (v26 : Int64) (M27 : TM) : Option (Int64 × TM) :=
  bd2 (T_bounded v26 v25 M27) fun v29 M28 =>
  c6 v25 v29 M28
theorem w_T_termOf_J160 {l : Launch} {G : GT} {fr lo : Nat} {h0 : Hp} {m0 : Nat} {hb : Hp} {N : Nat} {f : Int32 → TM → Option (Int64 × TM)} {r : (Int64 × TM)} {frf lof : Nat} (hbf : 3 ≤ frf) (hbl : 65 ≤ lof) (hfr : frf + 2 ≤ fr) (hlo : lof + 49 ≤ lo) (hf : ∀ (a1 : Int32) (M : TM) (r : (Int64 × TM)), f a1 M = some r → Ct l G yX6_sumOf (ws_ yX6_sumOf cX6_sumOf 7 (Option.some Jvm.ClassFile.FieldType.long)) frf lof [.ref m0, .int a1] (ovT m0 M hb) (some (.long r.1)) (ovT m0 r.2 hb)) {c6 : Int32 → Int64 → TM → Option (Int64 × TM)} (hc6 : ∀ (v3 : Int32) (v4 : Int64) (M5 : TM), c6 v3 v4 M5 = some r → V l G cX6_termOf RX6 "termOf" 7 (Option.some Jvm.ClassFile.FieldType.long) fr lo h0 (ovT m0 r.2 hb) (QM G (some (.long r.1)) h0 (ovT m0 r.2 hb)) 6 [(0, .ref m0), (1, .int v3), (2, .long v4)] [] (ovT m0 M5 hb)) {v25 : Int32} {v26 : Int64} {M27 : TM} (hF : T_termOf_J160 N f c6 v25 v26 M27 = some r) : V l G cX6_termOf RX6 "termOf" 7 (Option.some Jvm.ClassFile.FieldType.long) fr lo h0 (ovT m0 r.2 hb) (QM G (some (.long r.1)) h0 (ovT m0 r.2 hb)) 160 [(0, .ref m0), (1, .int v25)] [.long v26, .ref m0] (ovT m0 M27 hb) := by
  unfold T_termOf_J160 at hF
  refine v_iload_n dX6_termOf_160 rfl 1 rfl ?_
  obtain ⟨v29, M28, e_v29, hF⟩ := bd2_spec hF
  refine v_calV1 dX6_termOf_161 vl_X6_285 q1926 rc_ov (ct_T_bounded e_v29) rfl rfl (by omega) (by omega) (Nat.le_of_ble_eq_true rfl) ?_
  refine v_lstore_n dX6_termOf_164 rfl (Nat.le_of_ble_eq_true rfl) (L' := [(2, .long v29), (0, .ref m0), (1, .int v25)]) rfl ?_
  refine v_goto (tgt := 6) dX6_termOf_165 (by decide) ?_
  exact v_sub [1, 2, 0] rfl (hc6 _ _ _ hF)
def T_termOf_J121 (N : Nat) (f : Int32 → TM → Option (Int64 × TM)) (c6 : Int32 → Int64 → TM → Option (Int64 × TM)) (v18 : Int32) (v19 : Int64) (v20 : Int32) (v21 : Int64) (M22 : TM) : Option (Int64 × TM) :=
  (T_sign (42 : Int32)).bind fun v23 =>
  if v20 = v23 then
    T_termOf_J160 N f c6 v18 (v19 * v21) M22
  else
    (T_sign (47 : Int32)).bind fun v24 =>
    if v20 = v24 then
      if v21 = 0 then none else
      T_termOf_J160 N f c6 v18 (v19 / v21) M22
    else
      if v21 = 0 then none else
      T_termOf_J160 N f c6 v18 (v19 - v19 / v21 * v21) M22
theorem w_T_termOf_J121 {l : Launch} {G : GT} {fr lo : Nat} {h0 : Hp} {m0 : Nat} {hb : Hp} {N : Nat} {f : Int32 → TM → Option (Int64 × TM)} {r : (Int64 × TM)} {frf lof : Nat} (hbf : 3 ≤ frf) (hbl : 65 ≤ lof) (hfr : frf + 2 ≤ fr) (hlo : lof + 49 ≤ lo) (hf : ∀ (a1 : Int32) (M : TM) (r : (Int64 × TM)), f a1 M = some r → Ct l G yX6_sumOf (ws_ yX6_sumOf cX6_sumOf 7 (Option.some Jvm.ClassFile.FieldType.long)) frf lof [.ref m0, .int a1] (ovT m0 M hb) (some (.long r.1)) (ovT m0 r.2 hb)) {c6 : Int32 → Int64 → TM → Option (Int64 × TM)} (hc6 : ∀ (v3 : Int32) (v4 : Int64) (M5 : TM), c6 v3 v4 M5 = some r → V l G cX6_termOf RX6 "termOf" 7 (Option.some Jvm.ClassFile.FieldType.long) fr lo h0 (ovT m0 r.2 hb) (QM G (some (.long r.1)) h0 (ovT m0 r.2 hb)) 6 [(0, .ref m0), (1, .int v3), (2, .long v4)] [] (ovT m0 M5 hb)) {v18 : Int32} {v19 : Int64} {v20 : Int32} {v21 : Int64} {M22 : TM} (hF : T_termOf_J121 N f c6 v18 v19 v20 v21 M22 = some r) : V l G cX6_termOf RX6 "termOf" 7 (Option.some Jvm.ClassFile.FieldType.long) fr lo h0 (ovT m0 r.2 hb) (QM G (some (.long r.1)) h0 (ovT m0 r.2 hb)) 121 [(0, .ref m0), (1, .int v18), (2, .long v19), (4, .int v20), (5, .long v21)] [] (ovT m0 M22 hb) := by
  unfold T_termOf_J121 at hF
  refine v_aload_n dX6_termOf_121 rfl 0 rfl ?_
  refine v_iload dX6_termOf_122 3 rfl ?_
  refine v_bipush dX6_termOf_124 (v := 42) (by decide) ?_
  obtain ⟨v23, e_v23, hF⟩ := Option.bind_eq_some_iff.mp hF
  refine v_calS1 dX6_termOf_126 sl_X6_227 q1902 (ct_T_sign e_v23) rfl rfl (by omega) (by omega) (Nat.le_of_ble_eq_true rfl) ?_
  refine v_icmp_ne (tgt := 139) dX6_termOf_129 (by decide) hF (fun hF => ?_) (fun hF => ?_)
  · refine v_iload dX6_termOf_139 3 rfl ?_
    refine v_bipush dX6_termOf_141 (v := 47) (by decide) ?_
    obtain ⟨v24, e_v24, hF⟩ := Option.bind_eq_some_iff.mp hF
    refine v_calS1 dX6_termOf_143 sl_X6_227 q1902 (ct_T_sign e_v24) rfl rfl (by omega) (by omega) (Nat.le_of_ble_eq_true rfl) ?_
    refine v_icmp_ne (tgt := 156) dX6_termOf_146 (by decide) hF (fun hF => ?_) (fun hF => ?_)
    · refine v_lload_n dX6_termOf_156 rfl 2 rfl ?_
      refine v_lload dX6_termOf_157 4 rfl ?_
      refine v_lrem dX6_termOf_159 hF (fun hF => ?_)
      exact v_sub [0, 1] rfl (w_T_termOf_J160 hbf hbl hfr hlo hf hc6 hF)
    · refine v_lload_n dX6_termOf_149 rfl 2 rfl ?_
      refine v_lload dX6_termOf_150 4 rfl ?_
      refine v_ldiv dX6_termOf_152 hF (fun hF => ?_)
      refine v_goto (tgt := 160) dX6_termOf_153 (by decide) ?_
      exact v_sub [0, 1] rfl (w_T_termOf_J160 hbf hbl hfr hlo hf hc6 hF)
  · refine v_lload_n dX6_termOf_132 rfl 2 rfl ?_
    refine v_lload dX6_termOf_133 4 rfl ?_
    refine v_lmul dX6_termOf_135 ?_
    refine v_goto (tgt := 160) dX6_termOf_136 (by decide) ?_
    exact v_sub [0, 1] rfl (w_T_termOf_J160 hbf hbl hfr hlo hf hc6 hF)
def T_termOf_J115 (N : Nat) (f : Int32 → TM → Option (Int64 × TM)) (c6 : Int32 → Int64 → TM → Option (Int64 × TM)) (v34 : Int32) (v35 : Int64) (v36 : Int32) (v37 : Int32) (M38 : TM) : Option (Int64 × TM) :=
  (tsz M38 24 v37).bind fun M39 =>
  T_termOf_J121 N f c6 v34 v35 v36 (1 : Int64) M39
theorem w_T_termOf_J115 {l : Launch} {G : GT} {fr lo : Nat} {h0 : Hp} {m0 : Nat} {hb : Hp} {N : Nat} {f : Int32 → TM → Option (Int64 × TM)} {r : (Int64 × TM)} {frf lof : Nat} (hbf : 3 ≤ frf) (hbl : 65 ≤ lof) (hfr : frf + 2 ≤ fr) (hlo : lof + 49 ≤ lo) (hf : ∀ (a1 : Int32) (M : TM) (r : (Int64 × TM)), f a1 M = some r → Ct l G yX6_sumOf (ws_ yX6_sumOf cX6_sumOf 7 (Option.some Jvm.ClassFile.FieldType.long)) frf lof [.ref m0, .int a1] (ovT m0 M hb) (some (.long r.1)) (ovT m0 r.2 hb)) {c6 : Int32 → Int64 → TM → Option (Int64 × TM)} (hc6 : ∀ (v3 : Int32) (v4 : Int64) (M5 : TM), c6 v3 v4 M5 = some r → V l G cX6_termOf RX6 "termOf" 7 (Option.some Jvm.ClassFile.FieldType.long) fr lo h0 (ovT m0 r.2 hb) (QM G (some (.long r.1)) h0 (ovT m0 r.2 hb)) 6 [(0, .ref m0), (1, .int v3), (2, .long v4)] [] (ovT m0 M5 hb)) {v34 : Int32} {v35 : Int64} {v36 : Int32} {v37 : Int32} {M38 : TM} (hF : T_termOf_J115 N f c6 v34 v35 v36 v37 M38 = some r) : V l G cX6_termOf RX6 "termOf" 7 (Option.some Jvm.ClassFile.FieldType.long) fr lo h0 (ovT m0 r.2 hb) (QM G (some (.long r.1)) h0 (ovT m0 r.2 hb)) 115 [(0, .ref m0), (1, .int v34), (2, .long v35), (4, .int v36)] [.int v37, .ref m0] (ovT m0 M38 hb) := by
  unfold T_termOf_J115 at hF
  refine t_putz 24 dX6_termOf_115 pl_X6_278 rfl hF (fun M39 hF => ?_)
  refine v_lconst dX6_termOf_118 (v := 1) (by decide) ?_
  refine v_lstore dX6_termOf_119 (Nat.le_of_ble_eq_true rfl) (L' := [(5, .long (1 : Int64)), (0, .ref m0), (1, .int v34), (2, .long v35), (4, .int v36)]) rfl ?_
  exact v_sub [1, 2, 3, 4, 0] rfl (w_T_termOf_J121 hbf hbl hfr hlo hf hc6 hF)
def T_termOf_J110 (N : Nat) (f : Int32 → TM → Option (Int64 × TM)) (c6 : Int32 → Int64 → TM → Option (Int64 × TM)) (v30 : Int32) (v31 : Int64) (v32 : Int32) (M33 : TM) : Option (Int64 × TM) :=
  T_termOf_J115 N f c6 v30 v31 v32 (1 : Int32) M33
theorem w_T_termOf_J110 {l : Launch} {G : GT} {fr lo : Nat} {h0 : Hp} {m0 : Nat} {hb : Hp} {N : Nat} {f : Int32 → TM → Option (Int64 × TM)} {r : (Int64 × TM)} {frf lof : Nat} (hbf : 3 ≤ frf) (hbl : 65 ≤ lof) (hfr : frf + 2 ≤ fr) (hlo : lof + 49 ≤ lo) (hf : ∀ (a1 : Int32) (M : TM) (r : (Int64 × TM)), f a1 M = some r → Ct l G yX6_sumOf (ws_ yX6_sumOf cX6_sumOf 7 (Option.some Jvm.ClassFile.FieldType.long)) frf lof [.ref m0, .int a1] (ovT m0 M hb) (some (.long r.1)) (ovT m0 r.2 hb)) {c6 : Int32 → Int64 → TM → Option (Int64 × TM)} (hc6 : ∀ (v3 : Int32) (v4 : Int64) (M5 : TM), c6 v3 v4 M5 = some r → V l G cX6_termOf RX6 "termOf" 7 (Option.some Jvm.ClassFile.FieldType.long) fr lo h0 (ovT m0 r.2 hb) (QM G (some (.long r.1)) h0 (ovT m0 r.2 hb)) 6 [(0, .ref m0), (1, .int v3), (2, .long v4)] [] (ovT m0 M5 hb)) {v30 : Int32} {v31 : Int64} {v32 : Int32} {M33 : TM} (hF : T_termOf_J110 N f c6 v30 v31 v32 M33 = some r) : V l G cX6_termOf RX6 "termOf" 7 (Option.some Jvm.ClassFile.FieldType.long) fr lo h0 (ovT m0 r.2 hb) (QM G (some (.long r.1)) h0 (ovT m0 r.2 hb)) 110 [(0, .ref m0), (1, .int v30), (2, .long v31), (4, .int v32)] [.ref m0] (ovT m0 M33 hb) := by
  unfold T_termOf_J110 at hF
  refine v_iconst dX6_termOf_110 (v := 1) (by decide) ?_
  refine v_goto (tgt := 115) dX6_termOf_111 (by decide) ?_
  exact v_sub [0, 1, 2, 3] rfl (w_T_termOf_J115 hbf hbl hfr hlo hf hc6 hF)
def T_termOf_J54 (N : Nat) (f : Int32 → TM → Option (Int64 × TM)) (c6 : Int32 → Int64 → TM → Option (Int64 × TM)) (v10 : Int32) (v11 : Int64) (M12 : TM) : Option (Int64 × TM) :=
  (T_codeAt M12 (M12.1 22)).bind fun v13 =>
  (some (tsi M12 22 ((M12.1 22) + (1 : Int32)))).bind fun (M14 : TM) =>
  bd2 (T_partOf N f v10 M14) fun v16 M15 =>
  (T_sign (42 : Int32)).bind fun v17 =>
  if v13 = v17 then
    T_termOf_J121 N f c6 v10 v11 v13 v16 M15
  else
    if (lg_cmp v16 (0 : Int64)) = 0 then
      if (M15.1 24) = 0 then
        if v10 = 0 then
          T_termOf_J115 N f c6 v10 v11 v13 (0 : Int32) M15
        else
          T_termOf_J110 N f c6 v10 v11 v13 M15
      else
        T_termOf_J110 N f c6 v10 v11 v13 M15
    else
      T_termOf_J121 N f c6 v10 v11 v13 v16 M15
theorem w_T_termOf_J54 {l : Launch} {G : GT} {fr lo : Nat} {h0 : Hp} {m0 : Nat} {hb : Hp} {N : Nat} {f : Int32 → TM → Option (Int64 × TM)} {r : (Int64 × TM)} {frf lof : Nat} (hbf : 3 ≤ frf) (hbl : 65 ≤ lof) (hfr : frf + 2 ≤ fr) (hlo : lof + 49 ≤ lo) (hf : ∀ (a1 : Int32) (M : TM) (r : (Int64 × TM)), f a1 M = some r → Ct l G yX6_sumOf (ws_ yX6_sumOf cX6_sumOf 7 (Option.some Jvm.ClassFile.FieldType.long)) frf lof [.ref m0, .int a1] (ovT m0 M hb) (some (.long r.1)) (ovT m0 r.2 hb)) {c6 : Int32 → Int64 → TM → Option (Int64 × TM)} (hc6 : ∀ (v3 : Int32) (v4 : Int64) (M5 : TM), c6 v3 v4 M5 = some r → V l G cX6_termOf RX6 "termOf" 7 (Option.some Jvm.ClassFile.FieldType.long) fr lo h0 (ovT m0 r.2 hb) (QM G (some (.long r.1)) h0 (ovT m0 r.2 hb)) 6 [(0, .ref m0), (1, .int v3), (2, .long v4)] [] (ovT m0 M5 hb)) {v10 : Int32} {v11 : Int64} {M12 : TM} (hF : T_termOf_J54 N f c6 v10 v11 M12 = some r) : V l G cX6_termOf RX6 "termOf" 7 (Option.some Jvm.ClassFile.FieldType.long) fr lo h0 (ovT m0 r.2 hb) (QM G (some (.long r.1)) h0 (ovT m0 r.2 hb)) 54 [(0, .ref m0), (1, .int v10), (2, .long v11)] [] (ovT m0 M12 hb) := by
  unfold T_termOf_J54 at hF
  refine v_aload_n dX6_termOf_54 rfl 0 rfl ?_
  refine v_aload_n dX6_termOf_55 rfl 0 rfl ?_
  refine t_geti 22 dX6_termOf_56 fl_X6_268 rfl ?_
  obtain ⟨v13, e_v13, hF⟩ := Option.bind_eq_some_iff.mp hF
  refine v_calV1 dX6_termOf_59 vl_X6_271 q1887 rc_ov (ct_T_codeAt e_v13) rfl rfl (by omega) (by omega) (Nat.le_of_ble_eq_true rfl) ?_
  refine v_istore dX6_termOf_62 (Nat.le_of_ble_eq_true rfl) (L' := [(4, .int v13), (0, .ref m0), (1, .int v10), (2, .long v11)]) rfl ?_
  refine v_aload_n dX6_termOf_64 rfl 1 rfl ?_
  refine v_dup dX6_termOf_65 rfl ?_
  refine t_geti 22 dX6_termOf_66 fl_X6_268 rfl ?_
  refine v_iconst dX6_termOf_69 (v := 1) (by decide) ?_
  refine v_iadd dX6_termOf_70 ?_
  refine t_puti 22 dX6_termOf_71 pl_X6_268 rfl ?_
  refine v_letM hF (fun M14 hF => ?_)
  refine v_aload_n dX6_termOf_74 rfl 1 rfl ?_
  refine v_iload_n dX6_termOf_75 rfl 2 rfl ?_
  obtain ⟨v16, M15, e_v16, hF⟩ := bd2_spec hF
  refine v_calV1 dX6_termOf_76 vl_X6_289 q1899 rc_ov (ct_T_partOf (by omega) (by omega) hf e_v16) rfl rfl (by omega) (by omega) (Nat.le_of_ble_eq_true rfl) ?_
  refine v_lstore dX6_termOf_79 (Nat.le_of_ble_eq_true rfl) (L' := [(5, .long v16), (4, .int v13), (0, .ref m0), (1, .int v10), (2, .long v11)]) rfl ?_
  refine v_iload dX6_termOf_81 1 rfl ?_
  refine v_bipush dX6_termOf_83 (v := 42) (by decide) ?_
  obtain ⟨v17, e_v17, hF⟩ := Option.bind_eq_some_iff.mp hF
  refine v_calS1 dX6_termOf_85 sl_X6_227 q1902 (ct_T_sign e_v17) rfl rfl (by omega) (by omega) (Nat.le_of_ble_eq_true rfl) ?_
  refine v_icmp_eq (tgt := 121) dX6_termOf_88 (by decide) hF (fun hF => ?_) (fun hF => ?_)
  · exact v_sub [2, 3, 4, 1, 0] rfl (w_T_termOf_J121 hbf hbl hfr hlo hf hc6 hF)
  · refine v_lload dX6_termOf_91 0 rfl ?_
    refine v_lconst dX6_termOf_93 (v := 0) (by decide) ?_
    refine v_lcmp dX6_termOf_94 ?_
    refine v_if_ne (tgt := 121) dX6_termOf_95 (by decide) hF (fun hF => ?_) (fun hF => ?_)
    · exact v_sub [2, 3, 4, 1, 0] rfl (w_T_termOf_J121 hbf hbl hfr hlo hf hc6 hF)
    · refine v_aload_n dX6_termOf_98 rfl 2 rfl ?_
      refine v_aload_n dX6_termOf_99 rfl 2 rfl ?_
      refine t_geti 24 dX6_termOf_100 fl_X6_278 rfl ?_
      refine v_if_ne (tgt := 110) dX6_termOf_103 (by decide) hF (fun hF => ?_) (fun hF => ?_)
      · exact v_sub [2, 3, 4, 1] rfl (w_T_termOf_J110 hbf hbl hfr hlo hf hc6 hF)
      · refine v_iload_n dX6_termOf_106 rfl 3 rfl ?_
        refine v_if_eq (tgt := 114) dX6_termOf_107 (by decide) hF (fun hF => ?_) (fun hF => ?_)
        · refine v_iconst dX6_termOf_114 (v := 0) (by decide) ?_
          exact v_sub [2, 3, 4, 1] rfl (w_T_termOf_J115 hbf hbl hfr hlo hf hc6 hF)
        · exact v_sub [2, 3, 4, 1] rfl (w_T_termOf_J110 hbf hbl hfr hlo hf hc6 hF)
def T_termOf_L6 (N : Nat) (f : Int32 → TM → Option (Int64 × TM)) (x6 : Int64 → TM → Option (Int64 × TM)) : Nat → Int32 → Int64 → TM → Option (Int64 × TM)
  | 0, _, _, _ => none
  | n44 + 1, v3, v4, M5 =>
    (T_codeAt M5 (M5.1 22)).bind fun v8 =>
    (T_sign (42 : Int32)).bind fun v9 =>
    if v8 = v9 then
      T_termOf_J54 N f (T_termOf_L6 N f x6 n44) v3 v4 M5
    else
      (T_codeAt M5 (M5.1 22)).bind fun v40 =>
      (T_sign (47 : Int32)).bind fun v41 =>
      if v40 = v41 then
        T_termOf_J54 N f (T_termOf_L6 N f x6 n44) v3 v4 M5
      else
        (T_codeAt M5 (M5.1 22)).bind fun v42 =>
        (T_sign (37 : Int32)).bind fun v43 =>
        if v42 = v43 then
          T_termOf_J54 N f (T_termOf_L6 N f x6 n44) v3 v4 M5
        else
          x6 v4 M5
theorem w_T_termOf_L6 {l : Launch} {G : GT} {fr lo : Nat} {h0 : Hp} {m0 : Nat} {hb : Hp} {N : Nat} {f : Int32 → TM → Option (Int64 × TM)} {r : (Int64 × TM)} {frf lof : Nat} (hbf : 3 ≤ frf) (hbl : 65 ≤ lof) (hfr : frf + 2 ≤ fr) (hlo : lof + 49 ≤ lo) (hf : ∀ (a1 : Int32) (M : TM) (r : (Int64 × TM)), f a1 M = some r → Ct l G yX6_sumOf (ws_ yX6_sumOf cX6_sumOf 7 (Option.some Jvm.ClassFile.FieldType.long)) frf lof [.ref m0, .int a1] (ovT m0 M hb) (some (.long r.1)) (ovT m0 r.2 hb)) {x6 : Int64 → TM → Option (Int64 × TM)} (hx6 : ∀ (v6 : Int64) (M7 : TM), x6 v6 M7 = some r → V l G cX6_termOf RX6 "termOf" 7 (Option.some Jvm.ClassFile.FieldType.long) fr lo h0 (ovT m0 r.2 hb) (QM G (some (.long r.1)) h0 (ovT m0 r.2 hb)) 168 [(2, .long v6)] [] (ovT m0 M7 hb)) : ∀ (n : Nat) (v3 : Int32) (v4 : Int64) (M5 : TM), T_termOf_L6 N f x6 n v3 v4 M5 = some r → V l G cX6_termOf RX6 "termOf" 7 (Option.some Jvm.ClassFile.FieldType.long) fr lo h0 (ovT m0 r.2 hb) (QM G (some (.long r.1)) h0 (ovT m0 r.2 hb)) 6 [(0, .ref m0), (1, .int v3), (2, .long v4)] [] (ovT m0 M5 hb) := by
  intro n
  induction n with
  | zero =>
    intro v3 v4 M5 hF
    cases (show (none : Option (Int64 × TM)) = some r from hF)
  | succ n hc6 =>
    intro v3 v4 M5 hF
    rw [T_termOf_L6] at hF
    refine v_aload_n dX6_termOf_6 rfl 0 rfl ?_
    refine v_aload_n dX6_termOf_7 rfl 0 rfl ?_
    refine t_geti 22 dX6_termOf_8 fl_X6_268 rfl ?_
    obtain ⟨v8, e_v8, hF⟩ := Option.bind_eq_some_iff.mp hF
    refine v_calV1 dX6_termOf_11 vl_X6_271 q1887 rc_ov (ct_T_codeAt e_v8) rfl rfl (by omega) (by omega) (Nat.le_of_ble_eq_true rfl) ?_
    refine v_bipush dX6_termOf_14 (v := 42) (by decide) ?_
    obtain ⟨v9, e_v9, hF⟩ := Option.bind_eq_some_iff.mp hF
    refine v_calS1 dX6_termOf_16 sl_X6_227 q1902 (ct_T_sign e_v9) rfl rfl (by omega) (by omega) (Nat.le_of_ble_eq_true rfl) ?_
    refine v_icmp_eq (tgt := 54) dX6_termOf_19 (by decide) hF (fun hF => ?_) (fun hF => ?_)
    · exact v_sub [0, 1, 2] rfl (w_T_termOf_J54 hbf hbl hfr hlo hf hc6 hF)
    · refine v_aload_n dX6_termOf_22 rfl 0 rfl ?_
      refine v_aload_n dX6_termOf_23 rfl 0 rfl ?_
      refine t_geti 22 dX6_termOf_24 fl_X6_268 rfl ?_
      obtain ⟨v40, e_v40, hF⟩ := Option.bind_eq_some_iff.mp hF
      refine v_calV1 dX6_termOf_27 vl_X6_271 q1887 rc_ov (ct_T_codeAt e_v40) rfl rfl (by omega) (by omega) (Nat.le_of_ble_eq_true rfl) ?_
      refine v_bipush dX6_termOf_30 (v := 47) (by decide) ?_
      obtain ⟨v41, e_v41, hF⟩ := Option.bind_eq_some_iff.mp hF
      refine v_calS1 dX6_termOf_32 sl_X6_227 q1902 (ct_T_sign e_v41) rfl rfl (by omega) (by omega) (Nat.le_of_ble_eq_true rfl) ?_
      refine v_icmp_eq (tgt := 54) dX6_termOf_35 (by decide) hF (fun hF => ?_) (fun hF => ?_)
      · exact v_sub [0, 1, 2] rfl (w_T_termOf_J54 hbf hbl hfr hlo hf hc6 hF)
      · refine v_aload_n dX6_termOf_38 rfl 0 rfl ?_
        refine v_aload_n dX6_termOf_39 rfl 0 rfl ?_
        refine t_geti 22 dX6_termOf_40 fl_X6_268 rfl ?_
        obtain ⟨v42, e_v42, hF⟩ := Option.bind_eq_some_iff.mp hF
        refine v_calV1 dX6_termOf_43 vl_X6_271 q1887 rc_ov (ct_T_codeAt e_v42) rfl rfl (by omega) (by omega) (Nat.le_of_ble_eq_true rfl) ?_
        refine v_bipush dX6_termOf_46 (v := 37) (by decide) ?_
        obtain ⟨v43, e_v43, hF⟩ := Option.bind_eq_some_iff.mp hF
        refine v_calS1 dX6_termOf_48 sl_X6_227 q1902 (ct_T_sign e_v43) rfl rfl (by omega) (by omega) (Nat.le_of_ble_eq_true rfl) ?_
        refine v_icmp_ne (tgt := 168) dX6_termOf_51 (by decide) hF (fun hF => ?_) (fun hF => ?_)
        · exact v_sub [2] rfl (hx6 _ _ hF)
        · exact v_sub [0, 1, 2] rfl (w_T_termOf_J54 hbf hbl hfr hlo hf hc6 hF)
def T_termOf (N : Nat) (f : Int32 → TM → Option (Int64 × TM)) (a1 : Int32) (M : TM) : Option (Int64 × TM) :=
  bd2 (T_partOf N f a1 M) fun v2 M1 =>
  T_termOf_L6 N f (fun v45 M46 =>
    some (v45, M46)) N a1 v2 M1
theorem w_T_termOf {l : Launch} {G : GT} {fr lo : Nat} {h0 : Hp} {m0 : Nat} {hb : Hp} {N : Nat} {f : Int32 → TM → Option (Int64 × TM)} {r : (Int64 × TM)} {frf lof : Nat} (hbf : 3 ≤ frf) (hbl : 65 ≤ lof) (hfr : frf + 2 ≤ fr) (hlo : lof + 49 ≤ lo) (hf : ∀ (a1 : Int32) (M : TM) (r : (Int64 × TM)), f a1 M = some r → Ct l G yX6_sumOf (ws_ yX6_sumOf cX6_sumOf 7 (Option.some Jvm.ClassFile.FieldType.long)) frf lof [.ref m0, .int a1] (ovT m0 M hb) (some (.long r.1)) (ovT m0 r.2 hb)) {a1 : Int32} {M : TM} (hF : T_termOf N f a1 M = some r) : V l G cX6_termOf RX6 "termOf" 7 (Option.some Jvm.ClassFile.FieldType.long) fr lo h0 (ovT m0 r.2 hb) (QM G (some (.long r.1)) h0 (ovT m0 r.2 hb)) 0 [(0, .ref m0), (1, .int a1)] [] (ovT m0 M hb) := by
  unfold T_termOf at hF
  refine v_aload_n dX6_termOf_0 rfl 0 rfl ?_
  refine v_iload_n dX6_termOf_1 rfl 1 rfl ?_
  obtain ⟨v2, M1, e_v2, hF⟩ := bd2_spec hF
  refine v_calV1 dX6_termOf_2 vl_X6_289 q1899 rc_ov (ct_T_partOf (by omega) (by omega) hf e_v2) rfl rfl (by omega) (by omega) (Nat.le_of_ble_eq_true rfl) ?_
  refine v_lstore_n dX6_termOf_5 rfl (Nat.le_of_ble_eq_true rfl) (L' := [(2, .long v2), (0, .ref m0), (1, .int a1)]) rfl ?_
  refine v_sub [1, 2, 0] rfl (w_T_termOf_L6 hbf hbl hfr hlo hf ?_ N _ _ _ hF)
  intro v45 M46 hF
  refine v_lload_n dX6_termOf_168 rfl 0 rfl ?_
  cases hF
  exact v_lret dX6_termOf_169 rfl rfl rfl
theorem ct_T_termOf {l : Launch} {G : GT} {m0 : Nat} {hb : Hp} {N : Nat} {f : Int32 → TM → Option (Int64 × TM)} {frf lof : Nat} (hbf : 3 ≤ frf) (hbl : 65 ≤ lof) (hf : ∀ (a1 : Int32) (M : TM) (r : (Int64 × TM)), f a1 M = some r → Ct l G yX6_sumOf (ws_ yX6_sumOf cX6_sumOf 7 (Option.some Jvm.ClassFile.FieldType.long)) frf lof [.ref m0, .int a1] (ovT m0 M hb) (some (.long r.1)) (ovT m0 r.2 hb)) {r : (Int64 × TM)} {a1 : Int32} {M : TM} (hF : T_termOf N f a1 M = some r) : Ct l G yX6_termOf (ws_ yX6_termOf cX6_termOf 7 (Option.some Jvm.ClassFile.FieldType.long)) (frf + 2) (lof + 49) [.ref m0, .int a1] (ovT m0 M hb) (some (.long r.1)) (ovT m0 r.2 hb) :=
  ct_of (by decide) (Nat.le_of_ble_eq_true rfl) (w_T_termOf hbf hbl (Nat.le_refl _) (Nat.le_refl _) hf hF)
theorem vl_X6_281 : ∀ ci ∈ [6], VL RX6 281 ci yX6_termOf 1 := by
  intro ci h
  simp only [List.mem_cons, List.not_mem_nil, or_false] at h
  subst h; exact ⟨RX6, TX6, 56, rfl, q146, ⟨by decide, by decide⟩, by decide +kernel, q1894, Or.inl ⟨q1892, qs64⟩⟩
def T_sumOf_o_J95 (N : Nat) (f : Int32 → TM → Option (Int64 × TM)) (c6 : Int32 → Int64 → TM → Option (Int64 × TM)) (v22 : Int32) (v23 : Int64) (M24 : TM) : Option (Int64 × TM) :=
  bd2 (T_bounded v23 v22 M24) fun v26 M25 =>
  c6 v22 v26 M25
theorem w_T_sumOf_o_J95 {l : Launch} {G : GT} {fr lo : Nat} {h0 : Hp} {m0 : Nat} {hb : Hp} {N : Nat} {f : Int32 → TM → Option (Int64 × TM)} {r : (Int64 × TM)} {frf lof : Nat} (hbf : 3 ≤ frf) (hbl : 65 ≤ lof) (hfr : frf + 3 ≤ fr) (hlo : lof + 75 ≤ lo) (hf : ∀ (a1 : Int32) (M : TM) (r : (Int64 × TM)), f a1 M = some r → Ct l G yX6_sumOf (ws_ yX6_sumOf cX6_sumOf 7 (Option.some Jvm.ClassFile.FieldType.long)) frf lof [.ref m0, .int a1] (ovT m0 M hb) (some (.long r.1)) (ovT m0 r.2 hb)) {c6 : Int32 → Int64 → TM → Option (Int64 × TM)} (hc6 : ∀ (v3 : Int32) (v4 : Int64) (M5 : TM), c6 v3 v4 M5 = some r → V l G cX6_sumOf RX6 "sumOf" 7 (Option.some Jvm.ClassFile.FieldType.long) fr lo h0 (ovT m0 r.2 hb) (QM G (some (.long r.1)) h0 (ovT m0 r.2 hb)) 6 [(0, .ref m0), (1, .int v3), (2, .long v4)] [] (ovT m0 M5 hb)) {v22 : Int32} {v23 : Int64} {M24 : TM} (hF : T_sumOf_o_J95 N f c6 v22 v23 M24 = some r) : V l G cX6_sumOf RX6 "sumOf" 7 (Option.some Jvm.ClassFile.FieldType.long) fr lo h0 (ovT m0 r.2 hb) (QM G (some (.long r.1)) h0 (ovT m0 r.2 hb)) 95 [(0, .ref m0), (1, .int v22)] [.long v23, .ref m0] (ovT m0 M24 hb) := by
  unfold T_sumOf_o_J95 at hF
  refine v_iload_n dX6_sumOf_95 rfl 1 rfl ?_
  obtain ⟨v26, M25, e_v26, hF⟩ := bd2_spec hF
  refine v_calV1 dX6_sumOf_96 vl_X6_285 q1926 rc_ov (ct_T_bounded e_v26) rfl rfl (by omega) (by omega) (Nat.le_of_ble_eq_true rfl) ?_
  refine v_lstore_n dX6_sumOf_99 rfl (Nat.le_of_ble_eq_true rfl) (L' := [(2, .long v26), (0, .ref m0), (1, .int v22)]) rfl ?_
  refine v_goto (tgt := 6) dX6_sumOf_100 (by decide) ?_
  exact v_sub [1, 2, 0] rfl (hc6 _ _ _ hF)
def T_sumOf_o_J59 (N : Nat) (f : Int32 → TM → Option (Int64 × TM)) (c6 : Int32 → Int64 → TM → Option (Int64 × TM)) (v15 : Int32) (v16 : Int64) (v17 : Int32) (M18 : TM) : Option (Int64 × TM) :=
  (some (tsi M18 22 ((M18.1 22) + (1 : Int32)))).bind fun (M19 : TM) =>
  bd2 (T_termOf N f v15 M19) fun v21 M20 =>
  if v17 = 0 then
    T_sumOf_o_J95 N f c6 v15 (v16 - v21) M20
  else
    T_sumOf_o_J95 N f c6 v15 (v16 + v21) M20
theorem w_T_sumOf_o_J59 {l : Launch} {G : GT} {fr lo : Nat} {h0 : Hp} {m0 : Nat} {hb : Hp} {N : Nat} {f : Int32 → TM → Option (Int64 × TM)} {r : (Int64 × TM)} {frf lof : Nat} (hbf : 3 ≤ frf) (hbl : 65 ≤ lof) (hfr : frf + 3 ≤ fr) (hlo : lof + 75 ≤ lo) (hf : ∀ (a1 : Int32) (M : TM) (r : (Int64 × TM)), f a1 M = some r → Ct l G yX6_sumOf (ws_ yX6_sumOf cX6_sumOf 7 (Option.some Jvm.ClassFile.FieldType.long)) frf lof [.ref m0, .int a1] (ovT m0 M hb) (some (.long r.1)) (ovT m0 r.2 hb)) {c6 : Int32 → Int64 → TM → Option (Int64 × TM)} (hc6 : ∀ (v3 : Int32) (v4 : Int64) (M5 : TM), c6 v3 v4 M5 = some r → V l G cX6_sumOf RX6 "sumOf" 7 (Option.some Jvm.ClassFile.FieldType.long) fr lo h0 (ovT m0 r.2 hb) (QM G (some (.long r.1)) h0 (ovT m0 r.2 hb)) 6 [(0, .ref m0), (1, .int v3), (2, .long v4)] [] (ovT m0 M5 hb)) {v15 : Int32} {v16 : Int64} {v17 : Int32} {M18 : TM} (hF : T_sumOf_o_J59 N f c6 v15 v16 v17 M18 = some r) : V l G cX6_sumOf RX6 "sumOf" 7 (Option.some Jvm.ClassFile.FieldType.long) fr lo h0 (ovT m0 r.2 hb) (QM G (some (.long r.1)) h0 (ovT m0 r.2 hb)) 59 [(0, .ref m0), (1, .int v15), (2, .long v16)] [.int v17] (ovT m0 M18 hb) := by
  unfold T_sumOf_o_J59 at hF
  refine v_istore dX6_sumOf_59 (Nat.le_of_ble_eq_true rfl) (L' := [(4, .int v17), (0, .ref m0), (1, .int v15), (2, .long v16)]) rfl ?_
  refine v_aload_n dX6_sumOf_61 rfl 1 rfl ?_
  refine v_dup dX6_sumOf_62 rfl ?_
  refine t_geti 22 dX6_sumOf_63 fl_X6_268 rfl ?_
  refine v_iconst dX6_sumOf_66 (v := 1) (by decide) ?_
  refine v_iadd dX6_sumOf_67 ?_
  refine t_puti 22 dX6_sumOf_68 pl_X6_268 rfl ?_
  refine v_letM hF (fun M19 hF => ?_)
  refine v_aload_n dX6_sumOf_71 rfl 1 rfl ?_
  refine v_iload_n dX6_sumOf_72 rfl 2 rfl ?_
  obtain ⟨v21, M20, e_v21, hF⟩ := bd2_spec hF
  refine v_calV1 dX6_sumOf_73 vl_X6_281 q1895 rc_ov (ct_T_termOf (by omega) (by omega) hf e_v21) rfl rfl (by omega) (by omega) (Nat.le_of_ble_eq_true rfl) ?_
  refine v_lstore dX6_sumOf_76 (Nat.le_of_ble_eq_true rfl) (L' := [(5, .long v21), (4, .int v17), (0, .ref m0), (1, .int v15), (2, .long v16)]) rfl ?_
  refine v_aload_n dX6_sumOf_78 rfl 2 rfl ?_
  refine v_iload dX6_sumOf_79 1 rfl ?_
  refine v_if_eq (tgt := 91) dX6_sumOf_81 (by decide) hF (fun hF => ?_) (fun hF => ?_)
  · refine v_lload_n dX6_sumOf_91 rfl 4 rfl ?_
    refine v_lload dX6_sumOf_92 0 rfl ?_
    refine v_lsub dX6_sumOf_94 ?_
    exact v_sub [2, 3] rfl (w_T_sumOf_o_J95 hbf hbl hfr hlo hf hc6 hF)
  · refine v_lload_n dX6_sumOf_84 rfl 4 rfl ?_
    refine v_lload dX6_sumOf_85 0 rfl ?_
    refine v_ladd dX6_sumOf_87 ?_
    refine v_goto (tgt := 95) dX6_sumOf_88 (by decide) ?_
    exact v_sub [2, 3] rfl (w_T_sumOf_o_J95 hbf hbl hfr hlo hf hc6 hF)
def T_sumOf_o_J38 (N : Nat) (f : Int32 → TM → Option (Int64 × TM)) (c6 : Int32 → Int64 → TM → Option (Int64 × TM)) (v10 : Int32) (v11 : Int64) (M12 : TM) : Option (Int64 × TM) :=
  (T_codeAt M12 (M12.1 22)).bind fun v13 =>
  (T_sign (43 : Int32)).bind fun v14 =>
  T_sumOf_o_J59 N f c6 v10 v11 (if v13 = v14 then (1 : Int32) else (0 : Int32)) M12
theorem w_T_sumOf_o_J38 {l : Launch} {G : GT} {fr lo : Nat} {h0 : Hp} {m0 : Nat} {hb : Hp} {N : Nat} {f : Int32 → TM → Option (Int64 × TM)} {r : (Int64 × TM)} {frf lof : Nat} (hbf : 3 ≤ frf) (hbl : 65 ≤ lof) (hfr : frf + 3 ≤ fr) (hlo : lof + 75 ≤ lo) (hf : ∀ (a1 : Int32) (M : TM) (r : (Int64 × TM)), f a1 M = some r → Ct l G yX6_sumOf (ws_ yX6_sumOf cX6_sumOf 7 (Option.some Jvm.ClassFile.FieldType.long)) frf lof [.ref m0, .int a1] (ovT m0 M hb) (some (.long r.1)) (ovT m0 r.2 hb)) {c6 : Int32 → Int64 → TM → Option (Int64 × TM)} (hc6 : ∀ (v3 : Int32) (v4 : Int64) (M5 : TM), c6 v3 v4 M5 = some r → V l G cX6_sumOf RX6 "sumOf" 7 (Option.some Jvm.ClassFile.FieldType.long) fr lo h0 (ovT m0 r.2 hb) (QM G (some (.long r.1)) h0 (ovT m0 r.2 hb)) 6 [(0, .ref m0), (1, .int v3), (2, .long v4)] [] (ovT m0 M5 hb)) {v10 : Int32} {v11 : Int64} {M12 : TM} (hF : T_sumOf_o_J38 N f c6 v10 v11 M12 = some r) : V l G cX6_sumOf RX6 "sumOf" 7 (Option.some Jvm.ClassFile.FieldType.long) fr lo h0 (ovT m0 r.2 hb) (QM G (some (.long r.1)) h0 (ovT m0 r.2 hb)) 38 [(0, .ref m0), (1, .int v10), (2, .long v11)] [] (ovT m0 M12 hb) := by
  unfold T_sumOf_o_J38 at hF
  refine v_aload_n dX6_sumOf_38 rfl 0 rfl ?_
  refine v_aload_n dX6_sumOf_39 rfl 0 rfl ?_
  refine t_geti 22 dX6_sumOf_40 fl_X6_268 rfl ?_
  obtain ⟨v13, e_v13, hF⟩ := Option.bind_eq_some_iff.mp hF
  refine v_calV1 dX6_sumOf_43 vl_X6_271 q1887 rc_ov (ct_T_codeAt e_v13) rfl rfl (by omega) (by omega) (Nat.le_of_ble_eq_true rfl) ?_
  refine v_bipush dX6_sumOf_46 (v := 43) (by decide) ?_
  obtain ⟨v14, e_v14, hF⟩ := Option.bind_eq_some_iff.mp hF
  refine v_calS1 dX6_sumOf_48 sl_X6_227 q1902 (ct_T_sign e_v14) rfl rfl (by omega) (by omega) (Nat.le_of_ble_eq_true rfl) ?_
  refine v_tern (c := v13 = v14) (x := (1 : Int32)) (y := (0 : Int32)) (pcj := 59) (st := []) ?_ (fun kt kf => v_icmp_ne0 (tgt := 58) dX6_sumOf_51 (by decide) kt kf) (fun K => ?_) (fun K => ?_)
  · exact v_sub [0, 1, 2] rfl (w_T_sumOf_o_J59 hbf hbl hfr hlo hf hc6 hF)
  · refine v_iconst dX6_sumOf_54 (v := 1) (by decide) ?_
    refine v_goto (tgt := 59) dX6_sumOf_55 (by decide) ?_
    exact K
  · refine v_iconst dX6_sumOf_58 (v := 0) (by decide) ?_
    exact K
def T_sumOf_o_L6 (N : Nat) (f : Int32 → TM → Option (Int64 × TM)) (x6 : Int64 → TM → Option (Int64 × TM)) : Nat → Int32 → Int64 → TM → Option (Int64 × TM)
  | 0, _, _, _ => none
  | n29 + 1, v3, v4, M5 =>
    (T_codeAt M5 (M5.1 22)).bind fun v8 =>
    (T_sign (43 : Int32)).bind fun v9 =>
    if v8 = v9 then
      T_sumOf_o_J38 N f (T_sumOf_o_L6 N f x6 n29) v3 v4 M5
    else
      (T_codeAt M5 (M5.1 22)).bind fun v27 =>
      (T_sign (45 : Int32)).bind fun v28 =>
      if v27 = v28 then
        T_sumOf_o_J38 N f (T_sumOf_o_L6 N f x6 n29) v3 v4 M5
      else
        x6 v4 M5
theorem w_T_sumOf_o_L6 {l : Launch} {G : GT} {fr lo : Nat} {h0 : Hp} {m0 : Nat} {hb : Hp} {N : Nat} {f : Int32 → TM → Option (Int64 × TM)} {r : (Int64 × TM)} {frf lof : Nat} (hbf : 3 ≤ frf) (hbl : 65 ≤ lof) (hfr : frf + 3 ≤ fr) (hlo : lof + 75 ≤ lo) (hf : ∀ (a1 : Int32) (M : TM) (r : (Int64 × TM)), f a1 M = some r → Ct l G yX6_sumOf (ws_ yX6_sumOf cX6_sumOf 7 (Option.some Jvm.ClassFile.FieldType.long)) frf lof [.ref m0, .int a1] (ovT m0 M hb) (some (.long r.1)) (ovT m0 r.2 hb)) {x6 : Int64 → TM → Option (Int64 × TM)} (hx6 : ∀ (v6 : Int64) (M7 : TM), x6 v6 M7 = some r → V l G cX6_sumOf RX6 "sumOf" 7 (Option.some Jvm.ClassFile.FieldType.long) fr lo h0 (ovT m0 r.2 hb) (QM G (some (.long r.1)) h0 (ovT m0 r.2 hb)) 103 [(2, .long v6)] [] (ovT m0 M7 hb)) : ∀ (n : Nat) (v3 : Int32) (v4 : Int64) (M5 : TM), T_sumOf_o_L6 N f x6 n v3 v4 M5 = some r → V l G cX6_sumOf RX6 "sumOf" 7 (Option.some Jvm.ClassFile.FieldType.long) fr lo h0 (ovT m0 r.2 hb) (QM G (some (.long r.1)) h0 (ovT m0 r.2 hb)) 6 [(0, .ref m0), (1, .int v3), (2, .long v4)] [] (ovT m0 M5 hb) := by
  intro n
  induction n with
  | zero =>
    intro v3 v4 M5 hF
    cases (show (none : Option (Int64 × TM)) = some r from hF)
  | succ n hc6 =>
    intro v3 v4 M5 hF
    rw [T_sumOf_o_L6] at hF
    refine v_aload_n dX6_sumOf_6 rfl 0 rfl ?_
    refine v_aload_n dX6_sumOf_7 rfl 0 rfl ?_
    refine t_geti 22 dX6_sumOf_8 fl_X6_268 rfl ?_
    obtain ⟨v8, e_v8, hF⟩ := Option.bind_eq_some_iff.mp hF
    refine v_calV1 dX6_sumOf_11 vl_X6_271 q1887 rc_ov (ct_T_codeAt e_v8) rfl rfl (by omega) (by omega) (Nat.le_of_ble_eq_true rfl) ?_
    refine v_bipush dX6_sumOf_14 (v := 43) (by decide) ?_
    obtain ⟨v9, e_v9, hF⟩ := Option.bind_eq_some_iff.mp hF
    refine v_calS1 dX6_sumOf_16 sl_X6_227 q1902 (ct_T_sign e_v9) rfl rfl (by omega) (by omega) (Nat.le_of_ble_eq_true rfl) ?_
    refine v_icmp_eq (tgt := 38) dX6_sumOf_19 (by decide) hF (fun hF => ?_) (fun hF => ?_)
    · exact v_sub [0, 1, 2] rfl (w_T_sumOf_o_J38 hbf hbl hfr hlo hf hc6 hF)
    · refine v_aload_n dX6_sumOf_22 rfl 0 rfl ?_
      refine v_aload_n dX6_sumOf_23 rfl 0 rfl ?_
      refine t_geti 22 dX6_sumOf_24 fl_X6_268 rfl ?_
      obtain ⟨v27, e_v27, hF⟩ := Option.bind_eq_some_iff.mp hF
      refine v_calV1 dX6_sumOf_27 vl_X6_271 q1887 rc_ov (ct_T_codeAt e_v27) rfl rfl (by omega) (by omega) (Nat.le_of_ble_eq_true rfl) ?_
      refine v_bipush dX6_sumOf_30 (v := 45) (by decide) ?_
      obtain ⟨v28, e_v28, hF⟩ := Option.bind_eq_some_iff.mp hF
      refine v_calS1 dX6_sumOf_32 sl_X6_227 q1902 (ct_T_sign e_v28) rfl rfl (by omega) (by omega) (Nat.le_of_ble_eq_true rfl) ?_
      refine v_icmp_ne (tgt := 103) dX6_sumOf_35 (by decide) hF (fun hF => ?_) (fun hF => ?_)
      · exact v_sub [2] rfl (hx6 _ _ hF)
      · exact v_sub [0, 1, 2] rfl (w_T_sumOf_o_J38 hbf hbl hfr hlo hf hc6 hF)
def T_sumOf_o (N : Nat) (f : Int32 → TM → Option (Int64 × TM)) (a1 : Int32) (M : TM) : Option (Int64 × TM) :=
  bd2 (T_termOf N f a1 M) fun v2 M1 =>
  T_sumOf_o_L6 N f (fun v30 M31 =>
    some (v30, M31)) N a1 v2 M1
theorem w_T_sumOf_o {l : Launch} {G : GT} {fr lo : Nat} {h0 : Hp} {m0 : Nat} {hb : Hp} {N : Nat} {f : Int32 → TM → Option (Int64 × TM)} {r : (Int64 × TM)} {frf lof : Nat} (hbf : 3 ≤ frf) (hbl : 65 ≤ lof) (hfr : frf + 3 ≤ fr) (hlo : lof + 75 ≤ lo) (hf : ∀ (a1 : Int32) (M : TM) (r : (Int64 × TM)), f a1 M = some r → Ct l G yX6_sumOf (ws_ yX6_sumOf cX6_sumOf 7 (Option.some Jvm.ClassFile.FieldType.long)) frf lof [.ref m0, .int a1] (ovT m0 M hb) (some (.long r.1)) (ovT m0 r.2 hb)) {a1 : Int32} {M : TM} (hF : T_sumOf_o N f a1 M = some r) : V l G cX6_sumOf RX6 "sumOf" 7 (Option.some Jvm.ClassFile.FieldType.long) fr lo h0 (ovT m0 r.2 hb) (QM G (some (.long r.1)) h0 (ovT m0 r.2 hb)) 0 [(0, .ref m0), (1, .int a1)] [] (ovT m0 M hb) := by
  unfold T_sumOf_o at hF
  refine v_aload_n dX6_sumOf_0 rfl 0 rfl ?_
  refine v_iload_n dX6_sumOf_1 rfl 1 rfl ?_
  obtain ⟨v2, M1, e_v2, hF⟩ := bd2_spec hF
  refine v_calV1 dX6_sumOf_2 vl_X6_281 q1895 rc_ov (ct_T_termOf (by omega) (by omega) hf e_v2) rfl rfl (by omega) (by omega) (Nat.le_of_ble_eq_true rfl) ?_
  refine v_lstore_n dX6_sumOf_5 rfl (Nat.le_of_ble_eq_true rfl) (L' := [(2, .long v2), (0, .ref m0), (1, .int a1)]) rfl ?_
  refine v_sub [1, 2, 0] rfl (w_T_sumOf_o_L6 hbf hbl hfr hlo hf ?_ N _ _ _ hF)
  intro v30 M31 hF
  refine v_lload_n dX6_sumOf_103 rfl 0 rfl ?_
  cases hF
  exact v_lret dX6_sumOf_104 rfl rfl rfl
theorem ct_T_sumOf_o {l : Launch} {G : GT} {m0 : Nat} {hb : Hp} {N : Nat} {f : Int32 → TM → Option (Int64 × TM)} {frf lof : Nat} (hbf : 3 ≤ frf) (hbl : 65 ≤ lof) (hf : ∀ (a1 : Int32) (M : TM) (r : (Int64 × TM)), f a1 M = some r → Ct l G yX6_sumOf (ws_ yX6_sumOf cX6_sumOf 7 (Option.some Jvm.ClassFile.FieldType.long)) frf lof [.ref m0, .int a1] (ovT m0 M hb) (some (.long r.1)) (ovT m0 r.2 hb)) {r : (Int64 × TM)} {a1 : Int32} {M : TM} (hF : T_sumOf_o N f a1 M = some r) : Ct l G yX6_sumOf (ws_ yX6_sumOf cX6_sumOf 7 (Option.some Jvm.ClassFile.FieldType.long)) (frf + 3) (lof + 75) [.ref m0, .int a1] (ovT m0 M hb) (some (.long r.1)) (ovT m0 r.2 hb) :=
  ct_of (by decide) (Nat.le_of_ble_eq_true rfl) (w_T_sumOf_o hbf hbl (Nat.le_refl _) (Nat.le_refl _) hf hF)
def T_sumOf (N : Nat) : Nat → Int32 → TM → Option (Int64 × TM)
  | 0, _, _ => none
  | d + 1, a1, M => T_sumOf_o N (T_sumOf N d) a1 M
theorem ctd_T_sumOf {l : Launch} {G : GT} {m0 : Nat} {hb : Hp} {N : Nat} : ∀ (d : Nat) {r : (Int64 × TM)} {a1 : Int32} {M : TM} (hF : T_sumOf N d a1 M = some r), Ct l G yX6_sumOf (ws_ yX6_sumOf cX6_sumOf 7 (Option.some Jvm.ClassFile.FieldType.long)) (3 + 3 * d) (65 + 75 * d) [.ref m0, .int a1] (ovT m0 M hb) (some (.long r.1)) (ovT m0 r.2 hb) := by
  intro d
  induction d with
  | zero => intro r a1 M hF; cases (show (none : Option (Int64 × TM)) = some r from hF)
  | succ d ih =>
    intro r a1 M hF
    rw [show 3 + 3 * (d + 1) = (3 + 3 * d) + 3 by omega, show 65 + 75 * (d + 1) = (65 + 75 * d) + 75 by omega]
    exact ct_T_sumOf_o (frf := 3 + 3 * d) (lof := 65 + 75 * d) (by omega) (by omega) (fun _ _ _ z => ih z) hF
theorem vl_X6_325 : ∀ ci ∈ [6], VL RX6 325 ci yX6_testOf 1 := by
  intro ci h
  simp only [List.mem_cons, List.not_mem_nil, or_false] at h
  subst h; exact ⟨RX6, TX6, 56, rfl, q146, ⟨by decide, by decide⟩, by decide +kernel, q1931, Or.inl ⟨q1929, qs72⟩⟩
def T_positiveOf (N : Nat) (f : Int32 → TM → Option (Int32 × TM)) (a1 : Int32) (M : TM) : Option (Int32 × TM) :=
  (T_sign (40 : Int32)).bind fun v1 =>
  bd2 (T_passes0 v1 M) fun v3 M2 =>
  if v3 = 0 then
    bd2 (T_sumOf N 16 a1 M2) fun v5 M4 =>
    (T_codeAt M4 (M4.1 22)).bind fun v6 =>
    (some (tsi M4 22 ((M4.1 22) + (1 : Int32)))).bind fun (M7 : TM) =>
    bd2 (T_sumOf N 16 a1 M7) fun v9 M8 =>
    if a1 = 0 then
      some ((0 : Int32), M8)
    else
      if (M8.1 24) = 0 then
        (T_sign (60 : Int32)).bind fun v10 =>
        if v6 = v10 then
          if 0 ≤ (lg_cmp v5 v9) then
            some ((0 : Int32), M8)
          else
            some ((1 : Int32), M8)
        else
          (T_sign (62 : Int32)).bind fun v11 =>
          if v6 = v11 then
            if (lg_cmp v5 v9) ≤ 0 then
              some ((0 : Int32), M8)
            else
              some ((1 : Int32), M8)
          else
            if (lg_cmp v5 v9) = 0 then
              some ((1 : Int32), M8)
            else
              some ((0 : Int32), M8)
      else
        some ((0 : Int32), M8)
  else
    bd2 (f a1 M2) fun v13 M12 =>
    (some (tsi M12 22 ((M12.1 22) + (1 : Int32)))).bind fun (M14 : TM) =>
    (rz v13).bind fun v15 => some (v15, M14)
theorem w_T_positiveOf {l : Launch} {G : GT} {fr lo : Nat} {h0 : Hp} {m0 : Nat} {hb : Hp} {N : Nat} {f : Int32 → TM → Option (Int32 × TM)} {r : (Int32 × TM)} {frf lof : Nat} (hbf : 52 ≤ frf) (hbl : 1291 ≤ lof) (hfr : frf + 1 ≤ fr) (hlo : lof + 23 ≤ lo) (hf : ∀ (a1 : Int32) (M : TM) (r : (Int32 × TM)), f a1 M = some r → Ct l G yX6_testOf (ws_ yX6_testOf cX6_testOf 4 (Option.some Jvm.ClassFile.FieldType.boolean)) frf lof [.ref m0, .int a1] (ovT m0 M hb) (some (.int r.1)) (ovT m0 r.2 hb)) {a1 : Int32} {M : TM} (hF : T_positiveOf N f a1 M = some r) : V l G cX6_positiveOf RX6 "positiveOf" 7 (Option.some Jvm.ClassFile.FieldType.boolean) fr lo h0 (ovT m0 r.2 hb) (QM G (some (.int r.1)) h0 (ovT m0 r.2 hb)) 0 [(0, .ref m0), (1, .int a1)] [] (ovT m0 M hb) := by
  unfold T_positiveOf at hF
  refine v_aload_n dX6_positiveOf_0 rfl 0 rfl ?_
  refine v_bipush dX6_positiveOf_1 (v := 40) (by decide) ?_
  obtain ⟨v1, e_v1, hF⟩ := Option.bind_eq_some_iff.mp hF
  refine v_calS1 dX6_positiveOf_3 sl_X6_227 q1902 (ct_T_sign e_v1) rfl rfl (by omega) (by omega) (Nat.le_of_ble_eq_true rfl) ?_
  obtain ⟨v3, M2, e_v3, hF⟩ := bd2_spec hF
  refine v_calV1 dX6_positiveOf_6 vl_X6_292 q1906 rc_ov (ct_T_passes0 e_v3) rfl rfl (by omega) (by omega) (Nat.le_of_ble_eq_true rfl) ?_
  refine v_if_eq (tgt := 30) dX6_positiveOf_9 (by decide) hF (fun hF => ?_) (fun hF => ?_)
  · refine v_aload_n dX6_positiveOf_30 rfl 0 rfl ?_
    refine v_iload_n dX6_positiveOf_31 rfl 1 rfl ?_
    obtain ⟨v5, M4, e_v5, hF⟩ := bd2_spec hF
    refine v_calV1 dX6_positiveOf_32 vl_X6_295 q1891 rc_ov (ctd_T_sumOf 16 e_v5) rfl rfl (by omega) (by omega) (Nat.le_of_ble_eq_true rfl) ?_
    refine v_lstore_n dX6_positiveOf_35 rfl (Nat.le_of_ble_eq_true rfl) (L' := [(2, .long v5), (0, .ref m0), (1, .int a1)]) rfl ?_
    refine v_aload_n dX6_positiveOf_36 rfl 1 rfl ?_
    refine v_aload_n dX6_positiveOf_37 rfl 1 rfl ?_
    refine t_geti 22 dX6_positiveOf_38 fl_X6_268 rfl ?_
    obtain ⟨v6, e_v6, hF⟩ := Option.bind_eq_some_iff.mp hF
    refine v_calV1 dX6_positiveOf_41 vl_X6_271 q1887 rc_ov (ct_T_codeAt e_v6) rfl rfl (by omega) (by omega) (Nat.le_of_ble_eq_true rfl) ?_
    refine v_istore dX6_positiveOf_44 (Nat.le_of_ble_eq_true rfl) (L' := [(4, .int v6), (2, .long v5), (0, .ref m0), (1, .int a1)]) rfl ?_
    refine v_aload_n dX6_positiveOf_46 rfl 2 rfl ?_
    refine v_dup dX6_positiveOf_47 rfl ?_
    refine t_geti 22 dX6_positiveOf_48 fl_X6_268 rfl ?_
    refine v_iconst dX6_positiveOf_51 (v := 1) (by decide) ?_
    refine v_iadd dX6_positiveOf_52 ?_
    refine t_puti 22 dX6_positiveOf_53 pl_X6_268 rfl ?_
    refine v_letM hF (fun M7 hF => ?_)
    refine v_aload_n dX6_positiveOf_56 rfl 2 rfl ?_
    refine v_iload_n dX6_positiveOf_57 rfl 3 rfl ?_
    obtain ⟨v9, M8, e_v9, hF⟩ := bd2_spec hF
    refine v_calV1 dX6_positiveOf_58 vl_X6_295 q1891 rc_ov (ctd_T_sumOf 16 e_v9) rfl rfl (by omega) (by omega) (Nat.le_of_ble_eq_true rfl) ?_
    refine v_lstore dX6_positiveOf_61 (Nat.le_of_ble_eq_true rfl) (L' := [(5, .long v9), (4, .int v6), (2, .long v5), (0, .ref m0), (1, .int a1)]) rfl ?_
    refine v_iload_n dX6_positiveOf_63 rfl 4 rfl ?_
    refine v_if_eq (tgt := 125) dX6_positiveOf_64 (by decide) hF (fun hF => ?_) (fun hF => ?_)
    · refine v_iconst dX6_positiveOf_125 (v := 0) (by decide) ?_
      cases hF
      exact v_iret dX6_positiveOf_126 rfl (by decide) rfl rfl
    · refine v_aload_n dX6_positiveOf_67 rfl 3 rfl ?_
      refine t_geti 24 dX6_positiveOf_68 fl_X6_278 rfl ?_
      refine v_if_ne (tgt := 125) dX6_positiveOf_71 (by decide) hF (fun hF => ?_) (fun hF => ?_)
      · refine v_iconst dX6_positiveOf_125 (v := 0) (by decide) ?_
        cases hF
        exact v_iret dX6_positiveOf_126 rfl (by decide) rfl rfl
      · refine v_iload dX6_positiveOf_74 1 rfl ?_
        refine v_bipush dX6_positiveOf_76 (v := 60) (by decide) ?_
        obtain ⟨v10, e_v10, hF⟩ := Option.bind_eq_some_iff.mp hF
        refine v_calS1 dX6_positiveOf_78 sl_X6_227 q1902 (ct_T_sign e_v10) rfl rfl (by omega) (by omega) (Nat.le_of_ble_eq_true rfl) ?_
        refine v_icmp_ne (tgt := 94) dX6_positiveOf_81 (by decide) hF (fun hF => ?_) (fun hF => ?_)
        · refine v_iload dX6_positiveOf_94 1 rfl ?_
          refine v_bipush dX6_positiveOf_96 (v := 62) (by decide) ?_
          obtain ⟨v11, e_v11, hF⟩ := Option.bind_eq_some_iff.mp hF
          refine v_calS1 dX6_positiveOf_98 sl_X6_227 q1902 (ct_T_sign e_v11) rfl rfl (by omega) (by omega) (Nat.le_of_ble_eq_true rfl) ?_
          refine v_icmp_ne (tgt := 114) dX6_positiveOf_101 (by decide) hF (fun hF => ?_) (fun hF => ?_)
          · refine v_lload_n dX6_positiveOf_114 rfl 2 rfl ?_
            refine v_lload dX6_positiveOf_115 0 rfl ?_
            refine v_lcmp dX6_positiveOf_117 ?_
            refine v_if_ne (tgt := 125) dX6_positiveOf_118 (by decide) hF (fun hF => ?_) (fun hF => ?_)
            · refine v_iconst dX6_positiveOf_125 (v := 0) (by decide) ?_
              cases hF
              exact v_iret dX6_positiveOf_126 rfl (by decide) rfl rfl
            · refine v_iconst dX6_positiveOf_121 (v := 1) (by decide) ?_
              refine v_goto (tgt := 126) dX6_positiveOf_122 (by decide) ?_
              cases hF
              exact v_iret dX6_positiveOf_126 rfl (by decide) rfl rfl
          · refine v_lload_n dX6_positiveOf_104 rfl 2 rfl ?_
            refine v_lload dX6_positiveOf_105 0 rfl ?_
            refine v_lcmp dX6_positiveOf_107 ?_
            refine v_if_le (tgt := 125) dX6_positiveOf_108 (by decide) hF (fun hF => ?_) (fun hF => ?_)
            · refine v_iconst dX6_positiveOf_125 (v := 0) (by decide) ?_
              cases hF
              exact v_iret dX6_positiveOf_126 rfl (by decide) rfl rfl
            · refine v_goto (tgt := 121) dX6_positiveOf_111 (by decide) ?_
              refine v_iconst dX6_positiveOf_121 (v := 1) (by decide) ?_
              refine v_goto (tgt := 126) dX6_positiveOf_122 (by decide) ?_
              cases hF
              exact v_iret dX6_positiveOf_126 rfl (by decide) rfl rfl
        · refine v_lload_n dX6_positiveOf_84 rfl 2 rfl ?_
          refine v_lload dX6_positiveOf_85 0 rfl ?_
          refine v_lcmp dX6_positiveOf_87 ?_
          refine v_if_ge (tgt := 125) dX6_positiveOf_88 (by decide) hF (fun hF => ?_) (fun hF => ?_)
          · refine v_iconst dX6_positiveOf_125 (v := 0) (by decide) ?_
            cases hF
            exact v_iret dX6_positiveOf_126 rfl (by decide) rfl rfl
          · refine v_goto (tgt := 121) dX6_positiveOf_91 (by decide) ?_
            refine v_iconst dX6_positiveOf_121 (v := 1) (by decide) ?_
            refine v_goto (tgt := 126) dX6_positiveOf_122 (by decide) ?_
            cases hF
            exact v_iret dX6_positiveOf_126 rfl (by decide) rfl rfl
  · refine v_aload_n dX6_positiveOf_12 rfl 0 rfl ?_
    refine v_iload_n dX6_positiveOf_13 rfl 1 rfl ?_
    obtain ⟨v13, M12, e_v13, hF⟩ := bd2_spec hF
    refine v_calV1 dX6_positiveOf_14 vl_X6_325 q1932 rc_ov (hf _ _ _ e_v13) rfl rfl (by omega) (by omega) (Nat.le_of_ble_eq_true rfl) ?_
    refine v_istore_n dX6_positiveOf_17 rfl (Nat.le_of_ble_eq_true rfl) (L' := [(2, .int v13), (0, .ref m0), (1, .int a1)]) rfl ?_
    refine v_aload_n dX6_positiveOf_18 rfl 1 rfl ?_
    refine v_dup dX6_positiveOf_19 rfl ?_
    refine t_geti 22 dX6_positiveOf_20 fl_X6_268 rfl ?_
    refine v_iconst dX6_positiveOf_23 (v := 1) (by decide) ?_
    refine v_iadd dX6_positiveOf_24 ?_
    refine t_puti 22 dX6_positiveOf_25 pl_X6_268 rfl ?_
    refine v_letM hF (fun M14 hF => ?_)
    refine v_iload_n dX6_positiveOf_28 rfl 0 rfl ?_
    refine v_zchk hF (fun v15 hz hF => ?_)
    cases hF
    exact v_iret dX6_positiveOf_29 rfl (nar_z hz) rfl rfl
theorem ct_T_positiveOf {l : Launch} {G : GT} {m0 : Nat} {hb : Hp} {N : Nat} {f : Int32 → TM → Option (Int32 × TM)} {frf lof : Nat} (hbf : 52 ≤ frf) (hbl : 1291 ≤ lof) (hf : ∀ (a1 : Int32) (M : TM) (r : (Int32 × TM)), f a1 M = some r → Ct l G yX6_testOf (ws_ yX6_testOf cX6_testOf 4 (Option.some Jvm.ClassFile.FieldType.boolean)) frf lof [.ref m0, .int a1] (ovT m0 M hb) (some (.int r.1)) (ovT m0 r.2 hb)) {r : (Int32 × TM)} {a1 : Int32} {M : TM} (hF : T_positiveOf N f a1 M = some r) : Ct l G yX6_positiveOf (ws_ yX6_positiveOf cX6_positiveOf 7 (Option.some Jvm.ClassFile.FieldType.boolean)) (frf + 1) (lof + 23) [.ref m0, .int a1] (ovT m0 M hb) (some (.int r.1)) (ovT m0 r.2 hb) :=
  ct_of (by decide) (Nat.le_of_ble_eq_true rfl) (w_T_positiveOf hbf hbl (Nat.le_refl _) (Nat.le_refl _) hf hF)
theorem vl_X6_322 : ∀ ci ∈ [6], VL RX6 322 ci yX6_positiveOf 1 := by
  intro ci h
  simp only [List.mem_cons, List.not_mem_nil, or_false] at h
  subst h; exact ⟨RX6, TX6, 56, rfl, q146, ⟨by decide, by decide⟩, by decide +kernel, q1943, Or.inl ⟨q1941, qs75⟩⟩
def T_plainOf_J20 (N : Nat) (f : Int32 → TM → Option (Int32 × TM)) (c2 : Int32 → Int32 → TM → Option (Int32 × TM)) (v9 : Int32) (v10 : Int32) (M11 : TM) : Option (Int32 × TM) :=
  c2 v9 v10 M11
theorem w_T_plainOf_J20 {l : Launch} {G : GT} {fr lo : Nat} {h0 : Hp} {m0 : Nat} {hb : Hp} {N : Nat} {f : Int32 → TM → Option (Int32 × TM)} {r : (Int32 × TM)} {frf lof : Nat} (hbf : 52 ≤ frf) (hbl : 1291 ≤ lof) (hfr : frf + 2 ≤ fr) (hlo : lof + 49 ≤ lo) (hf : ∀ (a1 : Int32) (M : TM) (r : (Int32 × TM)), f a1 M = some r → Ct l G yX6_testOf (ws_ yX6_testOf cX6_testOf 4 (Option.some Jvm.ClassFile.FieldType.boolean)) frf lof [.ref m0, .int a1] (ovT m0 M hb) (some (.int r.1)) (ovT m0 r.2 hb)) {c2 : Int32 → Int32 → TM → Option (Int32 × TM)} (hc2 : ∀ (v1 : Int32) (v2 : Int32) (M3 : TM), c2 v1 v2 M3 = some r → V l G cX6_plainOf RX6 "plainOf" 3 (Option.some Jvm.ClassFile.FieldType.boolean) fr lo h0 (ovT m0 r.2 hb) (QM G (some (.int r.1)) h0 (ovT m0 r.2 hb)) 2 [(0, .ref m0), (1, .int v1), (2, .int v2)] [] (ovT m0 M3 hb)) {v9 : Int32} {v10 : Int32} {M11 : TM} (hF : T_plainOf_J20 N f c2 v9 v10 M11 = some r) : V l G cX6_plainOf RX6 "plainOf" 3 (Option.some Jvm.ClassFile.FieldType.boolean) fr lo h0 (ovT m0 r.2 hb) (QM G (some (.int r.1)) h0 (ovT m0 r.2 hb)) 20 [(0, .ref m0), (1, .int v9)] [.int v10] (ovT m0 M11 hb) := by
  unfold T_plainOf_J20 at hF
  refine v_istore_n dX6_plainOf_20 rfl (Nat.le_of_ble_eq_true rfl) (L' := [(2, .int v10), (0, .ref m0), (1, .int v9)]) rfl ?_
  refine v_goto (tgt := 2) dX6_plainOf_21 (by decide) ?_
  exact v_sub [1, 2, 0] rfl (hc2 _ _ _ hF)
def T_plainOf_L2 (N : Nat) (f : Int32 → TM → Option (Int32 × TM)) (x2 : Int32 → Int32 → TM → Option (Int32 × TM)) : Nat → Int32 → Int32 → TM → Option (Int32 × TM)
  | 0, _, _, _ => none
  | n12 + 1, v1, v2, M3 =>
    bd2 (T_passes0 (7 : Int32) M3) fun v8 M7 =>
    if v8 = 0 then
      x2 v1 v2 M7
    else
      T_plainOf_J20 N f (T_plainOf_L2 N f x2 n12) v1 (if v2 = 0 then (1 : Int32) else (0 : Int32)) M7
theorem w_T_plainOf_L2 {l : Launch} {G : GT} {fr lo : Nat} {h0 : Hp} {m0 : Nat} {hb : Hp} {N : Nat} {f : Int32 → TM → Option (Int32 × TM)} {r : (Int32 × TM)} {frf lof : Nat} (hbf : 52 ≤ frf) (hbl : 1291 ≤ lof) (hfr : frf + 2 ≤ fr) (hlo : lof + 49 ≤ lo) (hf : ∀ (a1 : Int32) (M : TM) (r : (Int32 × TM)), f a1 M = some r → Ct l G yX6_testOf (ws_ yX6_testOf cX6_testOf 4 (Option.some Jvm.ClassFile.FieldType.boolean)) frf lof [.ref m0, .int a1] (ovT m0 M hb) (some (.int r.1)) (ovT m0 r.2 hb)) {x2 : Int32 → Int32 → TM → Option (Int32 × TM)} (hx2 : ∀ (v4 : Int32) (v5 : Int32) (M6 : TM), x2 v4 v5 M6 = some r → V l G cX6_plainOf RX6 "plainOf" 3 (Option.some Jvm.ClassFile.FieldType.boolean) fr lo h0 (ovT m0 r.2 hb) (QM G (some (.int r.1)) h0 (ovT m0 r.2 hb)) 24 [(0, .ref m0), (1, .int v4), (2, .int v5)] [] (ovT m0 M6 hb)) : ∀ (n : Nat) (v1 : Int32) (v2 : Int32) (M3 : TM), T_plainOf_L2 N f x2 n v1 v2 M3 = some r → V l G cX6_plainOf RX6 "plainOf" 3 (Option.some Jvm.ClassFile.FieldType.boolean) fr lo h0 (ovT m0 r.2 hb) (QM G (some (.int r.1)) h0 (ovT m0 r.2 hb)) 2 [(0, .ref m0), (1, .int v1), (2, .int v2)] [] (ovT m0 M3 hb) := by
  intro n
  induction n with
  | zero =>
    intro v1 v2 M3 hF
    cases (show (none : Option (Int32 × TM)) = some r from hF)
  | succ n hc2 =>
    intro v1 v2 M3 hF
    rw [T_plainOf_L2] at hF
    refine v_aload_n dX6_plainOf_2 rfl 0 rfl ?_
    refine v_bipush dX6_plainOf_3 (v := 7) (by decide) ?_
    obtain ⟨v8, M7, e_v8, hF⟩ := bd2_spec hF
    refine v_calV1 dX6_plainOf_5 vl_X6_292 q1906 rc_ov (ct_T_passes0 e_v8) rfl rfl (by omega) (by omega) (Nat.le_of_ble_eq_true rfl) ?_
    refine v_if_eq (tgt := 24) dX6_plainOf_8 (by decide) hF (fun hF => ?_) (fun hF => ?_)
    · exact v_sub [0, 1, 2] rfl (hx2 _ _ _ hF)
    · refine v_iload_n dX6_plainOf_11 rfl 2 rfl ?_
      refine v_tern (c := v2 = 0) (x := (1 : Int32)) (y := (0 : Int32)) (pcj := 20) (st := []) ?_ (fun kt kf => v_if_ne0 (tgt := 19) dX6_plainOf_12 (by decide) kt kf) (fun K => ?_) (fun K => ?_)
      · exact v_sub [0, 1] rfl (w_T_plainOf_J20 hbf hbl hfr hlo hf hc2 hF)
      · refine v_iconst dX6_plainOf_15 (v := 1) (by decide) ?_
        refine v_goto (tgt := 20) dX6_plainOf_16 (by decide) ?_
        exact K
      · refine v_iconst dX6_plainOf_19 (v := 0) (by decide) ?_
        exact K
def T_plainOf (N : Nat) (f : Int32 → TM → Option (Int32 × TM)) (a1 : Int32) (M : TM) : Option (Int32 × TM) :=
  T_plainOf_L2 N f (fun v13 v14 M15 =>
    bd2 (T_positiveOf N f v13 M15) fun v17 M16 =>
    (rz (if v17 = v14 then (0 : Int32) else (1 : Int32))).bind fun v18 => some (v18, M16)) N a1 (0 : Int32) M
theorem w_T_plainOf {l : Launch} {G : GT} {fr lo : Nat} {h0 : Hp} {m0 : Nat} {hb : Hp} {N : Nat} {f : Int32 → TM → Option (Int32 × TM)} {r : (Int32 × TM)} {frf lof : Nat} (hbf : 52 ≤ frf) (hbl : 1291 ≤ lof) (hfr : frf + 2 ≤ fr) (hlo : lof + 49 ≤ lo) (hf : ∀ (a1 : Int32) (M : TM) (r : (Int32 × TM)), f a1 M = some r → Ct l G yX6_testOf (ws_ yX6_testOf cX6_testOf 4 (Option.some Jvm.ClassFile.FieldType.boolean)) frf lof [.ref m0, .int a1] (ovT m0 M hb) (some (.int r.1)) (ovT m0 r.2 hb)) {a1 : Int32} {M : TM} (hF : T_plainOf N f a1 M = some r) : V l G cX6_plainOf RX6 "plainOf" 3 (Option.some Jvm.ClassFile.FieldType.boolean) fr lo h0 (ovT m0 r.2 hb) (QM G (some (.int r.1)) h0 (ovT m0 r.2 hb)) 0 [(0, .ref m0), (1, .int a1)] [] (ovT m0 M hb) := by
  unfold T_plainOf at hF
  refine v_iconst dX6_plainOf_0 (v := 0) (by decide) ?_
  refine v_istore_n dX6_plainOf_1 rfl (Nat.le_of_ble_eq_true rfl) (L' := [(2, .int (0 : Int32)), (0, .ref m0), (1, .int a1)]) rfl ?_
  refine v_sub [1, 2, 0] rfl (w_T_plainOf_L2 hbf hbl hfr hlo hf ?_ N _ _ _ hF)
  intro v13 v14 M15 hF
  refine v_aload_n dX6_plainOf_24 rfl 0 rfl ?_
  refine v_iload_n dX6_plainOf_25 rfl 1 rfl ?_
  obtain ⟨v17, M16, e_v17, hF⟩ := bd2_spec hF
  refine v_calV1 dX6_plainOf_26 vl_X6_322 q1944 rc_ov (ct_T_positiveOf (by omega) (by omega) hf e_v17) rfl rfl (by omega) (by omega) (Nat.le_of_ble_eq_true rfl) ?_
  refine v_iload_n dX6_plainOf_29 rfl 2 rfl ?_
  refine v_tern (c := v17 = v14) (x := (0 : Int32)) (y := (1 : Int32)) (pcj := 38) (st := []) ?_ (fun kt kf => v_icmp_eq0 (tgt := 37) dX6_plainOf_30 (by decide) kt kf) (fun K => ?_) (fun K => ?_)
  · refine v_zchk hF (fun v18 hz hF => ?_)
    cases hF
    exact v_iret dX6_plainOf_38 rfl (nar_z hz) rfl rfl
  · refine v_iconst dX6_plainOf_37 (v := 0) (by decide) ?_
    exact K
  · refine v_iconst dX6_plainOf_33 (v := 1) (by decide) ?_
    refine v_goto (tgt := 38) dX6_plainOf_34 (by decide) ?_
    exact K
theorem ct_T_plainOf {l : Launch} {G : GT} {m0 : Nat} {hb : Hp} {N : Nat} {f : Int32 → TM → Option (Int32 × TM)} {frf lof : Nat} (hbf : 52 ≤ frf) (hbl : 1291 ≤ lof) (hf : ∀ (a1 : Int32) (M : TM) (r : (Int32 × TM)), f a1 M = some r → Ct l G yX6_testOf (ws_ yX6_testOf cX6_testOf 4 (Option.some Jvm.ClassFile.FieldType.boolean)) frf lof [.ref m0, .int a1] (ovT m0 M hb) (some (.int r.1)) (ovT m0 r.2 hb)) {r : (Int32 × TM)} {a1 : Int32} {M : TM} (hF : T_plainOf N f a1 M = some r) : Ct l G yX6_plainOf (ws_ yX6_plainOf cX6_plainOf 3 (Option.some Jvm.ClassFile.FieldType.boolean)) (frf + 2) (lof + 49) [.ref m0, .int a1] (ovT m0 M hb) (some (.int r.1)) (ovT m0 r.2 hb) :=
  ct_of (by decide) (Nat.le_of_ble_eq_true rfl) (w_T_plainOf hbf hbl (Nat.le_refl _) (Nat.le_refl _) hf hF)
theorem vl_X6_319 : ∀ ci ∈ [6], VL RX6 319 ci yX6_plainOf 1 := by
  intro ci h
  simp only [List.mem_cons, List.not_mem_nil, or_false] at h
  subst h; exact ⟨RX6, TX6, 56, rfl, q146, ⟨by decide, by decide⟩, by decide +kernel, q1939, Or.inl ⟨q1937, qs74⟩⟩
def T_bothOf_J46 (N : Nat) (f : Int32 → TM → Option (Int32 × TM)) (c6 : Int32 → Int32 → TM → Option (Int32 × TM)) (v21 : Int32) (v22 : Int32) (M23 : TM) : Option (Int32 × TM) :=
  c6 v21 v22 M23
theorem w_T_bothOf_J46 {l : Launch} {G : GT} {fr lo : Nat} {h0 : Hp} {m0 : Nat} {hb : Hp} {N : Nat} {f : Int32 → TM → Option (Int32 × TM)} {r : (Int32 × TM)} {frf lof : Nat} (hbf : 52 ≤ frf) (hbl : 1291 ≤ lof) (hfr : frf + 3 ≤ fr) (hlo : lof + 71 ≤ lo) (hf : ∀ (a1 : Int32) (M : TM) (r : (Int32 × TM)), f a1 M = some r → Ct l G yX6_testOf (ws_ yX6_testOf cX6_testOf 4 (Option.some Jvm.ClassFile.FieldType.boolean)) frf lof [.ref m0, .int a1] (ovT m0 M hb) (some (.int r.1)) (ovT m0 r.2 hb)) {c6 : Int32 → Int32 → TM → Option (Int32 × TM)} (hc6 : ∀ (v3 : Int32) (v4 : Int32) (M5 : TM), c6 v3 v4 M5 = some r → V l G cX6_bothOf RX6 "bothOf" 4 (Option.some Jvm.ClassFile.FieldType.boolean) fr lo h0 (ovT m0 r.2 hb) (QM G (some (.int r.1)) h0 (ovT m0 r.2 hb)) 6 [(0, .ref m0), (1, .int v3), (2, .int v4)] [] (ovT m0 M5 hb)) {v21 : Int32} {v22 : Int32} {M23 : TM} (hF : T_bothOf_J46 N f c6 v21 v22 M23 = some r) : V l G cX6_bothOf RX6 "bothOf" 4 (Option.some Jvm.ClassFile.FieldType.boolean) fr lo h0 (ovT m0 r.2 hb) (QM G (some (.int r.1)) h0 (ovT m0 r.2 hb)) 46 [(0, .ref m0), (1, .int v21)] [.int v22] (ovT m0 M23 hb) := by
  unfold T_bothOf_J46 at hF
  refine v_istore_n dX6_bothOf_46 rfl (Nat.le_of_ble_eq_true rfl) (L' := [(2, .int v22), (0, .ref m0), (1, .int v21)]) rfl ?_
  refine v_goto (tgt := 6) dX6_bothOf_47 (by decide) ?_
  exact v_sub [1, 2, 0] rfl (hc6 _ _ _ hF)
def T_bothOf_J45 (N : Nat) (f : Int32 → TM → Option (Int32 × TM)) (c6 : Int32 → Int32 → TM → Option (Int32 × TM)) (v19 : Int32) (M20 : TM) : Option (Int32 × TM) :=
  T_bothOf_J46 N f c6 v19 (0 : Int32) M20
theorem w_T_bothOf_J45 {l : Launch} {G : GT} {fr lo : Nat} {h0 : Hp} {m0 : Nat} {hb : Hp} {N : Nat} {f : Int32 → TM → Option (Int32 × TM)} {r : (Int32 × TM)} {frf lof : Nat} (hbf : 52 ≤ frf) (hbl : 1291 ≤ lof) (hfr : frf + 3 ≤ fr) (hlo : lof + 71 ≤ lo) (hf : ∀ (a1 : Int32) (M : TM) (r : (Int32 × TM)), f a1 M = some r → Ct l G yX6_testOf (ws_ yX6_testOf cX6_testOf 4 (Option.some Jvm.ClassFile.FieldType.boolean)) frf lof [.ref m0, .int a1] (ovT m0 M hb) (some (.int r.1)) (ovT m0 r.2 hb)) {c6 : Int32 → Int32 → TM → Option (Int32 × TM)} (hc6 : ∀ (v3 : Int32) (v4 : Int32) (M5 : TM), c6 v3 v4 M5 = some r → V l G cX6_bothOf RX6 "bothOf" 4 (Option.some Jvm.ClassFile.FieldType.boolean) fr lo h0 (ovT m0 r.2 hb) (QM G (some (.int r.1)) h0 (ovT m0 r.2 hb)) 6 [(0, .ref m0), (1, .int v3), (2, .int v4)] [] (ovT m0 M5 hb)) {v19 : Int32} {M20 : TM} (hF : T_bothOf_J45 N f c6 v19 M20 = some r) : V l G cX6_bothOf RX6 "bothOf" 4 (Option.some Jvm.ClassFile.FieldType.boolean) fr lo h0 (ovT m0 r.2 hb) (QM G (some (.int r.1)) h0 (ovT m0 r.2 hb)) 45 [(0, .ref m0), (1, .int v19)] [] (ovT m0 M20 hb) := by
  unfold T_bothOf_J45 at hF
  refine v_iconst dX6_bothOf_45 (v := 0) (by decide) ?_
  exact v_sub [0, 1] rfl (w_T_bothOf_J46 hbf hbl hfr hlo hf hc6 hF)
def T_bothOf_J29 (N : Nat) (f : Int32 → TM → Option (Int32 × TM)) (c6 : Int32 → Int32 → TM → Option (Int32 × TM)) (v13 : Int32) (v14 : Int32) (v15 : Int32) (M16 : TM) : Option (Int32 × TM) :=
  bd2 (T_plainOf N f v15 M16) fun v18 M17 =>
  if v14 = 0 then
    T_bothOf_J45 N f c6 v13 M17
  else
    if v18 = 0 then
      T_bothOf_J45 N f c6 v13 M17
    else
      T_bothOf_J46 N f c6 v13 (1 : Int32) M17
theorem w_T_bothOf_J29 {l : Launch} {G : GT} {fr lo : Nat} {h0 : Hp} {m0 : Nat} {hb : Hp} {N : Nat} {f : Int32 → TM → Option (Int32 × TM)} {r : (Int32 × TM)} {frf lof : Nat} (hbf : 52 ≤ frf) (hbl : 1291 ≤ lof) (hfr : frf + 3 ≤ fr) (hlo : lof + 71 ≤ lo) (hf : ∀ (a1 : Int32) (M : TM) (r : (Int32 × TM)), f a1 M = some r → Ct l G yX6_testOf (ws_ yX6_testOf cX6_testOf 4 (Option.some Jvm.ClassFile.FieldType.boolean)) frf lof [.ref m0, .int a1] (ovT m0 M hb) (some (.int r.1)) (ovT m0 r.2 hb)) {c6 : Int32 → Int32 → TM → Option (Int32 × TM)} (hc6 : ∀ (v3 : Int32) (v4 : Int32) (M5 : TM), c6 v3 v4 M5 = some r → V l G cX6_bothOf RX6 "bothOf" 4 (Option.some Jvm.ClassFile.FieldType.boolean) fr lo h0 (ovT m0 r.2 hb) (QM G (some (.int r.1)) h0 (ovT m0 r.2 hb)) 6 [(0, .ref m0), (1, .int v3), (2, .int v4)] [] (ovT m0 M5 hb)) {v13 : Int32} {v14 : Int32} {v15 : Int32} {M16 : TM} (hF : T_bothOf_J29 N f c6 v13 v14 v15 M16 = some r) : V l G cX6_bothOf RX6 "bothOf" 4 (Option.some Jvm.ClassFile.FieldType.boolean) fr lo h0 (ovT m0 r.2 hb) (QM G (some (.int r.1)) h0 (ovT m0 r.2 hb)) 29 [(0, .ref m0), (1, .int v13), (2, .int v14)] [.int v15, .ref m0] (ovT m0 M16 hb) := by
  unfold T_bothOf_J29 at hF
  obtain ⟨v18, M17, e_v18, hF⟩ := bd2_spec hF
  refine v_calV1 dX6_bothOf_29 vl_X6_319 q1940 rc_ov (ct_T_plainOf (by omega) (by omega) hf e_v18) rfl rfl (by omega) (by omega) (Nat.le_of_ble_eq_true rfl) ?_
  refine v_istore_n dX6_bothOf_32 rfl (Nat.le_of_ble_eq_true rfl) (L' := [(3, .int v18), (0, .ref m0), (1, .int v13), (2, .int v14)]) rfl ?_
  refine v_iload_n dX6_bothOf_33 rfl 3 rfl ?_
  refine v_if_eq (tgt := 45) dX6_bothOf_34 (by decide) hF (fun hF => ?_) (fun hF => ?_)
  · exact v_sub [1, 2] rfl (w_T_bothOf_J45 hbf hbl hfr hlo hf hc6 hF)
  · refine v_iload_n dX6_bothOf_37 rfl 0 rfl ?_
    refine v_if_eq (tgt := 45) dX6_bothOf_38 (by decide) hF (fun hF => ?_) (fun hF => ?_)
    · exact v_sub [1, 2] rfl (w_T_bothOf_J45 hbf hbl hfr hlo hf hc6 hF)
    · refine v_iconst dX6_bothOf_41 (v := 1) (by decide) ?_
      refine v_goto (tgt := 46) dX6_bothOf_42 (by decide) ?_
      exact v_sub [1, 2] rfl (w_T_bothOf_J46 hbf hbl hfr hlo hf hc6 hF)
def T_bothOf_J28 (N : Nat) (f : Int32 → TM → Option (Int32 × TM)) (c6 : Int32 → Int32 → TM → Option (Int32 × TM)) (v10 : Int32) (v11 : Int32) (M12 : TM) : Option (Int32 × TM) :=
  T_bothOf_J29 N f c6 v10 v11 (0 : Int32) M12
theorem w_T_bothOf_J28 {l : Launch} {G : GT} {fr lo : Nat} {h0 : Hp} {m0 : Nat} {hb : Hp} {N : Nat} {f : Int32 → TM → Option (Int32 × TM)} {r : (Int32 × TM)} {frf lof : Nat} (hbf : 52 ≤ frf) (hbl : 1291 ≤ lof) (hfr : frf + 3 ≤ fr) (hlo : lof + 71 ≤ lo) (hf : ∀ (a1 : Int32) (M : TM) (r : (Int32 × TM)), f a1 M = some r → Ct l G yX6_testOf (ws_ yX6_testOf cX6_testOf 4 (Option.some Jvm.ClassFile.FieldType.boolean)) frf lof [.ref m0, .int a1] (ovT m0 M hb) (some (.int r.1)) (ovT m0 r.2 hb)) {c6 : Int32 → Int32 → TM → Option (Int32 × TM)} (hc6 : ∀ (v3 : Int32) (v4 : Int32) (M5 : TM), c6 v3 v4 M5 = some r → V l G cX6_bothOf RX6 "bothOf" 4 (Option.some Jvm.ClassFile.FieldType.boolean) fr lo h0 (ovT m0 r.2 hb) (QM G (some (.int r.1)) h0 (ovT m0 r.2 hb)) 6 [(0, .ref m0), (1, .int v3), (2, .int v4)] [] (ovT m0 M5 hb)) {v10 : Int32} {v11 : Int32} {M12 : TM} (hF : T_bothOf_J28 N f c6 v10 v11 M12 = some r) : V l G cX6_bothOf RX6 "bothOf" 4 (Option.some Jvm.ClassFile.FieldType.boolean) fr lo h0 (ovT m0 r.2 hb) (QM G (some (.int r.1)) h0 (ovT m0 r.2 hb)) 28 [(0, .ref m0), (1, .int v10), (2, .int v11)] [.ref m0] (ovT m0 M12 hb) := by
  unfold T_bothOf_J28 at hF
  refine v_iconst dX6_bothOf_28 (v := 0) (by decide) ?_
  exact v_sub [0, 1, 2] rfl (w_T_bothOf_J29 hbf hbl hfr hlo hf hc6 hF)
def T_bothOf_L6 (N : Nat) (f : Int32 → TM → Option (Int32 × TM)) (x6 : Int32 → TM → Option (Int32 × TM)) : Nat → Int32 → Int32 → TM → Option (Int32 × TM)
  | 0, _, _, _ => none
  | n24 + 1, v3, v4, M5 =>
    bd2 (T_passes0 (6 : Int32) M5) fun v9 M8 =>
    if v9 = 0 then
      x6 v4 M8
    else
      if v3 = 0 then
        T_bothOf_J28 N f (T_bothOf_L6 N f x6 n24) v3 v4 M8
      else
        if v4 = 0 then
          T_bothOf_J28 N f (T_bothOf_L6 N f x6 n24) v3 v4 M8
        else
          T_bothOf_J29 N f (T_bothOf_L6 N f x6 n24) v3 v4 (1 : Int32) M8
theorem w_T_bothOf_L6 {l : Launch} {G : GT} {fr lo : Nat} {h0 : Hp} {m0 : Nat} {hb : Hp} {N : Nat} {f : Int32 → TM → Option (Int32 × TM)} {r : (Int32 × TM)} {frf lof : Nat} (hbf : 52 ≤ frf) (hbl : 1291 ≤ lof) (hfr : frf + 3 ≤ fr) (hlo : lof + 71 ≤ lo) (hf : ∀ (a1 : Int32) (M : TM) (r : (Int32 × TM)), f a1 M = some r → Ct l G yX6_testOf (ws_ yX6_testOf cX6_testOf 4 (Option.some Jvm.ClassFile.FieldType.boolean)) frf lof [.ref m0, .int a1] (ovT m0 M hb) (some (.int r.1)) (ovT m0 r.2 hb)) {x6 : Int32 → TM → Option (Int32 × TM)} (hx6 : ∀ (v6 : Int32) (M7 : TM), x6 v6 M7 = some r → V l G cX6_bothOf RX6 "bothOf" 4 (Option.some Jvm.ClassFile.FieldType.boolean) fr lo h0 (ovT m0 r.2 hb) (QM G (some (.int r.1)) h0 (ovT m0 r.2 hb)) 50 [(2, .int v6)] [] (ovT m0 M7 hb)) : ∀ (n : Nat) (v3 : Int32) (v4 : Int32) (M5 : TM), T_bothOf_L6 N f x6 n v3 v4 M5 = some r → V l G cX6_bothOf RX6 "bothOf" 4 (Option.some Jvm.ClassFile.FieldType.boolean) fr lo h0 (ovT m0 r.2 hb) (QM G (some (.int r.1)) h0 (ovT m0 r.2 hb)) 6 [(0, .ref m0), (1, .int v3), (2, .int v4)] [] (ovT m0 M5 hb) := by
  intro n
  induction n with
  | zero =>
    intro v3 v4 M5 hF
    cases (show (none : Option (Int32 × TM)) = some r from hF)
  | succ n hc6 =>
    intro v3 v4 M5 hF
    rw [T_bothOf_L6] at hF
    refine v_aload_n dX6_bothOf_6 rfl 0 rfl ?_
    refine v_bipush dX6_bothOf_7 (v := 6) (by decide) ?_
    obtain ⟨v9, M8, e_v9, hF⟩ := bd2_spec hF
    refine v_calV1 dX6_bothOf_9 vl_X6_292 q1906 rc_ov (ct_T_passes0 e_v9) rfl rfl (by omega) (by omega) (Nat.le_of_ble_eq_true rfl) ?_
    refine v_if_eq (tgt := 50) dX6_bothOf_12 (by decide) hF (fun hF => ?_) (fun hF => ?_)
    · exact v_sub [2] rfl (hx6 _ _ hF)
    · refine v_aload_n dX6_bothOf_15 rfl 0 rfl ?_
      refine v_iload_n dX6_bothOf_16 rfl 1 rfl ?_
      refine v_if_eq (tgt := 28) dX6_bothOf_17 (by decide) hF (fun hF => ?_) (fun hF => ?_)
      · exact v_sub [0, 1, 2] rfl (w_T_bothOf_J28 hbf hbl hfr hlo hf hc6 hF)
      · refine v_iload_n dX6_bothOf_20 rfl 2 rfl ?_
        refine v_if_eq (tgt := 28) dX6_bothOf_21 (by decide) hF (fun hF => ?_) (fun hF => ?_)
        · exact v_sub [0, 1, 2] rfl (w_T_bothOf_J28 hbf hbl hfr hlo hf hc6 hF)
        · refine v_iconst dX6_bothOf_24 (v := 1) (by decide) ?_
          refine v_goto (tgt := 29) dX6_bothOf_25 (by decide) ?_
          exact v_sub [0, 1, 2] rfl (w_T_bothOf_J29 hbf hbl hfr hlo hf hc6 hF)
def T_bothOf (N : Nat) (f : Int32 → TM → Option (Int32 × TM)) (a1 : Int32) (M : TM) : Option (Int32 × TM) :=
  bd2 (T_plainOf N f a1 M) fun v2 M1 =>
  T_bothOf_L6 N f (fun v25 M26 =>
    (rz v25).bind fun v27 => some (v27, M26)) N a1 v2 M1
theorem w_T_bothOf {l : Launch} {G : GT} {fr lo : Nat} {h0 : Hp} {m0 : Nat} {hb : Hp} {N : Nat} {f : Int32 → TM → Option (Int32 × TM)} {r : (Int32 × TM)} {frf lof : Nat} (hbf : 52 ≤ frf) (hbl : 1291 ≤ lof) (hfr : frf + 3 ≤ fr) (hlo : lof + 71 ≤ lo) (hf : ∀ (a1 : Int32) (M : TM) (r : (Int32 × TM)), f a1 M = some r → Ct l G yX6_testOf (ws_ yX6_testOf cX6_testOf 4 (Option.some Jvm.ClassFile.FieldType.boolean)) frf lof [.ref m0, .int a1] (ovT m0 M hb) (some (.int r.1)) (ovT m0 r.2 hb)) {a1 : Int32} {M : TM} (hF : T_bothOf N f a1 M = some r) : V l G cX6_bothOf RX6 "bothOf" 4 (Option.some Jvm.ClassFile.FieldType.boolean) fr lo h0 (ovT m0 r.2 hb) (QM G (some (.int r.1)) h0 (ovT m0 r.2 hb)) 0 [(0, .ref m0), (1, .int a1)] [] (ovT m0 M hb) := by
  unfold T_bothOf at hF
  refine v_aload_n dX6_bothOf_0 rfl 0 rfl ?_
  refine v_iload_n dX6_bothOf_1 rfl 1 rfl ?_
  obtain ⟨v2, M1, e_v2, hF⟩ := bd2_spec hF
  refine v_calV1 dX6_bothOf_2 vl_X6_319 q1940 rc_ov (ct_T_plainOf (by omega) (by omega) hf e_v2) rfl rfl (by omega) (by omega) (Nat.le_of_ble_eq_true rfl) ?_
  refine v_istore_n dX6_bothOf_5 rfl (Nat.le_of_ble_eq_true rfl) (L' := [(2, .int v2), (0, .ref m0), (1, .int a1)]) rfl ?_
  refine v_sub [1, 2, 0] rfl (w_T_bothOf_L6 hbf hbl hfr hlo hf ?_ N _ _ _ hF)
  intro v25 M26 hF
  refine v_iload_n dX6_bothOf_50 rfl 0 rfl ?_
  refine v_zchk hF (fun v27 hz hF => ?_)
  cases hF
  exact v_iret dX6_bothOf_51 rfl (nar_z hz) rfl rfl
theorem ct_T_bothOf {l : Launch} {G : GT} {m0 : Nat} {hb : Hp} {N : Nat} {f : Int32 → TM → Option (Int32 × TM)} {frf lof : Nat} (hbf : 52 ≤ frf) (hbl : 1291 ≤ lof) (hf : ∀ (a1 : Int32) (M : TM) (r : (Int32 × TM)), f a1 M = some r → Ct l G yX6_testOf (ws_ yX6_testOf cX6_testOf 4 (Option.some Jvm.ClassFile.FieldType.boolean)) frf lof [.ref m0, .int a1] (ovT m0 M hb) (some (.int r.1)) (ovT m0 r.2 hb)) {r : (Int32 × TM)} {a1 : Int32} {M : TM} (hF : T_bothOf N f a1 M = some r) : Ct l G yX6_bothOf (ws_ yX6_bothOf cX6_bothOf 4 (Option.some Jvm.ClassFile.FieldType.boolean)) (frf + 3) (lof + 71) [.ref m0, .int a1] (ovT m0 M hb) (some (.int r.1)) (ovT m0 r.2 hb) :=
  ct_of (by decide) (Nat.le_of_ble_eq_true rfl) (w_T_bothOf hbf hbl (Nat.le_refl _) (Nat.le_refl _) hf hF)
theorem vl_X6_316 : ∀ ci ∈ [6], VL RX6 316 ci yX6_bothOf 1 := by
  intro ci h
  simp only [List.mem_cons, List.not_mem_nil, or_false] at h
  subst h; exact ⟨RX6, TX6, 56, rfl, q146, ⟨by decide, by decide⟩, by decide +kernel, q1935, Or.inl ⟨q1933, qs73⟩⟩
def T_testOf_o_J45 (N : Nat) (f : Int32 → TM → Option (Int32 × TM)) (c6 : Int32 → Int32 → TM → Option (Int32 × TM)) (v21 : Int32) (v22 : Int32) (M23 : TM) : Option (Int32 × TM) :=
  c6 v21 v22 M23
theorem w_T_testOf_o_J45 {l : Launch} {G : GT} {fr lo : Nat} {h0 : Hp} {m0 : Nat} {hb : Hp} {N : Nat} {f : Int32 → TM → Option (Int32 × TM)} {r : (Int32 × TM)} {frf lof : Nat} (hbf : 52 ≤ frf) (hbl : 1291 ≤ lof) (hfr : frf + 4 ≤ fr) (hlo : lof + 94 ≤ lo) (hf : ∀ (a1 : Int32) (M : TM) (r : (Int32 × TM)), f a1 M = some r → Ct l G yX6_testOf (ws_ yX6_testOf cX6_testOf 4 (Option.some Jvm.ClassFile.FieldType.boolean)) frf lof [.ref m0, .int a1] (ovT m0 M hb) (some (.int r.1)) (ovT m0 r.2 hb)) {c6 : Int32 → Int32 → TM → Option (Int32 × TM)} (hc6 : ∀ (v3 : Int32) (v4 : Int32) (M5 : TM), c6 v3 v4 M5 = some r → V l G cX6_testOf RX6 "testOf" 4 (Option.some Jvm.ClassFile.FieldType.boolean) fr lo h0 (ovT m0 r.2 hb) (QM G (some (.int r.1)) h0 (ovT m0 r.2 hb)) 6 [(0, .ref m0), (1, .int v3), (2, .int v4)] [] (ovT m0 M5 hb)) {v21 : Int32} {v22 : Int32} {M23 : TM} (hF : T_testOf_o_J45 N f c6 v21 v22 M23 = some r) : V l G cX6_testOf RX6 "testOf" 4 (Option.some Jvm.ClassFile.FieldType.boolean) fr lo h0 (ovT m0 r.2 hb) (QM G (some (.int r.1)) h0 (ovT m0 r.2 hb)) 45 [(0, .ref m0), (1, .int v21)] [.int v22] (ovT m0 M23 hb) := by
  unfold T_testOf_o_J45 at hF
  refine v_istore_n dX6_testOf_45 rfl (Nat.le_of_ble_eq_true rfl) (L' := [(2, .int v22), (0, .ref m0), (1, .int v21)]) rfl ?_
  refine v_goto (tgt := 6) dX6_testOf_46 (by decide) ?_
  exact v_sub [1, 2, 0] rfl (hc6 _ _ _ hF)
def T_testOf_o_J40 (N : Nat) (f : Int32 → TM → Option (Int32 × TM)) (c6 : Int32 → Int32 → TM → Option (Int32 × TM)) (v19 : Int32) (M20 : TM) : Option (Int32 × TM) :=
  T_testOf_o_J45 N f c6 v19 (1 : Int32) M20
theorem w_T_testOf_o_J40 {l : Launch} {G : GT} {fr lo : Nat} {h0 : Hp} {m0 : Nat} {hb : Hp} {N : Nat} {f : Int32 → TM → Option (Int32 × TM)} {r : (Int32 × TM)} {frf lof : Nat} (hbf : 52 ≤ frf) (hbl : 1291 ≤ lof) (hfr : frf + 4 ≤ fr) (hlo : lof + 94 ≤ lo) (hf : ∀ (a1 : Int32) (M : TM) (r : (Int32 × TM)), f a1 M = some r → Ct l G yX6_testOf (ws_ yX6_testOf cX6_testOf 4 (Option.some Jvm.ClassFile.FieldType.boolean)) frf lof [.ref m0, .int a1] (ovT m0 M hb) (some (.int r.1)) (ovT m0 r.2 hb)) {c6 : Int32 → Int32 → TM → Option (Int32 × TM)} (hc6 : ∀ (v3 : Int32) (v4 : Int32) (M5 : TM), c6 v3 v4 M5 = some r → V l G cX6_testOf RX6 "testOf" 4 (Option.some Jvm.ClassFile.FieldType.boolean) fr lo h0 (ovT m0 r.2 hb) (QM G (some (.int r.1)) h0 (ovT m0 r.2 hb)) 6 [(0, .ref m0), (1, .int v3), (2, .int v4)] [] (ovT m0 M5 hb)) {v19 : Int32} {M20 : TM} (hF : T_testOf_o_J40 N f c6 v19 M20 = some r) : V l G cX6_testOf RX6 "testOf" 4 (Option.some Jvm.ClassFile.FieldType.boolean) fr lo h0 (ovT m0 r.2 hb) (QM G (some (.int r.1)) h0 (ovT m0 r.2 hb)) 40 [(0, .ref m0), (1, .int v19)] [] (ovT m0 M20 hb) := by
  unfold T_testOf_o_J40 at hF
  refine v_iconst dX6_testOf_40 (v := 1) (by decide) ?_
  refine v_goto (tgt := 45) dX6_testOf_41 (by decide) ?_
  exact v_sub [0, 1] rfl (w_T_testOf_o_J45 hbf hbl hfr hlo hf hc6 hF)
def T_testOf_o_J28 (N : Nat) (f : Int32 → TM → Option (Int32 × TM)) (c6 : Int32 → Int32 → TM → Option (Int32 × TM)) (v13 : Int32) (v14 : Int32) (v15 : Int32) (M16 : TM) : Option (Int32 × TM) :=
  bd2 (T_bothOf N f v15 M16) fun v18 M17 =>
  if v14 = 0 then
    if v18 = 0 then
      T_testOf_o_J45 N f c6 v13 (0 : Int32) M17
    else
      T_testOf_o_J40 N f c6 v13 M17
  else
    T_testOf_o_J40 N f c6 v13 M17
theorem w_T_testOf_o_J28 {l : Launch} {G : GT} {fr lo : Nat} {h0 : Hp} {m0 : Nat} {hb : Hp} {N : Nat} {f : Int32 → TM → Option (Int32 × TM)} {r : (Int32 × TM)} {frf lof : Nat} (hbf : 52 ≤ frf) (hbl : 1291 ≤ lof) (hfr : frf + 4 ≤ fr) (hlo : lof + 94 ≤ lo) (hf : ∀ (a1 : Int32) (M : TM) (r : (Int32 × TM)), f a1 M = some r → Ct l G yX6_testOf (ws_ yX6_testOf cX6_testOf 4 (Option.some Jvm.ClassFile.FieldType.boolean)) frf lof [.ref m0, .int a1] (ovT m0 M hb) (some (.int r.1)) (ovT m0 r.2 hb)) {c6 : Int32 → Int32 → TM → Option (Int32 × TM)} (hc6 : ∀ (v3 : Int32) (v4 : Int32) (M5 : TM), c6 v3 v4 M5 = some r → V l G cX6_testOf RX6 "testOf" 4 (Option.some Jvm.ClassFile.FieldType.boolean) fr lo h0 (ovT m0 r.2 hb) (QM G (some (.int r.1)) h0 (ovT m0 r.2 hb)) 6 [(0, .ref m0), (1, .int v3), (2, .int v4)] [] (ovT m0 M5 hb)) {v13 : Int32} {v14 : Int32} {v15 : Int32} {M16 : TM} (hF : T_testOf_o_J28 N f c6 v13 v14 v15 M16 = some r) : V l G cX6_testOf RX6 "testOf" 4 (Option.some Jvm.ClassFile.FieldType.boolean) fr lo h0 (ovT m0 r.2 hb) (QM G (some (.int r.1)) h0 (ovT m0 r.2 hb)) 28 [(0, .ref m0), (1, .int v13), (2, .int v14)] [.int v15, .ref m0] (ovT m0 M16 hb) := by
  unfold T_testOf_o_J28 at hF
  obtain ⟨v18, M17, e_v18, hF⟩ := bd2_spec hF
  refine v_calV1 dX6_testOf_28 vl_X6_316 q1936 rc_ov (ct_T_bothOf (by omega) (by omega) hf e_v18) rfl rfl (by omega) (by omega) (Nat.le_of_ble_eq_true rfl) ?_
  refine v_istore_n dX6_testOf_31 rfl (Nat.le_of_ble_eq_true rfl) (L' := [(3, .int v18), (0, .ref m0), (1, .int v13), (2, .int v14)]) rfl ?_
  refine v_iload_n dX6_testOf_32 rfl 3 rfl ?_
  refine v_if_ne (tgt := 40) dX6_testOf_33 (by decide) hF (fun hF => ?_) (fun hF => ?_)
  · exact v_sub [1, 2] rfl (w_T_testOf_o_J40 hbf hbl hfr hlo hf hc6 hF)
  · refine v_iload_n dX6_testOf_36 rfl 0 rfl ?_
    refine v_if_eq (tgt := 44) dX6_testOf_37 (by decide) hF (fun hF => ?_) (fun hF => ?_)
    · refine v_iconst dX6_testOf_44 (v := 0) (by decide) ?_
      exact v_sub [1, 2] rfl (w_T_testOf_o_J45 hbf hbl hfr hlo hf hc6 hF)
    · exact v_sub [1, 2] rfl (w_T_testOf_o_J40 hbf hbl hfr hlo hf hc6 hF)
def T_testOf_o_J27 (N : Nat) (f : Int32 → TM → Option (Int32 × TM)) (c6 : Int32 → Int32 → TM → Option (Int32 × TM)) (v10 : Int32) (v11 : Int32) (M12 : TM) : Option (Int32 × TM) :=
  T_testOf_o_J28 N f c6 v10 v11 (0 : Int32) M12
theorem w_T_testOf_o_J27 {l : Launch} {G : GT} {fr lo : Nat} {h0 : Hp} {m0 : Nat} {hb : Hp} {N : Nat} {f : Int32 → TM → Option (Int32 × TM)} {r : (Int32 × TM)} {frf lof : Nat} (hbf : 52 ≤ frf) (hbl : 1291 ≤ lof) (hfr : frf + 4 ≤ fr) (hlo : lof + 94 ≤ lo) (hf : ∀ (a1 : Int32) (M : TM) (r : (Int32 × TM)), f a1 M = some r → Ct l G yX6_testOf (ws_ yX6_testOf cX6_testOf 4 (Option.some Jvm.ClassFile.FieldType.boolean)) frf lof [.ref m0, .int a1] (ovT m0 M hb) (some (.int r.1)) (ovT m0 r.2 hb)) {c6 : Int32 → Int32 → TM → Option (Int32 × TM)} (hc6 : ∀ (v3 : Int32) (v4 : Int32) (M5 : TM), c6 v3 v4 M5 = some r → V l G cX6_testOf RX6 "testOf" 4 (Option.some Jvm.ClassFile.FieldType.boolean) fr lo h0 (ovT m0 r.2 hb) (QM G (some (.int r.1)) h0 (ovT m0 r.2 hb)) 6 [(0, .ref m0), (1, .int v3), (2, .int v4)] [] (ovT m0 M5 hb)) {v10 : Int32} {v11 : Int32} {M12 : TM} (hF : T_testOf_o_J27 N f c6 v10 v11 M12 = some r) : V l G cX6_testOf RX6 "testOf" 4 (Option.some Jvm.ClassFile.FieldType.boolean) fr lo h0 (ovT m0 r.2 hb) (QM G (some (.int r.1)) h0 (ovT m0 r.2 hb)) 27 [(0, .ref m0), (1, .int v10), (2, .int v11)] [.ref m0] (ovT m0 M12 hb) := by
  unfold T_testOf_o_J27 at hF
  refine v_iconst dX6_testOf_27 (v := 0) (by decide) ?_
  exact v_sub [0, 1, 2] rfl (w_T_testOf_o_J28 hbf hbl hfr hlo hf hc6 hF)
def T_testOf_o_L6 (N : Nat) (f : Int32 → TM → Option (Int32 × TM)) (x6 : Int32 → TM → Option (Int32 × TM)) : Nat → Int32 → Int32 → TM → Option (Int32 × TM)
  | 0, _, _, _ => none
  | n24 + 1, v3, v4, M5 =>
    bd2 (T_passes0 (5 : Int32) M5) fun v9 M8 =>
    if v9 = 0 then
      x6 v4 M8
    else
      if v3 = 0 then
        T_testOf_o_J27 N f (T_testOf_o_L6 N f x6 n24) v3 v4 M8
      else
        if v4 = 0 then
          T_testOf_o_J28 N f (T_testOf_o_L6 N f x6 n24) v3 v4 (1 : Int32) M8
        else
          T_testOf_o_J27 N f (T_testOf_o_L6 N f x6 n24) v3 v4 M8
theorem w_T_testOf_o_L6 {l : Launch} {G : GT} {fr lo : Nat} {h0 : Hp} {m0 : Nat} {hb : Hp} {N : Nat} {f : Int32 → TM → Option (Int32 × TM)} {r : (Int32 × TM)} {frf lof : Nat} (hbf : 52 ≤ frf) (hbl : 1291 ≤ lof) (hfr : frf + 4 ≤ fr) (hlo : lof + 94 ≤ lo) (hf : ∀ (a1 : Int32) (M : TM) (r : (Int32 × TM)), f a1 M = some r → Ct l G yX6_testOf (ws_ yX6_testOf cX6_testOf 4 (Option.some Jvm.ClassFile.FieldType.boolean)) frf lof [.ref m0, .int a1] (ovT m0 M hb) (some (.int r.1)) (ovT m0 r.2 hb)) {x6 : Int32 → TM → Option (Int32 × TM)} (hx6 : ∀ (v6 : Int32) (M7 : TM), x6 v6 M7 = some r → V l G cX6_testOf RX6 "testOf" 4 (Option.some Jvm.ClassFile.FieldType.boolean) fr lo h0 (ovT m0 r.2 hb) (QM G (some (.int r.1)) h0 (ovT m0 r.2 hb)) 49 [(2, .int v6)] [] (ovT m0 M7 hb)) : ∀ (n : Nat) (v3 : Int32) (v4 : Int32) (M5 : TM), T_testOf_o_L6 N f x6 n v3 v4 M5 = some r → V l G cX6_testOf RX6 "testOf" 4 (Option.some Jvm.ClassFile.FieldType.boolean) fr lo h0 (ovT m0 r.2 hb) (QM G (some (.int r.1)) h0 (ovT m0 r.2 hb)) 6 [(0, .ref m0), (1, .int v3), (2, .int v4)] [] (ovT m0 M5 hb) := by
  intro n
  induction n with
  | zero =>
    intro v3 v4 M5 hF
    cases (show (none : Option (Int32 × TM)) = some r from hF)
  | succ n hc6 =>
    intro v3 v4 M5 hF
    rw [T_testOf_o_L6] at hF
    refine v_aload_n dX6_testOf_6 rfl 0 rfl ?_
    refine v_iconst dX6_testOf_7 (v := 5) (by decide) ?_
    obtain ⟨v9, M8, e_v9, hF⟩ := bd2_spec hF
    refine v_calV1 dX6_testOf_8 vl_X6_292 q1906 rc_ov (ct_T_passes0 e_v9) rfl rfl (by omega) (by omega) (Nat.le_of_ble_eq_true rfl) ?_
    refine v_if_eq (tgt := 49) dX6_testOf_11 (by decide) hF (fun hF => ?_) (fun hF => ?_)
    · exact v_sub [2] rfl (hx6 _ _ hF)
    · refine v_aload_n dX6_testOf_14 rfl 0 rfl ?_
      refine v_iload_n dX6_testOf_15 rfl 1 rfl ?_
      refine v_if_eq (tgt := 27) dX6_testOf_16 (by decide) hF (fun hF => ?_) (fun hF => ?_)
      · exact v_sub [0, 1, 2] rfl (w_T_testOf_o_J27 hbf hbl hfr hlo hf hc6 hF)
      · refine v_iload_n dX6_testOf_19 rfl 2 rfl ?_
        refine v_if_ne (tgt := 27) dX6_testOf_20 (by decide) hF (fun hF => ?_) (fun hF => ?_)
        · exact v_sub [0, 1, 2] rfl (w_T_testOf_o_J27 hbf hbl hfr hlo hf hc6 hF)
        · refine v_iconst dX6_testOf_23 (v := 1) (by decide) ?_
          refine v_goto (tgt := 28) dX6_testOf_24 (by decide) ?_
          exact v_sub [0, 1, 2] rfl (w_T_testOf_o_J28 hbf hbl hfr hlo hf hc6 hF)
def T_testOf_o (N : Nat) (f : Int32 → TM → Option (Int32 × TM)) (a1 : Int32) (M : TM) : Option (Int32 × TM) :=
  bd2 (T_bothOf N f a1 M) fun v2 M1 =>
  T_testOf_o_L6 N f (fun v25 M26 =>
    (rz v25).bind fun v27 => some (v27, M26)) N a1 v2 M1
theorem w_T_testOf_o {l : Launch} {G : GT} {fr lo : Nat} {h0 : Hp} {m0 : Nat} {hb : Hp} {N : Nat} {f : Int32 → TM → Option (Int32 × TM)} {r : (Int32 × TM)} {frf lof : Nat} (hbf : 52 ≤ frf) (hbl : 1291 ≤ lof) (hfr : frf + 4 ≤ fr) (hlo : lof + 94 ≤ lo) (hf : ∀ (a1 : Int32) (M : TM) (r : (Int32 × TM)), f a1 M = some r → Ct l G yX6_testOf (ws_ yX6_testOf cX6_testOf 4 (Option.some Jvm.ClassFile.FieldType.boolean)) frf lof [.ref m0, .int a1] (ovT m0 M hb) (some (.int r.1)) (ovT m0 r.2 hb)) {a1 : Int32} {M : TM} (hF : T_testOf_o N f a1 M = some r) : V l G cX6_testOf RX6 "testOf" 4 (Option.some Jvm.ClassFile.FieldType.boolean) fr lo h0 (ovT m0 r.2 hb) (QM G (some (.int r.1)) h0 (ovT m0 r.2 hb)) 0 [(0, .ref m0), (1, .int a1)] [] (ovT m0 M hb) := by
  unfold T_testOf_o at hF
  refine v_aload_n dX6_testOf_0 rfl 0 rfl ?_
  refine v_iload_n dX6_testOf_1 rfl 1 rfl ?_
  obtain ⟨v2, M1, e_v2, hF⟩ := bd2_spec hF
  refine v_calV1 dX6_testOf_2 vl_X6_316 q1936 rc_ov (ct_T_bothOf (by omega) (by omega) hf e_v2) rfl rfl (by omega) (by omega) (Nat.le_of_ble_eq_true rfl) ?_
  refine v_istore_n dX6_testOf_5 rfl (Nat.le_of_ble_eq_true rfl) (L' := [(2, .int v2), (0, .ref m0), (1, .int a1)]) rfl ?_
  refine v_sub [1, 2, 0] rfl (w_T_testOf_o_L6 hbf hbl hfr hlo hf ?_ N _ _ _ hF)
  intro v25 M26 hF
  refine v_iload_n dX6_testOf_49 rfl 0 rfl ?_
  refine v_zchk hF (fun v27 hz hF => ?_)
  cases hF
  exact v_iret dX6_testOf_50 rfl (nar_z hz) rfl rfl
theorem ct_T_testOf_o {l : Launch} {G : GT} {m0 : Nat} {hb : Hp} {N : Nat} {f : Int32 → TM → Option (Int32 × TM)} {frf lof : Nat} (hbf : 52 ≤ frf) (hbl : 1291 ≤ lof) (hf : ∀ (a1 : Int32) (M : TM) (r : (Int32 × TM)), f a1 M = some r → Ct l G yX6_testOf (ws_ yX6_testOf cX6_testOf 4 (Option.some Jvm.ClassFile.FieldType.boolean)) frf lof [.ref m0, .int a1] (ovT m0 M hb) (some (.int r.1)) (ovT m0 r.2 hb)) {r : (Int32 × TM)} {a1 : Int32} {M : TM} (hF : T_testOf_o N f a1 M = some r) : Ct l G yX6_testOf (ws_ yX6_testOf cX6_testOf 4 (Option.some Jvm.ClassFile.FieldType.boolean)) (frf + 4) (lof + 94) [.ref m0, .int a1] (ovT m0 M hb) (some (.int r.1)) (ovT m0 r.2 hb) :=
  ct_of (by decide) (Nat.le_of_ble_eq_true rfl) (w_T_testOf_o hbf hbl (Nat.le_refl _) (Nat.le_refl _) hf hF)
def T_testOf (N : Nat) : Nat → Int32 → TM → Option (Int32 × TM)
  | 0, _, _ => none
  | d + 1, a1, M => T_testOf_o N (T_testOf N d) a1 M
theorem ctd_T_testOf {l : Launch} {G : GT} {m0 : Nat} {hb : Hp} {N : Nat} : ∀ (d : Nat) {r : (Int32 × TM)} {a1 : Int32} {M : TM} (hF : T_testOf N d a1 M = some r), Ct l G yX6_testOf (ws_ yX6_testOf cX6_testOf 4 (Option.some Jvm.ClassFile.FieldType.boolean)) (52 + 4 * d) (1291 + 94 * d) [.ref m0, .int a1] (ovT m0 M hb) (some (.int r.1)) (ovT m0 r.2 hb) := by
  intro d
  induction d with
  | zero => intro r a1 M hF; cases (show (none : Option (Int32 × TM)) = some r from hF)
  | succ d ih =>
    intro r a1 M hF
    rw [show 52 + 4 * (d + 1) = (52 + 4 * d) + 4 by omega, show 1291 + 94 * (d + 1) = (1291 + 94 * d) + 94 by omega]
    exact ct_T_testOf_o (frf := 52 + 4 * d) (lof := 1291 + 94 * d) (by omega) (by omega) (fun _ _ _ z => ih z) hF
theorem pl_X6_298 : PL RX6 298 [6] 25 (.boolean) false := by
  intro ci h
  simp only [List.mem_cons, List.not_mem_nil, or_false] at h
  subst h; exact ⟨RX6, _, TX6, 56, tyX6, rfl, in_X6, by decide, Or.inl q1659, Or.inl rfl, tyX6_ok, rfl, by decide +kernel, rfl, fun z => by cases z⟩
theorem pl_X6_265 : PL RX6 265 [6] 23 (.int) false := by
  intro ci h
  simp only [List.mem_cons, List.not_mem_nil, or_false] at h
  subst h; exact ⟨RX6, _, TX6, 56, tyX6, rfl, in_X6, by decide, Or.inl q1657, Or.inl rfl, tyX6_ok, rfl, by decide +kernel, rfl, fun z => by cases z⟩
def T_tells_J199 (N : Nat) (c61 : Int32 → Int32 → Int64 → TM → Option (Int32 × TM)) (v43 : Int32) (v44 : Int32) (v45 : Int64) (M46 : TM) : Option (Int32 × TM) :=
  (some (tsi M46 22 ((M46.1 22) + (1 : Int32)))).bind fun (M47 : TM) =>
  c61 v43 v44 v45 M47
theorem w_T_tells_J199 {l : Launch} {G : GT} {fr lo : Nat} {h0 : Hp} {m0 : Nat} {hb : Hp} {N : Nat} {r : (Int32 × TM)} (hfr : 117 ≤ fr) (hlo : 2818 ≤ lo) {c61 : Int32 → Int32 → Int64 → TM → Option (Int32 × TM)} (hc61 : ∀ (v8 : Int32) (v9 : Int32) (v10 : Int64) (M11 : TM), c61 v8 v9 v10 M11 = some r → V l G cX6_tells RX6 "tells" 11 (Option.some Jvm.ClassFile.FieldType.int) fr lo h0 (ovT m0 r.2 hb) (QM G (some (.int r.1)) h0 (ovT m0 r.2 hb)) 61 [(0, .ref m0), (1, .int v8), (2, .int v9), (4, .long v10)] [] (ovT m0 M11 hb)) {v43 : Int32} {v44 : Int32} {v45 : Int64} {M46 : TM} (hF : T_tells_J199 N c61 v43 v44 v45 M46 = some r) : V l G cX6_tells RX6 "tells" 11 (Option.some Jvm.ClassFile.FieldType.int) fr lo h0 (ovT m0 r.2 hb) (QM G (some (.int r.1)) h0 (ovT m0 r.2 hb)) 199 [(0, .ref m0), (1, .int v43), (2, .int v44), (4, .long v45)] [] (ovT m0 M46 hb) := by
  unfold T_tells_J199 at hF
  refine v_aload_n dX6_tells_199 rfl 0 rfl ?_
  refine v_dup dX6_tells_200 rfl ?_
  refine t_geti 22 dX6_tells_201 fl_X6_268 rfl ?_
  refine v_iconst dX6_tells_204 (v := 1) (by decide) ?_
  refine v_iadd dX6_tells_205 ?_
  refine t_puti 22 dX6_tells_206 pl_X6_268 rfl ?_
  refine v_letM hF (fun M47 hF => ?_)
  refine v_goto (tgt := 61) dX6_tells_209 (by decide) ?_
  exact v_sub [0, 1, 2, 3] rfl (hc61 _ _ _ _ hF)
def T_tells_J197 (N : Nat) (c61 : Int32 → Int32 → Int64 → TM → Option (Int32 × TM)) (v48 : Int32) (v49 : Int32) (v50 : Int64) (M51 : TM) : Option (Int32 × TM) :=
  T_tells_J199 N c61 v48 v49 v50 M51
theorem w_T_tells_J197 {l : Launch} {G : GT} {fr lo : Nat} {h0 : Hp} {m0 : Nat} {hb : Hp} {N : Nat} {r : (Int32 × TM)} (hfr : 117 ≤ fr) (hlo : 2818 ≤ lo) {c61 : Int32 → Int32 → Int64 → TM → Option (Int32 × TM)} (hc61 : ∀ (v8 : Int32) (v9 : Int32) (v10 : Int64) (M11 : TM), c61 v8 v9 v10 M11 = some r → V l G cX6_tells RX6 "tells" 11 (Option.some Jvm.ClassFile.FieldType.int) fr lo h0 (ovT m0 r.2 hb) (QM G (some (.int r.1)) h0 (ovT m0 r.2 hb)) 61 [(0, .ref m0), (1, .int v8), (2, .int v9), (4, .long v10)] [] (ovT m0 M11 hb)) {v48 : Int32} {v49 : Int32} {v50 : Int64} {M51 : TM} (hF : T_tells_J197 N c61 v48 v49 v50 M51 = some r) : V l G cX6_tells RX6 "tells" 11 (Option.some Jvm.ClassFile.FieldType.int) fr lo h0 (ovT m0 r.2 hb) (QM G (some (.int r.1)) h0 (ovT m0 r.2 hb)) 197 [(0, .ref m0), (1, .int v48), (2, .int v49)] [.long v50] (ovT m0 M51 hb) := by
  unfold T_tells_J197 at hF
  refine v_lstore dX6_tells_197 (Nat.le_of_ble_eq_true rfl) (L' := [(4, .long v50), (0, .ref m0), (1, .int v48), (2, .int v49)]) rfl ?_
  exact v_sub [1, 2, 3, 0] rfl (w_T_tells_J199 hfr hlo hc61 hF)
def T_tells_J146 (N : Nat) (c61 : Int32 → Int32 → Int64 → TM → Option (Int32 × TM)) (v35 : Int32) (v36 : Int32) (v37 : Int64) (v38 : Int32) (v39 : Int64) (v40 : Int32) (v41 : Int32) (M42 : TM) : Option (Int32 × TM) :=
  if v38 = v35 then
    if v41 = 0 then
      T_tells_J199 N c61 v35 v36 v37 M42
    else
      if (M42.1 24) = 0 then
        if v40 = 0 then
          if 0 ≤ (lg_cmp v39 (0 : Int64)) then
            if (lg_cmp v39 v36.toInt64) ≤ 0 then
              T_tells_J197 N c61 v35 v36 v39 M42
            else
              T_tells_J197 N c61 v35 v36 v36.toInt64 M42
          else
            T_tells_J197 N c61 v35 v36 (0 : Int64) M42
        else
          T_tells_J199 N c61 v35 v36 v37 M42
      else
        T_tells_J199 N c61 v35 v36 v37 M42
  else
    T_tells_J199 N c61 v35 v36 v37 M42
theorem w_T_tells_J146 {l : Launch} {G : GT} {fr lo : Nat} {h0 : Hp} {m0 : Nat} {hb : Hp} {N : Nat} {r : (Int32 × TM)} (hfr : 117 ≤ fr) (hlo : 2818 ≤ lo) {c61 : Int32 → Int32 → Int64 → TM → Option (Int32 × TM)} (hc61 : ∀ (v8 : Int32) (v9 : Int32) (v10 : Int64) (M11 : TM), c61 v8 v9 v10 M11 = some r → V l G cX6_tells RX6 "tells" 11 (Option.some Jvm.ClassFile.FieldType.int) fr lo h0 (ovT m0 r.2 hb) (QM G (some (.int r.1)) h0 (ovT m0 r.2 hb)) 61 [(0, .ref m0), (1, .int v8), (2, .int v9), (4, .long v10)] [] (ovT m0 M11 hb)) {v35 : Int32} {v36 : Int32} {v37 : Int64} {v38 : Int32} {v39 : Int64} {v40 : Int32} {v41 : Int32} {M42 : TM} (hF : T_tells_J146 N c61 v35 v36 v37 v38 v39 v40 v41 M42 = some r) : V l G cX6_tells RX6 "tells" 11 (Option.some Jvm.ClassFile.FieldType.int) fr lo h0 (ovT m0 r.2 hb) (QM G (some (.int r.1)) h0 (ovT m0 r.2 hb)) 146 [(0, .ref m0), (1, .int v35), (2, .int v36), (4, .long v37), (6, .int v38), (7, .long v39), (9, .int v40)] [.int v41] (ovT m0 M42 hb) := by
  unfold T_tells_J146 at hF
  refine v_istore dX6_tells_146 (Nat.le_of_ble_eq_true rfl) (L' := [(10, .int v41), (0, .ref m0), (1, .int v35), (2, .int v36), (4, .long v37), (6, .int v38), (7, .long v39), (9, .int v40)]) rfl ?_
  refine v_iload dX6_tells_148 5 rfl ?_
  refine v_iload_n dX6_tells_150 rfl 2 rfl ?_
  refine v_icmp_ne (tgt := 199) dX6_tells_151 (by decide) hF (fun hF => ?_) (fun hF => ?_)
  · exact v_sub [1, 2, 3, 4] rfl (w_T_tells_J199 hfr hlo hc61 hF)
  · refine v_iload dX6_tells_154 0 rfl ?_
    refine v_if_eq (tgt := 199) dX6_tells_156 (by decide) hF (fun hF => ?_) (fun hF => ?_)
    · exact v_sub [1, 2, 3, 4] rfl (w_T_tells_J199 hfr hlo hc61 hF)
    · refine v_aload_n dX6_tells_159 rfl 1 rfl ?_
      refine t_geti 24 dX6_tells_160 fl_X6_278 rfl ?_
      refine v_if_ne (tgt := 199) dX6_tells_163 (by decide) hF (fun hF => ?_) (fun hF => ?_)
      · exact v_sub [1, 2, 3, 4] rfl (w_T_tells_J199 hfr hlo hc61 hF)
      · refine v_iload dX6_tells_166 7 rfl ?_
        refine v_if_ne (tgt := 199) dX6_tells_168 (by decide) hF (fun hF => ?_) (fun hF => ?_)
        · exact v_sub [1, 2, 3, 4] rfl (w_T_tells_J199 hfr hlo hc61 hF)
        · refine v_lload dX6_tells_171 6 rfl ?_
          refine v_lconst dX6_tells_173 (v := 0) (by decide) ?_
          refine v_lcmp dX6_tells_174 ?_
          refine v_if_ge (tgt := 182) dX6_tells_175 (by decide) hF (fun hF => ?_) (fun hF => ?_)
          · refine v_lload dX6_tells_182 6 rfl ?_
            refine v_iload_n dX6_tells_184 rfl 3 rfl ?_
            refine v_i2l dX6_tells_185 ?_
            refine v_lcmp dX6_tells_186 ?_
            refine v_if_le (tgt := 195) dX6_tells_187 (by decide) hF (fun hF => ?_) (fun hF => ?_)
            · refine v_lload dX6_tells_195 6 rfl ?_
              exact v_sub [1, 2, 3] rfl (w_T_tells_J197 hfr hlo hc61 hF)
            · refine v_iload_n dX6_tells_190 rfl 3 rfl ?_
              refine v_i2l dX6_tells_191 ?_
              refine v_goto (tgt := 197) dX6_tells_192 (by decide) ?_
              exact v_sub [1, 2, 3] rfl (w_T_tells_J197 hfr hlo hc61 hF)
          · refine v_lconst dX6_tells_178 (v := 0) (by decide) ?_
            refine v_goto (tgt := 197) dX6_tells_179 (by decide) ?_
            exact v_sub [1, 2, 3] rfl (w_T_tells_J197 hfr hlo hc61 hF)
def T_tells_J141 (N : Nat) (c61 : Int32 → Int32 → Int64 → TM → Option (Int32 × TM)) (v28 : Int32) (v29 : Int32) (v30 : Int64) (v31 : Int32) (v32 : Int64) (v33 : Int32) (M34 : TM) : Option (Int32 × TM) :=
  T_tells_J146 N c61 v28 v29 v30 v31 v32 v33 (1 : Int32) M34
theorem w_T_tells_J141 {l : Launch} {G : GT} {fr lo : Nat} {h0 : Hp} {m0 : Nat} {hb : Hp} {N : Nat} {r : (Int32 × TM)} (hfr : 117 ≤ fr) (hlo : 2818 ≤ lo) {c61 : Int32 → Int32 → Int64 → TM → Option (Int32 × TM)} (hc61 : ∀ (v8 : Int32) (v9 : Int32) (v10 : Int64) (M11 : TM), c61 v8 v9 v10 M11 = some r → V l G cX6_tells RX6 "tells" 11 (Option.some Jvm.ClassFile.FieldType.int) fr lo h0 (ovT m0 r.2 hb) (QM G (some (.int r.1)) h0 (ovT m0 r.2 hb)) 61 [(0, .ref m0), (1, .int v8), (2, .int v9), (4, .long v10)] [] (ovT m0 M11 hb)) {v28 : Int32} {v29 : Int32} {v30 : Int64} {v31 : Int32} {v32 : Int64} {v33 : Int32} {M34 : TM} (hF : T_tells_J141 N c61 v28 v29 v30 v31 v32 v33 M34 = some r) : V l G cX6_tells RX6 "tells" 11 (Option.some Jvm.ClassFile.FieldType.int) fr lo h0 (ovT m0 r.2 hb) (QM G (some (.int r.1)) h0 (ovT m0 r.2 hb)) 141 [(0, .ref m0), (1, .int v28), (2, .int v29), (4, .long v30), (6, .int v31), (7, .long v32), (9, .int v33)] [] (ovT m0 M34 hb) := by
  unfold T_tells_J141 at hF
  refine v_iconst dX6_tells_141 (v := 1) (by decide) ?_
  refine v_goto (tgt := 146) dX6_tells_142 (by decide) ?_
  exact v_sub [0, 1, 2, 3, 4, 5, 6] rfl (w_T_tells_J146 hfr hlo hc61 hF)
def T_tells_J112 (N : Nat) (c61 : Int32 → Int32 → Int64 → TM → Option (Int32 × TM)) (v19 : Int32) (v20 : Int32) (v21 : Int64) (v22 : Int32) (v23 : Int64) (M24 : TM) : Option (Int32 × TM) :=
  (tsz M24 24 (0 : Int32)).bind fun M25 =>
  bd2 (T_passes0 (4 : Int32) M25) fun v27 M26 =>
  if v27 = 0 then
    T_tells_J141 N c61 v19 v20 v21 v22 v23 (M24.1 24) M26
  else
    bd2 (T_testOf N 16 (1 : Int32) M26) fun v53 M52 =>
    if v53 = 0 then
      T_tells_J146 N c61 v19 v20 v21 v22 v23 (M24.1 24) (0 : Int32) M52
    else
      T_tells_J141 N c61 v19 v20 v21 v22 v23 (M24.1 24) M52
theorem w_T_tells_J112 {l : Launch} {G : GT} {fr lo : Nat} {h0 : Hp} {m0 : Nat} {hb : Hp} {N : Nat} {r : (Int32 × TM)} (hfr : 117 ≤ fr) (hlo : 2818 ≤ lo) {c61 : Int32 → Int32 → Int64 → TM → Option (Int32 × TM)} (hc61 : ∀ (v8 : Int32) (v9 : Int32) (v10 : Int64) (M11 : TM), c61 v8 v9 v10 M11 = some r → V l G cX6_tells RX6 "tells" 11 (Option.some Jvm.ClassFile.FieldType.int) fr lo h0 (ovT m0 r.2 hb) (QM G (some (.int r.1)) h0 (ovT m0 r.2 hb)) 61 [(0, .ref m0), (1, .int v8), (2, .int v9), (4, .long v10)] [] (ovT m0 M11 hb)) {v19 : Int32} {v20 : Int32} {v21 : Int64} {v22 : Int32} {v23 : Int64} {M24 : TM} (hF : T_tells_J112 N c61 v19 v20 v21 v22 v23 M24 = some r) : V l G cX6_tells RX6 "tells" 11 (Option.some Jvm.ClassFile.FieldType.int) fr lo h0 (ovT m0 r.2 hb) (QM G (some (.int r.1)) h0 (ovT m0 r.2 hb)) 112 [(0, .ref m0), (1, .int v19), (2, .int v20), (4, .long v21), (6, .int v22)] [.long v23] (ovT m0 M24 hb) := by
  unfold T_tells_J112 at hF
  refine v_lstore dX6_tells_112 (Nat.le_of_ble_eq_true rfl) (L' := [(7, .long v23), (0, .ref m0), (1, .int v19), (2, .int v20), (4, .long v21), (6, .int v22)]) rfl ?_
  refine v_aload_n dX6_tells_114 rfl 1 rfl ?_
  refine t_geti 24 dX6_tells_115 fl_X6_278 rfl ?_
  refine v_istore dX6_tells_118 (Nat.le_of_ble_eq_true rfl) (L' := [(9, .int (M24.1 24)), (7, .long v23), (0, .ref m0), (1, .int v19), (2, .int v20), (4, .long v21), (6, .int v22)]) rfl ?_
  refine v_aload_n dX6_tells_120 rfl 2 rfl ?_
  refine v_iconst dX6_tells_121 (v := 0) (by decide) ?_
  refine t_putz 24 dX6_tells_122 pl_X6_278 rfl hF (fun M25 hF => ?_)
  refine v_aload_n dX6_tells_125 rfl 2 rfl ?_
  refine v_iconst dX6_tells_126 (v := 4) (by decide) ?_
  obtain ⟨v27, M26, e_v27, hF⟩ := bd2_spec hF
  refine v_calV1 dX6_tells_127 vl_X6_292 q1906 rc_ov (ct_T_passes0 e_v27) rfl rfl (Nat.le_trans (Nat.le_of_ble_eq_true rfl) hfr) (Nat.le_trans (Nat.le_of_ble_eq_true rfl) hlo) (Nat.le_of_ble_eq_true rfl) ?_
  refine v_if_eq (tgt := 141) dX6_tells_130 (by decide) hF (fun hF => ?_) (fun hF => ?_)
  · exact v_sub [2, 3, 4, 5, 6, 1, 0] rfl (w_T_tells_J141 hfr hlo hc61 hF)
  · refine v_aload_n dX6_tells_133 rfl 2 rfl ?_
    refine v_iconst dX6_tells_134 (v := 1) (by decide) ?_
    obtain ⟨v53, M52, e_v53, hF⟩ := bd2_spec hF
    refine v_calV1 dX6_tells_135 vl_X6_325 q1932 rc_ov (ctd_T_testOf 16 e_v53) rfl rfl (Nat.le_trans (Nat.le_of_ble_eq_true rfl) hfr) (Nat.le_trans (Nat.le_of_ble_eq_true rfl) hlo) (Nat.le_of_ble_eq_true rfl) ?_
    refine v_if_eq (tgt := 145) dX6_tells_138 (by decide) hF (fun hF => ?_) (fun hF => ?_)
    · refine v_iconst dX6_tells_145 (v := 0) (by decide) ?_
      exact v_sub [2, 3, 4, 5, 6, 1, 0] rfl (w_T_tells_J146 hfr hlo hc61 hF)
    · exact v_sub [2, 3, 4, 5, 6, 1, 0] rfl (w_T_tells_J141 hfr hlo hc61 hF)
def T_tells_L61 (N : Nat) (x61 : Int64 → TM → Option (Int32 × TM)) : Nat → Int32 → Int32 → Int64 → TM → Option (Int32 × TM)
  | 0, _, _, _, _ => none
  | n54 + 1, v8, v9, v10, M11 =>
    if (M11.1 23) ≤ (M11.1 22) then
      x61 v10 M11
    else
      (T_codeAt M11 (M11.1 22)).bind fun v14 =>
      (tsz M11 24 (0 : Int32)).bind fun M15 =>
      (some (tsi M15 22 ((M15.1 22) + (1 : Int32)))).bind fun (M16 : TM) =>
      if v14 = (3 : Int32) then
        T_tells_J112 N (T_tells_L61 N x61 n54) v8 v9 v10 v14 (1 : Int64) M16
      else
        bd2 (T_sumOf N 16 (1 : Int32) M16) fun v18 M17 =>
        T_tells_J112 N (T_tells_L61 N x61 n54) v8 v9 v10 v14 v18 M17
theorem w_T_tells_L61 {l : Launch} {G : GT} {fr lo : Nat} {h0 : Hp} {m0 : Nat} {hb : Hp} {N : Nat} {r : (Int32 × TM)} (hfr : 117 ≤ fr) (hlo : 2818 ≤ lo) {x61 : Int64 → TM → Option (Int32 × TM)} (hx61 : ∀ (v12 : Int64) (M13 : TM), x61 v12 M13 = some r → V l G cX6_tells RX6 "tells" 11 (Option.some Jvm.ClassFile.FieldType.int) fr lo h0 (ovT m0 r.2 hb) (QM G (some (.int r.1)) h0 (ovT m0 r.2 hb)) 212 [(4, .long v12)] [] (ovT m0 M13 hb)) : ∀ (n : Nat) (v8 : Int32) (v9 : Int32) (v10 : Int64) (M11 : TM), T_tells_L61 N x61 n v8 v9 v10 M11 = some r → V l G cX6_tells RX6 "tells" 11 (Option.some Jvm.ClassFile.FieldType.int) fr lo h0 (ovT m0 r.2 hb) (QM G (some (.int r.1)) h0 (ovT m0 r.2 hb)) 61 [(0, .ref m0), (1, .int v8), (2, .int v9), (4, .long v10)] [] (ovT m0 M11 hb) := by
  intro n
  induction n with
  | zero =>
    intro v8 v9 v10 M11 hF
    cases (show (none : Option (Int32 × TM)) = some r from hF)
  | succ n hc61 =>
    intro v8 v9 v10 M11 hF
    rw [T_tells_L61] at hF
    refine v_aload_n dX6_tells_61 rfl 0 rfl ?_
    refine t_geti 22 dX6_tells_62 fl_X6_268 rfl ?_
    refine v_aload_n dX6_tells_65 rfl 0 rfl ?_
    refine t_geti 23 dX6_tells_66 fl_X6_265 rfl ?_
    refine v_icmp_ge (tgt := 212) dX6_tells_69 (by decide) hF (fun hF => ?_) (fun hF => ?_)
    · exact v_sub [3] rfl (hx61 _ _ hF)
    · refine v_aload_n dX6_tells_72 rfl 0 rfl ?_
      refine v_aload_n dX6_tells_73 rfl 0 rfl ?_
      refine t_geti 22 dX6_tells_74 fl_X6_268 rfl ?_
      obtain ⟨v14, e_v14, hF⟩ := Option.bind_eq_some_iff.mp hF
      refine v_calV1 dX6_tells_77 vl_X6_271 q1887 rc_ov (ct_T_codeAt e_v14) rfl rfl (Nat.le_trans (Nat.le_of_ble_eq_true rfl) hfr) (Nat.le_trans (Nat.le_of_ble_eq_true rfl) hlo) (Nat.le_of_ble_eq_true rfl) ?_
      refine v_istore dX6_tells_80 (Nat.le_of_ble_eq_true rfl) (L' := [(6, .int v14), (0, .ref m0), (1, .int v8), (2, .int v9), (4, .long v10)]) rfl ?_
      refine v_aload_n dX6_tells_82 rfl 1 rfl ?_
      refine v_iconst dX6_tells_83 (v := 0) (by decide) ?_
      refine t_putz 24 dX6_tells_84 pl_X6_278 rfl hF (fun M15 hF => ?_)
      refine v_aload_n dX6_tells_87 rfl 1 rfl ?_
      refine v_dup dX6_tells_88 rfl ?_
      refine t_geti 22 dX6_tells_89 fl_X6_268 rfl ?_
      refine v_iconst dX6_tells_92 (v := 1) (by decide) ?_
      refine v_iadd dX6_tells_93 ?_
      refine t_puti 22 dX6_tells_94 pl_X6_268 rfl ?_
      refine v_letM hF (fun M16 hF => ?_)
      refine v_iload dX6_tells_97 0 rfl ?_
      refine v_iconst dX6_tells_99 (v := 3) (by decide) ?_
      refine v_icmp_ne (tgt := 107) dX6_tells_100 (by decide) hF (fun hF => ?_) (fun hF => ?_)
      · refine v_aload_n dX6_tells_107 rfl 1 rfl ?_
        refine v_iconst dX6_tells_108 (v := 1) (by decide) ?_
        obtain ⟨v18, M17, e_v18, hF⟩ := bd2_spec hF
        refine v_calV1 dX6_tells_109 vl_X6_295 q1891 rc_ov (ctd_T_sumOf 16 e_v18) rfl rfl (Nat.le_trans (Nat.le_of_ble_eq_true rfl) hfr) (Nat.le_trans (Nat.le_of_ble_eq_true rfl) hlo) (Nat.le_of_ble_eq_true rfl) ?_
        exact v_sub [1, 2, 3, 4, 0] rfl (w_T_tells_J112 hfr hlo hc61 hF)
      · refine v_lconst dX6_tells_103 (v := 1) (by decide) ?_
        refine v_goto (tgt := 112) dX6_tells_104 (by decide) ?_
        exact v_sub [1, 2, 3, 4, 0] rfl (w_T_tells_J112 hfr hlo hc61 hF)
def T_tells (N : Nat) (a1 : Int32) (a2 : Int32) (a3 : Int32) (M : TM) : Option (Int32 × TM) :=
  (tra M 2 5660 (52 : Int32)).bind fun v1 =>
  if v1 = (-1 : Int32) then
    some (a3, M)
  else
    (tsz M 25 (0 : Int32)).bind fun M2 =>
    (tra M2 2 5660 (52 : Int32)).bind fun v3 =>
    (some (tsi M2 22 ((400 : Int32) * v3))).bind fun (M4 : TM) =>
    (tra M4 2 5660 (52 : Int32)).bind fun v5 =>
    (tra M4 2 5660 ((53 : Int32) + v5)).bind fun v6 =>
    (some (tsi M4 23 ((M4.1 22) + v6))).bind fun (M7 : TM) =>
    T_tells_L61 N (fun v55 M56 =>
      some (v55.toInt32, M56)) N a1 a2 a3.toInt64 M7
theorem w_T_tells {l : Launch} {G : GT} {fr lo : Nat} {h0 : Hp} {m0 : Nat} {hb : Hp} {N : Nat} {r : (Int32 × TM)} (hfr : 117 ≤ fr) (hlo : 2818 ≤ lo) {a1 : Int32} {a2 : Int32} {a3 : Int32} {M : TM} (hF : T_tells N a1 a2 a3 M = some r) : V l G cX6_tells RX6 "tells" 11 (Option.some Jvm.ClassFile.FieldType.int) fr lo h0 (ovT m0 r.2 hb) (QM G (some (.int r.1)) h0 (ovT m0 r.2 hb)) 0 [(0, .ref m0), (1, .int a1), (2, .int a2), (3, .int a3)] [] (ovT m0 M hb) := by
  unfold T_tells at hF
  refine v_aload_n dX6_tells_0 rfl 0 rfl ?_
  refine t_geta 2 2 dX6_tells_1 fl_X6_24 (Nat.le_of_ble_eq_true rfl) (fun _ _ => rfl) ?_
  refine v_bipush dX6_tells_4 (v := 52) (by decide) ?_
  refine t_iald 2 dX6_tells_6 rfl (Nat.le_of_ble_eq_true rfl) (by decide) hF (fun v1 hF => ?_)
  refine v_iconst dX6_tells_7 (v := -1) (by decide) ?_
  refine v_icmp_ne (tgt := 13) dX6_tells_8 (by decide) hF (fun hF => ?_) (fun hF => ?_)
  · refine v_aload_n dX6_tells_13 rfl 0 rfl ?_
    refine v_iconst dX6_tells_14 (v := 0) (by decide) ?_
    refine t_putz 25 dX6_tells_15 pl_X6_298 rfl hF (fun M2 hF => ?_)
    refine v_iload_n dX6_tells_18 rfl 3 rfl ?_
    refine v_i2l dX6_tells_19 ?_
    refine v_lstore dX6_tells_20 (Nat.le_of_ble_eq_true rfl) (L' := [(4, .long a3.toInt64), (0, .ref m0), (1, .int a1), (2, .int a2), (3, .int a3)]) rfl ?_
    refine v_aload_n dX6_tells_22 rfl 1 rfl ?_
    refine v_sipush dX6_tells_23 (v := 400) (by decide) ?_
    refine v_aload_n dX6_tells_26 rfl 1 rfl ?_
    refine t_geta 2 2 dX6_tells_27 fl_X6_24 (Nat.le_of_ble_eq_true rfl) (fun _ _ => rfl) ?_
    refine v_bipush dX6_tells_30 (v := 52) (by decide) ?_
    refine t_iald 2 dX6_tells_32 rfl (Nat.le_of_ble_eq_true rfl) (by decide) hF (fun v3 hF => ?_)
    refine v_imul dX6_tells_33 ?_
    refine t_puti 22 dX6_tells_34 pl_X6_268 rfl ?_
    refine v_letM hF (fun M4 hF => ?_)
    refine v_aload_n dX6_tells_37 rfl 1 rfl ?_
    refine v_aload_n dX6_tells_38 rfl 1 rfl ?_
    refine t_geti 22 dX6_tells_39 fl_X6_268 rfl ?_
    refine v_aload_n dX6_tells_42 rfl 1 rfl ?_
    refine t_geta 2 2 dX6_tells_43 fl_X6_24 (Nat.le_of_ble_eq_true rfl) (fun _ _ => rfl) ?_
    refine v_bipush dX6_tells_46 (v := 53) (by decide) ?_
    refine v_aload_n dX6_tells_48 rfl 1 rfl ?_
    refine t_geta 2 2 dX6_tells_49 fl_X6_24 (Nat.le_of_ble_eq_true rfl) (fun _ _ => rfl) ?_
    refine v_bipush dX6_tells_52 (v := 52) (by decide) ?_
    refine t_iald 2 dX6_tells_54 rfl (Nat.le_of_ble_eq_true rfl) (by decide) hF (fun v5 hF => ?_)
    refine v_iadd dX6_tells_55 ?_
    refine t_iald 2 dX6_tells_56 rfl (Nat.le_of_ble_eq_true rfl) (by decide) hF (fun v6 hF => ?_)
    refine v_iadd dX6_tells_57 ?_
    refine t_puti 23 dX6_tells_58 pl_X6_265 rfl ?_
    refine v_letM hF (fun M7 hF => ?_)
    refine v_sub [1, 2, 3, 0] rfl (w_T_tells_L61 hfr hlo ?_ N _ _ _ _ hF)
    intro v55 M56 hF
    refine v_lload dX6_tells_212 0 rfl ?_
    refine v_l2i dX6_tells_214 ?_
    cases hF
    exact v_iret dX6_tells_215 rfl rfl rfl rfl
  · refine v_iload_n dX6_tells_11 rfl 3 rfl ?_
    cases hF
    exact v_iret dX6_tells_12 rfl rfl rfl rfl
theorem ct_T_tells {l : Launch} {G : GT} {m0 : Nat} {hb : Hp} {N : Nat} {r : (Int32 × TM)} {a1 : Int32} {a2 : Int32} {a3 : Int32} {M : TM} (hF : T_tells N a1 a2 a3 M = some r) : Ct l G yX6_tells (ws_ yX6_tells cX6_tells 11 (Option.some Jvm.ClassFile.FieldType.int)) 117 2818 [.ref m0, .int a1, .int a2, .int a3] (ovT m0 M hb) (some (.int r.1)) (ovT m0 r.2 hb) :=
  ct_of (by decide) (Nat.le_of_ble_eq_true rfl) (w_T_tells (Nat.le_refl _) (Nat.le_refl _) hF)
theorem vl_X6_328 : ∀ ci ∈ [6], VL RX6 328 ci yX6_setsAsked 5 := by
  intro ci h
  simp only [List.mem_cons, List.not_mem_nil, or_false] at h
  subst h; exact ⟨RX6, TX6, 56, rfl, q146, ⟨by decide, by decide⟩, by decide +kernel, q1878, Or.inl ⟨q1876, qs60⟩⟩
theorem vl_X6_332 : ∀ ci ∈ [6], VL RX6 332 ci yX6_tells 3 := by
  intro ci h
  simp only [List.mem_cons, List.not_mem_nil, or_false] at h
  subst h; exact ⟨RX6, TX6, 56, rfl, q146, ⟨by decide, by decide⟩, by decide +kernel, q1882, Or.inl ⟨q1880, qs61⟩⟩
def T_isBarredBy (N : Nat) (a1 : Int32) (a2 : Int32) (a3 : Int32) (M : TM) : Option (Int32 × TM) :=
  (T_setsAsked (-1 : Int32) a1 (-1 : Int32) a2 a3 M).bind fun M1 =>
  bd2 (T_tells N (3 : Int32) (1 : Int32) (0 : Int32) M1) fun v3 M2 =>
  (rz (if v3 = (1 : Int32) then (1 : Int32) else (0 : Int32))).bind fun v4 => some (v4, M2)
theorem w_T_isBarredBy {l : Launch} {G : GT} {fr lo : Nat} {h0 : Hp} {m0 : Nat} {hb : Hp} {N : Nat} {r : (Int32 × TM)} (hfr : 118 ≤ fr) (hlo : 2848 ≤ lo) {a1 : Int32} {a2 : Int32} {a3 : Int32} {M : TM} (hF : T_isBarredBy N a1 a2 a3 M = some r) : V l G cX6_isBarredBy RX6 "isBarredBy" 4 (Option.some Jvm.ClassFile.FieldType.boolean) fr lo h0 (ovT m0 r.2 hb) (QM G (some (.int r.1)) h0 (ovT m0 r.2 hb)) 0 [(0, .ref m0), (1, .int a1), (2, .int a2), (3, .int a3)] [] (ovT m0 M hb) := by
  unfold T_isBarredBy at hF
  refine v_aload_n dX6_isBarredBy_0 rfl 0 rfl ?_
  refine v_iconst dX6_isBarredBy_1 (v := -1) (by decide) ?_
  refine v_iload_n dX6_isBarredBy_2 rfl 1 rfl ?_
  refine v_iconst dX6_isBarredBy_3 (v := -1) (by decide) ?_
  refine v_iload_n dX6_isBarredBy_4 rfl 2 rfl ?_
  refine v_iload_n dX6_isBarredBy_5 rfl 3 rfl ?_
  obtain ⟨M1, e_M1, hF⟩ := Option.bind_eq_some_iff.mp hF
  refine v_calV0 dX6_isBarredBy_6 vl_X6_328 q1879 rc_ov (ct_T_setsAsked e_M1) rfl rfl (Nat.le_trans (Nat.le_of_ble_eq_true rfl) hfr) (Nat.le_trans (Nat.le_of_ble_eq_true rfl) hlo) (Nat.le_of_ble_eq_true rfl) ?_
  refine v_aload_n dX6_isBarredBy_9 rfl 0 rfl ?_
  refine v_iconst dX6_isBarredBy_10 (v := 3) (by decide) ?_
  refine v_iconst dX6_isBarredBy_11 (v := 1) (by decide) ?_
  refine v_iconst dX6_isBarredBy_12 (v := 0) (by decide) ?_
  obtain ⟨v3, M2, e_v3, hF⟩ := bd2_spec hF
  refine v_calV1 dX6_isBarredBy_13 vl_X6_332 q1883 rc_ov (ct_T_tells e_v3) rfl rfl (Nat.le_trans (Nat.le_of_ble_eq_true rfl) hfr) (Nat.le_trans (Nat.le_of_ble_eq_true rfl) hlo) (Nat.le_of_ble_eq_true rfl) ?_
  refine v_iconst dX6_isBarredBy_16 (v := 1) (by decide) ?_
  refine v_tern (c := v3 = (1 : Int32)) (x := (1 : Int32)) (y := (0 : Int32)) (pcj := 25) (st := []) ?_ (fun kt kf => v_icmp_ne0 (tgt := 24) dX6_isBarredBy_17 (by decide) kt kf) (fun K => ?_) (fun K => ?_)
  · refine v_zchk hF (fun v4 hz hF => ?_)
    cases hF
    exact v_iret dX6_isBarredBy_25 rfl (nar_z hz) rfl rfl
  · refine v_iconst dX6_isBarredBy_20 (v := 1) (by decide) ?_
    refine v_goto (tgt := 25) dX6_isBarredBy_21 (by decide) ?_
    exact K
  · refine v_iconst dX6_isBarredBy_24 (v := 0) (by decide) ?_
    exact K
theorem ct_T_isBarredBy {l : Launch} {G : GT} {m0 : Nat} {hb : Hp} {N : Nat} {r : (Int32 × TM)} {a1 : Int32} {a2 : Int32} {a3 : Int32} {M : TM} (hF : T_isBarredBy N a1 a2 a3 M = some r) : Ct l G yX6_isBarredBy (ws_ yX6_isBarredBy cX6_isBarredBy 4 (Option.some Jvm.ClassFile.FieldType.boolean)) 118 2848 [.ref m0, .int a1, .int a2, .int a3] (ovT m0 M hb) (some (.int r.1)) (ovT m0 r.2 hb) :=
  ct_of (by decide) (Nat.le_of_ble_eq_true rfl) (w_T_isBarredBy (Nat.le_refl _) (Nat.le_refl _) hF)
theorem vl_X6_340 : ∀ ci ∈ [6], VL RX6 340 ci yX6_isBarredBy 3 := by
  intro ci h
  simp only [List.mem_cons, List.not_mem_nil, or_false] at h
  subst h; exact ⟨RX6, TX6, 56, rfl, q146, ⟨by decide, by decide⟩, by decide +kernel, q1874, Or.inl ⟨q1872, qs59⟩⟩
def T_isBarred (N : Nat) (a1 : Int32) (M : TM) : Option (Int32 × TM) :=
  (tra M 2 5660 (0 : Int32)).bind fun v1 =>
  (T_ones N v1).bind fun v2 =>
  (tra M 2 5660 (5 : Int32)).bind fun v3 =>
  bd2 (T_isBarredBy N a1 v2 v3 M) fun v5 M4 =>
  (rz v5).bind fun v6 => some (v6, M4)
theorem w_T_isBarred {l : Launch} {G : GT} {fr lo : Nat} {h0 : Hp} {m0 : Nat} {hb : Hp} {N : Nat} {r : (Int32 × TM)} (hfr : 119 ≤ fr) (hlo : 2871 ≤ lo) {a1 : Int32} {M : TM} (hF : T_isBarred N a1 M = some r) : V l G cX6_isBarred RX6 "isBarred" 2 (Option.some Jvm.ClassFile.FieldType.boolean) fr lo h0 (ovT m0 r.2 hb) (QM G (some (.int r.1)) h0 (ovT m0 r.2 hb)) 0 [(0, .ref m0), (1, .int a1)] [] (ovT m0 M hb) := by
  unfold T_isBarred at hF
  refine v_aload_n dX6_isBarred_0 rfl 0 rfl ?_
  refine v_iload_n dX6_isBarred_1 rfl 1 rfl ?_
  refine v_aload_n dX6_isBarred_2 rfl 0 rfl ?_
  refine t_geta 2 2 dX6_isBarred_3 fl_X6_24 (Nat.le_of_ble_eq_true rfl) (fun _ _ => rfl) ?_
  refine v_iconst dX6_isBarred_6 (v := 0) (by decide) ?_
  refine t_iald 2 dX6_isBarred_7 rfl (Nat.le_of_ble_eq_true rfl) (by decide) hF (fun v1 hF => ?_)
  obtain ⟨v2, e_v2, hF⟩ := Option.bind_eq_some_iff.mp hF
  refine v_calS1 dX6_isBarred_8 sl_X6_304 q1871 (ct_T_ones e_v2) rfl rfl (Nat.le_trans (Nat.le_of_ble_eq_true rfl) hfr) (Nat.le_trans (Nat.le_of_ble_eq_true rfl) hlo) (Nat.le_of_ble_eq_true rfl) ?_
  refine v_aload_n dX6_isBarred_11 rfl 0 rfl ?_
  refine t_geta 2 2 dX6_isBarred_12 fl_X6_24 (Nat.le_of_ble_eq_true rfl) (fun _ _ => rfl) ?_
  refine v_iconst dX6_isBarred_15 (v := 5) (by decide) ?_
  refine t_iald 2 dX6_isBarred_16 rfl (Nat.le_of_ble_eq_true rfl) (by decide) hF (fun v3 hF => ?_)
  obtain ⟨v5, M4, e_v5, hF⟩ := bd2_spec hF
  refine v_calV1 dX6_isBarred_17 vl_X6_340 q1875 rc_ov (ct_T_isBarredBy e_v5) rfl rfl (Nat.le_trans (Nat.le_of_ble_eq_true rfl) hfr) (Nat.le_trans (Nat.le_of_ble_eq_true rfl) hlo) (Nat.le_of_ble_eq_true rfl) ?_
  refine v_zchk hF (fun v6 hz hF => ?_)
  cases hF
  exact v_iret dX6_isBarred_20 rfl (nar_z hz) rfl rfl
theorem ct_T_isBarred {l : Launch} {G : GT} {m0 : Nat} {hb : Hp} {N : Nat} {r : (Int32 × TM)} {a1 : Int32} {M : TM} (hF : T_isBarred N a1 M = some r) : Ct l G yX6_isBarred (ws_ yX6_isBarred cX6_isBarred 2 (Option.some Jvm.ClassFile.FieldType.boolean)) 119 2871 [.ref m0, .int a1] (ovT m0 M hb) (some (.int r.1)) (ovT m0 r.2 hb) :=
  ct_of (by decide) (Nat.le_of_ble_eq_true rfl) (w_T_isBarred (Nat.le_refl _) (Nat.le_refl _) hF)
def T_isOpen (M : TM) (a1 : Int32) (a2 : Int32) : Option Int32 :=
  (T_isIn a1 a2).bind fun v1 =>
  if v1 = 0 then
    (tra M 2 5660 ((22 : Int32) + a2)).bind fun v2 =>
    if (v2 &&& (a1 ^^^ (-1 : Int32))) = 0 then
      some (1 : Int32)
    else
      some (0 : Int32)
  else
    some (0 : Int32)
theorem w_T_isOpen {l : Launch} {G : GT} {fr lo : Nat} {h0 : Hp} {m0 : Nat} {hb : Hp} {M : TM} {r : Int32} (hfr : 1 ≤ fr) (hlo : 21 ≤ lo) {a1 : Int32} {a2 : Int32} (hF : T_isOpen M a1 a2 = some r) : V l G cX6_isOpen RX6 "isOpen" 3 (Option.some Jvm.ClassFile.FieldType.boolean) fr lo h0 (ovT m0 M hb) (QM G (some (.int r)) h0 (ovT m0 M hb)) 0 [(0, .ref m0), (1, .int a1), (2, .int a2)] [] (ovT m0 M hb) := by
  unfold T_isOpen at hF
  refine v_iload_n dX6_isOpen_0 rfl 1 rfl ?_
  refine v_iload_n dX6_isOpen_1 rfl 2 rfl ?_
  obtain ⟨v1, e_v1, hF⟩ := Option.bind_eq_some_iff.mp hF
  refine v_calS1 dX6_isOpen_2 sl_X6_119 q1860 (ct_T_isIn e_v1) rfl rfl (Nat.le_trans (Nat.le_of_ble_eq_true rfl) hfr) (Nat.le_trans (Nat.le_of_ble_eq_true rfl) hlo) (Nat.le_of_ble_eq_true rfl) ?_
  refine v_if_ne (tgt := 28) dX6_isOpen_5 (by decide) hF (fun hF => ?_) (fun hF => ?_)
  · refine v_iconst dX6_isOpen_28 (v := 0) (by decide) ?_
    cases hF
    exact v_iret dX6_isOpen_29 rfl (by decide) rfl rfl
  · refine v_aload_n dX6_isOpen_8 rfl 0 rfl ?_
    refine t_geta 2 2 dX6_isOpen_9 fl_X6_24 (Nat.le_of_ble_eq_true rfl) (fun _ _ => rfl) ?_
    refine v_bipush dX6_isOpen_12 (v := 22) (by decide) ?_
    refine v_iload_n dX6_isOpen_14 rfl 2 rfl ?_
    refine v_iadd dX6_isOpen_15 ?_
    refine t_iald 2 dX6_isOpen_16 rfl (Nat.le_of_ble_eq_true rfl) (by decide) hF (fun v2 hF => ?_)
    refine v_iload_n dX6_isOpen_17 rfl 1 rfl ?_
    refine v_iconst dX6_isOpen_18 (v := -1) (by decide) ?_
    refine v_ixor dX6_isOpen_19 ?_
    refine v_iand dX6_isOpen_20 ?_
    refine v_if_ne (tgt := 28) dX6_isOpen_21 (by decide) hF (fun hF => ?_) (fun hF => ?_)
    · refine v_iconst dX6_isOpen_28 (v := 0) (by decide) ?_
      cases hF
      exact v_iret dX6_isOpen_29 rfl (by decide) rfl rfl
    · refine v_iconst dX6_isOpen_24 (v := 1) (by decide) ?_
      refine v_goto (tgt := 29) dX6_isOpen_25 (by decide) ?_
      cases hF
      exact v_iret dX6_isOpen_29 rfl (by decide) rfl rfl
theorem ct_T_isOpen {l : Launch} {G : GT} {m0 : Nat} {hb : Hp} {M : TM} {r : Int32} {a1 : Int32} {a2 : Int32} (hF : T_isOpen M a1 a2 = some r) : Ct l G yX6_isOpen (ws_ yX6_isOpen cX6_isOpen 3 (Option.some Jvm.ClassFile.FieldType.boolean)) 1 21 [.ref m0, .int a1, .int a2] (ovT m0 M hb) (some (.int r)) (ovT m0 M hb) :=
  ct_of (by decide) (Nat.le_of_ble_eq_true rfl) (w_T_isOpen (Nat.le_refl _) (Nat.le_refl _) hF)
