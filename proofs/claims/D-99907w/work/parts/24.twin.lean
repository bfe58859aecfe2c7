/-! printed by tools/gen.py -/
set_option maxRecDepth 100000
set_option linter.unusedVariables false
theorem fl_X6_467 : FL RX6 467 [6] 46 := by
  intro ci h
  simp only [List.mem_cons, List.not_mem_nil, or_false] at h
  subst h; exact ⟨RX6, _, TX6, 56, rfl, in_X6, by decide, Or.inl q1680, Or.inl rfl⟩
theorem pl_X6_476 : PL RX6 476 [6] 48 (.int) false := by
  intro ci h
  simp only [List.mem_cons, List.not_mem_nil, or_false] at h
  subst h; exact ⟨RX6, _, TX6, 56, tyX6, rfl, in_X6, by decide, Or.inl q1682, Or.inl rfl, tyX6_ok, rfl, by decide +kernel, rfl, fun z => by cases z⟩
theorem fl_X6_476 : FL RX6 476 [6] 48 := by
  intro ci h
  simp only [List.mem_cons, List.not_mem_nil, or_false] at h
  subst h; exact ⟨RX6, _, TX6, 56, rfl, in_X6, by decide, Or.inl q1682, Or.inl rfl⟩
theorem pl_X6_479 : PL RX6 479 [6] 51 (.long) false := by
  intro ci h
  simp only [List.mem_cons, List.not_mem_nil, or_false] at h
  subst h; exact ⟨RX6, _, TX6, 56, tyX6, rfl, in_X6, by decide, Or.inl q1685, Or.inl rfl, tyX6_ok, rfl, by decide +kernel, rfl, fun z => by cases z⟩
theorem pl_X6_483 : PL RX6 483 [6] 49 (.boolean) false := by
  intro ci h
  simp only [List.mem_cons, List.not_mem_nil, or_false] at h
  subst h; exact ⟨RX6, _, TX6, 56, tyX6, rfl, in_X6, by decide, Or.inl q1683, Or.inl rfl, tyX6_ok, rfl, by decide +kernel, rfl, fun z => by cases z⟩
theorem pl_X6_486 : PL RX6 486 [6] 47 (.int) false := by
  intro ci h
  simp only [List.mem_cons, List.not_mem_nil, or_false] at h
  subst h; exact ⟨RX6, _, TX6, 56, tyX6, rfl, in_X6, by decide, Or.inl q1681, Or.inl rfl, tyX6_ok, rfl, by decide +kernel, rfl, fun z => by cases z⟩
theorem pl_X6_489 : PL RX6 489 [6] 50 (.boolean) false := by
  intro ci h
  simp only [List.mem_cons, List.not_mem_nil, or_false] at h
  subst h; exact ⟨RX6, _, TX6, 56, tyX6, rfl, in_X6, by decide, Or.inl q1684, Or.inl rfl, tyX6_ok, rfl, by decide +kernel, rfl, fun z => by cases z⟩
theorem fl_X6_489 : FL RX6 489 [6] 50 := by
  intro ci h
  simp only [List.mem_cons, List.not_mem_nil, or_false] at h
  subst h; exact ⟨RX6, _, TX6, 56, rfl, in_X6, by decide, Or.inl q1684, Or.inl rfl⟩
def T_goesAlong_J174 (N : Nat) (v31 : Int32) (M32 : TM) : Option TM :=
  (tsz M32 50 v31).bind fun M33 =>
  (some (tsi M33 22 ((M33.1 22) + (1 : Int32)))).bind fun (M34 : TM) =>
  some M34
theorem w_T_goesAlong_J174 {l : Launch} {G : GT} {fr lo : Nat} {h0 : Hp} {m0 : Nat} {hb : Hp} {N : Nat} {r : TM} (hfr : 117 ≤ fr) (hlo : 2818 ≤ lo)   {v31 : Int32} {M32 : TM} (hF : T_goesAlong_J174 N v31 M32 = some r) : V l G cX6_goesAlong RX6 "goesAlong" 3 (Option.none : Option Jvm.ClassFile.FieldType) fr lo h0 (ovT m0 r hb) (QM G none h0 (ovT m0 r hb)) 174 [(0, .ref m0)] [.int v31, .ref m0] (ovT m0 M32 hb) := by
  unfold T_goesAlong_J174 at hF
  refine t_putz 50 dX6_goesAlong_174 pl_X6_489 rfl hF (fun M33 hF => ?_)
  refine v_aload_n dX6_goesAlong_177 rfl 0 rfl ?_
  refine v_dup dX6_goesAlong_178 rfl ?_
  refine t_geti 22 dX6_goesAlong_179 fl_X6_268 rfl ?_
  refine v_iconst dX6_goesAlong_182 (v := 1) (by decide) ?_
  refine v_iadd dX6_goesAlong_183 ?_
  refine t_puti 22 dX6_goesAlong_184 pl_X6_268 rfl ?_
  refine v_letM hF (fun M34 hF => ?_)
  cases hF
  exact v_vret dX6_goesAlong_187 rfl rfl rfl
def T_goesAlong_J173 (N : Nat) (M30 : TM) : Option TM :=
  T_goesAlong_J174 N (0 : Int32) M30
theorem w_T_goesAlong_J173 {l : Launch} {G : GT} {fr lo : Nat} {h0 : Hp} {m0 : Nat} {hb : Hp} {N : Nat} {r : TM} (hfr : 117 ≤ fr) (hlo : 2818 ≤ lo)   {M30 : TM} (hF : T_goesAlong_J173 N M30 = some r) : V l G cX6_goesAlong RX6 "goesAlong" 3 (Option.none : Option Jvm.ClassFile.FieldType) fr lo h0 (ovT m0 r hb) (QM G none h0 (ovT m0 r hb)) 173 [(0, .ref m0)] [.ref m0] (ovT m0 M30 hb) := by
  unfold T_goesAlong_J173 at hF
  refine v_iconst dX6_goesAlong_173 (v := 0) (by decide) ?_
  exact v_sub [0] rfl (w_T_goesAlong_J174 hfr hlo hF)
def T_goesAlong_J151 (N : Nat) (v27 : Int32) (M28 : TM) : Option TM :=
  (tsz M28 50 v27).bind fun M29 =>
  if (M29.1 50) = 0 then
    T_goesAlong_J173 N M29
  else
    if (M29.1 24) = 0 then
      T_goesAlong_J174 N (1 : Int32) M29
    else
      T_goesAlong_J173 N M29
theorem w_T_goesAlong_J151 {l : Launch} {G : GT} {fr lo : Nat} {h0 : Hp} {m0 : Nat} {hb : Hp} {N : Nat} {r : TM} (hfr : 117 ≤ fr) (hlo : 2818 ≤ lo)   {v27 : Int32} {M28 : TM} (hF : T_goesAlong_J151 N v27 M28 = some r) : V l G cX6_goesAlong RX6 "goesAlong" 3 (Option.none : Option Jvm.ClassFile.FieldType) fr lo h0 (ovT m0 r hb) (QM G none h0 (ovT m0 r hb)) 151 [(0, .ref m0)] [.int v27, .ref m0] (ovT m0 M28 hb) := by
  unfold T_goesAlong_J151 at hF
  refine t_putz 50 dX6_goesAlong_151 pl_X6_489 rfl hF (fun M29 hF => ?_)
  refine v_aload_n dX6_goesAlong_154 rfl 0 rfl ?_
  refine v_aload_n dX6_goesAlong_155 rfl 0 rfl ?_
  refine t_geti 50 dX6_goesAlong_156 fl_X6_489 rfl ?_
  refine v_if_eq (tgt := 173) dX6_goesAlong_159 (by decide) hF (fun hF => ?_) (fun hF => ?_)
  · exact v_sub [0] rfl (w_T_goesAlong_J173 hfr hlo hF)
  · refine v_aload_n dX6_goesAlong_162 rfl 0 rfl ?_
    refine t_geti 24 dX6_goesAlong_163 fl_X6_278 rfl ?_
    refine v_if_ne (tgt := 173) dX6_goesAlong_166 (by decide) hF (fun hF => ?_) (fun hF => ?_)
    · exact v_sub [0] rfl (w_T_goesAlong_J173 hfr hlo hF)
    · refine v_iconst dX6_goesAlong_169 (v := 1) (by decide) ?_
      refine v_goto (tgt := 174) dX6_goesAlong_170 (by decide) ?_
      exact v_sub [0] rfl (w_T_goesAlong_J174 hfr hlo hF)
def T_goesAlong_J146 (N : Nat) (M26 : TM) : Option TM :=
  T_goesAlong_J151 N (1 : Int32) M26
theorem w_T_goesAlong_J146 {l : Launch} {G : GT} {fr lo : Nat} {h0 : Hp} {m0 : Nat} {hb : Hp} {N : Nat} {r : TM} (hfr : 117 ≤ fr) (hlo : 2818 ≤ lo)   {M26 : TM} (hF : T_goesAlong_J146 N M26 = some r) : V l G cX6_goesAlong RX6 "goesAlong" 3 (Option.none : Option Jvm.ClassFile.FieldType) fr lo h0 (ovT m0 r hb) (QM G none h0 (ovT m0 r hb)) 146 [(0, .ref m0)] [.ref m0] (ovT m0 M26 hb) := by
  unfold T_goesAlong_J146 at hF
  refine v_iconst dX6_goesAlong_146 (v := 1) (by decide) ?_
  refine v_goto (tgt := 151) dX6_goesAlong_147 (by decide) ?_
  exact v_sub [0] rfl (w_T_goesAlong_J151 hfr hlo hF)
def T_goesAlong_J124 (N : Nat) (v21 : Int32) (M22 : TM) : Option TM :=
  (tsz M22 24 (0 : Int32)).bind fun M23 =>
  bd2 (T_passes0 (4 : Int32) M23) fun v25 M24 =>
  if v25 = 0 then
    T_goesAlong_J146 N M24
  else
    bd2 (T_testOf N 16 v21 M24) fun v36 M35 =>
    if v36 = 0 then
      T_goesAlong_J151 N (0 : Int32) M35
    else
      T_goesAlong_J146 N M35
theorem w_T_goesAlong_J124 {l : Launch} {G : GT} {fr lo : Nat} {h0 : Hp} {m0 : Nat} {hb : Hp} {N : Nat} {r : TM} (hfr : 117 ≤ fr) (hlo : 2818 ≤ lo)   {v21 : Int32} {M22 : TM} (hF : T_goesAlong_J124 N v21 M22 = some r) : V l G cX6_goesAlong RX6 "goesAlong" 3 (Option.none : Option Jvm.ClassFile.FieldType) fr lo h0 (ovT m0 r hb) (QM G none h0 (ovT m0 r hb)) 124 [(0, .ref m0), (2, .int v21)] [] (ovT m0 M22 hb) := by
  unfold T_goesAlong_J124 at hF
  refine v_aload_n dX6_goesAlong_124 rfl 0 rfl ?_
  refine v_iconst dX6_goesAlong_125 (v := 0) (by decide) ?_
  refine t_putz 24 dX6_goesAlong_126 pl_X6_278 rfl hF (fun M23 hF => ?_)
  refine v_aload_n dX6_goesAlong_129 rfl 0 rfl ?_
  refine v_aload_n dX6_goesAlong_130 rfl 0 rfl ?_
  refine v_iconst dX6_goesAlong_131 (v := 4) (by decide) ?_
  obtain ⟨v25, M24, e_v25, hF⟩ := bd2_spec hF
  refine v_calV1 dX6_goesAlong_132 vl_X6_292 q1906 rc_ov (ct_T_passes0 e_v25) rfl rfl (Nat.le_trans (Nat.le_of_ble_eq_true rfl) hfr) (Nat.le_trans (Nat.le_of_ble_eq_true rfl) hlo) (Nat.le_of_ble_eq_true rfl) ?_
  refine v_if_eq (tgt := 146) dX6_goesAlong_135 (by decide) hF (fun hF => ?_) (fun hF => ?_)
  · exact v_sub [0] rfl (w_T_goesAlong_J146 hfr hlo hF)
  · refine v_aload_n dX6_goesAlong_138 rfl 0 rfl ?_
    refine v_iload_n dX6_goesAlong_139 rfl 1 rfl ?_
    obtain ⟨v36, M35, e_v36, hF⟩ := bd2_spec hF
    refine v_calV1 dX6_goesAlong_140 vl_X6_325 q1932 rc_ov (ctd_T_testOf 16 e_v36) rfl rfl (Nat.le_trans (Nat.le_of_ble_eq_true rfl) hfr) (Nat.le_trans (Nat.le_of_ble_eq_true rfl) hlo) (Nat.le_of_ble_eq_true rfl) ?_
    refine v_if_eq (tgt := 150) dX6_goesAlong_143 (by decide) hF (fun hF => ?_) (fun hF => ?_)
    · refine v_iconst dX6_goesAlong_150 (v := 0) (by decide) ?_
      exact v_sub [0] rfl (w_T_goesAlong_J151 hfr hlo hF)
    · exact v_sub [0] rfl (w_T_goesAlong_J146 hfr hlo hF)
def T_goesAlong_J80 (N : Nat) (v14 : Int32) (v15 : Int32) (M16 : TM) : Option TM :=
  (tsz M16 49 v15).bind fun M17 =>
  (some (tsi M17 47 (1 : Int32))).bind fun (M18 : TM) =>
  bd2 (T_passes0 (25 : Int32) M18) fun v20 M19 =>
  if v20 = 0 then
    T_goesAlong_J124 N v14 M19
  else
    (tra M19 2 5660 ((2860 : Int32) + (M19.1 22))).bind fun v37 =>
    (some (tsi M19 47 v37)).bind fun (M38 : TM) =>
    (some (tsi M38 22 ((M38.1 22) + (1 : Int32)))).bind fun (M39 : TM) =>
    T_goesAlong_J124 N v14 M39
theorem w_T_goesAlong_J80 {l : Launch} {G : GT} {fr lo : Nat} {h0 : Hp} {m0 : Nat} {hb : Hp} {N : Nat} {r : TM} (hfr : 117 ≤ fr) (hlo : 2818 ≤ lo)   {v14 : Int32} {v15 : Int32} {M16 : TM} (hF : T_goesAlong_J80 N v14 v15 M16 = some r) : V l G cX6_goesAlong RX6 "goesAlong" 3 (Option.none : Option Jvm.ClassFile.FieldType) fr lo h0 (ovT m0 r hb) (QM G none h0 (ovT m0 r hb)) 80 [(0, .ref m0), (2, .int v14)] [.int v15, .ref m0] (ovT m0 M16 hb) := by
  unfold T_goesAlong_J80 at hF
  refine t_putz 49 dX6_goesAlong_80 pl_X6_483 rfl hF (fun M17 hF => ?_)
  refine v_aload_n dX6_goesAlong_83 rfl 0 rfl ?_
  refine v_iconst dX6_goesAlong_84 (v := 1) (by decide) ?_
  refine t_puti 47 dX6_goesAlong_85 pl_X6_486 rfl ?_
  refine v_letM hF (fun M18 hF => ?_)
  refine v_aload_n dX6_goesAlong_88 rfl 0 rfl ?_
  refine v_bipush dX6_goesAlong_89 (v := 25) (by decide) ?_
  obtain ⟨v20, M19, e_v20, hF⟩ := bd2_spec hF
  refine v_calV1 dX6_goesAlong_91 vl_X6_292 q1906 rc_ov (ct_T_passes0 e_v20) rfl rfl (Nat.le_trans (Nat.le_of_ble_eq_true rfl) hfr) (Nat.le_trans (Nat.le_of_ble_eq_true rfl) hlo) (Nat.le_of_ble_eq_true rfl) ?_
  refine v_if_eq (tgt := 124) dX6_goesAlong_94 (by decide) hF (fun hF => ?_) (fun hF => ?_)
  · exact v_sub [0, 1] rfl (w_T_goesAlong_J124 hfr hlo hF)
  · refine v_aload_n dX6_goesAlong_97 rfl 0 rfl ?_
    refine v_aload_n dX6_goesAlong_98 rfl 0 rfl ?_
    refine t_geta 2 2 dX6_goesAlong_99 fl_X6_24 (Nat.le_of_ble_eq_true rfl) (fun _ _ => rfl) ?_
    refine v_sipush dX6_goesAlong_102 (v := 2860) (by decide) ?_
    refine v_aload_n dX6_goesAlong_105 rfl 0 rfl ?_
    refine t_geti 22 dX6_goesAlong_106 fl_X6_268 rfl ?_
    refine v_iadd dX6_goesAlong_109 ?_
    refine t_iald 2 dX6_goesAlong_110 rfl (Nat.le_of_ble_eq_true rfl) (by decide) hF (fun v37 hF => ?_)
    refine t_puti 47 dX6_goesAlong_111 pl_X6_486 rfl ?_
    refine v_letM hF (fun M38 hF => ?_)
    refine v_aload_n dX6_goesAlong_114 rfl 0 rfl ?_
    refine v_dup dX6_goesAlong_115 rfl ?_
    refine t_geti 22 dX6_goesAlong_116 fl_X6_268 rfl ?_
    refine v_iconst dX6_goesAlong_119 (v := 1) (by decide) ?_
    refine v_iadd dX6_goesAlong_120 ?_
    refine t_puti 22 dX6_goesAlong_121 pl_X6_268 rfl ?_
    refine v_letM hF (fun M39 hF => ?_)
    exact v_sub [0, 1] rfl (w_T_goesAlong_J124 hfr hlo hF)
def T_goesAlong_J64 (N : Nat) (v10 : Int32) (v11 : Int64) (M12 : TM) : Option TM :=
  (some (tsl M12 v11)).bind fun (M13 : TM) =>
  T_goesAlong_J80 N v10 (if (M13.1 24) = 0 then (1 : Int32) else (0 : Int32)) M13
theorem w_T_goesAlong_J64 {l : Launch} {G : GT} {fr lo : Nat} {h0 : Hp} {m0 : Nat} {hb : Hp} {N : Nat} {r : TM} (hfr : 117 ≤ fr) (hlo : 2818 ≤ lo)   {v10 : Int32} {v11 : Int64} {M12 : TM} (hF : T_goesAlong_J64 N v10 v11 M12 = some r) : V l G cX6_goesAlong RX6 "goesAlong" 3 (Option.none : Option Jvm.ClassFile.FieldType) fr lo h0 (ovT m0 r hb) (QM G none h0 (ovT m0 r hb)) 64 [(0, .ref m0), (2, .int v10)] [.long v11, .ref m0] (ovT m0 M12 hb) := by
  unfold T_goesAlong_J64 at hF
  refine t_putl dX6_goesAlong_64 pl_X6_479 ?_
  refine v_letM hF (fun M13 hF => ?_)
  refine v_aload_n dX6_goesAlong_67 rfl 0 rfl ?_
  refine v_aload_n dX6_goesAlong_68 rfl 0 rfl ?_
  refine t_geti 24 dX6_goesAlong_69 fl_X6_278 rfl ?_
  refine v_tern (c := (M13.1 24) = 0) (x := (1 : Int32)) (y := (0 : Int32)) (pcj := 80) (st := [.ref m0]) ?_ (fun kt kf => v_if_ne0 (tgt := 79) dX6_goesAlong_72 (by decide) kt kf) (fun K => ?_) (fun K => ?_)
  · exact v_sub [0, 1] rfl (w_T_goesAlong_J80 hfr hlo hF)
  · refine v_iconst dX6_goesAlong_75 (v := 1) (by decide) ?_
    refine v_goto (tgt := 80) dX6_goesAlong_76 (by decide) ?_
    exact K
  · refine v_iconst dX6_goesAlong_79 (v := 0) (by decide) ?_
    exact K
def T_goesAlong (N : Nat) (a1 : Int32) (a2 : Int32) (M : TM) : Option TM :=
  (tsz M 25 (1 : Int32)).bind fun M1 =>
  (some (tsi M1 23 a1)).bind fun (M2 : TM) =>
  (some (tsi M2 22 (M2.1 46))).bind fun (M3 : TM) =>
  (T_codeAt M3 (M3.1 22)).bind fun v4 =>
  (some (tsi M3 48 v4)).bind fun (M5 : TM) =>
  (some (tsi M5 22 ((M5.1 22) + (1 : Int32)))).bind fun (M6 : TM) =>
  (tsz M6 24 (0 : Int32)).bind fun M7 =>
  if (M7.1 48) = (24 : Int32) then
    T_goesAlong_J64 N a2 (0 : Int64) M7
  else
    bd2 (T_sumOf N 16 a2 M7) fun v9 M8 =>
    T_goesAlong_J64 N a2 v9 M8
theorem w_T_goesAlong {l : Launch} {G : GT} {fr lo : Nat} {h0 : Hp} {m0 : Nat} {hb : Hp} {N : Nat} {r : TM} (hfr : 117 ≤ fr) (hlo : 2818 ≤ lo) {a1 : Int32} {a2 : Int32} {M : TM} (hF : T_goesAlong N a1 a2 M = some r) : V l G cX6_goesAlong RX6 "goesAlong" 3 (Option.none : Option Jvm.ClassFile.FieldType) fr lo h0 (ovT m0 r hb) (QM G none h0 (ovT m0 r hb)) 0 [(0, .ref m0), (1, .int a1), (2, .int a2)] [] (ovT m0 M hb) := by
  unfold T_goesAlong at hF
  refine v_aload_n dX6_goesAlong_0 rfl 0 rfl ?_
  refine v_iconst dX6_goesAlong_1 (v := 1) (by decide) ?_
  refine t_putz 25 dX6_goesAlong_2 pl_X6_298 rfl hF (fun M1 hF => ?_)
  refine v_aload_n dX6_goesAlong_5 rfl 0 rfl ?_
  refine v_iload_n dX6_goesAlong_6 rfl 1 rfl ?_
  refine t_puti 23 dX6_goesAlong_7 pl_X6_265 rfl ?_
  refine v_letM hF (fun M2 hF => ?_)
  refine v_aload_n dX6_goesAlong_10 rfl 0 rfl ?_
  refine v_aload_n dX6_goesAlong_11 rfl 0 rfl ?_
  refine t_geti 46 dX6_goesAlong_12 fl_X6_467 rfl ?_
  refine t_puti 22 dX6_goesAlong_15 pl_X6_268 rfl ?_
  refine v_letM hF (fun M3 hF => ?_)
  refine v_aload_n dX6_goesAlong_18 rfl 0 rfl ?_
  refine v_aload_n dX6_goesAlong_19 rfl 0 rfl ?_
  refine v_aload_n dX6_goesAlong_20 rfl 0 rfl ?_
  refine t_geti 22 dX6_goesAlong_21 fl_X6_268 rfl ?_
  obtain ⟨v4, e_v4, hF⟩ := Option.bind_eq_some_iff.mp hF
  refine v_calV1 dX6_goesAlong_24 vl_X6_271 q1887 rc_ov (ct_T_codeAt e_v4) rfl rfl (Nat.le_trans (Nat.le_of_ble_eq_true rfl) hfr) (Nat.le_trans (Nat.le_of_ble_eq_true rfl) hlo) (Nat.le_of_ble_eq_true rfl) ?_
  refine t_puti 48 dX6_goesAlong_27 pl_X6_476 rfl ?_
  refine v_letM hF (fun M5 hF => ?_)
  refine v_aload_n dX6_goesAlong_30 rfl 0 rfl ?_
  refine v_dup dX6_goesAlong_31 rfl ?_
  refine t_geti 22 dX6_goesAlong_32 fl_X6_268 rfl ?_
  refine v_iconst dX6_goesAlong_35 (v := 1) (by decide) ?_
  refine v_iadd dX6_goesAlong_36 ?_
  refine t_puti 22 dX6_goesAlong_37 pl_X6_268 rfl ?_
  refine v_letM hF (fun M6 hF => ?_)
  refine v_aload_n dX6_goesAlong_40 rfl 0 rfl ?_
  refine v_iconst dX6_goesAlong_41 (v := 0) (by decide) ?_
  refine t_putz 24 dX6_goesAlong_42 pl_X6_278 rfl hF (fun M7 hF => ?_)
  refine v_aload_n dX6_goesAlong_45 rfl 0 rfl ?_
  refine v_aload_n dX6_goesAlong_46 rfl 0 rfl ?_
  refine t_geti 48 dX6_goesAlong_47 fl_X6_476 rfl ?_
  refine v_bipush dX6_goesAlong_50 (v := 24) (by decide) ?_
  refine v_icmp_ne (tgt := 59) dX6_goesAlong_52 (by decide) hF (fun hF => ?_) (fun hF => ?_)
  · refine v_aload_n dX6_goesAlong_59 rfl 0 rfl ?_
    refine v_iload_n dX6_goesAlong_60 rfl 2 rfl ?_
    obtain ⟨v9, M8, e_v9, hF⟩ := bd2_spec hF
    refine v_calV1 dX6_goesAlong_61 vl_X6_295 q1891 rc_ov (ctd_T_sumOf 16 e_v9) rfl rfl (Nat.le_trans (Nat.le_of_ble_eq_true rfl) hfr) (Nat.le_trans (Nat.le_of_ble_eq_true rfl) hlo) (Nat.le_of_ble_eq_true rfl) ?_
    exact v_sub [0, 2] rfl (w_T_goesAlong_J64 hfr hlo hF)
  · refine v_lconst dX6_goesAlong_55 (v := 0) (by decide) ?_
    refine v_goto (tgt := 64) dX6_goesAlong_56 (by decide) ?_
    exact v_sub [0, 2] rfl (w_T_goesAlong_J64 hfr hlo hF)
theorem ct_T_goesAlong {l : Launch} {G : GT} {m0 : Nat} {hb : Hp} {N : Nat} {r : TM} {a1 : Int32} {a2 : Int32} {M : TM} (hF : T_goesAlong N a1 a2 M = some r) : Ct l G yX6_goesAlong (ws_ yX6_goesAlong cX6_goesAlong 3 (Option.none : Option Jvm.ClassFile.FieldType)) 117 2818 [.ref m0, .int a1, .int a2] (ovT m0 M hb) none (ovT m0 r hb) :=
  ct_of (by decide) (Nat.le_of_ble_eq_true rfl) (w_T_goesAlong (Nat.le_refl _) (Nat.le_refl _) hF)
def T_small (a1 : Int64) : Option Int32 :=
  if (lg_cmp a1 (0 : Int64)) < 0 then
    some (-1 : Int32)
  else
    if (lg_cmp a1 (1000000 : Int64)) ≤ 0 then
      some a1.toInt32
    else
      some (-1 : Int32)
theorem w_T_small {l : Launch} {G : GT} {fr lo : Nat} {h0 : Hp} {h : Hp} {r : Int32} (hfr : 0 ≤ fr) (hlo : 0 ≤ lo) {a1 : Int64} (hF : T_small a1 = some r) : V l G cX6_small RX6 "small" 2 (Option.some Jvm.ClassFile.FieldType.int) fr lo h0 h (QM G (some (.int r)) h0 h) 0 [(0, .long a1)] [] h := by
  unfold T_small at hF
  refine v_lload_n dX6_small_0 rfl 0 rfl ?_
  refine v_lconst dX6_small_1 (v := 0) (by decide) ?_
  refine v_lcmp dX6_small_2 ?_
  refine v_if_lt (tgt := 14) dX6_small_3 (by decide) hF (fun hF => ?_) (fun hF => ?_)
  · refine v_iconst dX6_small_14 (v := -1) (by decide) ?_
    refine v_goto (tgt := 20) dX6_small_15 (by decide) ?_
    cases hF
    exact v_iret dX6_small_20 rfl rfl rfl rfl
  · refine v_lload_n dX6_small_6 rfl 0 rfl ?_
    refine v_ldc2 dX6_small_7 q2328 ?_
    refine v_lcmp dX6_small_10 ?_
    refine v_if_le (tgt := 18) dX6_small_11 (by decide) hF (fun hF => ?_) (fun hF => ?_)
    · refine v_lload_n dX6_small_18 rfl 0 rfl ?_
      refine v_l2i dX6_small_19 ?_
      cases hF
      exact v_iret dX6_small_20 rfl rfl rfl rfl
    · refine v_iconst dX6_small_14 (v := -1) (by decide) ?_
      refine v_goto (tgt := 20) dX6_small_15 (by decide) ?_
      cases hF
      exact v_iret dX6_small_20 rfl rfl rfl rfl
theorem ct_T_small {l : Launch} {G : GT} {h : Hp} {r : Int32} {a1 : Int64} (hF : T_small a1 = some r) : Ct l G yX6_small (ws_ yX6_small cX6_small 2 (Option.some Jvm.ClassFile.FieldType.int)) 0 0 [.long a1] h (some (.int r)) h :=
  ct_of (by decide) (Nat.le_of_ble_eq_true rfl) (w_T_small (Nat.le_refl _) (Nat.le_refl _) hF)
theorem fl_X6_479 : FL RX6 479 [6] 51 := by
  intro ci h
  simp only [List.mem_cons, List.not_mem_nil, or_false] at h
  subst h; exact ⟨RX6, _, TX6, 56, rfl, in_X6, by decide, Or.inl q1685, Or.inl rfl⟩
theorem sl_X6_494 : SL RX6 494 yX6_small 1 := ⟨q146, ⟨by decide, by decide⟩, by decide +kernel, q2326, Or.inl q2325⟩
theorem pl_X6_310 : PL RX6 310 [6] 28 (.int) false := by
  intro ci h
  simp only [List.mem_cons, List.not_mem_nil, or_false] at h
  subst h; exact ⟨RX6, _, TX6, 56, tyX6, rfl, in_X6, by decide, Or.inl q1662, Or.inl rfl, tyX6_ok, rfl, by decide +kernel, rfl, fun z => by cases z⟩
def T_obeys (N : Nat) (M : TM) : Option (Int32 × TM) :=
  (T_small M.2.1).bind fun v1 =>
  if (M.1 48).toInt < 22 ∨ 24 < (M.1 48).toInt then
    bd2 (T_readsKept N v1 M) fun v3 M2 =>
    if 0 ≤ v3 then
      (some (tsi M2 28 v3)).bind fun (M4 : TM) =>
      some (v3, M4)
    else
      (some (tsi M2 28 (M2.1 28))).bind fun (M5 : TM) =>
      some (v3, M5)
  else
  if (M.1 48).toInt = 22 then
    bd2 (T_losesKept N v1 M) fun v7 M6 =>
    some (v7, M6)
  else
  if (M.1 48).toInt = 23 then
    bd2 (T_cutsKept N v1 M) fun v9 M8 =>
    some (v9, M8)
  else
    bd2 (T_passesKept N M) fun v11 M10 =>
    some (v11, M10)
theorem w_T_obeys {l : Launch} {G : GT} {fr lo : Nat} {h0 : Hp} {m0 : Nat} {hb : Hp} {N : Nat} {r : (Int32 × TM)} (hfr : 122 ≤ fr) (hlo : 2939 ≤ lo) {M : TM} (hF : T_obeys N M = some r) : V l G cX6_obeys RX6 "obeys" 3 (Option.some Jvm.ClassFile.FieldType.int) fr lo h0 (ovT m0 r.2 hb) (QM G (some (.int r.1)) h0 (ovT m0 r.2 hb)) 0 [(0, .ref m0)] [] (ovT m0 M hb) := by
  unfold T_obeys at hF
  refine v_aload_n dX6_obeys_0 rfl 0 rfl ?_
  refine t_getl dX6_obeys_1 fl_X6_479 ?_
  obtain ⟨v1, e_v1, hF⟩ := Option.bind_eq_some_iff.mp hF
  refine v_calS1 dX6_obeys_4 sl_X6_494 q2327 (ct_T_small e_v1) rfl rfl (Nat.le_trans (Nat.le_of_ble_eq_true rfl) hfr) (Nat.le_trans (Nat.le_of_ble_eq_true rfl) hlo) (Nat.le_of_ble_eq_true rfl) ?_
  refine v_istore_n dX6_obeys_7 rfl (Nat.le_of_ble_eq_true rfl) (L' := [(1, .int v1), (0, .ref m0)]) rfl ?_
  refine v_aload_n dX6_obeys_8 rfl 1 rfl ?_
  refine t_geti 48 dX6_obeys_9 fl_X6_476 rfl ?_
  refine v_swOut (td := 57) dX6_obeys_12 (by decide) hF (fun hF => ?_) (fun hs1 hs2 hF => ?_)
  · refine v_aload_n dX6_obeys_57 rfl 1 rfl ?_
    refine v_iload_n dX6_obeys_58 rfl 0 rfl ?_
    obtain ⟨v3, M2, e_v3, hF⟩ := bd2_spec hF
    refine v_calV1 dX6_obeys_59 vl_X6_364 q2105 rc_ov (ct_T_readsKept e_v3) rfl rfl (Nat.le_trans (Nat.le_of_ble_eq_true rfl) hfr) (Nat.le_trans (Nat.le_of_ble_eq_true rfl) hlo) (Nat.le_of_ble_eq_true rfl) ?_
    refine v_istore_n dX6_obeys_62 rfl (Nat.le_of_ble_eq_true rfl) (L' := [(2, .int v3), (1, .int v1), (0, .ref m0)]) rfl ?_
    refine v_aload_n dX6_obeys_63 rfl 2 rfl ?_
    refine v_iload_n dX6_obeys_64 rfl 0 rfl ?_
    refine v_if_ge (tgt := 75) dX6_obeys_65 (by decide) hF (fun hF => ?_) (fun hF => ?_)
    · refine v_iload_n dX6_obeys_75 rfl 0 rfl ?_
      refine t_puti 28 dX6_obeys_76 pl_X6_310 rfl ?_
      refine v_letM hF (fun M4 hF => ?_)
      refine v_iload_n dX6_obeys_79 rfl 0 rfl ?_
      cases hF
      exact v_iret dX6_obeys_80 rfl rfl rfl rfl
    · refine v_aload_n dX6_obeys_68 rfl 2 rfl ?_
      refine t_geti 28 dX6_obeys_69 fl_X6_310 rfl ?_
      refine v_goto (tgt := 76) dX6_obeys_72 (by decide) ?_
      refine t_puti 28 dX6_obeys_76 pl_X6_310 rfl ?_
      refine v_letM hF (fun M5 hF => ?_)
      refine v_iload_n dX6_obeys_79 rfl 0 rfl ?_
      cases hF
      exact v_iret dX6_obeys_80 rfl rfl rfl rfl
  · refine v_case (i := 22) hF (fun hc hF => ?_) (fun hc0 hF => ?_)
    · refine v_swIn (i := 22) (off := 28) (tgt := 40) dX6_obeys_12 hc (by decide) (by decide) rfl (by decide) ?_
      refine v_aload_n dX6_obeys_40 rfl 1 rfl ?_
      refine v_iload_n dX6_obeys_41 rfl 0 rfl ?_
      obtain ⟨v7, M6, e_v7, hF⟩ := bd2_spec hF
      refine v_calV1 dX6_obeys_42 vl_X6_370 q2132 rc_ov (ct_T_losesKept e_v7) rfl rfl (Nat.le_trans (Nat.le_of_ble_eq_true rfl) hfr) (Nat.le_trans (Nat.le_of_ble_eq_true rfl) hlo) (Nat.le_of_ble_eq_true rfl) ?_
      cases hF
      exact v_iret dX6_obeys_45 rfl rfl rfl rfl
    refine v_case (i := 23) hF (fun hc hF => ?_) (fun hc1 hF => ?_)
    · refine v_swIn (i := 23) (off := 34) (tgt := 46) dX6_obeys_12 hc (by decide) (by decide) rfl (by decide) ?_
      refine v_aload_n dX6_obeys_46 rfl 1 rfl ?_
      refine v_iload_n dX6_obeys_47 rfl 0 rfl ?_
      obtain ⟨v9, M8, e_v9, hF⟩ := bd2_spec hF
      refine v_calV1 dX6_obeys_48 vl_X6_373 q2144 rc_ov (ct_T_cutsKept e_v9) rfl rfl (Nat.le_trans (Nat.le_of_ble_eq_true rfl) hfr) (Nat.le_trans (Nat.le_of_ble_eq_true rfl) hlo) (Nat.le_of_ble_eq_true rfl) ?_
      cases hF
      exact v_iret dX6_obeys_51 rfl rfl rfl rfl
    refine v_swIn (i := 24) (off := 40) (tgt := 52) dX6_obeys_12 (by omega) (by decide) (by decide) rfl (by decide) ?_
    refine v_aload_n dX6_obeys_52 rfl 1 rfl ?_
    obtain ⟨v11, M10, e_v11, hF⟩ := bd2_spec hF
    refine v_calV1 dX6_obeys_53 vl_X6_376 q2152 rc_ov (ct_T_passesKept e_v11) rfl rfl (Nat.le_trans (Nat.le_of_ble_eq_true rfl) hfr) (Nat.le_trans (Nat.le_of_ble_eq_true rfl) hlo) (Nat.le_of_ble_eq_true rfl) ?_
    cases hF
    exact v_iret dX6_obeys_56 rfl rfl rfl rfl
theorem ct_T_obeys {l : Launch} {G : GT} {m0 : Nat} {hb : Hp} {N : Nat} {r : (Int32 × TM)} {M : TM} (hF : T_obeys N M = some r) : Ct l G yX6_obeys (ws_ yX6_obeys cX6_obeys 3 (Option.some Jvm.ClassFile.FieldType.int)) 122 2939 [.ref m0] (ovT m0 M hb) (some (.int r.1)) (ovT m0 r.2 hb) :=
  ct_of (by decide) (Nat.le_of_ble_eq_true rfl) (w_T_obeys (Nat.le_refl _) (Nat.le_refl _) hF)
theorem vl_X6_498 : ∀ ci ∈ [6], VL RX6 498 ci yX6_goesAlong 2 := by
  intro ci h
  simp only [List.mem_cons, List.not_mem_nil, or_false] at h
  subst h; exact ⟨RX6, TX6, 56, rfl, q146, ⟨by decide, by decide⟩, by decide +kernel, q2319, Or.inl ⟨q2317, qs131⟩⟩
theorem fl_X6_486 : FL RX6 486 [6] 47 := by
  intro ci h
  simp only [List.mem_cons, List.not_mem_nil, or_false] at h
  subst h; exact ⟨RX6, _, TX6, 56, rfl, in_X6, by decide, Or.inl q1681, Or.inl rfl⟩
theorem fl_X6_483 : FL RX6 483 [6] 49 := by
  intro ci h
  simp only [List.mem_cons, List.not_mem_nil, or_false] at h
  subst h; exact ⟨RX6, _, TX6, 56, rfl, in_X6, by decide, Or.inl q1683, Or.inl rfl⟩
theorem vl_X6_501 : ∀ ci ∈ [6], VL RX6 501 ci yX6_obeys 0 := by
  intro ci h
  simp only [List.mem_cons, List.not_mem_nil, or_false] at h
  subst h; exact ⟨RX6, TX6, 56, rfl, q146, ⟨by decide, by decide⟩, by decide +kernel, q2323, Or.inl ⟨q2321, qs132⟩⟩
theorem pl_X6_307 : PL RX6 307 [6] 27 (.int) false := by
  intro ci h
  simp only [List.mem_cons, List.not_mem_nil, or_false] at h
  subst h; exact ⟨RX6, _, TX6, 56, tyX6, rfl, in_X6, by decide, Or.inl q1661, Or.inl rfl, tyX6_ok, rfl, by decide +kernel, rfl, fun z => by cases z⟩
theorem pl_X6_467 : PL RX6 467 [6] 46 (.int) false := by
  intro ci h
  simp only [List.mem_cons, List.not_mem_nil, or_false] at h
  subst h; exact ⟨RX6, _, TX6, 56, tyX6, rfl, in_X6, by decide, Or.inl q1680, Or.inl rfl, tyX6_ok, rfl, by decide +kernel, rfl, fun z => by cases z⟩
def T_runs_J67 (N : Nat) (c19 : Int32 → Int32 → Int32 → Int32 → TM → Option (Int32 × TM)) (v13 : Int32) (v14 : Int32) (v15 : Int32) (v16 : Int32) (M17 : TM) : Option (Int32 × TM) :=
  c19 v13 v14 v15 (v16 + (1 : Int32)) M17
theorem w_T_runs_J67 {l : Launch} {G : GT} {fr lo : Nat} {h0 : Hp} {m0 : Nat} {hb : Hp} {N : Nat} {r : (Int32 × TM)} (hfr : 123 ≤ fr) (hlo : 2961 ≤ lo) {c19 : Int32 → Int32 → Int32 → Int32 → TM → Option (Int32 × TM)} (hc19 : ∀ (v2 : Int32) (v3 : Int32) (v4 : Int32) (v5 : Int32) (M6 : TM), c19 v2 v3 v4 v5 M6 = some r → V l G cX6_runs RX6 "runs" 5 (Option.some Jvm.ClassFile.FieldType.boolean) fr lo h0 (ovT m0 r.2 hb) (QM G (some (.int r.1)) h0 (ovT m0 r.2 hb)) 19 [(0, .ref m0), (1, .int v2), (2, .int v3), (3, .int v4), (4, .int v5)] [] (ovT m0 M6 hb)) {v13 : Int32} {v14 : Int32} {v15 : Int32} {v16 : Int32} {M17 : TM} (hF : T_runs_J67 N c19 v13 v14 v15 v16 M17 = some r) : V l G cX6_runs RX6 "runs" 5 (Option.some Jvm.ClassFile.FieldType.boolean) fr lo h0 (ovT m0 r.2 hb) (QM G (some (.int r.1)) h0 (ovT m0 r.2 hb)) 67 [(0, .ref m0), (1, .int v13), (2, .int v14), (3, .int v15), (4, .int v16)] [] (ovT m0 M17 hb) := by
  unfold T_runs_J67 at hF
  refine v_iinc dX6_runs_67 4 rfl (v := v16 + (1 : Int32)) (by rfl) (Nat.le_of_ble_eq_true rfl) (L' := [(4, .int (v16 + (1 : Int32))), (0, .ref m0), (1, .int v13), (2, .int v14), (3, .int v15)]) rfl ?_
  refine v_goto (tgt := 19) dX6_runs_70 (by decide) ?_
  exact v_sub [1, 2, 3, 4, 0] rfl (hc19 _ _ _ _ _ hF)
def T_runs_L19 (N : Nat) (x19 : Int32 → TM → Option (Int32 × TM)) : Nat → Int32 → Int32 → Int32 → Int32 → TM → Option (Int32 × TM)
  | 0, _, _, _, _, _ => none
  | n18 + 1, v2, v3, v4, v5, M6 =>
    if v3 ≤ v5 then
      x19 v4 M6
    else
      (T_goesAlong N v2 (1 : Int32) M6).bind fun M9 =>
      if (M9.1 50) = 0 then
        T_runs_J67 N (T_runs_L19 N x19 n18) v2 v3 v4 v5 M9
      else
        if (M9.1 49) = 0 then
          some ((0 : Int32), M9)
        else
          bd2 (T_obeys N M9) fun v11 M10 =>
          if 0 ≤ v11 then
            (some (tsi M10 27 ((M10.1 27) + (1 : Int32)))).bind fun (M12 : TM) =>
            T_runs_J67 N (T_runs_L19 N x19 n18) v2 v3 v4 v5 M12
          else
            some ((0 : Int32), M10)
theorem w_T_runs_L19 {l : Launch} {G : GT} {fr lo : Nat} {h0 : Hp} {m0 : Nat} {hb : Hp} {N : Nat} {r : (Int32 × TM)} (hfr : 123 ≤ fr) (hlo : 2961 ≤ lo) {x19 : Int32 → TM → Option (Int32 × TM)} (hx19 : ∀ (v7 : Int32) (M8 : TM), x19 v7 M8 = some r → V l G cX6_runs RX6 "runs" 5 (Option.some Jvm.ClassFile.FieldType.boolean) fr lo h0 (ovT m0 r.2 hb) (QM G (some (.int r.1)) h0 (ovT m0 r.2 hb)) 73 [(0, .ref m0), (3, .int v7)] [] (ovT m0 M8 hb)) : ∀ (n : Nat) (v2 : Int32) (v3 : Int32) (v4 : Int32) (v5 : Int32) (M6 : TM), T_runs_L19 N x19 n v2 v3 v4 v5 M6 = some r → V l G cX6_runs RX6 "runs" 5 (Option.some Jvm.ClassFile.FieldType.boolean) fr lo h0 (ovT m0 r.2 hb) (QM G (some (.int r.1)) h0 (ovT m0 r.2 hb)) 19 [(0, .ref m0), (1, .int v2), (2, .int v3), (3, .int v4), (4, .int v5)] [] (ovT m0 M6 hb) := by
  intro n
  induction n with
  | zero =>
    intro v2 v3 v4 v5 M6 hF
    cases (show (none : Option (Int32 × TM)) = some r from hF)
  | succ n hc19 =>
    intro v2 v3 v4 v5 M6 hF
    rw [T_runs_L19] at hF
    refine v_iload dX6_runs_19 4 rfl ?_
    refine v_iload_n dX6_runs_21 rfl 2 rfl ?_
    refine v_icmp_ge (tgt := 73) dX6_runs_22 (by decide) hF (fun hF => ?_) (fun hF => ?_)
    · exact v_sub [0, 3] rfl (hx19 _ _ hF)
    · refine v_aload_n dX6_runs_25 rfl 0 rfl ?_
      refine v_iload_n dX6_runs_26 rfl 1 rfl ?_
      refine v_iconst dX6_runs_27 (v := 1) (by decide) ?_
      obtain ⟨M9, e_M9, hF⟩ := Option.bind_eq_some_iff.mp hF
      refine v_calV0 dX6_runs_28 vl_X6_498 q2320 rc_ov (ct_T_goesAlong e_M9) rfl rfl (Nat.le_trans (Nat.le_of_ble_eq_true rfl) hfr) (Nat.le_trans (Nat.le_of_ble_eq_true rfl) hlo) (Nat.le_of_ble_eq_true rfl) ?_
      refine v_aload_n dX6_runs_31 rfl 0 rfl ?_
      refine t_geti 50 dX6_runs_32 fl_X6_489 rfl ?_
      refine v_if_ne (tgt := 41) dX6_runs_35 (by decide) hF (fun hF => ?_) (fun hF => ?_)
      · refine v_aload_n dX6_runs_41 rfl 0 rfl ?_
        refine t_geti 49 dX6_runs_42 fl_X6_483 rfl ?_
        refine v_if_eq (tgt := 55) dX6_runs_45 (by decide) hF (fun hF => ?_) (fun hF => ?_)
        · refine v_iconst dX6_runs_55 (v := 0) (by decide) ?_
          cases hF
          exact v_iret dX6_runs_56 rfl (by decide) rfl rfl
        · refine v_aload_n dX6_runs_48 rfl 0 rfl ?_
          obtain ⟨v11, M10, e_v11, hF⟩ := bd2_spec hF
          refine v_calV1 dX6_runs_49 vl_X6_501 q2324 rc_ov (ct_T_obeys e_v11) rfl rfl (Nat.le_trans (Nat.le_of_ble_eq_true rfl) hfr) (Nat.le_trans (Nat.le_of_ble_eq_true rfl) hlo) (Nat.le_of_ble_eq_true rfl) ?_
          refine v_if_ge (tgt := 57) dX6_runs_52 (by decide) hF (fun hF => ?_) (fun hF => ?_)
          · refine v_aload_n dX6_runs_57 rfl 0 rfl ?_
            refine v_dup dX6_runs_58 rfl ?_
            refine t_geti 27 dX6_runs_59 fl_X6_307 rfl ?_
            refine v_iconst dX6_runs_62 (v := 1) (by decide) ?_
            refine v_iadd dX6_runs_63 ?_
            refine t_puti 27 dX6_runs_64 pl_X6_307 rfl ?_
            refine v_letM hF (fun M12 hF => ?_)
            exact v_sub [0, 1, 2, 3, 4] rfl (w_T_runs_J67 hfr hlo hc19 hF)
          · refine v_iconst dX6_runs_55 (v := 0) (by decide) ?_
            cases hF
            exact v_iret dX6_runs_56 rfl (by decide) rfl rfl
      · refine v_goto (tgt := 67) dX6_runs_38 (by decide) ?_
        exact v_sub [0, 1, 2, 3, 4] rfl (w_T_runs_J67 hfr hlo hc19 hF)
def T_runs (N : Nat) (a1 : Int32) (M : TM) : Option (Int32 × TM) :=
  (T_goesAlong N a1 (0 : Int32) M).bind fun M1 =>
  T_runs_L19 N (fun v19 M20 =>
    (some (tsi M20 46 v19)).bind fun (M21 : TM) =>
    some ((1 : Int32), M21)) N a1 (M1.1 47) (M1.1 22) (0 : Int32) M1
theorem w_T_runs {l : Launch} {G : GT} {fr lo : Nat} {h0 : Hp} {m0 : Nat} {hb : Hp} {N : Nat} {r : (Int32 × TM)} (hfr : 123 ≤ fr) (hlo : 2961 ≤ lo) {a1 : Int32} {M : TM} (hF : T_runs N a1 M = some r) : V l G cX6_runs RX6 "runs" 5 (Option.some Jvm.ClassFile.FieldType.boolean) fr lo h0 (ovT m0 r.2 hb) (QM G (some (.int r.1)) h0 (ovT m0 r.2 hb)) 0 [(0, .ref m0), (1, .int a1)] [] (ovT m0 M hb) := by
  unfold T_runs at hF
  refine v_aload_n dX6_runs_0 rfl 0 rfl ?_
  refine v_iload_n dX6_runs_1 rfl 1 rfl ?_
  refine v_iconst dX6_runs_2 (v := 0) (by decide) ?_
  obtain ⟨M1, e_M1, hF⟩ := Option.bind_eq_some_iff.mp hF
  refine v_calV0 dX6_runs_3 vl_X6_498 q2320 rc_ov (ct_T_goesAlong e_M1) rfl rfl (Nat.le_trans (Nat.le_of_ble_eq_true rfl) hfr) (Nat.le_trans (Nat.le_of_ble_eq_true rfl) hlo) (Nat.le_of_ble_eq_true rfl) ?_
  refine v_aload_n dX6_runs_6 rfl 0 rfl ?_
  refine t_geti 47 dX6_runs_7 fl_X6_486 rfl ?_
  refine v_istore_n dX6_runs_10 rfl (Nat.le_of_ble_eq_true rfl) (L' := [(2, .int (M1.1 47)), (0, .ref m0), (1, .int a1)]) rfl ?_
  refine v_aload_n dX6_runs_11 rfl 1 rfl ?_
  refine t_geti 22 dX6_runs_12 fl_X6_268 rfl ?_
  refine v_istore_n dX6_runs_15 rfl (Nat.le_of_ble_eq_true rfl) (L' := [(3, .int (M1.1 22)), (2, .int (M1.1 47)), (0, .ref m0), (1, .int a1)]) rfl ?_
  refine v_iconst dX6_runs_16 (v := 0) (by decide) ?_
  refine v_istore dX6_runs_17 (Nat.le_of_ble_eq_true rfl) (L' := [(4, .int (0 : Int32)), (3, .int (M1.1 22)), (2, .int (M1.1 47)), (0, .ref m0), (1, .int a1)]) rfl ?_
  refine v_sub [3, 4, 2, 1, 0] rfl (w_T_runs_L19 hfr hlo ?_ N _ _ _ _ _ hF)
  intro v19 M20 hF
  refine v_aload_n dX6_runs_73 rfl 0 rfl ?_
  refine v_iload_n dX6_runs_74 rfl 1 rfl ?_
  refine t_puti 46 dX6_runs_75 pl_X6_467 rfl ?_
  refine v_letM hF (fun M21 hF => ?_)
  refine v_iconst dX6_runs_78 (v := 1) (by decide) ?_
  cases hF
  exact v_iret dX6_runs_79 rfl (by decide) rfl rfl
theorem ct_T_runs {l : Launch} {G : GT} {m0 : Nat} {hb : Hp} {N : Nat} {r : (Int32 × TM)} {a1 : Int32} {M : TM} (hF : T_runs N a1 M = some r) : Ct l G yX6_runs (ws_ yX6_runs cX6_runs 5 (Option.some Jvm.ClassFile.FieldType.boolean)) 123 2961 [.ref m0, .int a1] (ovT m0 M hb) (some (.int r.1)) (ovT m0 r.2 hb) :=
  ct_of (by decide) (Nat.le_of_ble_eq_true rfl) (w_T_runs (Nat.le_refl _) (Nat.le_refl _) hF)
def T_takesBack_L2 (N : Nat) (x2 : TM → Option TM) : Nat → Int32 → Int32 → TM → Option TM
  | 0, _, _, _ => none
  | n7 + 1, v1, v2, M3 =>
    if (6 : Int32) ≤ v2 then
      x2 M3
    else
      (tra M3 5 12 (((6 : Int32) * v1) + v2)).bind fun v5 =>
      (twa M3 2 5660 v2 v5).bind fun M6 =>
      (T_takesBack_L2 N x2 n7) v1 (v2 + (1 : Int32)) M6
theorem w_T_takesBack_L2 {l : Launch} {G : GT} {fr lo : Nat} {h0 : Hp} {m0 : Nat} {hb : Hp} {N : Nat} {r : TM} (hfr : 0 ≤ fr) (hlo : 0 ≤ lo) {x2 : TM → Option TM} (hx2 : ∀ (M4 : TM), x2 M4 = some r → V l G cX6_takesBack RX6 "takesBack" 3 (Option.none : Option Jvm.ClassFile.FieldType) fr lo h0 (ovT m0 r hb) (QM G none h0 (ovT m0 r hb)) 31 [] [] (ovT m0 M4 hb)) : ∀ (n : Nat) (v1 : Int32) (v2 : Int32) (M3 : TM), T_takesBack_L2 N x2 n v1 v2 M3 = some r → V l G cX6_takesBack RX6 "takesBack" 3 (Option.none : Option Jvm.ClassFile.FieldType) fr lo h0 (ovT m0 r hb) (QM G none h0 (ovT m0 r hb)) 2 [(0, .ref m0), (1, .int v1), (2, .int v2)] [] (ovT m0 M3 hb) := by
  intro n
  induction n with
  | zero =>
    intro v1 v2 M3 hF
    cases (show (none : Option TM) = some r from hF)
  | succ n hc2 =>
    intro v1 v2 M3 hF
    rw [T_takesBack_L2] at hF
    refine v_iload_n dX6_takesBack_2 rfl 2 rfl ?_
    refine v_bipush dX6_takesBack_3 (v := 6) (by decide) ?_
    refine v_icmp_ge (tgt := 31) dX6_takesBack_5 (by decide) hF (fun hF => ?_) (fun hF => ?_)
    · exact v_sub [] rfl (hx2 _ hF)
    · refine v_aload_n dX6_takesBack_8 rfl 0 rfl ?_
      refine t_geta 2 2 dX6_takesBack_9 fl_X6_24 (Nat.le_of_ble_eq_true rfl) (fun _ _ => rfl) ?_
      refine v_iload_n dX6_takesBack_12 rfl 2 rfl ?_
      refine v_aload_n dX6_takesBack_13 rfl 0 rfl ?_
      refine t_geta 5 5 dX6_takesBack_14 fl_X6_34 (Nat.le_of_ble_eq_true rfl) (fun _ _ => rfl) ?_
      refine v_bipush dX6_takesBack_17 (v := 6) (by decide) ?_
      refine v_iload_n dX6_takesBack_19 rfl 1 rfl ?_
      refine v_imul dX6_takesBack_20 ?_
      refine v_iload_n dX6_takesBack_21 rfl 2 rfl ?_
      refine v_iadd dX6_takesBack_22 ?_
      refine t_iald 5 dX6_takesBack_23 rfl (Nat.le_of_ble_eq_true rfl) (by decide) hF (fun v5 hF => ?_)
      refine t_iast 2 dX6_takesBack_24 rfl (Nat.le_of_ble_eq_true rfl) (by decide) hF (fun M6 hF => ?_)
      refine v_iinc dX6_takesBack_25 2 rfl (v := v2 + (1 : Int32)) (by rfl) (Nat.le_of_ble_eq_true rfl) (L' := [(2, .int (v2 + (1 : Int32))), (0, .ref m0), (1, .int v1)]) rfl ?_
      refine v_goto (tgt := 2) dX6_takesBack_28 (by decide) ?_
      exact v_sub [1, 2, 0] rfl (hc2 _ _ _ hF)
def T_takesBack (N : Nat) (a1 : Int32) (M : TM) : Option TM :=
  T_takesBack_L2 N (fun M8 =>
    some M8) N a1 (0 : Int32) M
theorem w_T_takesBack {l : Launch} {G : GT} {fr lo : Nat} {h0 : Hp} {m0 : Nat} {hb : Hp} {N : Nat} {r : TM} (hfr : 0 ≤ fr) (hlo : 0 ≤ lo) {a1 : Int32} {M : TM} (hF : T_takesBack N a1 M = some r) : V l G cX6_takesBack RX6 "takesBack" 3 (Option.none : Option Jvm.ClassFile.FieldType) fr lo h0 (ovT m0 r hb) (QM G none h0 (ovT m0 r hb)) 0 [(0, .ref m0), (1, .int a1)] [] (ovT m0 M hb) := by
  unfold T_takesBack at hF
  refine v_iconst dX6_takesBack_0 (v := 0) (by decide) ?_
  refine v_istore_n dX6_takesBack_1 rfl (Nat.le_of_ble_eq_true rfl) (L' := [(2, .int (0 : Int32)), (0, .ref m0), (1, .int a1)]) rfl ?_
  refine v_sub [1, 2, 0] rfl (w_T_takesBack_L2 hfr hlo ?_ N _ _ _ hF)
  intro M8 hF
  cases hF
  exact v_vret dX6_takesBack_31 rfl rfl rfl
theorem ct_T_takesBack {l : Launch} {G : GT} {m0 : Nat} {hb : Hp} {N : Nat} {r : TM} {a1 : Int32} {M : TM} (hF : T_takesBack N a1 M = some r) : Ct l G yX6_takesBack (ws_ yX6_takesBack cX6_takesBack 3 (Option.none : Option Jvm.ClassFile.FieldType)) 0 0 [.ref m0, .int a1] (ovT m0 M hb) none (ovT m0 r hb) :=
  ct_of (by decide) (Nat.le_of_ble_eq_true rfl) (w_T_takesBack (Nat.le_refl _) (Nat.le_refl _) hF)
theorem pl_X6_93 : PL RX6 93 [6] 45 (.int) false := by
  intro ci h
  simp only [List.mem_cons, List.not_mem_nil, or_false] at h
  subst h; exact ⟨RX6, _, TX6, 56, tyX6, rfl, in_X6, by decide, Or.inl q1679, Or.inl rfl, tyX6_ok, rfl, by decide +kernel, rfl, fun z => by cases z⟩
theorem vl_X6_464 : ∀ ci ∈ [6], VL RX6 464 ci yX6_laysAside 1 := by
  intro ci h
  simp only [List.mem_cons, List.not_mem_nil, or_false] at h
  subst h; exact ⟨RX6, TX6, 56, rfl, q146, ⟨by decide, by decide⟩, by decide +kernel, q2311, Or.inl ⟨q2309, qs129⟩⟩
theorem fl_X6_68 : FL RX6 68 [6] 31 := by
  intro ci h
  simp only [List.mem_cons, List.not_mem_nil, or_false] at h
  subst h; exact ⟨RX6, _, TX6, 56, rfl, in_X6, by decide, Or.inl q1665, Or.inl rfl⟩
theorem vl_X6_470 : ∀ ci ∈ [6], VL RX6 470 ci yX6_runs 1 := by
  intro ci h
  simp only [List.mem_cons, List.not_mem_nil, or_false] at h
  subst h; exact ⟨RX6, TX6, 56, rfl, q146, ⟨by decide, by decide⟩, by decide +kernel, q2315, Or.inl ⟨q2313, qs130⟩⟩
theorem vl_X6_473 : ∀ ci ∈ [6], VL RX6 473 ci yX6_takesBack 1 := by
  intro ci h
  simp only [List.mem_cons, List.not_mem_nil, or_false] at h
  subst h; exact ⟨RX6, TX6, 56, rfl, q146, ⟨by decide, by decide⟩, by decide +kernel, q2331, Or.inl ⟨q2329, qs133⟩⟩
def T_orders_L27 (N : Nat) (x27 : TM → Option (Int32 × TM)) : Nat → Int32 → TM → Option (Int32 × TM)
  | 0, _, _ => none
  | n10 + 1, v5, M6 =>
    if (112 : Int32) ≤ v5 then
      x27 M6
    else
      (tra M6 30 112 v5).bind fun v8 =>
      (twa M6 31 112 v5 v8).bind fun M9 =>
      (T_orders_L27 N x27 n10) (v5 + (1 : Int32)) M9
theorem w_T_orders_L27 {l : Launch} {G : GT} {fr lo : Nat} {h0 : Hp} {m0 : Nat} {hb : Hp} {N : Nat} {r : (Int32 × TM)} (hfr : 124 ≤ fr) (hlo : 2985 ≤ lo) {x27 : TM → Option (Int32 × TM)} (hx27 : ∀ (M7 : TM), x27 M7 = some r → V l G cX6_orders RX6 "orders" 5 (Option.some Jvm.ClassFile.FieldType.int) fr lo h0 (ovT m0 r.2 hb) (QM G (some (.int r.1)) h0 (ovT m0 r.2 hb)) 51 [(0, .ref m0)] [] (ovT m0 M7 hb)) : ∀ (n : Nat) (v5 : Int32) (M6 : TM), T_orders_L27 N x27 n v5 M6 = some r → V l G cX6_orders RX6 "orders" 5 (Option.some Jvm.ClassFile.FieldType.int) fr lo h0 (ovT m0 r.2 hb) (QM G (some (.int r.1)) h0 (ovT m0 r.2 hb)) 27 [(0, .ref m0), (1, .int v5)] [] (ovT m0 M6 hb) := by
  intro n
  induction n with
  | zero =>
    intro v5 M6 hF
    cases (show (none : Option (Int32 × TM)) = some r from hF)
  | succ n hc27 =>
    intro v5 M6 hF
    rw [T_orders_L27] at hF
    refine v_iload_n dX6_orders_27 rfl 1 rfl ?_
    refine v_bipush dX6_orders_28 (v := 112) (by decide) ?_
    refine v_icmp_ge (tgt := 51) dX6_orders_30 (by decide) hF (fun hF => ?_) (fun hF => ?_)
    · exact v_sub [0] rfl (hx27 _ hF)
    · refine v_aload_n dX6_orders_33 rfl 0 rfl ?_
      refine t_geta 31 15 dX6_orders_34 fl_X6_68 (Nat.le_of_ble_eq_true rfl) (fun _ _ => rfl) ?_
      refine v_iload_n dX6_orders_37 rfl 1 rfl ?_
      refine v_aload_n dX6_orders_38 rfl 0 rfl ?_
      refine t_geta 30 14 dX6_orders_39 fl_X6_65 (Nat.le_of_ble_eq_true rfl) (fun _ _ => rfl) ?_
      refine v_iload_n dX6_orders_42 rfl 1 rfl ?_
      refine t_iald 14 dX6_orders_43 rfl (Nat.le_of_ble_eq_true rfl) (by decide) hF (fun v8 hF => ?_)
      refine t_iast 15 dX6_orders_44 rfl (Nat.le_of_ble_eq_true rfl) (by decide) hF (fun M9 hF => ?_)
      refine v_iinc dX6_orders_45 1 rfl (v := v5 + (1 : Int32)) (by rfl) (Nat.le_of_ble_eq_true rfl) (L' := [(1, .int (v5 + (1 : Int32))), (0, .ref m0)]) rfl ?_
      refine v_goto (tgt := 27) dX6_orders_48 (by decide) ?_
      exact v_sub [1, 0] rfl (hc27 _ _ hF)
def T_orders_L121 (N : Nat) (x121 : Int32 → Int32 → TM → Option (Int32 × TM)) : Nat → Int32 → Int32 → Int32 → TM → Option (Int32 × TM)
  | 0, _, _, _, _ => none
  | n35 + 1, v26, v27, v28, M29 =>
    if (112 : Int32) ≤ v28 then
      x121 v26 v27 M29
    else
      (tra M29 31 112 v28).bind fun v33 =>
      (twa M29 30 112 v28 v33).bind fun M34 =>
      (T_orders_L121 N x121 n35) v26 v27 (v28 + (1 : Int32)) M34
theorem w_T_orders_L121 {l : Launch} {G : GT} {fr lo : Nat} {h0 : Hp} {m0 : Nat} {hb : Hp} {N : Nat} {r : (Int32 × TM)} (hfr : 124 ≤ fr) (hlo : 2985 ≤ lo) {x121 : Int32 → Int32 → TM → Option (Int32 × TM)} (hx121 : ∀ (v30 : Int32) (v31 : Int32) (M32 : TM), x121 v30 v31 M32 = some r → V l G cX6_orders RX6 "orders" 5 (Option.some Jvm.ClassFile.FieldType.int) fr lo h0 (ovT m0 r.2 hb) (QM G (some (.int r.1)) h0 (ovT m0 r.2 hb)) 148 [(0, .ref m0), (1, .int v30), (3, .int v31)] [] (ovT m0 M32 hb)) : ∀ (n : Nat) (v26 : Int32) (v27 : Int32) (v28 : Int32) (M29 : TM), T_orders_L121 N x121 n v26 v27 v28 M29 = some r → V l G cX6_orders RX6 "orders" 5 (Option.some Jvm.ClassFile.FieldType.int) fr lo h0 (ovT m0 r.2 hb) (QM G (some (.int r.1)) h0 (ovT m0 r.2 hb)) 121 [(0, .ref m0), (1, .int v26), (3, .int v27), (4, .int v28)] [] (ovT m0 M29 hb) := by
  intro n
  induction n with
  | zero =>
    intro v26 v27 v28 M29 hF
    cases (show (none : Option (Int32 × TM)) = some r from hF)
  | succ n hc121 =>
    intro v26 v27 v28 M29 hF
    rw [T_orders_L121] at hF
    refine v_iload dX6_orders_121 3 rfl ?_
    refine v_bipush dX6_orders_123 (v := 112) (by decide) ?_
    refine v_icmp_ge (tgt := 148) dX6_orders_125 (by decide) hF (fun hF => ?_) (fun hF => ?_)
    · exact v_sub [0, 1, 2] rfl (hx121 _ _ _ hF)
    · refine v_aload_n dX6_orders_128 rfl 0 rfl ?_
      refine t_geta 30 14 dX6_orders_129 fl_X6_65 (Nat.le_of_ble_eq_true rfl) (fun _ _ => rfl) ?_
      refine v_iload dX6_orders_132 3 rfl ?_
      refine v_aload_n dX6_orders_134 rfl 0 rfl ?_
      refine t_geta 31 15 dX6_orders_135 fl_X6_68 (Nat.le_of_ble_eq_true rfl) (fun _ _ => rfl) ?_
      refine v_iload dX6_orders_138 3 rfl ?_
      refine t_iald 15 dX6_orders_140 rfl (Nat.le_of_ble_eq_true rfl) (by decide) hF (fun v33 hF => ?_)
      refine t_iast 14 dX6_orders_141 rfl (Nat.le_of_ble_eq_true rfl) (by decide) hF (fun M34 hF => ?_)
      refine v_iinc dX6_orders_142 3 rfl (v := v28 + (1 : Int32)) (by rfl) (Nat.le_of_ble_eq_true rfl) (L' := [(4, .int (v28 + (1 : Int32))), (0, .ref m0), (1, .int v26), (3, .int v27)]) rfl ?_
      refine v_goto (tgt := 121) dX6_orders_145 (by decide) ?_
      exact v_sub [1, 2, 3, 0] rfl (hc121 _ _ _ _ hF)
def T_orders_L94 (N : Nat) (x94 : TM → Option (Int32 × TM)) : Nat → Int32 → Int32 → Int32 → TM → Option (Int32 × TM)
  | 0, _, _, _, _ => none
  | n43 + 1, v18, v19, v20, M21 =>
    if v19 ≤ (M21.1 46) then
      x94 M21
    else
      bd2 (T_runs N v19 M21) fun v24 M23 =>
      if v24 = 0 then
        (T_takesBack N (1 : Int32) M23).bind fun M25 =>
        T_orders_L121 N (fun v36 v37 M38 =>
          (some (tsi M38 32 v36)).bind fun (M39 : TM) =>
          (some (tsi M39 45 v37)).bind fun (M40 : TM) =>
          bd2 (T_refuses (-3 : Int32) M40) fun v42 M41 =>
          some (v42, M41)) N v18 v20 (0 : Int32) M25
      else
        (T_orders_L94 N x94 n43) v18 v19 (v20 + (1 : Int32)) M23
theorem w_T_orders_L94 {l : Launch} {G : GT} {fr lo : Nat} {h0 : Hp} {m0 : Nat} {hb : Hp} {N : Nat} {r : (Int32 × TM)} (hfr : 124 ≤ fr) (hlo : 2985 ≤ lo) {x94 : TM → Option (Int32 × TM)} (hx94 : ∀ (M22 : TM), x94 M22 = some r → V l G cX6_orders RX6 "orders" 5 (Option.some Jvm.ClassFile.FieldType.int) fr lo h0 (ovT m0 r.2 hb) (QM G (some (.int r.1)) h0 (ovT m0 r.2 hb)) 171 [(0, .ref m0)] [] (ovT m0 M22 hb)) : ∀ (n : Nat) (v18 : Int32) (v19 : Int32) (v20 : Int32) (M21 : TM), T_orders_L94 N x94 n v18 v19 v20 M21 = some r → V l G cX6_orders RX6 "orders" 5 (Option.some Jvm.ClassFile.FieldType.int) fr lo h0 (ovT m0 r.2 hb) (QM G (some (.int r.1)) h0 (ovT m0 r.2 hb)) 94 [(0, .ref m0), (1, .int v18), (2, .int v19), (3, .int v20)] [] (ovT m0 M21 hb) := by
  intro n
  induction n with
  | zero =>
    intro v18 v19 v20 M21 hF
    cases (show (none : Option (Int32 × TM)) = some r from hF)
  | succ n hc94 =>
    intro v18 v19 v20 M21 hF
    rw [T_orders_L94] at hF
    refine v_aload_n dX6_orders_94 rfl 0 rfl ?_
    refine t_geti 46 dX6_orders_95 fl_X6_467 rfl ?_
    refine v_iload_n dX6_orders_98 rfl 2 rfl ?_
    refine v_icmp_ge (tgt := 171) dX6_orders_99 (by decide) hF (fun hF => ?_) (fun hF => ?_)
    · exact v_sub [0] rfl (hx94 _ hF)
    · refine v_aload_n dX6_orders_102 rfl 0 rfl ?_
      refine v_iload_n dX6_orders_103 rfl 2 rfl ?_
      obtain ⟨v24, M23, e_v24, hF⟩ := bd2_spec hF
      refine v_calV1 dX6_orders_104 vl_X6_470 q2316 rc_ov (ct_T_runs e_v24) rfl rfl (Nat.le_trans (Nat.le_of_ble_eq_true rfl) hfr) (Nat.le_trans (Nat.le_of_ble_eq_true rfl) hlo) (Nat.le_of_ble_eq_true rfl) ?_
      refine v_if_eq (tgt := 113) dX6_orders_107 (by decide) hF (fun hF => ?_) (fun hF => ?_)
      · refine v_aload_n dX6_orders_113 rfl 0 rfl ?_
        refine v_iconst dX6_orders_114 (v := 1) (by decide) ?_
        obtain ⟨M25, e_M25, hF⟩ := Option.bind_eq_some_iff.mp hF
        refine v_calV0 dX6_orders_115 vl_X6_473 q2332 rc_ov (ct_T_takesBack e_M25) rfl rfl (Nat.le_trans (Nat.le_of_ble_eq_true rfl) hfr) (Nat.le_trans (Nat.le_of_ble_eq_true rfl) hlo) (Nat.le_of_ble_eq_true rfl) ?_
        refine v_iconst dX6_orders_118 (v := 0) (by decide) ?_
        refine v_istore dX6_orders_119 (Nat.le_of_ble_eq_true rfl) (L' := [(4, .int (0 : Int32)), (0, .ref m0), (1, .int v18), (2, .int v19), (3, .int v20)]) rfl ?_
        refine v_sub [1, 2, 4, 0] rfl (w_T_orders_L121 hfr hlo ?_ N _ _ _ _ hF)
        intro v36 v37 M38 hF
        refine v_aload_n dX6_orders_148 rfl 0 rfl ?_
        refine v_iload_n dX6_orders_149 rfl 1 rfl ?_
        refine t_puti 32 dX6_orders_150 pl_X6_11 rfl ?_
        refine v_letM hF (fun M39 hF => ?_)
        refine v_aload_n dX6_orders_153 rfl 0 rfl ?_
        refine v_iload_n dX6_orders_154 rfl 2 rfl ?_
        refine t_puti 45 dX6_orders_155 pl_X6_93 rfl ?_
        refine v_letM hF (fun M40 hF => ?_)
        refine v_aload_n dX6_orders_158 rfl 0 rfl ?_
        refine v_bipush dX6_orders_159 (v := -3) (by decide) ?_
        obtain ⟨v42, M41, e_v42, hF⟩ := bd2_spec hF
        refine v_calV1 dX6_orders_161 vl_X6_106 q1814 rc_ov (ct_T_refuses e_v42) rfl rfl (Nat.le_trans (Nat.le_of_ble_eq_true rfl) hfr) (Nat.le_trans (Nat.le_of_ble_eq_true rfl) hlo) (Nat.le_of_ble_eq_true rfl) ?_
        cases hF
        exact v_iret dX6_orders_164 rfl rfl rfl rfl
      · refine v_goto (tgt := 165) dX6_orders_110 (by decide) ?_
        refine v_iinc dX6_orders_165 3 rfl (v := v20 + (1 : Int32)) (by rfl) (Nat.le_of_ble_eq_true rfl) (L' := [(3, .int (v20 + (1 : Int32))), (0, .ref m0), (1, .int v18), (2, .int v19)]) rfl ?_
        refine v_goto (tgt := 94) dX6_orders_168 (by decide) ?_
        exact v_sub [1, 2, 3, 0] rfl (hc94 _ _ _ _ hF)
def T_orders (N : Nat) (M : TM) : Option (Int32 × TM) :=
  (some (tsi M 45 (-1 : Int32))).bind fun (M1 : TM) =>
  bd2 (T_readsAs N (1 : Int32) M1) fun v3 M2 =>
  if v3 = 0 then
    bd2 (T_refuses (-6 : Int32) M2) fun v48 M47 =>
    some (v48, M47)
  else
    (T_laysAside N (1 : Int32) M2).bind fun M4 =>
    T_orders_L27 N (fun M11 =>
      (T_lays N (6 : Int32) M11).bind fun M12 =>
      (some (tsi M12 27 (0 : Int32))).bind fun (M13 : TM) =>
      (some (tsi M13 28 (-1 : Int32))).bind fun (M14 : TM) =>
      (some (tsi M14 46 (2400 : Int32))).bind fun (M15 : TM) =>
      (tra M15 2 5660 (59 : Int32)).bind fun v16 =>
      (some ((M15.1 46) + v16)).bind fun (v17 : Int32) =>
      T_orders_L94 N (fun M44 =>
        bd2 (T_good (M44.1 27) M44) fun v46 M45 =>
        some (v46, M45)) N (M11.1 32) v17 (0 : Int32) M15) N (0 : Int32) M4
theorem w_T_orders {l : Launch} {G : GT} {fr lo : Nat} {h0 : Hp} {m0 : Nat} {hb : Hp} {N : Nat} {r : (Int32 × TM)} (hfr : 124 ≤ fr) (hlo : 2985 ≤ lo) {M : TM} (hF : T_orders N M = some r) : V l G cX6_orders RX6 "orders" 5 (Option.some Jvm.ClassFile.FieldType.int) fr lo h0 (ovT m0 r.2 hb) (QM G (some (.int r.1)) h0 (ovT m0 r.2 hb)) 0 [(0, .ref m0)] [] (ovT m0 M hb) := by
  unfold T_orders at hF
  refine v_aload_n dX6_orders_0 rfl 0 rfl ?_
  refine v_iconst dX6_orders_1 (v := -1) (by decide) ?_
  refine t_puti 45 dX6_orders_2 pl_X6_93 rfl ?_
  refine v_letM hF (fun M1 hF => ?_)
  refine v_aload_n dX6_orders_5 rfl 0 rfl ?_
  refine v_iconst dX6_orders_6 (v := 1) (by decide) ?_
  obtain ⟨v3, M2, e_v3, hF⟩ := bd2_spec hF
  refine v_calV1 dX6_orders_7 vl_X6_255 q1998 rc_ov (ct_T_readsAs e_v3) rfl rfl (Nat.le_trans (Nat.le_of_ble_eq_true rfl) hfr) (Nat.le_trans (Nat.le_of_ble_eq_true rfl) hlo) (Nat.le_of_ble_eq_true rfl) ?_
  refine v_if_ne (tgt := 20) dX6_orders_10 (by decide) hF (fun hF => ?_) (fun hF => ?_)
  · refine v_aload_n dX6_orders_20 rfl 0 rfl ?_
    refine v_iconst dX6_orders_21 (v := 1) (by decide) ?_
    obtain ⟨M4, e_M4, hF⟩ := Option.bind_eq_some_iff.mp hF
    refine v_calV0 dX6_orders_22 vl_X6_464 q2312 rc_ov (ct_T_laysAside e_M4) rfl rfl (Nat.le_trans (Nat.le_of_ble_eq_true rfl) hfr) (Nat.le_trans (Nat.le_of_ble_eq_true rfl) hlo) (Nat.le_of_ble_eq_true rfl) ?_
    refine v_iconst dX6_orders_25 (v := 0) (by decide) ?_
    refine v_istore_n dX6_orders_26 rfl (Nat.le_of_ble_eq_true rfl) (L' := [(1, .int (0 : Int32)), (0, .ref m0)]) rfl ?_
    refine v_sub [1, 0] rfl (w_T_orders_L27 hfr hlo ?_ N _ _ hF)
    intro M11 hF
    refine v_aload_n dX6_orders_51 rfl 0 rfl ?_
    refine t_geti 32 dX6_orders_52 fl_X6_11 rfl ?_
    refine v_istore_n dX6_orders_55 rfl (Nat.le_of_ble_eq_true rfl) (L' := [(1, .int (M11.1 32)), (0, .ref m0)]) rfl ?_
    refine v_aload_n dX6_orders_56 rfl 1 rfl ?_
    refine v_bipush dX6_orders_57 (v := 6) (by decide) ?_
    obtain ⟨M12, e_M12, hF⟩ := Option.bind_eq_some_iff.mp hF
    refine v_calV0 dX6_orders_59 vl_X6_259 q2081 rc_ov (ct_T_lays e_M12) rfl rfl (Nat.le_trans (Nat.le_of_ble_eq_true rfl) hfr) (Nat.le_trans (Nat.le_of_ble_eq_true rfl) hlo) (Nat.le_of_ble_eq_true rfl) ?_
    refine v_aload_n dX6_orders_62 rfl 1 rfl ?_
    refine v_iconst dX6_orders_63 (v := 0) (by decide) ?_
    refine t_puti 27 dX6_orders_64 pl_X6_307 rfl ?_
    refine v_letM hF (fun M13 hF => ?_)
    refine v_aload_n dX6_orders_67 rfl 1 rfl ?_
    refine v_iconst dX6_orders_68 (v := -1) (by decide) ?_
    refine t_puti 28 dX6_orders_69 pl_X6_310 rfl ?_
    refine v_letM hF (fun M14 hF => ?_)
    refine v_aload_n dX6_orders_72 rfl 1 rfl ?_
    refine v_sipush dX6_orders_73 (v := 2400) (by decide) ?_
    refine t_puti 46 dX6_orders_76 pl_X6_467 rfl ?_
    refine v_letM hF (fun M15 hF => ?_)
    refine v_aload_n dX6_orders_79 rfl 1 rfl ?_
    refine t_geti 46 dX6_orders_80 fl_X6_467 rfl ?_
    refine v_aload_n dX6_orders_83 rfl 1 rfl ?_
    refine t_geta 2 2 dX6_orders_84 fl_X6_24 (Nat.le_of_ble_eq_true rfl) (fun _ _ => rfl) ?_
    refine v_bipush dX6_orders_87 (v := 59) (by decide) ?_
    refine t_iald 2 dX6_orders_89 rfl (Nat.le_of_ble_eq_true rfl) (by decide) hF (fun v16 hF => ?_)
    refine v_iadd dX6_orders_90 ?_
    refine v_leti hF (fun v17 hF => ?_)
    refine v_istore_n dX6_orders_91 rfl (Nat.le_of_ble_eq_true rfl) (L' := [(2, .int v17), (1, .int (M11.1 32)), (0, .ref m0)]) rfl ?_
    refine v_iconst dX6_orders_92 (v := 0) (by decide) ?_
    refine v_istore_n dX6_orders_93 rfl (Nat.le_of_ble_eq_true rfl) (L' := [(3, .int (0 : Int32)), (2, .int v17), (1, .int (M11.1 32)), (0, .ref m0)]) rfl ?_
    refine v_sub [3, 2, 1, 0] rfl (w_T_orders_L94 hfr hlo ?_ N _ _ _ _ hF)
    intro M44 hF
    refine v_aload_n dX6_orders_171 rfl 0 rfl ?_
    refine v_aload_n dX6_orders_172 rfl 0 rfl ?_
    refine t_geti 27 dX6_orders_173 fl_X6_307 rfl ?_
    obtain ⟨v46, M45, e_v46, hF⟩ := bd2_spec hF
    refine v_calV1 dX6_orders_176 vl_X6_14 q1818 rc_ov (ct_T_good e_v46) rfl rfl (Nat.le_trans (Nat.le_of_ble_eq_true rfl) hfr) (Nat.le_trans (Nat.le_of_ble_eq_true rfl) hlo) (Nat.le_of_ble_eq_true rfl) ?_
    cases hF
    exact v_iret dX6_orders_179 rfl rfl rfl rfl
  · refine v_aload_n dX6_orders_13 rfl 0 rfl ?_
    refine v_bipush dX6_orders_14 (v := -6) (by decide) ?_
    obtain ⟨v48, M47, e_v48, hF⟩ := bd2_spec hF
    refine v_calV1 dX6_orders_16 vl_X6_106 q1814 rc_ov (ct_T_refuses e_v48) rfl rfl (Nat.le_trans (Nat.le_of_ble_eq_true rfl) hfr) (Nat.le_trans (Nat.le_of_ble_eq_true rfl) hlo) (Nat.le_of_ble_eq_true rfl) ?_
    cases hF
    exact v_iret dX6_orders_19 rfl rfl rfl rfl
theorem ct_T_orders {l : Launch} {G : GT} {m0 : Nat} {hb : Hp} {N : Nat} {r : (Int32 × TM)} {M : TM} (hF : T_orders N M = some r) : Ct l G yX6_orders (ws_ yX6_orders cX6_orders 5 (Option.some Jvm.ClassFile.FieldType.int)) 124 2985 [.ref m0] (ovT m0 M hb) (some (.int r.1)) (ovT m0 r.2 hb) :=
  ct_of (by decide) (Nat.le_of_ble_eq_true rfl) (w_T_orders (Nat.le_refl _) (Nat.le_refl _) hF)
theorem fl_X6_506 : FL RX6 506 [6] 55 := by
  intro ci h
  simp only [List.mem_cons, List.not_mem_nil, or_false] at h
  subst h; exact ⟨RX6, _, TX6, 56, rfl, in_X6, by decide, Or.inl q1689, Or.inl rfl⟩
theorem pl_X6_506 : PL RX6 506 [6] 55 (.int) false := by
  intro ci h
  simp only [List.mem_cons, List.not_mem_nil, or_false] at h
  subst h; exact ⟨RX6, _, TX6, 56, tyX6, rfl, in_X6, by decide, Or.inl q1689, Or.inl rfl, tyX6_ok, rfl, by decide +kernel, rfl, fun z => by cases z⟩
def T_draws (a1 : Int32) (M : TM) : Option (Int32 × TM) :=
  if (1000003 : Int64) = 0 then none else
  (some (tsi M 55 (((((1103 : Int64) * ((M.1 55).toInt64)) + (12345 : Int64)) - (((1103 : Int64) * ((M.1 55).toInt64)) + (12345 : Int64)) / (1000003 : Int64) * (1000003 : Int64)).toInt32))).bind fun (M1 : TM) =>
  if a1 = 0 then none else
  some (((M1.1 55) - (M1.1 55) / a1 * a1), M1)
theorem w_T_draws {l : Launch} {G : GT} {fr lo : Nat} {h0 : Hp} {m0 : Nat} {hb : Hp} {r : (Int32 × TM)} (hfr : 0 ≤ fr) (hlo : 0 ≤ lo) {a1 : Int32} {M : TM} (hF : T_draws a1 M = some r) : V l G cX6_draws RX6 "draws" 2 (Option.some Jvm.ClassFile.FieldType.int) fr lo h0 (ovT m0 r.2 hb) (QM G (some (.int r.1)) h0 (ovT m0 r.2 hb)) 0 [(0, .ref m0), (1, .int a1)] [] (ovT m0 M hb) := by
  unfold T_draws at hF
  refine v_aload_n dX6_draws_0 rfl 0 rfl ?_
  refine v_ldc2 dX6_draws_1 q2345 ?_
  refine v_aload_n dX6_draws_4 rfl 0 rfl ?_
  refine t_geti 55 dX6_draws_5 fl_X6_506 rfl ?_
  refine v_i2l dX6_draws_8 ?_
  refine v_lmul dX6_draws_9 ?_
  refine v_ldc2 dX6_draws_10 q2346 ?_
  refine v_ladd dX6_draws_13 ?_
  refine v_ldc2 dX6_draws_14 q2347 ?_
  refine v_lrem dX6_draws_17 hF (fun hF => ?_)
  refine v_l2i dX6_draws_18 ?_
  refine t_puti 55 dX6_draws_19 pl_X6_506 rfl ?_
  refine v_letM hF (fun M1 hF => ?_)
  refine v_aload_n dX6_draws_22 rfl 0 rfl ?_
  refine t_geti 55 dX6_draws_23 fl_X6_506 rfl ?_
  refine v_iload_n dX6_draws_26 rfl 1 rfl ?_
  refine v_irem dX6_draws_27 hF (fun hF => ?_)
  cases hF
  exact v_iret dX6_draws_28 rfl rfl rfl rfl
theorem ct_T_draws {l : Launch} {G : GT} {m0 : Nat} {hb : Hp} {r : (Int32 × TM)} {a1 : Int32} {M : TM} (hF : T_draws a1 M = some r) : Ct l G yX6_draws (ws_ yX6_draws cX6_draws 2 (Option.some Jvm.ClassFile.FieldType.int)) 0 0 [.ref m0, .int a1] (ovT m0 M hb) (some (.int r.1)) (ovT m0 r.2 hb) :=
  ct_of (by decide) (Nat.le_of_ble_eq_true rfl) (w_T_draws (Nat.le_refl _) (Nat.le_refl _) hF)
theorem vl_X6_513 : ∀ ci ∈ [6], VL RX6 513 ci yX6_draws 1 := by
  intro ci h
  simp only [List.mem_cons, List.not_mem_nil, or_false] at h
  subst h; exact ⟨RX6, TX6, 56, rfl, q146, ⟨by decide, by decide⟩, by decide +kernel, q2343, Or.inl ⟨q2341, qs135⟩⟩
def T_showDay_J84 (N : Nat) (M16 : TM) : Option TM :=
  (tra M16 2 5660 (5 : Int32)).bind fun v17 =>
  if (999 : Int32) ≤ v17 then
    some M16
  else
    bd2 (T_dayPasses N M16) fun v19 M18 =>
    some M18
theorem w_T_showDay_J84 {l : Launch} {G : GT} {fr lo : Nat} {h0 : Hp} {m0 : Nat} {hb : Hp} {N : Nat} {r : TM} (hfr : 121 ≤ fr) (hlo : 2918 ≤ lo)   {M16 : TM} (hF : T_showDay_J84 N M16 = some r) : V l G cX6_showDay RX6 "showDay" 4 (Option.none : Option Jvm.ClassFile.FieldType) fr lo h0 (ovT m0 r hb) (QM G none h0 (ovT m0 r hb)) 84 [(0, .ref m0)] [] (ovT m0 M16 hb) := by
  unfold T_showDay_J84 at hF
  refine v_aload_n dX6_showDay_84 rfl 0 rfl ?_
  refine t_geta 2 2 dX6_showDay_85 fl_X6_24 (Nat.le_of_ble_eq_true rfl) (fun _ _ => rfl) ?_
  refine v_iconst dX6_showDay_88 (v := 5) (by decide) ?_
  refine t_iald 2 dX6_showDay_89 rfl (Nat.le_of_ble_eq_true rfl) (by decide) hF (fun v17 hF => ?_)
  refine v_sipush dX6_showDay_90 (v := 999) (by decide) ?_
  refine v_icmp_ge (tgt := 101) dX6_showDay_93 (by decide) hF (fun hF => ?_) (fun hF => ?_)
  · cases hF
    exact v_vret dX6_showDay_101 rfl rfl rfl
  · refine v_aload_n dX6_showDay_96 rfl 0 rfl ?_
    obtain ⟨v19, M18, e_v19, hF⟩ := bd2_spec hF
    refine v_calV1 dX6_showDay_97 vl_X6_361 q2156 rc_ov (ct_T_dayPasses e_v19) rfl rfl (Nat.le_trans (Nat.le_of_ble_eq_true rfl) hfr) (Nat.le_trans (Nat.le_of_ble_eq_true rfl) hlo) (Nat.le_of_ble_eq_true rfl) ?_
    refine v_pop dX6_showDay_100 rfl ?_
    cases hF
    exact v_vret dX6_showDay_101 rfl rfl rfl
def T_showDay_J57 (N : Nat) (v13 : Int32) (v14 : Int32) (M15 : TM) : Option TM :=
  if v14 = (3 : Int32) then
    (T_canLose N M15 v13).bind fun v20 =>
    if v20 = 0 then
      T_showDay_J84 N M15
    else
      (tra M15 2 5660 (0 : Int32)).bind fun v21 =>
      (twa M15 2 5660 (0 : Int32) (v21 &&& (((1 : Int32) <<< (v13 &&& 31)) ^^^ (-1 : Int32)))).bind fun M22 =>
      T_showDay_J84 N M22
  else
    T_showDay_J84 N M15
theorem w_T_showDay_J57 {l : Launch} {G : GT} {fr lo : Nat} {h0 : Hp} {m0 : Nat} {hb : Hp} {N : Nat} {r : TM} (hfr : 121 ≤ fr) (hlo : 2918 ≤ lo)   {v13 : Int32} {v14 : Int32} {M15 : TM} (hF : T_showDay_J57 N v13 v14 M15 = some r) : V l G cX6_showDay RX6 "showDay" 4 (Option.none : Option Jvm.ClassFile.FieldType) fr lo h0 (ovT m0 r hb) (QM G none h0 (ovT m0 r hb)) 57 [(0, .ref m0), (1, .int v13), (3, .int v14)] [] (ovT m0 M15 hb) := by
  unfold T_showDay_J57 at hF
  refine v_iload_n dX6_showDay_57 rfl 2 rfl ?_
  refine v_iconst dX6_showDay_58 (v := 3) (by decide) ?_
  refine v_icmp_ne (tgt := 84) dX6_showDay_59 (by decide) hF (fun hF => ?_) (fun hF => ?_)
  · exact v_sub [0] rfl (w_T_showDay_J84 hfr hlo hF)
  · refine v_aload_n dX6_showDay_62 rfl 0 rfl ?_
    refine v_iload_n dX6_showDay_63 rfl 1 rfl ?_
    obtain ⟨v20, e_v20, hF⟩ := Option.bind_eq_some_iff.mp hF
    refine v_calV1 dX6_showDay_64 vl_X6_358 q2136 rc_ov (ct_T_canLose e_v20) rfl rfl (Nat.le_trans (Nat.le_of_ble_eq_true rfl) hfr) (Nat.le_trans (Nat.le_of_ble_eq_true rfl) hlo) (Nat.le_of_ble_eq_true rfl) ?_
    refine v_if_eq (tgt := 84) dX6_showDay_67 (by decide) hF (fun hF => ?_) (fun hF => ?_)
    · exact v_sub [0] rfl (w_T_showDay_J84 hfr hlo hF)
    · refine v_aload_n dX6_showDay_70 rfl 0 rfl ?_
      refine t_geta 2 2 dX6_showDay_71 fl_X6_24 (Nat.le_of_ble_eq_true rfl) (fun _ _ => rfl) ?_
      refine v_iconst dX6_showDay_74 (v := 0) (by decide) ?_
      refine v_dup2 dX6_showDay_75 rfl rfl ?_
      refine t_iald 2 dX6_showDay_76 rfl (Nat.le_of_ble_eq_true rfl) (by decide) hF (fun v21 hF => ?_)
      refine v_iconst dX6_showDay_77 (v := 1) (by decide) ?_
      refine v_iload_n dX6_showDay_78 rfl 1 rfl ?_
      refine v_ishl dX6_showDay_79 ?_
      refine v_iconst dX6_showDay_80 (v := -1) (by decide) ?_
      refine v_ixor dX6_showDay_81 ?_
      refine v_iand dX6_showDay_82 ?_
      refine t_iast 2 dX6_showDay_83 rfl (Nat.le_of_ble_eq_true rfl) (by decide) hF (fun M22 hF => ?_)
      exact v_sub [0] rfl (w_T_showDay_J84 hfr hlo hF)
def T_showDay_J43 (N : Nat) (v9 : Int32) (v10 : Int32) (v11 : Int32) (M12 : TM) : Option TM :=
  if v11 = (2 : Int32) then
    (twa M12 2 5660 ((1 : Int32) + v10) (0 : Int32)).bind fun M23 =>
    T_showDay_J57 N v9 v11 M23
  else
    T_showDay_J57 N v9 v11 M12
theorem w_T_showDay_J43 {l : Launch} {G : GT} {fr lo : Nat} {h0 : Hp} {m0 : Nat} {hb : Hp} {N : Nat} {r : TM} (hfr : 121 ≤ fr) (hlo : 2918 ≤ lo)   {v9 : Int32} {v10 : Int32} {v11 : Int32} {M12 : TM} (hF : T_showDay_J43 N v9 v10 v11 M12 = some r) : V l G cX6_showDay RX6 "showDay" 4 (Option.none : Option Jvm.ClassFile.FieldType) fr lo h0 (ovT m0 r hb) (QM G none h0 (ovT m0 r hb)) 43 [(0, .ref m0), (1, .int v9), (2, .int v10), (3, .int v11)] [] (ovT m0 M12 hb) := by
  unfold T_showDay_J43 at hF
  refine v_iload_n dX6_showDay_43 rfl 3 rfl ?_
  refine v_iconst dX6_showDay_44 (v := 2) (by decide) ?_
  refine v_icmp_ne (tgt := 57) dX6_showDay_45 (by decide) hF (fun hF => ?_) (fun hF => ?_)
  · exact v_sub [0, 1, 3] rfl (w_T_showDay_J57 hfr hlo hF)
  · refine v_aload_n dX6_showDay_48 rfl 0 rfl ?_
    refine t_geta 2 2 dX6_showDay_49 fl_X6_24 (Nat.le_of_ble_eq_true rfl) (fun _ _ => rfl) ?_
    refine v_iconst dX6_showDay_52 (v := 1) (by decide) ?_
    refine v_iload_n dX6_showDay_53 rfl 2 rfl ?_
    refine v_iadd dX6_showDay_54 ?_
    refine v_iconst dX6_showDay_55 (v := 0) (by decide) ?_
    refine t_iast 2 dX6_showDay_56 rfl (Nat.le_of_ble_eq_true rfl) (by decide) hF (fun M23 hF => ?_)
    exact v_sub [0, 1, 3] rfl (w_T_showDay_J57 hfr hlo hF)
def T_showDay (N : Nat) (M : TM) : Option TM :=
  (T_bookMany M).bind fun v1 =>
  bd2 (T_draws v1 M) fun v3 M2 =>
  (T_leekMany M2).bind fun v4 =>
  bd2 (T_draws v4 M2) fun v6 M5 =>
  bd2 (T_draws (4 : Int32) M5) fun v8 M7 =>
  if (2 : Int32) ≤ v8 then
    T_showDay_J43 N v3 v6 v8 M7
  else
    bd2 (T_canRead N v3 M7) fun v25 M24 =>
    if v25 = 0 then
      T_showDay_J43 N v3 v6 v8 M24
    else
      bd2 (T_reading N v3 M24) fun v27 M26 =>
      T_showDay_J43 N v3 v6 v8 M26
theorem w_T_showDay {l : Launch} {G : GT} {fr lo : Nat} {h0 : Hp} {m0 : Nat} {hb : Hp} {N : Nat} {r : TM} (hfr : 121 ≤ fr) (hlo : 2918 ≤ lo) {M : TM} (hF : T_showDay N M = some r) : V l G cX6_showDay RX6 "showDay" 4 (Option.none : Option Jvm.ClassFile.FieldType) fr lo h0 (ovT m0 r hb) (QM G none h0 (ovT m0 r hb)) 0 [(0, .ref m0)] [] (ovT m0 M hb) := by
  unfold T_showDay at hF
  refine v_aload_n dX6_showDay_0 rfl 0 rfl ?_
  refine v_aload_n dX6_showDay_1 rfl 0 rfl ?_
  obtain ⟨v1, e_v1, hF⟩ := Option.bind_eq_some_iff.mp hF
  refine v_calV1 dX6_showDay_2 vl_X6_112 q1837 rc_ov (ct_T_bookMany e_v1) rfl rfl (Nat.le_trans (Nat.le_of_ble_eq_true rfl) hfr) (Nat.le_trans (Nat.le_of_ble_eq_true rfl) hlo) (Nat.le_of_ble_eq_true rfl) ?_
  obtain ⟨v3, M2, e_v3, hF⟩ := bd2_spec hF
  refine v_calV1 dX6_showDay_5 vl_X6_513 q2344 rc_ov (ct_T_draws e_v3) rfl rfl (Nat.le_trans (Nat.le_of_ble_eq_true rfl) hfr) (Nat.le_trans (Nat.le_of_ble_eq_true rfl) hlo) (Nat.le_of_ble_eq_true rfl) ?_
  refine v_istore_n dX6_showDay_8 rfl (Nat.le_of_ble_eq_true rfl) (L' := [(1, .int v3), (0, .ref m0)]) rfl ?_
  refine v_aload_n dX6_showDay_9 rfl 1 rfl ?_
  refine v_aload_n dX6_showDay_10 rfl 1 rfl ?_
  obtain ⟨v4, e_v4, hF⟩ := Option.bind_eq_some_iff.mp hF
  refine v_calV1 dX6_showDay_11 vl_X6_116 q1918 rc_ov (ct_T_leekMany e_v4) rfl rfl (Nat.le_trans (Nat.le_of_ble_eq_true rfl) hfr) (Nat.le_trans (Nat.le_of_ble_eq_true rfl) hlo) (Nat.le_of_ble_eq_true rfl) ?_
  obtain ⟨v6, M5, e_v6, hF⟩ := bd2_spec hF
  refine v_calV1 dX6_showDay_14 vl_X6_513 q2344 rc_ov (ct_T_draws e_v6) rfl rfl (Nat.le_trans (Nat.le_of_ble_eq_true rfl) hfr) (Nat.le_trans (Nat.le_of_ble_eq_true rfl) hlo) (Nat.le_of_ble_eq_true rfl) ?_
  refine v_istore_n dX6_showDay_17 rfl (Nat.le_of_ble_eq_true rfl) (L' := [(2, .int v6), (1, .int v3), (0, .ref m0)]) rfl ?_
  refine v_aload_n dX6_showDay_18 rfl 2 rfl ?_
  refine v_iconst dX6_showDay_19 (v := 4) (by decide) ?_
  obtain ⟨v8, M7, e_v8, hF⟩ := bd2_spec hF
  refine v_calV1 dX6_showDay_20 vl_X6_513 q2344 rc_ov (ct_T_draws e_v8) rfl rfl (Nat.le_trans (Nat.le_of_ble_eq_true rfl) hfr) (Nat.le_trans (Nat.le_of_ble_eq_true rfl) hlo) (Nat.le_of_ble_eq_true rfl) ?_
  refine v_istore_n dX6_showDay_23 rfl (Nat.le_of_ble_eq_true rfl) (L' := [(3, .int v8), (2, .int v6), (1, .int v3), (0, .ref m0)]) rfl ?_
  refine v_iload_n dX6_showDay_24 rfl 0 rfl ?_
  refine v_iconst dX6_showDay_25 (v := 2) (by decide) ?_
  refine v_icmp_ge (tgt := 43) dX6_showDay_26 (by decide) hF (fun hF => ?_) (fun hF => ?_)
  · exact v_sub [3, 2, 1, 0] rfl (w_T_showDay_J43 hfr hlo hF)
  · refine v_aload_n dX6_showDay_29 rfl 3 rfl ?_
    refine v_iload_n dX6_showDay_30 rfl 2 rfl ?_
    obtain ⟨v25, M24, e_v25, hF⟩ := bd2_spec hF
    refine v_calV1 dX6_showDay_31 vl_X6_349 q2109 rc_ov (ct_T_canRead e_v25) rfl rfl (Nat.le_trans (Nat.le_of_ble_eq_true rfl) hfr) (Nat.le_trans (Nat.le_of_ble_eq_true rfl) hlo) (Nat.le_of_ble_eq_true rfl) ?_
    refine v_if_eq (tgt := 43) dX6_showDay_34 (by decide) hF (fun hF => ?_) (fun hF => ?_)
    · exact v_sub [3, 2, 1, 0] rfl (w_T_showDay_J43 hfr hlo hF)
    · refine v_aload_n dX6_showDay_37 rfl 3 rfl ?_
      refine v_iload_n dX6_showDay_38 rfl 2 rfl ?_
      obtain ⟨v27, M26, e_v27, hF⟩ := bd2_spec hF
      refine v_calV1 dX6_showDay_39 vl_X6_355 q2117 rc_ov (ct_T_reading e_v27) rfl rfl (Nat.le_trans (Nat.le_of_ble_eq_true rfl) hfr) (Nat.le_trans (Nat.le_of_ble_eq_true rfl) hlo) (Nat.le_of_ble_eq_true rfl) ?_
      refine v_pop dX6_showDay_42 rfl ?_
      exact v_sub [3, 2, 1, 0] rfl (w_T_showDay_J43 hfr hlo hF)
theorem ct_T_showDay {l : Launch} {G : GT} {m0 : Nat} {hb : Hp} {N : Nat} {r : TM} {M : TM} (hF : T_showDay N M = some r) : Ct l G yX6_showDay (ws_ yX6_showDay cX6_showDay 4 (Option.none : Option Jvm.ClassFile.FieldType)) 121 2918 [.ref m0] (ovT m0 M hb) none (ovT m0 r hb) :=
  ct_of (by decide) (Nat.le_of_ble_eq_true rfl) (w_T_showDay (Nat.le_refl _) (Nat.le_refl _) hF)
theorem pl_X6_99 : PL RX6 99 [6] 53 (.int) false := by
  intro ci h
  simp only [List.mem_cons, List.not_mem_nil, or_false] at h
  subst h; exact ⟨RX6, _, TX6, 56, tyX6, rfl, in_X6, by decide, Or.inl q1687, Or.inl rfl, tyX6_ok, rfl, by decide +kernel, rfl, fun z => by cases z⟩
theorem pl_X6_516 : PL RX6 516 [6] 54 (.int) false := by
  intro ci h
  simp only [List.mem_cons, List.not_mem_nil, or_false] at h
  subst h; exact ⟨RX6, _, TX6, 56, tyX6, rfl, in_X6, by decide, Or.inl q1688, Or.inl rfl, tyX6_ok, rfl, by decide +kernel, rfl, fun z => by cases z⟩
theorem vl_X6_519 : ∀ ci ∈ [6], VL RX6 519 ci yX6_showDay 0 := by
  intro ci h
  simp only [List.mem_cons, List.not_mem_nil, or_false] at h
  subst h; exact ⟨RX6, TX6, 56, rfl, q146, ⟨by decide, by decide⟩, by decide +kernel, q2339, Or.inl ⟨q2337, qs134⟩⟩
theorem fl_X6_96 : FL RX6 96 [6] 52 := by
  intro ci h
  simp only [List.mem_cons, List.not_mem_nil, or_false] at h
  subst h; exact ⟨RX6, _, TX6, 56, rfl, in_X6, by decide, Or.inl q1686, Or.inl rfl⟩
def T_shows_J20 (N : Nat) (M2 : TM) : Option (Int32 × TM) :=
  bd2 (T_refuses (-1 : Int32) M2) fun v4 M3 =>
  some (v4, M3)
theorem w_T_shows_J20 {l : Launch} {G : GT} {fr lo : Nat} {h0 : Hp} {m0 : Nat} {hb : Hp} {N : Nat} {r : (Int32 × TM)} (hfr : 122 ≤ fr) (hlo : 2941 ≤ lo)   {M2 : TM} (hF : T_shows_J20 N M2 = some r) : V l G cX6_shows RX6 "shows" 5 (Option.some Jvm.ClassFile.FieldType.int) fr lo h0 (ovT m0 r.2 hb) (QM G (some (.int r.1)) h0 (ovT m0 r.2 hb)) 20 [(0, .ref m0)] [] (ovT m0 M2 hb) := by
  unfold T_shows_J20 at hF
  refine v_aload_n dX6_shows_20 rfl 0 rfl ?_
  refine v_iconst dX6_shows_21 (v := -1) (by decide) ?_
  obtain ⟨v4, M3, e_v4, hF⟩ := bd2_spec hF
  refine v_calV1 dX6_shows_22 vl_X6_106 q1814 rc_ov (ct_T_refuses e_v4) rfl rfl (Nat.le_trans (Nat.le_of_ble_eq_true rfl) hfr) (Nat.le_trans (Nat.le_of_ble_eq_true rfl) hlo) (Nat.le_of_ble_eq_true rfl) ?_
  cases hF
  exact v_iret dX6_shows_25 rfl rfl rfl rfl
def T_shows_J40 (N : Nat) (M7 : TM) : Option (Int32 × TM) :=
  bd2 (T_refuses (-3 : Int32) M7) fun v9 M8 =>
  some (v9, M8)
theorem w_T_shows_J40 {l : Launch} {G : GT} {fr lo : Nat} {h0 : Hp} {m0 : Nat} {hb : Hp} {N : Nat} {r : (Int32 × TM)} (hfr : 122 ≤ fr) (hlo : 2941 ≤ lo)   {M7 : TM} (hF : T_shows_J40 N M7 = some r) : V l G cX6_shows RX6 "shows" 5 (Option.some Jvm.ClassFile.FieldType.int) fr lo h0 (ovT m0 r.2 hb) (QM G (some (.int r.1)) h0 (ovT m0 r.2 hb)) 40 [(0, .ref m0)] [] (ovT m0 M7 hb) := by
  unfold T_shows_J40 at hF
  refine v_aload_n dX6_shows_40 rfl 0 rfl ?_
  refine v_bipush dX6_shows_41 (v := -3) (by decide) ?_
  obtain ⟨v9, M8, e_v9, hF⟩ := bd2_spec hF
  refine v_calV1 dX6_shows_43 vl_X6_106 q1814 rc_ov (ct_T_refuses e_v9) rfl rfl (Nat.le_trans (Nat.le_of_ble_eq_true rfl) hfr) (Nat.le_trans (Nat.le_of_ble_eq_true rfl) hlo) (Nat.le_of_ble_eq_true rfl) ?_
  cases hF
  exact v_iret dX6_shows_46 rfl rfl rfl rfl
def T_shows_L75 (N : Nat) (x75 : TM → Option (Int32 × TM)) : Nat → Int32 → Int32 → TM → Option (Int32 × TM)
  | 0, _, _, _ => none
  | n23 + 1, v17, v18, M19 =>
    if v17 ≤ v18 then
      x75 M19
    else
      (tra M19 2 5660 (5 : Int32)).bind fun v21 =>
      if (999 : Int32) ≤ v21 then
        x75 M19
      else
        (T_showDay N M19).bind fun M22 =>
        (T_shows_L75 N x75 n23) v17 (v18 + (1 : Int32)) M22
theorem w_T_shows_L75 {l : Launch} {G : GT} {fr lo : Nat} {h0 : Hp} {m0 : Nat} {hb : Hp} {N : Nat} {r : (Int32 × TM)} (hfr : 122 ≤ fr) (hlo : 2941 ≤ lo) {x75 : TM → Option (Int32 × TM)} (hx75 : ∀ (M20 : TM), x75 M20 = some r → V l G cX6_shows RX6 "shows" 5 (Option.some Jvm.ClassFile.FieldType.int) fr lo h0 (ovT m0 r.2 hb) (QM G (some (.int r.1)) h0 (ovT m0 r.2 hb)) 102 [(0, .ref m0)] [] (ovT m0 M20 hb)) : ∀ (n : Nat) (v17 : Int32) (v18 : Int32) (M19 : TM), T_shows_L75 N x75 n v17 v18 M19 = some r → V l G cX6_shows RX6 "shows" 5 (Option.some Jvm.ClassFile.FieldType.int) fr lo h0 (ovT m0 r.2 hb) (QM G (some (.int r.1)) h0 (ovT m0 r.2 hb)) 75 [(0, .ref m0), (2, .int v17), (3, .int v18)] [] (ovT m0 M19 hb) := by
  intro n
  induction n with
  | zero =>
    intro v17 v18 M19 hF
    cases (show (none : Option (Int32 × TM)) = some r from hF)
  | succ n hc75 =>
    intro v17 v18 M19 hF
    rw [T_shows_L75] at hF
    refine v_iload_n dX6_shows_75 rfl 2 rfl ?_
    refine v_iload_n dX6_shows_76 rfl 1 rfl ?_
    refine v_icmp_ge (tgt := 102) dX6_shows_77 (by decide) hF (fun hF => ?_) (fun hF => ?_)
    · exact v_sub [0] rfl (hx75 _ hF)
    · refine v_aload_n dX6_shows_80 rfl 0 rfl ?_
      refine t_geta 2 2 dX6_shows_81 fl_X6_24 (Nat.le_of_ble_eq_true rfl) (fun _ _ => rfl) ?_
      refine v_iconst dX6_shows_84 (v := 5) (by decide) ?_
      refine t_iald 2 dX6_shows_85 rfl (Nat.le_of_ble_eq_true rfl) (by decide) hF (fun v21 hF => ?_)
      refine v_sipush dX6_shows_86 (v := 999) (by decide) ?_
      refine v_icmp_ge (tgt := 102) dX6_shows_89 (by decide) hF (fun hF => ?_) (fun hF => ?_)
      · exact v_sub [0] rfl (hx75 _ hF)
      · refine v_aload_n dX6_shows_92 rfl 0 rfl ?_
        obtain ⟨M22, e_M22, hF⟩ := Option.bind_eq_some_iff.mp hF
        refine v_calV0 dX6_shows_93 vl_X6_519 q2340 rc_ov (ct_T_showDay e_M22) rfl rfl (Nat.le_trans (Nat.le_of_ble_eq_true rfl) hfr) (Nat.le_trans (Nat.le_of_ble_eq_true rfl) hlo) (Nat.le_of_ble_eq_true rfl) ?_
        refine v_iinc dX6_shows_96 2 rfl (v := v18 + (1 : Int32)) (by rfl) (Nat.le_of_ble_eq_true rfl) (L' := [(3, .int (v18 + (1 : Int32))), (0, .ref m0), (2, .int v17)]) rfl ?_
        refine v_goto (tgt := 75) dX6_shows_99 (by decide) ?_
        exact v_sub [1, 2, 0] rfl (hc75 _ _ _ hF)
def T_shows_L110 (N : Nat) (x110 : Int32 → TM → Option (Int32 × TM)) : Nat → Int32 → Int32 → TM → Option (Int32 × TM)
  | 0, _, _, _ => none
  | n34 + 1, v27, v28, M29 =>
    if (6 : Int32) ≤ v28 then
      x110 v27 M29
    else
      (tra M29 2 5660 v28).bind fun v32 =>
      (twa M29 52 6 v28 v32).bind fun M33 =>
      (T_shows_L110 N x110 n34) v27 (v28 + (1 : Int32)) M33
theorem w_T_shows_L110 {l : Launch} {G : GT} {fr lo : Nat} {h0 : Hp} {m0 : Nat} {hb : Hp} {N : Nat} {r : (Int32 × TM)} (hfr : 122 ≤ fr) (hlo : 2941 ≤ lo) {x110 : Int32 → TM → Option (Int32 × TM)} (hx110 : ∀ (v30 : Int32) (M31 : TM), x110 v30 M31 = some r → V l G cX6_shows RX6 "shows" 5 (Option.some Jvm.ClassFile.FieldType.int) fr lo h0 (ovT m0 r.2 hb) (QM G (some (.int r.1)) h0 (ovT m0 r.2 hb)) 137 [(0, .ref m0), (3, .int v30)] [] (ovT m0 M31 hb)) : ∀ (n : Nat) (v27 : Int32) (v28 : Int32) (M29 : TM), T_shows_L110 N x110 n v27 v28 M29 = some r → V l G cX6_shows RX6 "shows" 5 (Option.some Jvm.ClassFile.FieldType.int) fr lo h0 (ovT m0 r.2 hb) (QM G (some (.int r.1)) h0 (ovT m0 r.2 hb)) 110 [(0, .ref m0), (3, .int v27), (4, .int v28)] [] (ovT m0 M29 hb) := by
  intro n
  induction n with
  | zero =>
    intro v27 v28 M29 hF
    cases (show (none : Option (Int32 × TM)) = some r from hF)
  | succ n hc110 =>
    intro v27 v28 M29 hF
    rw [T_shows_L110] at hF
    refine v_iload dX6_shows_110 2 rfl ?_
    refine v_bipush dX6_shows_112 (v := 6) (by decide) ?_
    refine v_icmp_ge (tgt := 137) dX6_shows_114 (by decide) hF (fun hF => ?_) (fun hF => ?_)
    · exact v_sub [0, 1] rfl (hx110 _ _ hF)
    · refine v_aload_n dX6_shows_117 rfl 0 rfl ?_
      refine t_geta 52 23 dX6_shows_118 fl_X6_96 (Nat.le_of_ble_eq_true rfl) (fun _ _ => rfl) ?_
      refine v_iload dX6_shows_121 2 rfl ?_
      refine v_aload_n dX6_shows_123 rfl 0 rfl ?_
      refine t_geta 2 2 dX6_shows_124 fl_X6_24 (Nat.le_of_ble_eq_true rfl) (fun _ _ => rfl) ?_
      refine v_iload dX6_shows_127 2 rfl ?_
      refine t_iald 2 dX6_shows_129 rfl (Nat.le_of_ble_eq_true rfl) (by decide) hF (fun v32 hF => ?_)
      refine t_iast 23 dX6_shows_130 rfl (Nat.le_of_ble_eq_true rfl) (by decide) hF (fun M33 hF => ?_)
      refine v_iinc dX6_shows_131 2 rfl (v := v28 + (1 : Int32)) (by rfl) (Nat.le_of_ble_eq_true rfl) (L' := [(4, .int (v28 + (1 : Int32))), (0, .ref m0), (3, .int v27)]) rfl ?_
      refine v_goto (tgt := 110) dX6_shows_134 (by decide) ?_
      exact v_sub [1, 2, 0] rfl (hc110 _ _ _ hF)
def T_shows_J102 (N : Nat) (M25 : TM) : Option (Int32 × TM) :=
  (T_allHigh N M25).bind fun v26 =>
  T_shows_L110 N (fun v35 M36 =>
    (T_takesBack N (0 : Int32) M36).bind fun M37 =>
    bd2 (T_good v35 M37) fun v39 M38 =>
    some (v39, M38)) N v26 (0 : Int32) M25
theorem w_T_shows_J102 {l : Launch} {G : GT} {fr lo : Nat} {h0 : Hp} {m0 : Nat} {hb : Hp} {N : Nat} {r : (Int32 × TM)} (hfr : 122 ≤ fr) (hlo : 2941 ≤ lo)   {M25 : TM} (hF : T_shows_J102 N M25 = some r) : V l G cX6_shows RX6 "shows" 5 (Option.some Jvm.ClassFile.FieldType.int) fr lo h0 (ovT m0 r.2 hb) (QM G (some (.int r.1)) h0 (ovT m0 r.2 hb)) 102 [(0, .ref m0)] [] (ovT m0 M25 hb) := by
  unfold T_shows_J102 at hF
  refine v_aload_n dX6_shows_102 rfl 0 rfl ?_
  obtain ⟨v26, e_v26, hF⟩ := Option.bind_eq_some_iff.mp hF
  refine v_calV1 dX6_shows_103 vl_X6_313 q1922 rc_ov (ct_T_allHigh e_v26) rfl rfl (Nat.le_trans (Nat.le_of_ble_eq_true rfl) hfr) (Nat.le_trans (Nat.le_of_ble_eq_true rfl) hlo) (Nat.le_of_ble_eq_true rfl) ?_
  refine v_istore_n dX6_shows_106 rfl (Nat.le_of_ble_eq_true rfl) (L' := [(3, .int v26), (0, .ref m0)]) rfl ?_
  refine v_iconst dX6_shows_107 (v := 0) (by decide) ?_
  refine v_istore dX6_shows_108 (Nat.le_of_ble_eq_true rfl) (L' := [(4, .int (0 : Int32)), (3, .int v26), (0, .ref m0)]) rfl ?_
  refine v_sub [2, 1, 0] rfl (w_T_shows_L110 hfr hlo ?_ N _ _ _ hF)
  intro v35 M36 hF
  refine v_aload_n dX6_shows_137 rfl 0 rfl ?_
  refine v_iconst dX6_shows_138 (v := 0) (by decide) ?_
  obtain ⟨M37, e_M37, hF⟩ := Option.bind_eq_some_iff.mp hF
  refine v_calV0 dX6_shows_139 vl_X6_473 q2332 rc_ov (ct_T_takesBack e_M37) rfl rfl (Nat.le_trans (Nat.le_of_ble_eq_true rfl) hfr) (Nat.le_trans (Nat.le_of_ble_eq_true rfl) hlo) (Nat.le_of_ble_eq_true rfl) ?_
  refine v_aload_n dX6_shows_142 rfl 0 rfl ?_
  refine v_iload_n dX6_shows_143 rfl 1 rfl ?_
  obtain ⟨v39, M38, e_v39, hF⟩ := bd2_spec hF
  refine v_calV1 dX6_shows_144 vl_X6_14 q1818 rc_ov (ct_T_good e_v39) rfl rfl (Nat.le_trans (Nat.le_of_ble_eq_true rfl) hfr) (Nat.le_trans (Nat.le_of_ble_eq_true rfl) hlo) (Nat.le_of_ble_eq_true rfl) ?_
  cases hF
  exact v_iret dX6_shows_147 rfl rfl rfl rfl
def T_shows (N : Nat) (a1 : Int32) (a2 : Int32) (M : TM) : Option (Int32 × TM) :=
  (T_lies a1 (0 : Int32) (1000000 : Int32)).bind fun v1 =>
  if v1 = 0 then
    T_shows_J20 N M
  else
    (T_lies a2 (1 : Int32) (60 : Int32)).bind fun v5 =>
    if v5 = 0 then
      T_shows_J20 N M
    else
      (T_bookMany M).bind fun v6 =>
      if v6 = 0 then
        T_shows_J40 N M
      else
        (T_leekMany M).bind fun v10 =>
        if v10 = 0 then
          T_shows_J40 N M
        else
          (some (tsi M 55 a1)).bind fun (M11 : TM) =>
          (T_bookMany M11).bind fun v12 =>
          (some (tsi M11 53 v12)).bind fun (M13 : TM) =>
          (T_leekMany M13).bind fun v14 =>
          (some (tsi M13 54 v14)).bind fun (M15 : TM) =>
          (T_laysAside N (0 : Int32) M15).bind fun M16 =>
          T_shows_L75 N (fun M24 =>
            T_shows_J102 N M24) N a2 (0 : Int32) M16
theorem w_T_shows {l : Launch} {G : GT} {fr lo : Nat} {h0 : Hp} {m0 : Nat} {hb : Hp} {N : Nat} {r : (Int32 × TM)} (hfr : 122 ≤ fr) (hlo : 2941 ≤ lo) {a1 : Int32} {a2 : Int32} {M : TM} (hF : T_shows N a1 a2 M = some r) : V l G cX6_shows RX6 "shows" 5 (Option.some Jvm.ClassFile.FieldType.int) fr lo h0 (ovT m0 r.2 hb) (QM G (some (.int r.1)) h0 (ovT m0 r.2 hb)) 0 [(0, .ref m0), (1, .int a1), (2, .int a2)] [] (ovT m0 M hb) := by
  unfold T_shows at hF
  refine v_iload_n dX6_shows_0 rfl 1 rfl ?_
  refine v_iconst dX6_shows_1 (v := 0) (by decide) ?_
  refine v_ldc dX6_shows_2 q2017 ?_
  obtain ⟨v1, e_v1, hF⟩ := Option.bind_eq_some_iff.mp hF
  refine v_calS1 dX6_shows_4 sl_X6_102 q1810 (ct_T_lies e_v1) rfl rfl (Nat.le_trans (Nat.le_of_ble_eq_true rfl) hfr) (Nat.le_trans (Nat.le_of_ble_eq_true rfl) hlo) (Nat.le_of_ble_eq_true rfl) ?_
  refine v_if_eq (tgt := 20) dX6_shows_7 (by decide) hF (fun hF => ?_) (fun hF => ?_)
  · exact v_sub [0] rfl (w_T_shows_J20 hfr hlo hF)
  · refine v_iload_n dX6_shows_10 rfl 2 rfl ?_
    refine v_iconst dX6_shows_11 (v := 1) (by decide) ?_
    refine v_bipush dX6_shows_12 (v := 60) (by decide) ?_
    obtain ⟨v5, e_v5, hF⟩ := Option.bind_eq_some_iff.mp hF
    refine v_calS1 dX6_shows_14 sl_X6_102 q1810 (ct_T_lies e_v5) rfl rfl (Nat.le_trans (Nat.le_of_ble_eq_true rfl) hfr) (Nat.le_trans (Nat.le_of_ble_eq_true rfl) hlo) (Nat.le_of_ble_eq_true rfl) ?_
    refine v_if_ne (tgt := 26) dX6_shows_17 (by decide) hF (fun hF => ?_) (fun hF => ?_)
    · refine v_aload_n dX6_shows_26 rfl 0 rfl ?_
      obtain ⟨v6, e_v6, hF⟩ := Option.bind_eq_some_iff.mp hF
      refine v_calV1 dX6_shows_27 vl_X6_112 q1837 rc_ov (ct_T_bookMany e_v6) rfl rfl (Nat.le_trans (Nat.le_of_ble_eq_true rfl) hfr) (Nat.le_trans (Nat.le_of_ble_eq_true rfl) hlo) (Nat.le_of_ble_eq_true rfl) ?_
      refine v_if_eq (tgt := 40) dX6_shows_30 (by decide) hF (fun hF => ?_) (fun hF => ?_)
      · exact v_sub [0] rfl (w_T_shows_J40 hfr hlo hF)
      · refine v_aload_n dX6_shows_33 rfl 0 rfl ?_
        obtain ⟨v10, e_v10, hF⟩ := Option.bind_eq_some_iff.mp hF
        refine v_calV1 dX6_shows_34 vl_X6_116 q1918 rc_ov (ct_T_leekMany e_v10) rfl rfl (Nat.le_trans (Nat.le_of_ble_eq_true rfl) hfr) (Nat.le_trans (Nat.le_of_ble_eq_true rfl) hlo) (Nat.le_of_ble_eq_true rfl) ?_
        refine v_if_ne (tgt := 47) dX6_shows_37 (by decide) hF (fun hF => ?_) (fun hF => ?_)
        · refine v_aload_n dX6_shows_47 rfl 0 rfl ?_
          refine v_iload_n dX6_shows_48 rfl 1 rfl ?_
          refine t_puti 55 dX6_shows_49 pl_X6_506 rfl ?_
          refine v_letM hF (fun M11 hF => ?_)
          refine v_aload_n dX6_shows_52 rfl 0 rfl ?_
          refine v_aload_n dX6_shows_53 rfl 0 rfl ?_
          obtain ⟨v12, e_v12, hF⟩ := Option.bind_eq_some_iff.mp hF
          refine v_calV1 dX6_shows_54 vl_X6_112 q1837 rc_ov (ct_T_bookMany e_v12) rfl rfl (Nat.le_trans (Nat.le_of_ble_eq_true rfl) hfr) (Nat.le_trans (Nat.le_of_ble_eq_true rfl) hlo) (Nat.le_of_ble_eq_true rfl) ?_
          refine t_puti 53 dX6_shows_57 pl_X6_99 rfl ?_
          refine v_letM hF (fun M13 hF => ?_)
          refine v_aload_n dX6_shows_60 rfl 0 rfl ?_
          refine v_aload_n dX6_shows_61 rfl 0 rfl ?_
          obtain ⟨v14, e_v14, hF⟩ := Option.bind_eq_some_iff.mp hF
          refine v_calV1 dX6_shows_62 vl_X6_116 q1918 rc_ov (ct_T_leekMany e_v14) rfl rfl (Nat.le_trans (Nat.le_of_ble_eq_true rfl) hfr) (Nat.le_trans (Nat.le_of_ble_eq_true rfl) hlo) (Nat.le_of_ble_eq_true rfl) ?_
          refine t_puti 54 dX6_shows_65 pl_X6_516 rfl ?_
          refine v_letM hF (fun M15 hF => ?_)
          refine v_aload_n dX6_shows_68 rfl 0 rfl ?_
          refine v_iconst dX6_shows_69 (v := 0) (by decide) ?_
          obtain ⟨M16, e_M16, hF⟩ := Option.bind_eq_some_iff.mp hF
          refine v_calV0 dX6_shows_70 vl_X6_464 q2312 rc_ov (ct_T_laysAside e_M16) rfl rfl (Nat.le_trans (Nat.le_of_ble_eq_true rfl) hfr) (Nat.le_trans (Nat.le_of_ble_eq_true rfl) hlo) (Nat.le_of_ble_eq_true rfl) ?_
          refine v_iconst dX6_shows_73 (v := 0) (by decide) ?_
          refine v_istore_n dX6_shows_74 rfl (Nat.le_of_ble_eq_true rfl) (L' := [(3, .int (0 : Int32)), (0, .ref m0), (1, .int a1), (2, .int a2)]) rfl ?_
          refine v_sub [1, 3, 0] rfl (w_T_shows_L75 hfr hlo ?_ N _ _ _ hF)
          intro M24 hF
          exact v_sub [0] rfl (w_T_shows_J102 hfr hlo hF)
        · exact v_sub [0] rfl (w_T_shows_J40 hfr hlo hF)
    · exact v_sub [0] rfl (w_T_shows_J20 hfr hlo hF)
theorem ct_T_shows {l : Launch} {G : GT} {m0 : Nat} {hb : Hp} {N : Nat} {r : (Int32 × TM)} {a1 : Int32} {a2 : Int32} {M : TM} (hF : T_shows N a1 a2 M = some r) : Ct l G yX6_shows (ws_ yX6_shows cX6_shows 5 (Option.some Jvm.ClassFile.FieldType.int)) 122 2941 [.ref m0, .int a1, .int a2] (ovT m0 M hb) (some (.int r.1)) (ovT m0 r.2 hb) :=
  ct_of (by decide) (Nat.le_of_ble_eq_true rfl) (w_T_shows (Nat.le_refl _) (Nat.le_refl _) hF)
theorem fl_X6_99 : FL RX6 99 [6] 53 := by
  intro ci h
  simp only [List.mem_cons, List.not_mem_nil, or_false] at h
  subst h; exact ⟨RX6, _, TX6, 56, rfl, in_X6, by decide, Or.inl q1687, Or.inl rfl⟩
theorem fl_X6_516 : FL RX6 516 [6] 54 := by
  intro ci h
  simp only [List.mem_cons, List.not_mem_nil, or_false] at h
  subst h; exact ⟨RX6, _, TX6, 56, rfl, in_X6, by decide, Or.inl q1688, Or.inl rfl⟩
def T_drawn_J34 (M : TM) (v2 : Int32) (v3 : Int32) (v4 : Int32) (v5 : Int32) (v6 : Int32) : Option Int32 :=
  (T_lies v6 v5 (v4 - (1 : Int32))).bind fun v7 =>
  if v7 = 0 then
    some (-1 : Int32)
  else
    if v3 = 0 then
      (tra M 52 6 (0 : Int32)).bind fun v9 =>
      some ((v9 >>> (v2 &&& 31)) &&& (1 : Int32))
    else
      (tra M 52 6 ((1 : Int32) + v2)).bind fun v8 =>
      some v8
theorem w_T_drawn_J34 {l : Launch} {G : GT} {fr lo : Nat} {h0 : Hp} {m0 : Nat} {hb : Hp} {M : TM} {r : Int32} (hfr : 1 ≤ fr) (hlo : 22 ≤ lo)   {v2 : Int32} {v3 : Int32} {v4 : Int32} {v5 : Int32} {v6 : Int32} (hF : T_drawn_J34 M v2 v3 v4 v5 v6 = some r) : V l G cX6_drawn RX6 "drawn" 3 (Option.some Jvm.ClassFile.FieldType.int) fr lo h0 (ovT m0 M hb) (QM G (some (.int r)) h0 (ovT m0 M hb)) 34 [(0, .ref m0), (1, .int v2), (2, .int v3)] [.int v4, .int v5, .int v6] (ovT m0 M hb) := by
  unfold T_drawn_J34 at hF
  refine v_iconst dX6_drawn_34 (v := 1) (by decide) ?_
  refine v_isub dX6_drawn_35 ?_
  obtain ⟨v7, e_v7, hF⟩ := Option.bind_eq_some_iff.mp hF
  refine v_calS1 dX6_drawn_36 sl_X6_102 q1810 (ct_T_lies e_v7) rfl rfl (Nat.le_trans (Nat.le_of_ble_eq_true rfl) hfr) (Nat.le_trans (Nat.le_of_ble_eq_true rfl) hlo) (Nat.le_of_ble_eq_true rfl) ?_
  refine v_if_ne (tgt := 44) dX6_drawn_39 (by decide) hF (fun hF => ?_) (fun hF => ?_)
  · refine v_iload_n dX6_drawn_44 rfl 2 rfl ?_
    refine v_if_ne (tgt := 61) dX6_drawn_45 (by decide) hF (fun hF => ?_) (fun hF => ?_)
    · refine v_aload_n dX6_drawn_61 rfl 0 rfl ?_
      refine t_geta 52 23 dX6_drawn_62 fl_X6_96 (Nat.le_of_ble_eq_true rfl) (fun _ _ => rfl) ?_
      refine v_iconst dX6_drawn_65 (v := 1) (by decide) ?_
      refine v_iload_n dX6_drawn_66 rfl 1 rfl ?_
      refine v_iadd dX6_drawn_67 ?_
      refine t_iald 23 dX6_drawn_68 rfl (Nat.le_of_ble_eq_true rfl) (by decide) hF (fun v8 hF => ?_)
      cases hF
      exact v_iret dX6_drawn_69 rfl rfl rfl rfl
    · refine v_aload_n dX6_drawn_48 rfl 0 rfl ?_
      refine t_geta 52 23 dX6_drawn_49 fl_X6_96 (Nat.le_of_ble_eq_true rfl) (fun _ _ => rfl) ?_
      refine v_iconst dX6_drawn_52 (v := 0) (by decide) ?_
      refine t_iald 23 dX6_drawn_53 rfl (Nat.le_of_ble_eq_true rfl) (by decide) hF (fun v9 hF => ?_)
      refine v_iload_n dX6_drawn_54 rfl 1 rfl ?_
      refine v_ishr dX6_drawn_55 ?_
      refine v_iconst dX6_drawn_56 (v := 1) (by decide) ?_
      refine v_iand dX6_drawn_57 ?_
      refine v_goto (tgt := 69) dX6_drawn_58 (by decide) ?_
      cases hF
      exact v_iret dX6_drawn_69 rfl rfl rfl rfl
  · refine v_iconst dX6_drawn_42 (v := -1) (by decide) ?_
    cases hF
    exact v_iret dX6_drawn_43 rfl rfl rfl rfl
def T_drawn (M : TM) (a1 : Int32) (a2 : Int32) : Option Int32 :=
  if (M.1 53) = (-1 : Int32) then
    some (-1 : Int32)
  else
    (T_lies a2 (0 : Int32) (1 : Int32)).bind fun v1 =>
    if v1 = 0 then
      some (-1 : Int32)
    else
      if a2 = 0 then
        T_drawn_J34 M a1 a2 (M.1 53) (0 : Int32) a1
      else
        T_drawn_J34 M a1 a2 (M.1 54) (0 : Int32) a1
theorem w_T_drawn {l : Launch} {G : GT} {fr lo : Nat} {h0 : Hp} {m0 : Nat} {hb : Hp} {M : TM} {r : Int32} (hfr : 1 ≤ fr) (hlo : 22 ≤ lo) {a1 : Int32} {a2 : Int32} (hF : T_drawn M a1 a2 = some r) : V l G cX6_drawn RX6 "drawn" 3 (Option.some Jvm.ClassFile.FieldType.int) fr lo h0 (ovT m0 M hb) (QM G (some (.int r)) h0 (ovT m0 M hb)) 0 [(0, .ref m0), (1, .int a1), (2, .int a2)] [] (ovT m0 M hb) := by
  unfold T_drawn at hF
  refine v_aload_n dX6_drawn_0 rfl 0 rfl ?_
  refine t_geti 53 dX6_drawn_1 fl_X6_99 rfl ?_
  refine v_iconst dX6_drawn_4 (v := -1) (by decide) ?_
  refine v_icmp_eq (tgt := 42) dX6_drawn_5 (by decide) hF (fun hF => ?_) (fun hF => ?_)
  · refine v_iconst dX6_drawn_42 (v := -1) (by decide) ?_
    cases hF
    exact v_iret dX6_drawn_43 rfl rfl rfl rfl
  · refine v_iload_n dX6_drawn_8 rfl 2 rfl ?_
    refine v_iconst dX6_drawn_9 (v := 0) (by decide) ?_
    refine v_iconst dX6_drawn_10 (v := 1) (by decide) ?_
    obtain ⟨v1, e_v1, hF⟩ := Option.bind_eq_some_iff.mp hF
    refine v_calS1 dX6_drawn_11 sl_X6_102 q1810 (ct_T_lies e_v1) rfl rfl (Nat.le_trans (Nat.le_of_ble_eq_true rfl) hfr) (Nat.le_trans (Nat.le_of_ble_eq_true rfl) hlo) (Nat.le_of_ble_eq_true rfl) ?_
    refine v_if_eq (tgt := 42) dX6_drawn_14 (by decide) hF (fun hF => ?_) (fun hF => ?_)
    · refine v_iconst dX6_drawn_42 (v := -1) (by decide) ?_
      cases hF
      exact v_iret dX6_drawn_43 rfl rfl rfl rfl
    · refine v_iload_n dX6_drawn_17 rfl 1 rfl ?_
      refine v_iconst dX6_drawn_18 (v := 0) (by decide) ?_
      refine v_iload_n dX6_drawn_19 rfl 2 rfl ?_
      refine v_if_ne (tgt := 30) dX6_drawn_20 (by decide) hF (fun hF => ?_) (fun hF => ?_)
      · refine v_aload_n dX6_drawn_30 rfl 0 rfl ?_
        refine t_geti 54 dX6_drawn_31 fl_X6_516 rfl ?_
        exact v_sub [0, 1, 2] rfl (w_T_drawn_J34 hfr hlo hF)
      · refine v_aload_n dX6_drawn_23 rfl 0 rfl ?_
        refine t_geti 53 dX6_drawn_24 fl_X6_99 rfl ?_
        refine v_goto (tgt := 34) dX6_drawn_27 (by decide) ?_
        exact v_sub [0, 1, 2] rfl (w_T_drawn_J34 hfr hlo hF)
theorem ct_T_drawn {l : Launch} {G : GT} {m0 : Nat} {hb : Hp} {M : TM} {r : Int32} {a1 : Int32} {a2 : Int32} (hF : T_drawn M a1 a2 = some r) : Ct l G yX6_drawn (ws_ yX6_drawn cX6_drawn 3 (Option.some Jvm.ClassFile.FieldType.int)) 1 22 [.ref m0, .int a1, .int a2] (ovT m0 M hb) (some (.int r)) (ovT m0 M hb) :=
  ct_of (by decide) (Nat.le_of_ble_eq_true rfl) (w_T_drawn (Nat.le_refl _) (Nat.le_refl _) hF)
def T_count (N : Nat) (M : TM) (a1 : Int32) : Option Int32 :=
  if a1.toInt < 0 ∨ 15 < a1.toInt then
    some (-1 : Int32)
  else
  if a1.toInt = 0 then
    (T_bookMany M).bind fun v1 =>
    some v1
  else
  if a1.toInt = 1 then
    (T_leekMany M).bind fun v2 =>
    some v2
  else
  if a1.toInt = 2 then
    (tra M 2 5660 (0 : Int32)).bind fun v3 =>
    (T_ones N v3).bind fun v4 =>
    some v4
  else
  if a1.toInt = 3 then
    (tra M 2 5660 (50 : Int32)).bind fun v5 =>
    some v5
  else
  if a1.toInt = 4 then
    (tra M 2 5660 (51 : Int32)).bind fun v6 =>
    some v6
  else
  if a1.toInt = 5 then
    some (M.1 32)
  else
  if a1.toInt = 6 then
    some (M.1 13)
  else
  if a1.toInt = 7 then
    (tra M 1 7 (a1 - (6 : Int32))).bind fun v7 =>
    some v7
  else
  if a1.toInt = 8 then
    (tra M 1 7 (a1 - (6 : Int32))).bind fun v8 =>
    some v8
  else
  if a1.toInt = 9 then
    (tra M 1 7 (a1 - (6 : Int32))).bind fun v9 =>
    some v9
  else
  if a1.toInt = 10 then
    (tra M 1 7 (5 : Int32)).bind fun v10 =>
    some v10
  else
  if a1.toInt = 11 then
    (tra M 1 7 (6 : Int32)).bind fun v11 =>
    some v11
  else
  if a1.toInt = 12 then
    (tra M 2 5660 (52 : Int32)).bind fun v12 =>
    some v12
  else
  if a1.toInt = 13 then
    (T_termAt (a1 - (13 : Int32))).bind fun v13 =>
    (tra M 2 5660 v13).bind fun v14 =>
    some v14
  else
  if a1.toInt = 14 then
    (T_termAt (a1 - (13 : Int32))).bind fun v15 =>
    (tra M 2 5660 v15).bind fun v16 =>
    some v16
  else
    (T_termAt (a1 - (13 : Int32))).bind fun v17 =>
    (tra M 2 5660 v17).bind fun v18 =>
    some v18
theorem w_T_count {l : Launch} {G : GT} {fr lo : Nat} {h0 : Hp} {m0 : Nat} {hb : Hp} {N : Nat} {M : TM} {r : Int32} (hfr : 1 ≤ fr) (hlo : 22 ≤ lo) {a1 : Int32} (hF : T_count N M a1 = some r) : V l G cX6_count RX6 "count" 2 (Option.some Jvm.ClassFile.FieldType.int) fr lo h0 (ovT m0 M hb) (QM G (some (.int r)) h0 (ovT m0 M hb)) 0 [(0, .ref m0), (1, .int a1)] [] (ovT m0 M hb) := by
  unfold T_count at hF
  refine v_iload_n dX6_count_0 rfl 1 rfl ?_
  refine v_swOut (td := 172) dX6_count_1 (by decide) hF (fun hF => ?_) (fun hs1 hs2 hF => ?_)
  · refine v_iconst dX6_count_172 (v := -1) (by decide) ?_
    cases hF
    exact v_iret dX6_count_173 rfl rfl rfl rfl
  · refine v_case (i := 0) hF (fun hc hF => ?_) (fun hc0 hF => ?_)
    · refine v_swIn (i := 0) (off := 79) (tgt := 80) dX6_count_1 hc (by decide) (by decide) rfl (by decide) ?_
      refine v_aload_n dX6_count_80 rfl 0 rfl ?_
      obtain ⟨v1, e_v1, hF⟩ := Option.bind_eq_some_iff.mp hF
      refine v_calV1 dX6_count_81 vl_X6_112 q1837 rc_ov (ct_T_bookMany e_v1) rfl rfl (Nat.le_trans (Nat.le_of_ble_eq_true rfl) hfr) (Nat.le_trans (Nat.le_of_ble_eq_true rfl) hlo) (Nat.le_of_ble_eq_true rfl) ?_
      cases hF
      exact v_iret dX6_count_84 rfl rfl rfl rfl
    refine v_case (i := 1) hF (fun hc hF => ?_) (fun hc1 hF => ?_)
    · refine v_swIn (i := 1) (off := 84) (tgt := 85) dX6_count_1 hc (by decide) (by decide) rfl (by decide) ?_
      refine v_aload_n dX6_count_85 rfl 0 rfl ?_
      obtain ⟨v2, e_v2, hF⟩ := Option.bind_eq_some_iff.mp hF
      refine v_calV1 dX6_count_86 vl_X6_116 q1918 rc_ov (ct_T_leekMany e_v2) rfl rfl (Nat.le_trans (Nat.le_of_ble_eq_true rfl) hfr) (Nat.le_trans (Nat.le_of_ble_eq_true rfl) hlo) (Nat.le_of_ble_eq_true rfl) ?_
      cases hF
      exact v_iret dX6_count_89 rfl rfl rfl rfl
    refine v_case (i := 2) hF (fun hc hF => ?_) (fun hc2 hF => ?_)
    · refine v_swIn (i := 2) (off := 89) (tgt := 90) dX6_count_1 hc (by decide) (by decide) rfl (by decide) ?_
      refine v_aload_n dX6_count_90 rfl 0 rfl ?_
      refine t_geta 2 2 dX6_count_91 fl_X6_24 (Nat.le_of_ble_eq_true rfl) (fun _ _ => rfl) ?_
      refine v_iconst dX6_count_94 (v := 0) (by decide) ?_
      refine t_iald 2 dX6_count_95 rfl (Nat.le_of_ble_eq_true rfl) (by decide) hF (fun v3 hF => ?_)
      obtain ⟨v4, e_v4, hF⟩ := Option.bind_eq_some_iff.mp hF
      refine v_calS1 dX6_count_96 sl_X6_304 q1871 (ct_T_ones e_v4) rfl rfl (Nat.le_trans (Nat.le_of_ble_eq_true rfl) hfr) (Nat.le_trans (Nat.le_of_ble_eq_true rfl) hlo) (Nat.le_of_ble_eq_true rfl) ?_
      cases hF
      exact v_iret dX6_count_99 rfl rfl rfl rfl
    refine v_case (i := 3) hF (fun hc hF => ?_) (fun hc3 hF => ?_)
    · refine v_swIn (i := 3) (off := 99) (tgt := 100) dX6_count_1 hc (by decide) (by decide) rfl (by decide) ?_
      refine v_aload_n dX6_count_100 rfl 0 rfl ?_
      refine t_geta 2 2 dX6_count_101 fl_X6_24 (Nat.le_of_ble_eq_true rfl) (fun _ _ => rfl) ?_
      refine v_bipush dX6_count_104 (v := 50) (by decide) ?_
      refine t_iald 2 dX6_count_106 rfl (Nat.le_of_ble_eq_true rfl) (by decide) hF (fun v5 hF => ?_)
      cases hF
      exact v_iret dX6_count_107 rfl rfl rfl rfl
    refine v_case (i := 4) hF (fun hc hF => ?_) (fun hc4 hF => ?_)
    · refine v_swIn (i := 4) (off := 107) (tgt := 108) dX6_count_1 hc (by decide) (by decide) rfl (by decide) ?_
      refine v_aload_n dX6_count_108 rfl 0 rfl ?_
      refine t_geta 2 2 dX6_count_109 fl_X6_24 (Nat.le_of_ble_eq_true rfl) (fun _ _ => rfl) ?_
      refine v_bipush dX6_count_112 (v := 51) (by decide) ?_
      refine t_iald 2 dX6_count_114 rfl (Nat.le_of_ble_eq_true rfl) (by decide) hF (fun v6 hF => ?_)
      cases hF
      exact v_iret dX6_count_115 rfl rfl rfl rfl
    refine v_case (i := 5) hF (fun hc hF => ?_) (fun hc5 hF => ?_)
    · refine v_swIn (i := 5) (off := 115) (tgt := 116) dX6_count_1 hc (by decide) (by decide) rfl (by decide) ?_
      refine v_aload_n dX6_count_116 rfl 0 rfl ?_
      refine t_geti 32 dX6_count_117 fl_X6_11 rfl ?_
      cases hF
      exact v_iret dX6_count_120 rfl rfl rfl rfl
    refine v_case (i := 6) hF (fun hc hF => ?_) (fun hc6 hF => ?_)
    · refine v_swIn (i := 6) (off := 120) (tgt := 121) dX6_count_1 hc (by decide) (by decide) rfl (by decide) ?_
      refine v_aload_n dX6_count_121 rfl 0 rfl ?_
      refine t_geti 13 dX6_count_122 fl_X6_159 rfl ?_
      cases hF
      exact v_iret dX6_count_125 rfl rfl rfl rfl
    refine v_case (i := 7) hF (fun hc hF => ?_) (fun hc7 hF => ?_)
    · refine v_swIn (i := 7) (off := 125) (tgt := 126) dX6_count_1 hc (by decide) (by decide) rfl (by decide) ?_
      refine v_aload_n dX6_count_126 rfl 0 rfl ?_
      refine t_geta 1 1 dX6_count_127 fl_X6_7 (Nat.le_of_ble_eq_true rfl) (fun _ _ => rfl) ?_
      refine v_iload_n dX6_count_130 rfl 1 rfl ?_
      refine v_bipush dX6_count_131 (v := 6) (by decide) ?_
      refine v_isub dX6_count_133 ?_
      refine t_iald 1 dX6_count_134 rfl (Nat.le_of_ble_eq_true rfl) (by decide) hF (fun v7 hF => ?_)
      cases hF
      exact v_iret dX6_count_135 rfl rfl rfl rfl
    refine v_case (i := 8) hF (fun hc hF => ?_) (fun hc8 hF => ?_)
    · refine v_swIn (i := 8) (off := 125) (tgt := 126) dX6_count_1 hc (by decide) (by decide) rfl (by decide) ?_
      refine v_aload_n dX6_count_126 rfl 0 rfl ?_
      refine t_geta 1 1 dX6_count_127 fl_X6_7 (Nat.le_of_ble_eq_true rfl) (fun _ _ => rfl) ?_
      refine v_iload_n dX6_count_130 rfl 1 rfl ?_
      refine v_bipush dX6_count_131 (v := 6) (by decide) ?_
      refine v_isub dX6_count_133 ?_
      refine t_iald 1 dX6_count_134 rfl (Nat.le_of_ble_eq_true rfl) (by decide) hF (fun v8 hF => ?_)
      cases hF
      exact v_iret dX6_count_135 rfl rfl rfl rfl
    refine v_case (i := 9) hF (fun hc hF => ?_) (fun hc9 hF => ?_)
    · refine v_swIn (i := 9) (off := 125) (tgt := 126) dX6_count_1 hc (by decide) (by decide) rfl (by decide) ?_
      refine v_aload_n dX6_count_126 rfl 0 rfl ?_
      refine t_geta 1 1 dX6_count_127 fl_X6_7 (Nat.le_of_ble_eq_true rfl) (fun _ _ => rfl) ?_
      refine v_iload_n dX6_count_130 rfl 1 rfl ?_
      refine v_bipush dX6_count_131 (v := 6) (by decide) ?_
      refine v_isub dX6_count_133 ?_
      refine t_iald 1 dX6_count_134 rfl (Nat.le_of_ble_eq_true rfl) (by decide) hF (fun v9 hF => ?_)
      cases hF
      exact v_iret dX6_count_135 rfl rfl rfl rfl
    refine v_case (i := 10) hF (fun hc hF => ?_) (fun hc10 hF => ?_)
    · refine v_swIn (i := 10) (off := 135) (tgt := 136) dX6_count_1 hc (by decide) (by decide) rfl (by decide) ?_
      refine v_aload_n dX6_count_136 rfl 0 rfl ?_
      refine t_geta 1 1 dX6_count_137 fl_X6_7 (Nat.le_of_ble_eq_true rfl) (fun _ _ => rfl) ?_
      refine v_iconst dX6_count_140 (v := 5) (by decide) ?_
      refine t_iald 1 dX6_count_141 rfl (Nat.le_of_ble_eq_true rfl) (by decide) hF (fun v10 hF => ?_)
      cases hF
      exact v_iret dX6_count_142 rfl rfl rfl rfl
    refine v_case (i := 11) hF (fun hc hF => ?_) (fun hc11 hF => ?_)
    · refine v_swIn (i := 11) (off := 142) (tgt := 143) dX6_count_1 hc (by decide) (by decide) rfl (by decide) ?_
      refine v_aload_n dX6_count_143 rfl 0 rfl ?_
      refine t_geta 1 1 dX6_count_144 fl_X6_7 (Nat.le_of_ble_eq_true rfl) (fun _ _ => rfl) ?_
      refine v_bipush dX6_count_147 (v := 6) (by decide) ?_
      refine t_iald 1 dX6_count_149 rfl (Nat.le_of_ble_eq_true rfl) (by decide) hF (fun v11 hF => ?_)
      cases hF
      exact v_iret dX6_count_150 rfl rfl rfl rfl
    refine v_case (i := 12) hF (fun hc hF => ?_) (fun hc12 hF => ?_)
    · refine v_swIn (i := 12) (off := 150) (tgt := 151) dX6_count_1 hc (by decide) (by decide) rfl (by decide) ?_
      refine v_aload_n dX6_count_151 rfl 0 rfl ?_
      refine t_geta 2 2 dX6_count_152 fl_X6_24 (Nat.le_of_ble_eq_true rfl) (fun _ _ => rfl) ?_
      refine v_bipush dX6_count_155 (v := 52) (by decide) ?_
      refine t_iald 2 dX6_count_157 rfl (Nat.le_of_ble_eq_true rfl) (by decide) hF (fun v12 hF => ?_)
      cases hF
      exact v_iret dX6_count_158 rfl rfl rfl rfl
    refine v_case (i := 13) hF (fun hc hF => ?_) (fun hc13 hF => ?_)
    · refine v_swIn (i := 13) (off := 158) (tgt := 159) dX6_count_1 hc (by decide) (by decide) rfl (by decide) ?_
      refine v_aload_n dX6_count_159 rfl 0 rfl ?_
      refine t_geta 2 2 dX6_count_160 fl_X6_24 (Nat.le_of_ble_eq_true rfl) (fun _ _ => rfl) ?_
      refine v_iload_n dX6_count_163 rfl 1 rfl ?_
      refine v_bipush dX6_count_164 (v := 13) (by decide) ?_
      refine v_isub dX6_count_166 ?_
      obtain ⟨v13, e_v13, hF⟩ := Option.bind_eq_some_iff.mp hF
      refine v_calS1 dX6_count_167 sl_X6_156 q1974 (ct_T_termAt e_v13) rfl rfl (Nat.le_trans (Nat.le_of_ble_eq_true rfl) hfr) (Nat.le_trans (Nat.le_of_ble_eq_true rfl) hlo) (Nat.le_of_ble_eq_true rfl) ?_
      refine t_iald 2 dX6_count_170 rfl (Nat.le_of_ble_eq_true rfl) (by decide) hF (fun v14 hF => ?_)
      cases hF
      exact v_iret dX6_count_171 rfl rfl rfl rfl
    refine v_case (i := 14) hF (fun hc hF => ?_) (fun hc14 hF => ?_)
    · refine v_swIn (i := 14) (off := 158) (tgt := 159) dX6_count_1 hc (by decide) (by decide) rfl (by decide) ?_
      refine v_aload_n dX6_count_159 rfl 0 rfl ?_
      refine t_geta 2 2 dX6_count_160 fl_X6_24 (Nat.le_of_ble_eq_true rfl) (fun _ _ => rfl) ?_
      refine v_iload_n dX6_count_163 rfl 1 rfl ?_
      refine v_bipush dX6_count_164 (v := 13) (by decide) ?_
      refine v_isub dX6_count_166 ?_
      obtain ⟨v15, e_v15, hF⟩ := Option.bind_eq_some_iff.mp hF
      refine v_calS1 dX6_count_167 sl_X6_156 q1974 (ct_T_termAt e_v15) rfl rfl (Nat.le_trans (Nat.le_of_ble_eq_true rfl) hfr) (Nat.le_trans (Nat.le_of_ble_eq_true rfl) hlo) (Nat.le_of_ble_eq_true rfl) ?_
      refine t_iald 2 dX6_count_170 rfl (Nat.le_of_ble_eq_true rfl) (by decide) hF (fun v16 hF => ?_)
      cases hF
      exact v_iret dX6_count_171 rfl rfl rfl rfl
    refine v_swIn (i := 15) (off := 158) (tgt := 159) dX6_count_1 (by omega) (by decide) (by decide) rfl (by decide) ?_
    refine v_aload_n dX6_count_159 rfl 0 rfl ?_
    refine t_geta 2 2 dX6_count_160 fl_X6_24 (Nat.le_of_ble_eq_true rfl) (fun _ _ => rfl) ?_
    refine v_iload_n dX6_count_163 rfl 1 rfl ?_
    refine v_bipush dX6_count_164 (v := 13) (by decide) ?_
    refine v_isub dX6_count_166 ?_
    obtain ⟨v17, e_v17, hF⟩ := Option.bind_eq_some_iff.mp hF
    refine v_calS1 dX6_count_167 sl_X6_156 q1974 (ct_T_termAt e_v17) rfl rfl (Nat.le_trans (Nat.le_of_ble_eq_true rfl) hfr) (Nat.le_trans (Nat.le_of_ble_eq_true rfl) hlo) (Nat.le_of_ble_eq_true rfl) ?_
    refine t_iald 2 dX6_count_170 rfl (Nat.le_of_ble_eq_true rfl) (by decide) hF (fun v18 hF => ?_)
    cases hF
    exact v_iret dX6_count_171 rfl rfl rfl rfl
theorem ct_T_count {l : Launch} {G : GT} {m0 : Nat} {hb : Hp} {N : Nat} {M : TM} {r : Int32} {a1 : Int32} (hF : T_count N M a1 = some r) : Ct l G yX6_count (ws_ yX6_count cX6_count 2 (Option.some Jvm.ClassFile.FieldType.int)) 1 22 [.ref m0, .int a1] (ovT m0 M hb) (some (.int r)) (ovT m0 M hb) :=
  ct_of (by decide) (Nat.le_of_ble_eq_true rfl) (w_T_count (Nat.le_refl _) (Nat.le_refl _) hF)
theorem fl_X6_3 : FL RX6 3 [6] 0 := by
  intro ci h
  simp only [List.mem_cons, List.not_mem_nil, or_false] at h
  subst h; exact ⟨RX6, _, TX6, 56, rfl, in_X6, by decide, Or.inl q1634, Or.inl rfl⟩
def T_status (M : TM) : Option Int32 :=
  some (M.1 0)
theorem w_T_status {l : Launch} {G : GT} {fr lo : Nat} {h0 : Hp} {m0 : Nat} {hb : Hp} {M : TM} {r : Int32} (hfr : 0 ≤ fr) (hlo : 0 ≤ lo)  (hF : T_status M = some r) : V l G cX6_status RX6 "status" 1 (Option.some Jvm.ClassFile.FieldType.int) fr lo h0 (ovT m0 M hb) (QM G (some (.int r)) h0 (ovT m0 M hb)) 0 [(0, .ref m0)] [] (ovT m0 M hb) := by
  unfold T_status at hF
  refine v_aload_n dX6_status_0 rfl 0 rfl ?_
  refine t_geti 0 dX6_status_1 fl_X6_3 rfl ?_
  cases hF
  exact v_iret dX6_status_4 rfl rfl rfl rfl
theorem ct_T_status {l : Launch} {G : GT} {m0 : Nat} {hb : Hp} {M : TM} {r : Int32}  (hF : T_status M = some r) : Ct l G yX6_status (ws_ yX6_status cX6_status 1 (Option.some Jvm.ClassFile.FieldType.int)) 0 0 [.ref m0] (ovT m0 M hb) (some (.int r)) (ovT m0 M hb) :=
  ct_of (by decide) (Nat.le_of_ble_eq_true rfl) (w_T_status (Nat.le_refl _) (Nat.le_refl _) hF)
