/-! printed by tools/gen.py -/
set_option maxRecDepth 100000
set_option linter.unusedVariables false
theorem vl_X6_137 : ∀ ci ∈ [6], VL RX6 137 ci yX6_isOpen 2 := by
  intro ci h
  simp only [List.mem_cons, List.not_mem_nil, or_false] at h
  subst h; exact ⟨RX6, TX6, 56, rfl, q146, ⟨by decide, by decide⟩, by decide +kernel, q1863, Or.inl ⟨q1861, qs57⟩⟩
theorem vl_X6_140 : ∀ ci ∈ [6], VL RX6 140 ci yX6_isBarred 1 := by
  intro ci h
  simp only [List.mem_cons, List.not_mem_nil, or_false] at h
  subst h; exact ⟨RX6, TX6, 56, rfl, q146, ⟨by decide, by decide⟩, by decide +kernel, q1867, Or.inl ⟨q1865, qs58⟩⟩
def T_of (N : Nat) (a1 : Int32) (a2 : Int32) (M : TM) : Option (Int32 × TM) :=
  (T_isBook M a1).bind fun v1 =>
  if v1 = 0 then
    some ((-1 : Int32), M)
  else
    if a2.toInt < 0 ∨ 5 < a2.toInt then
      some ((-1 : Int32), M)
    else
    if a2.toInt = 0 then
      (tra M 2 5660 ((6 : Int32) + a1)).bind fun v2 =>
      some (v2, M)
    else
    if a2.toInt = 1 then
      (tra M 2 5660 ((14 : Int32) + a1)).bind fun v3 =>
      some (v3, M)
    else
    if a2.toInt = 2 then
      (tra M 2 5660 ((22 : Int32) + a1)).bind fun v4 =>
      some (v4, M)
    else
    if a2.toInt = 3 then
      (T_isRead M a1).bind fun v5 =>
      some ((if v5 = 0 then (0 : Int32) else (1 : Int32)), M)
    else
    if a2.toInt = 4 then
      (tra M 2 5660 (0 : Int32)).bind fun v6 =>
      (T_isOpen M v6 a1).bind fun v7 =>
      some ((if v7 = 0 then (0 : Int32) else (1 : Int32)), M)
    else
      bd2 (T_isBarred N a1 M) fun v9 M8 =>
      some ((if v9 = 0 then (0 : Int32) else (1 : Int32)), M8)
theorem w_T_of {l : Launch} {G : GT} {fr lo : Nat} {h0 : Hp} {m0 : Nat} {hb : Hp} {N : Nat} {r : (Int32 × TM)} (hfr : 120 ≤ fr) (hlo : 2892 ≤ lo) {a1 : Int32} {a2 : Int32} {M : TM} (hF : T_of N a1 a2 M = some r) : V l G cX6_of RX6 "of" 3 (Option.some Jvm.ClassFile.FieldType.int) fr lo h0 (ovT m0 r.2 hb) (QM G (some (.int r.1)) h0 (ovT m0 r.2 hb)) 0 [(0, .ref m0), (1, .int a1), (2, .int a2)] [] (ovT m0 M hb) := by
  unfold T_of at hF
  refine v_aload_n dX6_of_0 rfl 0 rfl ?_
  refine v_iload_n dX6_of_1 rfl 1 rfl ?_
  obtain ⟨v1, e_v1, hF⟩ := Option.bind_eq_some_iff.mp hF
  refine v_calV1 dX6_of_2 vl_X6_130 q1849 rc_ov (ct_T_isBook e_v1) rfl rfl (Nat.le_trans (Nat.le_of_ble_eq_true rfl) hfr) (Nat.le_trans (Nat.le_of_ble_eq_true rfl) hlo) (Nat.le_of_ble_eq_true rfl) ?_
  refine v_if_ne (tgt := 10) dX6_of_5 (by decide) hF (fun hF => ?_) (fun hF => ?_)
  · refine v_iload_n dX6_of_10 rfl 2 rfl ?_
    refine v_swOut (td := 126) dX6_of_11 (by decide) hF (fun hF => ?_) (fun hs1 hs2 hF => ?_)
    · refine v_iconst dX6_of_126 (v := -1) (by decide) ?_
      cases hF
      exact v_iret dX6_of_127 rfl rfl rfl rfl
    · refine v_case (i := 0) hF (fun hc hF => ?_) (fun hc0 hF => ?_)
      · refine v_swIn (i := 0) (off := 37) (tgt := 48) dX6_of_11 hc (by decide) (by decide) rfl (by decide) ?_
        refine v_aload_n dX6_of_48 rfl 0 rfl ?_
        refine t_geta 2 2 dX6_of_49 fl_X6_24 (Nat.le_of_ble_eq_true rfl) (fun _ _ => rfl) ?_
        refine v_bipush dX6_of_52 (v := 6) (by decide) ?_
        refine v_iload_n dX6_of_54 rfl 1 rfl ?_
        refine v_iadd dX6_of_55 ?_
        refine t_iald 2 dX6_of_56 rfl (Nat.le_of_ble_eq_true rfl) (by decide) hF (fun v2 hF => ?_)
        cases hF
        exact v_iret dX6_of_57 rfl rfl rfl rfl
      refine v_case (i := 1) hF (fun hc hF => ?_) (fun hc1 hF => ?_)
      · refine v_swIn (i := 1) (off := 47) (tgt := 58) dX6_of_11 hc (by decide) (by decide) rfl (by decide) ?_
        refine v_aload_n dX6_of_58 rfl 0 rfl ?_
        refine t_geta 2 2 dX6_of_59 fl_X6_24 (Nat.le_of_ble_eq_true rfl) (fun _ _ => rfl) ?_
        refine v_bipush dX6_of_62 (v := 14) (by decide) ?_
        refine v_iload_n dX6_of_64 rfl 1 rfl ?_
        refine v_iadd dX6_of_65 ?_
        refine t_iald 2 dX6_of_66 rfl (Nat.le_of_ble_eq_true rfl) (by decide) hF (fun v3 hF => ?_)
        cases hF
        exact v_iret dX6_of_67 rfl rfl rfl rfl
      refine v_case (i := 2) hF (fun hc hF => ?_) (fun hc2 hF => ?_)
      · refine v_swIn (i := 2) (off := 57) (tgt := 68) dX6_of_11 hc (by decide) (by decide) rfl (by decide) ?_
        refine v_aload_n dX6_of_68 rfl 0 rfl ?_
        refine t_geta 2 2 dX6_of_69 fl_X6_24 (Nat.le_of_ble_eq_true rfl) (fun _ _ => rfl) ?_
        refine v_bipush dX6_of_72 (v := 22) (by decide) ?_
        refine v_iload_n dX6_of_74 rfl 1 rfl ?_
        refine v_iadd dX6_of_75 ?_
        refine t_iald 2 dX6_of_76 rfl (Nat.le_of_ble_eq_true rfl) (by decide) hF (fun v4 hF => ?_)
        cases hF
        exact v_iret dX6_of_77 rfl rfl rfl rfl
      refine v_case (i := 3) hF (fun hc hF => ?_) (fun hc3 hF => ?_)
      · refine v_swIn (i := 3) (off := 67) (tgt := 78) dX6_of_11 hc (by decide) (by decide) rfl (by decide) ?_
        refine v_aload_n dX6_of_78 rfl 0 rfl ?_
        refine v_iload_n dX6_of_79 rfl 1 rfl ?_
        obtain ⟨v5, e_v5, hF⟩ := Option.bind_eq_some_iff.mp hF
        refine v_calV1 dX6_of_80 vl_X6_134 q1857 rc_ov (ct_T_isRead e_v5) rfl rfl (Nat.le_trans (Nat.le_of_ble_eq_true rfl) hfr) (Nat.le_trans (Nat.le_of_ble_eq_true rfl) hlo) (Nat.le_of_ble_eq_true rfl) ?_
        refine v_tern (c := v5 = 0) (x := (0 : Int32)) (y := (1 : Int32)) (pcj := 91) (st := []) ?_ (fun kt kf => v_if_eq0 (tgt := 90) dX6_of_83 (by decide) kt kf) (fun K => ?_) (fun K => ?_)
        · cases hF
          exact v_iret dX6_of_91 rfl rfl rfl rfl
        · refine v_iconst dX6_of_90 (v := 0) (by decide) ?_
          exact K
        · refine v_iconst dX6_of_86 (v := 1) (by decide) ?_
          refine v_goto (tgt := 91) dX6_of_87 (by decide) ?_
          exact K
      refine v_case (i := 4) hF (fun hc hF => ?_) (fun hc4 hF => ?_)
      · refine v_swIn (i := 4) (off := 81) (tgt := 92) dX6_of_11 hc (by decide) (by decide) rfl (by decide) ?_
        refine v_aload_n dX6_of_92 rfl 0 rfl ?_
        refine v_aload_n dX6_of_93 rfl 0 rfl ?_
        refine t_geta 2 2 dX6_of_94 fl_X6_24 (Nat.le_of_ble_eq_true rfl) (fun _ _ => rfl) ?_
        refine v_iconst dX6_of_97 (v := 0) (by decide) ?_
        refine t_iald 2 dX6_of_98 rfl (Nat.le_of_ble_eq_true rfl) (by decide) hF (fun v6 hF => ?_)
        refine v_iload_n dX6_of_99 rfl 1 rfl ?_
        obtain ⟨v7, e_v7, hF⟩ := Option.bind_eq_some_iff.mp hF
        refine v_calV1 dX6_of_100 vl_X6_137 q1864 rc_ov (ct_T_isOpen e_v7) rfl rfl (Nat.le_trans (Nat.le_of_ble_eq_true rfl) hfr) (Nat.le_trans (Nat.le_of_ble_eq_true rfl) hlo) (Nat.le_of_ble_eq_true rfl) ?_
        refine v_tern (c := v7 = 0) (x := (0 : Int32)) (y := (1 : Int32)) (pcj := 111) (st := []) ?_ (fun kt kf => v_if_eq0 (tgt := 110) dX6_of_103 (by decide) kt kf) (fun K => ?_) (fun K => ?_)
        · cases hF
          exact v_iret dX6_of_111 rfl rfl rfl rfl
        · refine v_iconst dX6_of_110 (v := 0) (by decide) ?_
          exact K
        · refine v_iconst dX6_of_106 (v := 1) (by decide) ?_
          refine v_goto (tgt := 111) dX6_of_107 (by decide) ?_
          exact K
      refine v_swIn (i := 5) (off := 101) (tgt := 112) dX6_of_11 (by omega) (by decide) (by decide) rfl (by decide) ?_
      refine v_aload_n dX6_of_112 rfl 0 rfl ?_
      refine v_iload_n dX6_of_113 rfl 1 rfl ?_
      obtain ⟨v9, M8, e_v9, hF⟩ := bd2_spec hF
      refine v_calV1 dX6_of_114 vl_X6_140 q1868 rc_ov (ct_T_isBarred e_v9) rfl rfl (Nat.le_trans (Nat.le_of_ble_eq_true rfl) hfr) (Nat.le_trans (Nat.le_of_ble_eq_true rfl) hlo) (Nat.le_of_ble_eq_true rfl) ?_
      refine v_tern (c := v9 = 0) (x := (0 : Int32)) (y := (1 : Int32)) (pcj := 125) (st := []) ?_ (fun kt kf => v_if_eq0 (tgt := 124) dX6_of_117 (by decide) kt kf) (fun K => ?_) (fun K => ?_)
      · cases hF
        exact v_iret dX6_of_125 rfl rfl rfl rfl
      · refine v_iconst dX6_of_124 (v := 0) (by decide) ?_
        exact K
      · refine v_iconst dX6_of_120 (v := 1) (by decide) ?_
        refine v_goto (tgt := 125) dX6_of_121 (by decide) ?_
        exact K
  · refine v_iconst dX6_of_8 (v := -1) (by decide) ?_
    cases hF
    exact v_iret dX6_of_9 rfl rfl rfl rfl
theorem ct_T_of {l : Launch} {G : GT} {m0 : Nat} {hb : Hp} {N : Nat} {r : (Int32 × TM)} {a1 : Int32} {a2 : Int32} {M : TM} (hF : T_of N a1 a2 M = some r) : Ct l G yX6_of (ws_ yX6_of cX6_of 3 (Option.some Jvm.ClassFile.FieldType.int)) 120 2892 [.ref m0, .int a1, .int a2] (ovT m0 M hb) (some (.int r.1)) (ovT m0 r.2 hb) :=
  ct_of (by decide) (Nat.le_of_ble_eq_true rfl) (w_T_of (Nat.le_refl _) (Nat.le_refl _) hF)
def T_leek (a1 : Int32) (M : TM) : Option (Int32 × TM) :=
  (T_lies a1 (0 : Int32) (3 : Int32)).bind fun v1 =>
  if v1 = 0 then
    bd2 (T_refuses (-1 : Int32) M) fun v12 M11 =>
    some (v12, M11)
  else
    (T_leekMany M).bind fun v2 =>
    if v2 = (4 : Int32) then
      bd2 (T_refuses (-5 : Int32) M) fun v10 M9 =>
      some (v10, M9)
    else
      (twa M 2 5660 ((30 : Int32) + v2) a1).bind fun M3 =>
      (twa M3 2 5660 ((1 : Int32) + v2) (0 : Int32)).bind fun M4 =>
      (tra M4 2 5660 (49 : Int32)).bind fun v5 =>
      (twa M4 2 5660 (49 : Int32) (v5 + (1 : Int32))).bind fun M6 =>
      bd2 (T_settled v2 M6) fun v8 M7 =>
      some (v8, M7)
theorem w_T_leek {l : Launch} {G : GT} {fr lo : Nat} {h0 : Hp} {m0 : Nat} {hb : Hp} {r : (Int32 × TM)} (hfr : 2 ≤ fr) (hlo : 42 ≤ lo) {a1 : Int32} {M : TM} (hF : T_leek a1 M = some r) : V l G cX6_leek RX6 "leek" 3 (Option.some Jvm.ClassFile.FieldType.int) fr lo h0 (ovT m0 r.2 hb) (QM G (some (.int r.1)) h0 (ovT m0 r.2 hb)) 0 [(0, .ref m0), (1, .int a1)] [] (ovT m0 M hb) := by
  unfold T_leek at hF
  refine v_iload_n dX6_leek_0 rfl 1 rfl ?_
  refine v_iconst dX6_leek_1 (v := 0) (by decide) ?_
  refine v_iconst dX6_leek_2 (v := 3) (by decide) ?_
  obtain ⟨v1, e_v1, hF⟩ := Option.bind_eq_some_iff.mp hF
  refine v_calS1 dX6_leek_3 sl_X6_102 q1810 (ct_T_lies e_v1) rfl rfl (Nat.le_trans (Nat.le_of_ble_eq_true rfl) hfr) (Nat.le_trans (Nat.le_of_ble_eq_true rfl) hlo) (Nat.le_of_ble_eq_true rfl) ?_
  refine v_if_ne (tgt := 15) dX6_leek_6 (by decide) hF (fun hF => ?_) (fun hF => ?_)
  · refine v_aload_n dX6_leek_15 rfl 0 rfl ?_
    obtain ⟨v2, e_v2, hF⟩ := Option.bind_eq_some_iff.mp hF
    refine v_calV1 dX6_leek_16 vl_X6_116 q1918 rc_ov (ct_T_leekMany e_v2) rfl rfl (Nat.le_trans (Nat.le_of_ble_eq_true rfl) hfr) (Nat.le_trans (Nat.le_of_ble_eq_true rfl) hlo) (Nat.le_of_ble_eq_true rfl) ?_
    refine v_istore_n dX6_leek_19 rfl (Nat.le_of_ble_eq_true rfl) (L' := [(2, .int v2), (0, .ref m0), (1, .int a1)]) rfl ?_
    refine v_iload_n dX6_leek_20 rfl 0 rfl ?_
    refine v_iconst dX6_leek_21 (v := 4) (by decide) ?_
    refine v_icmp_ne (tgt := 32) dX6_leek_22 (by decide) hF (fun hF => ?_) (fun hF => ?_)
    · refine v_aload_n dX6_leek_32 rfl 1 rfl ?_
      refine t_geta 2 2 dX6_leek_33 fl_X6_24 (Nat.le_of_ble_eq_true rfl) (fun _ _ => rfl) ?_
      refine v_bipush dX6_leek_36 (v := 30) (by decide) ?_
      refine v_iload_n dX6_leek_38 rfl 0 rfl ?_
      refine v_iadd dX6_leek_39 ?_
      refine v_iload_n dX6_leek_40 rfl 2 rfl ?_
      refine t_iast 2 dX6_leek_41 rfl (Nat.le_of_ble_eq_true rfl) (by decide) hF (fun M3 hF => ?_)
      refine v_aload_n dX6_leek_42 rfl 1 rfl ?_
      refine t_geta 2 2 dX6_leek_43 fl_X6_24 (Nat.le_of_ble_eq_true rfl) (fun _ _ => rfl) ?_
      refine v_iconst dX6_leek_46 (v := 1) (by decide) ?_
      refine v_iload_n dX6_leek_47 rfl 0 rfl ?_
      refine v_iadd dX6_leek_48 ?_
      refine v_iconst dX6_leek_49 (v := 0) (by decide) ?_
      refine t_iast 2 dX6_leek_50 rfl (Nat.le_of_ble_eq_true rfl) (by decide) hF (fun M4 hF => ?_)
      refine v_aload_n dX6_leek_51 rfl 1 rfl ?_
      refine t_geta 2 2 dX6_leek_52 fl_X6_24 (Nat.le_of_ble_eq_true rfl) (fun _ _ => rfl) ?_
      refine v_bipush dX6_leek_55 (v := 49) (by decide) ?_
      refine v_dup2 dX6_leek_57 rfl rfl ?_
      refine t_iald 2 dX6_leek_58 rfl (Nat.le_of_ble_eq_true rfl) (by decide) hF (fun v5 hF => ?_)
      refine v_iconst dX6_leek_59 (v := 1) (by decide) ?_
      refine v_iadd dX6_leek_60 ?_
      refine t_iast 2 dX6_leek_61 rfl (Nat.le_of_ble_eq_true rfl) (by decide) hF (fun M6 hF => ?_)
      refine v_aload_n dX6_leek_62 rfl 1 rfl ?_
      refine v_iload_n dX6_leek_63 rfl 0 rfl ?_
      obtain ⟨v8, M7, e_v8, hF⟩ := bd2_spec hF
      refine v_calV1 dX6_leek_64 vl_X6_109 q1826 rc_ov (ct_T_settled e_v8) rfl rfl (Nat.le_trans (Nat.le_of_ble_eq_true rfl) hfr) (Nat.le_trans (Nat.le_of_ble_eq_true rfl) hlo) (Nat.le_of_ble_eq_true rfl) ?_
      cases hF
      exact v_iret dX6_leek_67 rfl rfl rfl rfl
    · refine v_aload_n dX6_leek_25 rfl 1 rfl ?_
      refine v_bipush dX6_leek_26 (v := -5) (by decide) ?_
      obtain ⟨v10, M9, e_v10, hF⟩ := bd2_spec hF
      refine v_calV1 dX6_leek_28 vl_X6_106 q1814 rc_ov (ct_T_refuses e_v10) rfl rfl (Nat.le_trans (Nat.le_of_ble_eq_true rfl) hfr) (Nat.le_trans (Nat.le_of_ble_eq_true rfl) hlo) (Nat.le_of_ble_eq_true rfl) ?_
      cases hF
      exact v_iret dX6_leek_31 rfl rfl rfl rfl
  · refine v_aload_n dX6_leek_9 rfl 0 rfl ?_
    refine v_iconst dX6_leek_10 (v := -1) (by decide) ?_
    obtain ⟨v12, M11, e_v12, hF⟩ := bd2_spec hF
    refine v_calV1 dX6_leek_11 vl_X6_106 q1814 rc_ov (ct_T_refuses e_v12) rfl rfl (Nat.le_trans (Nat.le_of_ble_eq_true rfl) hfr) (Nat.le_trans (Nat.le_of_ble_eq_true rfl) hlo) (Nat.le_of_ble_eq_true rfl) ?_
    cases hF
    exact v_iret dX6_leek_14 rfl rfl rfl rfl
theorem ct_T_leek {l : Launch} {G : GT} {m0 : Nat} {hb : Hp} {r : (Int32 × TM)} {a1 : Int32} {M : TM} (hF : T_leek a1 M = some r) : Ct l G yX6_leek (ws_ yX6_leek cX6_leek 3 (Option.some Jvm.ClassFile.FieldType.int)) 2 42 [.ref m0, .int a1] (ovT m0 M hb) (some (.int r.1)) (ovT m0 r.2 hb) :=
  ct_of (by decide) (Nat.le_of_ble_eq_true rfl) (w_T_leek (Nat.le_refl _) (Nat.le_refl _) hF)
def T_growsBy (N : Nat) (a1 : Int32) (a2 : Int32) (a3 : Int32) (a4 : Int32) (a5 : Int32) (M : TM) : Option (Int32 × TM) :=
  (T_setsAsked a1 a2 a3 a4 a5 M).bind fun M1 =>
  (tra M1 2 5660 ((6 : Int32) + a2)).bind fun v2 =>
  bd2 (T_tells N (1 : Int32) (99 : Int32) v2 M1) fun v4 M3 =>
  some (v4, M3)
theorem w_T_growsBy {l : Launch} {G : GT} {fr lo : Nat} {h0 : Hp} {m0 : Nat} {hb : Hp} {N : Nat} {r : (Int32 × TM)} (hfr : 118 ≤ fr) (hlo : 2848 ≤ lo) {a1 : Int32} {a2 : Int32} {a3 : Int32} {a4 : Int32} {a5 : Int32} {M : TM} (hF : T_growsBy N a1 a2 a3 a4 a5 M = some r) : V l G cX6_growsBy RX6 "growsBy" 6 (Option.some Jvm.ClassFile.FieldType.int) fr lo h0 (ovT m0 r.2 hb) (QM G (some (.int r.1)) h0 (ovT m0 r.2 hb)) 0 [(0, .ref m0), (1, .int a1), (2, .int a2), (3, .int a3), (4, .int a4), (5, .int a5)] [] (ovT m0 M hb) := by
  unfold T_growsBy at hF
  refine v_aload_n dX6_growsBy_0 rfl 0 rfl ?_
  refine v_iload_n dX6_growsBy_1 rfl 1 rfl ?_
  refine v_iload_n dX6_growsBy_2 rfl 2 rfl ?_
  refine v_iload_n dX6_growsBy_3 rfl 3 rfl ?_
  refine v_iload dX6_growsBy_4 4 rfl ?_
  refine v_iload dX6_growsBy_6 5 rfl ?_
  obtain ⟨M1, e_M1, hF⟩ := Option.bind_eq_some_iff.mp hF
  refine v_calV0 dX6_growsBy_8 vl_X6_328 q1879 rc_ov (ct_T_setsAsked e_M1) rfl rfl (Nat.le_trans (Nat.le_of_ble_eq_true rfl) hfr) (Nat.le_trans (Nat.le_of_ble_eq_true rfl) hlo) (Nat.le_of_ble_eq_true rfl) ?_
  refine v_aload_n dX6_growsBy_11 rfl 0 rfl ?_
  refine v_iconst dX6_growsBy_12 (v := 1) (by decide) ?_
  refine v_bipush dX6_growsBy_13 (v := 99) (by decide) ?_
  refine v_aload_n dX6_growsBy_15 rfl 0 rfl ?_
  refine t_geta 2 2 dX6_growsBy_16 fl_X6_24 (Nat.le_of_ble_eq_true rfl) (fun _ _ => rfl) ?_
  refine v_bipush dX6_growsBy_19 (v := 6) (by decide) ?_
  refine v_iload_n dX6_growsBy_21 rfl 2 rfl ?_
  refine v_iadd dX6_growsBy_22 ?_
  refine t_iald 2 dX6_growsBy_23 rfl (Nat.le_of_ble_eq_true rfl) (by decide) hF (fun v2 hF => ?_)
  obtain ⟨v4, M3, e_v4, hF⟩ := bd2_spec hF
  refine v_calV1 dX6_growsBy_24 vl_X6_332 q1883 rc_ov (ct_T_tells e_v4) rfl rfl (Nat.le_trans (Nat.le_of_ble_eq_true rfl) hfr) (Nat.le_trans (Nat.le_of_ble_eq_true rfl) hlo) (Nat.le_of_ble_eq_true rfl) ?_
  cases hF
  exact v_iret dX6_growsBy_27 rfl rfl rfl rfl
theorem ct_T_growsBy {l : Launch} {G : GT} {m0 : Nat} {hb : Hp} {N : Nat} {r : (Int32 × TM)} {a1 : Int32} {a2 : Int32} {a3 : Int32} {a4 : Int32} {a5 : Int32} {M : TM} (hF : T_growsBy N a1 a2 a3 a4 a5 M = some r) : Ct l G yX6_growsBy (ws_ yX6_growsBy cX6_growsBy 6 (Option.some Jvm.ClassFile.FieldType.int)) 118 2848 [.ref m0, .int a1, .int a2, .int a3, .int a4, .int a5] (ovT m0 M hb) (some (.int r.1)) (ovT m0 r.2 hb) :=
  ct_of (by decide) (Nat.le_of_ble_eq_true rfl) (w_T_growsBy (Nat.le_refl _) (Nat.le_refl _) hF)
theorem vl_X6_336 : ∀ ci ∈ [6], VL RX6 336 ci yX6_growsBy 5 := by
  intro ci h
  simp only [List.mem_cons, List.not_mem_nil, or_false] at h
  subst h; exact ⟨RX6, TX6, 56, rfl, q146, ⟨by decide, by decide⟩, by decide +kernel, q1959, Or.inl ⟨q1957, qs77⟩⟩
def T_growsNow (N : Nat) (a1 : Int32) (a2 : Int32) (M : TM) : Option (Int32 × TM) :=
  (tra M 2 5660 ((1 : Int32) + a1)).bind fun v1 =>
  (tra M 2 5660 (0 : Int32)).bind fun v2 =>
  (T_ones N v2).bind fun v3 =>
  (tra M 2 5660 (5 : Int32)).bind fun v4 =>
  bd2 (T_growsBy N a1 a2 v1 v3 v4 M) fun v6 M5 =>
  some (v6, M5)
theorem w_T_growsNow {l : Launch} {G : GT} {fr lo : Nat} {h0 : Hp} {m0 : Nat} {hb : Hp} {N : Nat} {r : (Int32 × TM)} (hfr : 119 ≤ fr) (hlo : 2873 ≤ lo) {a1 : Int32} {a2 : Int32} {M : TM} (hF : T_growsNow N a1 a2 M = some r) : V l G cX6_growsNow RX6 "growsNow" 3 (Option.some Jvm.ClassFile.FieldType.int) fr lo h0 (ovT m0 r.2 hb) (QM G (some (.int r.1)) h0 (ovT m0 r.2 hb)) 0 [(0, .ref m0), (1, .int a1), (2, .int a2)] [] (ovT m0 M hb) := by
  unfold T_growsNow at hF
  refine v_aload_n dX6_growsNow_0 rfl 0 rfl ?_
  refine v_iload_n dX6_growsNow_1 rfl 1 rfl ?_
  refine v_iload_n dX6_growsNow_2 rfl 2 rfl ?_
  refine v_aload_n dX6_growsNow_3 rfl 0 rfl ?_
  refine t_geta 2 2 dX6_growsNow_4 fl_X6_24 (Nat.le_of_ble_eq_true rfl) (fun _ _ => rfl) ?_
  refine v_iconst dX6_growsNow_7 (v := 1) (by decide) ?_
  refine v_iload_n dX6_growsNow_8 rfl 1 rfl ?_
  refine v_iadd dX6_growsNow_9 ?_
  refine t_iald 2 dX6_growsNow_10 rfl (Nat.le_of_ble_eq_true rfl) (by decide) hF (fun v1 hF => ?_)
  refine v_aload_n dX6_growsNow_11 rfl 0 rfl ?_
  refine t_geta 2 2 dX6_growsNow_12 fl_X6_24 (Nat.le_of_ble_eq_true rfl) (fun _ _ => rfl) ?_
  refine v_iconst dX6_growsNow_15 (v := 0) (by decide) ?_
  refine t_iald 2 dX6_growsNow_16 rfl (Nat.le_of_ble_eq_true rfl) (by decide) hF (fun v2 hF => ?_)
  obtain ⟨v3, e_v3, hF⟩ := Option.bind_eq_some_iff.mp hF
  refine v_calS1 dX6_growsNow_17 sl_X6_304 q1871 (ct_T_ones e_v3) rfl rfl (Nat.le_trans (Nat.le_of_ble_eq_true rfl) hfr) (Nat.le_trans (Nat.le_of_ble_eq_true rfl) hlo) (Nat.le_of_ble_eq_true rfl) ?_
  refine v_aload_n dX6_growsNow_20 rfl 0 rfl ?_
  refine t_geta 2 2 dX6_growsNow_21 fl_X6_24 (Nat.le_of_ble_eq_true rfl) (fun _ _ => rfl) ?_
  refine v_iconst dX6_growsNow_24 (v := 5) (by decide) ?_
  refine t_iald 2 dX6_growsNow_25 rfl (Nat.le_of_ble_eq_true rfl) (by decide) hF (fun v4 hF => ?_)
  obtain ⟨v6, M5, e_v6, hF⟩ := bd2_spec hF
  refine v_calV1 dX6_growsNow_26 vl_X6_336 q1960 rc_ov (ct_T_growsBy e_v6) rfl rfl (Nat.le_trans (Nat.le_of_ble_eq_true rfl) hfr) (Nat.le_trans (Nat.le_of_ble_eq_true rfl) hlo) (Nat.le_of_ble_eq_true rfl) ?_
  cases hF
  exact v_iret dX6_growsNow_29 rfl rfl rfl rfl
theorem ct_T_growsNow {l : Launch} {G : GT} {m0 : Nat} {hb : Hp} {N : Nat} {r : (Int32 × TM)} {a1 : Int32} {a2 : Int32} {M : TM} (hF : T_growsNow N a1 a2 M = some r) : Ct l G yX6_growsNow (ws_ yX6_growsNow cX6_growsNow 3 (Option.some Jvm.ClassFile.FieldType.int)) 119 2873 [.ref m0, .int a1, .int a2] (ovT m0 M hb) (some (.int r.1)) (ovT m0 r.2 hb) :=
  ct_of (by decide) (Nat.le_of_ble_eq_true rfl) (w_T_growsNow (Nat.le_refl _) (Nat.le_refl _) hF)
def T_wiltsNow (N : Nat) (a1 : Int32) (M : TM) : Option (Int32 × TM) :=
  (tra M 2 5660 ((1 : Int32) + a1)).bind fun v1 =>
  (tra M 2 5660 (0 : Int32)).bind fun v2 =>
  (T_ones N v2).bind fun v3 =>
  (tra M 2 5660 (5 : Int32)).bind fun v4 =>
  (T_setsAsked a1 (-1 : Int32) v1 v3 v4 M).bind fun M5 =>
  bd2 (T_tells N (2 : Int32) (9 : Int32) (0 : Int32) M5) fun v7 M6 =>
  some (v7, M6)
theorem w_T_wiltsNow {l : Launch} {G : GT} {fr lo : Nat} {h0 : Hp} {m0 : Nat} {hb : Hp} {N : Nat} {r : (Int32 × TM)} (hfr : 118 ≤ fr) (hlo : 2848 ≤ lo) {a1 : Int32} {M : TM} (hF : T_wiltsNow N a1 M = some r) : V l G cX6_wiltsNow RX6 "wiltsNow" 2 (Option.some Jvm.ClassFile.FieldType.int) fr lo h0 (ovT m0 r.2 hb) (QM G (some (.int r.1)) h0 (ovT m0 r.2 hb)) 0 [(0, .ref m0), (1, .int a1)] [] (ovT m0 M hb) := by
  unfold T_wiltsNow at hF
  refine v_aload_n dX6_wiltsNow_0 rfl 0 rfl ?_
  refine v_iload_n dX6_wiltsNow_1 rfl 1 rfl ?_
  refine v_iconst dX6_wiltsNow_2 (v := -1) (by decide) ?_
  refine v_aload_n dX6_wiltsNow_3 rfl 0 rfl ?_
  refine t_geta 2 2 dX6_wiltsNow_4 fl_X6_24 (Nat.le_of_ble_eq_true rfl) (fun _ _ => rfl) ?_
  refine v_iconst dX6_wiltsNow_7 (v := 1) (by decide) ?_
  refine v_iload_n dX6_wiltsNow_8 rfl 1 rfl ?_
  refine v_iadd dX6_wiltsNow_9 ?_
  refine t_iald 2 dX6_wiltsNow_10 rfl (Nat.le_of_ble_eq_true rfl) (by decide) hF (fun v1 hF => ?_)
  refine v_aload_n dX6_wiltsNow_11 rfl 0 rfl ?_
  refine t_geta 2 2 dX6_wiltsNow_12 fl_X6_24 (Nat.le_of_ble_eq_true rfl) (fun _ _ => rfl) ?_
  refine v_iconst dX6_wiltsNow_15 (v := 0) (by decide) ?_
  refine t_iald 2 dX6_wiltsNow_16 rfl (Nat.le_of_ble_eq_true rfl) (by decide) hF (fun v2 hF => ?_)
  obtain ⟨v3, e_v3, hF⟩ := Option.bind_eq_some_iff.mp hF
  refine v_calS1 dX6_wiltsNow_17 sl_X6_304 q1871 (ct_T_ones e_v3) rfl rfl (Nat.le_trans (Nat.le_of_ble_eq_true rfl) hfr) (Nat.le_trans (Nat.le_of_ble_eq_true rfl) hlo) (Nat.le_of_ble_eq_true rfl) ?_
  refine v_aload_n dX6_wiltsNow_20 rfl 0 rfl ?_
  refine t_geta 2 2 dX6_wiltsNow_21 fl_X6_24 (Nat.le_of_ble_eq_true rfl) (fun _ _ => rfl) ?_
  refine v_iconst dX6_wiltsNow_24 (v := 5) (by decide) ?_
  refine t_iald 2 dX6_wiltsNow_25 rfl (Nat.le_of_ble_eq_true rfl) (by decide) hF (fun v4 hF => ?_)
  obtain ⟨M5, e_M5, hF⟩ := Option.bind_eq_some_iff.mp hF
  refine v_calV0 dX6_wiltsNow_26 vl_X6_328 q1879 rc_ov (ct_T_setsAsked e_M5) rfl rfl (Nat.le_trans (Nat.le_of_ble_eq_true rfl) hfr) (Nat.le_trans (Nat.le_of_ble_eq_true rfl) hlo) (Nat.le_of_ble_eq_true rfl) ?_
  refine v_aload_n dX6_wiltsNow_29 rfl 0 rfl ?_
  refine v_iconst dX6_wiltsNow_30 (v := 2) (by decide) ?_
  refine v_bipush dX6_wiltsNow_31 (v := 9) (by decide) ?_
  refine v_iconst dX6_wiltsNow_33 (v := 0) (by decide) ?_
  obtain ⟨v7, M6, e_v7, hF⟩ := bd2_spec hF
  refine v_calV1 dX6_wiltsNow_34 vl_X6_332 q1883 rc_ov (ct_T_tells e_v7) rfl rfl (Nat.le_trans (Nat.le_of_ble_eq_true rfl) hfr) (Nat.le_trans (Nat.le_of_ble_eq_true rfl) hlo) (Nat.le_of_ble_eq_true rfl) ?_
  cases hF
  exact v_iret dX6_wiltsNow_37 rfl rfl rfl rfl
theorem ct_T_wiltsNow {l : Launch} {G : GT} {m0 : Nat} {hb : Hp} {N : Nat} {r : (Int32 × TM)} {a1 : Int32} {M : TM} (hF : T_wiltsNow N a1 M = some r) : Ct l G yX6_wiltsNow (ws_ yX6_wiltsNow cX6_wiltsNow 2 (Option.some Jvm.ClassFile.FieldType.int)) 118 2848 [.ref m0, .int a1] (ovT m0 M hb) (some (.int r.1)) (ovT m0 r.2 hb) :=
  ct_of (by decide) (Nat.le_of_ble_eq_true rfl) (w_T_wiltsNow (Nat.le_refl _) (Nat.le_refl _) hF)
theorem vl_X6_150 : ∀ ci ∈ [6], VL RX6 150 ci yX6_wiltsNow 1 := by
  intro ci h
  simp only [List.mem_cons, List.not_mem_nil, or_false] at h
  subst h; exact ⟨RX6, TX6, 56, rfl, q146, ⟨by decide, by decide⟩, by decide +kernel, q1963, Or.inl ⟨q1961, qs78⟩⟩
theorem vl_X6_146 : ∀ ci ∈ [6], VL RX6 146 ci yX6_growsNow 2 := by
  intro ci h
  simp only [List.mem_cons, List.not_mem_nil, or_false] at h
  subst h; exact ⟨RX6, TX6, 56, rfl, q146, ⟨by decide, by decide⟩, by decide +kernel, q1955, Or.inl ⟨q1953, qs76⟩⟩
def T_at (N : Nat) (a1 : Int32) (a2 : Int32) (M : TM) : Option (Int32 × TM) :=
  (T_isLeek M a1).bind fun v1 =>
  if v1 = 0 then
    some ((-1 : Int32), M)
  else
    (T_bookMany M).bind fun v2 =>
    (T_lies a2 (3 : Int32) ((2 : Int32) + v2)).bind fun v3 =>
    if v3 = 0 then
      if a2.toInt < 0 ∨ 2 < a2.toInt then
        some ((-1 : Int32), M)
      else
      if a2.toInt = 0 then
        (tra M 2 5660 ((30 : Int32) + a1)).bind fun v4 =>
        some (v4, M)
      else
      if a2.toInt = 1 then
        (tra M 2 5660 ((1 : Int32) + a1)).bind fun v5 =>
        some (v5, M)
      else
        bd2 (T_wiltsNow N a1 M) fun v7 M6 =>
        some (v7, M6)
    else
      bd2 (T_growsNow N a1 (a2 - (3 : Int32)) M) fun v9 M8 =>
      some (v9, M8)
theorem w_T_at {l : Launch} {G : GT} {fr lo : Nat} {h0 : Hp} {m0 : Nat} {hb : Hp} {N : Nat} {r : (Int32 × TM)} (hfr : 120 ≤ fr) (hlo : 2895 ≤ lo) {a1 : Int32} {a2 : Int32} {M : TM} (hF : T_at N a1 a2 M = some r) : V l G cX6_at RX6 "at" 3 (Option.some Jvm.ClassFile.FieldType.int) fr lo h0 (ovT m0 r.2 hb) (QM G (some (.int r.1)) h0 (ovT m0 r.2 hb)) 0 [(0, .ref m0), (1, .int a1), (2, .int a2)] [] (ovT m0 M hb) := by
  unfold T_at at hF
  refine v_aload_n dX6_at_0 rfl 0 rfl ?_
  refine v_iload_n dX6_at_1 rfl 1 rfl ?_
  obtain ⟨v1, e_v1, hF⟩ := Option.bind_eq_some_iff.mp hF
  refine v_calV1 dX6_at_2 vl_X6_143 q1914 rc_ov (ct_T_isLeek e_v1) rfl rfl (Nat.le_trans (Nat.le_of_ble_eq_true rfl) hfr) (Nat.le_trans (Nat.le_of_ble_eq_true rfl) hlo) (Nat.le_of_ble_eq_true rfl) ?_
  refine v_if_ne (tgt := 10) dX6_at_5 (by decide) hF (fun hF => ?_) (fun hF => ?_)
  · refine v_iload_n dX6_at_10 rfl 2 rfl ?_
    refine v_iconst dX6_at_11 (v := 3) (by decide) ?_
    refine v_iconst dX6_at_12 (v := 2) (by decide) ?_
    refine v_aload_n dX6_at_13 rfl 0 rfl ?_
    obtain ⟨v2, e_v2, hF⟩ := Option.bind_eq_some_iff.mp hF
    refine v_calV1 dX6_at_14 vl_X6_112 q1837 rc_ov (ct_T_bookMany e_v2) rfl rfl (Nat.le_trans (Nat.le_of_ble_eq_true rfl) hfr) (Nat.le_trans (Nat.le_of_ble_eq_true rfl) hlo) (Nat.le_of_ble_eq_true rfl) ?_
    refine v_iadd dX6_at_17 ?_
    obtain ⟨v3, e_v3, hF⟩ := Option.bind_eq_some_iff.mp hF
    refine v_calS1 dX6_at_18 sl_X6_102 q1810 (ct_T_lies e_v3) rfl rfl (Nat.le_trans (Nat.le_of_ble_eq_true rfl) hfr) (Nat.le_trans (Nat.le_of_ble_eq_true rfl) hlo) (Nat.le_of_ble_eq_true rfl) ?_
    refine v_if_eq (tgt := 33) dX6_at_21 (by decide) hF (fun hF => ?_) (fun hF => ?_)
    · refine v_iload_n dX6_at_33 rfl 2 rfl ?_
      refine v_swOut (td := 85) dX6_at_34 (by decide) hF (fun hF => ?_) (fun hs1 hs2 hF => ?_)
      · refine v_iconst dX6_at_85 (v := -1) (by decide) ?_
        cases hF
        exact v_iret dX6_at_86 rfl rfl rfl rfl
      · refine v_case (i := 0) hF (fun hc hF => ?_) (fun hc0 hF => ?_)
        · refine v_swIn (i := 0) (off := 26) (tgt := 60) dX6_at_34 hc (by decide) (by decide) rfl (by decide) ?_
          refine v_aload_n dX6_at_60 rfl 0 rfl ?_
          refine t_geta 2 2 dX6_at_61 fl_X6_24 (Nat.le_of_ble_eq_true rfl) (fun _ _ => rfl) ?_
          refine v_bipush dX6_at_64 (v := 30) (by decide) ?_
          refine v_iload_n dX6_at_66 rfl 1 rfl ?_
          refine v_iadd dX6_at_67 ?_
          refine t_iald 2 dX6_at_68 rfl (Nat.le_of_ble_eq_true rfl) (by decide) hF (fun v4 hF => ?_)
          cases hF
          exact v_iret dX6_at_69 rfl rfl rfl rfl
        refine v_case (i := 1) hF (fun hc hF => ?_) (fun hc1 hF => ?_)
        · refine v_swIn (i := 1) (off := 36) (tgt := 70) dX6_at_34 hc (by decide) (by decide) rfl (by decide) ?_
          refine v_aload_n dX6_at_70 rfl 0 rfl ?_
          refine t_geta 2 2 dX6_at_71 fl_X6_24 (Nat.le_of_ble_eq_true rfl) (fun _ _ => rfl) ?_
          refine v_iconst dX6_at_74 (v := 1) (by decide) ?_
          refine v_iload_n dX6_at_75 rfl 1 rfl ?_
          refine v_iadd dX6_at_76 ?_
          refine t_iald 2 dX6_at_77 rfl (Nat.le_of_ble_eq_true rfl) (by decide) hF (fun v5 hF => ?_)
          cases hF
          exact v_iret dX6_at_78 rfl rfl rfl rfl
        refine v_swIn (i := 2) (off := 45) (tgt := 79) dX6_at_34 (by omega) (by decide) (by decide) rfl (by decide) ?_
        refine v_aload_n dX6_at_79 rfl 0 rfl ?_
        refine v_iload_n dX6_at_80 rfl 1 rfl ?_
        obtain ⟨v7, M6, e_v7, hF⟩ := bd2_spec hF
        refine v_calV1 dX6_at_81 vl_X6_150 q1964 rc_ov (ct_T_wiltsNow e_v7) rfl rfl (Nat.le_trans (Nat.le_of_ble_eq_true rfl) hfr) (Nat.le_trans (Nat.le_of_ble_eq_true rfl) hlo) (Nat.le_of_ble_eq_true rfl) ?_
        cases hF
        exact v_iret dX6_at_84 rfl rfl rfl rfl
    · refine v_aload_n dX6_at_24 rfl 0 rfl ?_
      refine v_iload_n dX6_at_25 rfl 1 rfl ?_
      refine v_iload_n dX6_at_26 rfl 2 rfl ?_
      refine v_iconst dX6_at_27 (v := 3) (by decide) ?_
      refine v_isub dX6_at_28 ?_
      obtain ⟨v9, M8, e_v9, hF⟩ := bd2_spec hF
      refine v_calV1 dX6_at_29 vl_X6_146 q1956 rc_ov (ct_T_growsNow e_v9) rfl rfl (Nat.le_trans (Nat.le_of_ble_eq_true rfl) hfr) (Nat.le_trans (Nat.le_of_ble_eq_true rfl) hlo) (Nat.le_of_ble_eq_true rfl) ?_
      cases hF
      exact v_iret dX6_at_32 rfl rfl rfl rfl
  · refine v_iconst dX6_at_8 (v := -1) (by decide) ?_
    cases hF
    exact v_iret dX6_at_9 rfl rfl rfl rfl
theorem ct_T_at {l : Launch} {G : GT} {m0 : Nat} {hb : Hp} {N : Nat} {r : (Int32 × TM)} {a1 : Int32} {a2 : Int32} {M : TM} (hF : T_at N a1 a2 M = some r) : Ct l G yX6_at (ws_ yX6_at cX6_at 3 (Option.some Jvm.ClassFile.FieldType.int)) 120 2895 [.ref m0, .int a1, .int a2] (ovT m0 M hb) (some (.int r.1)) (ovT m0 r.2 hb) :=
  ct_of (by decide) (Nat.le_of_ble_eq_true rfl) (w_T_at (Nat.le_refl _) (Nat.le_refl _) hF)
def T_isTerm (a1 : Int32) (a2 : Int32) : Option Int32 :=
  if a1.toInt < 0 ∨ 2 < a1.toInt then
    some (0 : Int32)
  else
  if a1.toInt = 0 then
    (T_lies a2 (0 : Int32) (999 : Int32)).bind fun v1 =>
    (rz v1).bind fun v2 => some v2
  else
  if a1.toInt = 1 then
    (T_lies a2 (0 : Int32) (10 : Int32)).bind fun v3 =>
    (rz v3).bind fun v4 => some v4
  else
    (T_lies a2 (0 : Int32) (9 : Int32)).bind fun v5 =>
    (rz v5).bind fun v6 => some v6
theorem w_T_isTerm {l : Launch} {G : GT} {fr lo : Nat} {h0 : Hp} {h : Hp} {r : Int32} (hfr : 1 ≤ fr) (hlo : 22 ≤ lo) {a1 : Int32} {a2 : Int32} (hF : T_isTerm a1 a2 = some r) : V l G cX6_isTerm RX6 "isTerm" 2 (Option.some Jvm.ClassFile.FieldType.boolean) fr lo h0 h (QM G (some (.int r)) h0 h) 0 [(0, .int a1), (1, .int a2)] [] h := by
  unfold T_isTerm at hF
  refine v_iload_n dX6_isTerm_0 rfl 0 rfl ?_
  refine v_swOut (td := 53) dX6_isTerm_1 (by decide) hF (fun hF => ?_) (fun hs1 hs2 hF => ?_)
  · refine v_iconst dX6_isTerm_53 (v := 0) (by decide) ?_
    cases hF
    exact v_iret dX6_isTerm_54 rfl (by decide) rfl rfl
  · refine v_case (i := 0) hF (fun hc hF => ?_) (fun hc0 hF => ?_)
    · refine v_swIn (i := 0) (off := 27) (tgt := 28) dX6_isTerm_1 hc (by decide) (by decide) rfl (by decide) ?_
      refine v_iload_n dX6_isTerm_28 rfl 1 rfl ?_
      refine v_iconst dX6_isTerm_29 (v := 0) (by decide) ?_
      refine v_sipush dX6_isTerm_30 (v := 999) (by decide) ?_
      obtain ⟨v1, e_v1, hF⟩ := Option.bind_eq_some_iff.mp hF
      refine v_calS1 dX6_isTerm_33 sl_X6_102 q1810 (ct_T_lies e_v1) rfl rfl (Nat.le_trans (Nat.le_of_ble_eq_true rfl) hfr) (Nat.le_trans (Nat.le_of_ble_eq_true rfl) hlo) (Nat.le_of_ble_eq_true rfl) ?_
      refine v_zchk hF (fun v2 hz hF => ?_)
      cases hF
      exact v_iret dX6_isTerm_36 rfl (nar_z hz) rfl rfl
    refine v_case (i := 1) hF (fun hc hF => ?_) (fun hc1 hF => ?_)
    · refine v_swIn (i := 1) (off := 36) (tgt := 37) dX6_isTerm_1 hc (by decide) (by decide) rfl (by decide) ?_
      refine v_iload_n dX6_isTerm_37 rfl 1 rfl ?_
      refine v_iconst dX6_isTerm_38 (v := 0) (by decide) ?_
      refine v_bipush dX6_isTerm_39 (v := 10) (by decide) ?_
      obtain ⟨v3, e_v3, hF⟩ := Option.bind_eq_some_iff.mp hF
      refine v_calS1 dX6_isTerm_41 sl_X6_102 q1810 (ct_T_lies e_v3) rfl rfl (Nat.le_trans (Nat.le_of_ble_eq_true rfl) hfr) (Nat.le_trans (Nat.le_of_ble_eq_true rfl) hlo) (Nat.le_of_ble_eq_true rfl) ?_
      refine v_zchk hF (fun v4 hz hF => ?_)
      cases hF
      exact v_iret dX6_isTerm_44 rfl (nar_z hz) rfl rfl
    refine v_swIn (i := 2) (off := 44) (tgt := 45) dX6_isTerm_1 (by omega) (by decide) (by decide) rfl (by decide) ?_
    refine v_iload_n dX6_isTerm_45 rfl 1 rfl ?_
    refine v_iconst dX6_isTerm_46 (v := 0) (by decide) ?_
    refine v_bipush dX6_isTerm_47 (v := 9) (by decide) ?_
    obtain ⟨v5, e_v5, hF⟩ := Option.bind_eq_some_iff.mp hF
    refine v_calS1 dX6_isTerm_49 sl_X6_102 q1810 (ct_T_lies e_v5) rfl rfl (Nat.le_trans (Nat.le_of_ble_eq_true rfl) hfr) (Nat.le_trans (Nat.le_of_ble_eq_true rfl) hlo) (Nat.le_of_ble_eq_true rfl) ?_
    refine v_zchk hF (fun v6 hz hF => ?_)
    cases hF
    exact v_iret dX6_isTerm_52 rfl (nar_z hz) rfl rfl
theorem ct_T_isTerm {l : Launch} {G : GT} {h : Hp} {r : Int32} {a1 : Int32} {a2 : Int32} (hF : T_isTerm a1 a2 = some r) : Ct l G yX6_isTerm (ws_ yX6_isTerm cX6_isTerm 2 (Option.some Jvm.ClassFile.FieldType.boolean)) 1 22 [.int a1, .int a2] h (some (.int r)) h :=
  ct_of (by decide) (Nat.le_of_ble_eq_true rfl) (w_T_isTerm (Nat.le_refl _) (Nat.le_refl _) hF)
def T_termAt (a1 : Int32) : Option Int32 :=
  if a1 = 0 then
    some (5 : Int32)
  else
    if a1 = (1 : Int32) then
      some (46 : Int32)
    else
      some (47 : Int32)
theorem w_T_termAt {l : Launch} {G : GT} {fr lo : Nat} {h0 : Hp} {h : Hp} {r : Int32} (hfr : 0 ≤ fr) (hlo : 0 ≤ lo) {a1 : Int32} (hF : T_termAt a1 = some r) : V l G cX6_termAt RX6 "termAt" 1 (Option.some Jvm.ClassFile.FieldType.int) fr lo h0 h (QM G (some (.int r)) h0 h) 0 [(0, .int a1)] [] h := by
  unfold T_termAt at hF
  refine v_iload_n dX6_termAt_0 rfl 0 rfl ?_
  refine v_if_ne (tgt := 8) dX6_termAt_1 (by decide) hF (fun hF => ?_) (fun hF => ?_)
  · refine v_iload_n dX6_termAt_8 rfl 0 rfl ?_
    refine v_iconst dX6_termAt_9 (v := 1) (by decide) ?_
    refine v_icmp_ne (tgt := 18) dX6_termAt_10 (by decide) hF (fun hF => ?_) (fun hF => ?_)
    · refine v_bipush dX6_termAt_18 (v := 47) (by decide) ?_
      cases hF
      exact v_iret dX6_termAt_20 rfl rfl rfl rfl
    · refine v_bipush dX6_termAt_13 (v := 46) (by decide) ?_
      refine v_goto (tgt := 20) dX6_termAt_15 (by decide) ?_
      cases hF
      exact v_iret dX6_termAt_20 rfl rfl rfl rfl
  · refine v_iconst dX6_termAt_4 (v := 5) (by decide) ?_
    refine v_goto (tgt := 20) dX6_termAt_5 (by decide) ?_
    cases hF
    exact v_iret dX6_termAt_20 rfl rfl rfl rfl
theorem ct_T_termAt {l : Launch} {G : GT} {h : Hp} {r : Int32} {a1 : Int32} (hF : T_termAt a1 = some r) : Ct l G yX6_termAt (ws_ yX6_termAt cX6_termAt 1 (Option.some Jvm.ClassFile.FieldType.int)) 0 0 [.int a1] h (some (.int r)) h :=
  ct_of (by decide) (Nat.le_of_ble_eq_true rfl) (w_T_termAt (Nat.le_refl _) (Nat.le_refl _) hF)
theorem sl_X6_153 : SL RX6 153 yX6_isTerm 2 := ⟨q146, ⟨by decide, by decide⟩, by decide +kernel, q1970, Or.inl q1969⟩
theorem sl_X6_156 : SL RX6 156 yX6_termAt 1 := ⟨q146, ⟨by decide, by decide⟩, by decide +kernel, q1973, Or.inl q1972⟩
def T_terms (a1 : Int32) (a2 : Int32) (M : TM) : Option (Int32 × TM) :=
  (T_isTerm a1 a2).bind fun v1 =>
  if v1 = 0 then
    bd2 (T_refuses (-1 : Int32) M) fun v9 M8 =>
    some (v9, M8)
  else
    (T_termAt a1).bind fun v2 =>
    (tra M 2 5660 v2).bind fun v3 =>
    (T_termAt a1).bind fun v4 =>
    (twa M 2 5660 v4 a2).bind fun M5 =>
    bd2 (T_settled v3 M5) fun v7 M6 =>
    some (v7, M6)
theorem w_T_terms {l : Launch} {G : GT} {fr lo : Nat} {h0 : Hp} {m0 : Nat} {hb : Hp} {r : (Int32 × TM)} (hfr : 2 ≤ fr) (hlo : 43 ≤ lo) {a1 : Int32} {a2 : Int32} {M : TM} (hF : T_terms a1 a2 M = some r) : V l G cX6_terms RX6 "terms" 4 (Option.some Jvm.ClassFile.FieldType.int) fr lo h0 (ovT m0 r.2 hb) (QM G (some (.int r.1)) h0 (ovT m0 r.2 hb)) 0 [(0, .ref m0), (1, .int a1), (2, .int a2)] [] (ovT m0 M hb) := by
  unfold T_terms at hF
  refine v_iload_n dX6_terms_0 rfl 1 rfl ?_
  refine v_iload_n dX6_terms_1 rfl 2 rfl ?_
  obtain ⟨v1, e_v1, hF⟩ := Option.bind_eq_some_iff.mp hF
  refine v_calS1 dX6_terms_2 sl_X6_153 q1971 (ct_T_isTerm e_v1) rfl rfl (Nat.le_trans (Nat.le_of_ble_eq_true rfl) hfr) (Nat.le_trans (Nat.le_of_ble_eq_true rfl) hlo) (Nat.le_of_ble_eq_true rfl) ?_
  refine v_if_ne (tgt := 14) dX6_terms_5 (by decide) hF (fun hF => ?_) (fun hF => ?_)
  · refine v_aload_n dX6_terms_14 rfl 0 rfl ?_
    refine t_geta 2 2 dX6_terms_15 fl_X6_24 (Nat.le_of_ble_eq_true rfl) (fun _ _ => rfl) ?_
    refine v_iload_n dX6_terms_18 rfl 1 rfl ?_
    obtain ⟨v2, e_v2, hF⟩ := Option.bind_eq_some_iff.mp hF
    refine v_calS1 dX6_terms_19 sl_X6_156 q1974 (ct_T_termAt e_v2) rfl rfl (Nat.le_trans (Nat.le_of_ble_eq_true rfl) hfr) (Nat.le_trans (Nat.le_of_ble_eq_true rfl) hlo) (Nat.le_of_ble_eq_true rfl) ?_
    refine t_iald 2 dX6_terms_22 rfl (Nat.le_of_ble_eq_true rfl) (by decide) hF (fun v3 hF => ?_)
    refine v_istore_n dX6_terms_23 rfl (Nat.le_of_ble_eq_true rfl) (L' := [(3, .int v3), (0, .ref m0), (1, .int a1), (2, .int a2)]) rfl ?_
    refine v_aload_n dX6_terms_24 rfl 1 rfl ?_
    refine t_geta 2 2 dX6_terms_25 fl_X6_24 (Nat.le_of_ble_eq_true rfl) (fun _ _ => rfl) ?_
    refine v_iload_n dX6_terms_28 rfl 2 rfl ?_
    obtain ⟨v4, e_v4, hF⟩ := Option.bind_eq_some_iff.mp hF
    refine v_calS1 dX6_terms_29 sl_X6_156 q1974 (ct_T_termAt e_v4) rfl rfl (Nat.le_trans (Nat.le_of_ble_eq_true rfl) hfr) (Nat.le_trans (Nat.le_of_ble_eq_true rfl) hlo) (Nat.le_of_ble_eq_true rfl) ?_
    refine v_iload_n dX6_terms_32 rfl 3 rfl ?_
    refine t_iast 2 dX6_terms_33 rfl (Nat.le_of_ble_eq_true rfl) (by decide) hF (fun M5 hF => ?_)
    refine v_aload_n dX6_terms_34 rfl 1 rfl ?_
    refine v_iload_n dX6_terms_35 rfl 0 rfl ?_
    obtain ⟨v7, M6, e_v7, hF⟩ := bd2_spec hF
    refine v_calV1 dX6_terms_36 vl_X6_109 q1826 rc_ov (ct_T_settled e_v7) rfl rfl (Nat.le_trans (Nat.le_of_ble_eq_true rfl) hfr) (Nat.le_trans (Nat.le_of_ble_eq_true rfl) hlo) (Nat.le_of_ble_eq_true rfl) ?_
    cases hF
    exact v_iret dX6_terms_39 rfl rfl rfl rfl
  · refine v_aload_n dX6_terms_8 rfl 0 rfl ?_
    refine v_iconst dX6_terms_9 (v := -1) (by decide) ?_
    obtain ⟨v9, M8, e_v9, hF⟩ := bd2_spec hF
    refine v_calV1 dX6_terms_10 vl_X6_106 q1814 rc_ov (ct_T_refuses e_v9) rfl rfl (Nat.le_trans (Nat.le_of_ble_eq_true rfl) hfr) (Nat.le_trans (Nat.le_of_ble_eq_true rfl) hlo) (Nat.le_of_ble_eq_true rfl) ?_
    cases hF
    exact v_iret dX6_terms_13 rfl rfl rfl rfl
theorem ct_T_terms {l : Launch} {G : GT} {m0 : Nat} {hb : Hp} {r : (Int32 × TM)} {a1 : Int32} {a2 : Int32} {M : TM} (hF : T_terms a1 a2 M = some r) : Ct l G yX6_terms (ws_ yX6_terms cX6_terms 4 (Option.some Jvm.ClassFile.FieldType.int)) 2 43 [.ref m0, .int a1, .int a2] (ovT m0 M hb) (some (.int r.1)) (ovT m0 r.2 hb) :=
  ct_of (by decide) (Nat.le_of_ble_eq_true rfl) (w_T_terms (Nat.le_refl _) (Nat.le_refl _) hF)
theorem fl_X6_159 : FL RX6 159 [6] 13 := by
  intro ci h
  simp only [List.mem_cons, List.not_mem_nil, or_false] at h
  subst h; exact ⟨RX6, _, TX6, 56, rfl, in_X6, by decide, Or.inl q1647, Or.inl rfl⟩
theorem pl_X6_159 : PL RX6 159 [6] 13 (.int) false := by
  intro ci h
  simp only [List.mem_cons, List.not_mem_nil, or_false] at h
  subst h; exact ⟨RX6, _, TX6, 56, tyX6, rfl, in_X6, by decide, Or.inl q1647, Or.inl rfl, tyX6_ok, rfl, by decide +kernel, rfl, fun z => by cases z⟩
theorem pl_X6_162 : PL RX6 162 [6] 6 (.int) false := by
  intro ci h
  simp only [List.mem_cons, List.not_mem_nil, or_false] at h
  subst h; exact ⟨RX6, _, TX6, 56, tyX6, rfl, in_X6, by decide, Or.inl q1640, Or.inl rfl, tyX6_ok, rfl, by decide +kernel, rfl, fun z => by cases z⟩
theorem fl_X6_41 : FL RX6 41 [6] 11 := by
  intro ci h
  simp only [List.mem_cons, List.not_mem_nil, or_false] at h
  subst h; exact ⟨RX6, _, TX6, 56, rfl, in_X6, by decide, Or.inl q1645, Or.inl rfl⟩
theorem fl_X6_162 : FL RX6 162 [6] 6 := by
  intro ci h
  simp only [List.mem_cons, List.not_mem_nil, or_false] at h
  subst h; exact ⟨RX6, _, TX6, 56, rfl, in_X6, by decide, Or.inl q1640, Or.inl rfl⟩
def T_row_J161 (N : Nat) (c40 : Int32 → Int32 → Int32 → TM → Option (Int32 × TM)) (v37 : Int32) (v38 : Int32) (v39 : Int32) (v40 : Int32) (v41 : Int32) (M42 : TM) : Option (Int32 × TM) :=
  (some (tsi M42 6 (v41 + v40))).bind fun (M43 : TM) =>
  c40 v37 v38 (v39 + (3 : Int32)) M43
theorem w_T_row_J161 {l : Launch} {G : GT} {fr lo : Nat} {h0 : Hp} {m0 : Nat} {hb : Hp} {N : Nat} {r : (Int32 × TM)} (hfr : 2 ≤ fr) (hlo : 44 ≤ lo) {c40 : Int32 → Int32 → Int32 → TM → Option (Int32 × TM)} (hc40 : ∀ (v7 : Int32) (v8 : Int32) (v9 : Int32) (M10 : TM), c40 v7 v8 v9 M10 = some r → V l G cX6_row RX6 "row" 6 (Option.some Jvm.ClassFile.FieldType.int) fr lo h0 (ovT m0 r.2 hb) (QM G (some (.int r.1)) h0 (ovT m0 r.2 hb)) 40 [(0, .ref m0), (1, .int v7), (2, .int v8), (3, .int v9)] [] (ovT m0 M10 hb)) {v37 : Int32} {v38 : Int32} {v39 : Int32} {v40 : Int32} {v41 : Int32} {M42 : TM} (hF : T_row_J161 N c40 v37 v38 v39 v40 v41 M42 = some r) : V l G cX6_row RX6 "row" 6 (Option.some Jvm.ClassFile.FieldType.int) fr lo h0 (ovT m0 r.2 hb) (QM G (some (.int r.1)) h0 (ovT m0 r.2 hb)) 161 [(0, .ref m0), (1, .int v37), (2, .int v38), (3, .int v39)] [.int v40, .int v41, .ref m0] (ovT m0 M42 hb) := by
  unfold T_row_J161 at hF
  refine v_iadd dX6_row_161 ?_
  refine t_puti 6 dX6_row_162 pl_X6_162 rfl ?_
  refine v_letM hF (fun M43 hF => ?_)
  refine v_iinc dX6_row_165 3 rfl (v := v39 + (3 : Int32)) (by rfl) (Nat.le_of_ble_eq_true rfl) (L' := [(3, .int (v39 + (3 : Int32))), (0, .ref m0), (1, .int v37), (2, .int v38)]) rfl ?_
  refine v_goto (tgt := 40) dX6_row_168 (by decide) ?_
  exact v_sub [1, 2, 3, 0] rfl (hc40 _ _ _ _ hF)
def T_row_J144 (N : Nat) (c40 : Int32 → Int32 → Int32 → TM → Option (Int32 × TM)) (v31 : Int32) (v32 : Int32) (v33 : Int32) (v34 : Int32) (v35 : Int32) (M36 : TM) : Option (Int32 × TM) :=
  T_row_J161 N c40 v31 (v35 + v34) v32 (if v33 = 0 then (1 : Int32) else (0 : Int32)) (M36.1 6) M36
theorem w_T_row_J144 {l : Launch} {G : GT} {fr lo : Nat} {h0 : Hp} {m0 : Nat} {hb : Hp} {N : Nat} {r : (Int32 × TM)} (hfr : 2 ≤ fr) (hlo : 44 ≤ lo) {c40 : Int32 → Int32 → Int32 → TM → Option (Int32 × TM)} (hc40 : ∀ (v7 : Int32) (v8 : Int32) (v9 : Int32) (M10 : TM), c40 v7 v8 v9 M10 = some r → V l G cX6_row RX6 "row" 6 (Option.some Jvm.ClassFile.FieldType.int) fr lo h0 (ovT m0 r.2 hb) (QM G (some (.int r.1)) h0 (ovT m0 r.2 hb)) 40 [(0, .ref m0), (1, .int v7), (2, .int v8), (3, .int v9)] [] (ovT m0 M10 hb)) {v31 : Int32} {v32 : Int32} {v33 : Int32} {v34 : Int32} {v35 : Int32} {M36 : TM} (hF : T_row_J144 N c40 v31 v32 v33 v34 v35 M36 = some r) : V l G cX6_row RX6 "row" 6 (Option.some Jvm.ClassFile.FieldType.int) fr lo h0 (ovT m0 r.2 hb) (QM G (some (.int r.1)) h0 (ovT m0 r.2 hb)) 144 [(0, .ref m0), (1, .int v31), (3, .int v32), (5, .int v33)] [.int v34, .int v35] (ovT m0 M36 hb) := by
  unfold T_row_J144 at hF
  refine v_iadd dX6_row_144 ?_
  refine v_istore_n dX6_row_145 rfl (Nat.le_of_ble_eq_true rfl) (L' := [(2, .int (v35 + v34)), (0, .ref m0), (1, .int v31), (3, .int v32), (5, .int v33)]) rfl ?_
  refine v_aload_n dX6_row_146 rfl 1 rfl ?_
  refine v_dup dX6_row_147 rfl ?_
  refine t_geti 6 dX6_row_148 fl_X6_162 rfl ?_
  refine v_iload dX6_row_151 4 rfl ?_
  refine v_tern (c := v33 = 0) (x := (1 : Int32)) (y := (0 : Int32)) (pcj := 161) (st := [.int (M36.1 6), .ref m0]) ?_ (fun kt kf => v_if_eq0 (tgt := 160) dX6_row_153 (by decide) kt kf) (fun K => ?_) (fun K => ?_)
  · exact v_sub [1, 2, 0, 3] rfl (w_T_row_J161 hfr hlo hc40 hF)
  · refine v_iconst dX6_row_160 (v := 1) (by decide) ?_
    exact K
  · refine v_iconst dX6_row_156 (v := 0) (by decide) ?_
    refine v_goto (tgt := 161) dX6_row_157 (by decide) ?_
    exact K
def T_row_J133 (N : Nat) (c40 : Int32 → Int32 → Int32 → TM → Option (Int32 × TM)) (v26 : Int32) (v27 : Int32) (v28 : Int32) (v29 : Int32) (M30 : TM) : Option (Int32 × TM) :=
  T_row_J144 N c40 v26 v28 v29 (if v29 = 0 then (0 : Int32) else (1 : Int32)) v27 M30
theorem w_T_row_J133 {l : Launch} {G : GT} {fr lo : Nat} {h0 : Hp} {m0 : Nat} {hb : Hp} {N : Nat} {r : (Int32 × TM)} (hfr : 2 ≤ fr) (hlo : 44 ≤ lo) {c40 : Int32 → Int32 → Int32 → TM → Option (Int32 × TM)} (hc40 : ∀ (v7 : Int32) (v8 : Int32) (v9 : Int32) (M10 : TM), c40 v7 v8 v9 M10 = some r → V l G cX6_row RX6 "row" 6 (Option.some Jvm.ClassFile.FieldType.int) fr lo h0 (ovT m0 r.2 hb) (QM G (some (.int r.1)) h0 (ovT m0 r.2 hb)) 40 [(0, .ref m0), (1, .int v7), (2, .int v8), (3, .int v9)] [] (ovT m0 M10 hb)) {v26 : Int32} {v27 : Int32} {v28 : Int32} {v29 : Int32} {M30 : TM} (hF : T_row_J133 N c40 v26 v27 v28 v29 M30 = some r) : V l G cX6_row RX6 "row" 6 (Option.some Jvm.ClassFile.FieldType.int) fr lo h0 (ovT m0 r.2 hb) (QM G (some (.int r.1)) h0 (ovT m0 r.2 hb)) 133 [(0, .ref m0), (1, .int v26), (2, .int v27), (3, .int v28), (5, .int v29)] [] (ovT m0 M30 hb) := by
  unfold T_row_J133 at hF
  refine v_iload_n dX6_row_133 rfl 2 rfl ?_
  refine v_iload dX6_row_134 4 rfl ?_
  refine v_tern (c := v29 = 0) (x := (0 : Int32)) (y := (1 : Int32)) (pcj := 144) (st := [.int v27]) ?_ (fun kt kf => v_if_eq0 (tgt := 143) dX6_row_136 (by decide) kt kf) (fun K => ?_) (fun K => ?_)
  · exact v_sub [0, 1, 3, 4] rfl (w_T_row_J144 hfr hlo hc40 hF)
  · refine v_iconst dX6_row_143 (v := 0) (by decide) ?_
    exact K
  · refine v_iconst dX6_row_139 (v := 1) (by decide) ?_
    refine v_goto (tgt := 144) dX6_row_140 (by decide) ?_
    exact K
def T_row_J106 (N : Nat) (c40 : Int32 → Int32 → Int32 → TM → Option (Int32 × TM)) (v20 : Int32) (v21 : Int32) (v22 : Int32) (v23 : Int32) (v24 : Int32) (M25 : TM) : Option (Int32 × TM) :=
  if v24 = 0 then
    T_row_J133 N c40 v20 v21 v22 v24 M25
  else
    (tra M25 11 400 v22).bind fun v44 =>
    (tra M25 11 400 (v22 + (1 : Int32))).bind fun v45 =>
    (T_adds v44 v45 v23 M25).bind fun M46 =>
    T_row_J133 N c40 v20 v21 v22 v24 M46
theorem w_T_row_J106 {l : Launch} {G : GT} {fr lo : Nat} {h0 : Hp} {m0 : Nat} {hb : Hp} {N : Nat} {r : (Int32 × TM)} (hfr : 2 ≤ fr) (hlo : 44 ≤ lo) {c40 : Int32 → Int32 → Int32 → TM → Option (Int32 × TM)} (hc40 : ∀ (v7 : Int32) (v8 : Int32) (v9 : Int32) (M10 : TM), c40 v7 v8 v9 M10 = some r → V l G cX6_row RX6 "row" 6 (Option.some Jvm.ClassFile.FieldType.int) fr lo h0 (ovT m0 r.2 hb) (QM G (some (.int r.1)) h0 (ovT m0 r.2 hb)) 40 [(0, .ref m0), (1, .int v7), (2, .int v8), (3, .int v9)] [] (ovT m0 M10 hb)) {v20 : Int32} {v21 : Int32} {v22 : Int32} {v23 : Int32} {v24 : Int32} {M25 : TM} (hF : T_row_J106 N c40 v20 v21 v22 v23 v24 M25 = some r) : V l G cX6_row RX6 "row" 6 (Option.some Jvm.ClassFile.FieldType.int) fr lo h0 (ovT m0 r.2 hb) (QM G (some (.int r.1)) h0 (ovT m0 r.2 hb)) 106 [(0, .ref m0), (1, .int v20), (2, .int v21), (3, .int v22), (4, .int v23)] [.int v24] (ovT m0 M25 hb) := by
  unfold T_row_J106 at hF
  refine v_istore dX6_row_106 (Nat.le_of_ble_eq_true rfl) (L' := [(5, .int v24), (0, .ref m0), (1, .int v20), (2, .int v21), (3, .int v22), (4, .int v23)]) rfl ?_
  refine v_iload dX6_row_108 0 rfl ?_
  refine v_if_eq (tgt := 133) dX6_row_110 (by decide) hF (fun hF => ?_) (fun hF => ?_)
  · exact v_sub [1, 2, 3, 4, 0] rfl (w_T_row_J133 hfr hlo hc40 hF)
  · refine v_aload_n dX6_row_113 rfl 1 rfl ?_
    refine v_aload_n dX6_row_114 rfl 1 rfl ?_
    refine t_geta 11 7 dX6_row_115 fl_X6_41 (Nat.le_of_ble_eq_true rfl) (fun _ _ => rfl) ?_
    refine v_iload_n dX6_row_118 rfl 4 rfl ?_
    refine t_bald 7 dX6_row_119 rfl (Nat.le_of_ble_eq_true rfl) (by decide) hF (fun v44 hF => ?_)
    refine v_aload_n dX6_row_120 rfl 1 rfl ?_
    refine t_geta 11 7 dX6_row_121 fl_X6_41 (Nat.le_of_ble_eq_true rfl) (fun _ _ => rfl) ?_
    refine v_iload_n dX6_row_124 rfl 4 rfl ?_
    refine v_iconst dX6_row_125 (v := 1) (by decide) ?_
    refine v_iadd dX6_row_126 ?_
    refine t_bald 7 dX6_row_127 rfl (Nat.le_of_ble_eq_true rfl) (by decide) hF (fun v45 hF => ?_)
    refine v_iload dX6_row_128 5 rfl ?_
    obtain ⟨M46, e_M46, hF⟩ := Option.bind_eq_some_iff.mp hF
    refine v_calV0 dX6_row_130 vl_X6_126 q1841 rc_ov (ct_T_adds e_M46) rfl rfl (Nat.le_trans (Nat.le_of_ble_eq_true rfl) hfr) (Nat.le_trans (Nat.le_of_ble_eq_true rfl) hlo) (Nat.le_of_ble_eq_true rfl) ?_
    exact v_sub [1, 2, 3, 4, 0] rfl (w_T_row_J133 hfr hlo hc40 hF)
def T_row_J105 (N : Nat) (c40 : Int32 → Int32 → Int32 → TM → Option (Int32 × TM)) (v15 : Int32) (v16 : Int32) (v17 : Int32) (v18 : Int32) (M19 : TM) : Option (Int32 × TM) :=
  T_row_J106 N c40 v15 v16 v17 v18 (0 : Int32) M19
theorem w_T_row_J105 {l : Launch} {G : GT} {fr lo : Nat} {h0 : Hp} {m0 : Nat} {hb : Hp} {N : Nat} {r : (Int32 × TM)} (hfr : 2 ≤ fr) (hlo : 44 ≤ lo) {c40 : Int32 → Int32 → Int32 → TM → Option (Int32 × TM)} (hc40 : ∀ (v7 : Int32) (v8 : Int32) (v9 : Int32) (M10 : TM), c40 v7 v8 v9 M10 = some r → V l G cX6_row RX6 "row" 6 (Option.some Jvm.ClassFile.FieldType.int) fr lo h0 (ovT m0 r.2 hb) (QM G (some (.int r.1)) h0 (ovT m0 r.2 hb)) 40 [(0, .ref m0), (1, .int v7), (2, .int v8), (3, .int v9)] [] (ovT m0 M10 hb)) {v15 : Int32} {v16 : Int32} {v17 : Int32} {v18 : Int32} {M19 : TM} (hF : T_row_J105 N c40 v15 v16 v17 v18 M19 = some r) : V l G cX6_row RX6 "row" 6 (Option.some Jvm.ClassFile.FieldType.int) fr lo h0 (ovT m0 r.2 hb) (QM G (some (.int r.1)) h0 (ovT m0 r.2 hb)) 105 [(0, .ref m0), (1, .int v15), (2, .int v16), (3, .int v17), (4, .int v18)] [] (ovT m0 M19 hb) := by
  unfold T_row_J105 at hF
  refine v_iconst dX6_row_105 (v := 0) (by decide) ?_
  exact v_sub [0, 1, 2, 3, 4] rfl (w_T_row_J106 hfr hlo hc40 hF)
def T_row_L40 (N : Nat) (x40 : Int32 → TM → Option (Int32 × TM)) : Nat → Int32 → Int32 → Int32 → TM → Option (Int32 × TM)
  | 0, _, _, _, _ => none
  | n51 + 1, v7, v8, v9, M10 =>
    if v7 < (v9 + (3 : Int32)) then
      x40 v8 M10
    else
      (tra M10 11 400 (v9 + (2 : Int32))).bind fun v13 =>
      (T_bookMany M10).bind fun v14 =>
      if (8 : Int32) ≤ v14 then
        T_row_J105 N (T_row_L40 N x40 n51) v7 v8 v9 (v13 &&& (255 : Int32)) M10
      else
        (tra M10 11 400 v9).bind fun v47 =>
        (tra M10 11 400 (v9 + (1 : Int32))).bind fun v48 =>
        (T_canBook v47 v48).bind fun v49 =>
        if v49 = 0 then
          T_row_J105 N (T_row_L40 N x40 n51) v7 v8 v9 (v13 &&& (255 : Int32)) M10
        else
          (T_bookMany M10).bind fun v50 =>
          if ((1 : Int32) <<< (v50 &&& 31)) ≤ (v13 &&& (255 : Int32)) then
            T_row_J105 N (T_row_L40 N x40 n51) v7 v8 v9 (v13 &&& (255 : Int32)) M10
          else
            T_row_J106 N (T_row_L40 N x40 n51) v7 v8 v9 (v13 &&& (255 : Int32)) (1 : Int32) M10
theorem w_T_row_L40 {l : Launch} {G : GT} {fr lo : Nat} {h0 : Hp} {m0 : Nat} {hb : Hp} {N : Nat} {r : (Int32 × TM)} (hfr : 2 ≤ fr) (hlo : 44 ≤ lo) {x40 : Int32 → TM → Option (Int32 × TM)} (hx40 : ∀ (v11 : Int32) (M12 : TM), x40 v11 M12 = some r → V l G cX6_row RX6 "row" 6 (Option.some Jvm.ClassFile.FieldType.int) fr lo h0 (ovT m0 r.2 hb) (QM G (some (.int r.1)) h0 (ovT m0 r.2 hb)) 171 [(0, .ref m0), (2, .int v11)] [] (ovT m0 M12 hb)) : ∀ (n : Nat) (v7 : Int32) (v8 : Int32) (v9 : Int32) (M10 : TM), T_row_L40 N x40 n v7 v8 v9 M10 = some r → V l G cX6_row RX6 "row" 6 (Option.some Jvm.ClassFile.FieldType.int) fr lo h0 (ovT m0 r.2 hb) (QM G (some (.int r.1)) h0 (ovT m0 r.2 hb)) 40 [(0, .ref m0), (1, .int v7), (2, .int v8), (3, .int v9)] [] (ovT m0 M10 hb) := by
  intro n
  induction n with
  | zero =>
    intro v7 v8 v9 M10 hF
    cases (show (none : Option (Int32 × TM)) = some r from hF)
  | succ n hc40 =>
    intro v7 v8 v9 M10 hF
    rw [T_row_L40] at hF
    refine v_iload_n dX6_row_40 rfl 3 rfl ?_
    refine v_iconst dX6_row_41 (v := 3) (by decide) ?_
    refine v_iadd dX6_row_42 ?_
    refine v_iload_n dX6_row_43 rfl 1 rfl ?_
    refine v_icmp_gt (tgt := 171) dX6_row_44 (by decide) hF (fun hF => ?_) (fun hF => ?_)
    · exact v_sub [0, 2] rfl (hx40 _ _ hF)
    · refine v_aload_n dX6_row_47 rfl 0 rfl ?_
      refine t_geta 11 7 dX6_row_48 fl_X6_41 (Nat.le_of_ble_eq_true rfl) (fun _ _ => rfl) ?_
      refine v_iload_n dX6_row_51 rfl 3 rfl ?_
      refine v_iconst dX6_row_52 (v := 2) (by decide) ?_
      refine v_iadd dX6_row_53 ?_
      refine t_bald 7 dX6_row_54 rfl (Nat.le_of_ble_eq_true rfl) (by decide) hF (fun v13 hF => ?_)
      refine v_sipush dX6_row_55 (v := 255) (by decide) ?_
      refine v_iand dX6_row_58 ?_
      refine v_istore dX6_row_59 (Nat.le_of_ble_eq_true rfl) (L' := [(4, .int (v13 &&& (255 : Int32))), (0, .ref m0), (1, .int v7), (2, .int v8), (3, .int v9)]) rfl ?_
      refine v_aload_n dX6_row_61 rfl 1 rfl ?_
      obtain ⟨v14, e_v14, hF⟩ := Option.bind_eq_some_iff.mp hF
      refine v_calV1 dX6_row_62 vl_X6_112 q1837 rc_ov (ct_T_bookMany e_v14) rfl rfl (Nat.le_trans (Nat.le_of_ble_eq_true rfl) hfr) (Nat.le_trans (Nat.le_of_ble_eq_true rfl) hlo) (Nat.le_of_ble_eq_true rfl) ?_
      refine v_bipush dX6_row_65 (v := 8) (by decide) ?_
      refine v_icmp_ge (tgt := 105) dX6_row_67 (by decide) hF (fun hF => ?_) (fun hF => ?_)
      · exact v_sub [1, 2, 3, 4, 0] rfl (w_T_row_J105 hfr hlo hc40 hF)
      · refine v_aload_n dX6_row_70 rfl 1 rfl ?_
        refine t_geta 11 7 dX6_row_71 fl_X6_41 (Nat.le_of_ble_eq_true rfl) (fun _ _ => rfl) ?_
        refine v_iload_n dX6_row_74 rfl 4 rfl ?_
        refine t_bald 7 dX6_row_75 rfl (Nat.le_of_ble_eq_true rfl) (by decide) hF (fun v47 hF => ?_)
        refine v_aload_n dX6_row_76 rfl 1 rfl ?_
        refine t_geta 11 7 dX6_row_77 fl_X6_41 (Nat.le_of_ble_eq_true rfl) (fun _ _ => rfl) ?_
        refine v_iload_n dX6_row_80 rfl 4 rfl ?_
        refine v_iconst dX6_row_81 (v := 1) (by decide) ?_
        refine v_iadd dX6_row_82 ?_
        refine t_bald 7 dX6_row_83 rfl (Nat.le_of_ble_eq_true rfl) (by decide) hF (fun v48 hF => ?_)
        obtain ⟨v49, e_v49, hF⟩ := Option.bind_eq_some_iff.mp hF
        refine v_calS1 dX6_row_84 sl_X6_123 q1833 (ct_T_canBook e_v49) rfl rfl (Nat.le_trans (Nat.le_of_ble_eq_true rfl) hfr) (Nat.le_trans (Nat.le_of_ble_eq_true rfl) hlo) (Nat.le_of_ble_eq_true rfl) ?_
        refine v_if_eq (tgt := 105) dX6_row_87 (by decide) hF (fun hF => ?_) (fun hF => ?_)
        · exact v_sub [1, 2, 3, 4, 0] rfl (w_T_row_J105 hfr hlo hc40 hF)
        · refine v_iload dX6_row_90 0 rfl ?_
          refine v_iconst dX6_row_92 (v := 1) (by decide) ?_
          refine v_aload_n dX6_row_93 rfl 1 rfl ?_
          obtain ⟨v50, e_v50, hF⟩ := Option.bind_eq_some_iff.mp hF
          refine v_calV1 dX6_row_94 vl_X6_112 q1837 rc_ov (ct_T_bookMany e_v50) rfl rfl (Nat.le_trans (Nat.le_of_ble_eq_true rfl) hfr) (Nat.le_trans (Nat.le_of_ble_eq_true rfl) hlo) (Nat.le_of_ble_eq_true rfl) ?_
          refine v_ishl dX6_row_97 ?_
          refine v_icmp_ge (tgt := 105) dX6_row_98 (by decide) hF (fun hF => ?_) (fun hF => ?_)
          · exact v_sub [1, 2, 3, 4, 0] rfl (w_T_row_J105 hfr hlo hc40 hF)
          · refine v_iconst dX6_row_101 (v := 1) (by decide) ?_
            refine v_goto (tgt := 106) dX6_row_102 (by decide) ?_
            exact v_sub [1, 2, 3, 4, 0] rfl (w_T_row_J106 hfr hlo hc40 hF)
def T_row_J35 (N : Nat) (v2 : Int32) (v3 : Int32) (v4 : Int32) (M5 : TM) : Option (Int32 × TM) :=
  (some (tsi M5 6 v4)).bind fun (M6 : TM) =>
  T_row_L40 N (fun v52 M53 =>
    bd2 (T_settled v52 M53) fun v55 M54 =>
    some (v55, M54)) N v2 v3 (0 : Int32) M6
theorem w_T_row_J35 {l : Launch} {G : GT} {fr lo : Nat} {h0 : Hp} {m0 : Nat} {hb : Hp} {N : Nat} {r : (Int32 × TM)} (hfr : 2 ≤ fr) (hlo : 44 ≤ lo)   {v2 : Int32} {v3 : Int32} {v4 : Int32} {M5 : TM} (hF : T_row_J35 N v2 v3 v4 M5 = some r) : V l G cX6_row RX6 "row" 6 (Option.some Jvm.ClassFile.FieldType.int) fr lo h0 (ovT m0 r.2 hb) (QM G (some (.int r.1)) h0 (ovT m0 r.2 hb)) 35 [(0, .ref m0), (1, .int v2), (2, .int v3)] [.int v4, .ref m0] (ovT m0 M5 hb) := by
  unfold T_row_J35 at hF
  refine t_puti 6 dX6_row_35 pl_X6_162 rfl ?_
  refine v_letM hF (fun M6 hF => ?_)
  refine v_iconst dX6_row_38 (v := 0) (by decide) ?_
  refine v_istore_n dX6_row_39 rfl (Nat.le_of_ble_eq_true rfl) (L' := [(3, .int (0 : Int32)), (0, .ref m0), (1, .int v2), (2, .int v3)]) rfl ?_
  refine v_sub [1, 2, 3, 0] rfl (w_T_row_L40 hfr hlo ?_ N _ _ _ _ hF)
  intro v52 M53 hF
  refine v_aload_n dX6_row_171 rfl 0 rfl ?_
  refine v_iload_n dX6_row_172 rfl 1 rfl ?_
  obtain ⟨v55, M54, e_v55, hF⟩ := bd2_spec hF
  refine v_calV1 dX6_row_173 vl_X6_109 q1826 rc_ov (ct_T_settled e_v55) rfl rfl (Nat.le_trans (Nat.le_of_ble_eq_true rfl) hfr) (Nat.le_trans (Nat.le_of_ble_eq_true rfl) hlo) (Nat.le_of_ble_eq_true rfl) ?_
  cases hF
  exact v_iret dX6_row_176 rfl rfl rfl rfl
def T_row (N : Nat) (M : TM) : Option (Int32 × TM) :=
  (some (tsi M 13 (0 : Int32))).bind fun (M1 : TM) =>
  if (M.1 13) = 0 then
    bd2 (T_refuses (-6 : Int32) M1) fun v57 M56 =>
    some (v57, M56)
  else
    if (3 : Int32) = 0 then none else
    T_row_J35 N (M.1 13) (0 : Int32) (if ((M.1 13) - (M.1 13) / (3 : Int32) * (3 : Int32)) = 0 then (0 : Int32) else (1 : Int32)) M1
theorem w_T_row {l : Launch} {G : GT} {fr lo : Nat} {h0 : Hp} {m0 : Nat} {hb : Hp} {N : Nat} {r : (Int32 × TM)} (hfr : 2 ≤ fr) (hlo : 44 ≤ lo) {M : TM} (hF : T_row N M = some r) : V l G cX6_row RX6 "row" 6 (Option.some Jvm.ClassFile.FieldType.int) fr lo h0 (ovT m0 r.2 hb) (QM G (some (.int r.1)) h0 (ovT m0 r.2 hb)) 0 [(0, .ref m0)] [] (ovT m0 M hb) := by
  unfold T_row at hF
  refine v_aload_n dX6_row_0 rfl 0 rfl ?_
  refine t_geti 13 dX6_row_1 fl_X6_159 rfl ?_
  refine v_istore_n dX6_row_4 rfl (Nat.le_of_ble_eq_true rfl) (L' := [(1, .int (M.1 13)), (0, .ref m0)]) rfl ?_
  refine v_aload_n dX6_row_5 rfl 1 rfl ?_
  refine v_iconst dX6_row_6 (v := 0) (by decide) ?_
  refine t_puti 13 dX6_row_7 pl_X6_159 rfl ?_
  refine v_letM hF (fun M1 hF => ?_)
  refine v_iload_n dX6_row_10 rfl 0 rfl ?_
  refine v_if_ne (tgt := 21) dX6_row_11 (by decide) hF (fun hF => ?_) (fun hF => ?_)
  · refine v_iconst dX6_row_21 (v := 0) (by decide) ?_
    refine v_istore_n dX6_row_22 rfl (Nat.le_of_ble_eq_true rfl) (L' := [(2, .int (0 : Int32)), (1, .int (M.1 13)), (0, .ref m0)]) rfl ?_
    refine v_aload_n dX6_row_23 rfl 2 rfl ?_
    refine v_iload_n dX6_row_24 rfl 1 rfl ?_
    refine v_iconst dX6_row_25 (v := 3) (by decide) ?_
    refine v_irem dX6_row_26 hF (fun hF => ?_)
    refine v_tern (c := ((M.1 13) - (M.1 13) / (3 : Int32) * (3 : Int32)) = 0) (x := (0 : Int32)) (y := (1 : Int32)) (pcj := 35) (st := [.ref m0]) ?_ (fun kt kf => v_if_ne0 (tgt := 34) dX6_row_27 (by decide) kt kf) (fun K => ?_) (fun K => ?_)
    · exact v_sub [2, 1, 0] rfl (w_T_row_J35 hfr hlo hF)
    · refine v_iconst dX6_row_30 (v := 0) (by decide) ?_
      refine v_goto (tgt := 35) dX6_row_31 (by decide) ?_
      exact K
    · refine v_iconst dX6_row_34 (v := 1) (by decide) ?_
      exact K
  · refine v_aload_n dX6_row_14 rfl 1 rfl ?_
    refine v_bipush dX6_row_15 (v := -6) (by decide) ?_
    obtain ⟨v57, M56, e_v57, hF⟩ := bd2_spec hF
    refine v_calV1 dX6_row_17 vl_X6_106 q1814 rc_ov (ct_T_refuses e_v57) rfl rfl (Nat.le_trans (Nat.le_of_ble_eq_true rfl) hfr) (Nat.le_trans (Nat.le_of_ble_eq_true rfl) hlo) (Nat.le_of_ble_eq_true rfl) ?_
    cases hF
    exact v_iret dX6_row_20 rfl rfl rfl rfl
theorem ct_T_row {l : Launch} {G : GT} {m0 : Nat} {hb : Hp} {N : Nat} {r : (Int32 × TM)} {M : TM} (hF : T_row N M = some r) : Ct l G yX6_row (ws_ yX6_row cX6_row 6 (Option.some Jvm.ClassFile.FieldType.int)) 2 44 [.ref m0] (ovT m0 M hb) (some (.int r.1)) (ovT m0 r.2 hb) :=
  ct_of (by decide) (Nat.le_of_ble_eq_true rfl) (w_T_row (Nat.le_refl _) (Nat.le_refl _) hF)
def T_slugs (M : TM) : Option Int32 :=
  some (M.1 6)
theorem w_T_slugs {l : Launch} {G : GT} {fr lo : Nat} {h0 : Hp} {m0 : Nat} {hb : Hp} {M : TM} {r : Int32} (hfr : 0 ≤ fr) (hlo : 0 ≤ lo)  (hF : T_slugs M = some r) : V l G cX6_slugs RX6 "slugs" 1 (Option.some Jvm.ClassFile.FieldType.int) fr lo h0 (ovT m0 M hb) (QM G (some (.int r)) h0 (ovT m0 M hb)) 0 [(0, .ref m0)] [] (ovT m0 M hb) := by
  unfold T_slugs at hF
  refine v_aload_n dX6_slugs_0 rfl 0 rfl ?_
  refine t_geti 6 dX6_slugs_1 fl_X6_162 rfl ?_
  cases hF
  exact v_iret dX6_slugs_4 rfl rfl rfl rfl
theorem ct_T_slugs {l : Launch} {G : GT} {m0 : Nat} {hb : Hp} {M : TM} {r : Int32}  (hF : T_slugs M = some r) : Ct l G yX6_slugs (ws_ yX6_slugs cX6_slugs 1 (Option.some Jvm.ClassFile.FieldType.int)) 0 0 [.ref m0] (ovT m0 M hb) (some (.int r)) (ovT m0 M hb) :=
  ct_of (by decide) (Nat.le_of_ble_eq_true rfl) (w_T_slugs (Nat.le_refl _) (Nat.le_refl _) hF)
theorem fl_X6_44 : FL RX6 44 [6] 12 := by
  intro ci h
  simp only [List.mem_cons, List.not_mem_nil, or_false] at h
  subst h; exact ⟨RX6, _, TX6, 56, rfl, in_X6, by decide, Or.inl q1646, Or.inl rfl⟩
def T_feed_L55 (N : Nat) (x55 : TM → Option (Int32 × TM)) : Nat → Int32 → TM → Option (Int32 × TM)
  | 0, _, _ => none
  | n11 + 1, v6, M7 =>
    if (20 : Int32) ≤ v6 then
      x55 M7
    else
      if (4 : Int32) = 0 then none else
      (tra M7 12 5 (v6 / (4 : Int32))).bind fun v9 =>
      if (4 : Int32) = 0 then none else
      (twb M7 1 11 400 ((M7.1 13) + v6) ((v9 >>> (((24 : Int32) - ((8 : Int32) * (v6 - v6 / (4 : Int32) * (4 : Int32)))) &&& 31)).toInt8.toInt32)).bind fun M10 =>
      (T_feed_L55 N x55 n11) (v6 + (1 : Int32)) M10
theorem w_T_feed_L55 {l : Launch} {G : GT} {fr lo : Nat} {h0 : Hp} {m0 : Nat} {hb : Hp} {N : Nat} {r : (Int32 × TM)} (hfr : 0 ≤ fr) (hlo : 0 ≤ lo) {x55 : TM → Option (Int32 × TM)} (hx55 : ∀ (M8 : TM), x55 M8 = some r → V l G cX6_feed RX6 "feed" 7 (Option.some Jvm.ClassFile.FieldType.int) fr lo h0 (ovT m0 r.2 hb) (QM G (some (.int r.1)) h0 (ovT m0 r.2 hb)) 101 [(0, .ref m0)] [] (ovT m0 M8 hb)) : ∀ (n : Nat) (v6 : Int32) (M7 : TM), T_feed_L55 N x55 n v6 M7 = some r → V l G cX6_feed RX6 "feed" 7 (Option.some Jvm.ClassFile.FieldType.int) fr lo h0 (ovT m0 r.2 hb) (QM G (some (.int r.1)) h0 (ovT m0 r.2 hb)) 55 [(0, .ref m0), (6, .int v6)] [] (ovT m0 M7 hb) := by
  intro n
  induction n with
  | zero =>
    intro v6 M7 hF
    cases (show (none : Option (Int32 × TM)) = some r from hF)
  | succ n hc55 =>
    intro v6 M7 hF
    rw [T_feed_L55] at hF
    refine v_iload dX6_feed_55 1 rfl ?_
    refine v_bipush dX6_feed_57 (v := 20) (by decide) ?_
    refine v_icmp_ge (tgt := 101) dX6_feed_59 (by decide) hF (fun hF => ?_) (fun hF => ?_)
    · exact v_sub [0] rfl (hx55 _ hF)
    · refine v_aload_n dX6_feed_62 rfl 0 rfl ?_
      refine t_geta 11 7 dX6_feed_63 fl_X6_41 (Nat.le_of_ble_eq_true rfl) (fun _ _ => rfl) ?_
      refine v_aload_n dX6_feed_66 rfl 0 rfl ?_
      refine t_geti 13 dX6_feed_67 fl_X6_159 rfl ?_
      refine v_iload dX6_feed_70 1 rfl ?_
      refine v_iadd dX6_feed_72 ?_
      refine v_aload_n dX6_feed_73 rfl 0 rfl ?_
      refine t_geta 12 8 dX6_feed_74 fl_X6_44 (Nat.le_of_ble_eq_true rfl) (fun _ _ => rfl) ?_
      refine v_iload dX6_feed_77 1 rfl ?_
      refine v_iconst dX6_feed_79 (v := 4) (by decide) ?_
      refine v_idiv dX6_feed_80 hF (fun hF => ?_)
      refine t_iald 8 dX6_feed_81 rfl (Nat.le_of_ble_eq_true rfl) (by decide) hF (fun v9 hF => ?_)
      refine v_bipush dX6_feed_82 (v := 24) (by decide) ?_
      refine v_bipush dX6_feed_84 (v := 8) (by decide) ?_
      refine v_iload dX6_feed_86 1 rfl ?_
      refine v_iconst dX6_feed_88 (v := 4) (by decide) ?_
      refine v_irem dX6_feed_89 hF (fun hF => ?_)
      refine v_imul dX6_feed_90 ?_
      refine v_isub dX6_feed_91 ?_
      refine v_ishr dX6_feed_92 ?_
      refine v_i2b dX6_feed_93 ?_
      refine t_bast 7 dX6_feed_94 rfl (Nat.le_of_ble_eq_true rfl) (by decide) hF (fun M10 hF => ?_)
      refine v_iinc dX6_feed_95 1 rfl (v := v6 + (1 : Int32)) (by rfl) (Nat.le_of_ble_eq_true rfl) (L' := [(6, .int (v6 + (1 : Int32))), (0, .ref m0)]) rfl ?_
      refine v_goto (tgt := 55) dX6_feed_98 (by decide) ?_
      exact v_sub [1, 0] rfl (hc55 _ _ hF)
def T_feed (N : Nat) (a1 : Int32) (a2 : Int32) (a3 : Int32) (a4 : Int32) (a5 : Int32) (M : TM) : Option (Int32 × TM) :=
  if ((M.1 13) + (20 : Int32)) ≤ (400 : Int32) then
    (twa M 12 5 (0 : Int32) a1).bind fun M1 =>
    (twa M1 12 5 (1 : Int32) a2).bind fun M2 =>
    (twa M2 12 5 (2 : Int32) a3).bind fun M3 =>
    (twa M3 12 5 (3 : Int32) a4).bind fun M4 =>
    (twa M4 12 5 (4 : Int32) a5).bind fun M5 =>
    T_feed_L55 N (fun M12 =>
      (some (tsi M12 13 ((M12.1 13) + (20 : Int32)))).bind fun (M13 : TM) =>
      some ((M13.1 13), M13)) N (0 : Int32) M5
  else
    some ((-1 : Int32), M)
theorem w_T_feed {l : Launch} {G : GT} {fr lo : Nat} {h0 : Hp} {m0 : Nat} {hb : Hp} {N : Nat} {r : (Int32 × TM)} (hfr : 0 ≤ fr) (hlo : 0 ≤ lo) {a1 : Int32} {a2 : Int32} {a3 : Int32} {a4 : Int32} {a5 : Int32} {M : TM} (hF : T_feed N a1 a2 a3 a4 a5 M = some r) : V l G cX6_feed RX6 "feed" 7 (Option.some Jvm.ClassFile.FieldType.int) fr lo h0 (ovT m0 r.2 hb) (QM G (some (.int r.1)) h0 (ovT m0 r.2 hb)) 0 [(0, .ref m0), (1, .int a1), (2, .int a2), (3, .int a3), (4, .int a4), (5, .int a5)] [] (ovT m0 M hb) := by
  unfold T_feed at hF
  refine v_aload_n dX6_feed_0 rfl 0 rfl ?_
  refine t_geti 13 dX6_feed_1 fl_X6_159 rfl ?_
  refine v_bipush dX6_feed_4 (v := 20) (by decide) ?_
  refine v_iadd dX6_feed_6 ?_
  refine v_sipush dX6_feed_7 (v := 400) (by decide) ?_
  refine v_icmp_le (tgt := 15) dX6_feed_10 (by decide) hF (fun hF => ?_) (fun hF => ?_)
  · refine v_aload_n dX6_feed_15 rfl 0 rfl ?_
    refine t_geta 12 8 dX6_feed_16 fl_X6_44 (Nat.le_of_ble_eq_true rfl) (fun _ _ => rfl) ?_
    refine v_iconst dX6_feed_19 (v := 0) (by decide) ?_
    refine v_iload_n dX6_feed_20 rfl 1 rfl ?_
    refine t_iast 8 dX6_feed_21 rfl (Nat.le_of_ble_eq_true rfl) (by decide) hF (fun M1 hF => ?_)
    refine v_aload_n dX6_feed_22 rfl 0 rfl ?_
    refine t_geta 12 8 dX6_feed_23 fl_X6_44 (Nat.le_of_ble_eq_true rfl) (fun _ _ => rfl) ?_
    refine v_iconst dX6_feed_26 (v := 1) (by decide) ?_
    refine v_iload_n dX6_feed_27 rfl 2 rfl ?_
    refine t_iast 8 dX6_feed_28 rfl (Nat.le_of_ble_eq_true rfl) (by decide) hF (fun M2 hF => ?_)
    refine v_aload_n dX6_feed_29 rfl 0 rfl ?_
    refine t_geta 12 8 dX6_feed_30 fl_X6_44 (Nat.le_of_ble_eq_true rfl) (fun _ _ => rfl) ?_
    refine v_iconst dX6_feed_33 (v := 2) (by decide) ?_
    refine v_iload_n dX6_feed_34 rfl 3 rfl ?_
    refine t_iast 8 dX6_feed_35 rfl (Nat.le_of_ble_eq_true rfl) (by decide) hF (fun M3 hF => ?_)
    refine v_aload_n dX6_feed_36 rfl 0 rfl ?_
    refine t_geta 12 8 dX6_feed_37 fl_X6_44 (Nat.le_of_ble_eq_true rfl) (fun _ _ => rfl) ?_
    refine v_iconst dX6_feed_40 (v := 3) (by decide) ?_
    refine v_iload dX6_feed_41 4 rfl ?_
    refine t_iast 8 dX6_feed_43 rfl (Nat.le_of_ble_eq_true rfl) (by decide) hF (fun M4 hF => ?_)
    refine v_aload_n dX6_feed_44 rfl 0 rfl ?_
    refine t_geta 12 8 dX6_feed_45 fl_X6_44 (Nat.le_of_ble_eq_true rfl) (fun _ _ => rfl) ?_
    refine v_iconst dX6_feed_48 (v := 4) (by decide) ?_
    refine v_iload dX6_feed_49 5 rfl ?_
    refine t_iast 8 dX6_feed_51 rfl (Nat.le_of_ble_eq_true rfl) (by decide) hF (fun M5 hF => ?_)
    refine v_iconst dX6_feed_52 (v := 0) (by decide) ?_
    refine v_istore dX6_feed_53 (Nat.le_of_ble_eq_true rfl) (L' := [(6, .int (0 : Int32)), (0, .ref m0), (1, .int a1), (2, .int a2), (3, .int a3), (4, .int a4), (5, .int a5)]) rfl ?_
    refine v_sub [1, 0] rfl (w_T_feed_L55 hfr hlo ?_ N _ _ hF)
    intro M12 hF
    refine v_aload_n dX6_feed_101 rfl 0 rfl ?_
    refine v_dup dX6_feed_102 rfl ?_
    refine t_geti 13 dX6_feed_103 fl_X6_159 rfl ?_
    refine v_bipush dX6_feed_106 (v := 20) (by decide) ?_
    refine v_iadd dX6_feed_108 ?_
    refine t_puti 13 dX6_feed_109 pl_X6_159 rfl ?_
    refine v_letM hF (fun M13 hF => ?_)
    refine v_aload_n dX6_feed_112 rfl 0 rfl ?_
    refine t_geti 13 dX6_feed_113 fl_X6_159 rfl ?_
    cases hF
    exact v_iret dX6_feed_116 rfl rfl rfl rfl
  · refine v_iconst dX6_feed_13 (v := -1) (by decide) ?_
    cases hF
    exact v_iret dX6_feed_14 rfl rfl rfl rfl
theorem ct_T_feed {l : Launch} {G : GT} {m0 : Nat} {hb : Hp} {N : Nat} {r : (Int32 × TM)} {a1 : Int32} {a2 : Int32} {a3 : Int32} {a4 : Int32} {a5 : Int32} {M : TM} (hF : T_feed N a1 a2 a3 a4 a5 M = some r) : Ct l G yX6_feed (ws_ yX6_feed cX6_feed 7 (Option.some Jvm.ClassFile.FieldType.int)) 0 0 [.ref m0, .int a1, .int a2, .int a3, .int a4, .int a5] (ovT m0 M hb) (some (.int r.1)) (ovT m0 r.2 hb) :=
  ct_of (by decide) (Nat.le_of_ble_eq_true rfl) (w_T_feed (Nat.le_refl _) (Nat.le_refl _) hF)
def T_end (a1 : Int32) (M : TM) : Option (Int32 × TM) :=
  (T_lies a1 (0 : Int32) (M.1 13)).bind fun v1 =>
  if v1 = 0 then
    some ((-1 : Int32), M)
  else
    (some (tsi M 13 a1)).bind fun (M2 : TM) =>
    some (a1, M2)
theorem w_T_end {l : Launch} {G : GT} {fr lo : Nat} {h0 : Hp} {m0 : Nat} {hb : Hp} {r : (Int32 × TM)} (hfr : 1 ≤ fr) (hlo : 22 ≤ lo) {a1 : Int32} {M : TM} (hF : T_end a1 M = some r) : V l G cX6_end RX6 "end" 2 (Option.some Jvm.ClassFile.FieldType.int) fr lo h0 (ovT m0 r.2 hb) (QM G (some (.int r.1)) h0 (ovT m0 r.2 hb)) 0 [(0, .ref m0), (1, .int a1)] [] (ovT m0 M hb) := by
  unfold T_end at hF
  refine v_iload_n dX6_end_0 rfl 1 rfl ?_
  refine v_iconst dX6_end_1 (v := 0) (by decide) ?_
  refine v_aload_n dX6_end_2 rfl 0 rfl ?_
  refine t_geti 13 dX6_end_3 fl_X6_159 rfl ?_
  obtain ⟨v1, e_v1, hF⟩ := Option.bind_eq_some_iff.mp hF
  refine v_calS1 dX6_end_6 sl_X6_102 q1810 (ct_T_lies e_v1) rfl rfl (Nat.le_trans (Nat.le_of_ble_eq_true rfl) hfr) (Nat.le_trans (Nat.le_of_ble_eq_true rfl) hlo) (Nat.le_of_ble_eq_true rfl) ?_
  refine v_if_ne (tgt := 14) dX6_end_9 (by decide) hF (fun hF => ?_) (fun hF => ?_)
  · refine v_aload_n dX6_end_14 rfl 0 rfl ?_
    refine v_iload_n dX6_end_15 rfl 1 rfl ?_
    refine t_puti 13 dX6_end_16 pl_X6_159 rfl ?_
    refine v_letM hF (fun M2 hF => ?_)
    refine v_iload_n dX6_end_19 rfl 1 rfl ?_
    cases hF
    exact v_iret dX6_end_20 rfl rfl rfl rfl
  · refine v_iconst dX6_end_12 (v := -1) (by decide) ?_
    cases hF
    exact v_iret dX6_end_13 rfl rfl rfl rfl
theorem ct_T_end {l : Launch} {G : GT} {m0 : Nat} {hb : Hp} {r : (Int32 × TM)} {a1 : Int32} {M : TM} (hF : T_end a1 M = some r) : Ct l G yX6_end (ws_ yX6_end cX6_end 2 (Option.some Jvm.ClassFile.FieldType.int)) 1 22 [.ref m0, .int a1] (ovT m0 M hb) (some (.int r.1)) (ovT m0 r.2 hb) :=
  ct_of (by decide) (Nat.le_of_ble_eq_true rfl) (w_T_end (Nat.le_refl _) (Nat.le_refl _) hF)
theorem fl_X6_165 : FL RX6 165 [6] 18 := by
  intro ci h
  simp only [List.mem_cons, List.not_mem_nil, or_false] at h
  subst h; exact ⟨RX6, _, TX6, 56, rfl, in_X6, by decide, Or.inl q1652, Or.inl rfl⟩
theorem fl_X6_50 : FL RX6 50 [6] 15 := by
  intro ci h
  simp only [List.mem_cons, List.not_mem_nil, or_false] at h
  subst h; exact ⟨RX6, _, TX6, 56, rfl, in_X6, by decide, Or.inl q1649, Or.inl rfl⟩
theorem fl_X6_53 : FL RX6 53 [6] 16 := by
  intro ci h
  simp only [List.mem_cons, List.not_mem_nil, or_false] at h
  subst h; exact ⟨RX6, _, TX6, 56, rfl, in_X6, by decide, Or.inl q1650, Or.inl rfl⟩
def T_lays_L15 (N : Nat) (x15 : TM → Option TM) : Nat → Int32 → Int32 → TM → Option TM
  | 0, _, _, _ => none
  | n10 + 1, v2, v3, M4 =>
    if (M4.1 18) ≤ v3 then
      x15 M4
    else
      (tra M4 15 401 v3).bind fun v6 =>
      (twa M4 2 5660 (((60 : Int32) + ((400 : Int32) * v2)) + v3) v6).bind fun M7 =>
      (tra M7 16 401 v3).bind fun v8 =>
      (twa M7 2 5660 (((2860 : Int32) + ((400 : Int32) * v2)) + v3) v8).bind fun M9 =>
      (T_lays_L15 N x15 n10) v2 (v3 + (1 : Int32)) M9
theorem w_T_lays_L15 {l : Launch} {G : GT} {fr lo : Nat} {h0 : Hp} {m0 : Nat} {hb : Hp} {N : Nat} {r : TM} (hfr : 0 ≤ fr) (hlo : 0 ≤ lo) {x15 : TM → Option TM} (hx15 : ∀ (M5 : TM), x15 M5 = some r → V l G cX6_lays RX6 "lays" 3 (Option.none : Option Jvm.ClassFile.FieldType) fr lo h0 (ovT m0 r hb) (QM G none h0 (ovT m0 r hb)) 72 [] [] (ovT m0 M5 hb)) : ∀ (n : Nat) (v2 : Int32) (v3 : Int32) (M4 : TM), T_lays_L15 N x15 n v2 v3 M4 = some r → V l G cX6_lays RX6 "lays" 3 (Option.none : Option Jvm.ClassFile.FieldType) fr lo h0 (ovT m0 r hb) (QM G none h0 (ovT m0 r hb)) 15 [(0, .ref m0), (1, .int v2), (2, .int v3)] [] (ovT m0 M4 hb) := by
  intro n
  induction n with
  | zero =>
    intro v2 v3 M4 hF
    cases (show (none : Option TM) = some r from hF)
  | succ n hc15 =>
    intro v2 v3 M4 hF
    rw [T_lays_L15] at hF
    refine v_iload_n dX6_lays_15 rfl 2 rfl ?_
    refine v_aload_n dX6_lays_16 rfl 0 rfl ?_
    refine t_geti 18 dX6_lays_17 fl_X6_165 rfl ?_
    refine v_icmp_ge (tgt := 72) dX6_lays_20 (by decide) hF (fun hF => ?_) (fun hF => ?_)
    · exact v_sub [] rfl (hx15 _ hF)
    · refine v_aload_n dX6_lays_23 rfl 0 rfl ?_
      refine t_geta 2 2 dX6_lays_24 fl_X6_24 (Nat.le_of_ble_eq_true rfl) (fun _ _ => rfl) ?_
      refine v_bipush dX6_lays_27 (v := 60) (by decide) ?_
      refine v_sipush dX6_lays_29 (v := 400) (by decide) ?_
      refine v_iload_n dX6_lays_32 rfl 1 rfl ?_
      refine v_imul dX6_lays_33 ?_
      refine v_iadd dX6_lays_34 ?_
      refine v_iload_n dX6_lays_35 rfl 2 rfl ?_
      refine v_iadd dX6_lays_36 ?_
      refine v_aload_n dX6_lays_37 rfl 0 rfl ?_
      refine t_geta 15 9 dX6_lays_38 fl_X6_50 (Nat.le_of_ble_eq_true rfl) (fun _ _ => rfl) ?_
      refine v_iload_n dX6_lays_41 rfl 2 rfl ?_
      refine t_iald 9 dX6_lays_42 rfl (Nat.le_of_ble_eq_true rfl) (by decide) hF (fun v6 hF => ?_)
      refine t_iast 2 dX6_lays_43 rfl (Nat.le_of_ble_eq_true rfl) (by decide) hF (fun M7 hF => ?_)
      refine v_aload_n dX6_lays_44 rfl 0 rfl ?_
      refine t_geta 2 2 dX6_lays_45 fl_X6_24 (Nat.le_of_ble_eq_true rfl) (fun _ _ => rfl) ?_
      refine v_sipush dX6_lays_48 (v := 2860) (by decide) ?_
      refine v_sipush dX6_lays_51 (v := 400) (by decide) ?_
      refine v_iload_n dX6_lays_54 rfl 1 rfl ?_
      refine v_imul dX6_lays_55 ?_
      refine v_iadd dX6_lays_56 ?_
      refine v_iload_n dX6_lays_57 rfl 2 rfl ?_
      refine v_iadd dX6_lays_58 ?_
      refine v_aload_n dX6_lays_59 rfl 0 rfl ?_
      refine t_geta 16 10 dX6_lays_60 fl_X6_53 (Nat.le_of_ble_eq_true rfl) (fun _ _ => rfl) ?_
      refine v_iload_n dX6_lays_63 rfl 2 rfl ?_
      refine t_iald 10 dX6_lays_64 rfl (Nat.le_of_ble_eq_true rfl) (by decide) hF (fun v8 hF => ?_)
      refine t_iast 2 dX6_lays_65 rfl (Nat.le_of_ble_eq_true rfl) (by decide) hF (fun M9 hF => ?_)
      refine v_iinc dX6_lays_66 2 rfl (v := v3 + (1 : Int32)) (by rfl) (Nat.le_of_ble_eq_true rfl) (L' := [(2, .int (v3 + (1 : Int32))), (0, .ref m0), (1, .int v2)]) rfl ?_
      refine v_goto (tgt := 15) dX6_lays_69 (by decide) ?_
      exact v_sub [1, 2, 0] rfl (hc15 _ _ _ hF)
def T_lays (N : Nat) (a1 : Int32) (M : TM) : Option TM :=
  (twa M 2 5660 ((53 : Int32) + a1) (M.1 18)).bind fun M1 =>
  T_lays_L15 N (fun M11 =>
    some M11) N a1 (0 : Int32) M1
theorem w_T_lays {l : Launch} {G : GT} {fr lo : Nat} {h0 : Hp} {m0 : Nat} {hb : Hp} {N : Nat} {r : TM} (hfr : 0 ≤ fr) (hlo : 0 ≤ lo) {a1 : Int32} {M : TM} (hF : T_lays N a1 M = some r) : V l G cX6_lays RX6 "lays" 3 (Option.none : Option Jvm.ClassFile.FieldType) fr lo h0 (ovT m0 r hb) (QM G none h0 (ovT m0 r hb)) 0 [(0, .ref m0), (1, .int a1)] [] (ovT m0 M hb) := by
  unfold T_lays at hF
  refine v_aload_n dX6_lays_0 rfl 0 rfl ?_
  refine t_geta 2 2 dX6_lays_1 fl_X6_24 (Nat.le_of_ble_eq_true rfl) (fun _ _ => rfl) ?_
  refine v_bipush dX6_lays_4 (v := 53) (by decide) ?_
  refine v_iload_n dX6_lays_6 rfl 1 rfl ?_
  refine v_iadd dX6_lays_7 ?_
  refine v_aload_n dX6_lays_8 rfl 0 rfl ?_
  refine t_geti 18 dX6_lays_9 fl_X6_165 rfl ?_
  refine t_iast 2 dX6_lays_12 rfl (Nat.le_of_ble_eq_true rfl) (by decide) hF (fun M1 hF => ?_)
  refine v_iconst dX6_lays_13 (v := 0) (by decide) ?_
  refine v_istore_n dX6_lays_14 rfl (Nat.le_of_ble_eq_true rfl) (L' := [(2, .int (0 : Int32)), (0, .ref m0), (1, .int a1)]) rfl ?_
  refine v_sub [1, 2, 0] rfl (w_T_lays_L15 hfr hlo ?_ N _ _ _ hF)
  intro M11 hF
  cases hF
  exact v_vret dX6_lays_72 rfl rfl rfl
theorem ct_T_lays {l : Launch} {G : GT} {m0 : Nat} {hb : Hp} {N : Nat} {r : TM} {a1 : Int32} {M : TM} (hF : T_lays N a1 M = some r) : Ct l G yX6_lays (ws_ yX6_lays cX6_lays 3 (Option.none : Option Jvm.ClassFile.FieldType)) 0 0 [.ref m0, .int a1] (ovT m0 M hb) none (ovT m0 r hb) :=
  ct_of (by decide) (Nat.le_of_ble_eq_true rfl) (w_T_lays (Nat.le_refl _) (Nat.le_refl _) hF)
theorem fl_X6_178 : FL RX6 178 [6] 21 := by
  intro ci h
  simp only [List.mem_cons, List.not_mem_nil, or_false] at h
  subst h; exact ⟨RX6, _, TX6, 56, rfl, in_X6, by decide, Or.inl q1655, Or.inl rfl⟩
def T_fine (M : TM) : Option Int32 :=
  (rz (if (M.1 21) = (-1 : Int32) then (1 : Int32) else (0 : Int32))).bind fun v1 => some v1
theorem w_T_fine {l : Launch} {G : GT} {fr lo : Nat} {h0 : Hp} {m0 : Nat} {hb : Hp} {M : TM} {r : Int32} (hfr : 0 ≤ fr) (hlo : 0 ≤ lo)  (hF : T_fine M = some r) : V l G cX6_fine RX6 "fine" 1 (Option.some Jvm.ClassFile.FieldType.boolean) fr lo h0 (ovT m0 M hb) (QM G (some (.int r)) h0 (ovT m0 M hb)) 0 [(0, .ref m0)] [] (ovT m0 M hb) := by
  unfold T_fine at hF
  refine v_aload_n dX6_fine_0 rfl 0 rfl ?_
  refine t_geti 21 dX6_fine_1 fl_X6_178 rfl ?_
  refine v_iconst dX6_fine_4 (v := -1) (by decide) ?_
  refine v_tern (c := (M.1 21) = (-1 : Int32)) (x := (1 : Int32)) (y := (0 : Int32)) (pcj := 13) (st := []) ?_ (fun kt kf => v_icmp_ne0 (tgt := 12) dX6_fine_5 (by decide) kt kf) (fun K => ?_) (fun K => ?_)
  · refine v_zchk hF (fun v1 hz hF => ?_)
    cases hF
    exact v_iret dX6_fine_13 rfl (nar_z hz) rfl rfl
  · refine v_iconst dX6_fine_8 (v := 1) (by decide) ?_
    refine v_goto (tgt := 13) dX6_fine_9 (by decide) ?_
    exact K
  · refine v_iconst dX6_fine_12 (v := 0) (by decide) ?_
    exact K
theorem ct_T_fine {l : Launch} {G : GT} {m0 : Nat} {hb : Hp} {M : TM} {r : Int32}  (hF : T_fine M = some r) : Ct l G yX6_fine (ws_ yX6_fine cX6_fine 1 (Option.some Jvm.ClassFile.FieldType.boolean)) 0 0 [.ref m0] (ovT m0 M hb) (some (.int r)) (ovT m0 M hb) :=
  ct_of (by decide) (Nat.le_of_ble_eq_true rfl) (w_T_fine (Nat.le_refl _) (Nat.le_refl _) hF)
theorem vl_X6_181 : ∀ ci ∈ [6], VL RX6 181 ci yX6_fine 0 := by
  intro ci h
  simp only [List.mem_cons, List.not_mem_nil, or_false] at h
  subst h; exact ⟨RX6, TX6, 56, rfl, q146, ⟨by decide, by decide⟩, by decide +kernel, q2032, Or.inl ⟨q2030, qs86⟩⟩
theorem fl_X6_56 : FL RX6 56 [6] 17 := by
  intro ci h
  simp only [List.mem_cons, List.not_mem_nil, or_false] at h
  subst h; exact ⟨RX6, _, TX6, 56, rfl, in_X6, by decide, Or.inl q1651, Or.inl rfl⟩
theorem fl_X6_185 : FL RX6 185 [6] 19 := by
  intro ci h
  simp only [List.mem_cons, List.not_mem_nil, or_false] at h
  subst h; exact ⟨RX6, _, TX6, 56, rfl, in_X6, by decide, Or.inl q1653, Or.inl rfl⟩
theorem pl_X6_178 : PL RX6 178 [6] 21 (.int) false := by
  intro ci h
  simp only [List.mem_cons, List.not_mem_nil, or_false] at h
  subst h; exact ⟨RX6, _, TX6, 56, tyX6, rfl, in_X6, by decide, Or.inl q1655, Or.inl rfl, tyX6_ok, rfl, by decide +kernel, rfl, fun z => by cases z⟩
def T_faults (M : TM) : Option TM :=
  (T_fine M).bind fun v1 =>
  if v1 = 0 then
    some M
  else
    (tra M 17 401 (M.1 19)).bind fun v2 =>
    (some (tsi M 21 v2)).bind fun (M3 : TM) =>
    some M3
theorem w_T_faults {l : Launch} {G : GT} {fr lo : Nat} {h0 : Hp} {m0 : Nat} {hb : Hp} {r : TM} (hfr : 1 ≤ fr) (hlo : 20 ≤ lo) {M : TM} (hF : T_faults M = some r) : V l G cX6_faults RX6 "faults" 1 (Option.none : Option Jvm.ClassFile.FieldType) fr lo h0 (ovT m0 r hb) (QM G none h0 (ovT m0 r hb)) 0 [(0, .ref m0)] [] (ovT m0 M hb) := by
  unfold T_faults at hF
  refine v_aload_n dX6_faults_0 rfl 0 rfl ?_
  obtain ⟨v1, e_v1, hF⟩ := Option.bind_eq_some_iff.mp hF
  refine v_calV1 dX6_faults_1 vl_X6_181 q2033 rc_ov (ct_T_fine e_v1) rfl rfl (Nat.le_trans (Nat.le_of_ble_eq_true rfl) hfr) (Nat.le_trans (Nat.le_of_ble_eq_true rfl) hlo) (Nat.le_of_ble_eq_true rfl) ?_
  refine v_if_eq (tgt := 20) dX6_faults_4 (by decide) hF (fun hF => ?_) (fun hF => ?_)
  · cases hF
    exact v_vret dX6_faults_20 rfl rfl rfl
  · refine v_aload_n dX6_faults_7 rfl 0 rfl ?_
    refine v_aload_n dX6_faults_8 rfl 0 rfl ?_
    refine t_geta 17 11 dX6_faults_9 fl_X6_56 (Nat.le_of_ble_eq_true rfl) (fun _ _ => rfl) ?_
    refine v_aload_n dX6_faults_12 rfl 0 rfl ?_
    refine t_geti 19 dX6_faults_13 fl_X6_185 rfl ?_
    refine t_iald 11 dX6_faults_16 rfl (Nat.le_of_ble_eq_true rfl) (by decide) hF (fun v2 hF => ?_)
    refine t_puti 21 dX6_faults_17 pl_X6_178 rfl ?_
    refine v_letM hF (fun M3 hF => ?_)
    cases hF
    exact v_vret dX6_faults_20 rfl rfl rfl
theorem ct_T_faults {l : Launch} {G : GT} {m0 : Nat} {hb : Hp} {r : TM} {M : TM} (hF : T_faults M = some r) : Ct l G yX6_faults (ws_ yX6_faults cX6_faults 1 (Option.none : Option Jvm.ClassFile.FieldType)) 1 20 [.ref m0] (ovT m0 M hb) none (ovT m0 r hb) :=
  ct_of (by decide) (Nat.le_of_ble_eq_true rfl) (w_T_faults (Nat.le_refl _) (Nat.le_refl _) hF)
theorem pl_X6_185 : PL RX6 185 [6] 19 (.int) false := by
  intro ci h
  simp only [List.mem_cons, List.not_mem_nil, or_false] at h
  subst h; exact ⟨RX6, _, TX6, 56, tyX6, rfl, in_X6, by decide, Or.inl q1653, Or.inl rfl, tyX6_ok, rfl, by decide +kernel, rfl, fun z => by cases z⟩
def T_takes0_J25 (v3 : Int32) (M4 : TM) : Option (Int32 × TM) :=
  if v3 = 0 then
    (rz v3).bind fun v5 => some (v5, M4)
  else
    (some (tsi M4 19 ((M4.1 19) + (1 : Int32)))).bind fun (M6 : TM) =>
    (rz v3).bind fun v7 => some (v7, M6)
theorem w_T_takes0_J25 {l : Launch} {G : GT} {fr lo : Nat} {h0 : Hp} {m0 : Nat} {hb : Hp} {r : (Int32 × TM)} (hfr : 1 ≤ fr) (hlo : 20 ≤ lo)   {v3 : Int32} {M4 : TM} (hF : T_takes0_J25 v3 M4 = some r) : V l G cX6_takes0 RX6 "takes0" 3 (Option.some Jvm.ClassFile.FieldType.boolean) fr lo h0 (ovT m0 r.2 hb) (QM G (some (.int r.1)) h0 (ovT m0 r.2 hb)) 25 [(0, .ref m0)] [.int v3] (ovT m0 M4 hb) := by
  unfold T_takes0_J25 at hF
  refine v_istore_n dX6_takes0_25 rfl (Nat.le_of_ble_eq_true rfl) (L' := [(2, .int v3), (0, .ref m0)]) rfl ?_
  refine v_iload_n dX6_takes0_26 rfl 0 rfl ?_
  refine v_if_eq (tgt := 40) dX6_takes0_27 (by decide) hF (fun hF => ?_) (fun hF => ?_)
  · refine v_iload_n dX6_takes0_40 rfl 0 rfl ?_
    refine v_zchk hF (fun v5 hz hF => ?_)
    cases hF
    exact v_iret dX6_takes0_41 rfl (nar_z hz) rfl rfl
  · refine v_aload_n dX6_takes0_30 rfl 1 rfl ?_
    refine v_dup dX6_takes0_31 rfl ?_
    refine t_geti 19 dX6_takes0_32 fl_X6_185 rfl ?_
    refine v_iconst dX6_takes0_35 (v := 1) (by decide) ?_
    refine v_iadd dX6_takes0_36 ?_
    refine t_puti 19 dX6_takes0_37 pl_X6_185 rfl ?_
    refine v_letM hF (fun M6 hF => ?_)
    refine v_iload_n dX6_takes0_40 rfl 0 rfl ?_
    refine v_zchk hF (fun v7 hz hF => ?_)
    cases hF
    exact v_iret dX6_takes0_41 rfl (nar_z hz) rfl rfl
def T_takes0_J24 (M2 : TM) : Option (Int32 × TM) :=
  T_takes0_J25 (0 : Int32) M2
theorem w_T_takes0_J24 {l : Launch} {G : GT} {fr lo : Nat} {h0 : Hp} {m0 : Nat} {hb : Hp} {r : (Int32 × TM)} (hfr : 1 ≤ fr) (hlo : 20 ≤ lo)   {M2 : TM} (hF : T_takes0_J24 M2 = some r) : V l G cX6_takes0 RX6 "takes0" 3 (Option.some Jvm.ClassFile.FieldType.boolean) fr lo h0 (ovT m0 r.2 hb) (QM G (some (.int r.1)) h0 (ovT m0 r.2 hb)) 24 [(0, .ref m0)] [] (ovT m0 M2 hb) := by
  unfold T_takes0_J24 at hF
  refine v_iconst dX6_takes0_24 (v := 0) (by decide) ?_
  exact v_sub [0] rfl (w_T_takes0_J25 hfr hlo hF)
def T_takes0 (a1 : Int32) (M : TM) : Option (Int32 × TM) :=
  (T_fine M).bind fun v1 =>
  if v1 = 0 then
    T_takes0_J24 M
  else
    (tra M 15 401 (M.1 19)).bind fun v8 =>
    if v8 = a1 then
      T_takes0_J25 (1 : Int32) M
    else
      T_takes0_J24 M
theorem w_T_takes0 {l : Launch} {G : GT} {fr lo : Nat} {h0 : Hp} {m0 : Nat} {hb : Hp} {r : (Int32 × TM)} (hfr : 1 ≤ fr) (hlo : 20 ≤ lo) {a1 : Int32} {M : TM} (hF : T_takes0 a1 M = some r) : V l G cX6_takes0 RX6 "takes0" 3 (Option.some Jvm.ClassFile.FieldType.boolean) fr lo h0 (ovT m0 r.2 hb) (QM G (some (.int r.1)) h0 (ovT m0 r.2 hb)) 0 [(0, .ref m0), (1, .int a1)] [] (ovT m0 M hb) := by
  unfold T_takes0 at hF
  refine v_aload_n dX6_takes0_0 rfl 0 rfl ?_
  obtain ⟨v1, e_v1, hF⟩ := Option.bind_eq_some_iff.mp hF
  refine v_calV1 dX6_takes0_1 vl_X6_181 q2033 rc_ov (ct_T_fine e_v1) rfl rfl (Nat.le_trans (Nat.le_of_ble_eq_true rfl) hfr) (Nat.le_trans (Nat.le_of_ble_eq_true rfl) hlo) (Nat.le_of_ble_eq_true rfl) ?_
  refine v_if_eq (tgt := 24) dX6_takes0_4 (by decide) hF (fun hF => ?_) (fun hF => ?_)
  · exact v_sub [0] rfl (w_T_takes0_J24 hfr hlo hF)
  · refine v_aload_n dX6_takes0_7 rfl 0 rfl ?_
    refine t_geta 15 9 dX6_takes0_8 fl_X6_50 (Nat.le_of_ble_eq_true rfl) (fun _ _ => rfl) ?_
    refine v_aload_n dX6_takes0_11 rfl 0 rfl ?_
    refine t_geti 19 dX6_takes0_12 fl_X6_185 rfl ?_
    refine t_iald 9 dX6_takes0_15 rfl (Nat.le_of_ble_eq_true rfl) (by decide) hF (fun v8 hF => ?_)
    refine v_iload_n dX6_takes0_16 rfl 1 rfl ?_
    refine v_icmp_ne (tgt := 24) dX6_takes0_17 (by decide) hF (fun hF => ?_) (fun hF => ?_)
    · exact v_sub [0] rfl (w_T_takes0_J24 hfr hlo hF)
    · refine v_iconst dX6_takes0_20 (v := 1) (by decide) ?_
      refine v_goto (tgt := 25) dX6_takes0_21 (by decide) ?_
      exact v_sub [0] rfl (w_T_takes0_J25 hfr hlo hF)
theorem ct_T_takes0 {l : Launch} {G : GT} {m0 : Nat} {hb : Hp} {r : (Int32 × TM)} {a1 : Int32} {M : TM} (hF : T_takes0 a1 M = some r) : Ct l G yX6_takes0 (ws_ yX6_takes0 cX6_takes0 3 (Option.some Jvm.ClassFile.FieldType.boolean)) 1 20 [.ref m0, .int a1] (ovT m0 M hb) (some (.int r.1)) (ovT m0 r.2 hb) :=
  ct_of (by decide) (Nat.le_of_ble_eq_true rfl) (w_T_takes0 (Nat.le_refl _) (Nat.le_refl _) hF)
theorem vl_X6_188 : ∀ ci ∈ [6], VL RX6 188 ci yX6_takes0 1 := by
  intro ci h
  simp only [List.mem_cons, List.not_mem_nil, or_false] at h
  subst h; exact ⟨RX6, TX6, 56, rfl, q146, ⟨by decide, by decide⟩, by decide +kernel, q2028, Or.inl ⟨q2026, qs85⟩⟩
theorem vl_X6_191 : ∀ ci ∈ [6], VL RX6 191 ci yX6_faults 0 := by
  intro ci h
  simp only [List.mem_cons, List.not_mem_nil, or_false] at h
  subst h; exact ⟨RX6, TX6, 56, rfl, q146, ⟨by decide, by decide⟩, by decide +kernel, q2048, Or.inl ⟨q2046, qs90⟩⟩
def T_must (a1 : Int32) (M : TM) : Option TM :=
  bd2 (T_takes0 a1 M) fun v2 M1 =>
  if v2 = 0 then
    (T_faults M1).bind fun M3 =>
    some M3
  else
    some M1
theorem w_T_must {l : Launch} {G : GT} {fr lo : Nat} {h0 : Hp} {m0 : Nat} {hb : Hp} {r : TM} (hfr : 2 ≤ fr) (hlo : 42 ≤ lo) {a1 : Int32} {M : TM} (hF : T_must a1 M = some r) : V l G cX6_must RX6 "must" 2 (Option.none : Option Jvm.ClassFile.FieldType) fr lo h0 (ovT m0 r hb) (QM G none h0 (ovT m0 r hb)) 0 [(0, .ref m0), (1, .int a1)] [] (ovT m0 M hb) := by
  unfold T_must at hF
  refine v_aload_n dX6_must_0 rfl 0 rfl ?_
  refine v_iload_n dX6_must_1 rfl 1 rfl ?_
  obtain ⟨v2, M1, e_v2, hF⟩ := bd2_spec hF
  refine v_calV1 dX6_must_2 vl_X6_188 q2029 rc_ov (ct_T_takes0 e_v2) rfl rfl (Nat.le_trans (Nat.le_of_ble_eq_true rfl) hfr) (Nat.le_trans (Nat.le_of_ble_eq_true rfl) hlo) (Nat.le_of_ble_eq_true rfl) ?_
  refine v_if_ne (tgt := 12) dX6_must_5 (by decide) hF (fun hF => ?_) (fun hF => ?_)
  · cases hF
    exact v_vret dX6_must_12 rfl rfl rfl
  · refine v_aload_n dX6_must_8 rfl 0 rfl ?_
    obtain ⟨M3, e_M3, hF⟩ := Option.bind_eq_some_iff.mp hF
    refine v_calV0 dX6_must_9 vl_X6_191 q2049 rc_ov (ct_T_faults e_M3) rfl rfl (Nat.le_trans (Nat.le_of_ble_eq_true rfl) hfr) (Nat.le_trans (Nat.le_of_ble_eq_true rfl) hlo) (Nat.le_of_ble_eq_true rfl) ?_
    cases hF
    exact v_vret dX6_must_12 rfl rfl rfl
theorem ct_T_must {l : Launch} {G : GT} {m0 : Nat} {hb : Hp} {r : TM} {a1 : Int32} {M : TM} (hF : T_must a1 M = some r) : Ct l G yX6_must (ws_ yX6_must cX6_must 2 (Option.none : Option Jvm.ClassFile.FieldType)) 2 42 [.ref m0, .int a1] (ovT m0 M hb) none (ovT m0 r hb) :=
  ct_of (by decide) (Nat.le_of_ble_eq_true rfl) (w_T_must (Nat.le_refl _) (Nat.le_refl _) hF)
theorem fl_X6_194 : FL RX6 194 [6] 20 := by
  intro ci h
  simp only [List.mem_cons, List.not_mem_nil, or_false] at h
  subst h; exact ⟨RX6, _, TX6, 56, rfl, in_X6, by decide, Or.inl q1654, Or.inl rfl⟩
theorem pl_X6_194 : PL RX6 194 [6] 20 (.int) false := by
  intro ci h
  simp only [List.mem_cons, List.not_mem_nil, or_false] at h
  subst h; exact ⟨RX6, _, TX6, 56, tyX6, rfl, in_X6, by decide, Or.inl q1654, Or.inl rfl, tyX6_ok, rfl, by decide +kernel, rfl, fun z => by cases z⟩
def T_leaf_J13 (M1 : TM) : Option TM :=
  (some (tsi M1 20 ((M1.1 20) + (1 : Int32)))).bind fun (M2 : TM) =>
  (T_fine M2).bind fun v3 =>
  if v3 = 0 then
    some M2
  else
    (some (tsi M2 19 ((M2.1 19) + (1 : Int32)))).bind fun (M4 : TM) =>
    some M4
theorem w_T_leaf_J13 {l : Launch} {G : GT} {fr lo : Nat} {h0 : Hp} {m0 : Nat} {hb : Hp} {r : TM} (hfr : 2 ≤ fr) (hlo : 40 ≤ lo)   {M1 : TM} (hF : T_leaf_J13 M1 = some r) : V l G cX6_leaf RX6 "leaf" 1 (Option.none : Option Jvm.ClassFile.FieldType) fr lo h0 (ovT m0 r hb) (QM G none h0 (ovT m0 r hb)) 13 [(0, .ref m0)] [] (ovT m0 M1 hb) := by
  unfold T_leaf_J13 at hF
  refine v_aload_n dX6_leaf_13 rfl 0 rfl ?_
  refine v_dup dX6_leaf_14 rfl ?_
  refine t_geti 20 dX6_leaf_15 fl_X6_194 rfl ?_
  refine v_iconst dX6_leaf_18 (v := 1) (by decide) ?_
  refine v_iadd dX6_leaf_19 ?_
  refine t_puti 20 dX6_leaf_20 pl_X6_194 rfl ?_
  refine v_letM hF (fun M2 hF => ?_)
  refine v_aload_n dX6_leaf_23 rfl 0 rfl ?_
  obtain ⟨v3, e_v3, hF⟩ := Option.bind_eq_some_iff.mp hF
  refine v_calV1 dX6_leaf_24 vl_X6_181 q2033 rc_ov (ct_T_fine e_v3) rfl rfl (Nat.le_trans (Nat.le_of_ble_eq_true rfl) hfr) (Nat.le_trans (Nat.le_of_ble_eq_true rfl) hlo) (Nat.le_of_ble_eq_true rfl) ?_
  refine v_if_eq (tgt := 40) dX6_leaf_27 (by decide) hF (fun hF => ?_) (fun hF => ?_)
  · cases hF
    exact v_vret dX6_leaf_40 rfl rfl rfl
  · refine v_aload_n dX6_leaf_30 rfl 0 rfl ?_
    refine v_dup dX6_leaf_31 rfl ?_
    refine t_geti 19 dX6_leaf_32 fl_X6_185 rfl ?_
    refine v_iconst dX6_leaf_35 (v := 1) (by decide) ?_
    refine v_iadd dX6_leaf_36 ?_
    refine t_puti 19 dX6_leaf_37 pl_X6_185 rfl ?_
    refine v_letM hF (fun M4 hF => ?_)
    cases hF
    exact v_vret dX6_leaf_40 rfl rfl rfl
def T_leaf (M : TM) : Option TM :=
  if (M.1 20) = (50 : Int32) then
    (T_faults M).bind fun M5 =>
    T_leaf_J13 M5
  else
    T_leaf_J13 M
theorem w_T_leaf {l : Launch} {G : GT} {fr lo : Nat} {h0 : Hp} {m0 : Nat} {hb : Hp} {r : TM} (hfr : 2 ≤ fr) (hlo : 40 ≤ lo) {M : TM} (hF : T_leaf M = some r) : V l G cX6_leaf RX6 "leaf" 1 (Option.none : Option Jvm.ClassFile.FieldType) fr lo h0 (ovT m0 r hb) (QM G none h0 (ovT m0 r hb)) 0 [(0, .ref m0)] [] (ovT m0 M hb) := by
  unfold T_leaf at hF
  refine v_aload_n dX6_leaf_0 rfl 0 rfl ?_
  refine t_geti 20 dX6_leaf_1 fl_X6_194 rfl ?_
  refine v_bipush dX6_leaf_4 (v := 50) (by decide) ?_
  refine v_icmp_ne (tgt := 13) dX6_leaf_6 (by decide) hF (fun hF => ?_) (fun hF => ?_)
  · exact v_sub [0] rfl (w_T_leaf_J13 hfr hlo hF)
  · refine v_aload_n dX6_leaf_9 rfl 0 rfl ?_
    obtain ⟨M5, e_M5, hF⟩ := Option.bind_eq_some_iff.mp hF
    refine v_calV0 dX6_leaf_10 vl_X6_191 q2049 rc_ov (ct_T_faults e_M5) rfl rfl (Nat.le_trans (Nat.le_of_ble_eq_true rfl) hfr) (Nat.le_trans (Nat.le_of_ble_eq_true rfl) hlo) (Nat.le_of_ble_eq_true rfl) ?_
    exact v_sub [0] rfl (w_T_leaf_J13 hfr hlo hF)
theorem ct_T_leaf {l : Launch} {G : GT} {m0 : Nat} {hb : Hp} {r : TM} {M : TM} (hF : T_leaf M = some r) : Ct l G yX6_leaf (ws_ yX6_leaf cX6_leaf 1 (Option.none : Option Jvm.ClassFile.FieldType)) 2 40 [.ref m0] (ovT m0 M hb) none (ovT m0 r hb) :=
  ct_of (by decide) (Nat.le_of_ble_eq_true rfl) (w_T_leaf (Nat.le_refl _) (Nat.le_refl _) hF)
def T_mustNumber_J42 (M2 : TM) : Option TM :=
  (T_fine M2).bind fun v3 =>
  if v3 = 0 then
    some M2
  else
    (some (tsi M2 19 ((M2.1 19) + (1 : Int32)))).bind fun (M4 : TM) =>
    some M4
theorem w_T_mustNumber_J42 {l : Launch} {G : GT} {fr lo : Nat} {h0 : Hp} {m0 : Nat} {hb : Hp} {r : TM} (hfr : 2 ≤ fr) (hlo : 40 ≤ lo)   {M2 : TM} (hF : T_mustNumber_J42 M2 = some r) : V l G cX6_mustNumber RX6 "mustNumber" 3 (Option.none : Option Jvm.ClassFile.FieldType) fr lo h0 (ovT m0 r hb) (QM G none h0 (ovT m0 r hb)) 42 [(0, .ref m0)] [] (ovT m0 M2 hb) := by
  unfold T_mustNumber_J42 at hF
  refine v_aload_n dX6_mustNumber_42 rfl 0 rfl ?_
  obtain ⟨v3, e_v3, hF⟩ := Option.bind_eq_some_iff.mp hF
  refine v_calV1 dX6_mustNumber_43 vl_X6_181 q2033 rc_ov (ct_T_fine e_v3) rfl rfl (Nat.le_trans (Nat.le_of_ble_eq_true rfl) hfr) (Nat.le_trans (Nat.le_of_ble_eq_true rfl) hlo) (Nat.le_of_ble_eq_true rfl) ?_
  refine v_if_eq (tgt := 59) dX6_mustNumber_46 (by decide) hF (fun hF => ?_) (fun hF => ?_)
  · cases hF
    exact v_vret dX6_mustNumber_59 rfl rfl rfl
  · refine v_aload_n dX6_mustNumber_49 rfl 0 rfl ?_
    refine v_dup dX6_mustNumber_50 rfl ?_
    refine t_geti 19 dX6_mustNumber_51 fl_X6_185 rfl ?_
    refine v_iconst dX6_mustNumber_54 (v := 1) (by decide) ?_
    refine v_iadd dX6_mustNumber_55 ?_
    refine t_puti 19 dX6_mustNumber_56 pl_X6_185 rfl ?_
    refine v_letM hF (fun M4 hF => ?_)
    cases hF
    exact v_vret dX6_mustNumber_59 rfl rfl rfl
def T_mustNumber_J38 (M6 : TM) : Option TM :=
  (T_faults M6).bind fun M7 =>
  T_mustNumber_J42 M7
theorem w_T_mustNumber_J38 {l : Launch} {G : GT} {fr lo : Nat} {h0 : Hp} {m0 : Nat} {hb : Hp} {r : TM} (hfr : 2 ≤ fr) (hlo : 40 ≤ lo)   {M6 : TM} (hF : T_mustNumber_J38 M6 = some r) : V l G cX6_mustNumber RX6 "mustNumber" 3 (Option.none : Option Jvm.ClassFile.FieldType) fr lo h0 (ovT m0 r hb) (QM G none h0 (ovT m0 r hb)) 38 [(0, .ref m0)] [] (ovT m0 M6 hb) := by
  unfold T_mustNumber_J38 at hF
  refine v_aload_n dX6_mustNumber_38 rfl 0 rfl ?_
  obtain ⟨M7, e_M7, hF⟩ := Option.bind_eq_some_iff.mp hF
  refine v_calV0 dX6_mustNumber_39 vl_X6_191 q2049 rc_ov (ct_T_faults e_M7) rfl rfl (Nat.le_trans (Nat.le_of_ble_eq_true rfl) hfr) (Nat.le_trans (Nat.le_of_ble_eq_true rfl) hlo) (Nat.le_of_ble_eq_true rfl) ?_
  exact v_sub [0] rfl (w_T_mustNumber_J42 hfr hlo hF)
def T_mustNumber (a1 : Int32) (a2 : Int32) (M : TM) : Option TM :=
  (T_fine M).bind fun v1 =>
  if v1 = 0 then
    T_mustNumber_J42 M
  else
    (tra M 15 401 (M.1 19)).bind fun v5 =>
    if v5 = (50 : Int32) then
      (tra M 16 401 (M.1 19)).bind fun v8 =>
      (T_lies v8 a1 a2).bind fun v9 =>
      if v9 = 0 then
        T_mustNumber_J38 M
      else
        T_mustNumber_J42 M
    else
      T_mustNumber_J38 M
theorem w_T_mustNumber {l : Launch} {G : GT} {fr lo : Nat} {h0 : Hp} {m0 : Nat} {hb : Hp} {r : TM} (hfr : 2 ≤ fr) (hlo : 40 ≤ lo) {a1 : Int32} {a2 : Int32} {M : TM} (hF : T_mustNumber a1 a2 M = some r) : V l G cX6_mustNumber RX6 "mustNumber" 3 (Option.none : Option Jvm.ClassFile.FieldType) fr lo h0 (ovT m0 r hb) (QM G none h0 (ovT m0 r hb)) 0 [(0, .ref m0), (1, .int a1), (2, .int a2)] [] (ovT m0 M hb) := by
  unfold T_mustNumber at hF
  refine v_aload_n dX6_mustNumber_0 rfl 0 rfl ?_
  obtain ⟨v1, e_v1, hF⟩ := Option.bind_eq_some_iff.mp hF
  refine v_calV1 dX6_mustNumber_1 vl_X6_181 q2033 rc_ov (ct_T_fine e_v1) rfl rfl (Nat.le_trans (Nat.le_of_ble_eq_true rfl) hfr) (Nat.le_trans (Nat.le_of_ble_eq_true rfl) hlo) (Nat.le_of_ble_eq_true rfl) ?_
  refine v_if_eq (tgt := 42) dX6_mustNumber_4 (by decide) hF (fun hF => ?_) (fun hF => ?_)
  · exact v_sub [0] rfl (w_T_mustNumber_J42 hfr hlo hF)
  · refine v_aload_n dX6_mustNumber_7 rfl 0 rfl ?_
    refine t_geta 15 9 dX6_mustNumber_8 fl_X6_50 (Nat.le_of_ble_eq_true rfl) (fun _ _ => rfl) ?_
    refine v_aload_n dX6_mustNumber_11 rfl 0 rfl ?_
    refine t_geti 19 dX6_mustNumber_12 fl_X6_185 rfl ?_
    refine t_iald 9 dX6_mustNumber_15 rfl (Nat.le_of_ble_eq_true rfl) (by decide) hF (fun v5 hF => ?_)
    refine v_bipush dX6_mustNumber_16 (v := 50) (by decide) ?_
    refine v_icmp_ne (tgt := 38) dX6_mustNumber_18 (by decide) hF (fun hF => ?_) (fun hF => ?_)
    · exact v_sub [0] rfl (w_T_mustNumber_J38 hfr hlo hF)
    · refine v_aload_n dX6_mustNumber_21 rfl 0 rfl ?_
      refine t_geta 16 10 dX6_mustNumber_22 fl_X6_53 (Nat.le_of_ble_eq_true rfl) (fun _ _ => rfl) ?_
      refine v_aload_n dX6_mustNumber_25 rfl 0 rfl ?_
      refine t_geti 19 dX6_mustNumber_26 fl_X6_185 rfl ?_
      refine t_iald 10 dX6_mustNumber_29 rfl (Nat.le_of_ble_eq_true rfl) (by decide) hF (fun v8 hF => ?_)
      refine v_iload_n dX6_mustNumber_30 rfl 1 rfl ?_
      refine v_iload_n dX6_mustNumber_31 rfl 2 rfl ?_
      obtain ⟨v9, e_v9, hF⟩ := Option.bind_eq_some_iff.mp hF
      refine v_calS1 dX6_mustNumber_32 sl_X6_102 q1810 (ct_T_lies e_v9) rfl rfl (Nat.le_trans (Nat.le_of_ble_eq_true rfl) hfr) (Nat.le_trans (Nat.le_of_ble_eq_true rfl) hlo) (Nat.le_of_ble_eq_true rfl) ?_
      refine v_if_ne (tgt := 42) dX6_mustNumber_35 (by decide) hF (fun hF => ?_) (fun hF => ?_)
      · exact v_sub [0] rfl (w_T_mustNumber_J42 hfr hlo hF)
      · exact v_sub [0] rfl (w_T_mustNumber_J38 hfr hlo hF)
theorem ct_T_mustNumber {l : Launch} {G : GT} {m0 : Nat} {hb : Hp} {r : TM} {a1 : Int32} {a2 : Int32} {M : TM} (hF : T_mustNumber a1 a2 M = some r) : Ct l G yX6_mustNumber (ws_ yX6_mustNumber cX6_mustNumber 3 (Option.none : Option Jvm.ClassFile.FieldType)) 2 40 [.ref m0, .int a1, .int a2] (ovT m0 M hb) none (ovT m0 r hb) :=
  ct_of (by decide) (Nat.le_of_ble_eq_true rfl) (w_T_mustNumber (Nat.le_refl _) (Nat.le_refl _) hF)
theorem fl_X6_237 : FL RX6 237 [6] 8 := by
  intro ci h
  simp only [List.mem_cons, List.not_mem_nil, or_false] at h
  subst h; exact ⟨RX6, _, TX6, 56, rfl, in_X6, by decide, Or.inl q1642, Or.inl rfl⟩
theorem fl_X6_240 : FL RX6 240 [6] 9 := by
  intro ci h
  simp only [List.mem_cons, List.not_mem_nil, or_false] at h
  subst h; exact ⟨RX6, _, TX6, 56, rfl, in_X6, by decide, Or.inl q1643, Or.inl rfl⟩
theorem vl_X6_243 : ∀ ci ∈ [6], VL RX6 243 ci yX6_leaf 0 := by
  intro ci h
  simp only [List.mem_cons, List.not_mem_nil, or_false] at h
  subst h; exact ⟨RX6, TX6, 56, rfl, q146, ⟨by decide, by decide⟩, by decide +kernel, q2056, Or.inl ⟨q2054, qs92⟩⟩
theorem fl_X6_211 : FL RX6 211 [6] 10 := by
  intro ci h
  simp only [List.mem_cons, List.not_mem_nil, or_false] at h
  subst h; exact ⟨RX6, _, TX6, 56, rfl, in_X6, by decide, Or.inl q1644, Or.inl rfl⟩
theorem vl_X6_207 : ∀ ci ∈ [6], VL RX6 207 ci yX6_mustNumber 2 := by
  intro ci h
  simp only [List.mem_cons, List.not_mem_nil, or_false] at h
  subst h; exact ⟨RX6, TX6, 56, rfl, q146, ⟨by decide, by decide⟩, by decide +kernel, q2060, Or.inl ⟨q2058, qs93⟩⟩
theorem vl_X6_197 : ∀ ci ∈ [6], VL RX6 197 ci yX6_readSum 1 := by
  intro ci h
  simp only [List.mem_cons, List.not_mem_nil, or_false] at h
  subst h; exact ⟨RX6, TX6, 56, rfl, q146, ⟨by decide, by decide⟩, by decide +kernel, q2036, Or.inl ⟨q2034, qs87⟩⟩
theorem vl_X6_201 : ∀ ci ∈ [6], VL RX6 201 ci yX6_must 1 := by
  intro ci h
  simp only [List.mem_cons, List.not_mem_nil, or_false] at h
  subst h; exact ⟨RX6, TX6, 56, rfl, q146, ⟨by decide, by decide⟩, by decide +kernel, q2052, Or.inl ⟨q2050, qs91⟩⟩
def T_readPart_J157 (N : Nat) (f : Int32 → TM → Option TM) (M6 : TM) : Option TM :=
  (T_faults M6).bind fun M7 =>
  some M7
theorem w_T_readPart_J157 {l : Launch} {G : GT} {fr lo : Nat} {h0 : Hp} {m0 : Nat} {hb : Hp} {N : Nat} {f : Int32 → TM → Option TM} {r : TM} {frf lof : Nat} (hbf : 3 ≤ frf) (hbl : 63 ≤ lof) (hfr : frf + 1 ≤ fr) (hlo : lof + 21 ≤ lo) (hf : ∀ (a1 : Int32) (M : TM) (r : TM), f a1 M = some r → Ct l G yX6_readSum (ws_ yX6_readSum cX6_readSum 2 (Option.none : Option Jvm.ClassFile.FieldType)) frf lof [.ref m0, .int a1] (ovT m0 M hb) none (ovT m0 r hb))   {M6 : TM} (hF : T_readPart_J157 N f M6 = some r) : V l G cX6_readPart RX6 "readPart" 3 (Option.none : Option Jvm.ClassFile.FieldType) fr lo h0 (ovT m0 r hb) (QM G none h0 (ovT m0 r hb)) 157 [(0, .ref m0)] [] (ovT m0 M6 hb) := by
  unfold T_readPart_J157 at hF
  refine v_aload_n dX6_readPart_157 rfl 0 rfl ?_
  obtain ⟨M7, e_M7, hF⟩ := Option.bind_eq_some_iff.mp hF
  refine v_calV0 dX6_readPart_158 vl_X6_191 q2049 rc_ov (ct_T_faults e_M7) rfl rfl (by omega) (by omega) (Nat.le_of_ble_eq_true rfl) ?_
  cases hF
  exact v_vret dX6_readPart_161 rfl rfl rfl
def T_readPart_J134 (N : Nat) (f : Int32 → TM → Option TM) (v11 : Int32) (M12 : TM) : Option TM :=
  if (M12.1 10) = 0 then
    some M12
  else
    if v11 = (20 : Int32) then
      (T_mustNumber (0 : Int32) (7 : Int32) M12).bind fun M13 =>
      some M13
    else
      some M12
theorem w_T_readPart_J134 {l : Launch} {G : GT} {fr lo : Nat} {h0 : Hp} {m0 : Nat} {hb : Hp} {N : Nat} {f : Int32 → TM → Option TM} {r : TM} {frf lof : Nat} (hbf : 3 ≤ frf) (hbl : 63 ≤ lof) (hfr : frf + 1 ≤ fr) (hlo : lof + 21 ≤ lo) (hf : ∀ (a1 : Int32) (M : TM) (r : TM), f a1 M = some r → Ct l G yX6_readSum (ws_ yX6_readSum cX6_readSum 2 (Option.none : Option Jvm.ClassFile.FieldType)) frf lof [.ref m0, .int a1] (ovT m0 M hb) none (ovT m0 r hb))   {v11 : Int32} {M12 : TM} (hF : T_readPart_J134 N f v11 M12 = some r) : V l G cX6_readPart RX6 "readPart" 3 (Option.none : Option Jvm.ClassFile.FieldType) fr lo h0 (ovT m0 r hb) (QM G none h0 (ovT m0 r hb)) 134 [(0, .ref m0), (2, .int v11)] [] (ovT m0 M12 hb) := by
  unfold T_readPart_J134 at hF
  refine v_aload_n dX6_readPart_134 rfl 0 rfl ?_
  refine t_geti 10 dX6_readPart_135 fl_X6_211 rfl ?_
  refine v_if_eq (tgt := 161) dX6_readPart_138 (by decide) hF (fun hF => ?_) (fun hF => ?_)
  · cases hF
    exact v_vret dX6_readPart_161 rfl rfl rfl
  · refine v_iload_n dX6_readPart_141 rfl 1 rfl ?_
    refine v_bipush dX6_readPart_142 (v := 20) (by decide) ?_
    refine v_icmp_ne (tgt := 161) dX6_readPart_144 (by decide) hF (fun hF => ?_) (fun hF => ?_)
    · cases hF
      exact v_vret dX6_readPart_161 rfl rfl rfl
    · refine v_aload_n dX6_readPart_147 rfl 0 rfl ?_
      refine v_iconst dX6_readPart_148 (v := 0) (by decide) ?_
      refine v_bipush dX6_readPart_149 (v := 7) (by decide) ?_
      obtain ⟨M13, e_M13, hF⟩ := Option.bind_eq_some_iff.mp hF
      refine v_calV0 dX6_readPart_151 vl_X6_207 q2061 rc_ov (ct_T_mustNumber e_M13) rfl rfl (by omega) (by omega) (Nat.le_of_ble_eq_true rfl) ?_
      refine v_goto (tgt := 161) dX6_readPart_154 (by decide) ?_
      cases hF
      exact v_vret dX6_readPart_161 rfl rfl rfl
def T_readPart_J111 (N : Nat) (f : Int32 → TM → Option TM) (v8 : Int32) (M9 : TM) : Option TM :=
  (T_leaf M9).bind fun M10 =>
  if (M10.1 10) = 0 then
    T_readPart_J134 N f v8 M10
  else
    if v8 = (14 : Int32) then
      (T_mustNumber (0 : Int32) (3 : Int32) M10).bind fun M14 =>
      T_readPart_J134 N f v8 M14
    else
      T_readPart_J134 N f v8 M10
theorem w_T_readPart_J111 {l : Launch} {G : GT} {fr lo : Nat} {h0 : Hp} {m0 : Nat} {hb : Hp} {N : Nat} {f : Int32 → TM → Option TM} {r : TM} {frf lof : Nat} (hbf : 3 ≤ frf) (hbl : 63 ≤ lof) (hfr : frf + 1 ≤ fr) (hlo : lof + 21 ≤ lo) (hf : ∀ (a1 : Int32) (M : TM) (r : TM), f a1 M = some r → Ct l G yX6_readSum (ws_ yX6_readSum cX6_readSum 2 (Option.none : Option Jvm.ClassFile.FieldType)) frf lof [.ref m0, .int a1] (ovT m0 M hb) none (ovT m0 r hb))   {v8 : Int32} {M9 : TM} (hF : T_readPart_J111 N f v8 M9 = some r) : V l G cX6_readPart RX6 "readPart" 3 (Option.none : Option Jvm.ClassFile.FieldType) fr lo h0 (ovT m0 r hb) (QM G none h0 (ovT m0 r hb)) 111 [(0, .ref m0), (2, .int v8)] [] (ovT m0 M9 hb) := by
  unfold T_readPart_J111 at hF
  refine v_aload_n dX6_readPart_111 rfl 0 rfl ?_
  obtain ⟨M10, e_M10, hF⟩ := Option.bind_eq_some_iff.mp hF
  refine v_calV0 dX6_readPart_112 vl_X6_243 q2057 rc_ov (ct_T_leaf e_M10) rfl rfl (by omega) (by omega) (Nat.le_of_ble_eq_true rfl) ?_
  refine v_aload_n dX6_readPart_115 rfl 0 rfl ?_
  refine t_geti 10 dX6_readPart_116 fl_X6_211 rfl ?_
  refine v_if_eq (tgt := 134) dX6_readPart_119 (by decide) hF (fun hF => ?_) (fun hF => ?_)
  · exact v_sub [0, 1] rfl (w_T_readPart_J134 hbf hbl hfr hlo hf hF)
  · refine v_iload_n dX6_readPart_122 rfl 1 rfl ?_
    refine v_bipush dX6_readPart_123 (v := 14) (by decide) ?_
    refine v_icmp_ne (tgt := 134) dX6_readPart_125 (by decide) hF (fun hF => ?_) (fun hF => ?_)
    · exact v_sub [0, 1] rfl (w_T_readPart_J134 hbf hbl hfr hlo hf hF)
    · refine v_aload_n dX6_readPart_128 rfl 0 rfl ?_
      refine v_iconst dX6_readPart_129 (v := 0) (by decide) ?_
      refine v_iconst dX6_readPart_130 (v := 3) (by decide) ?_
      obtain ⟨M14, e_M14, hF⟩ := Option.bind_eq_some_iff.mp hF
      refine v_calV0 dX6_readPart_131 vl_X6_207 q2061 rc_ov (ct_T_mustNumber e_M14) rfl rfl (by omega) (by omega) (Nat.le_of_ble_eq_true rfl) ?_
      exact v_sub [0, 1] rfl (w_T_readPart_J134 hbf hbl hfr hlo hf hF)
def T_readPart_J95 (N : Nat) (f : Int32 → TM → Option TM) (v4 : Int32) (M5 : TM) : Option TM :=
  if v4 < (M5.1 8) then
    T_readPart_J157 N f M5
  else
    if (M5.1 9) < v4 then
      T_readPart_J157 N f M5
    else
      T_readPart_J111 N f v4 M5
theorem w_T_readPart_J95 {l : Launch} {G : GT} {fr lo : Nat} {h0 : Hp} {m0 : Nat} {hb : Hp} {N : Nat} {f : Int32 → TM → Option TM} {r : TM} {frf lof : Nat} (hbf : 3 ≤ frf) (hbl : 63 ≤ lof) (hfr : frf + 1 ≤ fr) (hlo : lof + 21 ≤ lo) (hf : ∀ (a1 : Int32) (M : TM) (r : TM), f a1 M = some r → Ct l G yX6_readSum (ws_ yX6_readSum cX6_readSum 2 (Option.none : Option Jvm.ClassFile.FieldType)) frf lof [.ref m0, .int a1] (ovT m0 M hb) none (ovT m0 r hb))   {v4 : Int32} {M5 : TM} (hF : T_readPart_J95 N f v4 M5 = some r) : V l G cX6_readPart RX6 "readPart" 3 (Option.none : Option Jvm.ClassFile.FieldType) fr lo h0 (ovT m0 r hb) (QM G none h0 (ovT m0 r hb)) 95 [(0, .ref m0), (2, .int v4)] [] (ovT m0 M5 hb) := by
  unfold T_readPart_J95 at hF
  refine v_iload_n dX6_readPart_95 rfl 1 rfl ?_
  refine v_aload_n dX6_readPart_96 rfl 0 rfl ?_
  refine t_geti 8 dX6_readPart_97 fl_X6_237 rfl ?_
  refine v_icmp_lt (tgt := 157) dX6_readPart_100 (by decide) hF (fun hF => ?_) (fun hF => ?_)
  · exact v_sub [0] rfl (w_T_readPart_J157 hbf hbl hfr hlo hf hF)
  · refine v_iload_n dX6_readPart_103 rfl 1 rfl ?_
    refine v_aload_n dX6_readPart_104 rfl 0 rfl ?_
    refine t_geti 9 dX6_readPart_105 fl_X6_240 rfl ?_
    refine v_icmp_gt (tgt := 157) dX6_readPart_108 (by decide) hF (fun hF => ?_) (fun hF => ?_)
    · exact v_sub [0] rfl (w_T_readPart_J157 hbf hbl hfr hlo hf hF)
    · exact v_sub [0, 1] rfl (w_T_readPart_J111 hbf hbl hfr hlo hf hF)
def T_readPart_J37 (N : Nat) (f : Int32 → TM → Option TM) (v16 : Int32) (M17 : TM) : Option TM :=
  (T_fine M17).bind fun v18 =>
  if v18 = 0 then
    some M17
  else
    (some (tsi M17 19 ((M17.1 19) + (1 : Int32)))).bind fun (M19 : TM) =>
    (f (v16 + (1 : Int32)) M19).bind fun M20 =>
    (T_sign (93 : Int32)).bind fun v21 =>
    (T_must v21 M20).bind fun M22 =>
    some M22
theorem w_T_readPart_J37 {l : Launch} {G : GT} {fr lo : Nat} {h0 : Hp} {m0 : Nat} {hb : Hp} {N : Nat} {f : Int32 → TM → Option TM} {r : TM} {frf lof : Nat} (hbf : 3 ≤ frf) (hbl : 63 ≤ lof) (hfr : frf + 1 ≤ fr) (hlo : lof + 21 ≤ lo) (hf : ∀ (a1 : Int32) (M : TM) (r : TM), f a1 M = some r → Ct l G yX6_readSum (ws_ yX6_readSum cX6_readSum 2 (Option.none : Option Jvm.ClassFile.FieldType)) frf lof [.ref m0, .int a1] (ovT m0 M hb) none (ovT m0 r hb))   {v16 : Int32} {M17 : TM} (hF : T_readPart_J37 N f v16 M17 = some r) : V l G cX6_readPart RX6 "readPart" 3 (Option.none : Option Jvm.ClassFile.FieldType) fr lo h0 (ovT m0 r hb) (QM G none h0 (ovT m0 r hb)) 37 [(0, .ref m0), (1, .int v16)] [] (ovT m0 M17 hb) := by
  unfold T_readPart_J37 at hF
  refine v_aload_n dX6_readPart_37 rfl 0 rfl ?_
  obtain ⟨v18, e_v18, hF⟩ := Option.bind_eq_some_iff.mp hF
  refine v_calV1 dX6_readPart_38 vl_X6_181 q2033 rc_ov (ct_T_fine e_v18) rfl rfl (by omega) (by omega) (Nat.le_of_ble_eq_true rfl) ?_
  refine v_if_ne (tgt := 45) dX6_readPart_41 (by decide) hF (fun hF => ?_) (fun hF => ?_)
  · refine v_aload_n dX6_readPart_45 rfl 0 rfl ?_
    refine v_dup dX6_readPart_46 rfl ?_
    refine t_geti 19 dX6_readPart_47 fl_X6_185 rfl ?_
    refine v_iconst dX6_readPart_50 (v := 1) (by decide) ?_
    refine v_iadd dX6_readPart_51 ?_
    refine t_puti 19 dX6_readPart_52 pl_X6_185 rfl ?_
    refine v_letM hF (fun M19 hF => ?_)
    refine v_aload_n dX6_readPart_55 rfl 0 rfl ?_
    refine v_iload_n dX6_readPart_56 rfl 1 rfl ?_
    refine v_iconst dX6_readPart_57 (v := 1) (by decide) ?_
    refine v_iadd dX6_readPart_58 ?_
    obtain ⟨M20, e_M20, hF⟩ := Option.bind_eq_some_iff.mp hF
    refine v_calV0 dX6_readPart_59 vl_X6_197 q2037 rc_ov (hf _ _ _ e_M20) rfl rfl (by omega) (by omega) (Nat.le_of_ble_eq_true rfl) ?_
    refine v_aload_n dX6_readPart_62 rfl 0 rfl ?_
    refine v_bipush dX6_readPart_63 (v := 93) (by decide) ?_
    obtain ⟨v21, e_v21, hF⟩ := Option.bind_eq_some_iff.mp hF
    refine v_calS1 dX6_readPart_65 sl_X6_227 q1902 (ct_T_sign e_v21) rfl rfl (by omega) (by omega) (Nat.le_of_ble_eq_true rfl) ?_
    obtain ⟨M22, e_M22, hF⟩ := Option.bind_eq_some_iff.mp hF
    refine v_calV0 dX6_readPart_68 vl_X6_201 q2053 rc_ov (ct_T_must e_M22) rfl rfl (by omega) (by omega) (Nat.le_of_ble_eq_true rfl) ?_
    refine v_goto (tgt := 161) dX6_readPart_71 (by decide) ?_
    cases hF
    exact v_vret dX6_readPart_161 rfl rfl rfl
  · cases hF
    exact v_vret dX6_readPart_44 rfl rfl rfl
def T_readPart (N : Nat) (f : Int32 → TM → Option TM) (a1 : Int32) (M : TM) : Option TM :=
  (T_fine M).bind fun v1 =>
  if v1 = 0 then
    some M
  else
    (tra M 15 401 (M.1 19)).bind fun v2 =>
    (T_sign (91 : Int32)).bind fun v3 =>
    if v2 = v3 then
      if a1 = (8 : Int32) then
        (T_faults M).bind fun M23 =>
        T_readPart_J37 N f a1 M23
      else
        T_readPart_J37 N f a1 M
    else
      if v2 = (50 : Int32) then
        (tra M 16 401 (M.1 19)).bind fun v15 =>
        if v15 ≤ (1000 : Int32) then
          T_readPart_J111 N f v2 M
        else
          T_readPart_J95 N f v2 M
      else
        T_readPart_J95 N f v2 M
theorem w_T_readPart {l : Launch} {G : GT} {fr lo : Nat} {h0 : Hp} {m0 : Nat} {hb : Hp} {N : Nat} {f : Int32 → TM → Option TM} {r : TM} {frf lof : Nat} (hbf : 3 ≤ frf) (hbl : 63 ≤ lof) (hfr : frf + 1 ≤ fr) (hlo : lof + 21 ≤ lo) (hf : ∀ (a1 : Int32) (M : TM) (r : TM), f a1 M = some r → Ct l G yX6_readSum (ws_ yX6_readSum cX6_readSum 2 (Option.none : Option Jvm.ClassFile.FieldType)) frf lof [.ref m0, .int a1] (ovT m0 M hb) none (ovT m0 r hb)) {a1 : Int32} {M : TM} (hF : T_readPart N f a1 M = some r) : V l G cX6_readPart RX6 "readPart" 3 (Option.none : Option Jvm.ClassFile.FieldType) fr lo h0 (ovT m0 r hb) (QM G none h0 (ovT m0 r hb)) 0 [(0, .ref m0), (1, .int a1)] [] (ovT m0 M hb) := by
  unfold T_readPart at hF
  refine v_aload_n dX6_readPart_0 rfl 0 rfl ?_
  obtain ⟨v1, e_v1, hF⟩ := Option.bind_eq_some_iff.mp hF
  refine v_calV1 dX6_readPart_1 vl_X6_181 q2033 rc_ov (ct_T_fine e_v1) rfl rfl (by omega) (by omega) (Nat.le_of_ble_eq_true rfl) ?_
  refine v_if_ne (tgt := 8) dX6_readPart_4 (by decide) hF (fun hF => ?_) (fun hF => ?_)
  · refine v_aload_n dX6_readPart_8 rfl 0 rfl ?_
    refine t_geta 15 9 dX6_readPart_9 fl_X6_50 (Nat.le_of_ble_eq_true rfl) (fun _ _ => rfl) ?_
    refine v_aload_n dX6_readPart_12 rfl 0 rfl ?_
    refine t_geti 19 dX6_readPart_13 fl_X6_185 rfl ?_
    refine t_iald 9 dX6_readPart_16 rfl (Nat.le_of_ble_eq_true rfl) (by decide) hF (fun v2 hF => ?_)
    refine v_istore_n dX6_readPart_17 rfl (Nat.le_of_ble_eq_true rfl) (L' := [(2, .int v2), (0, .ref m0), (1, .int a1)]) rfl ?_
    refine v_iload_n dX6_readPart_18 rfl 0 rfl ?_
    refine v_bipush dX6_readPart_19 (v := 91) (by decide) ?_
    obtain ⟨v3, e_v3, hF⟩ := Option.bind_eq_some_iff.mp hF
    refine v_calS1 dX6_readPart_21 sl_X6_227 q1902 (ct_T_sign e_v3) rfl rfl (by omega) (by omega) (Nat.le_of_ble_eq_true rfl) ?_
    refine v_icmp_ne (tgt := 74) dX6_readPart_24 (by decide) hF (fun hF => ?_) (fun hF => ?_)
    · refine v_iload_n dX6_readPart_74 rfl 0 rfl ?_
      refine v_bipush dX6_readPart_75 (v := 50) (by decide) ?_
      refine v_icmp_ne (tgt := 95) dX6_readPart_77 (by decide) hF (fun hF => ?_) (fun hF => ?_)
      · exact v_sub [1, 0] rfl (w_T_readPart_J95 hbf hbl hfr hlo hf hF)
      · refine v_aload_n dX6_readPart_80 rfl 1 rfl ?_
        refine t_geta 16 10 dX6_readPart_81 fl_X6_53 (Nat.le_of_ble_eq_true rfl) (fun _ _ => rfl) ?_
        refine v_aload_n dX6_readPart_84 rfl 1 rfl ?_
        refine t_geti 19 dX6_readPart_85 fl_X6_185 rfl ?_
        refine t_iald 10 dX6_readPart_88 rfl (Nat.le_of_ble_eq_true rfl) (by decide) hF (fun v15 hF => ?_)
        refine v_sipush dX6_readPart_89 (v := 1000) (by decide) ?_
        refine v_icmp_le (tgt := 111) dX6_readPart_92 (by decide) hF (fun hF => ?_) (fun hF => ?_)
        · exact v_sub [1, 0] rfl (w_T_readPart_J111 hbf hbl hfr hlo hf hF)
        · exact v_sub [1, 0] rfl (w_T_readPart_J95 hbf hbl hfr hlo hf hF)
    · refine v_iload_n dX6_readPart_27 rfl 2 rfl ?_
      refine v_bipush dX6_readPart_28 (v := 8) (by decide) ?_
      refine v_icmp_ne (tgt := 37) dX6_readPart_30 (by decide) hF (fun hF => ?_) (fun hF => ?_)
      · exact v_sub [1, 2] rfl (w_T_readPart_J37 hbf hbl hfr hlo hf hF)
      · refine v_aload_n dX6_readPart_33 rfl 1 rfl ?_
        obtain ⟨M23, e_M23, hF⟩ := Option.bind_eq_some_iff.mp hF
        refine v_calV0 dX6_readPart_34 vl_X6_191 q2049 rc_ov (ct_T_faults e_M23) rfl rfl (by omega) (by omega) (Nat.le_of_ble_eq_true rfl) ?_
        exact v_sub [1, 2] rfl (w_T_readPart_J37 hbf hbl hfr hlo hf hF)
  · cases hF
    exact v_vret dX6_readPart_7 rfl rfl rfl
theorem ct_T_readPart {l : Launch} {G : GT} {m0 : Nat} {hb : Hp} {N : Nat} {f : Int32 → TM → Option TM} {frf lof : Nat} (hbf : 3 ≤ frf) (hbl : 63 ≤ lof) (hf : ∀ (a1 : Int32) (M : TM) (r : TM), f a1 M = some r → Ct l G yX6_readSum (ws_ yX6_readSum cX6_readSum 2 (Option.none : Option Jvm.ClassFile.FieldType)) frf lof [.ref m0, .int a1] (ovT m0 M hb) none (ovT m0 r hb)) {r : TM} {a1 : Int32} {M : TM} (hF : T_readPart N f a1 M = some r) : Ct l G yX6_readPart (ws_ yX6_readPart cX6_readPart 3 (Option.none : Option Jvm.ClassFile.FieldType)) (frf + 1) (lof + 21) [.ref m0, .int a1] (ovT m0 M hb) none (ovT m0 r hb) :=
  ct_of (by decide) (Nat.le_of_ble_eq_true rfl) (w_T_readPart hbf hbl (Nat.le_refl _) (Nat.le_refl _) hf hF)
theorem vl_X6_234 : ∀ ci ∈ [6], VL RX6 234 ci yX6_readPart 1 := by
  intro ci h
  simp only [List.mem_cons, List.not_mem_nil, or_false] at h
  subst h; exact ⟨RX6, TX6, 56, rfl, q146, ⟨by decide, by decide⟩, by decide +kernel, q2044, Or.inl ⟨q2042, qs89⟩⟩
def T_readTerm_J41 (N : Nat) (f : Int32 → TM → Option TM) (c5 : Int32 → TM → Option TM) (v8 : Int32) (M9 : TM) : Option TM :=
  (T_readPart N f v8 M9).bind fun M10 =>
  c5 v8 M10
theorem w_T_readTerm_J41 {l : Launch} {G : GT} {fr lo : Nat} {h0 : Hp} {m0 : Nat} {hb : Hp} {N : Nat} {f : Int32 → TM → Option TM} {r : TM} {frf lof : Nat} (hbf : 3 ≤ frf) (hbl : 63 ≤ lof) (hfr : frf + 2 ≤ fr) (hlo : lof + 43 ≤ lo) (hf : ∀ (a1 : Int32) (M : TM) (r : TM), f a1 M = some r → Ct l G yX6_readSum (ws_ yX6_readSum cX6_readSum 2 (Option.none : Option Jvm.ClassFile.FieldType)) frf lof [.ref m0, .int a1] (ovT m0 M hb) none (ovT m0 r hb)) {c5 : Int32 → TM → Option TM} (hc5 : ∀ (v2 : Int32) (M3 : TM), c5 v2 M3 = some r → V l G cX6_readTerm RX6 "readTerm" 2 (Option.none : Option Jvm.ClassFile.FieldType) fr lo h0 (ovT m0 r hb) (QM G none h0 (ovT m0 r hb)) 5 [(0, .ref m0), (1, .int v2)] [] (ovT m0 M3 hb)) {v8 : Int32} {M9 : TM} (hF : T_readTerm_J41 N f c5 v8 M9 = some r) : V l G cX6_readTerm RX6 "readTerm" 2 (Option.none : Option Jvm.ClassFile.FieldType) fr lo h0 (ovT m0 r hb) (QM G none h0 (ovT m0 r hb)) 41 [(0, .ref m0), (1, .int v8)] [] (ovT m0 M9 hb) := by
  unfold T_readTerm_J41 at hF
  refine v_aload_n dX6_readTerm_41 rfl 0 rfl ?_
  refine v_iload_n dX6_readTerm_42 rfl 1 rfl ?_
  obtain ⟨M10, e_M10, hF⟩ := Option.bind_eq_some_iff.mp hF
  refine v_calV0 dX6_readTerm_43 vl_X6_234 q2045 rc_ov (ct_T_readPart (by omega) (by omega) hf e_M10) rfl rfl (by omega) (by omega) (Nat.le_of_ble_eq_true rfl) ?_
  refine v_goto (tgt := 5) dX6_readTerm_46 (by decide) ?_
  exact v_sub [0, 1] rfl (hc5 _ _ hF)
def T_readTerm_L5 (N : Nat) (f : Int32 → TM → Option TM) (x5 : TM → Option TM) : Nat → Int32 → TM → Option TM
  | 0, _, _ => none
  | n17 + 1, v2, M3 =>
    (T_sign (42 : Int32)).bind fun v5 =>
    bd2 (T_takes0 v5 M3) fun v7 M6 =>
    if v7 = 0 then
      (T_sign (47 : Int32)).bind fun v11 =>
      bd2 (T_takes0 v11 M6) fun v13 M12 =>
      if v13 = 0 then
        (T_sign (37 : Int32)).bind fun v14 =>
        bd2 (T_takes0 v14 M12) fun v16 M15 =>
        if v16 = 0 then
          x5 M15
        else
          T_readTerm_J41 N f (T_readTerm_L5 N f x5 n17) v2 M15
      else
        T_readTerm_J41 N f (T_readTerm_L5 N f x5 n17) v2 M12
    else
      T_readTerm_J41 N f (T_readTerm_L5 N f x5 n17) v2 M6
theorem w_T_readTerm_L5 {l : Launch} {G : GT} {fr lo : Nat} {h0 : Hp} {m0 : Nat} {hb : Hp} {N : Nat} {f : Int32 → TM → Option TM} {r : TM} {frf lof : Nat} (hbf : 3 ≤ frf) (hbl : 63 ≤ lof) (hfr : frf + 2 ≤ fr) (hlo : lof + 43 ≤ lo) (hf : ∀ (a1 : Int32) (M : TM) (r : TM), f a1 M = some r → Ct l G yX6_readSum (ws_ yX6_readSum cX6_readSum 2 (Option.none : Option Jvm.ClassFile.FieldType)) frf lof [.ref m0, .int a1] (ovT m0 M hb) none (ovT m0 r hb)) {x5 : TM → Option TM} (hx5 : ∀ (M4 : TM), x5 M4 = some r → V l G cX6_readTerm RX6 "readTerm" 2 (Option.none : Option Jvm.ClassFile.FieldType) fr lo h0 (ovT m0 r hb) (QM G none h0 (ovT m0 r hb)) 49 [] [] (ovT m0 M4 hb)) : ∀ (n : Nat) (v2 : Int32) (M3 : TM), T_readTerm_L5 N f x5 n v2 M3 = some r → V l G cX6_readTerm RX6 "readTerm" 2 (Option.none : Option Jvm.ClassFile.FieldType) fr lo h0 (ovT m0 r hb) (QM G none h0 (ovT m0 r hb)) 5 [(0, .ref m0), (1, .int v2)] [] (ovT m0 M3 hb) := by
  intro n
  induction n with
  | zero =>
    intro v2 M3 hF
    cases (show (none : Option TM) = some r from hF)
  | succ n hc5 =>
    intro v2 M3 hF
    rw [T_readTerm_L5] at hF
    refine v_aload_n dX6_readTerm_5 rfl 0 rfl ?_
    refine v_bipush dX6_readTerm_6 (v := 42) (by decide) ?_
    obtain ⟨v5, e_v5, hF⟩ := Option.bind_eq_some_iff.mp hF
    refine v_calS1 dX6_readTerm_8 sl_X6_227 q1902 (ct_T_sign e_v5) rfl rfl (by omega) (by omega) (Nat.le_of_ble_eq_true rfl) ?_
    obtain ⟨v7, M6, e_v7, hF⟩ := bd2_spec hF
    refine v_calV1 dX6_readTerm_11 vl_X6_188 q2029 rc_ov (ct_T_takes0 e_v7) rfl rfl (by omega) (by omega) (Nat.le_of_ble_eq_true rfl) ?_
    refine v_if_ne (tgt := 41) dX6_readTerm_14 (by decide) hF (fun hF => ?_) (fun hF => ?_)
    · exact v_sub [0, 1] rfl (w_T_readTerm_J41 hbf hbl hfr hlo hf hc5 hF)
    · refine v_aload_n dX6_readTerm_17 rfl 0 rfl ?_
      refine v_bipush dX6_readTerm_18 (v := 47) (by decide) ?_
      obtain ⟨v11, e_v11, hF⟩ := Option.bind_eq_some_iff.mp hF
      refine v_calS1 dX6_readTerm_20 sl_X6_227 q1902 (ct_T_sign e_v11) rfl rfl (by omega) (by omega) (Nat.le_of_ble_eq_true rfl) ?_
      obtain ⟨v13, M12, e_v13, hF⟩ := bd2_spec hF
      refine v_calV1 dX6_readTerm_23 vl_X6_188 q2029 rc_ov (ct_T_takes0 e_v13) rfl rfl (by omega) (by omega) (Nat.le_of_ble_eq_true rfl) ?_
      refine v_if_ne (tgt := 41) dX6_readTerm_26 (by decide) hF (fun hF => ?_) (fun hF => ?_)
      · exact v_sub [0, 1] rfl (w_T_readTerm_J41 hbf hbl hfr hlo hf hc5 hF)
      · refine v_aload_n dX6_readTerm_29 rfl 0 rfl ?_
        refine v_bipush dX6_readTerm_30 (v := 37) (by decide) ?_
        obtain ⟨v14, e_v14, hF⟩ := Option.bind_eq_some_iff.mp hF
        refine v_calS1 dX6_readTerm_32 sl_X6_227 q1902 (ct_T_sign e_v14) rfl rfl (by omega) (by omega) (Nat.le_of_ble_eq_true rfl) ?_
        obtain ⟨v16, M15, e_v16, hF⟩ := bd2_spec hF
        refine v_calV1 dX6_readTerm_35 vl_X6_188 q2029 rc_ov (ct_T_takes0 e_v16) rfl rfl (by omega) (by omega) (Nat.le_of_ble_eq_true rfl) ?_
        refine v_if_eq (tgt := 49) dX6_readTerm_38 (by decide) hF (fun hF => ?_) (fun hF => ?_)
        · exact v_sub [] rfl (hx5 _ hF)
        · exact v_sub [0, 1] rfl (w_T_readTerm_J41 hbf hbl hfr hlo hf hc5 hF)
def T_readTerm (N : Nat) (f : Int32 → TM → Option TM) (a1 : Int32) (M : TM) : Option TM :=
  (T_readPart N f a1 M).bind fun M1 =>
  T_readTerm_L5 N f (fun M18 =>
    some M18) N a1 M1
theorem w_T_readTerm {l : Launch} {G : GT} {fr lo : Nat} {h0 : Hp} {m0 : Nat} {hb : Hp} {N : Nat} {f : Int32 → TM → Option TM} {r : TM} {frf lof : Nat} (hbf : 3 ≤ frf) (hbl : 63 ≤ lof) (hfr : frf + 2 ≤ fr) (hlo : lof + 43 ≤ lo) (hf : ∀ (a1 : Int32) (M : TM) (r : TM), f a1 M = some r → Ct l G yX6_readSum (ws_ yX6_readSum cX6_readSum 2 (Option.none : Option Jvm.ClassFile.FieldType)) frf lof [.ref m0, .int a1] (ovT m0 M hb) none (ovT m0 r hb)) {a1 : Int32} {M : TM} (hF : T_readTerm N f a1 M = some r) : V l G cX6_readTerm RX6 "readTerm" 2 (Option.none : Option Jvm.ClassFile.FieldType) fr lo h0 (ovT m0 r hb) (QM G none h0 (ovT m0 r hb)) 0 [(0, .ref m0), (1, .int a1)] [] (ovT m0 M hb) := by
  unfold T_readTerm at hF
  refine v_aload_n dX6_readTerm_0 rfl 0 rfl ?_
  refine v_iload_n dX6_readTerm_1 rfl 1 rfl ?_
  obtain ⟨M1, e_M1, hF⟩ := Option.bind_eq_some_iff.mp hF
  refine v_calV0 dX6_readTerm_2 vl_X6_234 q2045 rc_ov (ct_T_readPart (by omega) (by omega) hf e_M1) rfl rfl (by omega) (by omega) (Nat.le_of_ble_eq_true rfl) ?_
  refine v_sub [0, 1] rfl (w_T_readTerm_L5 hbf hbl hfr hlo hf ?_ N _ _ hF)
  intro M18 hF
  cases hF
  exact v_vret dX6_readTerm_49 rfl rfl rfl
theorem ct_T_readTerm {l : Launch} {G : GT} {m0 : Nat} {hb : Hp} {N : Nat} {f : Int32 → TM → Option TM} {frf lof : Nat} (hbf : 3 ≤ frf) (hbl : 63 ≤ lof) (hf : ∀ (a1 : Int32) (M : TM) (r : TM), f a1 M = some r → Ct l G yX6_readSum (ws_ yX6_readSum cX6_readSum 2 (Option.none : Option Jvm.ClassFile.FieldType)) frf lof [.ref m0, .int a1] (ovT m0 M hb) none (ovT m0 r hb)) {r : TM} {a1 : Int32} {M : TM} (hF : T_readTerm N f a1 M = some r) : Ct l G yX6_readTerm (ws_ yX6_readTerm cX6_readTerm 2 (Option.none : Option Jvm.ClassFile.FieldType)) (frf + 2) (lof + 43) [.ref m0, .int a1] (ovT m0 M hb) none (ovT m0 r hb) :=
  ct_of (by decide) (Nat.le_of_ble_eq_true rfl) (w_T_readTerm hbf hbl (Nat.le_refl _) (Nat.le_refl _) hf hF)
theorem vl_X6_231 : ∀ ci ∈ [6], VL RX6 231 ci yX6_readTerm 1 := by
  intro ci h
  simp only [List.mem_cons, List.not_mem_nil, or_false] at h
  subst h; exact ⟨RX6, TX6, 56, rfl, q146, ⟨by decide, by decide⟩, by decide +kernel, q2040, Or.inl ⟨q2038, qs88⟩⟩
def T_readSum_o_J29 (N : Nat) (f : Int32 → TM → Option TM) (c5 : Int32 → TM → Option TM) (v8 : Int32) (M9 : TM) : Option TM :=
  (T_readTerm N f v8 M9).bind fun M10 =>
  c5 v8 M10
theorem w_T_readSum_o_J29 {l : Launch} {G : GT} {fr lo : Nat} {h0 : Hp} {m0 : Nat} {hb : Hp} {N : Nat} {f : Int32 → TM → Option TM} {r : TM} {frf lof : Nat} (hbf : 3 ≤ frf) (hbl : 63 ≤ lof) (hfr : frf + 3 ≤ fr) (hlo : lof + 64 ≤ lo) (hf : ∀ (a1 : Int32) (M : TM) (r : TM), f a1 M = some r → Ct l G yX6_readSum (ws_ yX6_readSum cX6_readSum 2 (Option.none : Option Jvm.ClassFile.FieldType)) frf lof [.ref m0, .int a1] (ovT m0 M hb) none (ovT m0 r hb)) {c5 : Int32 → TM → Option TM} (hc5 : ∀ (v2 : Int32) (M3 : TM), c5 v2 M3 = some r → V l G cX6_readSum RX6 "readSum" 2 (Option.none : Option Jvm.ClassFile.FieldType) fr lo h0 (ovT m0 r hb) (QM G none h0 (ovT m0 r hb)) 5 [(0, .ref m0), (1, .int v2)] [] (ovT m0 M3 hb)) {v8 : Int32} {M9 : TM} (hF : T_readSum_o_J29 N f c5 v8 M9 = some r) : V l G cX6_readSum RX6 "readSum" 2 (Option.none : Option Jvm.ClassFile.FieldType) fr lo h0 (ovT m0 r hb) (QM G none h0 (ovT m0 r hb)) 29 [(0, .ref m0), (1, .int v8)] [] (ovT m0 M9 hb) := by
  unfold T_readSum_o_J29 at hF
  refine v_aload_n dX6_readSum_29 rfl 0 rfl ?_
  refine v_iload_n dX6_readSum_30 rfl 1 rfl ?_
  obtain ⟨M10, e_M10, hF⟩ := Option.bind_eq_some_iff.mp hF
  refine v_calV0 dX6_readSum_31 vl_X6_231 q2041 rc_ov (ct_T_readTerm (by omega) (by omega) hf e_M10) rfl rfl (by omega) (by omega) (Nat.le_of_ble_eq_true rfl) ?_
  refine v_goto (tgt := 5) dX6_readSum_34 (by decide) ?_
  exact v_sub [0, 1] rfl (hc5 _ _ hF)
def T_readSum_o_L5 (N : Nat) (f : Int32 → TM → Option TM) (x5 : TM → Option TM) : Nat → Int32 → TM → Option TM
  | 0, _, _ => none
  | n14 + 1, v2, M3 =>
    (T_sign (43 : Int32)).bind fun v5 =>
    bd2 (T_takes0 v5 M3) fun v7 M6 =>
    if v7 = 0 then
      (T_sign (45 : Int32)).bind fun v11 =>
      bd2 (T_takes0 v11 M6) fun v13 M12 =>
      if v13 = 0 then
        x5 M12
      else
        T_readSum_o_J29 N f (T_readSum_o_L5 N f x5 n14) v2 M12
    else
      T_readSum_o_J29 N f (T_readSum_o_L5 N f x5 n14) v2 M6
theorem w_T_readSum_o_L5 {l : Launch} {G : GT} {fr lo : Nat} {h0 : Hp} {m0 : Nat} {hb : Hp} {N : Nat} {f : Int32 → TM → Option TM} {r : TM} {frf lof : Nat} (hbf : 3 ≤ frf) (hbl : 63 ≤ lof) (hfr : frf + 3 ≤ fr) (hlo : lof + 64 ≤ lo) (hf : ∀ (a1 : Int32) (M : TM) (r : TM), f a1 M = some r → Ct l G yX6_readSum (ws_ yX6_readSum cX6_readSum 2 (Option.none : Option Jvm.ClassFile.FieldType)) frf lof [.ref m0, .int a1] (ovT m0 M hb) none (ovT m0 r hb)) {x5 : TM → Option TM} (hx5 : ∀ (M4 : TM), x5 M4 = some r → V l G cX6_readSum RX6 "readSum" 2 (Option.none : Option Jvm.ClassFile.FieldType) fr lo h0 (ovT m0 r hb) (QM G none h0 (ovT m0 r hb)) 37 [] [] (ovT m0 M4 hb)) : ∀ (n : Nat) (v2 : Int32) (M3 : TM), T_readSum_o_L5 N f x5 n v2 M3 = some r → V l G cX6_readSum RX6 "readSum" 2 (Option.none : Option Jvm.ClassFile.FieldType) fr lo h0 (ovT m0 r hb) (QM G none h0 (ovT m0 r hb)) 5 [(0, .ref m0), (1, .int v2)] [] (ovT m0 M3 hb) := by
  intro n
  induction n with
  | zero =>
    intro v2 M3 hF
    cases (show (none : Option TM) = some r from hF)
  | succ n hc5 =>
    intro v2 M3 hF
    rw [T_readSum_o_L5] at hF
    refine v_aload_n dX6_readSum_5 rfl 0 rfl ?_
    refine v_bipush dX6_readSum_6 (v := 43) (by decide) ?_
    obtain ⟨v5, e_v5, hF⟩ := Option.bind_eq_some_iff.mp hF
    refine v_calS1 dX6_readSum_8 sl_X6_227 q1902 (ct_T_sign e_v5) rfl rfl (by omega) (by omega) (Nat.le_of_ble_eq_true rfl) ?_
    obtain ⟨v7, M6, e_v7, hF⟩ := bd2_spec hF
    refine v_calV1 dX6_readSum_11 vl_X6_188 q2029 rc_ov (ct_T_takes0 e_v7) rfl rfl (by omega) (by omega) (Nat.le_of_ble_eq_true rfl) ?_
    refine v_if_ne (tgt := 29) dX6_readSum_14 (by decide) hF (fun hF => ?_) (fun hF => ?_)
    · exact v_sub [0, 1] rfl (w_T_readSum_o_J29 hbf hbl hfr hlo hf hc5 hF)
    · refine v_aload_n dX6_readSum_17 rfl 0 rfl ?_
      refine v_bipush dX6_readSum_18 (v := 45) (by decide) ?_
      obtain ⟨v11, e_v11, hF⟩ := Option.bind_eq_some_iff.mp hF
      refine v_calS1 dX6_readSum_20 sl_X6_227 q1902 (ct_T_sign e_v11) rfl rfl (by omega) (by omega) (Nat.le_of_ble_eq_true rfl) ?_
      obtain ⟨v13, M12, e_v13, hF⟩ := bd2_spec hF
      refine v_calV1 dX6_readSum_23 vl_X6_188 q2029 rc_ov (ct_T_takes0 e_v13) rfl rfl (by omega) (by omega) (Nat.le_of_ble_eq_true rfl) ?_
      refine v_if_eq (tgt := 37) dX6_readSum_26 (by decide) hF (fun hF => ?_) (fun hF => ?_)
      · exact v_sub [] rfl (hx5 _ hF)
      · exact v_sub [0, 1] rfl (w_T_readSum_o_J29 hbf hbl hfr hlo hf hc5 hF)
def T_readSum_o (N : Nat) (f : Int32 → TM → Option TM) (a1 : Int32) (M : TM) : Option TM :=
  (T_readTerm N f a1 M).bind fun M1 =>
  T_readSum_o_L5 N f (fun M15 =>
    some M15) N a1 M1
theorem w_T_readSum_o {l : Launch} {G : GT} {fr lo : Nat} {h0 : Hp} {m0 : Nat} {hb : Hp} {N : Nat} {f : Int32 → TM → Option TM} {r : TM} {frf lof : Nat} (hbf : 3 ≤ frf) (hbl : 63 ≤ lof) (hfr : frf + 3 ≤ fr) (hlo : lof + 64 ≤ lo) (hf : ∀ (a1 : Int32) (M : TM) (r : TM), f a1 M = some r → Ct l G yX6_readSum (ws_ yX6_readSum cX6_readSum 2 (Option.none : Option Jvm.ClassFile.FieldType)) frf lof [.ref m0, .int a1] (ovT m0 M hb) none (ovT m0 r hb)) {a1 : Int32} {M : TM} (hF : T_readSum_o N f a1 M = some r) : V l G cX6_readSum RX6 "readSum" 2 (Option.none : Option Jvm.ClassFile.FieldType) fr lo h0 (ovT m0 r hb) (QM G none h0 (ovT m0 r hb)) 0 [(0, .ref m0), (1, .int a1)] [] (ovT m0 M hb) := by
  unfold T_readSum_o at hF
  refine v_aload_n dX6_readSum_0 rfl 0 rfl ?_
  refine v_iload_n dX6_readSum_1 rfl 1 rfl ?_
  obtain ⟨M1, e_M1, hF⟩ := Option.bind_eq_some_iff.mp hF
  refine v_calV0 dX6_readSum_2 vl_X6_231 q2041 rc_ov (ct_T_readTerm (by omega) (by omega) hf e_M1) rfl rfl (by omega) (by omega) (Nat.le_of_ble_eq_true rfl) ?_
  refine v_sub [0, 1] rfl (w_T_readSum_o_L5 hbf hbl hfr hlo hf ?_ N _ _ hF)
  intro M15 hF
  cases hF
  exact v_vret dX6_readSum_37 rfl rfl rfl
theorem ct_T_readSum_o {l : Launch} {G : GT} {m0 : Nat} {hb : Hp} {N : Nat} {f : Int32 → TM → Option TM} {frf lof : Nat} (hbf : 3 ≤ frf) (hbl : 63 ≤ lof) (hf : ∀ (a1 : Int32) (M : TM) (r : TM), f a1 M = some r → Ct l G yX6_readSum (ws_ yX6_readSum cX6_readSum 2 (Option.none : Option Jvm.ClassFile.FieldType)) frf lof [.ref m0, .int a1] (ovT m0 M hb) none (ovT m0 r hb)) {r : TM} {a1 : Int32} {M : TM} (hF : T_readSum_o N f a1 M = some r) : Ct l G yX6_readSum (ws_ yX6_readSum cX6_readSum 2 (Option.none : Option Jvm.ClassFile.FieldType)) (frf + 3) (lof + 64) [.ref m0, .int a1] (ovT m0 M hb) none (ovT m0 r hb) :=
  ct_of (by decide) (Nat.le_of_ble_eq_true rfl) (w_T_readSum_o hbf hbl (Nat.le_refl _) (Nat.le_refl _) hf hF)
def T_readSum (N : Nat) : Nat → Int32 → TM → Option TM
  | 0, _, _ => none
  | d + 1, a1, M => T_readSum_o N (T_readSum N d) a1 M
theorem ctd_T_readSum {l : Launch} {G : GT} {m0 : Nat} {hb : Hp} {N : Nat} : ∀ (d : Nat) {r : TM} {a1 : Int32} {M : TM} (hF : T_readSum N d a1 M = some r), Ct l G yX6_readSum (ws_ yX6_readSum cX6_readSum 2 (Option.none : Option Jvm.ClassFile.FieldType)) (3 + 3 * d) (63 + 64 * d) [.ref m0, .int a1] (ovT m0 M hb) none (ovT m0 r hb) := by
  intro d
  induction d with
  | zero => intro r a1 M hF; cases (show (none : Option TM) = some r from hF)
  | succ d ih =>
    intro r a1 M hF
    rw [show 3 + 3 * (d + 1) = (3 + 3 * d) + 3 by omega, show 63 + 64 * (d + 1) = (63 + 64 * d) + 64 by omega]
    exact ct_T_readSum_o (frf := 3 + 3 * d) (lof := 63 + 64 * d) (by omega) (by omega) (fun _ _ _ z => ih z) hF
theorem vl_X6_204 : ∀ ci ∈ [6], VL RX6 204 ci yX6_readTest 1 := by
  intro ci h
  simp only [List.mem_cons, List.not_mem_nil, or_false] at h
  subst h; exact ⟨RX6, TX6, 56, rfl, q146, ⟨by decide, by decide⟩, by decide +kernel, q2064, Or.inl ⟨q2062, qs94⟩⟩
def T_readPlain_L2 (N : Nat) (f : Int32 → TM → Option TM) (x2 : Int32 → TM → Option TM) : Nat → Int32 → Int32 → TM → Option TM
  | 0, _, _, _ => none
  | n8 + 1, v1, v2, M3 =>
    if v2 = 0 then
      x2 v1 M3
    else
      bd2 (T_takes0 (7 : Int32) M3) fun v7 M6 =>
      (T_readPlain_L2 N f x2 n8) v1 v7 M6
theorem w_T_readPlain_L2 {l : Launch} {G : GT} {fr lo : Nat} {h0 : Hp} {m0 : Nat} {hb : Hp} {N : Nat} {f : Int32 → TM → Option TM} {r : TM} {frf lof : Nat} (hbf : 52 ≤ frf) (hbl : 1108 ≤ lof) (hfr : frf + 1 ≤ fr) (hlo : lof + 21 ≤ lo) (hf : ∀ (a1 : Int32) (M : TM) (r : TM), f a1 M = some r → Ct l G yX6_readTest (ws_ yX6_readTest cX6_readTest 2 (Option.none : Option Jvm.ClassFile.FieldType)) frf lof [.ref m0, .int a1] (ovT m0 M hb) none (ovT m0 r hb)) {x2 : Int32 → TM → Option TM} (hx2 : ∀ (v4 : Int32) (M5 : TM), x2 v4 M5 = some r → V l G cX6_readPlain RX6 "readPlain" 4 (Option.none : Option Jvm.ClassFile.FieldType) fr lo h0 (ovT m0 r hb) (QM G none h0 (ovT m0 r hb)) 16 [(0, .ref m0), (1, .int v4)] [] (ovT m0 M5 hb)) : ∀ (n : Nat) (v1 : Int32) (v2 : Int32) (M3 : TM), T_readPlain_L2 N f x2 n v1 v2 M3 = some r → V l G cX6_readPlain RX6 "readPlain" 4 (Option.none : Option Jvm.ClassFile.FieldType) fr lo h0 (ovT m0 r hb) (QM G none h0 (ovT m0 r hb)) 2 [(0, .ref m0), (1, .int v1), (2, .int v2)] [] (ovT m0 M3 hb) := by
  intro n
  induction n with
  | zero =>
    intro v1 v2 M3 hF
    cases (show (none : Option TM) = some r from hF)
  | succ n hc2 =>
    intro v1 v2 M3 hF
    rw [T_readPlain_L2] at hF
    refine v_iload_n dX6_readPlain_2 rfl 2 rfl ?_
    refine v_if_eq (tgt := 16) dX6_readPlain_3 (by decide) hF (fun hF => ?_) (fun hF => ?_)
    · exact v_sub [0, 1] rfl (hx2 _ _ hF)
    · refine v_aload_n dX6_readPlain_6 rfl 0 rfl ?_
      refine v_bipush dX6_readPlain_7 (v := 7) (by decide) ?_
      obtain ⟨v7, M6, e_v7, hF⟩ := bd2_spec hF
      refine v_calV1 dX6_readPlain_9 vl_X6_188 q2029 rc_ov (ct_T_takes0 e_v7) rfl rfl (by omega) (by omega) (Nat.le_of_ble_eq_true rfl) ?_
      refine v_istore_n dX6_readPlain_12 rfl (Nat.le_of_ble_eq_true rfl) (L' := [(2, .int v7), (0, .ref m0), (1, .int v1)]) rfl ?_
      refine v_goto (tgt := 2) dX6_readPlain_13 (by decide) ?_
      exact v_sub [1, 2, 0] rfl (hc2 _ _ _ hF)
def T_readPlain_J128 (N : Nat) (f : Int32 → TM → Option TM) (v18 : Int32) (M19 : TM) : Option TM :=
  (T_readSum N 16 v18 M19).bind fun M20 =>
  some M20
theorem w_T_readPlain_J128 {l : Launch} {G : GT} {fr lo : Nat} {h0 : Hp} {m0 : Nat} {hb : Hp} {N : Nat} {f : Int32 → TM → Option TM} {r : TM} {frf lof : Nat} (hbf : 52 ≤ frf) (hbl : 1108 ≤ lof) (hfr : frf + 1 ≤ fr) (hlo : lof + 21 ≤ lo) (hf : ∀ (a1 : Int32) (M : TM) (r : TM), f a1 M = some r → Ct l G yX6_readTest (ws_ yX6_readTest cX6_readTest 2 (Option.none : Option Jvm.ClassFile.FieldType)) frf lof [.ref m0, .int a1] (ovT m0 M hb) none (ovT m0 r hb))   {v18 : Int32} {M19 : TM} (hF : T_readPlain_J128 N f v18 M19 = some r) : V l G cX6_readPlain RX6 "readPlain" 4 (Option.none : Option Jvm.ClassFile.FieldType) fr lo h0 (ovT m0 r hb) (QM G none h0 (ovT m0 r hb)) 128 [(0, .ref m0), (1, .int v18)] [] (ovT m0 M19 hb) := by
  unfold T_readPlain_J128 at hF
  refine v_aload_n dX6_readPlain_128 rfl 0 rfl ?_
  refine v_iload_n dX6_readPlain_129 rfl 1 rfl ?_
  obtain ⟨M20, e_M20, hF⟩ := Option.bind_eq_some_iff.mp hF
  refine v_calV0 dX6_readPlain_130 vl_X6_197 q2037 rc_ov (ctd_T_readSum 16 e_M20) rfl rfl (by omega) (by omega) (Nat.le_of_ble_eq_true rfl) ?_
  cases hF
  exact v_vret dX6_readPlain_133 rfl rfl rfl
def T_readPlain_J53 (N : Nat) (f : Int32 → TM → Option TM) (v26 : Int32) (M27 : TM) : Option TM :=
  (T_fine M27).bind fun v28 =>
  if v28 = 0 then
    some M27
  else
    (some (tsi M27 19 ((M27.1 19) + (1 : Int32)))).bind fun (M29 : TM) =>
    (f (v26 + (1 : Int32)) M29).bind fun M30 =>
    (T_sign (41 : Int32)).bind fun v31 =>
    (T_must v31 M30).bind fun M32 =>
    some M32
theorem w_T_readPlain_J53 {l : Launch} {G : GT} {fr lo : Nat} {h0 : Hp} {m0 : Nat} {hb : Hp} {N : Nat} {f : Int32 → TM → Option TM} {r : TM} {frf lof : Nat} (hbf : 52 ≤ frf) (hbl : 1108 ≤ lof) (hfr : frf + 1 ≤ fr) (hlo : lof + 21 ≤ lo) (hf : ∀ (a1 : Int32) (M : TM) (r : TM), f a1 M = some r → Ct l G yX6_readTest (ws_ yX6_readTest cX6_readTest 2 (Option.none : Option Jvm.ClassFile.FieldType)) frf lof [.ref m0, .int a1] (ovT m0 M hb) none (ovT m0 r hb))   {v26 : Int32} {M27 : TM} (hF : T_readPlain_J53 N f v26 M27 = some r) : V l G cX6_readPlain RX6 "readPlain" 4 (Option.none : Option Jvm.ClassFile.FieldType) fr lo h0 (ovT m0 r hb) (QM G none h0 (ovT m0 r hb)) 53 [(0, .ref m0), (1, .int v26)] [] (ovT m0 M27 hb) := by
  unfold T_readPlain_J53 at hF
  refine v_aload_n dX6_readPlain_53 rfl 0 rfl ?_
  obtain ⟨v28, e_v28, hF⟩ := Option.bind_eq_some_iff.mp hF
  refine v_calV1 dX6_readPlain_54 vl_X6_181 q2033 rc_ov (ct_T_fine e_v28) rfl rfl (by omega) (by omega) (Nat.le_of_ble_eq_true rfl) ?_
  refine v_if_ne (tgt := 61) dX6_readPlain_57 (by decide) hF (fun hF => ?_) (fun hF => ?_)
  · refine v_aload_n dX6_readPlain_61 rfl 0 rfl ?_
    refine v_dup dX6_readPlain_62 rfl ?_
    refine t_geti 19 dX6_readPlain_63 fl_X6_185 rfl ?_
    refine v_iconst dX6_readPlain_66 (v := 1) (by decide) ?_
    refine v_iadd dX6_readPlain_67 ?_
    refine t_puti 19 dX6_readPlain_68 pl_X6_185 rfl ?_
    refine v_letM hF (fun M29 hF => ?_)
    refine v_aload_n dX6_readPlain_71 rfl 0 rfl ?_
    refine v_iload_n dX6_readPlain_72 rfl 1 rfl ?_
    refine v_iconst dX6_readPlain_73 (v := 1) (by decide) ?_
    refine v_iadd dX6_readPlain_74 ?_
    obtain ⟨M30, e_M30, hF⟩ := Option.bind_eq_some_iff.mp hF
    refine v_calV0 dX6_readPlain_75 vl_X6_204 q2065 rc_ov (hf _ _ _ e_M30) rfl rfl (by omega) (by omega) (Nat.le_of_ble_eq_true rfl) ?_
    refine v_aload_n dX6_readPlain_78 rfl 0 rfl ?_
    refine v_bipush dX6_readPlain_79 (v := 41) (by decide) ?_
    obtain ⟨v31, e_v31, hF⟩ := Option.bind_eq_some_iff.mp hF
    refine v_calS1 dX6_readPlain_81 sl_X6_227 q1902 (ct_T_sign e_v31) rfl rfl (by omega) (by omega) (Nat.le_of_ble_eq_true rfl) ?_
    obtain ⟨M32, e_M32, hF⟩ := Option.bind_eq_some_iff.mp hF
    refine v_calV0 dX6_readPlain_84 vl_X6_201 q2053 rc_ov (ct_T_must e_M32) rfl rfl (by omega) (by omega) (Nat.le_of_ble_eq_true rfl) ?_
    refine v_goto (tgt := 133) dX6_readPlain_87 (by decide) ?_
    cases hF
    exact v_vret dX6_readPlain_133 rfl rfl rfl
  · cases hF
    exact v_vret dX6_readPlain_60 rfl rfl rfl
def T_readPlain (N : Nat) (f : Int32 → TM → Option TM) (a1 : Int32) (M : TM) : Option TM :=
  T_readPlain_L2 N f (fun v9 M10 =>
    (T_fine M10).bind fun v11 =>
    if v11 = 0 then
      some M10
    else
      (tra M10 15 401 (M10.1 19)).bind fun v12 =>
      (T_sign (40 : Int32)).bind fun v13 =>
      if v12 = v13 then
        if v9 = (8 : Int32) then
          (T_faults M10).bind fun M33 =>
          T_readPlain_J53 N f v9 M33
        else
          T_readPlain_J53 N f v9 M10
      else
        (T_readSum N 16 v9 M10).bind fun M14 =>
        (T_sign (60 : Int32)).bind fun v15 =>
        bd2 (T_takes0 v15 M14) fun v17 M16 =>
        if v17 = 0 then
          (T_sign (62 : Int32)).bind fun v21 =>
          bd2 (T_takes0 v21 M16) fun v23 M22 =>
          if v23 = 0 then
            (T_sign (61 : Int32)).bind fun v24 =>
            (T_must v24 M22).bind fun M25 =>
            T_readPlain_J128 N f v9 M25
          else
            T_readPlain_J128 N f v9 M22
        else
          T_readPlain_J128 N f v9 M16) N a1 (1 : Int32) M
theorem w_T_readPlain {l : Launch} {G : GT} {fr lo : Nat} {h0 : Hp} {m0 : Nat} {hb : Hp} {N : Nat} {f : Int32 → TM → Option TM} {r : TM} {frf lof : Nat} (hbf : 52 ≤ frf) (hbl : 1108 ≤ lof) (hfr : frf + 1 ≤ fr) (hlo : lof + 21 ≤ lo) (hf : ∀ (a1 : Int32) (M : TM) (r : TM), f a1 M = some r → Ct l G yX6_readTest (ws_ yX6_readTest cX6_readTest 2 (Option.none : Option Jvm.ClassFile.FieldType)) frf lof [.ref m0, .int a1] (ovT m0 M hb) none (ovT m0 r hb)) {a1 : Int32} {M : TM} (hF : T_readPlain N f a1 M = some r) : V l G cX6_readPlain RX6 "readPlain" 4 (Option.none : Option Jvm.ClassFile.FieldType) fr lo h0 (ovT m0 r hb) (QM G none h0 (ovT m0 r hb)) 0 [(0, .ref m0), (1, .int a1)] [] (ovT m0 M hb) := by
  unfold T_readPlain at hF
  refine v_iconst dX6_readPlain_0 (v := 1) (by decide) ?_
  refine v_istore_n dX6_readPlain_1 rfl (Nat.le_of_ble_eq_true rfl) (L' := [(2, .int (1 : Int32)), (0, .ref m0), (1, .int a1)]) rfl ?_
  refine v_sub [1, 2, 0] rfl (w_T_readPlain_L2 hbf hbl hfr hlo hf ?_ N _ _ _ hF)
  intro v9 M10 hF
  refine v_aload_n dX6_readPlain_16 rfl 0 rfl ?_
  obtain ⟨v11, e_v11, hF⟩ := Option.bind_eq_some_iff.mp hF
  refine v_calV1 dX6_readPlain_17 vl_X6_181 q2033 rc_ov (ct_T_fine e_v11) rfl rfl (by omega) (by omega) (Nat.le_of_ble_eq_true rfl) ?_
  refine v_if_ne (tgt := 24) dX6_readPlain_20 (by decide) hF (fun hF => ?_) (fun hF => ?_)
  · refine v_aload_n dX6_readPlain_24 rfl 0 rfl ?_
    refine t_geta 15 9 dX6_readPlain_25 fl_X6_50 (Nat.le_of_ble_eq_true rfl) (fun _ _ => rfl) ?_
    refine v_aload_n dX6_readPlain_28 rfl 0 rfl ?_
    refine t_geti 19 dX6_readPlain_29 fl_X6_185 rfl ?_
    refine t_iald 9 dX6_readPlain_32 rfl (Nat.le_of_ble_eq_true rfl) (by decide) hF (fun v12 hF => ?_)
    refine v_istore_n dX6_readPlain_33 rfl (Nat.le_of_ble_eq_true rfl) (L' := [(3, .int v12), (0, .ref m0), (1, .int v9)]) rfl ?_
    refine v_iload_n dX6_readPlain_34 rfl 0 rfl ?_
    refine v_bipush dX6_readPlain_35 (v := 40) (by decide) ?_
    obtain ⟨v13, e_v13, hF⟩ := Option.bind_eq_some_iff.mp hF
    refine v_calS1 dX6_readPlain_37 sl_X6_227 q1902 (ct_T_sign e_v13) rfl rfl (by omega) (by omega) (Nat.le_of_ble_eq_true rfl) ?_
    refine v_icmp_ne (tgt := 90) dX6_readPlain_40 (by decide) hF (fun hF => ?_) (fun hF => ?_)
    · refine v_aload_n dX6_readPlain_90 rfl 1 rfl ?_
      refine v_iload_n dX6_readPlain_91 rfl 2 rfl ?_
      obtain ⟨M14, e_M14, hF⟩ := Option.bind_eq_some_iff.mp hF
      refine v_calV0 dX6_readPlain_92 vl_X6_197 q2037 rc_ov (ctd_T_readSum 16 e_M14) rfl rfl (by omega) (by omega) (Nat.le_of_ble_eq_true rfl) ?_
      refine v_aload_n dX6_readPlain_95 rfl 1 rfl ?_
      refine v_bipush dX6_readPlain_96 (v := 60) (by decide) ?_
      obtain ⟨v15, e_v15, hF⟩ := Option.bind_eq_some_iff.mp hF
      refine v_calS1 dX6_readPlain_98 sl_X6_227 q1902 (ct_T_sign e_v15) rfl rfl (by omega) (by omega) (Nat.le_of_ble_eq_true rfl) ?_
      obtain ⟨v17, M16, e_v17, hF⟩ := bd2_spec hF
      refine v_calV1 dX6_readPlain_101 vl_X6_188 q2029 rc_ov (ct_T_takes0 e_v17) rfl rfl (by omega) (by omega) (Nat.le_of_ble_eq_true rfl) ?_
      refine v_if_ne (tgt := 128) dX6_readPlain_104 (by decide) hF (fun hF => ?_) (fun hF => ?_)
      · exact v_sub [1, 2] rfl (w_T_readPlain_J128 hbf hbl hfr hlo hf hF)
      · refine v_aload_n dX6_readPlain_107 rfl 1 rfl ?_
        refine v_bipush dX6_readPlain_108 (v := 62) (by decide) ?_
        obtain ⟨v21, e_v21, hF⟩ := Option.bind_eq_some_iff.mp hF
        refine v_calS1 dX6_readPlain_110 sl_X6_227 q1902 (ct_T_sign e_v21) rfl rfl (by omega) (by omega) (Nat.le_of_ble_eq_true rfl) ?_
        obtain ⟨v23, M22, e_v23, hF⟩ := bd2_spec hF
        refine v_calV1 dX6_readPlain_113 vl_X6_188 q2029 rc_ov (ct_T_takes0 e_v23) rfl rfl (by omega) (by omega) (Nat.le_of_ble_eq_true rfl) ?_
        refine v_if_ne (tgt := 128) dX6_readPlain_116 (by decide) hF (fun hF => ?_) (fun hF => ?_)
        · exact v_sub [1, 2] rfl (w_T_readPlain_J128 hbf hbl hfr hlo hf hF)
        · refine v_aload_n dX6_readPlain_119 rfl 1 rfl ?_
          refine v_bipush dX6_readPlain_120 (v := 61) (by decide) ?_
          obtain ⟨v24, e_v24, hF⟩ := Option.bind_eq_some_iff.mp hF
          refine v_calS1 dX6_readPlain_122 sl_X6_227 q1902 (ct_T_sign e_v24) rfl rfl (by omega) (by omega) (Nat.le_of_ble_eq_true rfl) ?_
          obtain ⟨M25, e_M25, hF⟩ := Option.bind_eq_some_iff.mp hF
          refine v_calV0 dX6_readPlain_125 vl_X6_201 q2053 rc_ov (ct_T_must e_M25) rfl rfl (by omega) (by omega) (Nat.le_of_ble_eq_true rfl) ?_
          exact v_sub [1, 2] rfl (w_T_readPlain_J128 hbf hbl hfr hlo hf hF)
    · refine v_iload_n dX6_readPlain_43 rfl 2 rfl ?_
      refine v_bipush dX6_readPlain_44 (v := 8) (by decide) ?_
      refine v_icmp_ne (tgt := 53) dX6_readPlain_46 (by decide) hF (fun hF => ?_) (fun hF => ?_)
      · exact v_sub [1, 2] rfl (w_T_readPlain_J53 hbf hbl hfr hlo hf hF)
      · refine v_aload_n dX6_readPlain_49 rfl 1 rfl ?_
        obtain ⟨M33, e_M33, hF⟩ := Option.bind_eq_some_iff.mp hF
        refine v_calV0 dX6_readPlain_50 vl_X6_191 q2049 rc_ov (ct_T_faults e_M33) rfl rfl (by omega) (by omega) (Nat.le_of_ble_eq_true rfl) ?_
        exact v_sub [1, 2] rfl (w_T_readPlain_J53 hbf hbl hfr hlo hf hF)
  · cases hF
    exact v_vret dX6_readPlain_23 rfl rfl rfl
theorem ct_T_readPlain {l : Launch} {G : GT} {m0 : Nat} {hb : Hp} {N : Nat} {f : Int32 → TM → Option TM} {frf lof : Nat} (hbf : 52 ≤ frf) (hbl : 1108 ≤ lof) (hf : ∀ (a1 : Int32) (M : TM) (r : TM), f a1 M = some r → Ct l G yX6_readTest (ws_ yX6_readTest cX6_readTest 2 (Option.none : Option Jvm.ClassFile.FieldType)) frf lof [.ref m0, .int a1] (ovT m0 M hb) none (ovT m0 r hb)) {r : TM} {a1 : Int32} {M : TM} (hF : T_readPlain N f a1 M = some r) : Ct l G yX6_readPlain (ws_ yX6_readPlain cX6_readPlain 4 (Option.none : Option Jvm.ClassFile.FieldType)) (frf + 1) (lof + 21) [.ref m0, .int a1] (ovT m0 M hb) none (ovT m0 r hb) :=
  ct_of (by decide) (Nat.le_of_ble_eq_true rfl) (w_T_readPlain hbf hbl (Nat.le_refl _) (Nat.le_refl _) hf hF)
theorem vl_X6_224 : ∀ ci ∈ [6], VL RX6 224 ci yX6_readPlain 1 := by
  intro ci h
  simp only [List.mem_cons, List.not_mem_nil, or_false] at h
  subst h; exact ⟨RX6, TX6, 56, rfl, q146, ⟨by decide, by decide⟩, by decide +kernel, q2072, Or.inl ⟨q2070, qs96⟩⟩
def T_readBoth_L5 (N : Nat) (f : Int32 → TM → Option TM) (x5 : TM → Option TM) : Nat → Int32 → TM → Option TM
  | 0, _, _ => none
  | n8 + 1, v2, M3 =>
    bd2 (T_takes0 (6 : Int32) M3) fun v6 M5 =>
    if v6 = 0 then
      x5 M5
    else
      (T_readPlain N f v2 M5).bind fun M7 =>
      (T_readBoth_L5 N f x5 n8) v2 M7
theorem w_T_readBoth_L5 {l : Launch} {G : GT} {fr lo : Nat} {h0 : Hp} {m0 : Nat} {hb : Hp} {N : Nat} {f : Int32 → TM → Option TM} {r : TM} {frf lof : Nat} (hbf : 52 ≤ frf) (hbl : 1108 ≤ lof) (hfr : frf + 2 ≤ fr) (hlo : lof + 44 ≤ lo) (hf : ∀ (a1 : Int32) (M : TM) (r : TM), f a1 M = some r → Ct l G yX6_readTest (ws_ yX6_readTest cX6_readTest 2 (Option.none : Option Jvm.ClassFile.FieldType)) frf lof [.ref m0, .int a1] (ovT m0 M hb) none (ovT m0 r hb)) {x5 : TM → Option TM} (hx5 : ∀ (M4 : TM), x5 M4 = some r → V l G cX6_readBoth RX6 "readBoth" 2 (Option.none : Option Jvm.ClassFile.FieldType) fr lo h0 (ovT m0 r hb) (QM G none h0 (ovT m0 r hb)) 22 [] [] (ovT m0 M4 hb)) : ∀ (n : Nat) (v2 : Int32) (M3 : TM), T_readBoth_L5 N f x5 n v2 M3 = some r → V l G cX6_readBoth RX6 "readBoth" 2 (Option.none : Option Jvm.ClassFile.FieldType) fr lo h0 (ovT m0 r hb) (QM G none h0 (ovT m0 r hb)) 5 [(0, .ref m0), (1, .int v2)] [] (ovT m0 M3 hb) := by
  intro n
  induction n with
  | zero =>
    intro v2 M3 hF
    cases (show (none : Option TM) = some r from hF)
  | succ n hc5 =>
    intro v2 M3 hF
    rw [T_readBoth_L5] at hF
    refine v_aload_n dX6_readBoth_5 rfl 0 rfl ?_
    refine v_bipush dX6_readBoth_6 (v := 6) (by decide) ?_
    obtain ⟨v6, M5, e_v6, hF⟩ := bd2_spec hF
    refine v_calV1 dX6_readBoth_8 vl_X6_188 q2029 rc_ov (ct_T_takes0 e_v6) rfl rfl (by omega) (by omega) (Nat.le_of_ble_eq_true rfl) ?_
    refine v_if_eq (tgt := 22) dX6_readBoth_11 (by decide) hF (fun hF => ?_) (fun hF => ?_)
    · exact v_sub [] rfl (hx5 _ hF)
    · refine v_aload_n dX6_readBoth_14 rfl 0 rfl ?_
      refine v_iload_n dX6_readBoth_15 rfl 1 rfl ?_
      obtain ⟨M7, e_M7, hF⟩ := Option.bind_eq_some_iff.mp hF
      refine v_calV0 dX6_readBoth_16 vl_X6_224 q2073 rc_ov (ct_T_readPlain (by omega) (by omega) hf e_M7) rfl rfl (by omega) (by omega) (Nat.le_of_ble_eq_true rfl) ?_
      refine v_goto (tgt := 5) dX6_readBoth_19 (by decide) ?_
      exact v_sub [0, 1] rfl (hc5 _ _ hF)
def T_readBoth (N : Nat) (f : Int32 → TM → Option TM) (a1 : Int32) (M : TM) : Option TM :=
  (T_readPlain N f a1 M).bind fun M1 =>
  T_readBoth_L5 N f (fun M9 =>
    some M9) N a1 M1
theorem w_T_readBoth {l : Launch} {G : GT} {fr lo : Nat} {h0 : Hp} {m0 : Nat} {hb : Hp} {N : Nat} {f : Int32 → TM → Option TM} {r : TM} {frf lof : Nat} (hbf : 52 ≤ frf) (hbl : 1108 ≤ lof) (hfr : frf + 2 ≤ fr) (hlo : lof + 44 ≤ lo) (hf : ∀ (a1 : Int32) (M : TM) (r : TM), f a1 M = some r → Ct l G yX6_readTest (ws_ yX6_readTest cX6_readTest 2 (Option.none : Option Jvm.ClassFile.FieldType)) frf lof [.ref m0, .int a1] (ovT m0 M hb) none (ovT m0 r hb)) {a1 : Int32} {M : TM} (hF : T_readBoth N f a1 M = some r) : V l G cX6_readBoth RX6 "readBoth" 2 (Option.none : Option Jvm.ClassFile.FieldType) fr lo h0 (ovT m0 r hb) (QM G none h0 (ovT m0 r hb)) 0 [(0, .ref m0), (1, .int a1)] [] (ovT m0 M hb) := by
  unfold T_readBoth at hF
  refine v_aload_n dX6_readBoth_0 rfl 0 rfl ?_
  refine v_iload_n dX6_readBoth_1 rfl 1 rfl ?_
  obtain ⟨M1, e_M1, hF⟩ := Option.bind_eq_some_iff.mp hF
  refine v_calV0 dX6_readBoth_2 vl_X6_224 q2073 rc_ov (ct_T_readPlain (by omega) (by omega) hf e_M1) rfl rfl (by omega) (by omega) (Nat.le_of_ble_eq_true rfl) ?_
  refine v_sub [0, 1] rfl (w_T_readBoth_L5 hbf hbl hfr hlo hf ?_ N _ _ hF)
  intro M9 hF
  cases hF
  exact v_vret dX6_readBoth_22 rfl rfl rfl
theorem ct_T_readBoth {l : Launch} {G : GT} {m0 : Nat} {hb : Hp} {N : Nat} {f : Int32 → TM → Option TM} {frf lof : Nat} (hbf : 52 ≤ frf) (hbl : 1108 ≤ lof) (hf : ∀ (a1 : Int32) (M : TM) (r : TM), f a1 M = some r → Ct l G yX6_readTest (ws_ yX6_readTest cX6_readTest 2 (Option.none : Option Jvm.ClassFile.FieldType)) frf lof [.ref m0, .int a1] (ovT m0 M hb) none (ovT m0 r hb)) {r : TM} {a1 : Int32} {M : TM} (hF : T_readBoth N f a1 M = some r) : Ct l G yX6_readBoth (ws_ yX6_readBoth cX6_readBoth 2 (Option.none : Option Jvm.ClassFile.FieldType)) (frf + 2) (lof + 44) [.ref m0, .int a1] (ovT m0 M hb) none (ovT m0 r hb) :=
  ct_of (by decide) (Nat.le_of_ble_eq_true rfl) (w_T_readBoth hbf hbl (Nat.le_refl _) (Nat.le_refl _) hf hF)
theorem vl_X6_221 : ∀ ci ∈ [6], VL RX6 221 ci yX6_readBoth 1 := by
  intro ci h
  simp only [List.mem_cons, List.not_mem_nil, or_false] at h
  subst h; exact ⟨RX6, TX6, 56, rfl, q146, ⟨by decide, by decide⟩, by decide +kernel, q2068, Or.inl ⟨q2066, qs95⟩⟩
def T_readTest_o_L5 (N : Nat) (f : Int32 → TM → Option TM) (x5 : TM → Option TM) : Nat → Int32 → TM → Option TM
  | 0, _, _ => none
  | n8 + 1, v2, M3 =>
    bd2 (T_takes0 (5 : Int32) M3) fun v6 M5 =>
    if v6 = 0 then
      x5 M5
    else
      (T_readBoth N f v2 M5).bind fun M7 =>
      (T_readTest_o_L5 N f x5 n8) v2 M7
theorem w_T_readTest_o_L5 {l : Launch} {G : GT} {fr lo : Nat} {h0 : Hp} {m0 : Nat} {hb : Hp} {N : Nat} {f : Int32 → TM → Option TM} {r : TM} {frf lof : Nat} (hbf : 52 ≤ frf) (hbl : 1108 ≤ lof) (hfr : frf + 3 ≤ fr) (hlo : lof + 65 ≤ lo) (hf : ∀ (a1 : Int32) (M : TM) (r : TM), f a1 M = some r → Ct l G yX6_readTest (ws_ yX6_readTest cX6_readTest 2 (Option.none : Option Jvm.ClassFile.FieldType)) frf lof [.ref m0, .int a1] (ovT m0 M hb) none (ovT m0 r hb)) {x5 : TM → Option TM} (hx5 : ∀ (M4 : TM), x5 M4 = some r → V l G cX6_readTest RX6 "readTest" 2 (Option.none : Option Jvm.ClassFile.FieldType) fr lo h0 (ovT m0 r hb) (QM G none h0 (ovT m0 r hb)) 21 [] [] (ovT m0 M4 hb)) : ∀ (n : Nat) (v2 : Int32) (M3 : TM), T_readTest_o_L5 N f x5 n v2 M3 = some r → V l G cX6_readTest RX6 "readTest" 2 (Option.none : Option Jvm.ClassFile.FieldType) fr lo h0 (ovT m0 r hb) (QM G none h0 (ovT m0 r hb)) 5 [(0, .ref m0), (1, .int v2)] [] (ovT m0 M3 hb) := by
  intro n
  induction n with
  | zero =>
    intro v2 M3 hF
    cases (show (none : Option TM) = some r from hF)
  | succ n hc5 =>
    intro v2 M3 hF
    rw [T_readTest_o_L5] at hF
    refine v_aload_n dX6_readTest_5 rfl 0 rfl ?_
    refine v_iconst dX6_readTest_6 (v := 5) (by decide) ?_
    obtain ⟨v6, M5, e_v6, hF⟩ := bd2_spec hF
    refine v_calV1 dX6_readTest_7 vl_X6_188 q2029 rc_ov (ct_T_takes0 e_v6) rfl rfl (by omega) (by omega) (Nat.le_of_ble_eq_true rfl) ?_
    refine v_if_eq (tgt := 21) dX6_readTest_10 (by decide) hF (fun hF => ?_) (fun hF => ?_)
    · exact v_sub [] rfl (hx5 _ hF)
    · refine v_aload_n dX6_readTest_13 rfl 0 rfl ?_
      refine v_iload_n dX6_readTest_14 rfl 1 rfl ?_
      obtain ⟨M7, e_M7, hF⟩ := Option.bind_eq_some_iff.mp hF
      refine v_calV0 dX6_readTest_15 vl_X6_221 q2069 rc_ov (ct_T_readBoth (by omega) (by omega) hf e_M7) rfl rfl (by omega) (by omega) (Nat.le_of_ble_eq_true rfl) ?_
      refine v_goto (tgt := 5) dX6_readTest_18 (by decide) ?_
      exact v_sub [0, 1] rfl (hc5 _ _ hF)
def T_readTest_o (N : Nat) (f : Int32 → TM → Option TM) (a1 : Int32) (M : TM) : Option TM :=
  (T_readBoth N f a1 M).bind fun M1 =>
  T_readTest_o_L5 N f (fun M9 =>
    some M9) N a1 M1
theorem w_T_readTest_o {l : Launch} {G : GT} {fr lo : Nat} {h0 : Hp} {m0 : Nat} {hb : Hp} {N : Nat} {f : Int32 → TM → Option TM} {r : TM} {frf lof : Nat} (hbf : 52 ≤ frf) (hbl : 1108 ≤ lof) (hfr : frf + 3 ≤ fr) (hlo : lof + 65 ≤ lo) (hf : ∀ (a1 : Int32) (M : TM) (r : TM), f a1 M = some r → Ct l G yX6_readTest (ws_ yX6_readTest cX6_readTest 2 (Option.none : Option Jvm.ClassFile.FieldType)) frf lof [.ref m0, .int a1] (ovT m0 M hb) none (ovT m0 r hb)) {a1 : Int32} {M : TM} (hF : T_readTest_o N f a1 M = some r) : V l G cX6_readTest RX6 "readTest" 2 (Option.none : Option Jvm.ClassFile.FieldType) fr lo h0 (ovT m0 r hb) (QM G none h0 (ovT m0 r hb)) 0 [(0, .ref m0), (1, .int a1)] [] (ovT m0 M hb) := by
  unfold T_readTest_o at hF
  refine v_aload_n dX6_readTest_0 rfl 0 rfl ?_
  refine v_iload_n dX6_readTest_1 rfl 1 rfl ?_
  obtain ⟨M1, e_M1, hF⟩ := Option.bind_eq_some_iff.mp hF
  refine v_calV0 dX6_readTest_2 vl_X6_221 q2069 rc_ov (ct_T_readBoth (by omega) (by omega) hf e_M1) rfl rfl (by omega) (by omega) (Nat.le_of_ble_eq_true rfl) ?_
  refine v_sub [0, 1] rfl (w_T_readTest_o_L5 hbf hbl hfr hlo hf ?_ N _ _ hF)
  intro M9 hF
  cases hF
  exact v_vret dX6_readTest_21 rfl rfl rfl
theorem ct_T_readTest_o {l : Launch} {G : GT} {m0 : Nat} {hb : Hp} {N : Nat} {f : Int32 → TM → Option TM} {frf lof : Nat} (hbf : 52 ≤ frf) (hbl : 1108 ≤ lof) (hf : ∀ (a1 : Int32) (M : TM) (r : TM), f a1 M = some r → Ct l G yX6_readTest (ws_ yX6_readTest cX6_readTest 2 (Option.none : Option Jvm.ClassFile.FieldType)) frf lof [.ref m0, .int a1] (ovT m0 M hb) none (ovT m0 r hb)) {r : TM} {a1 : Int32} {M : TM} (hF : T_readTest_o N f a1 M = some r) : Ct l G yX6_readTest (ws_ yX6_readTest cX6_readTest 2 (Option.none : Option Jvm.ClassFile.FieldType)) (frf + 3) (lof + 65) [.ref m0, .int a1] (ovT m0 M hb) none (ovT m0 r hb) :=
  ct_of (by decide) (Nat.le_of_ble_eq_true rfl) (w_T_readTest_o hbf hbl (Nat.le_refl _) (Nat.le_refl _) hf hF)
def T_readTest (N : Nat) : Nat → Int32 → TM → Option TM
  | 0, _, _ => none
  | d + 1, a1, M => T_readTest_o N (T_readTest N d) a1 M
theorem ctd_T_readTest {l : Launch} {G : GT} {m0 : Nat} {hb : Hp} {N : Nat} : ∀ (d : Nat) {r : TM} {a1 : Int32} {M : TM} (hF : T_readTest N d a1 M = some r), Ct l G yX6_readTest (ws_ yX6_readTest cX6_readTest 2 (Option.none : Option Jvm.ClassFile.FieldType)) (52 + 3 * d) (1108 + 65 * d) [.ref m0, .int a1] (ovT m0 M hb) none (ovT m0 r hb) := by
  intro d
  induction d with
  | zero => intro r a1 M hF; cases (show (none : Option TM) = some r from hF)
  | succ d ih =>
    intro r a1 M hF
    rw [show 52 + 3 * (d + 1) = (52 + 3 * d) + 3 by omega, show 1108 + 65 * (d + 1) = (1108 + 65 * d) + 65 by omega]
    exact ct_T_readTest_o (frf := 52 + 3 * d) (lof := 1108 + 65 * d) (by omega) (by omega) (fun _ _ _ z => ih z) hF
def T_readClause_J29 (N : Nat) (M5 : TM) : Option TM :=
  bd2 (T_takes0 (4 : Int32) M5) fun v7 M6 =>
  if v7 = 0 then
    some M6
  else
    (T_readTest N 16 (0 : Int32) M6).bind fun M8 =>
    some M8
theorem w_T_readClause_J29 {l : Launch} {G : GT} {fr lo : Nat} {h0 : Hp} {m0 : Nat} {hb : Hp} {N : Nat} {r : TM} (hfr : 101 ≤ fr) (hlo : 2169 ≤ lo)   {M5 : TM} (hF : T_readClause_J29 N M5 = some r) : V l G cX6_readClause RX6 "readClause" 1 (Option.none : Option Jvm.ClassFile.FieldType) fr lo h0 (ovT m0 r hb) (QM G none h0 (ovT m0 r hb)) 29 [(0, .ref m0)] [] (ovT m0 M5 hb) := by
  unfold T_readClause_J29 at hF
  refine v_aload_n dX6_readClause_29 rfl 0 rfl ?_
  refine v_iconst dX6_readClause_30 (v := 4) (by decide) ?_
  obtain ⟨v7, M6, e_v7, hF⟩ := bd2_spec hF
  refine v_calV1 dX6_readClause_31 vl_X6_188 q2029 rc_ov (ct_T_takes0 e_v7) rfl rfl (Nat.le_trans (Nat.le_of_ble_eq_true rfl) hfr) (Nat.le_trans (Nat.le_of_ble_eq_true rfl) hlo) (Nat.le_of_ble_eq_true rfl) ?_
  refine v_if_eq (tgt := 42) dX6_readClause_34 (by decide) hF (fun hF => ?_) (fun hF => ?_)
  · cases hF
    exact v_vret dX6_readClause_42 rfl rfl rfl
  · refine v_aload_n dX6_readClause_37 rfl 0 rfl ?_
    refine v_iconst dX6_readClause_38 (v := 0) (by decide) ?_
    obtain ⟨M8, e_M8, hF⟩ := Option.bind_eq_some_iff.mp hF
    refine v_calV0 dX6_readClause_39 vl_X6_204 q2065 rc_ov (ctd_T_readTest 16 e_M8) rfl rfl (Nat.le_trans (Nat.le_of_ble_eq_true rfl) hfr) (Nat.le_trans (Nat.le_of_ble_eq_true rfl) hlo) (Nat.le_of_ble_eq_true rfl) ?_
    cases hF
    exact v_vret dX6_readClause_42 rfl rfl rfl
def T_readClause_J16 (N : Nat) (M3 : TM) : Option TM :=
  (T_readSum N 16 (0 : Int32) M3).bind fun M4 =>
  T_readClause_J29 N M4
theorem w_T_readClause_J16 {l : Launch} {G : GT} {fr lo : Nat} {h0 : Hp} {m0 : Nat} {hb : Hp} {N : Nat} {r : TM} (hfr : 101 ≤ fr) (hlo : 2169 ≤ lo)   {M3 : TM} (hF : T_readClause_J16 N M3 = some r) : V l G cX6_readClause RX6 "readClause" 1 (Option.none : Option Jvm.ClassFile.FieldType) fr lo h0 (ovT m0 r hb) (QM G none h0 (ovT m0 r hb)) 16 [(0, .ref m0)] [] (ovT m0 M3 hb) := by
  unfold T_readClause_J16 at hF
  refine v_aload_n dX6_readClause_16 rfl 0 rfl ?_
  refine v_iconst dX6_readClause_17 (v := 0) (by decide) ?_
  obtain ⟨M4, e_M4, hF⟩ := Option.bind_eq_some_iff.mp hF
  refine v_calV0 dX6_readClause_18 vl_X6_197 q2037 rc_ov (ctd_T_readSum 16 e_M4) rfl rfl (Nat.le_trans (Nat.le_of_ble_eq_true rfl) hfr) (Nat.le_trans (Nat.le_of_ble_eq_true rfl) hlo) (Nat.le_of_ble_eq_true rfl) ?_
  refine v_goto (tgt := 29) dX6_readClause_21 (by decide) ?_
  exact v_sub [0] rfl (w_T_readClause_J29 hfr hlo hF)
def T_readClause (N : Nat) (M : TM) : Option TM :=
  bd2 (T_takes0 (1 : Int32) M) fun v2 M1 =>
  if v2 = 0 then
    bd2 (T_takes0 (2 : Int32) M1) fun v10 M9 =>
    if v10 = 0 then
      (T_must (3 : Int32) M9).bind fun M11 =>
      T_readClause_J29 N M11
    else
      T_readClause_J16 N M9
  else
    T_readClause_J16 N M1
theorem w_T_readClause {l : Launch} {G : GT} {fr lo : Nat} {h0 : Hp} {m0 : Nat} {hb : Hp} {N : Nat} {r : TM} (hfr : 101 ≤ fr) (hlo : 2169 ≤ lo) {M : TM} (hF : T_readClause N M = some r) : V l G cX6_readClause RX6 "readClause" 1 (Option.none : Option Jvm.ClassFile.FieldType) fr lo h0 (ovT m0 r hb) (QM G none h0 (ovT m0 r hb)) 0 [(0, .ref m0)] [] (ovT m0 M hb) := by
  unfold T_readClause at hF
  refine v_aload_n dX6_readClause_0 rfl 0 rfl ?_
  refine v_iconst dX6_readClause_1 (v := 1) (by decide) ?_
  obtain ⟨v2, M1, e_v2, hF⟩ := bd2_spec hF
  refine v_calV1 dX6_readClause_2 vl_X6_188 q2029 rc_ov (ct_T_takes0 e_v2) rfl rfl (Nat.le_trans (Nat.le_of_ble_eq_true rfl) hfr) (Nat.le_trans (Nat.le_of_ble_eq_true rfl) hlo) (Nat.le_of_ble_eq_true rfl) ?_
  refine v_if_ne (tgt := 16) dX6_readClause_5 (by decide) hF (fun hF => ?_) (fun hF => ?_)
  · exact v_sub [0] rfl (w_T_readClause_J16 hfr hlo hF)
  · refine v_aload_n dX6_readClause_8 rfl 0 rfl ?_
    refine v_iconst dX6_readClause_9 (v := 2) (by decide) ?_
    obtain ⟨v10, M9, e_v10, hF⟩ := bd2_spec hF
    refine v_calV1 dX6_readClause_10 vl_X6_188 q2029 rc_ov (ct_T_takes0 e_v10) rfl rfl (Nat.le_trans (Nat.le_of_ble_eq_true rfl) hfr) (Nat.le_trans (Nat.le_of_ble_eq_true rfl) hlo) (Nat.le_of_ble_eq_true rfl) ?_
    refine v_if_eq (tgt := 24) dX6_readClause_13 (by decide) hF (fun hF => ?_) (fun hF => ?_)
    · refine v_aload_n dX6_readClause_24 rfl 0 rfl ?_
      refine v_iconst dX6_readClause_25 (v := 3) (by decide) ?_
      obtain ⟨M11, e_M11, hF⟩ := Option.bind_eq_some_iff.mp hF
      refine v_calV0 dX6_readClause_26 vl_X6_201 q2053 rc_ov (ct_T_must e_M11) rfl rfl (Nat.le_trans (Nat.le_of_ble_eq_true rfl) hfr) (Nat.le_trans (Nat.le_of_ble_eq_true rfl) hlo) (Nat.le_of_ble_eq_true rfl) ?_
      exact v_sub [0] rfl (w_T_readClause_J29 hfr hlo hF)
    · exact v_sub [0] rfl (w_T_readClause_J16 hfr hlo hF)
theorem ct_T_readClause {l : Launch} {G : GT} {m0 : Nat} {hb : Hp} {N : Nat} {r : TM} {M : TM} (hF : T_readClause N M = some r) : Ct l G yX6_readClause (ws_ yX6_readClause cX6_readClause 1 (Option.none : Option Jvm.ClassFile.FieldType)) 101 2169 [.ref m0] (ovT m0 M hb) none (ovT m0 r hb) :=
  ct_of (by decide) (Nat.le_of_ble_eq_true rfl) (w_T_readClause (Nat.le_refl _) (Nat.le_refl _) hF)
def T_readOrder_J57 (N : Nat) (M8 : TM) : Option TM :=
  bd2 (T_takes0 (4 : Int32) M8) fun v10 M9 =>
  if v10 = 0 then
    some M9
  else
    (T_readTest N 16 (0 : Int32) M9).bind fun M11 =>
    some M11
theorem w_T_readOrder_J57 {l : Launch} {G : GT} {fr lo : Nat} {h0 : Hp} {m0 : Nat} {hb : Hp} {N : Nat} {r : TM} (hfr : 101 ≤ fr) (hlo : 2169 ≤ lo)   {M8 : TM} (hF : T_readOrder_J57 N M8 = some r) : V l G cX6_readOrder RX6 "readOrder" 1 (Option.none : Option Jvm.ClassFile.FieldType) fr lo h0 (ovT m0 r hb) (QM G none h0 (ovT m0 r hb)) 57 [(0, .ref m0)] [] (ovT m0 M8 hb) := by
  unfold T_readOrder_J57 at hF
  refine v_aload_n dX6_readOrder_57 rfl 0 rfl ?_
  refine v_iconst dX6_readOrder_58 (v := 4) (by decide) ?_
  obtain ⟨v10, M9, e_v10, hF⟩ := bd2_spec hF
  refine v_calV1 dX6_readOrder_59 vl_X6_188 q2029 rc_ov (ct_T_takes0 e_v10) rfl rfl (Nat.le_trans (Nat.le_of_ble_eq_true rfl) hfr) (Nat.le_trans (Nat.le_of_ble_eq_true rfl) hlo) (Nat.le_of_ble_eq_true rfl) ?_
  refine v_if_eq (tgt := 70) dX6_readOrder_62 (by decide) hF (fun hF => ?_) (fun hF => ?_)
  · cases hF
    exact v_vret dX6_readOrder_70 rfl rfl rfl
  · refine v_aload_n dX6_readOrder_65 rfl 0 rfl ?_
    refine v_iconst dX6_readOrder_66 (v := 0) (by decide) ?_
    obtain ⟨M11, e_M11, hF⟩ := Option.bind_eq_some_iff.mp hF
    refine v_calV0 dX6_readOrder_67 vl_X6_204 q2065 rc_ov (ctd_T_readTest 16 e_M11) rfl rfl (Nat.le_trans (Nat.le_of_ble_eq_true rfl) hfr) (Nat.le_trans (Nat.le_of_ble_eq_true rfl) hlo) (Nat.le_of_ble_eq_true rfl) ?_
    cases hF
    exact v_vret dX6_readOrder_70 rfl rfl rfl
def T_readOrder_J41 (N : Nat) (M5 : TM) : Option TM :=
  bd2 (T_takes0 (25 : Int32) M5) fun v7 M6 =>
  if v7 = 0 then
    T_readOrder_J57 N M6
  else
    (T_mustNumber (1 : Int32) (20 : Int32) M6).bind fun M12 =>
    T_readOrder_J57 N M12
theorem w_T_readOrder_J41 {l : Launch} {G : GT} {fr lo : Nat} {h0 : Hp} {m0 : Nat} {hb : Hp} {N : Nat} {r : TM} (hfr : 101 ≤ fr) (hlo : 2169 ≤ lo)   {M5 : TM} (hF : T_readOrder_J41 N M5 = some r) : V l G cX6_readOrder RX6 "readOrder" 1 (Option.none : Option Jvm.ClassFile.FieldType) fr lo h0 (ovT m0 r hb) (QM G none h0 (ovT m0 r hb)) 41 [(0, .ref m0)] [] (ovT m0 M5 hb) := by
  unfold T_readOrder_J41 at hF
  refine v_aload_n dX6_readOrder_41 rfl 0 rfl ?_
  refine v_bipush dX6_readOrder_42 (v := 25) (by decide) ?_
  obtain ⟨v7, M6, e_v7, hF⟩ := bd2_spec hF
  refine v_calV1 dX6_readOrder_44 vl_X6_188 q2029 rc_ov (ct_T_takes0 e_v7) rfl rfl (Nat.le_trans (Nat.le_of_ble_eq_true rfl) hfr) (Nat.le_trans (Nat.le_of_ble_eq_true rfl) hlo) (Nat.le_of_ble_eq_true rfl) ?_
  refine v_if_eq (tgt := 57) dX6_readOrder_47 (by decide) hF (fun hF => ?_) (fun hF => ?_)
  · exact v_sub [0] rfl (w_T_readOrder_J57 hfr hlo hF)
  · refine v_aload_n dX6_readOrder_50 rfl 0 rfl ?_
    refine v_iconst dX6_readOrder_51 (v := 1) (by decide) ?_
    refine v_bipush dX6_readOrder_52 (v := 20) (by decide) ?_
    obtain ⟨M12, e_M12, hF⟩ := Option.bind_eq_some_iff.mp hF
    refine v_calV0 dX6_readOrder_54 vl_X6_207 q2061 rc_ov (ct_T_mustNumber e_M12) rfl rfl (Nat.le_trans (Nat.le_of_ble_eq_true rfl) hfr) (Nat.le_trans (Nat.le_of_ble_eq_true rfl) hlo) (Nat.le_of_ble_eq_true rfl) ?_
    exact v_sub [0] rfl (w_T_readOrder_J57 hfr hlo hF)
def T_readOrder_J27 (N : Nat) (M3 : TM) : Option TM :=
  (T_readSum N 16 (0 : Int32) M3).bind fun M4 =>
  T_readOrder_J41 N M4
theorem w_T_readOrder_J27 {l : Launch} {G : GT} {fr lo : Nat} {h0 : Hp} {m0 : Nat} {hb : Hp} {N : Nat} {r : TM} (hfr : 101 ≤ fr) (hlo : 2169 ≤ lo)   {M3 : TM} (hF : T_readOrder_J27 N M3 = some r) : V l G cX6_readOrder RX6 "readOrder" 1 (Option.none : Option Jvm.ClassFile.FieldType) fr lo h0 (ovT m0 r hb) (QM G none h0 (ovT m0 r hb)) 27 [(0, .ref m0)] [] (ovT m0 M3 hb) := by
  unfold T_readOrder_J27 at hF
  refine v_aload_n dX6_readOrder_27 rfl 0 rfl ?_
  refine v_iconst dX6_readOrder_28 (v := 0) (by decide) ?_
  obtain ⟨M4, e_M4, hF⟩ := Option.bind_eq_some_iff.mp hF
  refine v_calV0 dX6_readOrder_29 vl_X6_197 q2037 rc_ov (ctd_T_readSum 16 e_M4) rfl rfl (Nat.le_trans (Nat.le_of_ble_eq_true rfl) hfr) (Nat.le_trans (Nat.le_of_ble_eq_true rfl) hlo) (Nat.le_of_ble_eq_true rfl) ?_
  refine v_goto (tgt := 41) dX6_readOrder_32 (by decide) ?_
  exact v_sub [0] rfl (w_T_readOrder_J41 hfr hlo hF)
def T_readOrder (N : Nat) (M : TM) : Option TM :=
  bd2 (T_takes0 (21 : Int32) M) fun v2 M1 =>
  if v2 = 0 then
    bd2 (T_takes0 (22 : Int32) M1) fun v14 M13 =>
    if v14 = 0 then
      bd2 (T_takes0 (23 : Int32) M13) fun v16 M15 =>
      if v16 = 0 then
        (T_must (24 : Int32) M15).bind fun M17 =>
        T_readOrder_J41 N M17
      else
        T_readOrder_J27 N M15
    else
      T_readOrder_J27 N M13
  else
    T_readOrder_J27 N M1
theorem w_T_readOrder {l : Launch} {G : GT} {fr lo : Nat} {h0 : Hp} {m0 : Nat} {hb : Hp} {N : Nat} {r : TM} (hfr : 101 ≤ fr) (hlo : 2169 ≤ lo) {M : TM} (hF : T_readOrder N M = some r) : V l G cX6_readOrder RX6 "readOrder" 1 (Option.none : Option Jvm.ClassFile.FieldType) fr lo h0 (ovT m0 r hb) (QM G none h0 (ovT m0 r hb)) 0 [(0, .ref m0)] [] (ovT m0 M hb) := by
  unfold T_readOrder at hF
  refine v_aload_n dX6_readOrder_0 rfl 0 rfl ?_
  refine v_bipush dX6_readOrder_1 (v := 21) (by decide) ?_
  obtain ⟨v2, M1, e_v2, hF⟩ := bd2_spec hF
  refine v_calV1 dX6_readOrder_3 vl_X6_188 q2029 rc_ov (ct_T_takes0 e_v2) rfl rfl (Nat.le_trans (Nat.le_of_ble_eq_true rfl) hfr) (Nat.le_trans (Nat.le_of_ble_eq_true rfl) hlo) (Nat.le_of_ble_eq_true rfl) ?_
  refine v_if_ne (tgt := 27) dX6_readOrder_6 (by decide) hF (fun hF => ?_) (fun hF => ?_)
  · exact v_sub [0] rfl (w_T_readOrder_J27 hfr hlo hF)
  · refine v_aload_n dX6_readOrder_9 rfl 0 rfl ?_
    refine v_bipush dX6_readOrder_10 (v := 22) (by decide) ?_
    obtain ⟨v14, M13, e_v14, hF⟩ := bd2_spec hF
    refine v_calV1 dX6_readOrder_12 vl_X6_188 q2029 rc_ov (ct_T_takes0 e_v14) rfl rfl (Nat.le_trans (Nat.le_of_ble_eq_true rfl) hfr) (Nat.le_trans (Nat.le_of_ble_eq_true rfl) hlo) (Nat.le_of_ble_eq_true rfl) ?_
    refine v_if_ne (tgt := 27) dX6_readOrder_15 (by decide) hF (fun hF => ?_) (fun hF => ?_)
    · exact v_sub [0] rfl (w_T_readOrder_J27 hfr hlo hF)
    · refine v_aload_n dX6_readOrder_18 rfl 0 rfl ?_
      refine v_bipush dX6_readOrder_19 (v := 23) (by decide) ?_
      obtain ⟨v16, M15, e_v16, hF⟩ := bd2_spec hF
      refine v_calV1 dX6_readOrder_21 vl_X6_188 q2029 rc_ov (ct_T_takes0 e_v16) rfl rfl (Nat.le_trans (Nat.le_of_ble_eq_true rfl) hfr) (Nat.le_trans (Nat.le_of_ble_eq_true rfl) hlo) (Nat.le_of_ble_eq_true rfl) ?_
      refine v_if_eq (tgt := 35) dX6_readOrder_24 (by decide) hF (fun hF => ?_) (fun hF => ?_)
      · refine v_aload_n dX6_readOrder_35 rfl 0 rfl ?_
        refine v_bipush dX6_readOrder_36 (v := 24) (by decide) ?_
        obtain ⟨M17, e_M17, hF⟩ := Option.bind_eq_some_iff.mp hF
        refine v_calV0 dX6_readOrder_38 vl_X6_201 q2053 rc_ov (ct_T_must e_M17) rfl rfl (Nat.le_trans (Nat.le_of_ble_eq_true rfl) hfr) (Nat.le_trans (Nat.le_of_ble_eq_true rfl) hlo) (Nat.le_of_ble_eq_true rfl) ?_
        exact v_sub [0] rfl (w_T_readOrder_J41 hfr hlo hF)
      · exact v_sub [0] rfl (w_T_readOrder_J27 hfr hlo hF)
theorem ct_T_readOrder {l : Launch} {G : GT} {m0 : Nat} {hb : Hp} {N : Nat} {r : TM} {M : TM} (hF : T_readOrder N M = some r) : Ct l G yX6_readOrder (ws_ yX6_readOrder cX6_readOrder 1 (Option.none : Option Jvm.ClassFile.FieldType)) 101 2169 [.ref m0] (ovT m0 M hb) none (ovT m0 r hb) :=
  ct_of (by decide) (Nat.le_of_ble_eq_true rfl) (w_T_readOrder (Nat.le_refl _) (Nat.le_refl _) hF)
theorem vl_X6_218 : ∀ ci ∈ [6], VL RX6 218 ci yX6_readClause 0 := by
  intro ci h
  simp only [List.mem_cons, List.not_mem_nil, or_false] at h
  subst h; exact ⟨RX6, TX6, 56, rfl, q146, ⟨by decide, by decide⟩, by decide +kernel, q2076, Or.inl ⟨q2074, qs97⟩⟩
theorem vl_X6_215 : ∀ ci ∈ [6], VL RX6 215 ci yX6_readOrder 0 := by
  intro ci h
  simp only [List.mem_cons, List.not_mem_nil, or_false] at h
  subst h; exact ⟨RX6, TX6, 56, rfl, q146, ⟨by decide, by decide⟩, by decide +kernel, q2024, Or.inl ⟨q2022, qs84⟩⟩
def T_readOne (N : Nat) (M : TM) : Option TM :=
  if (M.1 10) = 0 then
    (T_readClause N M).bind fun M1 =>
    some M1
  else
    (T_readOrder N M).bind fun M2 =>
    some M2
theorem w_T_readOne {l : Launch} {G : GT} {fr lo : Nat} {h0 : Hp} {m0 : Nat} {hb : Hp} {N : Nat} {r : TM} (hfr : 102 ≤ fr) (hlo : 2189 ≤ lo) {M : TM} (hF : T_readOne N M = some r) : V l G cX6_readOne RX6 "readOne" 1 (Option.none : Option Jvm.ClassFile.FieldType) fr lo h0 (ovT m0 r hb) (QM G none h0 (ovT m0 r hb)) 0 [(0, .ref m0)] [] (ovT m0 M hb) := by
  unfold T_readOne at hF
  refine v_aload_n dX6_readOne_0 rfl 0 rfl ?_
  refine t_geti 10 dX6_readOne_1 fl_X6_211 rfl ?_
  refine v_if_eq (tgt := 14) dX6_readOne_4 (by decide) hF (fun hF => ?_) (fun hF => ?_)
  · refine v_aload_n dX6_readOne_14 rfl 0 rfl ?_
    obtain ⟨M1, e_M1, hF⟩ := Option.bind_eq_some_iff.mp hF
    refine v_calV0 dX6_readOne_15 vl_X6_218 q2077 rc_ov (ct_T_readClause e_M1) rfl rfl (Nat.le_trans (Nat.le_of_ble_eq_true rfl) hfr) (Nat.le_trans (Nat.le_of_ble_eq_true rfl) hlo) (Nat.le_of_ble_eq_true rfl) ?_
    cases hF
    exact v_vret dX6_readOne_18 rfl rfl rfl
  · refine v_aload_n dX6_readOne_7 rfl 0 rfl ?_
    obtain ⟨M2, e_M2, hF⟩ := Option.bind_eq_some_iff.mp hF
    refine v_calV0 dX6_readOne_8 vl_X6_215 q2025 rc_ov (ct_T_readOrder e_M2) rfl rfl (Nat.le_trans (Nat.le_of_ble_eq_true rfl) hfr) (Nat.le_trans (Nat.le_of_ble_eq_true rfl) hlo) (Nat.le_of_ble_eq_true rfl) ?_
    refine v_goto (tgt := 18) dX6_readOne_11 (by decide) ?_
    cases hF
    exact v_vret dX6_readOne_18 rfl rfl rfl
theorem ct_T_readOne {l : Launch} {G : GT} {m0 : Nat} {hb : Hp} {N : Nat} {r : TM} {M : TM} (hF : T_readOne N M = some r) : Ct l G yX6_readOne (ws_ yX6_readOne cX6_readOne 1 (Option.none : Option Jvm.ClassFile.FieldType)) 102 2189 [.ref m0] (ovT m0 M hb) none (ovT m0 r hb) :=
  ct_of (by decide) (Nat.le_of_ble_eq_true rfl) (w_T_readOne (Nat.le_refl _) (Nat.le_refl _) hF)
def T_isDigit (a1 : Int32) : Option Int32 :=
  if a1 < (48 : Int32) then
    some (0 : Int32)
  else
    if (57 : Int32) < a1 then
      some (0 : Int32)
    else
      some (1 : Int32)
theorem w_T_isDigit {l : Launch} {G : GT} {fr lo : Nat} {h0 : Hp} {h : Hp} {r : Int32} (hfr : 0 ≤ fr) (hlo : 0 ≤ lo) {a1 : Int32} (hF : T_isDigit a1 = some r) : V l G cX6_isDigit RX6 "isDigit" 1 (Option.some Jvm.ClassFile.FieldType.boolean) fr lo h0 h (QM G (some (.int r)) h0 h) 0 [(0, .int a1)] [] h := by
  unfold T_isDigit at hF
  refine v_iload_n dX6_isDigit_0 rfl 0 rfl ?_
  refine v_bipush dX6_isDigit_1 (v := 48) (by decide) ?_
  refine v_icmp_lt (tgt := 16) dX6_isDigit_3 (by decide) hF (fun hF => ?_) (fun hF => ?_)
  · refine v_iconst dX6_isDigit_16 (v := 0) (by decide) ?_
    cases hF
    exact v_iret dX6_isDigit_17 rfl (by decide) rfl rfl
  · refine v_iload_n dX6_isDigit_6 rfl 0 rfl ?_
    refine v_bipush dX6_isDigit_7 (v := 57) (by decide) ?_
    refine v_icmp_gt (tgt := 16) dX6_isDigit_9 (by decide) hF (fun hF => ?_) (fun hF => ?_)
    · refine v_iconst dX6_isDigit_16 (v := 0) (by decide) ?_
      cases hF
      exact v_iret dX6_isDigit_17 rfl (by decide) rfl rfl
    · refine v_iconst dX6_isDigit_12 (v := 1) (by decide) ?_
      refine v_goto (tgt := 17) dX6_isDigit_13 (by decide) ?_
      cases hF
      exact v_iret dX6_isDigit_17 rfl (by decide) rfl rfl
theorem ct_T_isDigit {l : Launch} {G : GT} {h : Hp} {r : Int32} {a1 : Int32} (hF : T_isDigit a1 = some r) : Ct l G yX6_isDigit (ws_ yX6_isDigit cX6_isDigit 1 (Option.some Jvm.ClassFile.FieldType.boolean)) 0 0 [.int a1] h (some (.int r)) h :=
  ct_of (by decide) (Nat.le_of_ble_eq_true rfl) (w_T_isDigit (Nat.le_refl _) (Nat.le_refl _) hF)
def T_isSmall (a1 : Int32) : Option Int32 :=
  if a1 < (97 : Int32) then
    some (0 : Int32)
  else
    if (122 : Int32) < a1 then
      some (0 : Int32)
    else
      some (1 : Int32)
theorem w_T_isSmall {l : Launch} {G : GT} {fr lo : Nat} {h0 : Hp} {h : Hp} {r : Int32} (hfr : 0 ≤ fr) (hlo : 0 ≤ lo) {a1 : Int32} (hF : T_isSmall a1 = some r) : V l G cX6_isSmall RX6 "isSmall" 1 (Option.some Jvm.ClassFile.FieldType.boolean) fr lo h0 h (QM G (some (.int r)) h0 h) 0 [(0, .int a1)] [] h := by
  unfold T_isSmall at hF
  refine v_iload_n dX6_isSmall_0 rfl 0 rfl ?_
  refine v_bipush dX6_isSmall_1 (v := 97) (by decide) ?_
  refine v_icmp_lt (tgt := 16) dX6_isSmall_3 (by decide) hF (fun hF => ?_) (fun hF => ?_)
  · refine v_iconst dX6_isSmall_16 (v := 0) (by decide) ?_
    cases hF
    exact v_iret dX6_isSmall_17 rfl (by decide) rfl rfl
  · refine v_iload_n dX6_isSmall_6 rfl 0 rfl ?_
    refine v_bipush dX6_isSmall_7 (v := 122) (by decide) ?_
    refine v_icmp_gt (tgt := 16) dX6_isSmall_9 (by decide) hF (fun hF => ?_) (fun hF => ?_)
    · refine v_iconst dX6_isSmall_16 (v := 0) (by decide) ?_
      cases hF
      exact v_iret dX6_isSmall_17 rfl (by decide) rfl rfl
    · refine v_iconst dX6_isSmall_12 (v := 1) (by decide) ?_
      refine v_goto (tgt := 17) dX6_isSmall_13 (by decide) ?_
      cases hF
      exact v_iret dX6_isSmall_17 rfl (by decide) rfl rfl
theorem ct_T_isSmall {l : Launch} {G : GT} {h : Hp} {r : Int32} {a1 : Int32} (hF : T_isSmall a1 = some r) : Ct l G yX6_isSmall (ws_ yX6_isSmall cX6_isSmall 1 (Option.some Jvm.ClassFile.FieldType.boolean)) 0 0 [.int a1] h (some (.int r)) h :=
  ct_of (by decide) (Nat.le_of_ble_eq_true rfl) (w_T_isSmall (Nat.le_refl _) (Nat.le_refl _) hF)
theorem fl_X6_37 : FL RX6 37 [6] 7 := by
  intro ci h
  simp only [List.mem_cons, List.not_mem_nil, or_false] at h
  subst h; exact ⟨RX6, _, TX6, 56, rfl, in_X6, by decide, Or.inl q1641, Or.inl rfl⟩
def T_wordOf_L18 (N : Nat) (M : TM) (x18 : Int32 → Int32 → Int32 → Int32 → Int32 → Option Int32) : Nat → Int32 → Int32 → Int32 → Int32 → Int32 → Option Int32
  | 0, _, _, _, _, _ => none
  | n16 + 1, v5, v6, v7, v8, v9 =>
    (tra M 7 122 (v8 + v9)).bind fun v15 =>
    if v15 = (32 : Int32) then
      x18 v5 v6 v7 v8 v9
    else
      (T_wordOf_L18 N M x18 n16) v5 v6 v7 v8 (v9 + (1 : Int32))
theorem w_T_wordOf_L18 {l : Launch} {G : GT} {fr lo : Nat} {h0 : Hp} {m0 : Nat} {hb : Hp} {N : Nat} {M : TM} {r : Int32} (hfr : 0 ≤ fr) (hlo : 0 ≤ lo) {x18 : Int32 → Int32 → Int32 → Int32 → Int32 → Option Int32} (hx18 : ∀ (v10 : Int32) (v11 : Int32) (v12 : Int32) (v13 : Int32) (v14 : Int32), x18 v10 v11 v12 v13 v14 = some r → V l G cX6_wordOf RX6 "wordOf" 8 (Option.some Jvm.ClassFile.FieldType.int) fr lo h0 (ovT m0 M hb) (QM G (some (.int r)) h0 (ovT m0 M hb)) 39 [(0, .ref m0), (1, .int v10), (2, .int v11), (3, .int v12), (4, .int v13), (5, .int v14)] [] (ovT m0 M hb)) : ∀ (n : Nat) (v5 : Int32) (v6 : Int32) (v7 : Int32) (v8 : Int32) (v9 : Int32), T_wordOf_L18 N M x18 n v5 v6 v7 v8 v9 = some r → V l G cX6_wordOf RX6 "wordOf" 8 (Option.some Jvm.ClassFile.FieldType.int) fr lo h0 (ovT m0 M hb) (QM G (some (.int r)) h0 (ovT m0 M hb)) 18 [(0, .ref m0), (1, .int v5), (2, .int v6), (3, .int v7), (4, .int v8), (5, .int v9)] [] (ovT m0 M hb) := by
  intro n
  induction n with
  | zero =>
    intro v5 v6 v7 v8 v9 hF
    cases (show (none : Option Int32) = some r from hF)
  | succ n hc18 =>
    intro v5 v6 v7 v8 v9 hF
    rw [T_wordOf_L18] at hF
    refine v_aload_n dX6_wordOf_18 rfl 0 rfl ?_
    refine t_geta 7 6 dX6_wordOf_19 fl_X6_37 (Nat.le_of_ble_eq_true rfl) (fun _ _ => rfl) ?_
    refine v_iload dX6_wordOf_22 4 rfl ?_
    refine v_iload dX6_wordOf_24 5 rfl ?_
    refine v_iadd dX6_wordOf_26 ?_
    refine t_bald 6 dX6_wordOf_27 rfl (Nat.le_of_ble_eq_true rfl) (by decide) hF (fun v15 hF => ?_)
    refine v_bipush dX6_wordOf_28 (v := 32) (by decide) ?_
    refine v_icmp_eq (tgt := 39) dX6_wordOf_30 (by decide) hF (fun hF => ?_) (fun hF => ?_)
    · exact v_sub [0, 1, 2, 3, 4, 5] rfl (hx18 _ _ _ _ _ hF)
    · refine v_iinc dX6_wordOf_33 5 rfl (v := v9 + (1 : Int32)) (by rfl) (Nat.le_of_ble_eq_true rfl) (L' := [(5, .int (v9 + (1 : Int32))), (0, .ref m0), (1, .int v5), (2, .int v6), (3, .int v7), (4, .int v8)]) rfl ?_
      refine v_goto (tgt := 18) dX6_wordOf_36 (by decide) ?_
      exact v_sub [1, 2, 3, 4, 5, 0] rfl (hc18 _ _ _ _ _ hF)
def T_wordOf_J96 (N : Nat) (M : TM) (c57 : Int32 → Int32 → Int32 → Int32 → Int32 → Int32 → Int32 → Option Int32) (v43 : Int32) (v44 : Int32) (v45 : Int32) (v46 : Int32) (v47 : Int32) (v48 : Int32) (v49 : Int32) : Option Int32 :=
  c57 v43 v44 v45 v46 v47 v49 (v48 + (1 : Int32))
theorem w_T_wordOf_J96 {l : Launch} {G : GT} {fr lo : Nat} {h0 : Hp} {m0 : Nat} {hb : Hp} {N : Nat} {M : TM} {r : Int32} (hfr : 0 ≤ fr) (hlo : 0 ≤ lo) {c57 : Int32 → Int32 → Int32 → Int32 → Int32 → Int32 → Int32 → Option Int32} (hc57 : ∀ (v28 : Int32) (v29 : Int32) (v30 : Int32) (v31 : Int32) (v32 : Int32) (v33 : Int32) (v34 : Int32), c57 v28 v29 v30 v31 v32 v33 v34 = some r → V l G cX6_wordOf RX6 "wordOf" 8 (Option.some Jvm.ClassFile.FieldType.int) fr lo h0 (ovT m0 M hb) (QM G (some (.int r)) h0 (ovT m0 M hb)) 57 [(0, .ref m0), (1, .int v28), (2, .int v29), (3, .int v30), (4, .int v31), (5, .int v32), (6, .int v33), (7, .int v34)] [] (ovT m0 M hb)) {v43 : Int32} {v44 : Int32} {v45 : Int32} {v46 : Int32} {v47 : Int32} {v48 : Int32} {v49 : Int32} (hF : T_wordOf_J96 N M c57 v43 v44 v45 v46 v47 v48 v49 = some r) : V l G cX6_wordOf RX6 "wordOf" 8 (Option.some Jvm.ClassFile.FieldType.int) fr lo h0 (ovT m0 M hb) (QM G (some (.int r)) h0 (ovT m0 M hb)) 96 [(0, .ref m0), (1, .int v43), (2, .int v44), (3, .int v45), (4, .int v46), (5, .int v47), (7, .int v48)] [.int v49] (ovT m0 M hb) := by
  unfold T_wordOf_J96 at hF
  refine v_istore dX6_wordOf_96 (Nat.le_of_ble_eq_true rfl) (L' := [(6, .int v49), (0, .ref m0), (1, .int v43), (2, .int v44), (3, .int v45), (4, .int v46), (5, .int v47), (7, .int v48)]) rfl ?_
  refine v_iinc dX6_wordOf_98 7 rfl (v := v48 + (1 : Int32)) (by rfl) (Nat.le_of_ble_eq_true rfl) (L' := [(7, .int (v48 + (1 : Int32))), (6, .int v49), (0, .ref m0), (1, .int v43), (2, .int v44), (3, .int v45), (4, .int v46), (5, .int v47)]) rfl ?_
  refine v_goto (tgt := 57) dX6_wordOf_101 (by decide) ?_
  exact v_sub [2, 3, 4, 5, 6, 7, 1, 0] rfl (hc57 _ _ _ _ _ _ _ hF)
def T_wordOf_L57 (N : Nat) (M : TM) (x57 : Int32 → Int32 → Int32 → Int32 → Int32 → Int32 → Option Int32) : Nat → Int32 → Int32 → Int32 → Int32 → Int32 → Int32 → Int32 → Option Int32
  | 0, _, _, _, _, _, _, _ => none
  | n50 + 1, v28, v29, v30, v31, v32, v33, v34 =>
    if v32 ≤ v34 then
      x57 v28 v29 v30 v31 v32 v33
    else
      if v33 = 0 then
        x57 v28 v29 v30 v31 v32 v33
      else
        (tra M 7 122 (v31 + v34)).bind fun v41 =>
        (tra M 11 400 (v28 + v34)).bind fun v42 =>
        T_wordOf_J96 N M (T_wordOf_L57 N M x57 n50) v28 v29 v30 v31 v32 v34 (if v41 = v42 then (1 : Int32) else (0 : Int32))
theorem w_T_wordOf_L57 {l : Launch} {G : GT} {fr lo : Nat} {h0 : Hp} {m0 : Nat} {hb : Hp} {N : Nat} {M : TM} {r : Int32} (hfr : 0 ≤ fr) (hlo : 0 ≤ lo) {x57 : Int32 → Int32 → Int32 → Int32 → Int32 → Int32 → Option Int32} (hx57 : ∀ (v35 : Int32) (v36 : Int32) (v37 : Int32) (v38 : Int32) (v39 : Int32) (v40 : Int32), x57 v35 v36 v37 v38 v39 v40 = some r → V l G cX6_wordOf RX6 "wordOf" 8 (Option.some Jvm.ClassFile.FieldType.int) fr lo h0 (ovT m0 M hb) (QM G (some (.int r)) h0 (ovT m0 M hb)) 104 [(0, .ref m0), (1, .int v35), (2, .int v36), (3, .int v37), (4, .int v38), (5, .int v39), (6, .int v40)] [] (ovT m0 M hb)) : ∀ (n : Nat) (v28 : Int32) (v29 : Int32) (v30 : Int32) (v31 : Int32) (v32 : Int32) (v33 : Int32) (v34 : Int32), T_wordOf_L57 N M x57 n v28 v29 v30 v31 v32 v33 v34 = some r → V l G cX6_wordOf RX6 "wordOf" 8 (Option.some Jvm.ClassFile.FieldType.int) fr lo h0 (ovT m0 M hb) (QM G (some (.int r)) h0 (ovT m0 M hb)) 57 [(0, .ref m0), (1, .int v28), (2, .int v29), (3, .int v30), (4, .int v31), (5, .int v32), (6, .int v33), (7, .int v34)] [] (ovT m0 M hb) := by
  intro n
  induction n with
  | zero =>
    intro v28 v29 v30 v31 v32 v33 v34 hF
    cases (show (none : Option Int32) = some r from hF)
  | succ n hc57 =>
    intro v28 v29 v30 v31 v32 v33 v34 hF
    rw [T_wordOf_L57] at hF
    refine v_iload dX6_wordOf_57 7 rfl ?_
    refine v_iload dX6_wordOf_59 5 rfl ?_
    refine v_icmp_ge (tgt := 104) dX6_wordOf_61 (by decide) hF (fun hF => ?_) (fun hF => ?_)
    · exact v_sub [0, 1, 2, 3, 4, 5, 6] rfl (hx57 _ _ _ _ _ _ hF)
    · refine v_iload dX6_wordOf_64 6 rfl ?_
      refine v_if_eq (tgt := 104) dX6_wordOf_66 (by decide) hF (fun hF => ?_) (fun hF => ?_)
      · exact v_sub [0, 1, 2, 3, 4, 5, 6] rfl (hx57 _ _ _ _ _ _ hF)
      · refine v_aload_n dX6_wordOf_69 rfl 0 rfl ?_
        refine t_geta 7 6 dX6_wordOf_70 fl_X6_37 (Nat.le_of_ble_eq_true rfl) (fun _ _ => rfl) ?_
        refine v_iload dX6_wordOf_73 4 rfl ?_
        refine v_iload dX6_wordOf_75 7 rfl ?_
        refine v_iadd dX6_wordOf_77 ?_
        refine t_bald 6 dX6_wordOf_78 rfl (Nat.le_of_ble_eq_true rfl) (by decide) hF (fun v41 hF => ?_)
        refine v_aload_n dX6_wordOf_79 rfl 0 rfl ?_
        refine t_geta 11 7 dX6_wordOf_80 fl_X6_41 (Nat.le_of_ble_eq_true rfl) (fun _ _ => rfl) ?_
        refine v_iload_n dX6_wordOf_83 rfl 1 rfl ?_
        refine v_iload dX6_wordOf_84 7 rfl ?_
        refine v_iadd dX6_wordOf_86 ?_
        refine t_bald 7 dX6_wordOf_87 rfl (Nat.le_of_ble_eq_true rfl) (by decide) hF (fun v42 hF => ?_)
        refine v_tern (c := v41 = v42) (x := (1 : Int32)) (y := (0 : Int32)) (pcj := 96) (st := []) ?_ (fun kt kf => v_icmp_ne0 (tgt := 95) dX6_wordOf_88 (by decide) kt kf) (fun K => ?_) (fun K => ?_)
        · exact v_sub [0, 1, 2, 3, 4, 5, 7] rfl (w_T_wordOf_J96 hfr hlo hc57 hF)
        · refine v_iconst dX6_wordOf_91 (v := 1) (by decide) ?_
          refine v_goto (tgt := 96) dX6_wordOf_92 (by decide) ?_
          exact K
        · refine v_iconst dX6_wordOf_95 (v := 0) (by decide) ?_
          exact K
def T_wordOf_J104 (N : Nat) (M : TM) (c5 : Int32 → Int32 → Int32 → Int32 → Option Int32) (v57 : Int32) (v58 : Int32) (v59 : Int32) (v60 : Int32) (v61 : Int32) (v62 : Int32) : Option Int32 :=
  if v62 = 0 then
    (some (v60 + (v61 + (1 : Int32)))).bind fun (v63 : Int32) =>
    c5 v57 v58 (v59 + (1 : Int32)) v63
  else
    some v59
theorem w_T_wordOf_J104 {l : Launch} {G : GT} {fr lo : Nat} {h0 : Hp} {m0 : Nat} {hb : Hp} {N : Nat} {M : TM} {r : Int32} (hfr : 0 ≤ fr) (hlo : 0 ≤ lo) {c5 : Int32 → Int32 → Int32 → Int32 → Option Int32} (hc5 : ∀ (v1 : Int32) (v2 : Int32) (v3 : Int32) (v4 : Int32), c5 v1 v2 v3 v4 = some r → V l G cX6_wordOf RX6 "wordOf" 8 (Option.some Jvm.ClassFile.FieldType.int) fr lo h0 (ovT m0 M hb) (QM G (some (.int r)) h0 (ovT m0 M hb)) 5 [(0, .ref m0), (1, .int v1), (2, .int v2), (3, .int v3), (4, .int v4)] [] (ovT m0 M hb)) {v57 : Int32} {v58 : Int32} {v59 : Int32} {v60 : Int32} {v61 : Int32} {v62 : Int32} (hF : T_wordOf_J104 N M c5 v57 v58 v59 v60 v61 v62 = some r) : V l G cX6_wordOf RX6 "wordOf" 8 (Option.some Jvm.ClassFile.FieldType.int) fr lo h0 (ovT m0 M hb) (QM G (some (.int r)) h0 (ovT m0 M hb)) 104 [(0, .ref m0), (1, .int v57), (2, .int v58), (3, .int v59), (4, .int v60), (5, .int v61), (6, .int v62)] [] (ovT m0 M hb) := by
  unfold T_wordOf_J104 at hF
  refine v_iload dX6_wordOf_104 6 rfl ?_
  refine v_if_eq (tgt := 111) dX6_wordOf_106 (by decide) hF (fun hF => ?_) (fun hF => ?_)
  · refine v_iload dX6_wordOf_111 4 rfl ?_
    refine v_iload dX6_wordOf_113 5 rfl ?_
    refine v_iconst dX6_wordOf_115 (v := 1) (by decide) ?_
    refine v_iadd dX6_wordOf_116 ?_
    refine v_iadd dX6_wordOf_117 ?_
    refine v_leti hF (fun v63 hF => ?_)
    refine v_istore dX6_wordOf_118 (Nat.le_of_ble_eq_true rfl) (L' := [(4, .int v63), (0, .ref m0), (1, .int v57), (2, .int v58), (3, .int v59), (5, .int v61), (6, .int v62)]) rfl ?_
    refine v_iinc dX6_wordOf_120 4 rfl (v := v59 + (1 : Int32)) (by rfl) (Nat.le_of_ble_eq_true rfl) (L' := [(3, .int (v59 + (1 : Int32))), (4, .int v63), (0, .ref m0), (1, .int v57), (2, .int v58), (5, .int v61), (6, .int v62)]) rfl ?_
    refine v_goto (tgt := 5) dX6_wordOf_123 (by decide) ?_
    exact v_sub [2, 3, 4, 0, 1] rfl (hc5 _ _ _ _ hF)
  · refine v_iload_n dX6_wordOf_109 rfl 3 rfl ?_
    cases hF
    exact v_iret dX6_wordOf_110 rfl rfl rfl rfl
def T_wordOf_J52 (N : Nat) (M : TM) (c5 : Int32 → Int32 → Int32 → Int32 → Option Int32) (v22 : Int32) (v23 : Int32) (v24 : Int32) (v25 : Int32) (v26 : Int32) (v27 : Int32) : Option Int32 :=
  T_wordOf_L57 N M (fun v51 v52 v53 v54 v55 v56 =>
    T_wordOf_J104 N M c5 v51 v52 v53 v54 v55 v56) N v22 v23 v24 v25 v26 v27 (0 : Int32)
theorem w_T_wordOf_J52 {l : Launch} {G : GT} {fr lo : Nat} {h0 : Hp} {m0 : Nat} {hb : Hp} {N : Nat} {M : TM} {r : Int32} (hfr : 0 ≤ fr) (hlo : 0 ≤ lo) {c5 : Int32 → Int32 → Int32 → Int32 → Option Int32} (hc5 : ∀ (v1 : Int32) (v2 : Int32) (v3 : Int32) (v4 : Int32), c5 v1 v2 v3 v4 = some r → V l G cX6_wordOf RX6 "wordOf" 8 (Option.some Jvm.ClassFile.FieldType.int) fr lo h0 (ovT m0 M hb) (QM G (some (.int r)) h0 (ovT m0 M hb)) 5 [(0, .ref m0), (1, .int v1), (2, .int v2), (3, .int v3), (4, .int v4)] [] (ovT m0 M hb)) {v22 : Int32} {v23 : Int32} {v24 : Int32} {v25 : Int32} {v26 : Int32} {v27 : Int32} (hF : T_wordOf_J52 N M c5 v22 v23 v24 v25 v26 v27 = some r) : V l G cX6_wordOf RX6 "wordOf" 8 (Option.some Jvm.ClassFile.FieldType.int) fr lo h0 (ovT m0 M hb) (QM G (some (.int r)) h0 (ovT m0 M hb)) 52 [(0, .ref m0), (1, .int v22), (2, .int v23), (3, .int v24), (4, .int v25), (5, .int v26)] [.int v27] (ovT m0 M hb) := by
  unfold T_wordOf_J52 at hF
  refine v_istore dX6_wordOf_52 (Nat.le_of_ble_eq_true rfl) (L' := [(6, .int v27), (0, .ref m0), (1, .int v22), (2, .int v23), (3, .int v24), (4, .int v25), (5, .int v26)]) rfl ?_
  refine v_iconst dX6_wordOf_54 (v := 0) (by decide) ?_
  refine v_istore dX6_wordOf_55 (Nat.le_of_ble_eq_true rfl) (L' := [(7, .int (0 : Int32)), (6, .int v27), (0, .ref m0), (1, .int v22), (2, .int v23), (3, .int v24), (4, .int v25), (5, .int v26)]) rfl ?_
  refine v_sub [2, 3, 4, 5, 6, 7, 1, 0] rfl (w_T_wordOf_L57 hfr hlo ?_ N _ _ _ _ _ _ _ hF)
  intro v51 v52 v53 v54 v55 v56 hF
  exact v_sub [0, 1, 2, 3, 4, 5, 6] rfl (w_T_wordOf_J104 hfr hlo hc5 hF)
def T_wordOf_L5 (N : Nat) (M : TM) (x5 : Option Int32) : Nat → Int32 → Int32 → Int32 → Int32 → Option Int32
  | 0, _, _, _, _ => none
  | n64 + 1, v1, v2, v3, v4 =>
    if (122 : Int32) ≤ v4 then
      x5
    else
      T_wordOf_L18 N M (fun v17 v18 v19 v20 v21 =>
        T_wordOf_J52 N M (T_wordOf_L5 N M x5 n64) v17 v18 v19 v20 v21 (if v21 = (v18 - v17) then (1 : Int32) else (0 : Int32))) N v1 v2 v3 v4 (0 : Int32)
theorem w_T_wordOf_L5 {l : Launch} {G : GT} {fr lo : Nat} {h0 : Hp} {m0 : Nat} {hb : Hp} {N : Nat} {M : TM} {r : Int32} (hfr : 0 ≤ fr) (hlo : 0 ≤ lo) {x5 : Option Int32} (hx5 : x5 = some r → V l G cX6_wordOf RX6 "wordOf" 8 (Option.some Jvm.ClassFile.FieldType.int) fr lo h0 (ovT m0 M hb) (QM G (some (.int r)) h0 (ovT m0 M hb)) 126 [] [] (ovT m0 M hb)) : ∀ (n : Nat) (v1 : Int32) (v2 : Int32) (v3 : Int32) (v4 : Int32), T_wordOf_L5 N M x5 n v1 v2 v3 v4 = some r → V l G cX6_wordOf RX6 "wordOf" 8 (Option.some Jvm.ClassFile.FieldType.int) fr lo h0 (ovT m0 M hb) (QM G (some (.int r)) h0 (ovT m0 M hb)) 5 [(0, .ref m0), (1, .int v1), (2, .int v2), (3, .int v3), (4, .int v4)] [] (ovT m0 M hb) := by
  intro n
  induction n with
  | zero =>
    intro v1 v2 v3 v4 hF
    cases (show (none : Option Int32) = some r from hF)
  | succ n hc5 =>
    intro v1 v2 v3 v4 hF
    rw [T_wordOf_L5] at hF
    refine v_iload dX6_wordOf_5 4 rfl ?_
    refine v_aload_n dX6_wordOf_7 rfl 0 rfl ?_
    refine t_geta 7 6 dX6_wordOf_8 fl_X6_37 (Nat.le_of_ble_eq_true rfl) (fun _ _ => rfl) ?_
    refine t_alen 6 dX6_wordOf_11 (v := 122) rfl rfl (Nat.le_of_ble_eq_true rfl) (by decide) (by decide) (by decide) ?_
    refine v_icmp_ge (tgt := 126) dX6_wordOf_12 (by decide) hF (fun hF => ?_) (fun hF => ?_)
    · exact v_sub [] rfl (hx5  hF)
    · refine v_iconst dX6_wordOf_15 (v := 0) (by decide) ?_
      refine v_istore dX6_wordOf_16 (Nat.le_of_ble_eq_true rfl) (L' := [(5, .int (0 : Int32)), (0, .ref m0), (1, .int v1), (2, .int v2), (3, .int v3), (4, .int v4)]) rfl ?_
      refine v_sub [1, 2, 3, 4, 5, 0] rfl (w_T_wordOf_L18 hfr hlo ?_ N _ _ _ _ _ hF)
      intro v17 v18 v19 v20 v21 hF
      refine v_iload dX6_wordOf_39 5 rfl ?_
      refine v_iload_n dX6_wordOf_41 rfl 2 rfl ?_
      refine v_iload_n dX6_wordOf_42 rfl 1 rfl ?_
      refine v_isub dX6_wordOf_43 ?_
      refine v_tern (c := v21 = (v18 - v17)) (x := (1 : Int32)) (y := (0 : Int32)) (pcj := 52) (st := []) ?_ (fun kt kf => v_icmp_ne0 (tgt := 51) dX6_wordOf_44 (by decide) kt kf) (fun K => ?_) (fun K => ?_)
      · exact v_sub [0, 1, 2, 3, 4, 5] rfl (w_T_wordOf_J52 hfr hlo hc5 hF)
      · refine v_iconst dX6_wordOf_47 (v := 1) (by decide) ?_
        refine v_goto (tgt := 52) dX6_wordOf_48 (by decide) ?_
        exact K
      · refine v_iconst dX6_wordOf_51 (v := 0) (by decide) ?_
        exact K
def T_wordOf (N : Nat) (M : TM) (a1 : Int32) (a2 : Int32) : Option Int32 :=
  T_wordOf_L5 N M (some (0 : Int32)) N a1 a2 (1 : Int32) (0 : Int32)
theorem w_T_wordOf {l : Launch} {G : GT} {fr lo : Nat} {h0 : Hp} {m0 : Nat} {hb : Hp} {N : Nat} {M : TM} {r : Int32} (hfr : 0 ≤ fr) (hlo : 0 ≤ lo) {a1 : Int32} {a2 : Int32} (hF : T_wordOf N M a1 a2 = some r) : V l G cX6_wordOf RX6 "wordOf" 8 (Option.some Jvm.ClassFile.FieldType.int) fr lo h0 (ovT m0 M hb) (QM G (some (.int r)) h0 (ovT m0 M hb)) 0 [(0, .ref m0), (1, .int a1), (2, .int a2)] [] (ovT m0 M hb) := by
  unfold T_wordOf at hF
  refine v_iconst dX6_wordOf_0 (v := 1) (by decide) ?_
  refine v_istore_n dX6_wordOf_1 rfl (Nat.le_of_ble_eq_true rfl) (L' := [(3, .int (1 : Int32)), (0, .ref m0), (1, .int a1), (2, .int a2)]) rfl ?_
  refine v_iconst dX6_wordOf_2 (v := 0) (by decide) ?_
  refine v_istore dX6_wordOf_3 (Nat.le_of_ble_eq_true rfl) (L' := [(4, .int (0 : Int32)), (3, .int (1 : Int32)), (0, .ref m0), (1, .int a1), (2, .int a2)]) rfl ?_
  refine v_sub [2, 3, 4, 1, 0] rfl (w_T_wordOf_L5 hfr hlo ?_ N _ _ _ _ hF)
  intro  hF
  refine v_iconst dX6_wordOf_126 (v := 0) (by decide) ?_
  cases hF
  exact v_iret dX6_wordOf_127 rfl rfl rfl rfl
theorem ct_T_wordOf {l : Launch} {G : GT} {m0 : Nat} {hb : Hp} {N : Nat} {M : TM} {r : Int32} {a1 : Int32} {a2 : Int32} (hF : T_wordOf N M a1 a2 = some r) : Ct l G yX6_wordOf (ws_ yX6_wordOf cX6_wordOf 8 (Option.some Jvm.ClassFile.FieldType.int)) 0 0 [.ref m0, .int a1, .int a2] (ovT m0 M hb) (some (.int r)) (ovT m0 M hb) :=
  ct_of (by decide) (Nat.le_of_ble_eq_true rfl) (w_T_wordOf (Nat.le_refl _) (Nat.le_refl _) hF)
