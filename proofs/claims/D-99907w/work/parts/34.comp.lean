/-! printed by tools/gen.py -/
set_option maxRecDepth 100000
set_option linter.unusedVariables false
theorem vl_X0_377 : ∀ ci ∈ [0], VL RX0 377 ci yX0_grow 3 := by
  intro ci h
  simp only [List.mem_cons, List.not_mem_nil, or_false] at h
  subst h; exact ⟨RX0, TX0, 31, rfl, q137, ⟨by decide, by decide⟩, by decide +kernel, q1433, Or.inl ⟨q1431, qs43⟩⟩
theorem fl_X0_82 : FL RX0 82 [0] 18 := by
  intro ci h
  simp only [List.mem_cons, List.not_mem_nil, or_false] at h
  subst h; exact ⟨RX0, _, TX0, 31, rfl, in_X0, by decide, Or.inl q375, Or.inl rfl⟩
theorem fl_X0_374 : FL RX0 374 [0] 20 := by
  intro ci h
  simp only [List.mem_cons, List.not_mem_nil, or_false] at h
  subst h; exact ⟨RX0, _, TX0, 31, rfl, in_X0, by decide, Or.inl q377, Or.inl rfl⟩
theorem pl_X0_368 : PL RX0 368 [0] 22 (.int) false := by
  intro ci h
  simp only [List.mem_cons, List.not_mem_nil, or_false] at h
  subst h; exact ⟨RX0, _, TX0, 31, tyX0, rfl, in_X0, by decide, Or.inl q379, Or.inl rfl, tyX0_ok, rfl, by decide +kernel, rfl, fun z => by cases z⟩
theorem pl_X0_371 : PL RX0 371 [0] 21 (.int) false := by
  intro ci h
  simp only [List.mem_cons, List.not_mem_nil, or_false] at h
  subst h; exact ⟨RX0, _, TX0, 31, tyX0, rfl, in_X0, by decide, Or.inl q378, Or.inl rfl, tyX0_ok, rfl, by decide +kernel, rfl, fun z => by cases z⟩
theorem fl_X0_85 : FL RX0 85 [0] 19 := by
  intro ci h
  simp only [List.mem_cons, List.not_mem_nil, or_false] at h
  subst h; exact ⟨RX0, _, TX0, 31, rfl, in_X0, by decide, Or.inl q376, Or.inl rfl⟩
theorem fl_X0_368 : FL RX0 368 [0] 22 := by
  intro ci h
  simp only [List.mem_cons, List.not_mem_nil, or_false] at h
  subst h; exact ⟨RX0, _, TX0, 31, rfl, in_X0, by decide, Or.inl q379, Or.inl rfl⟩
def C_grow_o_J244 (N : Nat) (f : Nat → Int32 → Int32 → Int32 → Hp → Option Hp) (c51 : Nat → Int32 → Int32 → Int32 → Int32 → Hp → Option Hp) (v42 : Nat) (v43 : Int32) (v44 : Int32) (v45 : Int32) (v46 : Int32) (h47 : Hp) : Option Hp :=
  c51 v42 v43 v44 v45 (v46 + (1 : Int32)) h47
theorem w_C_grow_o_J244 {l : Launch} {G : GT} {fr lo : Nat} {h0 : Hp} {N : Nat} {f : Nat → Int32 → Int32 → Int32 → Hp → Option Hp} {r : Hp} {frf lof : Nat} (hbf : 200 ≤ frf) (hbl : 5047 ≤ lof) (hfr : frf + 1 ≤ fr) (hlo : lof + 25 ≤ lo) (hf : ∀ (a0 : Nat) (a1 : Int32) (a2 : Int32) (a3 : Int32) (h : Hp) (r : Hp), f a0 a1 a2 a3 h = some r → RC h a0 [0] ∧ Ct l G yX0_grow (ws_ yX0_grow cX0_grow 6 (Option.none : Option Jvm.ClassFile.FieldType)) frf lof [.ref a0, .int a1, .int a2, .int a3] h none r) {c51 : Nat → Int32 → Int32 → Int32 → Int32 → Hp → Option Hp} (hc51 : ∀ (v30 : Nat) (v31 : Int32) (v32 : Int32) (v33 : Int32) (v34 : Int32) (h35 : Hp), c51 v30 v31 v32 v33 v34 h35 = some r → V l G cX0_grow RX0 "grow" 6 (Option.none : Option Jvm.ClassFile.FieldType) fr lo h0 r (QM G none h0 r) 51 [(0, .ref v30), (1, .int v31), (2, .int v32), (3, .int v33), (4, .int v34)] [] h35) {v42 : Nat} {v43 : Int32} {v44 : Int32} {v45 : Int32} {v46 : Int32} {h47 : Hp} (hF : C_grow_o_J244 N f c51 v42 v43 v44 v45 v46 h47 = some r) : V l G cX0_grow RX0 "grow" 6 (Option.none : Option Jvm.ClassFile.FieldType) fr lo h0 r (QM G none h0 r) 244 [(0, .ref v42), (1, .int v43), (2, .int v44), (3, .int v45), (4, .int v46)] [] h47 := by
  unfold C_grow_o_J244 at hF
  refine v_iinc dX0_grow_244 4 rfl (v := v46 + (1 : Int32)) (by rfl) (Nat.le_of_ble_eq_true rfl) (L' := [(4, .int (v46 + (1 : Int32))), (0, .ref v42), (1, .int v43), (2, .int v44), (3, .int v45)]) rfl ?_
  refine v_goto (tgt := 51) dX0_grow_247 (by decide) ?_
  exact v_sub [1, 2, 3, 4, 0] rfl (hc51 _ _ _ _ _ _ hF)
def C_grow_o_L51 (N : Nat) (f : Nat → Int32 → Int32 → Int32 → Hp → Option Hp) (x51 : Hp → Option Hp) : Nat → Nat → Int32 → Int32 → Int32 → Int32 → Hp → Option Hp
  | 0, _, _, _, _, _, _ => none
  | n86 + 1, v30, v31, v32, v33, v34, h35 =>
    (C_nBooks h35 v30).bind fun v37 =>
    if v37 ≤ v34 then
      x51 h35
    else
      (gr h35 v30 [0] 0).bind fun v38 =>
      (gr h35 v38 [1] 1).bind fun v39 =>
      (aI h35 v39 0 v34).bind fun v40 =>
      (gi h35 v30 [0] 20).bind fun v41 =>
      if v41 < (v33 + v40) then
        C_grow_o_J244 N f (C_grow_o_L51 N f x51 n86) v30 v31 v32 v33 v34 h35
      else
        bd2 (C_canRead N v30 v34 h35) fun v49 h48 =>
        if v49 = 0 then
          C_grow_o_J244 N f (C_grow_o_L51 N f x51 n86) v30 v31 v32 v33 v34 h48
        else
          (C_books h48 v30).bind fun v50 =>
          (gr h48 v50 [2] 0).bind fun v51 =>
          (aI h48 v51 0 v31).bind fun v52 =>
          (C_books h48 v30).bind fun v53 =>
          (gr h48 v53 [2] 0).bind fun v54 =>
          bd2 (C_grows N v30 v31 v34 h48) fun v56 h55 =>
          (some (if (v52 + v56) < (999 : Int32) then (v52 + v56) else (999 : Int32))).bind fun (v57 : Int32) =>
          (sI h55 v54 0 v31 v57).bind fun h58 =>
          (C_books h58 v30).bind fun v59 =>
          (gi h58 v59 [2] 1).bind fun v60 =>
          (po h58 v59 [2] 1 (.int (v60 ||| ((1 : Int32) <<< (v34 &&& 31))))).bind fun h61 =>
          (C_books h61 v30).bind fun v62 =>
          (gi h61 v62 [2] 2).bind fun v63 =>
          (gr h61 v30 [0] 0).bind fun v64 =>
          (gr h61 v64 [1] 1).bind fun v65 =>
          (aI h61 v65 0 v34).bind fun v66 =>
          (po h61 v62 [2] 2 (.int (v63 + v66))).bind fun h67 =>
          (gr h67 v30 [0] 18).bind fun v68 =>
          (sI h67 v68 0 v32 v34).bind fun h69 =>
          (gr h69 v30 [0] 0).bind fun v70 =>
          (gr h69 v70 [1] 1).bind fun v71 =>
          (aI h69 v71 0 v34).bind fun v72 =>
          (f v30 v31 (v32 + (1 : Int32)) (v33 + v72) h69).bind fun h73 =>
          (C_books h73 v30).bind fun v74 =>
          (gi h73 v74 [2] 2).bind fun v75 =>
          (gr h73 v30 [0] 0).bind fun v76 =>
          (gr h73 v76 [1] 1).bind fun v77 =>
          (aI h73 v77 0 v34).bind fun v78 =>
          (po h73 v74 [2] 2 (.int (v75 - v78))).bind fun h79 =>
          (C_books h79 v30).bind fun v80 =>
          (gi h79 v80 [2] 1).bind fun v81 =>
          (po h79 v80 [2] 1 (.int (v81 &&& (((1 : Int32) <<< (v34 &&& 31)) ^^^ (-1 : Int32))))).bind fun h82 =>
          (C_books h82 v30).bind fun v83 =>
          (gr h82 v83 [2] 0).bind fun v84 =>
          (sI h82 v84 0 v31 v52).bind fun h85 =>
          C_grow_o_J244 N f (C_grow_o_L51 N f x51 n86) v30 v31 v32 v33 v34 h85
theorem w_C_grow_o_L51 {l : Launch} {G : GT} {fr lo : Nat} {h0 : Hp} {N : Nat} {f : Nat → Int32 → Int32 → Int32 → Hp → Option Hp} {r : Hp} {frf lof : Nat} (hbf : 200 ≤ frf) (hbl : 5047 ≤ lof) (hfr : frf + 1 ≤ fr) (hlo : lof + 25 ≤ lo) (hf : ∀ (a0 : Nat) (a1 : Int32) (a2 : Int32) (a3 : Int32) (h : Hp) (r : Hp), f a0 a1 a2 a3 h = some r → RC h a0 [0] ∧ Ct l G yX0_grow (ws_ yX0_grow cX0_grow 6 (Option.none : Option Jvm.ClassFile.FieldType)) frf lof [.ref a0, .int a1, .int a2, .int a3] h none r) {x51 : Hp → Option Hp} (hx51 : ∀ (h36 : Hp), x51 h36 = some r → V l G cX0_grow RX0 "grow" 6 (Option.none : Option Jvm.ClassFile.FieldType) fr lo h0 r (QM G none h0 r) 250 [] [] h36) : ∀ (n : Nat) (v30 : Nat) (v31 : Int32) (v32 : Int32) (v33 : Int32) (v34 : Int32) (h35 : Hp), C_grow_o_L51 N f x51 n v30 v31 v32 v33 v34 h35 = some r → V l G cX0_grow RX0 "grow" 6 (Option.none : Option Jvm.ClassFile.FieldType) fr lo h0 r (QM G none h0 r) 51 [(0, .ref v30), (1, .int v31), (2, .int v32), (3, .int v33), (4, .int v34)] [] h35 := by
  intro n
  induction n with
  | zero =>
    intro v30 v31 v32 v33 v34 h35 hF
    cases (show (none : Option Hp) = some r from hF)
  | succ n hc51 =>
    intro v30 v31 v32 v33 v34 h35 hF
    rw [C_grow_o_L51] at hF
    refine v_iload dX0_grow_51 4 rfl ?_
    refine v_aload_n dX0_grow_53 rfl 0 rfl ?_
    obtain ⟨v37, e_v37, hF⟩ := Option.bind_eq_some_iff.mp hF
    refine v_calV1 dX0_grow_54 vl_X0_125 q482 (rc_C_nBooks e_v37) (ct_C_nBooks e_v37) rfl rfl (by omega) (by omega) (Nat.le_of_ble_eq_true rfl) ?_
    refine v_icmp_ge (tgt := 250) dX0_grow_57 (by decide) hF (fun hF => ?_) (fun hF => ?_)
    · exact v_sub [] rfl (hx51 _ hF)
    · refine v_iload_n dX0_grow_60 rfl 3 rfl ?_
      refine v_aload_n dX0_grow_61 rfl 0 rfl ?_
      refine v_getr dX0_grow_62 fl_X0_10 hF (fun v38 hF => ?_)
      refine v_getr dX0_grow_65 fl_X0_159 hF (fun v39 hF => ?_)
      refine v_iload dX0_grow_68 4 rfl ?_
      refine v_iald dX0_grow_70 hF (fun v40 hF => ?_)
      refine v_iadd dX0_grow_71 ?_
      refine v_aload_n dX0_grow_72 rfl 0 rfl ?_
      refine v_geti dX0_grow_73 fl_X0_374 hF (fun v41 hF => ?_)
      refine v_icmp_gt (tgt := 244) dX0_grow_76 (by decide) hF (fun hF => ?_) (fun hF => ?_)
      · exact v_sub [0, 1, 2, 3, 4] rfl (w_C_grow_o_J244 hbf hbl hfr hlo hf hc51 hF)
      · refine v_aload_n dX0_grow_79 rfl 0 rfl ?_
        refine v_iload dX0_grow_80 4 rfl ?_
        obtain ⟨v49, h48, e_v49, hF⟩ := bd2_spec hF
        refine v_calV1 dX0_grow_82 vl_X0_296 q1305 (rc_C_canRead e_v49) (ct_C_canRead e_v49) rfl rfl (by omega) (by omega) (Nat.le_of_ble_eq_true rfl) ?_
        refine v_if_ne (tgt := 91) dX0_grow_85 (by decide) hF (fun hF => ?_) (fun hF => ?_)
        · refine v_aload_n dX0_grow_91 rfl 0 rfl ?_
          obtain ⟨v50, e_v50, hF⟩ := Option.bind_eq_some_iff.mp hF
          refine v_calV1 dX0_grow_92 vl_X0_135 q486 (rc_C_books e_v50) (ct_C_books e_v50) rfl rfl (by omega) (by omega) (Nat.le_of_ble_eq_true rfl) ?_
          refine v_getr dX0_grow_95 fl_X0_188 hF (fun v51 hF => ?_)
          refine v_iload_n dX0_grow_98 rfl 1 rfl ?_
          refine v_iald dX0_grow_99 hF (fun v52 hF => ?_)
          refine v_istore dX0_grow_100 (Nat.le_of_ble_eq_true rfl) (L' := [(5, .int v52), (0, .ref v30), (1, .int v31), (2, .int v32), (3, .int v33), (4, .int v34)]) rfl ?_
          refine v_aload_n dX0_grow_102 rfl 1 rfl ?_
          obtain ⟨v53, e_v53, hF⟩ := Option.bind_eq_some_iff.mp hF
          refine v_calV1 dX0_grow_103 vl_X0_135 q486 (rc_C_books e_v53) (ct_C_books e_v53) rfl rfl (by omega) (by omega) (Nat.le_of_ble_eq_true rfl) ?_
          refine v_getr dX0_grow_106 fl_X0_188 hF (fun v54 hF => ?_)
          refine v_iload_n dX0_grow_109 rfl 2 rfl ?_
          refine v_sipush dX0_grow_110 (v := 999) (by decide) ?_
          refine v_iload dX0_grow_113 0 rfl ?_
          refine v_aload_n dX0_grow_115 rfl 1 rfl ?_
          refine v_iload_n dX0_grow_116 rfl 2 rfl ?_
          refine v_iload dX0_grow_117 5 rfl ?_
          obtain ⟨v56, h55, e_v56, hF⟩ := bd2_spec hF
          refine v_calV1 dX0_grow_119 vl_X0_197 q637 (rc_C_grows e_v56) (ct_C_grows e_v56) rfl rfl (by omega) (by omega) (Nat.le_of_ble_eq_true rfl) ?_
          refine v_iadd dX0_grow_122 ?_
          refine v_mmin dX0_grow_123 q495 (by omega) (by omega) (Nat.le_of_ble_eq_true rfl) ?_
          refine v_leti hF (fun v57 hF => ?_)
          refine v_iast dX0_grow_126 hF (fun h58 hF => ?_)
          refine v_aload_n dX0_grow_127 rfl 1 rfl ?_
          obtain ⟨v59, e_v59, hF⟩ := Option.bind_eq_some_iff.mp hF
          refine v_calV1 dX0_grow_128 vl_X0_135 q486 (rc_C_books e_v59) (ct_C_books e_v59) rfl rfl (by omega) (by omega) (Nat.le_of_ble_eq_true rfl) ?_
          refine v_dup dX0_grow_131 rfl ?_
          refine v_geti dX0_grow_132 fl_X0_138 hF (fun v60 hF => ?_)
          refine v_iconst dX0_grow_135 (v := 1) (by decide) ?_
          refine v_iload dX0_grow_136 5 rfl ?_
          refine v_ishl dX0_grow_138 ?_
          refine v_ior dX0_grow_139 ?_
          refine v_put dX0_grow_140 pl_X0_138 (fun z => by cases z) rfl rfl hF (fun h61 hF => ?_)
          refine v_aload_n dX0_grow_143 rfl 1 rfl ?_
          obtain ⟨v62, e_v62, hF⟩ := Option.bind_eq_some_iff.mp hF
          refine v_calV1 dX0_grow_144 vl_X0_135 q486 (rc_C_books e_v62) (ct_C_books e_v62) rfl rfl (by omega) (by omega) (Nat.le_of_ble_eq_true rfl) ?_
          refine v_dup dX0_grow_147 rfl ?_
          refine v_geti dX0_grow_148 fl_X0_204 hF (fun v63 hF => ?_)
          refine v_aload_n dX0_grow_151 rfl 1 rfl ?_
          refine v_getr dX0_grow_152 fl_X0_10 hF (fun v64 hF => ?_)
          refine v_getr dX0_grow_155 fl_X0_159 hF (fun v65 hF => ?_)
          refine v_iload dX0_grow_158 5 rfl ?_
          refine v_iald dX0_grow_160 hF (fun v66 hF => ?_)
          refine v_iadd dX0_grow_161 ?_
          refine v_put dX0_grow_162 pl_X0_204 (fun z => by cases z) rfl rfl hF (fun h67 hF => ?_)
          refine v_aload_n dX0_grow_165 rfl 1 rfl ?_
          refine v_getr dX0_grow_166 fl_X0_82 hF (fun v68 hF => ?_)
          refine v_iload_n dX0_grow_169 rfl 3 rfl ?_
          refine v_iload dX0_grow_170 5 rfl ?_
          refine v_iast dX0_grow_172 hF (fun h69 hF => ?_)
          refine v_aload_n dX0_grow_173 rfl 1 rfl ?_
          refine v_iload_n dX0_grow_174 rfl 2 rfl ?_
          refine v_iload_n dX0_grow_175 rfl 3 rfl ?_
          refine v_iconst dX0_grow_176 (v := 1) (by decide) ?_
          refine v_iadd dX0_grow_177 ?_
          refine v_iload_n dX0_grow_178 rfl 4 rfl ?_
          refine v_aload_n dX0_grow_179 rfl 1 rfl ?_
          refine v_getr dX0_grow_180 fl_X0_10 hF (fun v70 hF => ?_)
          refine v_getr dX0_grow_183 fl_X0_159 hF (fun v71 hF => ?_)
          refine v_iload dX0_grow_186 5 rfl ?_
          refine v_iald dX0_grow_188 hF (fun v72 hF => ?_)
          refine v_iadd dX0_grow_189 ?_
          obtain ⟨h73, e_h73, hF⟩ := Option.bind_eq_some_iff.mp hF
          refine v_calV0 dX0_grow_190 vl_X0_377 q1434 (hf _ _ _ _ _ _ e_h73).1 ((hf _ _ _ _ _ _ e_h73).2) rfl rfl (by omega) (by omega) (Nat.le_of_ble_eq_true rfl) ?_
          refine v_aload_n dX0_grow_193 rfl 1 rfl ?_
          obtain ⟨v74, e_v74, hF⟩ := Option.bind_eq_some_iff.mp hF
          refine v_calV1 dX0_grow_194 vl_X0_135 q486 (rc_C_books e_v74) (ct_C_books e_v74) rfl rfl (by omega) (by omega) (Nat.le_of_ble_eq_true rfl) ?_
          refine v_dup dX0_grow_197 rfl ?_
          refine v_geti dX0_grow_198 fl_X0_204 hF (fun v75 hF => ?_)
          refine v_aload_n dX0_grow_201 rfl 1 rfl ?_
          refine v_getr dX0_grow_202 fl_X0_10 hF (fun v76 hF => ?_)
          refine v_getr dX0_grow_205 fl_X0_159 hF (fun v77 hF => ?_)
          refine v_iload dX0_grow_208 5 rfl ?_
          refine v_iald dX0_grow_210 hF (fun v78 hF => ?_)
          refine v_isub dX0_grow_211 ?_
          refine v_put dX0_grow_212 pl_X0_204 (fun z => by cases z) rfl rfl hF (fun h79 hF => ?_)
          refine v_aload_n dX0_grow_215 rfl 1 rfl ?_
          obtain ⟨v80, e_v80, hF⟩ := Option.bind_eq_some_iff.mp hF
          refine v_calV1 dX0_grow_216 vl_X0_135 q486 (rc_C_books e_v80) (ct_C_books e_v80) rfl rfl (by omega) (by omega) (Nat.le_of_ble_eq_true rfl) ?_
          refine v_dup dX0_grow_219 rfl ?_
          refine v_geti dX0_grow_220 fl_X0_138 hF (fun v81 hF => ?_)
          refine v_iconst dX0_grow_223 (v := 1) (by decide) ?_
          refine v_iload dX0_grow_224 5 rfl ?_
          refine v_ishl dX0_grow_226 ?_
          refine v_iconst dX0_grow_227 (v := -1) (by decide) ?_
          refine v_ixor dX0_grow_228 ?_
          refine v_iand dX0_grow_229 ?_
          refine v_put dX0_grow_230 pl_X0_138 (fun z => by cases z) rfl rfl hF (fun h82 hF => ?_)
          refine v_aload_n dX0_grow_233 rfl 1 rfl ?_
          obtain ⟨v83, e_v83, hF⟩ := Option.bind_eq_some_iff.mp hF
          refine v_calV1 dX0_grow_234 vl_X0_135 q486 (rc_C_books e_v83) (ct_C_books e_v83) rfl rfl (by omega) (by omega) (Nat.le_of_ble_eq_true rfl) ?_
          refine v_getr dX0_grow_237 fl_X0_188 hF (fun v84 hF => ?_)
          refine v_iload_n dX0_grow_240 rfl 2 rfl ?_
          refine v_iload dX0_grow_241 0 rfl ?_
          refine v_iast dX0_grow_243 hF (fun h85 hF => ?_)
          exact v_sub [1, 2, 3, 4, 5] rfl (w_C_grow_o_J244 hbf hbl hfr hlo hf hc51 hF)
        · refine v_goto (tgt := 244) dX0_grow_88 (by decide) ?_
          exact v_sub [0, 1, 2, 3, 4] rfl (w_C_grow_o_J244 hbf hbl hfr hlo hf hc51 hF)
def C_grow_o_J48 (N : Nat) (f : Nat → Int32 → Int32 → Int32 → Hp → Option Hp) (v25 : Nat) (v26 : Int32) (v27 : Int32) (v28 : Int32) (h29 : Hp) : Option Hp :=
  C_grow_o_L51 N f (fun h87 =>
    some h87) N v25 v26 v27 v28 (0 : Int32) h29
theorem w_C_grow_o_J48 {l : Launch} {G : GT} {fr lo : Nat} {h0 : Hp} {N : Nat} {f : Nat → Int32 → Int32 → Int32 → Hp → Option Hp} {r : Hp} {frf lof : Nat} (hbf : 200 ≤ frf) (hbl : 5047 ≤ lof) (hfr : frf + 1 ≤ fr) (hlo : lof + 25 ≤ lo) (hf : ∀ (a0 : Nat) (a1 : Int32) (a2 : Int32) (a3 : Int32) (h : Hp) (r : Hp), f a0 a1 a2 a3 h = some r → RC h a0 [0] ∧ Ct l G yX0_grow (ws_ yX0_grow cX0_grow 6 (Option.none : Option Jvm.ClassFile.FieldType)) frf lof [.ref a0, .int a1, .int a2, .int a3] h none r)   {v25 : Nat} {v26 : Int32} {v27 : Int32} {v28 : Int32} {h29 : Hp} (hF : C_grow_o_J48 N f v25 v26 v27 v28 h29 = some r) : V l G cX0_grow RX0 "grow" 6 (Option.none : Option Jvm.ClassFile.FieldType) fr lo h0 r (QM G none h0 r) 48 [(0, .ref v25), (1, .int v26), (2, .int v27), (3, .int v28)] [] h29 := by
  unfold C_grow_o_J48 at hF
  refine v_iconst dX0_grow_48 (v := 0) (by decide) ?_
  refine v_istore dX0_grow_49 (Nat.le_of_ble_eq_true rfl) (L' := [(4, .int (0 : Int32)), (0, .ref v25), (1, .int v26), (2, .int v27), (3, .int v28)]) rfl ?_
  refine v_sub [1, 2, 3, 4, 0] rfl (w_C_grow_o_L51 hbf hbl hfr hlo hf ?_ N _ _ _ _ _ _ hF)
  intro h87 hF
  cases hF
  exact v_vret dX0_grow_250 rfl rfl rfl
def C_grow_o_b (N : Nat) (f : Nat → Int32 → Int32 → Int32 → Hp → Option Hp) (a0 : Nat) (a1 : Int32) (a2 : Int32) (a3 : Int32) (h : Hp) : Option Hp :=
  (C_books h a0).bind fun v21 =>
  (gr h v21 [2] 0).bind fun v22 =>
  (aI h v22 0 a1).bind fun v23 =>
  (gi h a0 [0] 22).bind fun v24 =>
  if v23 ≤ v24 then
    C_grow_o_J48 N f a0 a1 a2 a3 h
  else
    (C_books h a0).bind fun v88 =>
    (gr h v88 [2] 0).bind fun v89 =>
    (aI h v89 0 a1).bind fun v90 =>
    (po h a0 [0] 22 (.int v90)).bind fun h91 =>
    (po h91 a0 [0] 21 (.int a2)).bind fun h92 =>
    (gr h92 a0 [0] 18).bind fun v93 =>
    (gr h92 a0 [0] 19).bind fun v94 =>
    (cpI h92 0 v93 (0 : Int32) v94 (0 : Int32) a2).bind fun h95 =>
    C_grow_o_J48 N f a0 a1 a2 a3 h95
theorem w_C_grow_o_b {l : Launch} {G : GT} {fr lo : Nat} {h0 : Hp} {N : Nat} {f : Nat → Int32 → Int32 → Int32 → Hp → Option Hp} {r : Hp} {frf lof : Nat} (hbf : 200 ≤ frf) (hbl : 5047 ≤ lof) (hfr : frf + 1 ≤ fr) (hlo : lof + 25 ≤ lo) (hf : ∀ (a0 : Nat) (a1 : Int32) (a2 : Int32) (a3 : Int32) (h : Hp) (r : Hp), f a0 a1 a2 a3 h = some r → RC h a0 [0] ∧ Ct l G yX0_grow (ws_ yX0_grow cX0_grow 6 (Option.none : Option Jvm.ClassFile.FieldType)) frf lof [.ref a0, .int a1, .int a2, .int a3] h none r) {a0 : Nat} {a1 : Int32} {a2 : Int32} {a3 : Int32} {h : Hp} (hF : C_grow_o_b N f a0 a1 a2 a3 h = some r) : V l G cX0_grow RX0 "grow" 6 (Option.none : Option Jvm.ClassFile.FieldType) fr lo h0 r (QM G none h0 r) 0 [(0, .ref a0), (1, .int a1), (2, .int a2), (3, .int a3)] [] h := by
  unfold C_grow_o_b at hF
  refine v_aload_n dX0_grow_0 rfl 0 rfl ?_
  obtain ⟨v21, e_v21, hF⟩ := Option.bind_eq_some_iff.mp hF
  refine v_calV1 dX0_grow_1 vl_X0_135 q486 (rc_C_books e_v21) (ct_C_books e_v21) rfl rfl (by omega) (by omega) (Nat.le_of_ble_eq_true rfl) ?_
  refine v_getr dX0_grow_4 fl_X0_188 hF (fun v22 hF => ?_)
  refine v_iload_n dX0_grow_7 rfl 1 rfl ?_
  refine v_iald dX0_grow_8 hF (fun v23 hF => ?_)
  refine v_aload_n dX0_grow_9 rfl 0 rfl ?_
  refine v_geti dX0_grow_10 fl_X0_368 hF (fun v24 hF => ?_)
  refine v_icmp_le (tgt := 48) dX0_grow_13 (by decide) hF (fun hF => ?_) (fun hF => ?_)
  · exact v_sub [0, 1, 2, 3] rfl (w_C_grow_o_J48 hbf hbl hfr hlo hf hF)
  · refine v_aload_n dX0_grow_16 rfl 0 rfl ?_
    refine v_aload_n dX0_grow_17 rfl 0 rfl ?_
    obtain ⟨v88, e_v88, hF⟩ := Option.bind_eq_some_iff.mp hF
    refine v_calV1 dX0_grow_18 vl_X0_135 q486 (rc_C_books e_v88) (ct_C_books e_v88) rfl rfl (by omega) (by omega) (Nat.le_of_ble_eq_true rfl) ?_
    refine v_getr dX0_grow_21 fl_X0_188 hF (fun v89 hF => ?_)
    refine v_iload_n dX0_grow_24 rfl 1 rfl ?_
    refine v_iald dX0_grow_25 hF (fun v90 hF => ?_)
    refine v_put dX0_grow_26 pl_X0_368 (fun z => by cases z) rfl rfl hF (fun h91 hF => ?_)
    refine v_aload_n dX0_grow_29 rfl 0 rfl ?_
    refine v_iload_n dX0_grow_30 rfl 2 rfl ?_
    refine v_put dX0_grow_31 pl_X0_371 (fun z => by cases z) rfl rfl hF (fun h92 hF => ?_)
    refine v_aload_n dX0_grow_34 rfl 0 rfl ?_
    refine v_getr dX0_grow_35 fl_X0_82 hF (fun v93 hF => ?_)
    refine v_iconst dX0_grow_38 (v := 0) (by decide) ?_
    refine v_aload_n dX0_grow_39 rfl 0 rfl ?_
    refine v_getr dX0_grow_40 fl_X0_85 hF (fun v94 hF => ?_)
    refine v_iconst dX0_grow_43 (v := 0) (by decide) ?_
    refine v_iload_n dX0_grow_44 rfl 2 rfl ?_
    refine v_cpI dX0_grow_45 ac_X0_219 (k := 0) rfl (Or.inl ⟨rfl, rfl⟩) (by omega) (by have : lwAC ≤ 60 := Nat.le_of_ble_eq_true rfl; omega) (Nat.le_of_ble_eq_true rfl) hF (fun h95 hF => ?_)
    exact v_sub [0, 1, 2, 3] rfl (w_C_grow_o_J48 hbf hbl hfr hlo hf hF)
def C_grow_o (N : Nat) (f : Nat → Int32 → Int32 → Int32 → Hp → Option Hp) (a0 : Nat) (a1 : Int32) (a2 : Int32) (a3 : Int32) (h : Hp) : Option Hp := (ob h a0 [0]).bind fun _ => C_grow_o_b N f a0 a1 a2 a3 h
theorem rc_C_grow_o {N : Nat}  {f : Nat → Int32 → Int32 → Int32 → Hp → Option Hp} {r : Hp} {a0 : Nat} {a1 : Int32} {a2 : Int32} {a3 : Int32} {h : Hp} (hF : C_grow_o N f a0 a1 a2 a3 h = some r) : RC h a0 [0] := by
  obtain ⟨o, ho, -⟩ := Option.bind_eq_some_iff.mp hF
  exact ⟨o, ho⟩
theorem ct_C_grow_o {l : Launch} {G : GT} {N : Nat} {f : Nat → Int32 → Int32 → Int32 → Hp → Option Hp} {frf lof : Nat} (hbf : 200 ≤ frf) (hbl : 5047 ≤ lof) (hf : ∀ (a0 : Nat) (a1 : Int32) (a2 : Int32) (a3 : Int32) (h : Hp) (r : Hp), f a0 a1 a2 a3 h = some r → RC h a0 [0] ∧ Ct l G yX0_grow (ws_ yX0_grow cX0_grow 6 (Option.none : Option Jvm.ClassFile.FieldType)) frf lof [.ref a0, .int a1, .int a2, .int a3] h none r) {r : Hp} {a0 : Nat} {a1 : Int32} {a2 : Int32} {a3 : Int32} {h : Hp} (hF : C_grow_o N f a0 a1 a2 a3 h = some r) : Ct l G yX0_grow (ws_ yX0_grow cX0_grow 6 (Option.none : Option Jvm.ClassFile.FieldType)) (frf + 1) (lof + 25) [.ref a0, .int a1, .int a2, .int a3] h none r :=
  ct_of (by decide) (Nat.le_of_ble_eq_true rfl) (w_C_grow_o_b hbf hbl (Nat.le_refl _) (Nat.le_refl _) hf (Option.bind_eq_some_iff.mp hF).choose_spec.2)
def C_grow (N : Nat) : Nat → Nat → Int32 → Int32 → Int32 → Hp → Option Hp
  | 0, _, _, _, _, _ => none
  | d + 1, a0, a1, a2, a3, h => C_grow_o N (C_grow N d) a0 a1 a2 a3 h
theorem rcd_C_grow {N : Nat} : ∀ (d : Nat) {r : Hp} {a0 : Nat} {a1 : Int32} {a2 : Int32} {a3 : Int32} {h : Hp} (hF : C_grow N d a0 a1 a2 a3 h = some r), RC h a0 [0] := by
  intro d r a0 a1 a2 a3 h hF
  cases d with
  | zero => cases (show (none : Option Hp) = some r from hF)
  | succ d => exact rc_C_grow_o hF
theorem ctd_C_grow {l : Launch} {G : GT} {N : Nat} : ∀ (d : Nat) {r : Hp} {a0 : Nat} {a1 : Int32} {a2 : Int32} {a3 : Int32} {h : Hp} (hF : C_grow N d a0 a1 a2 a3 h = some r), Ct l G yX0_grow (ws_ yX0_grow cX0_grow 6 (Option.none : Option Jvm.ClassFile.FieldType)) (200 + 1 * d) (5047 + 25 * d) [.ref a0, .int a1, .int a2, .int a3] h none r := by
  intro d
  induction d with
  | zero => intro r a0 a1 a2 a3 h hF; cases (show (none : Option Hp) = some r from hF)
  | succ d ih =>
    intro r a0 a1 a2 a3 h hF
    rw [show 200 + 1 * (d + 1) = (200 + 1 * d) + 1 by omega, show 5047 + 25 * (d + 1) = (5047 + 25 * d) + 25 by omega]
    exact ct_C_grow_o (frf := 200 + 1 * d) (lof := 5047 + 25 * d) (by omega) (by omega) (fun _ _ _ _ _ _ z => ⟨rcd_C_grow d z, ih z⟩) hF
theorem pl_X0_374 : PL RX0 374 [0] 20 (.int) false := by
  intro ci h
  simp only [List.mem_cons, List.not_mem_nil, or_false] at h
  subst h; exact ⟨RX0, _, TX0, 31, tyX0, rfl, in_X0, by decide, Or.inl q377, Or.inl rfl, tyX0_ok, rfl, by decide +kernel, rfl, fun z => by cases z⟩
theorem fl_X0_371 : FL RX0 371 [0] 21 := by
  intro ci h
  simp only [List.mem_cons, List.not_mem_nil, or_false] at h
  subst h; exact ⟨RX0, _, TX0, 31, rfl, in_X0, by decide, Or.inl q378, Or.inl rfl⟩
def C_tallest_b (N : Nat) (a0 : Nat) (a1 : Int32) (a2 : Int32) (a3 : Int32) (h : Hp) : Option (Int32 × Hp) :=
  (C_isLeek h a0 a1).bind fun v21 =>
  if v21 = 0 then
    some ((-1 : Int32), h)
  else
    (C_in a2.toInt64 (0 : Int64) (60 : Int64)).bind fun v22 =>
    if v22 = 0 then
      some ((-1 : Int32), h)
    else
      if (-1 : Int32) ≤ a3 then
        (po h a0 [0] 20 (.int a2)).bind fun h23 =>
        (po h23 a0 [0] 22 (.int (-1 : Int32))).bind fun h24 =>
        (po h24 a0 [0] 21 (.int (0 : Int32))).bind fun h25 =>
        (C_grow N 16 a0 a1 (0 : Int32) (0 : Int32) h25).bind fun h26 =>
        if a3 = (-1 : Int32) then
          (gi h26 a0 [0] 22).bind fun v30 =>
          some (v30, h26)
        else
          (gi h26 a0 [0] 21).bind fun v27 =>
          if v27 ≤ a3 then
            some ((-1 : Int32), h26)
          else
            (gr h26 a0 [0] 19).bind fun v28 =>
            (aI h26 v28 0 a3).bind fun v29 =>
            some (v29, h26)
      else
        some ((-1 : Int32), h)
theorem w_C_tallest_b {l : Launch} {G : GT} {fr lo : Nat} {h0 : Hp} {N : Nat} {r : (Int32 × Hp)} (hfr : 217 ≤ fr) (hlo : 5472 ≤ lo) {a0 : Nat} {a1 : Int32} {a2 : Int32} {a3 : Int32} {h : Hp} (hF : C_tallest_b N a0 a1 a2 a3 h = some r) : V l G cX0_tallest RX0 "tallest" 4 (Option.some Jvm.ClassFile.FieldType.int) fr lo h0 r.2 (QM G (some (.int r.1)) h0 r.2) 0 [(0, .ref a0), (1, .int a1), (2, .int a2), (3, .int a3)] [] h := by
  unfold C_tallest_b at hF
  refine v_aload_n dX0_tallest_0 rfl 0 rfl ?_
  refine v_iload_n dX0_tallest_1 rfl 1 rfl ?_
  obtain ⟨v21, e_v21, hF⟩ := Option.bind_eq_some_iff.mp hF
  refine v_calV1 dX0_tallest_2 vl_X0_191 q583 (rc_C_isLeek e_v21) (ct_C_isLeek e_v21) rfl rfl (Nat.le_trans (Nat.le_of_ble_eq_true rfl) hfr) (Nat.le_trans (Nat.le_of_ble_eq_true rfl) hlo) (Nat.le_of_ble_eq_true rfl) ?_
  refine v_if_eq (tgt := 25) dX0_tallest_5 (by decide) hF (fun hF => ?_) (fun hF => ?_)
  · refine v_iconst dX0_tallest_25 (v := -1) (by decide) ?_
    cases hF
    exact v_iret dX0_tallest_26 rfl rfl rfl rfl
  · refine v_iload_n dX0_tallest_8 rfl 2 rfl ?_
    refine v_i2l dX0_tallest_9 ?_
    refine v_lconst dX0_tallest_10 (v := 0) (by decide) ?_
    refine v_ldc2 dX0_tallest_11 q1430 ?_
    obtain ⟨v22, e_v22, hF⟩ := Option.bind_eq_some_iff.mp hF
    refine v_calS1 dX0_tallest_14 sl_X0_128 q468 (ct_C_in e_v22) rfl rfl (Nat.le_trans (Nat.le_of_ble_eq_true rfl) hfr) (Nat.le_trans (Nat.le_of_ble_eq_true rfl) hlo) (Nat.le_of_ble_eq_true rfl) ?_
    refine v_if_eq (tgt := 25) dX0_tallest_17 (by decide) hF (fun hF => ?_) (fun hF => ?_)
    · refine v_iconst dX0_tallest_25 (v := -1) (by decide) ?_
      cases hF
      exact v_iret dX0_tallest_26 rfl rfl rfl rfl
    · refine v_iload_n dX0_tallest_20 rfl 3 rfl ?_
      refine v_iconst dX0_tallest_21 (v := -1) (by decide) ?_
      refine v_icmp_ge (tgt := 27) dX0_tallest_22 (by decide) hF (fun hF => ?_) (fun hF => ?_)
      · refine v_aload_n dX0_tallest_27 rfl 0 rfl ?_
        refine v_iload_n dX0_tallest_28 rfl 2 rfl ?_
        refine v_put dX0_tallest_29 pl_X0_374 (fun z => by cases z) rfl rfl hF (fun h23 hF => ?_)
        refine v_aload_n dX0_tallest_32 rfl 0 rfl ?_
        refine v_iconst dX0_tallest_33 (v := -1) (by decide) ?_
        refine v_put dX0_tallest_34 pl_X0_368 (fun z => by cases z) rfl rfl hF (fun h24 hF => ?_)
        refine v_aload_n dX0_tallest_37 rfl 0 rfl ?_
        refine v_iconst dX0_tallest_38 (v := 0) (by decide) ?_
        refine v_put dX0_tallest_39 pl_X0_371 (fun z => by cases z) rfl rfl hF (fun h25 hF => ?_)
        refine v_aload_n dX0_tallest_42 rfl 0 rfl ?_
        refine v_iload_n dX0_tallest_43 rfl 1 rfl ?_
        refine v_iconst dX0_tallest_44 (v := 0) (by decide) ?_
        refine v_iconst dX0_tallest_45 (v := 0) (by decide) ?_
        obtain ⟨h26, e_h26, hF⟩ := Option.bind_eq_some_iff.mp hF
        refine v_calV0 dX0_tallest_46 vl_X0_377 q1434 (rcd_C_grow 16 e_h26) (ctd_C_grow 16 e_h26) rfl rfl (Nat.le_trans (Nat.le_of_ble_eq_true rfl) hfr) (Nat.le_trans (Nat.le_of_ble_eq_true rfl) hlo) (Nat.le_of_ble_eq_true rfl) ?_
        refine v_iload_n dX0_tallest_49 rfl 3 rfl ?_
        refine v_iconst dX0_tallest_50 (v := -1) (by decide) ?_
        refine v_icmp_ne (tgt := 61) dX0_tallest_51 (by decide) hF (fun hF => ?_) (fun hF => ?_)
        · refine v_iload_n dX0_tallest_61 rfl 3 rfl ?_
          refine v_aload_n dX0_tallest_62 rfl 0 rfl ?_
          refine v_geti dX0_tallest_63 fl_X0_371 hF (fun v27 hF => ?_)
          refine v_icmp_ge (tgt := 78) dX0_tallest_66 (by decide) hF (fun hF => ?_) (fun hF => ?_)
          · refine v_iconst dX0_tallest_78 (v := -1) (by decide) ?_
            cases hF
            exact v_iret dX0_tallest_79 rfl rfl rfl rfl
          · refine v_aload_n dX0_tallest_69 rfl 0 rfl ?_
            refine v_getr dX0_tallest_70 fl_X0_85 hF (fun v28 hF => ?_)
            refine v_iload_n dX0_tallest_73 rfl 3 rfl ?_
            refine v_iald dX0_tallest_74 hF (fun v29 hF => ?_)
            refine v_goto (tgt := 79) dX0_tallest_75 (by decide) ?_
            cases hF
            exact v_iret dX0_tallest_79 rfl rfl rfl rfl
        · refine v_aload_n dX0_tallest_54 rfl 0 rfl ?_
          refine v_geti dX0_tallest_55 fl_X0_368 hF (fun v30 hF => ?_)
          refine v_goto (tgt := 79) dX0_tallest_58 (by decide) ?_
          cases hF
          exact v_iret dX0_tallest_79 rfl rfl rfl rfl
      · refine v_iconst dX0_tallest_25 (v := -1) (by decide) ?_
        cases hF
        exact v_iret dX0_tallest_26 rfl rfl rfl rfl
def C_tallest (N : Nat) (a0 : Nat) (a1 : Int32) (a2 : Int32) (a3 : Int32) (h : Hp) : Option (Int32 × Hp) := (ob h a0 [0]).bind fun _ => C_tallest_b N a0 a1 a2 a3 h
theorem rc_C_tallest {N : Nat}  {r : (Int32 × Hp)} {a0 : Nat} {a1 : Int32} {a2 : Int32} {a3 : Int32} {h : Hp} (hF : C_tallest N a0 a1 a2 a3 h = some r) : RC h a0 [0] := by
  obtain ⟨o, ho, -⟩ := Option.bind_eq_some_iff.mp hF
  exact ⟨o, ho⟩
theorem ct_C_tallest {l : Launch} {G : GT} {N : Nat} {r : (Int32 × Hp)} {a0 : Nat} {a1 : Int32} {a2 : Int32} {a3 : Int32} {h : Hp} (hF : C_tallest N a0 a1 a2 a3 h = some r) : Ct l G yX0_tallest (ws_ yX0_tallest cX0_tallest 4 (Option.some Jvm.ClassFile.FieldType.int)) 217 5472 [.ref a0, .int a1, .int a2, .int a3] h (some (.int r.1)) r.2 :=
  ct_of (by decide) (Nat.le_of_ble_eq_true rfl) (w_C_tallest_b (Nat.le_refl _) (Nat.le_refl _) (Option.bind_eq_some_iff.mp hF).choose_spec.2)
theorem vl_X0_389 : ∀ ci ∈ [0], VL RX0 389 ci yX0_hurry 2 := by
  intro ci h
  simp only [List.mem_cons, List.not_mem_nil, or_false] at h
  subst h; exact ⟨RX0, TX0, 31, rfl, q137, ⟨by decide, by decide⟩, by decide +kernel, q1442, Or.inl ⟨q1440, qs44⟩⟩
theorem pl_X0_383 : PL RX0 383 [0] 23 (.int) false := by
  intro ci h
  simp only [List.mem_cons, List.not_mem_nil, or_false] at h
  subst h; exact ⟨RX0, _, TX0, 31, tyX0, rfl, in_X0, by decide, Or.inl q380, Or.inl rfl, tyX0_ok, rfl, by decide +kernel, rfl, fun z => by cases z⟩
theorem fl_X0_386 : FL RX0 386 [0] 24 := by
  intro ci h
  simp only [List.mem_cons, List.not_mem_nil, or_false] at h
  subst h; exact ⟨RX0, _, TX0, 31, rfl, in_X0, by decide, Or.inl q381, Or.inl rfl⟩
theorem fl_X0_383 : FL RX0 383 [0] 23 := by
  intro ci h
  simp only [List.mem_cons, List.not_mem_nil, or_false] at h
  subst h; exact ⟨RX0, _, TX0, 31, rfl, in_X0, by decide, Or.inl q380, Or.inl rfl⟩
def C_hurry_o_J188 (N : Nat) (f : Nat → Int32 → Int32 → Hp → Option Hp) (c33 : Nat → Int32 → Int32 → Int32 → Hp → Option Hp) (v69 : Nat) (v70 : Int32) (v71 : Int32) (v72 : Int32) (h73 : Hp) : Option Hp :=
  c33 v69 v70 v71 (v72 + (1 : Int32)) h73
theorem w_C_hurry_o_J188 {l : Launch} {G : GT} {fr lo : Nat} {h0 : Hp} {N : Nat} {f : Nat → Int32 → Int32 → Hp → Option Hp} {r : Hp} {frf lof : Nat} (hbf : 200 ≤ frf) (hbl : 5047 ≤ lof) (hfr : frf + 1 ≤ fr) (hlo : lof + 24 ≤ lo) (hf : ∀ (a0 : Nat) (a1 : Int32) (a2 : Int32) (h : Hp) (r : Hp), f a0 a1 a2 h = some r → RC h a0 [0] ∧ Ct l G yX0_hurry (ws_ yX0_hurry cX0_hurry 5 (Option.none : Option Jvm.ClassFile.FieldType)) frf lof [.ref a0, .int a1, .int a2] h none r) {c33 : Nat → Int32 → Int32 → Int32 → Hp → Option Hp} (hc33 : ∀ (v26 : Nat) (v27 : Int32) (v28 : Int32) (v29 : Int32) (h30 : Hp), c33 v26 v27 v28 v29 h30 = some r → V l G cX0_hurry RX0 "hurry" 5 (Option.none : Option Jvm.ClassFile.FieldType) fr lo h0 r (QM G none h0 r) 33 [(0, .ref v26), (1, .int v27), (2, .int v28), (3, .int v29)] [] h30) {v69 : Nat} {v70 : Int32} {v71 : Int32} {v72 : Int32} {h73 : Hp} (hF : C_hurry_o_J188 N f c33 v69 v70 v71 v72 h73 = some r) : V l G cX0_hurry RX0 "hurry" 5 (Option.none : Option Jvm.ClassFile.FieldType) fr lo h0 r (QM G none h0 r) 188 [(0, .ref v69), (1, .int v70), (2, .int v71), (3, .int v72)] [] h73 := by
  unfold C_hurry_o_J188 at hF
  refine v_iinc dX0_hurry_188 3 rfl (v := v72 + (1 : Int32)) (by rfl) (Nat.le_of_ble_eq_true rfl) (L' := [(3, .int (v72 + (1 : Int32))), (0, .ref v69), (1, .int v70), (2, .int v71)]) rfl ?_
  refine v_goto (tgt := 33) dX0_hurry_191 (by decide) ?_
  exact v_sub [1, 2, 3, 0] rfl (hc33 _ _ _ _ _ hF)
def C_hurry_o_L33 (N : Nat) (f : Nat → Int32 → Int32 → Hp → Option Hp) (x33 : Hp → Option Hp) : Nat → Nat → Int32 → Int32 → Int32 → Hp → Option Hp
  | 0, _, _, _, _, _ => none
  | n74 + 1, v26, v27, v28, v29, h30 =>
    (C_nBooks h30 v26).bind fun v32 =>
    if v32 ≤ v29 then
      x33 h30
    else
      bd2 (C_canRead N v26 v29 h30) fun v34 h33 =>
      if v34 = 0 then
        C_hurry_o_J188 N f (C_hurry_o_L33 N f x33 n74) v26 v27 v28 v29 h33
      else
        (C_books h33 v26).bind fun v35 =>
        (gr h33 v35 [2] 0).bind fun v36 =>
        (aI h33 v36 0 v27).bind fun v37 =>
        (C_books h33 v26).bind fun v38 =>
        (gr h33 v38 [2] 0).bind fun v39 =>
        bd2 (C_grows N v26 v27 v29 h33) fun v41 h40 =>
        (some (if (v37 + v41) < (999 : Int32) then (v37 + v41) else (999 : Int32))).bind fun (v42 : Int32) =>
        (sI h40 v39 0 v27 v42).bind fun h43 =>
        (C_books h43 v26).bind fun v44 =>
        (gi h43 v44 [2] 1).bind fun v45 =>
        (po h43 v44 [2] 1 (.int (v45 ||| ((1 : Int32) <<< (v29 &&& 31))))).bind fun h46 =>
        (C_books h46 v26).bind fun v47 =>
        (gi h46 v47 [2] 2).bind fun v48 =>
        (gr h46 v26 [0] 0).bind fun v49 =>
        (gr h46 v49 [1] 1).bind fun v50 =>
        (aI h46 v50 0 v29).bind fun v51 =>
        (po h46 v47 [2] 2 (.int (v48 + v51))).bind fun h52 =>
        (gr h52 v26 [0] 0).bind fun v53 =>
        (gr h52 v53 [1] 1).bind fun v54 =>
        (aI h52 v54 0 v29).bind fun v55 =>
        (f v26 v27 (v28 + v55) h52).bind fun h56 =>
        (C_books h56 v26).bind fun v57 =>
        (gi h56 v57 [2] 2).bind fun v58 =>
        (gr h56 v26 [0] 0).bind fun v59 =>
        (gr h56 v59 [1] 1).bind fun v60 =>
        (aI h56 v60 0 v29).bind fun v61 =>
        (po h56 v57 [2] 2 (.int (v58 - v61))).bind fun h62 =>
        (C_books h62 v26).bind fun v63 =>
        (gi h62 v63 [2] 1).bind fun v64 =>
        (po h62 v63 [2] 1 (.int (v64 &&& (((1 : Int32) <<< (v29 &&& 31)) ^^^ (-1 : Int32))))).bind fun h65 =>
        (C_books h65 v26).bind fun v66 =>
        (gr h65 v66 [2] 0).bind fun v67 =>
        (sI h65 v67 0 v27 v37).bind fun h68 =>
        C_hurry_o_J188 N f (C_hurry_o_L33 N f x33 n74) v26 v27 v28 v29 h68
theorem w_C_hurry_o_L33 {l : Launch} {G : GT} {fr lo : Nat} {h0 : Hp} {N : Nat} {f : Nat → Int32 → Int32 → Hp → Option Hp} {r : Hp} {frf lof : Nat} (hbf : 200 ≤ frf) (hbl : 5047 ≤ lof) (hfr : frf + 1 ≤ fr) (hlo : lof + 24 ≤ lo) (hf : ∀ (a0 : Nat) (a1 : Int32) (a2 : Int32) (h : Hp) (r : Hp), f a0 a1 a2 h = some r → RC h a0 [0] ∧ Ct l G yX0_hurry (ws_ yX0_hurry cX0_hurry 5 (Option.none : Option Jvm.ClassFile.FieldType)) frf lof [.ref a0, .int a1, .int a2] h none r) {x33 : Hp → Option Hp} (hx33 : ∀ (h31 : Hp), x33 h31 = some r → V l G cX0_hurry RX0 "hurry" 5 (Option.none : Option Jvm.ClassFile.FieldType) fr lo h0 r (QM G none h0 r) 194 [] [] h31) : ∀ (n : Nat) (v26 : Nat) (v27 : Int32) (v28 : Int32) (v29 : Int32) (h30 : Hp), C_hurry_o_L33 N f x33 n v26 v27 v28 v29 h30 = some r → V l G cX0_hurry RX0 "hurry" 5 (Option.none : Option Jvm.ClassFile.FieldType) fr lo h0 r (QM G none h0 r) 33 [(0, .ref v26), (1, .int v27), (2, .int v28), (3, .int v29)] [] h30 := by
  intro n
  induction n with
  | zero =>
    intro v26 v27 v28 v29 h30 hF
    cases (show (none : Option Hp) = some r from hF)
  | succ n hc33 =>
    intro v26 v27 v28 v29 h30 hF
    rw [C_hurry_o_L33] at hF
    refine v_iload_n dX0_hurry_33 rfl 3 rfl ?_
    refine v_aload_n dX0_hurry_34 rfl 0 rfl ?_
    obtain ⟨v32, e_v32, hF⟩ := Option.bind_eq_some_iff.mp hF
    refine v_calV1 dX0_hurry_35 vl_X0_125 q482 (rc_C_nBooks e_v32) (ct_C_nBooks e_v32) rfl rfl (by omega) (by omega) (Nat.le_of_ble_eq_true rfl) ?_
    refine v_icmp_ge (tgt := 194) dX0_hurry_38 (by decide) hF (fun hF => ?_) (fun hF => ?_)
    · exact v_sub [] rfl (hx33 _ hF)
    · refine v_aload_n dX0_hurry_41 rfl 0 rfl ?_
      refine v_iload_n dX0_hurry_42 rfl 3 rfl ?_
      obtain ⟨v34, h33, e_v34, hF⟩ := bd2_spec hF
      refine v_calV1 dX0_hurry_43 vl_X0_296 q1305 (rc_C_canRead e_v34) (ct_C_canRead e_v34) rfl rfl (by omega) (by omega) (Nat.le_of_ble_eq_true rfl) ?_
      refine v_if_ne (tgt := 52) dX0_hurry_46 (by decide) hF (fun hF => ?_) (fun hF => ?_)
      · refine v_aload_n dX0_hurry_52 rfl 0 rfl ?_
        obtain ⟨v35, e_v35, hF⟩ := Option.bind_eq_some_iff.mp hF
        refine v_calV1 dX0_hurry_53 vl_X0_135 q486 (rc_C_books e_v35) (ct_C_books e_v35) rfl rfl (by omega) (by omega) (Nat.le_of_ble_eq_true rfl) ?_
        refine v_getr dX0_hurry_56 fl_X0_188 hF (fun v36 hF => ?_)
        refine v_iload_n dX0_hurry_59 rfl 1 rfl ?_
        refine v_iald dX0_hurry_60 hF (fun v37 hF => ?_)
        refine v_istore dX0_hurry_61 (Nat.le_of_ble_eq_true rfl) (L' := [(4, .int v37), (0, .ref v26), (1, .int v27), (2, .int v28), (3, .int v29)]) rfl ?_
        refine v_aload_n dX0_hurry_63 rfl 1 rfl ?_
        obtain ⟨v38, e_v38, hF⟩ := Option.bind_eq_some_iff.mp hF
        refine v_calV1 dX0_hurry_64 vl_X0_135 q486 (rc_C_books e_v38) (ct_C_books e_v38) rfl rfl (by omega) (by omega) (Nat.le_of_ble_eq_true rfl) ?_
        refine v_getr dX0_hurry_67 fl_X0_188 hF (fun v39 hF => ?_)
        refine v_iload_n dX0_hurry_70 rfl 2 rfl ?_
        refine v_sipush dX0_hurry_71 (v := 999) (by decide) ?_
        refine v_iload dX0_hurry_74 0 rfl ?_
        refine v_aload_n dX0_hurry_76 rfl 1 rfl ?_
        refine v_iload_n dX0_hurry_77 rfl 2 rfl ?_
        refine v_iload_n dX0_hurry_78 rfl 4 rfl ?_
        obtain ⟨v41, h40, e_v41, hF⟩ := bd2_spec hF
        refine v_calV1 dX0_hurry_79 vl_X0_197 q637 (rc_C_grows e_v41) (ct_C_grows e_v41) rfl rfl (by omega) (by omega) (Nat.le_of_ble_eq_true rfl) ?_
        refine v_iadd dX0_hurry_82 ?_
        refine v_mmin dX0_hurry_83 q495 (by omega) (by omega) (Nat.le_of_ble_eq_true rfl) ?_
        refine v_leti hF (fun v42 hF => ?_)
        refine v_iast dX0_hurry_86 hF (fun h43 hF => ?_)
        refine v_aload_n dX0_hurry_87 rfl 1 rfl ?_
        obtain ⟨v44, e_v44, hF⟩ := Option.bind_eq_some_iff.mp hF
        refine v_calV1 dX0_hurry_88 vl_X0_135 q486 (rc_C_books e_v44) (ct_C_books e_v44) rfl rfl (by omega) (by omega) (Nat.le_of_ble_eq_true rfl) ?_
        refine v_dup dX0_hurry_91 rfl ?_
        refine v_geti dX0_hurry_92 fl_X0_138 hF (fun v45 hF => ?_)
        refine v_iconst dX0_hurry_95 (v := 1) (by decide) ?_
        refine v_iload_n dX0_hurry_96 rfl 4 rfl ?_
        refine v_ishl dX0_hurry_97 ?_
        refine v_ior dX0_hurry_98 ?_
        refine v_put dX0_hurry_99 pl_X0_138 (fun z => by cases z) rfl rfl hF (fun h46 hF => ?_)
        refine v_aload_n dX0_hurry_102 rfl 1 rfl ?_
        obtain ⟨v47, e_v47, hF⟩ := Option.bind_eq_some_iff.mp hF
        refine v_calV1 dX0_hurry_103 vl_X0_135 q486 (rc_C_books e_v47) (ct_C_books e_v47) rfl rfl (by omega) (by omega) (Nat.le_of_ble_eq_true rfl) ?_
        refine v_dup dX0_hurry_106 rfl ?_
        refine v_geti dX0_hurry_107 fl_X0_204 hF (fun v48 hF => ?_)
        refine v_aload_n dX0_hurry_110 rfl 1 rfl ?_
        refine v_getr dX0_hurry_111 fl_X0_10 hF (fun v49 hF => ?_)
        refine v_getr dX0_hurry_114 fl_X0_159 hF (fun v50 hF => ?_)
        refine v_iload_n dX0_hurry_117 rfl 4 rfl ?_
        refine v_iald dX0_hurry_118 hF (fun v51 hF => ?_)
        refine v_iadd dX0_hurry_119 ?_
        refine v_put dX0_hurry_120 pl_X0_204 (fun z => by cases z) rfl rfl hF (fun h52 hF => ?_)
        refine v_aload_n dX0_hurry_123 rfl 1 rfl ?_
        refine v_iload_n dX0_hurry_124 rfl 2 rfl ?_
        refine v_iload_n dX0_hurry_125 rfl 3 rfl ?_
        refine v_aload_n dX0_hurry_126 rfl 1 rfl ?_
        refine v_getr dX0_hurry_127 fl_X0_10 hF (fun v53 hF => ?_)
        refine v_getr dX0_hurry_130 fl_X0_159 hF (fun v54 hF => ?_)
        refine v_iload_n dX0_hurry_133 rfl 4 rfl ?_
        refine v_iald dX0_hurry_134 hF (fun v55 hF => ?_)
        refine v_iadd dX0_hurry_135 ?_
        obtain ⟨h56, e_h56, hF⟩ := Option.bind_eq_some_iff.mp hF
        refine v_calV0 dX0_hurry_136 vl_X0_389 q1443 (hf _ _ _ _ _ e_h56).1 ((hf _ _ _ _ _ e_h56).2) rfl rfl (by omega) (by omega) (Nat.le_of_ble_eq_true rfl) ?_
        refine v_aload_n dX0_hurry_139 rfl 1 rfl ?_
        obtain ⟨v57, e_v57, hF⟩ := Option.bind_eq_some_iff.mp hF
        refine v_calV1 dX0_hurry_140 vl_X0_135 q486 (rc_C_books e_v57) (ct_C_books e_v57) rfl rfl (by omega) (by omega) (Nat.le_of_ble_eq_true rfl) ?_
        refine v_dup dX0_hurry_143 rfl ?_
        refine v_geti dX0_hurry_144 fl_X0_204 hF (fun v58 hF => ?_)
        refine v_aload_n dX0_hurry_147 rfl 1 rfl ?_
        refine v_getr dX0_hurry_148 fl_X0_10 hF (fun v59 hF => ?_)
        refine v_getr dX0_hurry_151 fl_X0_159 hF (fun v60 hF => ?_)
        refine v_iload_n dX0_hurry_154 rfl 4 rfl ?_
        refine v_iald dX0_hurry_155 hF (fun v61 hF => ?_)
        refine v_isub dX0_hurry_156 ?_
        refine v_put dX0_hurry_157 pl_X0_204 (fun z => by cases z) rfl rfl hF (fun h62 hF => ?_)
        refine v_aload_n dX0_hurry_160 rfl 1 rfl ?_
        obtain ⟨v63, e_v63, hF⟩ := Option.bind_eq_some_iff.mp hF
        refine v_calV1 dX0_hurry_161 vl_X0_135 q486 (rc_C_books e_v63) (ct_C_books e_v63) rfl rfl (by omega) (by omega) (Nat.le_of_ble_eq_true rfl) ?_
        refine v_dup dX0_hurry_164 rfl ?_
        refine v_geti dX0_hurry_165 fl_X0_138 hF (fun v64 hF => ?_)
        refine v_iconst dX0_hurry_168 (v := 1) (by decide) ?_
        refine v_iload_n dX0_hurry_169 rfl 4 rfl ?_
        refine v_ishl dX0_hurry_170 ?_
        refine v_iconst dX0_hurry_171 (v := -1) (by decide) ?_
        refine v_ixor dX0_hurry_172 ?_
        refine v_iand dX0_hurry_173 ?_
        refine v_put dX0_hurry_174 pl_X0_138 (fun z => by cases z) rfl rfl hF (fun h65 hF => ?_)
        refine v_aload_n dX0_hurry_177 rfl 1 rfl ?_
        obtain ⟨v66, e_v66, hF⟩ := Option.bind_eq_some_iff.mp hF
        refine v_calV1 dX0_hurry_178 vl_X0_135 q486 (rc_C_books e_v66) (ct_C_books e_v66) rfl rfl (by omega) (by omega) (Nat.le_of_ble_eq_true rfl) ?_
        refine v_getr dX0_hurry_181 fl_X0_188 hF (fun v67 hF => ?_)
        refine v_iload_n dX0_hurry_184 rfl 2 rfl ?_
        refine v_iload dX0_hurry_185 0 rfl ?_
        refine v_iast dX0_hurry_187 hF (fun h68 hF => ?_)
        exact v_sub [1, 2, 3, 4] rfl (w_C_hurry_o_J188 hbf hbl hfr hlo hf hc33 hF)
      · refine v_goto (tgt := 188) dX0_hurry_49 (by decide) ?_
        exact v_sub [0, 1, 2, 3] rfl (w_C_hurry_o_J188 hbf hbl hfr hlo hf hc33 hF)
def C_hurry_o_b (N : Nat) (f : Nat → Int32 → Int32 → Hp → Option Hp) (a0 : Nat) (a1 : Int32) (a2 : Int32) (h : Hp) : Option Hp :=
  (gi h a0 [0] 23).bind fun v21 =>
  if a2 < v21 then
    (C_books h a0).bind fun v22 =>
    (gr h v22 [2] 0).bind fun v23 =>
    (aI h v23 0 a1).bind fun v24 =>
    (gi h a0 [0] 24).bind fun v25 =>
    if v24 < v25 then
      C_hurry_o_L33 N f (fun h75 =>
        some h75) N a0 a1 a2 (0 : Int32) h
    else
      (po h a0 [0] 23 (.int a2)).bind fun h76 =>
      some h76
  else
    some h
theorem w_C_hurry_o_b {l : Launch} {G : GT} {fr lo : Nat} {h0 : Hp} {N : Nat} {f : Nat → Int32 → Int32 → Hp → Option Hp} {r : Hp} {frf lof : Nat} (hbf : 200 ≤ frf) (hbl : 5047 ≤ lof) (hfr : frf + 1 ≤ fr) (hlo : lof + 24 ≤ lo) (hf : ∀ (a0 : Nat) (a1 : Int32) (a2 : Int32) (h : Hp) (r : Hp), f a0 a1 a2 h = some r → RC h a0 [0] ∧ Ct l G yX0_hurry (ws_ yX0_hurry cX0_hurry 5 (Option.none : Option Jvm.ClassFile.FieldType)) frf lof [.ref a0, .int a1, .int a2] h none r) {a0 : Nat} {a1 : Int32} {a2 : Int32} {h : Hp} (hF : C_hurry_o_b N f a0 a1 a2 h = some r) : V l G cX0_hurry RX0 "hurry" 5 (Option.none : Option Jvm.ClassFile.FieldType) fr lo h0 r (QM G none h0 r) 0 [(0, .ref a0), (1, .int a1), (2, .int a2)] [] h := by
  unfold C_hurry_o_b at hF
  refine v_iload_n dX0_hurry_0 rfl 2 rfl ?_
  refine v_aload_n dX0_hurry_1 rfl 0 rfl ?_
  refine v_geti dX0_hurry_2 fl_X0_383 hF (fun v21 hF => ?_)
  refine v_icmp_lt (tgt := 9) dX0_hurry_5 (by decide) hF (fun hF => ?_) (fun hF => ?_)
  · refine v_aload_n dX0_hurry_9 rfl 0 rfl ?_
    obtain ⟨v22, e_v22, hF⟩ := Option.bind_eq_some_iff.mp hF
    refine v_calV1 dX0_hurry_10 vl_X0_135 q486 (rc_C_books e_v22) (ct_C_books e_v22) rfl rfl (by omega) (by omega) (Nat.le_of_ble_eq_true rfl) ?_
    refine v_getr dX0_hurry_13 fl_X0_188 hF (fun v23 hF => ?_)
    refine v_iload_n dX0_hurry_16 rfl 1 rfl ?_
    refine v_iald dX0_hurry_17 hF (fun v24 hF => ?_)
    refine v_aload_n dX0_hurry_18 rfl 0 rfl ?_
    refine v_geti dX0_hurry_19 fl_X0_386 hF (fun v25 hF => ?_)
    refine v_icmp_lt (tgt := 31) dX0_hurry_22 (by decide) hF (fun hF => ?_) (fun hF => ?_)
    · refine v_iconst dX0_hurry_31 (v := 0) (by decide) ?_
      refine v_istore_n dX0_hurry_32 rfl (Nat.le_of_ble_eq_true rfl) (L' := [(3, .int (0 : Int32)), (0, .ref a0), (1, .int a1), (2, .int a2)]) rfl ?_
      refine v_sub [1, 2, 3, 0] rfl (w_C_hurry_o_L33 hbf hbl hfr hlo hf ?_ N _ _ _ _ _ hF)
      intro h75 hF
      cases hF
      exact v_vret dX0_hurry_194 rfl rfl rfl
    · refine v_aload_n dX0_hurry_25 rfl 0 rfl ?_
      refine v_iload_n dX0_hurry_26 rfl 2 rfl ?_
      refine v_put dX0_hurry_27 pl_X0_383 (fun z => by cases z) rfl rfl hF (fun h76 hF => ?_)
      cases hF
      exact v_vret dX0_hurry_30 rfl rfl rfl
  · cases hF
    exact v_vret dX0_hurry_8 rfl rfl rfl
def C_hurry_o (N : Nat) (f : Nat → Int32 → Int32 → Hp → Option Hp) (a0 : Nat) (a1 : Int32) (a2 : Int32) (h : Hp) : Option Hp := (ob h a0 [0]).bind fun _ => C_hurry_o_b N f a0 a1 a2 h
theorem rc_C_hurry_o {N : Nat}  {f : Nat → Int32 → Int32 → Hp → Option Hp} {r : Hp} {a0 : Nat} {a1 : Int32} {a2 : Int32} {h : Hp} (hF : C_hurry_o N f a0 a1 a2 h = some r) : RC h a0 [0] := by
  obtain ⟨o, ho, -⟩ := Option.bind_eq_some_iff.mp hF
  exact ⟨o, ho⟩
theorem ct_C_hurry_o {l : Launch} {G : GT} {N : Nat} {f : Nat → Int32 → Int32 → Hp → Option Hp} {frf lof : Nat} (hbf : 200 ≤ frf) (hbl : 5047 ≤ lof) (hf : ∀ (a0 : Nat) (a1 : Int32) (a2 : Int32) (h : Hp) (r : Hp), f a0 a1 a2 h = some r → RC h a0 [0] ∧ Ct l G yX0_hurry (ws_ yX0_hurry cX0_hurry 5 (Option.none : Option Jvm.ClassFile.FieldType)) frf lof [.ref a0, .int a1, .int a2] h none r) {r : Hp} {a0 : Nat} {a1 : Int32} {a2 : Int32} {h : Hp} (hF : C_hurry_o N f a0 a1 a2 h = some r) : Ct l G yX0_hurry (ws_ yX0_hurry cX0_hurry 5 (Option.none : Option Jvm.ClassFile.FieldType)) (frf + 1) (lof + 24) [.ref a0, .int a1, .int a2] h none r :=
  ct_of (by decide) (Nat.le_of_ble_eq_true rfl) (w_C_hurry_o_b hbf hbl (Nat.le_refl _) (Nat.le_refl _) hf (Option.bind_eq_some_iff.mp hF).choose_spec.2)
def C_hurry (N : Nat) : Nat → Nat → Int32 → Int32 → Hp → Option Hp
  | 0, _, _, _, _ => none
  | d + 1, a0, a1, a2, h => C_hurry_o N (C_hurry N d) a0 a1 a2 h
theorem rcd_C_hurry {N : Nat} : ∀ (d : Nat) {r : Hp} {a0 : Nat} {a1 : Int32} {a2 : Int32} {h : Hp} (hF : C_hurry N d a0 a1 a2 h = some r), RC h a0 [0] := by
  intro d r a0 a1 a2 h hF
  cases d with
  | zero => cases (show (none : Option Hp) = some r from hF)
  | succ d => exact rc_C_hurry_o hF
theorem ctd_C_hurry {l : Launch} {G : GT} {N : Nat} : ∀ (d : Nat) {r : Hp} {a0 : Nat} {a1 : Int32} {a2 : Int32} {h : Hp} (hF : C_hurry N d a0 a1 a2 h = some r), Ct l G yX0_hurry (ws_ yX0_hurry cX0_hurry 5 (Option.none : Option Jvm.ClassFile.FieldType)) (200 + 1 * d) (5047 + 24 * d) [.ref a0, .int a1, .int a2] h none r := by
  intro d
  induction d with
  | zero => intro r a0 a1 a2 h hF; cases (show (none : Option Hp) = some r from hF)
  | succ d ih =>
    intro r a0 a1 a2 h hF
    rw [show 200 + 1 * (d + 1) = (200 + 1 * d) + 1 by omega, show 5047 + 24 * (d + 1) = (5047 + 24 * d) + 24 by omega]
    exact ct_C_hurry_o (frf := 200 + 1 * d) (lof := 5047 + 24 * d) (by omega) (by omega) (fun _ _ _ _ _ z => ⟨rcd_C_hurry d z, ih z⟩) hF
theorem pl_X0_386 : PL RX0 386 [0] 24 (.int) false := by
  intro ci h
  simp only [List.mem_cons, List.not_mem_nil, or_false] at h
  subst h; exact ⟨RX0, _, TX0, 31, tyX0, rfl, in_X0, by decide, Or.inl q381, Or.inl rfl, tyX0_ok, rfl, by decide +kernel, rfl, fun z => by cases z⟩
def C_soon_b (N : Nat) (a0 : Nat) (a1 : Int32) (a2 : Int32) (h : Hp) : Option (Int32 × Hp) :=
  (C_isLeek h a0 a1).bind fun v21 =>
  if v21 = 0 then
    some ((-1 : Int32), h)
  else
    (C_in a2.toInt64 (0 : Int64) (999 : Int64)).bind fun v22 =>
    if v22 = 0 then
      some ((-1 : Int32), h)
    else
      (po h a0 [0] 24 (.int a2)).bind fun h23 =>
      (po h23 a0 [0] 23 (.int (100000000 : Int32))).bind fun h24 =>
      (C_hurry N 16 a0 a1 (0 : Int32) h24).bind fun h25 =>
      (gi h25 a0 [0] 23).bind fun v26 =>
      if v26 = (100000000 : Int32) then
        some ((-1 : Int32), h25)
      else
        (gi h25 a0 [0] 23).bind fun v27 =>
        some (v27, h25)
theorem w_C_soon_b {l : Launch} {G : GT} {fr lo : Nat} {h0 : Hp} {N : Nat} {r : (Int32 × Hp)} (hfr : 217 ≤ fr) (hlo : 5455 ≤ lo) {a0 : Nat} {a1 : Int32} {a2 : Int32} {h : Hp} (hF : C_soon_b N a0 a1 a2 h = some r) : V l G cX0_soon RX0 "soon" 3 (Option.some Jvm.ClassFile.FieldType.int) fr lo h0 r.2 (QM G (some (.int r.1)) h0 r.2) 0 [(0, .ref a0), (1, .int a1), (2, .int a2)] [] h := by
  unfold C_soon_b at hF
  refine v_aload_n dX0_soon_0 rfl 0 rfl ?_
  refine v_iload_n dX0_soon_1 rfl 1 rfl ?_
  obtain ⟨v21, e_v21, hF⟩ := Option.bind_eq_some_iff.mp hF
  refine v_calV1 dX0_soon_2 vl_X0_191 q583 (rc_C_isLeek e_v21) (ct_C_isLeek e_v21) rfl rfl (Nat.le_trans (Nat.le_of_ble_eq_true rfl) hfr) (Nat.le_trans (Nat.le_of_ble_eq_true rfl) hlo) (Nat.le_of_ble_eq_true rfl) ?_
  refine v_if_eq (tgt := 20) dX0_soon_5 (by decide) hF (fun hF => ?_) (fun hF => ?_)
  · refine v_iconst dX0_soon_20 (v := -1) (by decide) ?_
    cases hF
    exact v_iret dX0_soon_21 rfl rfl rfl rfl
  · refine v_iload_n dX0_soon_8 rfl 2 rfl ?_
    refine v_i2l dX0_soon_9 ?_
    refine v_lconst dX0_soon_10 (v := 0) (by decide) ?_
    refine v_ldc2 dX0_soon_11 q645 ?_
    obtain ⟨v22, e_v22, hF⟩ := Option.bind_eq_some_iff.mp hF
    refine v_calS1 dX0_soon_14 sl_X0_128 q468 (ct_C_in e_v22) rfl rfl (Nat.le_trans (Nat.le_of_ble_eq_true rfl) hfr) (Nat.le_trans (Nat.le_of_ble_eq_true rfl) hlo) (Nat.le_of_ble_eq_true rfl) ?_
    refine v_if_ne (tgt := 22) dX0_soon_17 (by decide) hF (fun hF => ?_) (fun hF => ?_)
    · refine v_aload_n dX0_soon_22 rfl 0 rfl ?_
      refine v_iload_n dX0_soon_23 rfl 2 rfl ?_
      refine v_put dX0_soon_24 pl_X0_386 (fun z => by cases z) rfl rfl hF (fun h23 hF => ?_)
      refine v_aload_n dX0_soon_27 rfl 0 rfl ?_
      refine v_ldcw dX0_soon_28 q1439 ?_
      refine v_put dX0_soon_31 pl_X0_383 (fun z => by cases z) rfl rfl hF (fun h24 hF => ?_)
      refine v_aload_n dX0_soon_34 rfl 0 rfl ?_
      refine v_iload_n dX0_soon_35 rfl 1 rfl ?_
      refine v_iconst dX0_soon_36 (v := 0) (by decide) ?_
      obtain ⟨h25, e_h25, hF⟩ := Option.bind_eq_some_iff.mp hF
      refine v_calV0 dX0_soon_37 vl_X0_389 q1443 (rcd_C_hurry 16 e_h25) (ctd_C_hurry 16 e_h25) rfl rfl (Nat.le_trans (Nat.le_of_ble_eq_true rfl) hfr) (Nat.le_trans (Nat.le_of_ble_eq_true rfl) hlo) (Nat.le_of_ble_eq_true rfl) ?_
      refine v_aload_n dX0_soon_40 rfl 0 rfl ?_
      refine v_geti dX0_soon_41 fl_X0_383 hF (fun v26 hF => ?_)
      refine v_ldcw dX0_soon_44 q1439 ?_
      refine v_icmp_ne (tgt := 54) dX0_soon_47 (by decide) hF (fun hF => ?_) (fun hF => ?_)
      · refine v_aload_n dX0_soon_54 rfl 0 rfl ?_
        refine v_geti dX0_soon_55 fl_X0_383 hF (fun v27 hF => ?_)
        cases hF
        exact v_iret dX0_soon_58 rfl rfl rfl rfl
      · refine v_iconst dX0_soon_50 (v := -1) (by decide) ?_
        refine v_goto (tgt := 58) dX0_soon_51 (by decide) ?_
        cases hF
        exact v_iret dX0_soon_58 rfl rfl rfl rfl
    · refine v_iconst dX0_soon_20 (v := -1) (by decide) ?_
      cases hF
      exact v_iret dX0_soon_21 rfl rfl rfl rfl
def C_soon (N : Nat) (a0 : Nat) (a1 : Int32) (a2 : Int32) (h : Hp) : Option (Int32 × Hp) := (ob h a0 [0]).bind fun _ => C_soon_b N a0 a1 a2 h
theorem rc_C_soon {N : Nat}  {r : (Int32 × Hp)} {a0 : Nat} {a1 : Int32} {a2 : Int32} {h : Hp} (hF : C_soon N a0 a1 a2 h = some r) : RC h a0 [0] := by
  obtain ⟨o, ho, -⟩ := Option.bind_eq_some_iff.mp hF
  exact ⟨o, ho⟩
theorem ct_C_soon {l : Launch} {G : GT} {N : Nat} {r : (Int32 × Hp)} {a0 : Nat} {a1 : Int32} {a2 : Int32} {h : Hp} (hF : C_soon N a0 a1 a2 h = some r) : Ct l G yX0_soon (ws_ yX0_soon cX0_soon 3 (Option.some Jvm.ClassFile.FieldType.int)) 217 5455 [.ref a0, .int a1, .int a2] h (some (.int r.1)) r.2 :=
  ct_of (by decide) (Nat.le_of_ble_eq_true rfl) (w_C_soon_b (Nat.le_refl _) (Nat.le_refl _) (Option.bind_eq_some_iff.mp hF).choose_spec.2)
def C_compare_b (N : Nat) (a0 : Nat) (a1 : Int32) (a2 : Int32) (a3 : Int32) (h : Hp) : Option (Int32 × Hp) :=
  (C_isLaw h a0 a1).bind fun v21 =>
  if v21 = 0 then
    some ((-1 : Int32), h)
  else
    (C_isLeek h a0 a2).bind fun v22 =>
    if v22 = 0 then
      some ((-1 : Int32), h)
    else
      (C_isBook h a0 a3).bind fun v23 =>
      if v23 = 0 then
        some ((-1 : Int32), h)
      else
        (gr h a0 [0] 0).bind fun v24 =>
        (gi h v24 [1] 11).bind fun v25 =>
        (gr h a0 [0] 0).bind fun v26 =>
        (po h v26 [1] 11 (.int a1)).bind fun h27 =>
        bd2 (C_grows N a0 a2 a3 h27) fun v29 h28 =>
        (gr h28 a0 [0] 0).bind fun v30 =>
        (po h28 v30 [1] 11 (.int v25)).bind fun h31 =>
        some (v29, h31)
theorem w_C_compare_b {l : Launch} {G : GT} {fr lo : Nat} {h0 : Hp} {N : Nat} {r : (Int32 × Hp)} (hfr : 199 ≤ fr) (hlo : 5031 ≤ lo) {a0 : Nat} {a1 : Int32} {a2 : Int32} {a3 : Int32} {h : Hp} (hF : C_compare_b N a0 a1 a2 a3 h = some r) : V l G cX0_compare RX0 "compare" 6 (Option.some Jvm.ClassFile.FieldType.int) fr lo h0 r.2 (QM G (some (.int r.1)) h0 r.2) 0 [(0, .ref a0), (1, .int a1), (2, .int a2), (3, .int a3)] [] h := by
  unfold C_compare_b at hF
  refine v_aload_n dX0_compare_0 rfl 0 rfl ?_
  refine v_iload_n dX0_compare_1 rfl 1 rfl ?_
  obtain ⟨v21, e_v21, hF⟩ := Option.bind_eq_some_iff.mp hF
  refine v_calV1 dX0_compare_2 vl_X0_261 q1293 (rc_C_isLaw e_v21) (ct_C_isLaw e_v21) rfl rfl (Nat.le_trans (Nat.le_of_ble_eq_true rfl) hfr) (Nat.le_trans (Nat.le_of_ble_eq_true rfl) hlo) (Nat.le_of_ble_eq_true rfl) ?_
  refine v_if_eq (tgt := 24) dX0_compare_5 (by decide) hF (fun hF => ?_) (fun hF => ?_)
  · refine v_iconst dX0_compare_24 (v := -1) (by decide) ?_
    cases hF
    exact v_iret dX0_compare_25 rfl rfl rfl rfl
  · refine v_aload_n dX0_compare_8 rfl 0 rfl ?_
    refine v_iload_n dX0_compare_9 rfl 2 rfl ?_
    obtain ⟨v22, e_v22, hF⟩ := Option.bind_eq_some_iff.mp hF
    refine v_calV1 dX0_compare_10 vl_X0_191 q583 (rc_C_isLeek e_v22) (ct_C_isLeek e_v22) rfl rfl (Nat.le_trans (Nat.le_of_ble_eq_true rfl) hfr) (Nat.le_trans (Nat.le_of_ble_eq_true rfl) hlo) (Nat.le_of_ble_eq_true rfl) ?_
    refine v_if_eq (tgt := 24) dX0_compare_13 (by decide) hF (fun hF => ?_) (fun hF => ?_)
    · refine v_iconst dX0_compare_24 (v := -1) (by decide) ?_
      cases hF
      exact v_iret dX0_compare_25 rfl rfl rfl rfl
    · refine v_aload_n dX0_compare_16 rfl 0 rfl ?_
      refine v_iload_n dX0_compare_17 rfl 3 rfl ?_
      obtain ⟨v23, e_v23, hF⟩ := Option.bind_eq_some_iff.mp hF
      refine v_calV1 dX0_compare_18 vl_X0_172 q505 (rc_C_isBook e_v23) (ct_C_isBook e_v23) rfl rfl (Nat.le_trans (Nat.le_of_ble_eq_true rfl) hfr) (Nat.le_trans (Nat.le_of_ble_eq_true rfl) hlo) (Nat.le_of_ble_eq_true rfl) ?_
      refine v_if_ne (tgt := 26) dX0_compare_21 (by decide) hF (fun hF => ?_) (fun hF => ?_)
      · refine v_aload_n dX0_compare_26 rfl 0 rfl ?_
        refine v_getr dX0_compare_27 fl_X0_10 hF (fun v24 hF => ?_)
        refine v_geti dX0_compare_30 fl_X0_264 hF (fun v25 hF => ?_)
        refine v_istore dX0_compare_33 (Nat.le_of_ble_eq_true rfl) (L' := [(4, .int v25), (0, .ref a0), (1, .int a1), (2, .int a2), (3, .int a3)]) rfl ?_
        refine v_aload_n dX0_compare_35 rfl 1 rfl ?_
        refine v_getr dX0_compare_36 fl_X0_10 hF (fun v26 hF => ?_)
        refine v_iload_n dX0_compare_39 rfl 2 rfl ?_
        refine v_put dX0_compare_40 pl_X0_264 (fun z => by cases z) rfl rfl hF (fun h27 hF => ?_)
        refine v_aload_n dX0_compare_43 rfl 1 rfl ?_
        refine v_iload_n dX0_compare_44 rfl 3 rfl ?_
        refine v_iload_n dX0_compare_45 rfl 4 rfl ?_
        obtain ⟨v29, h28, e_v29, hF⟩ := bd2_spec hF
        refine v_calV1 dX0_compare_46 vl_X0_197 q637 (rc_C_grows e_v29) (ct_C_grows e_v29) rfl rfl (Nat.le_trans (Nat.le_of_ble_eq_true rfl) hfr) (Nat.le_trans (Nat.le_of_ble_eq_true rfl) hlo) (Nat.le_of_ble_eq_true rfl) ?_
        refine v_istore dX0_compare_49 (Nat.le_of_ble_eq_true rfl) (L' := [(5, .int v29), (4, .int v25), (0, .ref a0), (1, .int a1), (2, .int a2), (3, .int a3)]) rfl ?_
        refine v_aload_n dX0_compare_51 rfl 2 rfl ?_
        refine v_getr dX0_compare_52 fl_X0_10 hF (fun v30 hF => ?_)
        refine v_iload dX0_compare_55 1 rfl ?_
        refine v_put dX0_compare_57 pl_X0_264 (fun z => by cases z) rfl rfl hF (fun h31 hF => ?_)
        refine v_iload dX0_compare_60 0 rfl ?_
        cases hF
        exact v_iret dX0_compare_62 rfl rfl rfl rfl
      · refine v_iconst dX0_compare_24 (v := -1) (by decide) ?_
        cases hF
        exact v_iret dX0_compare_25 rfl rfl rfl rfl
def C_compare (N : Nat) (a0 : Nat) (a1 : Int32) (a2 : Int32) (a3 : Int32) (h : Hp) : Option (Int32 × Hp) := (ob h a0 [0]).bind fun _ => C_compare_b N a0 a1 a2 a3 h
theorem rc_C_compare {N : Nat}  {r : (Int32 × Hp)} {a0 : Nat} {a1 : Int32} {a2 : Int32} {a3 : Int32} {h : Hp} (hF : C_compare N a0 a1 a2 a3 h = some r) : RC h a0 [0] := by
  obtain ⟨o, ho, -⟩ := Option.bind_eq_some_iff.mp hF
  exact ⟨o, ho⟩
theorem ct_C_compare {l : Launch} {G : GT} {N : Nat} {r : (Int32 × Hp)} {a0 : Nat} {a1 : Int32} {a2 : Int32} {a3 : Int32} {h : Hp} (hF : C_compare N a0 a1 a2 a3 h = some r) : Ct l G yX0_compare (ws_ yX0_compare cX0_compare 6 (Option.some Jvm.ClassFile.FieldType.int)) 199 5031 [.ref a0, .int a1, .int a2, .int a3] h (some (.int r.1)) r.2 :=
  ct_of (by decide) (Nat.le_of_ble_eq_true rfl) (w_C_compare_b (Nat.le_refl _) (Nat.le_refl _) (Option.bind_eq_some_iff.mp hF).choose_spec.2)
theorem pl_X0_395 : PL RX0 395 [1] 10 (.int) false := by
  intro ci h
  simp only [List.mem_cons, List.not_mem_nil, or_false] at h
  subst h; exact ⟨RX1, _, TX1, 12, tyX1, rfl, in_X1, by decide, Or.inr ⟨rfl, _, q269⟩, Or.inl rfl, tyX1_ok, rfl, by decide +kernel, rfl, fun z => by cases z⟩
theorem fl_X0_395 : FL RX0 395 [1] 10 := by
  intro ci h
  simp only [List.mem_cons, List.not_mem_nil, or_false] at h
  subst h; exact ⟨RX1, _, TX1, 12, rfl, in_X1, by decide, Or.inr ⟨_, q269⟩, Or.inl rfl⟩
theorem fl_X0_398 : FL RX0 398 [1] 6 := by
  intro ci h
  simp only [List.mem_cons, List.not_mem_nil, or_false] at h
  subst h; exact ⟨RX1, _, TX1, 12, rfl, in_X1, by decide, Or.inr ⟨_, q261⟩, Or.inl rfl⟩
def C_seen_b (a0 : Nat) (a1 : Int32) (a2 : Int32) (h : Hp) : Option (Int32 × Hp) :=
  (C_in a2.toInt64 (0 : Int64) (99 : Int64)).bind fun v21 =>
  if v21 = 0 then
    bd2 (C_tell a0 (-1 : Int32) h) fun v42 h41 =>
    some (v42, h41)
  else
    (C_isLeek h a0 a1).bind fun v22 =>
    if v22 = 0 then
      bd2 (C_tell a0 (-2 : Int32) h) fun v40 h39 =>
      some (v40, h39)
    else
      (gr h a0 [0] 0).bind fun v23 =>
      (gi h v23 [1] 10).bind fun v24 =>
      if v24 = (6 : Int32) then
        bd2 (C_tell a0 (-5 : Int32) h) fun v38 h37 =>
        some (v38, h37)
      else
        (gr h a0 [0] 0).bind fun v25 =>
        (gr h v25 [1] 6).bind fun v26 =>
        (gr h a0 [0] 0).bind fun v27 =>
        (gi h v27 [1] 10).bind fun v28 =>
        (po h v27 [1] 10 (.int (v28 + (1 : Int32)))).bind fun h29 =>
        (aR h29 v26 4 v28).bind fun v30 =>
        (sI h29 v30 0 (0 : Int32) a1).bind fun h31 =>
        (sI h31 v30 0 (1 : Int32) a2).bind fun h32 =>
        (gr h32 a0 [0] 0).bind fun v33 =>
        (gi h32 v33 [1] 10).bind fun v34 =>
        bd2 (C_tell a0 v34 h32) fun v36 h35 =>
        some (v36, h35)
theorem w_C_seen_b {l : Launch} {G : GT} {fr lo : Nat} {h0 : Hp} {r : (Int32 × Hp)} (hfr : 2 ≤ fr) (hlo : 51 ≤ lo) {a0 : Nat} {a1 : Int32} {a2 : Int32} {h : Hp} (hF : C_seen_b a0 a1 a2 h = some r) : V l G cX0_seen RX0 "seen" 4 (Option.some Jvm.ClassFile.FieldType.int) fr lo h0 r.2 (QM G (some (.int r.1)) h0 r.2) 0 [(0, .ref a0), (1, .int a1), (2, .int a2)] [] h := by
  unfold C_seen_b at hF
  refine v_iload_n dX0_seen_0 rfl 2 rfl ?_
  refine v_i2l dX0_seen_1 ?_
  refine v_lconst dX0_seen_2 (v := 0) (by decide) ?_
  refine v_ldc2 dX0_seen_3 q1452 ?_
  obtain ⟨v21, e_v21, hF⟩ := Option.bind_eq_some_iff.mp hF
  refine v_calS1 dX0_seen_6 sl_X0_128 q468 (ct_C_in e_v21) rfl rfl (Nat.le_trans (Nat.le_of_ble_eq_true rfl) hfr) (Nat.le_trans (Nat.le_of_ble_eq_true rfl) hlo) (Nat.le_of_ble_eq_true rfl) ?_
  refine v_if_ne (tgt := 18) dX0_seen_9 (by decide) hF (fun hF => ?_) (fun hF => ?_)
  · refine v_aload_n dX0_seen_18 rfl 0 rfl ?_
    refine v_iload_n dX0_seen_19 rfl 1 rfl ?_
    obtain ⟨v22, e_v22, hF⟩ := Option.bind_eq_some_iff.mp hF
    refine v_calV1 dX0_seen_20 vl_X0_191 q583 (rc_C_isLeek e_v22) (ct_C_isLeek e_v22) rfl rfl (Nat.le_trans (Nat.le_of_ble_eq_true rfl) hfr) (Nat.le_trans (Nat.le_of_ble_eq_true rfl) hlo) (Nat.le_of_ble_eq_true rfl) ?_
    refine v_if_ne (tgt := 33) dX0_seen_23 (by decide) hF (fun hF => ?_) (fun hF => ?_)
    · refine v_aload_n dX0_seen_33 rfl 0 rfl ?_
      refine v_getr dX0_seen_34 fl_X0_10 hF (fun v23 hF => ?_)
      refine v_geti dX0_seen_37 fl_X0_395 hF (fun v24 hF => ?_)
      refine v_bipush dX0_seen_40 (v := 6) (by decide) ?_
      refine v_icmp_ne (tgt := 52) dX0_seen_42 (by decide) hF (fun hF => ?_) (fun hF => ?_)
      · refine v_aload_n dX0_seen_52 rfl 0 rfl ?_
        refine v_getr dX0_seen_53 fl_X0_10 hF (fun v25 hF => ?_)
        refine v_getr dX0_seen_56 fl_X0_398 hF (fun v26 hF => ?_)
        refine v_aload_n dX0_seen_59 rfl 0 rfl ?_
        refine v_getr dX0_seen_60 fl_X0_10 hF (fun v27 hF => ?_)
        refine v_dup dX0_seen_63 rfl ?_
        refine v_geti dX0_seen_64 fl_X0_395 hF (fun v28 hF => ?_)
        refine v_dup_x1 dX0_seen_67 rfl rfl ?_
        refine v_iconst dX0_seen_68 (v := 1) (by decide) ?_
        refine v_iadd dX0_seen_69 ?_
        refine v_put dX0_seen_70 pl_X0_395 (fun z => by cases z) rfl rfl hF (fun h29 hF => ?_)
        refine v_aaldr rfl rfl dX0_seen_73 hF (fun v30 hF => ?_)
        refine v_astore_n dX0_seen_74 rfl (Nat.le_of_ble_eq_true rfl) (L' := [(3, .ref v30), (0, .ref a0), (1, .int a1), (2, .int a2)]) rfl ?_
        refine v_aload_n dX0_seen_75 rfl 0 rfl ?_
        refine v_iconst dX0_seen_76 (v := 0) (by decide) ?_
        refine v_iload_n dX0_seen_77 rfl 2 rfl ?_
        refine v_iast dX0_seen_78 hF (fun h31 hF => ?_)
        refine v_aload_n dX0_seen_79 rfl 0 rfl ?_
        refine v_iconst dX0_seen_80 (v := 1) (by decide) ?_
        refine v_iload_n dX0_seen_81 rfl 3 rfl ?_
        refine v_iast dX0_seen_82 hF (fun h32 hF => ?_)
        refine v_aload_n dX0_seen_83 rfl 1 rfl ?_
        refine v_aload_n dX0_seen_84 rfl 1 rfl ?_
        refine v_getr dX0_seen_85 fl_X0_10 hF (fun v33 hF => ?_)
        refine v_geti dX0_seen_88 fl_X0_395 hF (fun v34 hF => ?_)
        obtain ⟨v36, h35, e_v36, hF⟩ := bd2_spec hF
        refine v_calV1 dX0_seen_91 vl_X0_112 q494 (rc_C_tell e_v36) (ct_C_tell e_v36) rfl rfl (Nat.le_trans (Nat.le_of_ble_eq_true rfl) hfr) (Nat.le_trans (Nat.le_of_ble_eq_true rfl) hlo) (Nat.le_of_ble_eq_true rfl) ?_
        cases hF
        exact v_iret dX0_seen_94 rfl rfl rfl rfl
      · refine v_aload_n dX0_seen_45 rfl 0 rfl ?_
        refine v_bipush dX0_seen_46 (v := -5) (by decide) ?_
        obtain ⟨v38, h37, e_v38, hF⟩ := bd2_spec hF
        refine v_calV1 dX0_seen_48 vl_X0_112 q494 (rc_C_tell e_v38) (ct_C_tell e_v38) rfl rfl (Nat.le_trans (Nat.le_of_ble_eq_true rfl) hfr) (Nat.le_trans (Nat.le_of_ble_eq_true rfl) hlo) (Nat.le_of_ble_eq_true rfl) ?_
        cases hF
        exact v_iret dX0_seen_51 rfl rfl rfl rfl
    · refine v_aload_n dX0_seen_26 rfl 0 rfl ?_
      refine v_bipush dX0_seen_27 (v := -2) (by decide) ?_
      obtain ⟨v40, h39, e_v40, hF⟩ := bd2_spec hF
      refine v_calV1 dX0_seen_29 vl_X0_112 q494 (rc_C_tell e_v40) (ct_C_tell e_v40) rfl rfl (Nat.le_trans (Nat.le_of_ble_eq_true rfl) hfr) (Nat.le_trans (Nat.le_of_ble_eq_true rfl) hlo) (Nat.le_of_ble_eq_true rfl) ?_
      cases hF
      exact v_iret dX0_seen_32 rfl rfl rfl rfl
  · refine v_aload_n dX0_seen_12 rfl 0 rfl ?_
    refine v_iconst dX0_seen_13 (v := -1) (by decide) ?_
    obtain ⟨v42, h41, e_v42, hF⟩ := bd2_spec hF
    refine v_calV1 dX0_seen_14 vl_X0_112 q494 (rc_C_tell e_v42) (ct_C_tell e_v42) rfl rfl (Nat.le_trans (Nat.le_of_ble_eq_true rfl) hfr) (Nat.le_trans (Nat.le_of_ble_eq_true rfl) hlo) (Nat.le_of_ble_eq_true rfl) ?_
    cases hF
    exact v_iret dX0_seen_17 rfl rfl rfl rfl
def C_seen (a0 : Nat) (a1 : Int32) (a2 : Int32) (h : Hp) : Option (Int32 × Hp) := (ob h a0 [0]).bind fun _ => C_seen_b a0 a1 a2 h
theorem rc_C_seen  {r : (Int32 × Hp)} {a0 : Nat} {a1 : Int32} {a2 : Int32} {h : Hp} (hF : C_seen a0 a1 a2 h = some r) : RC h a0 [0] := by
  obtain ⟨o, ho, -⟩ := Option.bind_eq_some_iff.mp hF
  exact ⟨o, ho⟩
theorem ct_C_seen {l : Launch} {G : GT} {r : (Int32 × Hp)} {a0 : Nat} {a1 : Int32} {a2 : Int32} {h : Hp} (hF : C_seen a0 a1 a2 h = some r) : Ct l G yX0_seen (ws_ yX0_seen cX0_seen 4 (Option.some Jvm.ClassFile.FieldType.int)) 2 51 [.ref a0, .int a1, .int a2] h (some (.int r.1)) r.2 :=
  ct_of (by decide) (Nat.le_of_ble_eq_true rfl) (w_C_seen_b (Nat.le_refl _) (Nat.le_refl _) (Option.bind_eq_some_iff.mp hF).choose_spec.2)
def C_forget_b (a0 : Nat) (h : Hp) : Option (Int32 × Hp) :=
  (gr h a0 [0] 0).bind fun v21 =>
  (gi h v21 [1] 10).bind fun v22 =>
  (gr h a0 [0] 0).bind fun v23 =>
  (po h v23 [1] 10 (.int (0 : Int32))).bind fun h24 =>
  some (v22, h24)
theorem w_C_forget_b {l : Launch} {G : GT} {fr lo : Nat} {h0 : Hp} {r : (Int32 × Hp)} (hfr : 0 ≤ fr) (hlo : 0 ≤ lo) {a0 : Nat} {h : Hp} (hF : C_forget_b a0 h = some r) : V l G cX0_forget RX0 "forget" 2 (Option.some Jvm.ClassFile.FieldType.int) fr lo h0 r.2 (QM G (some (.int r.1)) h0 r.2) 0 [(0, .ref a0)] [] h := by
  unfold C_forget_b at hF
  refine v_aload_n dX0_forget_0 rfl 0 rfl ?_
  refine v_getr dX0_forget_1 fl_X0_10 hF (fun v21 hF => ?_)
  refine v_geti dX0_forget_4 fl_X0_395 hF (fun v22 hF => ?_)
  refine v_istore_n dX0_forget_7 rfl (Nat.le_of_ble_eq_true rfl) (L' := [(1, .int v22), (0, .ref a0)]) rfl ?_
  refine v_aload_n dX0_forget_8 rfl 1 rfl ?_
  refine v_getr dX0_forget_9 fl_X0_10 hF (fun v23 hF => ?_)
  refine v_iconst dX0_forget_12 (v := 0) (by decide) ?_
  refine v_put dX0_forget_13 pl_X0_395 (fun z => by cases z) rfl rfl hF (fun h24 hF => ?_)
  refine v_iload_n dX0_forget_16 rfl 0 rfl ?_
  cases hF
  exact v_iret dX0_forget_17 rfl rfl rfl rfl
def C_forget (a0 : Nat) (h : Hp) : Option (Int32 × Hp) := (ob h a0 [0]).bind fun _ => C_forget_b a0 h
theorem rc_C_forget  {r : (Int32 × Hp)} {a0 : Nat} {h : Hp} (hF : C_forget a0 h = some r) : RC h a0 [0] := by
  obtain ⟨o, ho, -⟩ := Option.bind_eq_some_iff.mp hF
  exact ⟨o, ho⟩
theorem ct_C_forget {l : Launch} {G : GT} {r : (Int32 × Hp)} {a0 : Nat} {h : Hp} (hF : C_forget a0 h = some r) : Ct l G yX0_forget (ws_ yX0_forget cX0_forget 2 (Option.some Jvm.ClassFile.FieldType.int)) 0 0 [.ref a0] h (some (.int r.1)) r.2 :=
  ct_of (by decide) (Nat.le_of_ble_eq_true rfl) (w_C_forget_b (Nat.le_refl _) (Nat.le_refl _) (Option.bind_eq_some_iff.mp hF).choose_spec.2)
def C_canBe_J67 (N : Nat) (c17 : Nat → Int32 → Int32 → Int32 → Int32 → Hp → Option (Int32 × Hp)) (v51 : Nat) (v52 : Int32) (v53 : Int32) (v54 : Int32) (v55 : Int32) (v56 : Int32) (h57 : Hp) : Option (Int32 × Hp) :=
  c17 v51 v52 v53 (v56 &&& v55) (v54 + (1 : Int32)) h57
theorem w_C_canBe_J67 {l : Launch} {G : GT} {fr lo : Nat} {h0 : Hp} {N : Nat} {r : (Int32 × Hp)} (hfr : 199 ≤ fr) (hlo : 5031 ≤ lo) {c17 : Nat → Int32 → Int32 → Int32 → Int32 → Hp → Option (Int32 × Hp)} (hc17 : ∀ (v28 : Nat) (v29 : Int32) (v30 : Int32) (v31 : Int32) (v32 : Int32) (h33 : Hp), c17 v28 v29 v30 v31 v32 h33 = some r → V l G cX0_canBe RX0 "canBe" 5 (Option.some Jvm.ClassFile.FieldType.int) fr lo h0 r.2 (QM G (some (.int r.1)) h0 r.2) 17 [(0, .ref v28), (1, .int v29), (2, .int v30), (3, .int v31), (4, .int v32)] [] h33) {v51 : Nat} {v52 : Int32} {v53 : Int32} {v54 : Int32} {v55 : Int32} {v56 : Int32} {h57 : Hp} (hF : C_canBe_J67 N c17 v51 v52 v53 v54 v55 v56 h57 = some r) : V l G cX0_canBe RX0 "canBe" 5 (Option.some Jvm.ClassFile.FieldType.int) fr lo h0 r.2 (QM G (some (.int r.1)) h0 r.2) 67 [(0, .ref v51), (1, .int v52), (2, .int v53), (4, .int v54)] [.int v55, .int v56] h57 := by
  unfold C_canBe_J67 at hF
  refine v_iand dX0_canBe_67 ?_
  refine v_istore_n dX0_canBe_68 rfl (Nat.le_of_ble_eq_true rfl) (L' := [(3, .int (v56 &&& v55)), (0, .ref v51), (1, .int v52), (2, .int v53), (4, .int v54)]) rfl ?_
  refine v_iinc dX0_canBe_69 4 rfl (v := v54 + (1 : Int32)) (by rfl) (Nat.le_of_ble_eq_true rfl) (L' := [(4, .int (v54 + (1 : Int32))), (3, .int (v56 &&& v55)), (0, .ref v51), (1, .int v52), (2, .int v53)]) rfl ?_
  refine v_goto (tgt := 17) dX0_canBe_72 (by decide) ?_
  exact v_sub [2, 3, 4, 1, 0] rfl (hc17 _ _ _ _ _ _ hF)
def C_canBe_L17 (N : Nat) (x17 : Nat → Int32 → Int32 → Int32 → Hp → Option (Int32 × Hp)) : Nat → Nat → Int32 → Int32 → Int32 → Int32 → Hp → Option (Int32 × Hp)
  | 0, _, _, _, _, _, _ => none
  | n58 + 1, v28, v29, v30, v31, v32, h33 =>
    (gr h33 v28 [0] 0).bind fun v39 =>
    (gi h33 v39 [1] 10).bind fun v40 =>
    if v40 ≤ v32 then
      x17 v28 v29 v30 v31 h33
    else
      (gr h33 v28 [0] 0).bind fun v41 =>
      (gr h33 v41 [1] 6).bind fun v42 =>
      (aR h33 v42 4 v32).bind fun v43 =>
      (aI h33 v43 0 (0 : Int32)).bind fun v44 =>
      bd2 (C_grows N v28 v44 v30 h33) fun v46 h45 =>
      (gr h45 v28 [0] 0).bind fun v47 =>
      (gr h45 v47 [1] 6).bind fun v48 =>
      (aR h45 v48 4 v32).bind fun v49 =>
      (aI h45 v49 0 (1 : Int32)).bind fun v50 =>
      C_canBe_J67 N (C_canBe_L17 N x17 n58) v28 v29 v30 v32 (if v46 = v50 then (1 : Int32) else (0 : Int32)) v31 h45
theorem w_C_canBe_L17 {l : Launch} {G : GT} {fr lo : Nat} {h0 : Hp} {N : Nat} {r : (Int32 × Hp)} (hfr : 199 ≤ fr) (hlo : 5031 ≤ lo) {x17 : Nat → Int32 → Int32 → Int32 → Hp → Option (Int32 × Hp)} (hx17 : ∀ (v34 : Nat) (v35 : Int32) (v36 : Int32) (v37 : Int32) (h38 : Hp), x17 v34 v35 v36 v37 h38 = some r → V l G cX0_canBe RX0 "canBe" 5 (Option.some Jvm.ClassFile.FieldType.int) fr lo h0 r.2 (QM G (some (.int r.1)) h0 r.2) 75 [(0, .ref v34), (1, .int v35), (2, .int v36), (3, .int v37)] [] h38) : ∀ (n : Nat) (v28 : Nat) (v29 : Int32) (v30 : Int32) (v31 : Int32) (v32 : Int32) (h33 : Hp), C_canBe_L17 N x17 n v28 v29 v30 v31 v32 h33 = some r → V l G cX0_canBe RX0 "canBe" 5 (Option.some Jvm.ClassFile.FieldType.int) fr lo h0 r.2 (QM G (some (.int r.1)) h0 r.2) 17 [(0, .ref v28), (1, .int v29), (2, .int v30), (3, .int v31), (4, .int v32)] [] h33 := by
  intro n
  induction n with
  | zero =>
    intro v28 v29 v30 v31 v32 h33 hF
    cases (show (none : Option (Int32 × Hp)) = some r from hF)
  | succ n hc17 =>
    intro v28 v29 v30 v31 v32 h33 hF
    rw [C_canBe_L17] at hF
    refine v_iload dX0_canBe_17 4 rfl ?_
    refine v_aload_n dX0_canBe_19 rfl 0 rfl ?_
    refine v_getr dX0_canBe_20 fl_X0_10 hF (fun v39 hF => ?_)
    refine v_geti dX0_canBe_23 fl_X0_395 hF (fun v40 hF => ?_)
    refine v_icmp_ge (tgt := 75) dX0_canBe_26 (by decide) hF (fun hF => ?_) (fun hF => ?_)
    · exact v_sub [0, 1, 2, 3] rfl (hx17 _ _ _ _ _ hF)
    · refine v_iload_n dX0_canBe_29 rfl 3 rfl ?_
      refine v_aload_n dX0_canBe_30 rfl 0 rfl ?_
      refine v_aload_n dX0_canBe_31 rfl 0 rfl ?_
      refine v_getr dX0_canBe_32 fl_X0_10 hF (fun v41 hF => ?_)
      refine v_getr dX0_canBe_35 fl_X0_398 hF (fun v42 hF => ?_)
      refine v_iload dX0_canBe_38 4 rfl ?_
      refine v_aaldr rfl rfl dX0_canBe_40 hF (fun v43 hF => ?_)
      refine v_iconst dX0_canBe_41 (v := 0) (by decide) ?_
      refine v_iald dX0_canBe_42 hF (fun v44 hF => ?_)
      refine v_iload_n dX0_canBe_43 rfl 2 rfl ?_
      obtain ⟨v46, h45, e_v46, hF⟩ := bd2_spec hF
      refine v_calV1 dX0_canBe_44 vl_X0_197 q637 (rc_C_grows e_v46) (ct_C_grows e_v46) rfl rfl (Nat.le_trans (Nat.le_of_ble_eq_true rfl) hfr) (Nat.le_trans (Nat.le_of_ble_eq_true rfl) hlo) (Nat.le_of_ble_eq_true rfl) ?_
      refine v_aload_n dX0_canBe_47 rfl 0 rfl ?_
      refine v_getr dX0_canBe_48 fl_X0_10 hF (fun v47 hF => ?_)
      refine v_getr dX0_canBe_51 fl_X0_398 hF (fun v48 hF => ?_)
      refine v_iload dX0_canBe_54 4 rfl ?_
      refine v_aaldr rfl rfl dX0_canBe_56 hF (fun v49 hF => ?_)
      refine v_iconst dX0_canBe_57 (v := 1) (by decide) ?_
      refine v_iald dX0_canBe_58 hF (fun v50 hF => ?_)
      refine v_tern (c := v46 = v50) (x := (1 : Int32)) (y := (0 : Int32)) (pcj := 67) (st := [.int v31]) ?_ (fun kt kf => v_icmp_ne0 (tgt := 66) dX0_canBe_59 (by decide) kt kf) (fun K => ?_) (fun K => ?_)
      · exact v_sub [0, 1, 2, 4] rfl (w_C_canBe_J67 hfr hlo hc17 hF)
      · refine v_iconst dX0_canBe_62 (v := 1) (by decide) ?_
        refine v_goto (tgt := 67) dX0_canBe_63 (by decide) ?_
        exact K
      · refine v_iconst dX0_canBe_66 (v := 0) (by decide) ?_
        exact K
def C_canBe_J87 (N : Nat) (c4 : Nat → Int32 → Int32 → Hp → Option (Int32 × Hp)) (v64 : Nat) (v65 : Int32) (v66 : Int32) (v67 : Int32) (h68 : Hp) : Option (Int32 × Hp) :=
  c4 v64 (v67 ||| v66) (v65 + (1 : Int32)) h68
theorem w_C_canBe_J87 {l : Launch} {G : GT} {fr lo : Nat} {h0 : Hp} {N : Nat} {r : (Int32 × Hp)} (hfr : 199 ≤ fr) (hlo : 5031 ≤ lo) {c4 : Nat → Int32 → Int32 → Hp → Option (Int32 × Hp)} (hc4 : ∀ (v21 : Nat) (v22 : Int32) (v23 : Int32) (h24 : Hp), c4 v21 v22 v23 h24 = some r → V l G cX0_canBe RX0 "canBe" 5 (Option.some Jvm.ClassFile.FieldType.int) fr lo h0 r.2 (QM G (some (.int r.1)) h0 r.2) 4 [(0, .ref v21), (1, .int v22), (2, .int v23)] [] h24) {v64 : Nat} {v65 : Int32} {v66 : Int32} {v67 : Int32} {h68 : Hp} (hF : C_canBe_J87 N c4 v64 v65 v66 v67 h68 = some r) : V l G cX0_canBe RX0 "canBe" 5 (Option.some Jvm.ClassFile.FieldType.int) fr lo h0 r.2 (QM G (some (.int r.1)) h0 r.2) 87 [(0, .ref v64), (2, .int v65)] [.int v66, .int v67] h68 := by
  unfold C_canBe_J87 at hF
  refine v_ior dX0_canBe_87 ?_
  refine v_istore_n dX0_canBe_88 rfl (Nat.le_of_ble_eq_true rfl) (L' := [(1, .int (v67 ||| v66)), (0, .ref v64), (2, .int v65)]) rfl ?_
  refine v_iinc dX0_canBe_89 2 rfl (v := v65 + (1 : Int32)) (by rfl) (Nat.le_of_ble_eq_true rfl) (L' := [(2, .int (v65 + (1 : Int32))), (1, .int (v67 ||| v66)), (0, .ref v64)]) rfl ?_
  refine v_goto (tgt := 4) dX0_canBe_92 (by decide) ?_
  exact v_sub [2, 1, 0] rfl (hc4 _ _ _ _ hF)
def C_canBe_L4 (N : Nat) (x4 : Int32 → Hp → Option (Int32 × Hp)) : Nat → Nat → Int32 → Int32 → Hp → Option (Int32 × Hp)
  | 0, _, _, _, _ => none
  | n69 + 1, v21, v22, v23, h24 =>
    (C_nBooks h24 v21).bind fun v27 =>
    if v27 ≤ v23 then
      x4 v22 h24
    else
      C_canBe_L17 N (fun v59 v60 v61 v62 h63 =>
        C_canBe_J87 N (C_canBe_L4 N x4 n69) v59 v61 (if v62 = 0 then (0 : Int32) else ((1 : Int32) <<< (v61 &&& 31))) v60 h63) N v21 v22 v23 (1 : Int32) (0 : Int32) h24
theorem w_C_canBe_L4 {l : Launch} {G : GT} {fr lo : Nat} {h0 : Hp} {N : Nat} {r : (Int32 × Hp)} (hfr : 199 ≤ fr) (hlo : 5031 ≤ lo) {x4 : Int32 → Hp → Option (Int32 × Hp)} (hx4 : ∀ (v25 : Int32) (h26 : Hp), x4 v25 h26 = some r → V l G cX0_canBe RX0 "canBe" 5 (Option.some Jvm.ClassFile.FieldType.int) fr lo h0 r.2 (QM G (some (.int r.1)) h0 r.2) 95 [(1, .int v25)] [] h26) : ∀ (n : Nat) (v21 : Nat) (v22 : Int32) (v23 : Int32) (h24 : Hp), C_canBe_L4 N x4 n v21 v22 v23 h24 = some r → V l G cX0_canBe RX0 "canBe" 5 (Option.some Jvm.ClassFile.FieldType.int) fr lo h0 r.2 (QM G (some (.int r.1)) h0 r.2) 4 [(0, .ref v21), (1, .int v22), (2, .int v23)] [] h24 := by
  intro n
  induction n with
  | zero =>
    intro v21 v22 v23 h24 hF
    cases (show (none : Option (Int32 × Hp)) = some r from hF)
  | succ n hc4 =>
    intro v21 v22 v23 h24 hF
    rw [C_canBe_L4] at hF
    refine v_iload_n dX0_canBe_4 rfl 2 rfl ?_
    refine v_aload_n dX0_canBe_5 rfl 0 rfl ?_
    obtain ⟨v27, e_v27, hF⟩ := Option.bind_eq_some_iff.mp hF
    refine v_calV1 dX0_canBe_6 vl_X0_125 q482 (rc_C_nBooks e_v27) (ct_C_nBooks e_v27) rfl rfl (Nat.le_trans (Nat.le_of_ble_eq_true rfl) hfr) (Nat.le_trans (Nat.le_of_ble_eq_true rfl) hlo) (Nat.le_of_ble_eq_true rfl) ?_
    refine v_icmp_ge (tgt := 95) dX0_canBe_9 (by decide) hF (fun hF => ?_) (fun hF => ?_)
    · exact v_sub [1] rfl (hx4 _ _ hF)
    · refine v_iconst dX0_canBe_12 (v := 1) (by decide) ?_
      refine v_istore_n dX0_canBe_13 rfl (Nat.le_of_ble_eq_true rfl) (L' := [(3, .int (1 : Int32)), (0, .ref v21), (1, .int v22), (2, .int v23)]) rfl ?_
      refine v_iconst dX0_canBe_14 (v := 0) (by decide) ?_
      refine v_istore dX0_canBe_15 (Nat.le_of_ble_eq_true rfl) (L' := [(4, .int (0 : Int32)), (3, .int (1 : Int32)), (0, .ref v21), (1, .int v22), (2, .int v23)]) rfl ?_
      refine v_sub [2, 3, 4, 1, 0] rfl (w_C_canBe_L17 hfr hlo ?_ N _ _ _ _ _ _ hF)
      intro v59 v60 v61 v62 h63 hF
      refine v_iload_n dX0_canBe_75 rfl 1 rfl ?_
      refine v_iload_n dX0_canBe_76 rfl 3 rfl ?_
      refine v_tern (c := v62 = 0) (x := (0 : Int32)) (y := ((1 : Int32) <<< (v61 &&& 31))) (pcj := 87) (st := [.int v60]) ?_ (fun kt kf => v_if_eq0 (tgt := 86) dX0_canBe_77 (by decide) kt kf) (fun K => ?_) (fun K => ?_)
      · exact v_sub [0, 2] rfl (w_C_canBe_J87 hfr hlo hc4 hF)
      · refine v_iconst dX0_canBe_86 (v := 0) (by decide) ?_
        exact K
      · refine v_iconst dX0_canBe_80 (v := 1) (by decide) ?_
        refine v_iload_n dX0_canBe_81 rfl 2 rfl ?_
        refine v_ishl dX0_canBe_82 ?_
        refine v_goto (tgt := 87) dX0_canBe_83 (by decide) ?_
        exact K
def C_canBe_b (N : Nat) (a0 : Nat) (h : Hp) : Option (Int32 × Hp) :=
  C_canBe_L4 N (fun v70 h71 =>
    some (v70, h71)) N a0 (0 : Int32) (0 : Int32) h
theorem w_C_canBe_b {l : Launch} {G : GT} {fr lo : Nat} {h0 : Hp} {N : Nat} {r : (Int32 × Hp)} (hfr : 199 ≤ fr) (hlo : 5031 ≤ lo) {a0 : Nat} {h : Hp} (hF : C_canBe_b N a0 h = some r) : V l G cX0_canBe RX0 "canBe" 5 (Option.some Jvm.ClassFile.FieldType.int) fr lo h0 r.2 (QM G (some (.int r.1)) h0 r.2) 0 [(0, .ref a0)] [] h := by
  unfold C_canBe_b at hF
  refine v_iconst dX0_canBe_0 (v := 0) (by decide) ?_
  refine v_istore_n dX0_canBe_1 rfl (Nat.le_of_ble_eq_true rfl) (L' := [(1, .int (0 : Int32)), (0, .ref a0)]) rfl ?_
  refine v_iconst dX0_canBe_2 (v := 0) (by decide) ?_
  refine v_istore_n dX0_canBe_3 rfl (Nat.le_of_ble_eq_true rfl) (L' := [(2, .int (0 : Int32)), (1, .int (0 : Int32)), (0, .ref a0)]) rfl ?_
  refine v_sub [2, 1, 0] rfl (w_C_canBe_L4 hfr hlo ?_ N _ _ _ _ hF)
  intro v70 h71 hF
  refine v_iload_n dX0_canBe_95 rfl 0 rfl ?_
  cases hF
  exact v_iret dX0_canBe_96 rfl rfl rfl rfl
def C_canBe (N : Nat) (a0 : Nat) (h : Hp) : Option (Int32 × Hp) := (ob h a0 [0]).bind fun _ => C_canBe_b N a0 h
theorem rc_C_canBe {N : Nat}  {r : (Int32 × Hp)} {a0 : Nat} {h : Hp} (hF : C_canBe N a0 h = some r) : RC h a0 [0] := by
  obtain ⟨o, ho, -⟩ := Option.bind_eq_some_iff.mp hF
  exact ⟨o, ho⟩
theorem ct_C_canBe {l : Launch} {G : GT} {N : Nat} {r : (Int32 × Hp)} {a0 : Nat} {h : Hp} (hF : C_canBe N a0 h = some r) : Ct l G yX0_canBe (ws_ yX0_canBe cX0_canBe 5 (Option.some Jvm.ClassFile.FieldType.int)) 199 5031 [.ref a0] h (some (.int r.1)) r.2 :=
  ct_of (by decide) (Nat.le_of_ble_eq_true rfl) (w_C_canBe_b (Nat.le_refl _) (Nat.le_refl _) (Option.bind_eq_some_iff.mp hF).choose_spec.2)
theorem sl_X0_402 : SL RX0 402 yJ16_fill 2 := ⟨q175, ⟨by decide, by decide⟩, by decide +kernel, q1471, Or.inl q1470⟩
theorem fl_X0_88 : FL RX0 88 [0] 25 := by
  intro ci h
  simp only [List.mem_cons, List.not_mem_nil, or_false] at h
  subst h; exact ⟨RX0, _, TX0, 31, rfl, in_X0, by decide, Or.inl q382, Or.inl rfl⟩
def C_mostAlike_J53 (N : Nat) (c13 : Nat → Int32 → Int32 → Int32 → Int32 → Hp → Option (Int32 × Hp)) (v33 : Nat) (v34 : Int32) (v35 : Int32) (v36 : Int32) (v37 : Int32) (h38 : Hp) : Option (Int32 × Hp) :=
  c13 v33 v34 v35 v36 (v37 + (1 : Int32)) h38
theorem w_C_mostAlike_J53 {l : Launch} {G : GT} {fr lo : Nat} {h0 : Hp} {N : Nat} {r : (Int32 × Hp)} (hfr : 199 ≤ fr) (hlo : 5031 ≤ lo) {c13 : Nat → Int32 → Int32 → Int32 → Int32 → Hp → Option (Int32 × Hp)} (hc13 : ∀ (v23 : Nat) (v24 : Int32) (v25 : Int32) (v26 : Int32) (v27 : Int32) (h28 : Hp), c13 v23 v24 v25 v26 v27 h28 = some r → V l G cX0_mostAlike RX0 "mostAlike" 5 (Option.some Jvm.ClassFile.FieldType.int) fr lo h0 r.2 (QM G (some (.int r.1)) h0 r.2) 13 [(0, .ref v23), (1, .int v24), (2, .int v25), (3, .int v26), (4, .int v27)] [] h28) {v33 : Nat} {v34 : Int32} {v35 : Int32} {v36 : Int32} {v37 : Int32} {h38 : Hp} (hF : C_mostAlike_J53 N c13 v33 v34 v35 v36 v37 h38 = some r) : V l G cX0_mostAlike RX0 "mostAlike" 5 (Option.some Jvm.ClassFile.FieldType.int) fr lo h0 r.2 (QM G (some (.int r.1)) h0 r.2) 53 [(0, .ref v33), (1, .int v34), (2, .int v35), (3, .int v36), (4, .int v37)] [] h38 := by
  unfold C_mostAlike_J53 at hF
  refine v_iinc dX0_mostAlike_53 4 rfl (v := v37 + (1 : Int32)) (by rfl) (Nat.le_of_ble_eq_true rfl) (L' := [(4, .int (v37 + (1 : Int32))), (0, .ref v33), (1, .int v34), (2, .int v35), (3, .int v36)]) rfl ?_
  refine v_goto (tgt := 13) dX0_mostAlike_56 (by decide) ?_
  exact v_sub [1, 2, 3, 4, 0] rfl (hc13 _ _ _ _ _ _ hF)
def C_mostAlike_L13 (N : Nat) (x13 : Int32 → Hp → Option (Int32 × Hp)) : Nat → Nat → Int32 → Int32 → Int32 → Int32 → Hp → Option (Int32 × Hp)
  | 0, _, _, _, _, _, _ => none
  | n45 + 1, v23, v24, v25, v26, v27, h28 =>
    (C_nBooks h28 v23).bind fun v31 =>
    if v31 ≤ v27 then
      x13 v26 h28
    else
      (C_has v24 v27).bind fun v32 =>
      if v32 = 0 then
        C_mostAlike_J53 N (C_mostAlike_L13 N x13 n45) v23 v24 v25 v26 v27 h28
      else
        (gr h28 v23 [0] 25).bind fun v39 =>
        bd2 (C_grows N v23 v25 v27 h28) fun v41 h40 =>
        (aI h40 v39 0 v41).bind fun v42 =>
        (sI h40 v39 0 v41 (v42 + (1 : Int32))).bind fun h43 =>
        (some (if v26 < (v42 + (1 : Int32)) then (v42 + (1 : Int32)) else v26)).bind fun (v44 : Int32) =>
        C_mostAlike_J53 N (C_mostAlike_L13 N x13 n45) v23 v24 v25 v44 v27 h43
theorem w_C_mostAlike_L13 {l : Launch} {G : GT} {fr lo : Nat} {h0 : Hp} {N : Nat} {r : (Int32 × Hp)} (hfr : 199 ≤ fr) (hlo : 5031 ≤ lo) {x13 : Int32 → Hp → Option (Int32 × Hp)} (hx13 : ∀ (v29 : Int32) (h30 : Hp), x13 v29 h30 = some r → V l G cX0_mostAlike RX0 "mostAlike" 5 (Option.some Jvm.ClassFile.FieldType.int) fr lo h0 r.2 (QM G (some (.int r.1)) h0 r.2) 59 [(3, .int v29)] [] h30) : ∀ (n : Nat) (v23 : Nat) (v24 : Int32) (v25 : Int32) (v26 : Int32) (v27 : Int32) (h28 : Hp), C_mostAlike_L13 N x13 n v23 v24 v25 v26 v27 h28 = some r → V l G cX0_mostAlike RX0 "mostAlike" 5 (Option.some Jvm.ClassFile.FieldType.int) fr lo h0 r.2 (QM G (some (.int r.1)) h0 r.2) 13 [(0, .ref v23), (1, .int v24), (2, .int v25), (3, .int v26), (4, .int v27)] [] h28 := by
  intro n
  induction n with
  | zero =>
    intro v23 v24 v25 v26 v27 h28 hF
    cases (show (none : Option (Int32 × Hp)) = some r from hF)
  | succ n hc13 =>
    intro v23 v24 v25 v26 v27 h28 hF
    rw [C_mostAlike_L13] at hF
    refine v_iload dX0_mostAlike_13 4 rfl ?_
    refine v_aload_n dX0_mostAlike_15 rfl 0 rfl ?_
    obtain ⟨v31, e_v31, hF⟩ := Option.bind_eq_some_iff.mp hF
    refine v_calV1 dX0_mostAlike_16 vl_X0_125 q482 (rc_C_nBooks e_v31) (ct_C_nBooks e_v31) rfl rfl (Nat.le_trans (Nat.le_of_ble_eq_true rfl) hfr) (Nat.le_trans (Nat.le_of_ble_eq_true rfl) hlo) (Nat.le_of_ble_eq_true rfl) ?_
    refine v_icmp_ge (tgt := 59) dX0_mostAlike_19 (by decide) hF (fun hF => ?_) (fun hF => ?_)
    · exact v_sub [3] rfl (hx13 _ _ hF)
    · refine v_iload_n dX0_mostAlike_22 rfl 1 rfl ?_
      refine v_iload dX0_mostAlike_23 4 rfl ?_
      obtain ⟨v32, e_v32, hF⟩ := Option.bind_eq_some_iff.mp hF
      refine v_calS1 dX0_mostAlike_25 sl_X0_141 q516 (ct_C_has e_v32) rfl rfl (Nat.le_trans (Nat.le_of_ble_eq_true rfl) hfr) (Nat.le_trans (Nat.le_of_ble_eq_true rfl) hlo) (Nat.le_of_ble_eq_true rfl) ?_
      refine v_if_eq (tgt := 53) dX0_mostAlike_28 (by decide) hF (fun hF => ?_) (fun hF => ?_)
      · exact v_sub [0, 1, 2, 3, 4] rfl (w_C_mostAlike_J53 hfr hlo hc13 hF)
      · refine v_iload_n dX0_mostAlike_31 rfl 3 rfl ?_
        refine v_aload_n dX0_mostAlike_32 rfl 0 rfl ?_
        refine v_getr dX0_mostAlike_33 fl_X0_88 hF (fun v39 hF => ?_)
        refine v_aload_n dX0_mostAlike_36 rfl 0 rfl ?_
        refine v_iload_n dX0_mostAlike_37 rfl 2 rfl ?_
        refine v_iload dX0_mostAlike_38 4 rfl ?_
        obtain ⟨v41, h40, e_v41, hF⟩ := bd2_spec hF
        refine v_calV1 dX0_mostAlike_40 vl_X0_197 q637 (rc_C_grows e_v41) (ct_C_grows e_v41) rfl rfl (Nat.le_trans (Nat.le_of_ble_eq_true rfl) hfr) (Nat.le_trans (Nat.le_of_ble_eq_true rfl) hlo) (Nat.le_of_ble_eq_true rfl) ?_
        refine v_dup2 dX0_mostAlike_43 rfl rfl ?_
        refine v_iald dX0_mostAlike_44 hF (fun v42 hF => ?_)
        refine v_iconst dX0_mostAlike_45 (v := 1) (by decide) ?_
        refine v_iadd dX0_mostAlike_46 ?_
        refine v_dup_x2 dX0_mostAlike_47 rfl rfl rfl ?_
        refine v_iast dX0_mostAlike_48 hF (fun h43 hF => ?_)
        refine v_mmax dX0_mostAlike_49 q1356 (by omega) (by omega) (Nat.le_of_ble_eq_true rfl) ?_
        refine v_leti hF (fun v44 hF => ?_)
        refine v_istore_n dX0_mostAlike_52 rfl (Nat.le_of_ble_eq_true rfl) (L' := [(3, .int v44), (0, .ref v23), (1, .int v24), (2, .int v25), (4, .int v27)]) rfl ?_
        exact v_sub [1, 2, 3, 0, 4] rfl (w_C_mostAlike_J53 hfr hlo hc13 hF)
def C_mostAlike_b (N : Nat) (a0 : Nat) (a1 : Int32) (a2 : Int32) (h : Hp) : Option (Int32 × Hp) :=
  (gr h a0 [0] 25).bind fun v21 =>
  (J16_fill N v21 (0 : Int32) h).bind fun h22 =>
  C_mostAlike_L13 N (fun v46 h47 =>
    some (v46, h47)) N a0 a1 a2 (0 : Int32) (0 : Int32) h22
theorem w_C_mostAlike_b {l : Launch} {G : GT} {fr lo : Nat} {h0 : Hp} {N : Nat} {r : (Int32 × Hp)} (hfr : 199 ≤ fr) (hlo : 5031 ≤ lo) {a0 : Nat} {a1 : Int32} {a2 : Int32} {h : Hp} (hF : C_mostAlike_b N a0 a1 a2 h = some r) : V l G cX0_mostAlike RX0 "mostAlike" 5 (Option.some Jvm.ClassFile.FieldType.int) fr lo h0 r.2 (QM G (some (.int r.1)) h0 r.2) 0 [(0, .ref a0), (1, .int a1), (2, .int a2)] [] h := by
  unfold C_mostAlike_b at hF
  refine v_aload_n dX0_mostAlike_0 rfl 0 rfl ?_
  refine v_getr dX0_mostAlike_1 fl_X0_88 hF (fun v21 hF => ?_)
  refine v_iconst dX0_mostAlike_4 (v := 0) (by decide) ?_
  obtain ⟨h22, e_h22, hF⟩ := Option.bind_eq_some_iff.mp hF
  refine v_calS0 dX0_mostAlike_5 sl_X0_402 q1472 (ct_J16_fill e_h22) rfl rfl (Nat.le_trans (Nat.le_of_ble_eq_true rfl) hfr) (Nat.le_trans (Nat.le_of_ble_eq_true rfl) hlo) (Nat.le_of_ble_eq_true rfl) ?_
  refine v_iconst dX0_mostAlike_8 (v := 0) (by decide) ?_
  refine v_istore_n dX0_mostAlike_9 rfl (Nat.le_of_ble_eq_true rfl) (L' := [(3, .int (0 : Int32)), (0, .ref a0), (1, .int a1), (2, .int a2)]) rfl ?_
  refine v_iconst dX0_mostAlike_10 (v := 0) (by decide) ?_
  refine v_istore dX0_mostAlike_11 (Nat.le_of_ble_eq_true rfl) (L' := [(4, .int (0 : Int32)), (3, .int (0 : Int32)), (0, .ref a0), (1, .int a1), (2, .int a2)]) rfl ?_
  refine v_sub [2, 3, 4, 1, 0] rfl (w_C_mostAlike_L13 hfr hlo ?_ N _ _ _ _ _ _ hF)
  intro v46 h47 hF
  refine v_iload_n dX0_mostAlike_59 rfl 0 rfl ?_
  cases hF
  exact v_iret dX0_mostAlike_60 rfl rfl rfl rfl
def C_mostAlike (N : Nat) (a0 : Nat) (a1 : Int32) (a2 : Int32) (h : Hp) : Option (Int32 × Hp) := (ob h a0 [0]).bind fun _ => C_mostAlike_b N a0 a1 a2 h
theorem rc_C_mostAlike {N : Nat}  {r : (Int32 × Hp)} {a0 : Nat} {a1 : Int32} {a2 : Int32} {h : Hp} (hF : C_mostAlike N a0 a1 a2 h = some r) : RC h a0 [0] := by
  obtain ⟨o, ho, -⟩ := Option.bind_eq_some_iff.mp hF
  exact ⟨o, ho⟩
theorem ct_C_mostAlike {l : Launch} {G : GT} {N : Nat} {r : (Int32 × Hp)} {a0 : Nat} {a1 : Int32} {a2 : Int32} {h : Hp} (hF : C_mostAlike N a0 a1 a2 h = some r) : Ct l G yX0_mostAlike (ws_ yX0_mostAlike cX0_mostAlike 5 (Option.some Jvm.ClassFile.FieldType.int)) 199 5031 [.ref a0, .int a1, .int a2] h (some (.int r.1)) r.2 :=
  ct_of (by decide) (Nat.le_of_ble_eq_true rfl) (w_C_mostAlike_b (Nat.le_refl _) (Nat.le_refl _) (Option.bind_eq_some_iff.mp hF).choose_spec.2)
theorem vl_X0_408 : ∀ ci ∈ [0], VL RX0 408 ci yX0_canBe 0 := by
  intro ci h
  simp only [List.mem_cons, List.not_mem_nil, or_false] at h
  subst h; exact ⟨RX0, TX0, 31, rfl, q137, ⟨by decide, by decide⟩, by decide +kernel, q1458, Or.inl ⟨q1465, q1459⟩⟩
theorem vl_X0_411 : ∀ ci ∈ [0], VL RX0 411 ci yX0_mostAlike 2 := by
  intro ci h
  simp only [List.mem_cons, List.not_mem_nil, or_false] at h
  subst h; exact ⟨RX0, TX0, 31, rfl, q137, ⟨by decide, by decide⟩, by decide +kernel, q1468, Or.inl ⟨q1466, qs45⟩⟩
def C_look_J65 (N : Nat) (c31 : Nat → Int32 → Int32 → Int32 → Int32 → Int32 → Hp → Option (Int32 × Hp)) (v38 : Nat) (v39 : Int32) (v40 : Int32) (v41 : Int32) (v42 : Int32) (v43 : Int32) (h44 : Hp) : Option (Int32 × Hp) :=
  c31 v38 v39 v40 v41 v42 (v43 + (1 : Int32)) h44
theorem w_C_look_J65 {l : Launch} {G : GT} {fr lo : Nat} {h0 : Hp} {N : Nat} {r : (Int32 × Hp)} (hfr : 200 ≤ fr) (hlo : 5055 ≤ lo) {c31 : Nat → Int32 → Int32 → Int32 → Int32 → Int32 → Hp → Option (Int32 × Hp)} (hc31 : ∀ (v24 : Nat) (v25 : Int32) (v26 : Int32) (v27 : Int32) (v28 : Int32) (v29 : Int32) (h30 : Hp), c31 v24 v25 v26 v27 v28 v29 h30 = some r → V l G cX0_look RX0 "look" 7 (Option.some Jvm.ClassFile.FieldType.int) fr lo h0 r.2 (QM G (some (.int r.1)) h0 r.2) 31 [(0, .ref v24), (1, .int v25), (2, .int v26), (3, .int v27), (4, .int v28), (5, .int v29)] [] h30) {v38 : Nat} {v39 : Int32} {v40 : Int32} {v41 : Int32} {v42 : Int32} {v43 : Int32} {h44 : Hp} (hF : C_look_J65 N c31 v38 v39 v40 v41 v42 v43 h44 = some r) : V l G cX0_look RX0 "look" 7 (Option.some Jvm.ClassFile.FieldType.int) fr lo h0 r.2 (QM G (some (.int r.1)) h0 r.2) 65 [(0, .ref v38), (1, .int v39), (2, .int v40), (3, .int v41), (4, .int v42), (5, .int v43)] [] h44 := by
  unfold C_look_J65 at hF
  refine v_iinc dX0_look_65 5 rfl (v := v43 + (1 : Int32)) (by rfl) (Nat.le_of_ble_eq_true rfl) (L' := [(5, .int (v43 + (1 : Int32))), (0, .ref v38), (1, .int v39), (2, .int v40), (3, .int v41), (4, .int v42)]) rfl ?_
  refine v_goto (tgt := 31) dX0_look_68 (by decide) ?_
  exact v_sub [1, 2, 3, 4, 5, 0] rfl (hc31 _ _ _ _ _ _ _ hF)
def C_look_L31 (N : Nat) (x31 : Int32 → Int32 → Int32 → Hp → Option (Int32 × Hp)) : Nat → Nat → Int32 → Int32 → Int32 → Int32 → Int32 → Hp → Option (Int32 × Hp)
  | 0, _, _, _, _, _, _, _ => none
  | n45 + 1, v24, v25, v26, v27, v28, v29, h30 =>
    (C_nLeeks h30 v24).bind fun v35 =>
    if v35 ≤ v29 then
      x31 v25 v27 v28 h30
    else
      bd2 (C_mostAlike N v24 v26 v29 h30) fun v37 h36 =>
      if v37 < v27 then
        C_look_J65 N (C_look_L31 N x31 n45) v24 v25 v26 v37 v29 v29 h36
      else
        C_look_J65 N (C_look_L31 N x31 n45) v24 v25 v26 v27 v28 v29 h36
theorem w_C_look_L31 {l : Launch} {G : GT} {fr lo : Nat} {h0 : Hp} {N : Nat} {r : (Int32 × Hp)} (hfr : 200 ≤ fr) (hlo : 5055 ≤ lo) {x31 : Int32 → Int32 → Int32 → Hp → Option (Int32 × Hp)} (hx31 : ∀ (v31 : Int32) (v32 : Int32) (v33 : Int32) (h34 : Hp), x31 v31 v32 v33 h34 = some r → V l G cX0_look RX0 "look" 7 (Option.some Jvm.ClassFile.FieldType.int) fr lo h0 r.2 (QM G (some (.int r.1)) h0 r.2) 71 [(1, .int v31), (3, .int v32), (4, .int v33)] [] h34) : ∀ (n : Nat) (v24 : Nat) (v25 : Int32) (v26 : Int32) (v27 : Int32) (v28 : Int32) (v29 : Int32) (h30 : Hp), C_look_L31 N x31 n v24 v25 v26 v27 v28 v29 h30 = some r → V l G cX0_look RX0 "look" 7 (Option.some Jvm.ClassFile.FieldType.int) fr lo h0 r.2 (QM G (some (.int r.1)) h0 r.2) 31 [(0, .ref v24), (1, .int v25), (2, .int v26), (3, .int v27), (4, .int v28), (5, .int v29)] [] h30 := by
  intro n
  induction n with
  | zero =>
    intro v24 v25 v26 v27 v28 v29 h30 hF
    cases (show (none : Option (Int32 × Hp)) = some r from hF)
  | succ n hc31 =>
    intro v24 v25 v26 v27 v28 v29 h30 hF
    rw [C_look_L31] at hF
    refine v_iload dX0_look_31 5 rfl ?_
    refine v_aload_n dX0_look_33 rfl 0 rfl ?_
    obtain ⟨v35, e_v35, hF⟩ := Option.bind_eq_some_iff.mp hF
    refine v_calV1 dX0_look_34 vl_X0_132 q587 (rc_C_nLeeks e_v35) (ct_C_nLeeks e_v35) rfl rfl (Nat.le_trans (Nat.le_of_ble_eq_true rfl) hfr) (Nat.le_trans (Nat.le_of_ble_eq_true rfl) hlo) (Nat.le_of_ble_eq_true rfl) ?_
    refine v_icmp_ge (tgt := 71) dX0_look_37 (by decide) hF (fun hF => ?_) (fun hF => ?_)
    · exact v_sub [1, 3, 4] rfl (hx31 _ _ _ _ hF)
    · refine v_aload_n dX0_look_40 rfl 0 rfl ?_
      refine v_iload_n dX0_look_41 rfl 2 rfl ?_
      refine v_iload dX0_look_42 5 rfl ?_
      obtain ⟨v37, h36, e_v37, hF⟩ := bd2_spec hF
      refine v_calV1 dX0_look_44 vl_X0_411 q1469 (rc_C_mostAlike e_v37) (ct_C_mostAlike e_v37) rfl rfl (Nat.le_trans (Nat.le_of_ble_eq_true rfl) hfr) (Nat.le_trans (Nat.le_of_ble_eq_true rfl) hlo) (Nat.le_of_ble_eq_true rfl) ?_
      refine v_istore dX0_look_47 (Nat.le_of_ble_eq_true rfl) (L' := [(6, .int v37), (0, .ref v24), (1, .int v25), (2, .int v26), (3, .int v27), (4, .int v28), (5, .int v29)]) rfl ?_
      refine v_iload dX0_look_49 0 rfl ?_
      refine v_iload_n dX0_look_51 rfl 4 rfl ?_
      refine v_icmp_lt (tgt := 58) dX0_look_52 (by decide) hF (fun hF => ?_) (fun hF => ?_)
      · refine v_iload dX0_look_58 0 rfl ?_
        refine v_istore_n dX0_look_60 rfl (Nat.le_of_ble_eq_true rfl) (L' := [(3, .int v37), (6, .int v37), (0, .ref v24), (1, .int v25), (2, .int v26), (4, .int v28), (5, .int v29)]) rfl ?_
        refine v_iload dX0_look_61 6 rfl ?_
        refine v_istore dX0_look_63 (Nat.le_of_ble_eq_true rfl) (L' := [(4, .int v29), (3, .int v37), (6, .int v37), (0, .ref v24), (1, .int v25), (2, .int v26), (5, .int v29)]) rfl ?_
        exact v_sub [3, 4, 5, 1, 0, 6] rfl (w_C_look_J65 hfr hlo hc31 hF)
      · refine v_goto (tgt := 65) dX0_look_55 (by decide) ?_
        exact v_sub [1, 2, 3, 4, 5, 6] rfl (w_C_look_J65 hfr hlo hc31 hF)
def C_look_b (N : Nat) (a0 : Nat) (a1 : Int32) (h : Hp) : Option (Int32 × Hp) :=
  bd2 (C_canBe N a0 h) fun v22 h21 =>
  (C_in a1.toInt64 (0 : Int64) (1 : Int64)).bind fun v23 =>
  if v23 = 0 then
    some ((-1 : Int32), h21)
  else
    if v22 = 0 then
      some ((-1 : Int32), h21)
    else
      C_look_L31 N (fun v46 v47 v48 h49 =>
        if v48 = (-1 : Int32) then
          some (v48, h49)
        else
          if v46 = 0 then
            some (v48, h49)
          else
            some (v47, h49)) N a0 a1 v22 (100000000 : Int32) (-1 : Int32) (0 : Int32) h21
theorem w_C_look_b {l : Launch} {G : GT} {fr lo : Nat} {h0 : Hp} {N : Nat} {r : (Int32 × Hp)} (hfr : 200 ≤ fr) (hlo : 5055 ≤ lo) {a0 : Nat} {a1 : Int32} {h : Hp} (hF : C_look_b N a0 a1 h = some r) : V l G cX0_look RX0 "look" 7 (Option.some Jvm.ClassFile.FieldType.int) fr lo h0 r.2 (QM G (some (.int r.1)) h0 r.2) 0 [(0, .ref a0), (1, .int a1)] [] h := by
  unfold C_look_b at hF
  refine v_aload_n dX0_look_0 rfl 0 rfl ?_
  obtain ⟨v22, h21, e_v22, hF⟩ := bd2_spec hF
  refine v_calV1 dX0_look_1 vl_X0_408 q1460 (rc_C_canBe e_v22) (ct_C_canBe e_v22) rfl rfl (Nat.le_trans (Nat.le_of_ble_eq_true rfl) hfr) (Nat.le_trans (Nat.le_of_ble_eq_true rfl) hlo) (Nat.le_of_ble_eq_true rfl) ?_
  refine v_istore_n dX0_look_4 rfl (Nat.le_of_ble_eq_true rfl) (L' := [(2, .int v22), (0, .ref a0), (1, .int a1)]) rfl ?_
  refine v_ldcw dX0_look_5 q1439 ?_
  refine v_istore_n dX0_look_8 rfl (Nat.le_of_ble_eq_true rfl) (L' := [(3, .int (100000000 : Int32)), (2, .int v22), (0, .ref a0), (1, .int a1)]) rfl ?_
  refine v_iconst dX0_look_9 (v := -1) (by decide) ?_
  refine v_istore dX0_look_10 (Nat.le_of_ble_eq_true rfl) (L' := [(4, .int (-1 : Int32)), (3, .int (100000000 : Int32)), (2, .int v22), (0, .ref a0), (1, .int a1)]) rfl ?_
  refine v_iload_n dX0_look_12 rfl 4 rfl ?_
  refine v_i2l dX0_look_13 ?_
  refine v_lconst dX0_look_14 (v := 0) (by decide) ?_
  refine v_lconst dX0_look_15 (v := 1) (by decide) ?_
  obtain ⟨v23, e_v23, hF⟩ := Option.bind_eq_some_iff.mp hF
  refine v_calS1 dX0_look_16 sl_X0_128 q468 (ct_C_in e_v23) rfl rfl (Nat.le_trans (Nat.le_of_ble_eq_true rfl) hfr) (Nat.le_trans (Nat.le_of_ble_eq_true rfl) hlo) (Nat.le_of_ble_eq_true rfl) ?_
  refine v_if_eq (tgt := 26) dX0_look_19 (by decide) hF (fun hF => ?_) (fun hF => ?_)
  · refine v_iconst dX0_look_26 (v := -1) (by decide) ?_
    cases hF
    exact v_iret dX0_look_27 rfl rfl rfl rfl
  · refine v_iload_n dX0_look_22 rfl 2 rfl ?_
    refine v_if_ne (tgt := 28) dX0_look_23 (by decide) hF (fun hF => ?_) (fun hF => ?_)
    · refine v_iconst dX0_look_28 (v := 0) (by decide) ?_
      refine v_istore dX0_look_29 (Nat.le_of_ble_eq_true rfl) (L' := [(5, .int (0 : Int32)), (4, .int (-1 : Int32)), (3, .int (100000000 : Int32)), (2, .int v22), (0, .ref a0), (1, .int a1)]) rfl ?_
      refine v_sub [4, 5, 3, 2, 1, 0] rfl (w_C_look_L31 hfr hlo ?_ N _ _ _ _ _ _ _ hF)
      intro v46 v47 v48 h49 hF
      refine v_iload dX0_look_71 2 rfl ?_
      refine v_iconst dX0_look_73 (v := -1) (by decide) ?_
      refine v_icmp_eq (tgt := 81) dX0_look_74 (by decide) hF (fun hF => ?_) (fun hF => ?_)
      · refine v_iload dX0_look_81 2 rfl ?_
        refine v_goto (tgt := 87) dX0_look_83 (by decide) ?_
        cases hF
        exact v_iret dX0_look_87 rfl rfl rfl rfl
      · refine v_iload_n dX0_look_77 rfl 0 rfl ?_
        refine v_if_ne (tgt := 86) dX0_look_78 (by decide) hF (fun hF => ?_) (fun hF => ?_)
        · refine v_iload_n dX0_look_86 rfl 1 rfl ?_
          cases hF
          exact v_iret dX0_look_87 rfl rfl rfl rfl
        · refine v_iload dX0_look_81 2 rfl ?_
          refine v_goto (tgt := 87) dX0_look_83 (by decide) ?_
          cases hF
          exact v_iret dX0_look_87 rfl rfl rfl rfl
    · refine v_iconst dX0_look_26 (v := -1) (by decide) ?_
      cases hF
      exact v_iret dX0_look_27 rfl rfl rfl rfl
def C_look (N : Nat) (a0 : Nat) (a1 : Int32) (h : Hp) : Option (Int32 × Hp) := (ob h a0 [0]).bind fun _ => C_look_b N a0 a1 h
theorem rc_C_look {N : Nat}  {r : (Int32 × Hp)} {a0 : Nat} {a1 : Int32} {h : Hp} (hF : C_look N a0 a1 h = some r) : RC h a0 [0] := by
  obtain ⟨o, ho, -⟩ := Option.bind_eq_some_iff.mp hF
  exact ⟨o, ho⟩
theorem ct_C_look {l : Launch} {G : GT} {N : Nat} {r : (Int32 × Hp)} {a0 : Nat} {a1 : Int32} {h : Hp} (hF : C_look N a0 a1 h = some r) : Ct l G yX0_look (ws_ yX0_look cX0_look 7 (Option.some Jvm.ClassFile.FieldType.int)) 200 5055 [.ref a0, .int a1] h (some (.int r.1)) r.2 :=
  ct_of (by decide) (Nat.le_of_ble_eq_true rfl) (w_C_look_b (Nat.le_refl _) (Nat.le_refl _) (Option.bind_eq_some_iff.mp hF).choose_spec.2)
def C_few_L64 (N : Nat) (x64 : Int32 → Int32 → Nat → Int32 → Int32 → Hp → Option (Int64 × Hp)) : Nat → Int32 → Int32 → Nat → Int32 → Int32 → Int32 → Hp → Option (Int64 × Hp)
  | 0, _, _, _, _, _, _, _ => none
  | n56 + 1, v38, v39, v40, v41, v42, v43, h44 =>
    if v43 < 0 then
      x64 v38 v39 v40 v41 v42 h44
    else
      (aL h44 v40 3 (v43 + (1 : Int32))).bind fun v51 =>
      (aL h44 v40 3 v43).bind fun v52 =>
      if (10 : Int64) = 0 then none else
      (sL h44 v40 3 (v43 + (1 : Int32)) (v51 + ((v52 * v41.toInt64) / (10 : Int64)))).bind fun h53 =>
      (aL h53 v40 3 v43).bind fun v54 =>
      if (10 : Int64) = 0 then none else
      (sL h53 v40 3 v43 ((v54 * (((10 : Int32) - v41).toInt64)) / (10 : Int64))).bind fun h55 =>
      (C_few_L64 N x64 n56) v38 v39 v40 v41 v42 (v43 + (-1 : Int32)) h55
theorem w_C_few_L64 {l : Launch} {G : GT} {fr lo : Nat} {h0 : Hp} {N : Nat} {r : (Int64 × Hp)} (hfr : 1 ≤ fr) (hlo : 25 ≤ lo) {x64 : Int32 → Int32 → Nat → Int32 → Int32 → Hp → Option (Int64 × Hp)} (hx64 : ∀ (v45 : Int32) (v46 : Int32) (v47 : Nat) (v48 : Int32) (v49 : Int32) (h50 : Hp), x64 v45 v46 v47 v48 v49 h50 = some r → V l G cX0_few RX0 "few" 8 (Option.some Jvm.ClassFile.FieldType.long) fr lo h0 r.2 (QM G (some (.long r.1)) h0 r.2) 115 [(1, .int v45), (2, .int v46), (3, .ref v47), (4, .int v48), (5, .int v49)] [] h50) : ∀ (n : Nat) (v38 : Int32) (v39 : Int32) (v40 : Nat) (v41 : Int32) (v42 : Int32) (v43 : Int32) (h44 : Hp), C_few_L64 N x64 n v38 v39 v40 v41 v42 v43 h44 = some r → V l G cX0_few RX0 "few" 8 (Option.some Jvm.ClassFile.FieldType.long) fr lo h0 r.2 (QM G (some (.long r.1)) h0 r.2) 64 [(1, .int v38), (2, .int v39), (3, .ref v40), (4, .int v41), (5, .int v42), (6, .int v43)] [] h44 := by
  intro n
  induction n with
  | zero =>
    intro v38 v39 v40 v41 v42 v43 h44 hF
    cases (show (none : Option (Int64 × Hp)) = some r from hF)
  | succ n hc64 =>
    intro v38 v39 v40 v41 v42 v43 h44 hF
    rw [C_few_L64] at hF
    refine v_iload dX0_few_64 5 rfl ?_
    refine v_if_lt (tgt := 115) dX0_few_66 (by decide) hF (fun hF => ?_) (fun hF => ?_)
    · exact v_sub [0, 1, 2, 3, 4] rfl (hx64 _ _ _ _ _ _ hF)
    · refine v_aload_n dX0_few_69 rfl 2 rfl ?_
      refine v_iload dX0_few_70 5 rfl ?_
      refine v_iconst dX0_few_72 (v := 1) (by decide) ?_
      refine v_iadd dX0_few_73 ?_
      refine v_dup2 dX0_few_74 rfl rfl ?_
      refine v_lald dX0_few_75 hF (fun v51 hF => ?_)
      refine v_aload_n dX0_few_76 rfl 2 rfl ?_
      refine v_iload dX0_few_77 5 rfl ?_
      refine v_lald dX0_few_79 hF (fun v52 hF => ?_)
      refine v_iload dX0_few_80 3 rfl ?_
      refine v_i2l dX0_few_82 ?_
      refine v_lmul dX0_few_83 ?_
      refine v_ldc2 dX0_few_84 q646 ?_
      refine v_ldiv dX0_few_87 hF (fun hF => ?_)
      refine v_ladd dX0_few_88 ?_
      refine v_last dX0_few_89 hF (fun h53 hF => ?_)
      refine v_aload_n dX0_few_90 rfl 2 rfl ?_
      refine v_iload dX0_few_91 5 rfl ?_
      refine v_aload_n dX0_few_93 rfl 2 rfl ?_
      refine v_iload dX0_few_94 5 rfl ?_
      refine v_lald dX0_few_96 hF (fun v54 hF => ?_)
      refine v_bipush dX0_few_97 (v := 10) (by decide) ?_
      refine v_iload dX0_few_99 3 rfl ?_
      refine v_isub dX0_few_101 ?_
      refine v_i2l dX0_few_102 ?_
      refine v_lmul dX0_few_103 ?_
      refine v_ldc2 dX0_few_104 q646 ?_
      refine v_ldiv dX0_few_107 hF (fun hF => ?_)
      refine v_last dX0_few_108 hF (fun h55 hF => ?_)
      refine v_iinc dX0_few_109 5 rfl (v := v43 + (-1 : Int32)) (by rfl) (Nat.le_of_ble_eq_true rfl) (L' := [(6, .int (v43 + (-1 : Int32))), (1, .int v38), (2, .int v39), (3, .ref v40), (4, .int v41), (5, .int v42)]) rfl ?_
      refine v_goto (tgt := 64) dX0_few_112 (by decide) ?_
      exact v_sub [1, 2, 3, 4, 5, 0] rfl (hc64 _ _ _ _ _ _ _ hF)
def C_few_L53 (N : Nat) (x53 : Int32 → Nat → Hp → Option (Int64 × Hp)) : Nat → Int32 → Int32 → Nat → Int32 → Int32 → Hp → Option (Int64 × Hp)
  | 0, _, _, _, _, _, _ => none
  | n63 + 1, v29, v30, v31, v32, v33, h34 =>
    if v30 ≤ v33 then
      x53 v29 v31 h34
    else
      C_few_L64 N (fun v57 v58 v59 v60 v61 h62 =>
        (C_few_L53 N x53 n63) v57 v58 v59 v60 (v61 + (1 : Int32)) h62) N v29 v30 v31 v32 v33 (v29 - (1 : Int32)) h34
theorem w_C_few_L53 {l : Launch} {G : GT} {fr lo : Nat} {h0 : Hp} {N : Nat} {r : (Int64 × Hp)} (hfr : 1 ≤ fr) (hlo : 25 ≤ lo) {x53 : Int32 → Nat → Hp → Option (Int64 × Hp)} (hx53 : ∀ (v35 : Int32) (v36 : Nat) (h37 : Hp), x53 v35 v36 h37 = some r → V l G cX0_few RX0 "few" 8 (Option.some Jvm.ClassFile.FieldType.long) fr lo h0 r.2 (QM G (some (.long r.1)) h0 r.2) 121 [(1, .int v35), (3, .ref v36)] [] h37) : ∀ (n : Nat) (v29 : Int32) (v30 : Int32) (v31 : Nat) (v32 : Int32) (v33 : Int32) (h34 : Hp), C_few_L53 N x53 n v29 v30 v31 v32 v33 h34 = some r → V l G cX0_few RX0 "few" 8 (Option.some Jvm.ClassFile.FieldType.long) fr lo h0 r.2 (QM G (some (.long r.1)) h0 r.2) 53 [(1, .int v29), (2, .int v30), (3, .ref v31), (4, .int v32), (5, .int v33)] [] h34 := by
  intro n
  induction n with
  | zero =>
    intro v29 v30 v31 v32 v33 h34 hF
    cases (show (none : Option (Int64 × Hp)) = some r from hF)
  | succ n hc53 =>
    intro v29 v30 v31 v32 v33 h34 hF
    rw [C_few_L53] at hF
    refine v_iload dX0_few_53 4 rfl ?_
    refine v_iload_n dX0_few_55 rfl 1 rfl ?_
    refine v_icmp_ge (tgt := 121) dX0_few_56 (by decide) hF (fun hF => ?_) (fun hF => ?_)
    · exact v_sub [0, 2] rfl (hx53 _ _ _ hF)
    · refine v_iload_n dX0_few_59 rfl 0 rfl ?_
      refine v_iconst dX0_few_60 (v := 1) (by decide) ?_
      refine v_isub dX0_few_61 ?_
      refine v_istore dX0_few_62 (Nat.le_of_ble_eq_true rfl) (L' := [(6, .int (v29 - (1 : Int32))), (1, .int v29), (2, .int v30), (3, .ref v31), (4, .int v32), (5, .int v33)]) rfl ?_
      refine v_sub [1, 2, 3, 4, 5, 0] rfl (w_C_few_L64 hfr hlo ?_ N _ _ _ _ _ _ _ hF)
      intro v57 v58 v59 v60 v61 h62 hF
      refine v_iinc dX0_few_115 4 rfl (v := v61 + (1 : Int32)) (by rfl) (Nat.le_of_ble_eq_true rfl) (L' := [(5, .int (v61 + (1 : Int32))), (1, .int v57), (2, .int v58), (3, .ref v59), (4, .int v60)]) rfl ?_
      refine v_goto (tgt := 53) dX0_few_118 (by decide) ?_
      exact v_sub [1, 2, 3, 4, 0] rfl (hc53 _ _ _ _ _ _ hF)
def C_few_L127 (N : Nat) (x127 : Int64 → Hp → Option (Int64 × Hp)) : Nat → Int32 → Nat → Int64 → Int32 → Hp → Option (Int64 × Hp)
  | 0, _, _, _, _, _ => none
  | n75 + 1, v67, v68, v69, v70, h71 =>
    if v67 ≤ v70 then
      x127 v69 h71
    else
      (aL h71 v68 3 v70).bind fun v74 =>
      (C_few_L127 N x127 n75) v67 v68 (v69 + v74) (v70 + (1 : Int32)) h71
theorem w_C_few_L127 {l : Launch} {G : GT} {fr lo : Nat} {h0 : Hp} {N : Nat} {r : (Int64 × Hp)} (hfr : 1 ≤ fr) (hlo : 25 ≤ lo) {x127 : Int64 → Hp → Option (Int64 × Hp)} (hx127 : ∀ (v72 : Int64) (h73 : Hp), x127 v72 h73 = some r → V l G cX0_few RX0 "few" 8 (Option.some Jvm.ClassFile.FieldType.long) fr lo h0 r.2 (QM G (some (.long r.1)) h0 r.2) 148 [(5, .long v72)] [] h73) : ∀ (n : Nat) (v67 : Int32) (v68 : Nat) (v69 : Int64) (v70 : Int32) (h71 : Hp), C_few_L127 N x127 n v67 v68 v69 v70 h71 = some r → V l G cX0_few RX0 "few" 8 (Option.some Jvm.ClassFile.FieldType.long) fr lo h0 r.2 (QM G (some (.long r.1)) h0 r.2) 127 [(1, .int v67), (3, .ref v68), (5, .long v69), (7, .int v70)] [] h71 := by
  intro n
  induction n with
  | zero =>
    intro v67 v68 v69 v70 h71 hF
    cases (show (none : Option (Int64 × Hp)) = some r from hF)
  | succ n hc127 =>
    intro v67 v68 v69 v70 h71 hF
    rw [C_few_L127] at hF
    refine v_iload dX0_few_127 3 rfl ?_
    refine v_iload_n dX0_few_129 rfl 0 rfl ?_
    refine v_icmp_ge (tgt := 148) dX0_few_130 (by decide) hF (fun hF => ?_) (fun hF => ?_)
    · exact v_sub [2] rfl (hx127 _ _ hF)
    · refine v_lload dX0_few_133 2 rfl ?_
      refine v_aload_n dX0_few_135 rfl 1 rfl ?_
      refine v_iload dX0_few_136 3 rfl ?_
      refine v_lald dX0_few_138 hF (fun v74 hF => ?_)
      refine v_ladd dX0_few_139 ?_
      refine v_lstore dX0_few_140 (Nat.le_of_ble_eq_true rfl) (L' := [(5, .long (v69 + v74)), (1, .int v67), (3, .ref v68), (7, .int v70)]) rfl ?_
      refine v_iinc dX0_few_142 3 rfl (v := v70 + (1 : Int32)) (by rfl) (Nat.le_of_ble_eq_true rfl) (L' := [(7, .int (v70 + (1 : Int32))), (5, .long (v69 + v74)), (1, .int v67), (3, .ref v68)]) rfl ?_
      refine v_goto (tgt := 127) dX0_few_145 (by decide) ?_
      exact v_sub [2, 3, 1, 0] rfl (hc127 _ _ _ _ _ hF)
def C_few_b (N : Nat) (a0 : Nat) (a1 : Int32) (a2 : Int32) (h : Hp) : Option (Int64 × Hp) :=
  (C_in a1.toInt64 (1 : Int64) (20 : Int64)).bind fun v21 =>
  if v21 = 0 then
    some ((-1 : Int64), h)
  else
    (C_in a2.toInt64 (0 : Int64) (99 : Int64)).bind fun v22 =>
    if v22 = 0 then
      some ((-1 : Int64), h)
    else
      bd2 (na h 3 (21 : Int32) (.inr (.inl (fun _ => 0)))) fun a23 h24 =>
      (sL h24 a23 3 (0 : Int32) (1000000000000 : Int64)).bind fun h25 =>
      (gr h25 a0 [0] 0).bind fun v26 =>
      (gr h25 v26 [1] 5).bind fun v27 =>
      (aI h25 v27 0 (1 : Int32)).bind fun v28 =>
      C_few_L53 N (fun v64 v65 h66 =>
        C_few_L127 N (fun v76 h77 =>
          some (v76, h77)) N v64 v65 (0 : Int64) (0 : Int32) h66) N a1 a2 a23 v28 (0 : Int32) h25
theorem w_C_few_b {l : Launch} {G : GT} {fr lo : Nat} {h0 : Hp} {N : Nat} {r : (Int64 × Hp)} (hfr : 1 ≤ fr) (hlo : 25 ≤ lo) {a0 : Nat} {a1 : Int32} {a2 : Int32} {h : Hp} (hF : C_few_b N a0 a1 a2 h = some r) : V l G cX0_few RX0 "few" 8 (Option.some Jvm.ClassFile.FieldType.long) fr lo h0 r.2 (QM G (some (.long r.1)) h0 r.2) 0 [(0, .ref a0), (1, .int a1), (2, .int a2)] [] h := by
  unfold C_few_b at hF
  refine v_iload_n dX0_few_0 rfl 1 rfl ?_
  refine v_i2l dX0_few_1 ?_
  refine v_lconst dX0_few_2 (v := 1) (by decide) ?_
  refine v_ldc2 dX0_few_3 q1477 ?_
  obtain ⟨v21, e_v21, hF⟩ := Option.bind_eq_some_iff.mp hF
  refine v_calS1 dX0_few_6 sl_X0_128 q468 (ct_C_in e_v21) rfl rfl (Nat.le_trans (Nat.le_of_ble_eq_true rfl) hfr) (Nat.le_trans (Nat.le_of_ble_eq_true rfl) hlo) (Nat.le_of_ble_eq_true rfl) ?_
  refine v_if_eq (tgt := 24) dX0_few_9 (by decide) hF (fun hF => ?_) (fun hF => ?_)
  · refine v_ldc2 dX0_few_24 q529 ?_
    cases hF
    exact v_lret dX0_few_27 rfl rfl rfl
  · refine v_iload_n dX0_few_12 rfl 2 rfl ?_
    refine v_i2l dX0_few_13 ?_
    refine v_lconst dX0_few_14 (v := 0) (by decide) ?_
    refine v_ldc2 dX0_few_15 q1452 ?_
    obtain ⟨v22, e_v22, hF⟩ := Option.bind_eq_some_iff.mp hF
    refine v_calS1 dX0_few_18 sl_X0_128 q468 (ct_C_in e_v22) rfl rfl (Nat.le_trans (Nat.le_of_ble_eq_true rfl) hfr) (Nat.le_trans (Nat.le_of_ble_eq_true rfl) hlo) (Nat.le_of_ble_eq_true rfl) ?_
    refine v_if_ne (tgt := 28) dX0_few_21 (by decide) hF (fun hF => ?_) (fun hF => ?_)
    · refine v_bipush dX0_few_28 (v := 21) (by decide) ?_
      refine v_newarr dX0_few_30 rfl rfl q340 (fun _ _ h => h) (by decide) (fun _ _ => rfl) hF (fun a23 h24 hF => ?_)
      refine v_astore_n dX0_few_32 rfl (Nat.le_of_ble_eq_true rfl) (L' := [(3, .ref a23), (0, .ref a0), (1, .int a1), (2, .int a2)]) rfl ?_
      refine v_aload_n dX0_few_33 rfl 0 rfl ?_
      refine v_iconst dX0_few_34 (v := 0) (by decide) ?_
      refine v_ldc2 dX0_few_35 q1478 ?_
      refine v_last dX0_few_38 hF (fun h25 hF => ?_)
      refine v_aload_n dX0_few_39 rfl 1 rfl ?_
      refine v_getr dX0_few_40 fl_X0_10 hF (fun v26 hF => ?_)
      refine v_getr dX0_few_43 fl_X0_207 hF (fun v27 hF => ?_)
      refine v_iconst dX0_few_46 (v := 1) (by decide) ?_
      refine v_iald dX0_few_47 hF (fun v28 hF => ?_)
      refine v_istore dX0_few_48 (Nat.le_of_ble_eq_true rfl) (L' := [(4, .int v28), (3, .ref a23), (0, .ref a0), (1, .int a1), (2, .int a2)]) rfl ?_
      refine v_iconst dX0_few_50 (v := 0) (by decide) ?_
      refine v_istore dX0_few_51 (Nat.le_of_ble_eq_true rfl) (L' := [(5, .int (0 : Int32)), (4, .int v28), (3, .ref a23), (0, .ref a0), (1, .int a1), (2, .int a2)]) rfl ?_
      refine v_sub [4, 5, 2, 1, 0] rfl (w_C_few_L53 hfr hlo ?_ N _ _ _ _ _ _ hF)
      intro v64 v65 h66 hF
      refine v_lconst dX0_few_121 (v := 0) (by decide) ?_
      refine v_lstore dX0_few_122 (Nat.le_of_ble_eq_true rfl) (L' := [(5, .long (0 : Int64)), (1, .int v64), (3, .ref v65)]) rfl ?_
      refine v_iconst dX0_few_124 (v := 0) (by decide) ?_
      refine v_istore dX0_few_125 (Nat.le_of_ble_eq_true rfl) (L' := [(7, .int (0 : Int32)), (5, .long (0 : Int64)), (1, .int v64), (3, .ref v65)]) rfl ?_
      refine v_sub [2, 3, 1, 0] rfl (w_C_few_L127 hfr hlo ?_ N _ _ _ _ _ hF)
      intro v76 h77 hF
      refine v_lload dX0_few_148 0 rfl ?_
      cases hF
      exact v_lret dX0_few_150 rfl rfl rfl
    · refine v_ldc2 dX0_few_24 q529 ?_
      cases hF
      exact v_lret dX0_few_27 rfl rfl rfl
def C_few (N : Nat) (a0 : Nat) (a1 : Int32) (a2 : Int32) (h : Hp) : Option (Int64 × Hp) := (ob h a0 [0]).bind fun _ => C_few_b N a0 a1 a2 h
theorem rc_C_few {N : Nat}  {r : (Int64 × Hp)} {a0 : Nat} {a1 : Int32} {a2 : Int32} {h : Hp} (hF : C_few N a0 a1 a2 h = some r) : RC h a0 [0] := by
  obtain ⟨o, ho, -⟩ := Option.bind_eq_some_iff.mp hF
  exact ⟨o, ho⟩
theorem ct_C_few {l : Launch} {G : GT} {N : Nat} {r : (Int64 × Hp)} {a0 : Nat} {a1 : Int32} {a2 : Int32} {h : Hp} (hF : C_few N a0 a1 a2 h = some r) : Ct l G yX0_few (ws_ yX0_few cX0_few 8 (Option.some Jvm.ClassFile.FieldType.long)) 1 25 [.ref a0, .int a1, .int a2] h (some (.long r.1)) r.2 :=
  ct_of (by decide) (Nat.le_of_ble_eq_true rfl) (w_C_few_b (Nat.le_refl _) (Nat.le_refl _) (Option.bind_eq_some_iff.mp hF).choose_spec.2)
theorem pl_X20_64 : PL RX20 64 [4] 1 (.boolean) false := by
  intro ci h
  simp only [List.mem_cons, List.not_mem_nil, or_false] at h
  subst h; exact ⟨RX4, _, TX4, 2, tyX4, rfl, in_X4, by decide, Or.inr ⟨rfl, _, q334⟩, Or.inl rfl, tyX4_ok, rfl, by decide +kernel, rfl, fun z => by cases z⟩
theorem vl_X20_71_9 : ∀ ci ∈ [9], VL RX20 71 ci yX11_of 1 := by
  intro ci h
  simp only [List.mem_cons, List.not_mem_nil, or_false] at h
  subst h; exact ⟨RX11, TX11, 1, rfl, q164, ⟨by decide, by decide⟩, by decide +kernel, q572, Or.inr (Or.inr (Or.inl ⟨⟨"LeekReadings$Sum", "of", "(LLeekReadings$Asked;)J"⟩, "LeekReadings$Sum", q1551, q570, q571, ⟨by decide, by decide⟩, by decide +kernel, Or.inr (Or.inr q569)⟩))⟩
theorem vl_X20_71_10 : ∀ ci ∈ [10], VL RX20 71 ci yX12_of 1 := by
  intro ci h
  simp only [List.mem_cons, List.not_mem_nil, or_false] at h
  subst h; exact ⟨RX12, TX12, 1, rfl, q165, ⟨by decide, by decide⟩, by decide +kernel, q592, Or.inr (Or.inr (Or.inl ⟨⟨"LeekReadings$Sum", "of", "(LLeekReadings$Asked;)J"⟩, "LeekReadings$Sum", q1551, q570, q601, ⟨by decide, by decide⟩, by decide +kernel, Or.inr (Or.inr q569)⟩))⟩
theorem vl_X20_71_11 : ∀ ci ∈ [11], VL RX20 71 ci yX13_of 1 := by
  intro ci h
  simp only [List.mem_cons, List.not_mem_nil, or_false] at h
  subst h; exact ⟨RX13, TX13, 3, rfl, q166, ⟨by decide, by decide⟩, by decide +kernel, q578, Or.inr (Or.inr (Or.inl ⟨⟨"LeekReadings$Sum", "of", "(LLeekReadings$Asked;)J"⟩, "LeekReadings$Sum", q1551, q570, q600, ⟨by decide, by decide⟩, by decide +kernel, Or.inr (Or.inr q569)⟩))⟩
theorem vl_X20_71_12 : ∀ ci ∈ [12], VL RX20 71 ci yX14_of 1 := by
  intro ci h
  simp only [List.mem_cons, List.not_mem_nil, or_false] at h
  subst h; exact ⟨RX14, TX14, 3, rfl, q167, ⟨by decide, by decide⟩, by decide +kernel, q575, Or.inr (Or.inr (Or.inl ⟨⟨"LeekReadings$Sum", "of", "(LLeekReadings$Asked;)J"⟩, "LeekReadings$Sum", q1551, q570, q574, ⟨by decide, by decide⟩, by decide +kernel, Or.inr (Or.inr q569)⟩))⟩
theorem pl_X20_68 : PL RX20 68 [17] 4 (.boolean) false := by
  intro ci h
  simp only [List.mem_cons, List.not_mem_nil, or_false] at h
  subst h; exact ⟨RX20, _, TX20, 6, tyX20, rfl, in_X20, by decide, Or.inl q1180, Or.inl rfl, tyX20_ok, rfl, by decide +kernel, rfl, fun z => by cases z⟩
theorem fl_X20_68 : FL RX20 68 [17] 4 := by
  intro ci h
  simp only [List.mem_cons, List.not_mem_nil, or_false] at h
  subst h; exact ⟨RX20, _, TX20, 6, rfl, in_X20, by decide, Or.inl q1180, Or.inl rfl⟩
theorem fl_X20_64 : FL RX20 64 [4] 1 := by
  intro ci h
  simp only [List.mem_cons, List.not_mem_nil, or_false] at h
  subst h; exact ⟨RX4, _, TX4, 2, rfl, in_X4, by decide, Or.inr ⟨_, q334⟩, Or.inl rfl⟩
theorem fl_X20_26 : FL RX20 26 [0] 7 := by
  intro ci h
  simp only [List.mem_cons, List.not_mem_nil, or_false] at h
  subst h; exact ⟨RX0, _, TX0, 31, rfl, in_X0, by decide, Or.inr ⟨_, q360⟩, Or.inl rfl⟩
theorem fl_X20_3 : FL RX20 3 [17] 5 := by
  intro ci h
  simp only [List.mem_cons, List.not_mem_nil, or_false] at h
  subst h; exact ⟨RX20, _, TX20, 6, rfl, in_X20, by decide, Or.inl q1181, Or.inl rfl⟩
def X20_reckoned_b (a0 : Nat) (a1 : Option Nat) (h : Hp) : Option (Int32 × Hp) :=
  (gi h a0 [17] 4).bind fun v21 =>
  if v21 = 0 then
    a1.elim
      (some ((-1 : Int32), h))
      (fun a22 =>
        (gr h a0 [17] 5).bind fun v23 =>
        (gr h v23 [0] 7).bind fun v24 =>
        (pz h v24 [4] 1 (0 : Int32)).bind fun h25 =>
        (gr h25 a0 [17] 5).bind fun v26 =>
        (gr h25 v26 [0] 7).bind fun v27 =>
        bd2 (D_sum 128 a22 v27 h25) fun v28 h29 =>
        (gr h29 a0 [17] 5).bind fun v30 =>
        (gr h29 v30 [0] 7).bind fun v31 =>
        (gi h29 v31 [4] 1).bind fun v32 =>
        (pz h29 a0 [17] 4 v32).bind fun h33 =>
        (gi h33 a0 [17] 4).bind fun v34 =>
        if v34 = 0 then
          some (v28.toInt32, h33)
        else
          some ((-1 : Int32), h33))
  else
    some ((-1 : Int32), h)
theorem w_X20_reckoned_b {l : Launch} {G : GT} {fr lo : Nat} {h0 : Hp} {r : (Int32 × Hp)} (hfr : 131 ≤ fr) (hlo : 3271 ≤ lo) {a0 : Nat} {a1 : Option Nat} {h : Hp} (hF : X20_reckoned_b a0 a1 h = some r) : V l G cX20_reckoned RX20 "reckoned" 4 (Option.some Jvm.ClassFile.FieldType.int) fr lo h0 r.2 (QM G (some (.int r.1)) h0 r.2) 0 [(0, .ref a0), (1, va_rf a1)] [] h := by
  unfold X20_reckoned_b at hF
  refine v_aload_n dX20_reckoned_0 rfl 0 rfl ?_
  refine v_geti dX20_reckoned_1 fl_X20_68 hF (fun v21 hF => ?_)
  refine v_if_ne (tgt := 11) dX20_reckoned_4 (by decide) hF (fun hF => ?_) (fun hF => ?_)
  · refine v_iconst dX20_reckoned_11 (v := -1) (by decide) ?_
    cases hF
    exact v_iret dX20_reckoned_12 rfl rfl rfl rfl
  · refine v_aloadq_n dX20_reckoned_7 rfl 1 rfl ?_
    refine v_ifnonnull (tgt := 13) dX20_reckoned_8 (by decide) hF (fun hq hG => ?_) (fun a22 hq hG => ?_)
    · subst hq
      have hF := hG
      refine v_iconst dX20_reckoned_11 (v := -1) (by decide) ?_
      cases hF
      exact v_iret dX20_reckoned_12 rfl rfl rfl rfl
    · subst hq
      have hF := hG
      refine v_aload_n dX20_reckoned_13 rfl 0 rfl ?_
      refine v_getr dX20_reckoned_14 fl_X20_3 hF (fun v23 hF => ?_)
      refine v_getr dX20_reckoned_17 fl_X20_26 hF (fun v24 hF => ?_)
      refine v_iconst dX20_reckoned_20 (v := 0) (by decide) ?_
      refine v_putz dX20_reckoned_21 pl_X20_64 (fun z => by cases z) hF (fun h25 hF => ?_)
      refine v_aload_n dX20_reckoned_24 rfl 1 rfl ?_
      refine v_aload_n dX20_reckoned_25 rfl 0 rfl ?_
      refine v_getr dX20_reckoned_26 fl_X20_3 hF (fun v26 hF => ?_)
      refine v_getr dX20_reckoned_29 fl_X20_26 hF (fun v27 hF => ?_)
      refine v_disp (pc' := 35) (f := fun z => .long z) (st := []) hF (fun v28 h29 hF => ?_) (fun v9 h9 e K => ?_)
      · refine v_lstore_n dX20_reckoned_35 rfl (Nat.le_of_ble_eq_true rfl) (L' := [(2, .long v28), (0, .ref a0), (1, .ref a22)]) rfl ?_
        refine v_aload_n dX20_reckoned_36 rfl 1 rfl ?_
        refine v_aload_n dX20_reckoned_37 rfl 1 rfl ?_
        refine v_getr dX20_reckoned_38 fl_X20_3 hF (fun v30 hF => ?_)
        refine v_getr dX20_reckoned_41 fl_X20_26 hF (fun v31 hF => ?_)
        refine v_geti dX20_reckoned_44 fl_X20_64 hF (fun v32 hF => ?_)
        refine v_putz dX20_reckoned_47 pl_X20_68 (fun z => by cases z) hF (fun h33 hF => ?_)
        refine v_aload_n dX20_reckoned_50 rfl 1 rfl ?_
        refine v_geti dX20_reckoned_51 fl_X20_68 hF (fun v34 hF => ?_)
        refine v_if_eq (tgt := 61) dX20_reckoned_54 (by decide) hF (fun hF => ?_) (fun hF => ?_)
        · refine v_lload_n dX20_reckoned_61 rfl 0 rfl ?_
          refine v_l2i dX20_reckoned_62 ?_
          cases hF
          exact v_iret dX20_reckoned_63 rfl rfl rfl rfl
        · refine v_iconst dX20_reckoned_57 (v := -1) (by decide) ?_
          refine v_goto (tgt := 63) dX20_reckoned_58 (by decide) ?_
          cases hF
          exact v_iret dX20_reckoned_63 rfl rfl rfl rfl
      · rcases dd_sum 128 _ _ _ _ e with ⟨rc, frc, loc, hf1, hf2, ct⟩ | ⟨rc, frc, loc, hf1, hf2, ct⟩ | ⟨rc, frc, loc, hf1, hf2, ct⟩ | ⟨rc, frc, loc, hf1, hf2, ct⟩
        · exact v_calV1 dX20_reckoned_32 vl_X20_71_9 q573 rc ct rfl rfl (by omega) (by omega) (Nat.le_of_ble_eq_true rfl) K
        · exact v_calV1 dX20_reckoned_32 vl_X20_71_10 q593 rc ct rfl rfl (by omega) (by omega) (Nat.le_of_ble_eq_true rfl) K
        · exact v_calV1 dX20_reckoned_32 vl_X20_71_11 q579 rc ct rfl rfl (by omega) (by omega) (Nat.le_of_ble_eq_true rfl) K
        · exact v_calV1 dX20_reckoned_32 vl_X20_71_12 q576 rc ct rfl rfl (by omega) (by omega) (Nat.le_of_ble_eq_true rfl) K
def X20_reckoned (a0 : Nat) (a1 : Option Nat) (h : Hp) : Option (Int32 × Hp) := (ob h a0 [17]).bind fun _ => X20_reckoned_b a0 a1 h
theorem rc_X20_reckoned  {r : (Int32 × Hp)} {a0 : Nat} {a1 : Option Nat} {h : Hp} (hF : X20_reckoned a0 a1 h = some r) : RC h a0 [17] := by
  obtain ⟨o, ho, -⟩ := Option.bind_eq_some_iff.mp hF
  exact ⟨o, ho⟩
theorem ct_X20_reckoned {l : Launch} {G : GT} {r : (Int32 × Hp)} {a0 : Nat} {a1 : Option Nat} {h : Hp} (hF : X20_reckoned a0 a1 h = some r) : Ct l G yX20_reckoned (ws_ yX20_reckoned cX20_reckoned 4 (Option.some Jvm.ClassFile.FieldType.int)) 131 3271 [.ref a0, va_rf a1] h (some (.int r.1)) r.2 := by
  cases a1 <;> exact ct_of (by decide) (Nat.le_of_ble_eq_true rfl) (w_X20_reckoned_b (Nat.le_refl _) (Nat.le_refl _) (Option.bind_eq_some_iff.mp hF).choose_spec.2)
theorem vl_X20_77 : ∀ ci ∈ [17], VL RX20 77 ci yX20_reckoned 1 := by
  intro ci h
  simp only [List.mem_cons, List.not_mem_nil, or_false] at h
  subst h; exact ⟨RX20, TX20, 6, rfl, q173, ⟨by decide, by decide⟩, by decide +kernel, q1549, Or.inl ⟨q1547, qs49⟩⟩
theorem vl_X20_90 : ∀ ci ∈ [0], VL RX20 90 ci yX0_readNow 1 := by
  intro ci h
  simp only [List.mem_cons, List.not_mem_nil, or_false] at h
  subst h; exact ⟨RX0, TX0, 31, rfl, q137, ⟨by decide, by decide⟩, by decide +kernel, q1300, Or.inr (Or.inl ⟨_, q1555, qs25⟩)⟩
theorem pl_X20_48 : PL RX20 48 [0] 27 (.int) false := by
  intro ci h
  simp only [List.mem_cons, List.not_mem_nil, or_false] at h
  subst h; exact ⟨RX0, _, TX0, 31, tyX0, rfl, in_X0, by decide, Or.inr ⟨rfl, _, q385⟩, Or.inl rfl, tyX0_ok, rfl, by decide +kernel, rfl, fun z => by cases z⟩
theorem fl_X20_48 : FL RX20 48 [0] 27 := by
  intro ci h
  simp only [List.mem_cons, List.not_mem_nil, or_false] at h
  subst h; exact ⟨RX0, _, TX0, 31, rfl, in_X0, by decide, Or.inr ⟨_, q385⟩, Or.inl rfl⟩
theorem vl_X20_87 : ∀ ci ∈ [0], VL RX20 87 ci yX0_passNow 0 := by
  intro ci h
  simp only [List.mem_cons, List.not_mem_nil, or_false] at h
  subst h; exact ⟨RX0, TX0, 31, rfl, q137, ⟨by decide, by decide⟩, by decide +kernel, q1350, Or.inr (Or.inl ⟨_, q1554, qs32⟩)⟩
theorem fl_X20_19 : FL RX20 19 [17] 0 := by
  intro ci h
  simp only [List.mem_cons, List.not_mem_nil, or_false] at h
  subst h; exact ⟨RX20, _, TX20, 6, rfl, in_X20, by decide, Or.inl q1173, Or.inl rfl⟩
theorem vl_X20_84 : ∀ ci ∈ [0], VL RX20 84 ci yX0_cutNow 1 := by
  intro ci h
  simp only [List.mem_cons, List.not_mem_nil, or_false] at h
  subst h; exact ⟨RX0, TX0, 31, rfl, q137, ⟨by decide, by decide⟩, by decide +kernel, q1342, Or.inr (Or.inl ⟨_, q1553, qs31⟩)⟩
theorem vl_X20_81 : ∀ ci ∈ [0], VL RX20 81 ci yX0_loseNow 1 := by
  intro ci h
  simp only [List.mem_cons, List.not_mem_nil, or_false] at h
  subst h; exact ⟨RX0, TX0, 31, rfl, q137, ⟨by decide, by decide⟩, by decide +kernel, q1330, Or.inr (Or.inl ⟨_, q1552, qs29⟩)⟩
theorem fl_X20_22 : FL RX20 22 [17] 1 := by
  intro ci h
  simp only [List.mem_cons, List.not_mem_nil, or_false] at h
  subst h; exact ⟨RX20, _, TX20, 6, rfl, in_X20, by decide, Or.inl q1174, Or.inl rfl⟩
def X20_does_b (N : Nat) (a0 : Nat) (h : Hp) : Option (Int32 × Hp) :=
  (gq h a0 [17] 1).bind fun v21 =>
  bd2 (X20_reckoned a0 v21 h) fun v23 h22 =>
  (gi h22 a0 [17] 4).bind fun v24 =>
  if v24 = 0 then
    (gi h22 a0 [17] 0).bind fun v25 =>
    if v25 = (1 : Int32) then
      (gr h22 a0 [17] 5).bind fun v42 =>
      bd2 (C_loseNow N v42 v23 h22) fun v44 h43 =>
      some (v44, h43)
    else
      (gi h22 a0 [17] 0).bind fun v26 =>
      if v26 = (2 : Int32) then
        (gr h22 a0 [17] 5).bind fun v39 =>
        bd2 (C_cutNow v39 v23 h22) fun v41 h40 =>
        some (v41, h40)
      else
        (gi h22 a0 [17] 0).bind fun v27 =>
        if v27 = (3 : Int32) then
          (gr h22 a0 [17] 5).bind fun v36 =>
          bd2 (C_passNow N v36 h22) fun v38 h37 =>
          some (v38, h37)
        else
          (gr h22 a0 [17] 5).bind fun v28 =>
          bd2 (C_readNow N v28 v23 h22) fun v30 h29 =>
          (gr h29 a0 [17] 5).bind fun v31 =>
          if 0 ≤ v30 then
            (po h29 v31 [0] 27 (.int v30)).bind fun h32 =>
            some (v30, h32)
          else
            (gr h29 a0 [17] 5).bind fun v33 =>
            (gi h29 v33 [0] 27).bind fun v34 =>
            (po h29 v31 [0] 27 (.int v34)).bind fun h35 =>
            some (v30, h35)
  else
    some ((-3 : Int32), h22)
theorem w_X20_does_b {l : Launch} {G : GT} {fr lo : Nat} {h0 : Hp} {N : Nat} {r : (Int32 × Hp)} (hfr : 201 ≤ fr) (hlo : 5075 ≤ lo) {a0 : Nat} {h : Hp} (hF : X20_does_b N a0 h = some r) : V l G cX20_does RX20 "does" 3 (Option.some Jvm.ClassFile.FieldType.int) fr lo h0 r.2 (QM G (some (.int r.1)) h0 r.2) 0 [(0, .ref a0)] [] h := by
  unfold X20_does_b at hF
  refine v_aload_n dX20_does_0 rfl 0 rfl ?_
  refine v_aload_n dX20_does_1 rfl 0 rfl ?_
  refine v_getq dX20_does_2 fl_X20_22 hF (fun v21 hF => ?_)
  obtain ⟨v23, h22, e_v23, hF⟩ := bd2_spec hF
  refine v_calV1 dX20_does_5 vl_X20_77 q1550 (rc_X20_reckoned e_v23) (ct_X20_reckoned e_v23) rfl rfl (Nat.le_trans (Nat.le_of_ble_eq_true rfl) hfr) (Nat.le_trans (Nat.le_of_ble_eq_true rfl) hlo) (Nat.le_of_ble_eq_true rfl) ?_
  refine v_istore_n dX20_does_8 rfl (Nat.le_of_ble_eq_true rfl) (L' := [(1, .int v23), (0, .ref a0)]) rfl ?_
  refine v_aload_n dX20_does_9 rfl 1 rfl ?_
  refine v_geti dX20_does_10 fl_X20_68 hF (fun v24 hF => ?_)
  refine v_if_eq (tgt := 19) dX20_does_13 (by decide) hF (fun hF => ?_) (fun hF => ?_)
  · refine v_aload_n dX20_does_19 rfl 1 rfl ?_
    refine v_geti dX20_does_20 fl_X20_19 hF (fun v25 hF => ?_)
    refine v_iconst dX20_does_23 (v := 1) (by decide) ?_
    refine v_icmp_ne (tgt := 36) dX20_does_24 (by decide) hF (fun hF => ?_) (fun hF => ?_)
    · refine v_aload_n dX20_does_36 rfl 1 rfl ?_
      refine v_geti dX20_does_37 fl_X20_19 hF (fun v26 hF => ?_)
      refine v_iconst dX20_does_40 (v := 2) (by decide) ?_
      refine v_icmp_ne (tgt := 53) dX20_does_41 (by decide) hF (fun hF => ?_) (fun hF => ?_)
      · refine v_aload_n dX20_does_53 rfl 1 rfl ?_
        refine v_geti dX20_does_54 fl_X20_19 hF (fun v27 hF => ?_)
        refine v_iconst dX20_does_57 (v := 3) (by decide) ?_
        refine v_icmp_ne (tgt := 69) dX20_does_58 (by decide) hF (fun hF => ?_) (fun hF => ?_)
        · refine v_aload_n dX20_does_69 rfl 1 rfl ?_
          refine v_getr dX20_does_70 fl_X20_3 hF (fun v28 hF => ?_)
          refine v_iload_n dX20_does_73 rfl 0 rfl ?_
          obtain ⟨v30, h29, e_v30, hF⟩ := bd2_spec hF
          refine v_calV1 dX20_does_74 vl_X20_90 q1301 (rc_C_readNow e_v30) (ct_C_readNow e_v30) rfl rfl (Nat.le_trans (Nat.le_of_ble_eq_true rfl) hfr) (Nat.le_trans (Nat.le_of_ble_eq_true rfl) hlo) (Nat.le_of_ble_eq_true rfl) ?_
          refine v_istore_n dX20_does_77 rfl (Nat.le_of_ble_eq_true rfl) (L' := [(2, .int v30), (1, .int v23), (0, .ref a0)]) rfl ?_
          refine v_aload_n dX20_does_78 rfl 2 rfl ?_
          refine v_getr dX20_does_79 fl_X20_3 hF (fun v31 hF => ?_)
          refine v_iload_n dX20_does_82 rfl 0 rfl ?_
          refine v_if_ge (tgt := 96) dX20_does_83 (by decide) hF (fun hF => ?_) (fun hF => ?_)
          · refine v_iload_n dX20_does_96 rfl 0 rfl ?_
            refine v_put dX20_does_97 pl_X20_48 (fun z => by cases z) rfl rfl hF (fun h32 hF => ?_)
            refine v_iload_n dX20_does_100 rfl 0 rfl ?_
            cases hF
            exact v_iret dX20_does_101 rfl rfl rfl rfl
          · refine v_aload_n dX20_does_86 rfl 2 rfl ?_
            refine v_getr dX20_does_87 fl_X20_3 hF (fun v33 hF => ?_)
            refine v_geti dX20_does_90 fl_X20_48 hF (fun v34 hF => ?_)
            refine v_goto (tgt := 97) dX20_does_93 (by decide) ?_
            refine v_put dX20_does_97 pl_X20_48 (fun z => by cases z) rfl rfl hF (fun h35 hF => ?_)
            refine v_iload_n dX20_does_100 rfl 0 rfl ?_
            cases hF
            exact v_iret dX20_does_101 rfl rfl rfl rfl
        · refine v_aload_n dX20_does_61 rfl 1 rfl ?_
          refine v_getr dX20_does_62 fl_X20_3 hF (fun v36 hF => ?_)
          obtain ⟨v38, h37, e_v38, hF⟩ := bd2_spec hF
          refine v_calV1 dX20_does_65 vl_X20_87 q1351 (rc_C_passNow e_v38) (ct_C_passNow e_v38) rfl rfl (Nat.le_trans (Nat.le_of_ble_eq_true rfl) hfr) (Nat.le_trans (Nat.le_of_ble_eq_true rfl) hlo) (Nat.le_of_ble_eq_true rfl) ?_
          cases hF
          exact v_iret dX20_does_68 rfl rfl rfl rfl
      · refine v_aload_n dX20_does_44 rfl 1 rfl ?_
        refine v_getr dX20_does_45 fl_X20_3 hF (fun v39 hF => ?_)
        refine v_iload_n dX20_does_48 rfl 0 rfl ?_
        obtain ⟨v41, h40, e_v41, hF⟩ := bd2_spec hF
        refine v_calV1 dX20_does_49 vl_X20_84 q1343 (rc_C_cutNow e_v41) (ct_C_cutNow e_v41) rfl rfl (Nat.le_trans (Nat.le_of_ble_eq_true rfl) hfr) (Nat.le_trans (Nat.le_of_ble_eq_true rfl) hlo) (Nat.le_of_ble_eq_true rfl) ?_
        cases hF
        exact v_iret dX20_does_52 rfl rfl rfl rfl
    · refine v_aload_n dX20_does_27 rfl 1 rfl ?_
      refine v_getr dX20_does_28 fl_X20_3 hF (fun v42 hF => ?_)
      refine v_iload_n dX20_does_31 rfl 0 rfl ?_
      obtain ⟨v44, h43, e_v44, hF⟩ := bd2_spec hF
      refine v_calV1 dX20_does_32 vl_X20_81 q1331 (rc_C_loseNow e_v44) (ct_C_loseNow e_v44) rfl rfl (Nat.le_trans (Nat.le_of_ble_eq_true rfl) hfr) (Nat.le_trans (Nat.le_of_ble_eq_true rfl) hlo) (Nat.le_of_ble_eq_true rfl) ?_
      cases hF
      exact v_iret dX20_does_35 rfl rfl rfl rfl
  · refine v_bipush dX20_does_16 (v := -3) (by decide) ?_
    cases hF
    exact v_iret dX20_does_18 rfl rfl rfl rfl
def X20_does (N : Nat) (a0 : Nat) (h : Hp) : Option (Int32 × Hp) := (ob h a0 [17]).bind fun _ => X20_does_b N a0 h
theorem rc_X20_does {N : Nat}  {r : (Int32 × Hp)} {a0 : Nat} {h : Hp} (hF : X20_does N a0 h = some r) : RC h a0 [17] := by
  obtain ⟨o, ho, -⟩ := Option.bind_eq_some_iff.mp hF
  exact ⟨o, ho⟩
theorem ct_X20_does {l : Launch} {G : GT} {N : Nat} {r : (Int32 × Hp)} {a0 : Nat} {h : Hp} (hF : X20_does N a0 h = some r) : Ct l G yX20_does (ws_ yX20_does cX20_does 3 (Option.some Jvm.ClassFile.FieldType.int)) 201 5075 [.ref a0] h (some (.int r.1)) r.2 :=
  ct_of (by decide) (Nat.le_of_ble_eq_true rfl) (w_X20_does_b (Nat.le_refl _) (Nat.le_refl _) (Option.bind_eq_some_iff.mp hF).choose_spec.2)
def X2_all_L13 (N : Nat) (h : Hp) (x13 : Int32 → Option Int32) : Nat → Int32 → Nat → Int32 → Int32 → Option Int32
  | 0, _, _, _, _ => none
  | n29 + 1, v23, v24, v25, v26 =>
    if v25 ≤ v26 then
      x13 v23
    else
      (aI h v24 0 v26).bind fun v28 =>
      (X2_all_L13 N h x13 n29) (v23 + v28) v24 v25 (v26 + (1 : Int32))
theorem w_X2_all_L13 {l : Launch} {G : GT} {fr lo : Nat} {h0 : Hp} {N : Nat} {h : Hp} {r : Int32} (hfr : 0 ≤ fr) (hlo : 0 ≤ lo) {x13 : Int32 → Option Int32} (hx13 : ∀ (v27 : Int32), x13 v27 = some r → V l G cX2_all RX2 "all" 6 (Option.some Jvm.ClassFile.FieldType.int) fr lo h0 h (QM G (some (.int r)) h0 h) 36 [(1, .int v27)] [] h) : ∀ (n : Nat) (v23 : Int32) (v24 : Nat) (v25 : Int32) (v26 : Int32), X2_all_L13 N h x13 n v23 v24 v25 v26 = some r → V l G cX2_all RX2 "all" 6 (Option.some Jvm.ClassFile.FieldType.int) fr lo h0 h (QM G (some (.int r)) h0 h) 13 [(1, .int v23), (2, .ref v24), (3, .int v25), (4, .int v26)] [] h := by
  intro n
  induction n with
  | zero =>
    intro v23 v24 v25 v26 hF
    cases (show (none : Option Int32) = some r from hF)
  | succ n hc13 =>
    intro v23 v24 v25 v26 hF
    rw [X2_all_L13] at hF
    refine v_iload dX2_all_13 3 rfl ?_
    refine v_iload_n dX2_all_15 rfl 2 rfl ?_
    refine v_icmp_ge (tgt := 36) dX2_all_16 (by decide) hF (fun hF => ?_) (fun hF => ?_)
    · exact v_sub [0] rfl (hx13 _ hF)
    · refine v_aload_n dX2_all_19 rfl 1 rfl ?_
      refine v_iload dX2_all_20 3 rfl ?_
      refine v_iald dX2_all_22 hF (fun v28 hF => ?_)
      refine v_istore dX2_all_23 (Nat.le_of_ble_eq_true rfl) (L' := [(5, .int v28), (1, .int v23), (2, .ref v24), (3, .int v25), (4, .int v26)]) rfl ?_
      refine v_iload_n dX2_all_25 rfl 1 rfl ?_
      refine v_iload dX2_all_26 0 rfl ?_
      refine v_iadd dX2_all_28 ?_
      refine v_istore_n dX2_all_29 rfl (Nat.le_of_ble_eq_true rfl) (L' := [(1, .int (v23 + v28)), (5, .int v28), (2, .ref v24), (3, .int v25), (4, .int v26)]) rfl ?_
      refine v_iinc dX2_all_30 4 rfl (v := v26 + (1 : Int32)) (by rfl) (Nat.le_of_ble_eq_true rfl) (L' := [(4, .int (v26 + (1 : Int32))), (1, .int (v23 + v28)), (5, .int v28), (2, .ref v24), (3, .int v25)]) rfl ?_
      refine v_goto (tgt := 13) dX2_all_33 (by decide) ?_
      exact v_sub [1, 3, 4, 0] rfl (hc13 _ _ _ _ hF)
def X2_all_b (N : Nat) (h : Hp) (a0 : Nat) : Option Int32 :=
  (gr h a0 [2] 0).bind fun v21 =>
  (alen h v21 0).bind fun v22 =>
  X2_all_L13 N h (fun v30 =>
    some v30) N (0 : Int32) v21 v22 (0 : Int32)
theorem w_X2_all_b {l : Launch} {G : GT} {fr lo : Nat} {h0 : Hp} {N : Nat} {h : Hp} {r : Int32} (hfr : 0 ≤ fr) (hlo : 0 ≤ lo) {a0 : Nat} (hF : X2_all_b N h a0 = some r) : V l G cX2_all RX2 "all" 6 (Option.some Jvm.ClassFile.FieldType.int) fr lo h0 h (QM G (some (.int r)) h0 h) 0 [(0, .ref a0)] [] h := by
  unfold X2_all_b at hF
  refine v_iconst dX2_all_0 (v := 0) (by decide) ?_
  refine v_istore_n dX2_all_1 rfl (Nat.le_of_ble_eq_true rfl) (L' := [(1, .int (0 : Int32)), (0, .ref a0)]) rfl ?_
  refine v_aload_n dX2_all_2 rfl 1 rfl ?_
  refine v_getr dX2_all_3 fl_X2_9 hF (fun v21 hF => ?_)
  refine v_astore_n dX2_all_6 rfl (Nat.le_of_ble_eq_true rfl) (L' := [(2, .ref v21), (1, .int (0 : Int32)), (0, .ref a0)]) rfl ?_
  refine v_aload_n dX2_all_7 rfl 0 rfl ?_
  refine v_alen (k := 0) rfl dX2_all_8 hF (fun v22 hF => ?_)
  refine v_istore_n dX2_all_9 rfl (Nat.le_of_ble_eq_true rfl) (L' := [(3, .int v22), (2, .ref v21), (1, .int (0 : Int32)), (0, .ref a0)]) rfl ?_
  refine v_iconst dX2_all_10 (v := 0) (by decide) ?_
  refine v_istore dX2_all_11 (Nat.le_of_ble_eq_true rfl) (L' := [(4, .int (0 : Int32)), (3, .int v22), (2, .ref v21), (1, .int (0 : Int32)), (0, .ref a0)]) rfl ?_
  refine v_sub [3, 2, 1, 0] rfl (w_X2_all_L13 hfr hlo ?_ N _ _ _ _ hF)
  intro v30 hF
  refine v_iload_n dX2_all_36 rfl 0 rfl ?_
  cases hF
  exact v_iret dX2_all_37 rfl rfl rfl rfl
def X2_all (N : Nat) (h : Hp) (a0 : Nat) : Option Int32 := (ob h a0 [2]).bind fun _ => X2_all_b N h a0
theorem rc_X2_all {N : Nat} {h : Hp}  {r : Int32} {a0 : Nat} (hF : X2_all N h a0 = some r) : RC h a0 [2] := by
  obtain ⟨o, ho, -⟩ := Option.bind_eq_some_iff.mp hF
  exact ⟨o, ho⟩
theorem ct_X2_all {l : Launch} {G : GT} {N : Nat} {h : Hp} {r : Int32} {a0 : Nat} (hF : X2_all N h a0 = some r) : Ct l G yX2_all (ws_ yX2_all cX2_all 6 (Option.some Jvm.ClassFile.FieldType.int)) 0 0 [.ref a0] h (some (.int r)) h :=
  ct_of (by decide) (Nat.le_of_ble_eq_true rfl) (w_X2_all_b (Nat.le_refl _) (Nat.le_refl _) (Option.bind_eq_some_iff.mp hF).choose_spec.2)
theorem vl_X20_36 : ∀ ci ∈ [0], VL RX20 36 ci yX0_books 0 := by
  intro ci h
  simp only [List.mem_cons, List.not_mem_nil, or_false] at h
  subst h; exact ⟨RX0, TX0, 31, rfl, q137, ⟨by decide, by decide⟩, by decide +kernel, q485, Or.inr (Or.inl ⟨_, q1536, qs3⟩)⟩
theorem sl_X20_54 : SL RX20 54 yJ4_bitCount 1 := ⟨q148, ⟨by decide, by decide⟩, by decide +kernel, q531, Or.inl q1537⟩
theorem vl_X20_60 : ∀ ci ∈ [2], VL RX20 60 ci yX2_all 0 := by
  intro ci h
  simp only [List.mem_cons, List.not_mem_nil, or_false] at h
  subst h; exact ⟨RX2, TX2, 4, rfl, q142, ⟨by decide, by decide⟩, by decide +kernel, q1539, Or.inl ⟨q1538, q1540⟩⟩
theorem fl_X20_30 : FL RX20 30 [4] 0 := by
  intro ci h
  simp only [List.mem_cons, List.not_mem_nil, or_false] at h
  subst h; exact ⟨RX4, _, TX4, 2, rfl, in_X4, by decide, Or.inr ⟨_, q326⟩, Or.inl rfl⟩
theorem fl_X20_51 : FL RX20 51 [2] 1 := by
  intro ci h
  simp only [List.mem_cons, List.not_mem_nil, or_false] at h
  subst h; exact ⟨RX2, _, TX2, 4, rfl, in_X2, by decide, Or.inr ⟨_, q230⟩, Or.inl rfl⟩
theorem fl_X20_45 : FL RX20 45 [0] 26 := by
  intro ci h
  simp only [List.mem_cons, List.not_mem_nil, or_false] at h
  subst h; exact ⟨RX0, _, TX0, 31, rfl, in_X0, by decide, Or.inr ⟨_, q383⟩, Or.inl rfl⟩
theorem fl_X20_40 : FL RX20 40 [2] 2 := by
  intro ci h
  simp only [List.mem_cons, List.not_mem_nil, or_false] at h
  subst h; exact ⟨RX2, _, TX2, 4, rfl, in_X2, by decide, Or.inr ⟨_, q232⟩, Or.inl rfl⟩
def X20_setNow_b (N : Nat) (a0 : Nat) (h : Hp) : Option Hp :=
  (gr h a0 [17] 5).bind fun v21 =>
  (gr h v21 [0] 7).bind fun v22 =>
  (gr h v22 [4] 0).bind fun v23 =>
  (gr h a0 [17] 5).bind fun v24 =>
  (C_books h v24).bind fun v25 =>
  (gi h v25 [2] 2).bind fun v26 =>
  (sL h v23 3 (0 : Int32) v26.toInt64).bind fun h27 =>
  (gr h27 a0 [17] 5).bind fun v28 =>
  (gr h27 v28 [0] 7).bind fun v29 =>
  (gr h27 v29 [4] 0).bind fun v30 =>
  (gr h27 a0 [17] 5).bind fun v31 =>
  (gi h27 v31 [0] 26).bind fun v32 =>
  (sL h27 v30 3 (1 : Int32) v32.toInt64).bind fun h33 =>
  (gr h33 a0 [17] 5).bind fun v34 =>
  (gr h33 v34 [0] 7).bind fun v35 =>
  (gr h33 v35 [4] 0).bind fun v36 =>
  (gr h33 a0 [17] 5).bind fun v37 =>
  (gi h33 v37 [0] 27).bind fun v38 =>
  (sL h33 v36 3 (2 : Int32) v38.toInt64).bind fun h39 =>
  (gr h39 a0 [17] 5).bind fun v40 =>
  (gr h39 v40 [0] 7).bind fun v41 =>
  (gr h39 v41 [4] 0).bind fun v42 =>
  (gr h39 a0 [17] 5).bind fun v43 =>
  (C_books h39 v43).bind fun v44 =>
  (gi h39 v44 [2] 1).bind fun v45 =>
  (J4_bitCount v45).bind fun v46 =>
  (sL h39 v42 3 (3 : Int32) v46.toInt64).bind fun h47 =>
  (gr h47 a0 [17] 5).bind fun v48 =>
  (gr h47 v48 [0] 7).bind fun v49 =>
  (gr h47 v49 [4] 0).bind fun v50 =>
  (gr h47 a0 [17] 5).bind fun v51 =>
  (C_books h47 v51).bind fun v52 =>
  (X2_all N h47 v52).bind fun v53 =>
  (sL h47 v50 3 (4 : Int32) v53.toInt64).bind fun h54 =>
  (gr h54 a0 [17] 5).bind fun v55 =>
  (gr h54 v55 [0] 7).bind fun v56 =>
  (pz h54 v56 [4] 1 (0 : Int32)).bind fun h57 =>
  some h57
theorem w_X20_setNow_b {l : Launch} {G : GT} {fr lo : Nat} {h0 : Hp} {N : Nat} {r : Hp} (hfr : 1 ≤ fr) (hlo : 25 ≤ lo) {a0 : Nat} {h : Hp} (hF : X20_setNow_b N a0 h = some r) : V l G cX20_setNow RX20 "setNow" 1 (Option.none : Option Jvm.ClassFile.FieldType) fr lo h0 r (QM G none h0 r) 0 [(0, .ref a0)] [] h := by
  unfold X20_setNow_b at hF
  refine v_aload_n dX20_setNow_0 rfl 0 rfl ?_
  refine v_getr dX20_setNow_1 fl_X20_3 hF (fun v21 hF => ?_)
  refine v_getr dX20_setNow_4 fl_X20_26 hF (fun v22 hF => ?_)
  refine v_getr dX20_setNow_7 fl_X20_30 hF (fun v23 hF => ?_)
  refine v_iconst dX20_setNow_10 (v := 0) (by decide) ?_
  refine v_aload_n dX20_setNow_11 rfl 0 rfl ?_
  refine v_getr dX20_setNow_12 fl_X20_3 hF (fun v24 hF => ?_)
  obtain ⟨v25, e_v25, hF⟩ := Option.bind_eq_some_iff.mp hF
  refine v_calV1 dX20_setNow_15 vl_X20_36 q486 (rc_C_books e_v25) (ct_C_books e_v25) rfl rfl (Nat.le_trans (Nat.le_of_ble_eq_true rfl) hfr) (Nat.le_trans (Nat.le_of_ble_eq_true rfl) hlo) (Nat.le_of_ble_eq_true rfl) ?_
  refine v_geti dX20_setNow_18 fl_X20_40 hF (fun v26 hF => ?_)
  refine v_i2l dX20_setNow_21 ?_
  refine v_last dX20_setNow_22 hF (fun h27 hF => ?_)
  refine v_aload_n dX20_setNow_23 rfl 0 rfl ?_
  refine v_getr dX20_setNow_24 fl_X20_3 hF (fun v28 hF => ?_)
  refine v_getr dX20_setNow_27 fl_X20_26 hF (fun v29 hF => ?_)
  refine v_getr dX20_setNow_30 fl_X20_30 hF (fun v30 hF => ?_)
  refine v_iconst dX20_setNow_33 (v := 1) (by decide) ?_
  refine v_aload_n dX20_setNow_34 rfl 0 rfl ?_
  refine v_getr dX20_setNow_35 fl_X20_3 hF (fun v31 hF => ?_)
  refine v_geti dX20_setNow_38 fl_X20_45 hF (fun v32 hF => ?_)
  refine v_i2l dX20_setNow_41 ?_
  refine v_last dX20_setNow_42 hF (fun h33 hF => ?_)
  refine v_aload_n dX20_setNow_43 rfl 0 rfl ?_
  refine v_getr dX20_setNow_44 fl_X20_3 hF (fun v34 hF => ?_)
  refine v_getr dX20_setNow_47 fl_X20_26 hF (fun v35 hF => ?_)
  refine v_getr dX20_setNow_50 fl_X20_30 hF (fun v36 hF => ?_)
  refine v_iconst dX20_setNow_53 (v := 2) (by decide) ?_
  refine v_aload_n dX20_setNow_54 rfl 0 rfl ?_
  refine v_getr dX20_setNow_55 fl_X20_3 hF (fun v37 hF => ?_)
  refine v_geti dX20_setNow_58 fl_X20_48 hF (fun v38 hF => ?_)
  refine v_i2l dX20_setNow_61 ?_
  refine v_last dX20_setNow_62 hF (fun h39 hF => ?_)
  refine v_aload_n dX20_setNow_63 rfl 0 rfl ?_
  refine v_getr dX20_setNow_64 fl_X20_3 hF (fun v40 hF => ?_)
  refine v_getr dX20_setNow_67 fl_X20_26 hF (fun v41 hF => ?_)
  refine v_getr dX20_setNow_70 fl_X20_30 hF (fun v42 hF => ?_)
  refine v_iconst dX20_setNow_73 (v := 3) (by decide) ?_
  refine v_aload_n dX20_setNow_74 rfl 0 rfl ?_
  refine v_getr dX20_setNow_75 fl_X20_3 hF (fun v43 hF => ?_)
  obtain ⟨v44, e_v44, hF⟩ := Option.bind_eq_some_iff.mp hF
  refine v_calV1 dX20_setNow_78 vl_X20_36 q486 (rc_C_books e_v44) (ct_C_books e_v44) rfl rfl (Nat.le_trans (Nat.le_of_ble_eq_true rfl) hfr) (Nat.le_trans (Nat.le_of_ble_eq_true rfl) hlo) (Nat.le_of_ble_eq_true rfl) ?_
  refine v_geti dX20_setNow_81 fl_X20_51 hF (fun v45 hF => ?_)
  obtain ⟨v46, e_v46, hF⟩ := Option.bind_eq_some_iff.mp hF
  refine v_calS1 dX20_setNow_84 sl_X20_54 q532 (ct_J4_bitCount e_v46) rfl rfl (Nat.le_trans (Nat.le_of_ble_eq_true rfl) hfr) (Nat.le_trans (Nat.le_of_ble_eq_true rfl) hlo) (Nat.le_of_ble_eq_true rfl) ?_
  refine v_i2l dX20_setNow_87 ?_
  refine v_last dX20_setNow_88 hF (fun h47 hF => ?_)
  refine v_aload_n dX20_setNow_89 rfl 0 rfl ?_
  refine v_getr dX20_setNow_90 fl_X20_3 hF (fun v48 hF => ?_)
  refine v_getr dX20_setNow_93 fl_X20_26 hF (fun v49 hF => ?_)
  refine v_getr dX20_setNow_96 fl_X20_30 hF (fun v50 hF => ?_)
  refine v_iconst dX20_setNow_99 (v := 4) (by decide) ?_
  refine v_aload_n dX20_setNow_100 rfl 0 rfl ?_
  refine v_getr dX20_setNow_101 fl_X20_3 hF (fun v51 hF => ?_)
  obtain ⟨v52, e_v52, hF⟩ := Option.bind_eq_some_iff.mp hF
  refine v_calV1 dX20_setNow_104 vl_X20_36 q486 (rc_C_books e_v52) (ct_C_books e_v52) rfl rfl (Nat.le_trans (Nat.le_of_ble_eq_true rfl) hfr) (Nat.le_trans (Nat.le_of_ble_eq_true rfl) hlo) (Nat.le_of_ble_eq_true rfl) ?_
  obtain ⟨v53, e_v53, hF⟩ := Option.bind_eq_some_iff.mp hF
  refine v_calV1 dX20_setNow_107 vl_X20_60 q1541 (rc_X2_all e_v53) (ct_X2_all e_v53) rfl rfl (Nat.le_trans (Nat.le_of_ble_eq_true rfl) hfr) (Nat.le_trans (Nat.le_of_ble_eq_true rfl) hlo) (Nat.le_of_ble_eq_true rfl) ?_
  refine v_i2l dX20_setNow_110 ?_
  refine v_last dX20_setNow_111 hF (fun h54 hF => ?_)
  refine v_aload_n dX20_setNow_112 rfl 0 rfl ?_
  refine v_getr dX20_setNow_113 fl_X20_3 hF (fun v55 hF => ?_)
  refine v_getr dX20_setNow_116 fl_X20_26 hF (fun v56 hF => ?_)
  refine v_iconst dX20_setNow_119 (v := 0) (by decide) ?_
  refine v_putz dX20_setNow_120 pl_X20_64 (fun z => by cases z) hF (fun h57 hF => ?_)
  cases hF
  exact v_vret dX20_setNow_123 rfl rfl rfl
def X20_setNow (N : Nat) (a0 : Nat) (h : Hp) : Option Hp := (ob h a0 [17]).bind fun _ => X20_setNow_b N a0 h
theorem rc_X20_setNow {N : Nat}  {r : Hp} {a0 : Nat} {h : Hp} (hF : X20_setNow N a0 h = some r) : RC h a0 [17] := by
  obtain ⟨o, ho, -⟩ := Option.bind_eq_some_iff.mp hF
  exact ⟨o, ho⟩
theorem ct_X20_setNow {l : Launch} {G : GT} {N : Nat} {r : Hp} {a0 : Nat} {h : Hp} (hF : X20_setNow N a0 h = some r) : Ct l G yX20_setNow (ws_ yX20_setNow cX20_setNow 1 (Option.none : Option Jvm.ClassFile.FieldType)) 1 25 [.ref a0] h none r :=
  ct_of (by decide) (Nat.le_of_ble_eq_true rfl) (w_X20_setNow_b (Nat.le_refl _) (Nat.le_refl _) (Option.bind_eq_some_iff.mp hF).choose_spec.2)
theorem vl_X20_93 : ∀ ci ∈ [17], VL RX20 93 ci yX20_setNow 0 := by
  intro ci h
  simp only [List.mem_cons, List.not_mem_nil, or_false] at h
  subst h; exact ⟨RX20, TX20, 6, rfl, q173, ⟨by decide, by decide⟩, by decide +kernel, q1534, Or.inl ⟨q1532, qs47⟩⟩
theorem vl_X20_105 : ∀ ci ∈ [17], VL RX20 105 ci yX20_does 0 := by
  intro ci h
  simp only [List.mem_cons, List.not_mem_nil, or_false] at h
  subst h; exact ⟨RX20, TX20, 6, rfl, q173, ⟨by decide, by decide⟩, by decide +kernel, q1545, Or.inl ⟨q1543, qs48⟩⟩
theorem pl_X20_45 : PL RX20 45 [0] 26 (.int) false := by
  intro ci h
  simp only [List.mem_cons, List.not_mem_nil, or_false] at h
  subst h; exact ⟨RX0, _, TX0, 31, tyX0, rfl, in_X0, by decide, Or.inr ⟨rfl, _, q383⟩, Or.inl rfl, tyX0_ok, rfl, by decide +kernel, rfl, fun z => by cases z⟩
theorem vl_X20_100_14 : ∀ ci ∈ [14], VL RX20 100 ci yX17_of 1 := by
  intro ci h
  simp only [List.mem_cons, List.not_mem_nil, or_false] at h
  subst h; exact ⟨RX17, TX17, 3, rfl, q170, ⟨by decide, by decide⟩, by decide +kernel, q566, Or.inr (Or.inr (Or.inl ⟨⟨"LeekReadings$Test", "of", "(LLeekReadings$Asked;)Z"⟩, "LeekReadings$Test", q1542, q564, q565, ⟨by decide, by decide⟩, by decide +kernel, Or.inr (Or.inr q563)⟩))⟩
theorem vl_X20_100_15 : ∀ ci ∈ [15], VL RX20 100 ci yX18_of 1 := by
  intro ci h
  simp only [List.mem_cons, List.not_mem_nil, or_false] at h
  subst h; exact ⟨RX18, TX18, 1, rfl, q171, ⟨by decide, by decide⟩, by decide +kernel, q603, Or.inr (Or.inr (Or.inl ⟨⟨"LeekReadings$Test", "of", "(LLeekReadings$Asked;)Z"⟩, "LeekReadings$Test", q1542, q564, q602, ⟨by decide, by decide⟩, by decide +kernel, Or.inr (Or.inr q563)⟩))⟩
theorem vl_X20_100_16 : ∀ ci ∈ [16], VL RX20 100 ci yX19_of 1 := by
  intro ci h
  simp only [List.mem_cons, List.not_mem_nil, or_false] at h
  subst h; exact ⟨RX19, TX19, 2, rfl, q172, ⟨by decide, by decide⟩, by decide +kernel, q606, Or.inr (Or.inr (Or.inl ⟨⟨"LeekReadings$Test", "of", "(LLeekReadings$Asked;)Z"⟩, "LeekReadings$Test", q1542, q564, q609, ⟨by decide, by decide⟩, by decide +kernel, Or.inr (Or.inr q563)⟩))⟩
theorem fl_X20_96 : FL RX20 96 [17] 2 := by
  intro ci h
  simp only [List.mem_cons, List.not_mem_nil, or_false] at h
  subst h; exact ⟨RX20, _, TX20, 6, rfl, in_X20, by decide, Or.inl q1175, Or.inl rfl⟩
def X20_run_J43 (N : Nat) (v24 : Nat) (h25 : Hp) : Option (Int32 × Hp) :=
  (pz h25 v24 [17] 4 (0 : Int32)).bind fun h26 =>
  bd2 (X20_does N v24 h26) fun v28 h27 =>
  if 0 ≤ v28 then
    (gr h27 v24 [17] 5).bind fun v29 =>
    (gi h27 v29 [0] 26).bind fun v30 =>
    (po h27 v29 [0] 26 (.int (v30 + (1 : Int32)))).bind fun h31 =>
    some ((0 : Int32), h31)
  else
    some ((-3 : Int32), h27)
theorem w_X20_run_J43 {l : Launch} {G : GT} {fr lo : Nat} {h0 : Hp} {N : Nat} {r : (Int32 × Hp)} (hfr : 202 ≤ fr) (hlo : 5097 ≤ lo)   {v24 : Nat} {h25 : Hp} (hF : X20_run_J43 N v24 h25 = some r) : V l G cX20_run RX20 "run" 1 (Option.some Jvm.ClassFile.FieldType.int) fr lo h0 r.2 (QM G (some (.int r.1)) h0 r.2) 43 [(0, .ref v24)] [] h25 := by
  unfold X20_run_J43 at hF
  refine v_aload_n dX20_run_43 rfl 0 rfl ?_
  refine v_iconst dX20_run_44 (v := 0) (by decide) ?_
  refine v_putz dX20_run_45 pl_X20_68 (fun z => by cases z) hF (fun h26 hF => ?_)
  refine v_aload_n dX20_run_48 rfl 0 rfl ?_
  obtain ⟨v28, h27, e_v28, hF⟩ := bd2_spec hF
  refine v_calV1 dX20_run_49 vl_X20_105 q1546 (rc_X20_does e_v28) (ct_X20_does e_v28) rfl rfl (Nat.le_trans (Nat.le_of_ble_eq_true rfl) hfr) (Nat.le_trans (Nat.le_of_ble_eq_true rfl) hlo) (Nat.le_of_ble_eq_true rfl) ?_
  refine v_if_ge (tgt := 58) dX20_run_52 (by decide) hF (fun hF => ?_) (fun hF => ?_)
  · refine v_aload_n dX20_run_58 rfl 0 rfl ?_
    refine v_getr dX20_run_59 fl_X20_3 hF (fun v29 hF => ?_)
    refine v_dup dX20_run_62 rfl ?_
    refine v_geti dX20_run_63 fl_X20_45 hF (fun v30 hF => ?_)
    refine v_iconst dX20_run_66 (v := 1) (by decide) ?_
    refine v_iadd dX20_run_67 ?_
    refine v_put dX20_run_68 pl_X20_45 (fun z => by cases z) rfl rfl hF (fun h31 hF => ?_)
    refine v_iconst dX20_run_71 (v := 0) (by decide) ?_
    cases hF
    exact v_iret dX20_run_72 rfl rfl rfl rfl
  · refine v_bipush dX20_run_55 (v := -3) (by decide) ?_
    cases hF
    exact v_iret dX20_run_57 rfl rfl rfl rfl
def X20_run_b (N : Nat) (a0 : Nat) (h : Hp) : Option (Int32 × Hp) :=
  (X20_setNow N a0 h).bind fun h21 =>
  (gq h21 a0 [17] 2).bind fun v22 =>
  v22.elim
    (X20_run_J43 N a0 h21)
    (fun a23 =>
      (gr h21 a0 [17] 2).bind fun v32 =>
      (gr h21 a0 [17] 5).bind fun v33 =>
      (gr h21 v33 [0] 7).bind fun v34 =>
      bd2 (D_test N 64 v32 v34 h21) fun v35 h36 =>
      if v35 = 0 then
        some ((0 : Int32), h36)
      else
        (gr h36 a0 [17] 5).bind fun v37 =>
        (gr h36 v37 [0] 7).bind fun v38 =>
        (gi h36 v38 [4] 1).bind fun v39 =>
        if v39 = 0 then
          X20_run_J43 N a0 h36
        else
          some ((0 : Int32), h36))
theorem w_X20_run_b {l : Launch} {G : GT} {fr lo : Nat} {h0 : Hp} {N : Nat} {r : (Int32 × Hp)} (hfr : 202 ≤ fr) (hlo : 5097 ≤ lo) {a0 : Nat} {h : Hp} (hF : X20_run_b N a0 h = some r) : V l G cX20_run RX20 "run" 1 (Option.some Jvm.ClassFile.FieldType.int) fr lo h0 r.2 (QM G (some (.int r.1)) h0 r.2) 0 [(0, .ref a0)] [] h := by
  unfold X20_run_b at hF
  refine v_aload_n dX20_run_0 rfl 0 rfl ?_
  obtain ⟨h21, e_h21, hF⟩ := Option.bind_eq_some_iff.mp hF
  refine v_calV0 dX20_run_1 vl_X20_93 q1535 (rc_X20_setNow e_h21) (ct_X20_setNow e_h21) rfl rfl (Nat.le_trans (Nat.le_of_ble_eq_true rfl) hfr) (Nat.le_trans (Nat.le_of_ble_eq_true rfl) hlo) (Nat.le_of_ble_eq_true rfl) ?_
  refine v_aload_n dX20_run_4 rfl 0 rfl ?_
  refine v_getq dX20_run_5 fl_X20_96 hF (fun v22 hF => ?_)
  refine v_ifnull (tgt := 43) dX20_run_8 (by decide) hF (fun hq hG => ?_) (fun a23 hq hG => ?_)
  · subst hq
    have hF := hG
    exact v_sub [0] rfl (w_X20_run_J43 hfr hlo hF)
  · subst hq
    have hF := hG
    refine v_aload_n dX20_run_11 rfl 0 rfl ?_
    refine v_getr dX20_run_12 fl_X20_96 hF (fun v32 hF => ?_)
    refine v_aload_n dX20_run_15 rfl 0 rfl ?_
    refine v_getr dX20_run_16 fl_X20_3 hF (fun v33 hF => ?_)
    refine v_getr dX20_run_19 fl_X20_26 hF (fun v34 hF => ?_)
    refine v_disp (pc' := 25) (f := fun z => .int z) (st := []) hF (fun v35 h36 hF => ?_) (fun v9 h9 e K => ?_)
    · refine v_if_eq (tgt := 41) dX20_run_25 (by decide) hF (fun hF => ?_) (fun hF => ?_)
      · refine v_iconst dX20_run_41 (v := 0) (by decide) ?_
        cases hF
        exact v_iret dX20_run_42 rfl rfl rfl rfl
      · refine v_aload_n dX20_run_28 rfl 0 rfl ?_
        refine v_getr dX20_run_29 fl_X20_3 hF (fun v37 hF => ?_)
        refine v_getr dX20_run_32 fl_X20_26 hF (fun v38 hF => ?_)
        refine v_geti dX20_run_35 fl_X20_64 hF (fun v39 hF => ?_)
        refine v_if_eq (tgt := 43) dX20_run_38 (by decide) hF (fun hF => ?_) (fun hF => ?_)
        · exact v_sub [0] rfl (w_X20_run_J43 hfr hlo hF)
        · refine v_iconst dX20_run_41 (v := 0) (by decide) ?_
          cases hF
          exact v_iret dX20_run_42 rfl rfl rfl rfl
    · rcases dd_test 64 _ _ _ _ e with ⟨rc, frc, loc, hf1, hf2, ct⟩ | ⟨rc, frc, loc, hf1, hf2, ct⟩ | ⟨rc, frc, loc, hf1, hf2, ct⟩
      · exact v_calV1 dX20_run_22 vl_X20_100_14 q567 rc ct rfl rfl (by omega) (by omega) (Nat.le_of_ble_eq_true rfl) K
      · exact v_calV1 dX20_run_22 vl_X20_100_15 q604 rc ct rfl rfl (by omega) (by omega) (Nat.le_of_ble_eq_true rfl) K
      · exact v_calV1 dX20_run_22 vl_X20_100_16 q607 rc ct rfl rfl (by omega) (by omega) (Nat.le_of_ble_eq_true rfl) K
def X20_run (N : Nat) (a0 : Nat) (h : Hp) : Option (Int32 × Hp) := (ob h a0 [17]).bind fun _ => X20_run_b N a0 h
theorem rc_X20_run {N : Nat}  {r : (Int32 × Hp)} {a0 : Nat} {h : Hp} (hF : X20_run N a0 h = some r) : RC h a0 [17] := by
  obtain ⟨o, ho, -⟩ := Option.bind_eq_some_iff.mp hF
  exact ⟨o, ho⟩
theorem ct_X20_run {l : Launch} {G : GT} {N : Nat} {r : (Int32 × Hp)} {a0 : Nat} {h : Hp} (hF : X20_run N a0 h = some r) : Ct l G yX20_run (ws_ yX20_run cX20_run 1 (Option.some Jvm.ClassFile.FieldType.int)) 202 5097 [.ref a0] h (some (.int r.1)) r.2 :=
  ct_of (by decide) (Nat.le_of_ble_eq_true rfl) (w_X20_run_b (Nat.le_refl _) (Nat.le_refl _) (Option.bind_eq_some_iff.mp hF).choose_spec.2)
theorem vl_X0_423 : ∀ ci ∈ [17], VL RX0 423 ci yX20_run 0 := by
  intro ci h
  simp only [List.mem_cons, List.not_mem_nil, or_false] at h
  subst h; exact ⟨RX20, TX20, 6, rfl, q173, ⟨by decide, by decide⟩, by decide +kernel, q1529, Or.inl ⟨q1528, q1530⟩⟩
theorem fl_X0_418 : FL RX0 418 [17] 3 := by
  intro ci h
  simp only [List.mem_cons, List.not_mem_nil, or_false] at h
  subst h; exact ⟨RX20, _, TX20, 6, rfl, in_X20, by decide, Or.inr ⟨_, q1179⟩, Or.inl rfl⟩
theorem fl_X0_426 : FL RX0 426 [0] 26 := by
  intro ci h
  simp only [List.mem_cons, List.not_mem_nil, or_false] at h
  subst h; exact ⟨RX0, _, TX0, 31, rfl, in_X0, by decide, Or.inl q384, Or.inl rfl⟩
def C_runAll_L10 (N : Nat) (x10 : Nat → Nat → Int32 → Hp → Option (Int32 × Hp)) : Nat → Nat → Nat → Int32 → Int32 → Hp → Option (Int32 × Hp)
  | 0, _, _, _, _, _ => none
  | n43 + 1, v28, v29, v30, v31, h32 =>
    (aR h32 v29 10 v30).bind fun v37 =>
    (gi h32 v37 [17] 3).bind fun v38 =>
    if v38 ≤ v31 then
      x10 v28 v29 v30 h32
    else
      (aR h32 v29 10 v30).bind fun v39 =>
      bd2 (X20_run N v39 h32) fun v41 h40 =>
      if v41 = 0 then
        (C_runAll_L10 N x10 n43) v28 v29 v30 (v31 + (1 : Int32)) h40
      else
        (po h40 v28 [0] 13 (.int v30)).bind fun h42 =>
        some ((-3 : Int32), h42)
theorem w_C_runAll_L10 {l : Launch} {G : GT} {fr lo : Nat} {h0 : Hp} {N : Nat} {r : (Int32 × Hp)} (hfr : 203 ≤ fr) (hlo : 5117 ≤ lo) {x10 : Nat → Nat → Int32 → Hp → Option (Int32 × Hp)} (hx10 : ∀ (v33 : Nat) (v34 : Nat) (v35 : Int32) (h36 : Hp), x10 v33 v34 v35 h36 = some r → V l G cX0_runAll RX0 "runAll" 4 (Option.some Jvm.ClassFile.FieldType.int) fr lo h0 r.2 (QM G (some (.int r.1)) h0 r.2) 46 [(0, .ref v33), (1, .ref v34), (2, .int v35)] [] h36) : ∀ (n : Nat) (v28 : Nat) (v29 : Nat) (v30 : Int32) (v31 : Int32) (h32 : Hp), C_runAll_L10 N x10 n v28 v29 v30 v31 h32 = some r → V l G cX0_runAll RX0 "runAll" 4 (Option.some Jvm.ClassFile.FieldType.int) fr lo h0 r.2 (QM G (some (.int r.1)) h0 r.2) 10 [(0, .ref v28), (1, .ref v29), (2, .int v30), (3, .int v31)] [] h32 := by
  intro n
  induction n with
  | zero =>
    intro v28 v29 v30 v31 h32 hF
    cases (show (none : Option (Int32 × Hp)) = some r from hF)
  | succ n hc10 =>
    intro v28 v29 v30 v31 h32 hF
    rw [C_runAll_L10] at hF
    refine v_iload_n dX0_runAll_10 rfl 3 rfl ?_
    refine v_aload_n dX0_runAll_11 rfl 1 rfl ?_
    refine v_iload_n dX0_runAll_12 rfl 2 rfl ?_
    refine v_aaldr rfl rfl dX0_runAll_13 hF (fun v37 hF => ?_)
    refine v_geti dX0_runAll_14 fl_X0_418 hF (fun v38 hF => ?_)
    refine v_icmp_ge (tgt := 46) dX0_runAll_17 (by decide) hF (fun hF => ?_) (fun hF => ?_)
    · exact v_sub [0, 1, 2] rfl (hx10 _ _ _ _ hF)
    · refine v_aload_n dX0_runAll_20 rfl 1 rfl ?_
      refine v_iload_n dX0_runAll_21 rfl 2 rfl ?_
      refine v_aaldr rfl rfl dX0_runAll_22 hF (fun v39 hF => ?_)
      obtain ⟨v41, h40, e_v41, hF⟩ := bd2_spec hF
      refine v_calV1 dX0_runAll_23 vl_X0_423 q1531 (rc_X20_run e_v41) (ct_X20_run e_v41) rfl rfl (Nat.le_trans (Nat.le_of_ble_eq_true rfl) hfr) (Nat.le_trans (Nat.le_of_ble_eq_true rfl) hlo) (Nat.le_of_ble_eq_true rfl) ?_
      refine v_if_ne (tgt := 32) dX0_runAll_26 (by decide) hF (fun hF => ?_) (fun hF => ?_)
      · refine v_aload_n dX0_runAll_32 rfl 0 rfl ?_
        refine v_iload_n dX0_runAll_33 rfl 2 rfl ?_
        refine v_put dX0_runAll_34 pl_X0_69 (fun z => by cases z) rfl rfl hF (fun h42 hF => ?_)
        refine v_bipush dX0_runAll_37 (v := -3) (by decide) ?_
        cases hF
        exact v_iret dX0_runAll_39 rfl rfl rfl rfl
      · refine v_goto (tgt := 40) dX0_runAll_29 (by decide) ?_
        refine v_iinc dX0_runAll_40 3 rfl (v := v31 + (1 : Int32)) (by rfl) (Nat.le_of_ble_eq_true rfl) (L' := [(3, .int (v31 + (1 : Int32))), (0, .ref v28), (1, .ref v29), (2, .int v30)]) rfl ?_
        refine v_goto (tgt := 10) dX0_runAll_43 (by decide) ?_
        exact v_sub [1, 2, 3, 0] rfl (hc10 _ _ _ _ _ hF)
def C_runAll_L2 (N : Nat) (x2 : Nat → Hp → Option (Int32 × Hp)) : Nat → Nat → Nat → Int32 → Hp → Option (Int32 × Hp)
  | 0, _, _, _, _ => none
  | n48 + 1, v21, v22, v23, h24 =>
    (alen h24 v22 10).bind fun v27 =>
    if v27 ≤ v23 then
      x2 v21 h24
    else
      C_runAll_L10 N (fun v44 v45 v46 h47 =>
        (C_runAll_L2 N x2 n48) v44 v45 (v46 + (1 : Int32)) h47) N v21 v22 v23 (0 : Int32) h24
theorem w_C_runAll_L2 {l : Launch} {G : GT} {fr lo : Nat} {h0 : Hp} {N : Nat} {r : (Int32 × Hp)} (hfr : 203 ≤ fr) (hlo : 5117 ≤ lo) {x2 : Nat → Hp → Option (Int32 × Hp)} (hx2 : ∀ (v25 : Nat) (h26 : Hp), x2 v25 h26 = some r → V l G cX0_runAll RX0 "runAll" 4 (Option.some Jvm.ClassFile.FieldType.int) fr lo h0 r.2 (QM G (some (.int r.1)) h0 r.2) 52 [(0, .ref v25)] [] h26) : ∀ (n : Nat) (v21 : Nat) (v22 : Nat) (v23 : Int32) (h24 : Hp), C_runAll_L2 N x2 n v21 v22 v23 h24 = some r → V l G cX0_runAll RX0 "runAll" 4 (Option.some Jvm.ClassFile.FieldType.int) fr lo h0 r.2 (QM G (some (.int r.1)) h0 r.2) 2 [(0, .ref v21), (1, .ref v22), (2, .int v23)] [] h24 := by
  intro n
  induction n with
  | zero =>
    intro v21 v22 v23 h24 hF
    cases (show (none : Option (Int32 × Hp)) = some r from hF)
  | succ n hc2 =>
    intro v21 v22 v23 h24 hF
    rw [C_runAll_L2] at hF
    refine v_iload_n dX0_runAll_2 rfl 2 rfl ?_
    refine v_aload_n dX0_runAll_3 rfl 1 rfl ?_
    refine v_alen (k := 10) rfl dX0_runAll_4 hF (fun v27 hF => ?_)
    refine v_icmp_ge (tgt := 52) dX0_runAll_5 (by decide) hF (fun hF => ?_) (fun hF => ?_)
    · exact v_sub [0] rfl (hx2 _ _ hF)
    · refine v_iconst dX0_runAll_8 (v := 0) (by decide) ?_
      refine v_istore_n dX0_runAll_9 rfl (Nat.le_of_ble_eq_true rfl) (L' := [(3, .int (0 : Int32)), (0, .ref v21), (1, .ref v22), (2, .int v23)]) rfl ?_
      refine v_sub [1, 2, 3, 0] rfl (w_C_runAll_L10 hfr hlo ?_ N _ _ _ _ _ hF)
      intro v44 v45 v46 h47 hF
      refine v_iinc dX0_runAll_46 2 rfl (v := v46 + (1 : Int32)) (by rfl) (Nat.le_of_ble_eq_true rfl) (L' := [(2, .int (v46 + (1 : Int32))), (0, .ref v44), (1, .ref v45)]) rfl ?_
      refine v_goto (tgt := 2) dX0_runAll_49 (by decide) ?_
      exact v_sub [1, 2, 0] rfl (hc2 _ _ _ _ hF)
def C_runAll_b (N : Nat) (a0 : Nat) (a1 : Nat) (h : Hp) : Option (Int32 × Hp) :=
  C_runAll_L2 N (fun v49 h50 =>
    (gi h50 v49 [0] 26).bind fun v51 =>
    some (v51, h50)) N a0 a1 (0 : Int32) h
theorem w_C_runAll_b {l : Launch} {G : GT} {fr lo : Nat} {h0 : Hp} {N : Nat} {r : (Int32 × Hp)} (hfr : 203 ≤ fr) (hlo : 5117 ≤ lo) {a0 : Nat} {a1 : Nat} {h : Hp} (hF : C_runAll_b N a0 a1 h = some r) : V l G cX0_runAll RX0 "runAll" 4 (Option.some Jvm.ClassFile.FieldType.int) fr lo h0 r.2 (QM G (some (.int r.1)) h0 r.2) 0 [(0, .ref a0), (1, .ref a1)] [] h := by
  unfold C_runAll_b at hF
  refine v_iconst dX0_runAll_0 (v := 0) (by decide) ?_
  refine v_istore_n dX0_runAll_1 rfl (Nat.le_of_ble_eq_true rfl) (L' := [(2, .int (0 : Int32)), (0, .ref a0), (1, .ref a1)]) rfl ?_
  refine v_sub [1, 2, 0] rfl (w_C_runAll_L2 hfr hlo ?_ N _ _ _ _ hF)
  intro v49 h50 hF
  refine v_aload_n dX0_runAll_52 rfl 0 rfl ?_
  refine v_geti dX0_runAll_53 fl_X0_426 hF (fun v51 hF => ?_)
  cases hF
  exact v_iret dX0_runAll_56 rfl rfl rfl rfl
def C_runAll (N : Nat) (a0 : Nat) (a1 : Nat) (h : Hp) : Option (Int32 × Hp) := (ob h a0 [0]).bind fun _ => C_runAll_b N a0 a1 h
theorem rc_C_runAll {N : Nat}  {r : (Int32 × Hp)} {a0 : Nat} {a1 : Nat} {h : Hp} (hF : C_runAll N a0 a1 h = some r) : RC h a0 [0] := by
  obtain ⟨o, ho, -⟩ := Option.bind_eq_some_iff.mp hF
  exact ⟨o, ho⟩
theorem ct_C_runAll {l : Launch} {G : GT} {N : Nat} {r : (Int32 × Hp)} {a0 : Nat} {a1 : Nat} {h : Hp} (hF : C_runAll N a0 a1 h = some r) : Ct l G yX0_runAll (ws_ yX0_runAll cX0_runAll 4 (Option.some Jvm.ClassFile.FieldType.int)) 203 5117 [.ref a0, .ref a1] h (some (.int r.1)) r.2 :=
  ct_of (by decide) (Nat.le_of_ble_eq_true rfl) (w_C_runAll_b (Nat.le_refl _) (Nat.le_refl _) (Option.bind_eq_some_iff.mp hF).choose_spec.2)
theorem st_X21_11 : (RX21, 11, "day", 7) ∈ strTab := List.mem_of_getElem? (i := 13) rfl
theorem st_X21_13 : (RX21, 13, "done", 13) ∈ strTab := List.mem_of_getElem? (i := 14) rfl
theorem st_X21_15 : (RX21, 15, "latest", 14) ∈ strTab := List.mem_of_getElem? (i := 15) rfl
theorem st_X21_17 : (RX21, 17, "known", 6) ∈ strTab := List.mem_of_getElem? (i := 16) rfl
theorem st_X21_19 : (RX21, 19, "all", 15) ∈ strTab := List.mem_of_getElem? (i := 17) rfl
theorem st_X21_21 : (RX21, 21, "high", 2) ∈ strTab := List.mem_of_getElem? (i := 18) rfl
theorem st_X21_23 : (RX21, 23, "has", 16) ∈ strTab := List.mem_of_getElem? (i := 19) rfl
theorem il_X21_25 : IL RX21 25 yX7_init 2 := ⟨q158, ⟨by decide, by decide⟩, by decide +kernel, q769, rfl, Or.inl q1495⟩
theorem pl_X21_33 : PL RX21 33 [18] 8 (.array (.object "LeekReadings$Act")) true := by
  intro ci h
  simp only [List.mem_cons, List.not_mem_nil, or_false] at h
  subst h; exact ⟨RX21, _, TX21, 10, tyX21, rfl, in_X21, by decide, Or.inl q1497, Or.inl rfl, tyX21_ok, rfl, by decide +kernel, rfl, fun _ => rfl⟩
theorem pl_X21_3 : PL2 RX21 3 [18] 9 (.object "LeekReadings") := by
  intro ci h
  simp only [List.mem_cons, List.not_mem_nil, or_false] at h
  subst h; exact ⟨RX21, _, TX21, 10, tyX21, _, rfl, rfl, in_X21, by decide, q1498, Or.inl rfl, tyX21_ok, rfl, by decide +kernel, rfl, rfl, by decide, by decide, by decide⟩
def X21_init_b (a0 : Nat) (a1 : Nat) (h : Hp) : Option Hp :=
  (po2 h a0 [18] 9 (.ref a1)).bind fun h21 =>
  bd2 (na h21 8 (7 : Int32) (.inr (.inr (.inr (.inr (fun _ => none)))))) fun a22 h23 =>
  (sS h23 a22 (0 : Int32) (h23.2.2.1 7)).bind fun h24 =>
  (sS h24 a22 (1 : Int32) (h24.2.2.1 13)).bind fun h25 =>
  (sS h25 a22 (2 : Int32) (h25.2.2.1 14)).bind fun h26 =>
  (sS h26 a22 (3 : Int32) (h26.2.2.1 6)).bind fun h27 =>
  (sS h27 a22 (4 : Int32) (h27.2.2.1 15)).bind fun h28 =>
  (sS h28 a22 (5 : Int32) (h28.2.2.1 2)).bind fun h29 =>
  (sS h29 a22 (6 : Int32) (h29.2.2.1 16)).bind fun h30 =>
  (X7_init a0 a1 a22 h30).bind fun h31 =>
  bd2 (na h31 10 (12 : Int32) (.inr (.inr (.inr (.inr (fun _ => none)))))) fun a32 h33 =>
  (po h33 a0 [18] 8 (.ref a32)).bind fun h34 =>
  some h34
theorem w_X21_init_b {l : Launch} {G : GT} {fr lo : Nat} {h0 : Hp} {r : Hp} (hfr : 2 ≤ fr) (hlo : 42 ≤ lo) {a0 : Nat} {a1 : Nat} {h : Hp} (hF : X21_init_b a0 a1 h = some r) : V l G cX21_init RX21 "<init>" 2 (Option.none : Option Jvm.ClassFile.FieldType) fr lo h0 r (QM G none h0 r) 0 [(0, .ref a0), (1, .ref a1)] [] h := by
  unfold X21_init_b at hF
  refine v_aload_n dX21_init_0 rfl 0 rfl ?_
  refine v_aload_n dX21_init_1 rfl 1 rfl ?_
  refine v_put2 dX21_init_2 pl_X21_3 rfl rfl rfl hF (fun h21 hF => ?_)
  refine v_aload_n dX21_init_5 rfl 0 rfl ?_
  refine v_aload_n dX21_init_6 rfl 1 rfl ?_
  refine v_bipush dX21_init_7 (v := 7) (by decide) ?_
  refine v_anew dX21_init_9 rfl q1487 q758 hF (fun a22 h23 hF => ?_)
  refine v_dup dX21_init_12 rfl ?_
  refine v_iconst dX21_init_13 (v := 0) (by decide) ?_
  refine v_ldcS dX21_init_14 st_X21_11 ?_
  refine v_aastS dX21_init_16 hF (fun h24 hF => ?_)
  refine v_dup dX21_init_17 rfl ?_
  refine v_iconst dX21_init_18 (v := 1) (by decide) ?_
  refine v_ldcS dX21_init_19 st_X21_13 ?_
  refine v_aastS dX21_init_21 hF (fun h25 hF => ?_)
  refine v_dup dX21_init_22 rfl ?_
  refine v_iconst dX21_init_23 (v := 2) (by decide) ?_
  refine v_ldcS dX21_init_24 st_X21_15 ?_
  refine v_aastS dX21_init_26 hF (fun h26 hF => ?_)
  refine v_dup dX21_init_27 rfl ?_
  refine v_iconst dX21_init_28 (v := 3) (by decide) ?_
  refine v_ldcS dX21_init_29 st_X21_17 ?_
  refine v_aastS dX21_init_31 hF (fun h27 hF => ?_)
  refine v_dup dX21_init_32 rfl ?_
  refine v_iconst dX21_init_33 (v := 4) (by decide) ?_
  refine v_ldcS dX21_init_34 st_X21_19 ?_
  refine v_aastS dX21_init_36 hF (fun h28 hF => ?_)
  refine v_dup dX21_init_37 rfl ?_
  refine v_iconst dX21_init_38 (v := 5) (by decide) ?_
  refine v_ldcS dX21_init_39 st_X21_21 ?_
  refine v_aastS dX21_init_41 hF (fun h29 hF => ?_)
  refine v_dup dX21_init_42 rfl ?_
  refine v_bipush dX21_init_43 (v := 6) (by decide) ?_
  refine v_ldcS dX21_init_45 st_X21_23 ?_
  refine v_aastS dX21_init_47 hF (fun h30 hF => ?_)
  obtain ⟨h31, e_h31, hF⟩ := Option.bind_eq_some_iff.mp hF
  refine v_calI dX21_init_48 il_X21_25 q770 (ct_X7_init e_h31) rfl rfl (Nat.le_trans (Nat.le_of_ble_eq_true rfl) hfr) (Nat.le_trans (Nat.le_of_ble_eq_true rfl) hlo) (Nat.le_of_ble_eq_true rfl) ?_
  refine v_aload_n dX21_init_51 rfl 0 rfl ?_
  refine v_bipush dX21_init_52 (v := 12) (by decide) ?_
  refine v_anew dX21_init_54 rfl q1167 q1496 hF (fun a32 h33 hF => ?_)
  refine v_put dX21_init_57 pl_X21_33 (fun _ => rfl) rfl rfl hF (fun h34 hF => ?_)
  cases hF
  exact v_vret dX21_init_60 rfl rfl rfl
def X21_init (a0 : Nat) (a1 : Nat) (h : Hp) : Option Hp := (ob h a0 [18]).bind fun _ => X21_init_b a0 a1 h
theorem rc_X21_init  {r : Hp} {a0 : Nat} {a1 : Nat} {h : Hp} (hF : X21_init a0 a1 h = some r) : RC h a0 [18] := by
  obtain ⟨o, ho, -⟩ := Option.bind_eq_some_iff.mp hF
  exact ⟨o, ho⟩
theorem ct_X21_init {l : Launch} {G : GT} {r : Hp} {a0 : Nat} {a1 : Nat} {h : Hp} (hF : X21_init a0 a1 h = some r) : Ct l G yX21_init (ws_ yX21_init cX21_init 2 (Option.none : Option Jvm.ClassFile.FieldType)) 2 42 [.ref a0, .ref a1] h none r :=
  ct_of (by decide) (Nat.le_of_ble_eq_true rfl) (w_X21_init_b (Nat.le_refl _) (Nat.le_refl _) (Option.bind_eq_some_iff.mp hF).choose_spec.2)
theorem vl_X21_37 : ∀ ci ∈ [18], VL RX21 37 ci yX7_readAll 0 := by
  intro ci h
  simp only [List.mem_cons, List.not_mem_nil, or_false] at h
  subst h; exact ⟨RX21, TX21, 10, rfl, q158, ⟨by decide, by decide⟩, by decide +kernel, q824, Or.inr (Or.inr (Or.inl ⟨⟨"LeekReadings$OrderReader", "readAll", "()I"⟩, "LeekReadings$Reader", q1516, q1517, q1518, ⟨by decide, by decide⟩, by decide +kernel, Or.inl rfl⟩))⟩
theorem ac_X21_41 : ACL RX21 41 := ⟨q1519, q735, q734, q157⟩
theorem kla_10 : KL "LeekReadings$Act" [17] := by
  intro ci h
  simp only [List.mem_cons, List.not_mem_nil, or_false] at h
  subst h; exact ⟨(RX20, TX20, 6), rfl, Or.inl rfl⟩
def X21_read_2_b (N : Nat) (a0 : Nat) (h : Hp) : Option ((Nat ⊕ Nat) × Hp) :=
  (ob h a0 [18]).bind fun _ =>
  bdx (X7_readAll N a0 h) fun v22 h21 =>
  bd2 (na h21 10 v22 (.inr (.inr (.inr (.inr (fun _ => none)))))) fun a24 h25 =>
  (gr h25 a0 [18] 8).bind fun v26 =>
  (alen h25 a24 10).bind fun v27 =>
  (cpQ h25 10 [17] v26 (0 : Int32) a24 (0 : Int32) v27).bind fun h28 =>
  some (.inr a24, h28)
theorem w_X21_read_2_b {l : Launch} {G : GT} {fr lo : Nat} {h0 : Hp} {N : Nat} {r : ((Nat ⊕ Nat) × Hp)} (hfr : 107 ≤ fr) (hlo : 2337 ≤ lo) {a0 : Nat} {h : Hp} (hF : X21_read_2_b N a0 h = some r) : V l G cX21_read_2 RX21 "read" 2 (Option.some (Jvm.ClassFile.FieldType.array (Jvm.ClassFile.FieldType.object "LeekReadings$Act"))) fr lo h0 r.2 (QX G [] (rsA r.1) h0 r.2) 0 [(0, .ref a0)] [] h := by
  unfold X21_read_2_b at hF
  refine v_aload_n dX21_read_2_0 rfl 0 rfl ?_
  obtain ⟨o23, q_o23, hF⟩ := Option.bind_eq_some_iff.mp hF
  rcases bdx_spec hF with ⟨q9, h9, o9, e_h21, w9, e9⟩ | ⟨v22, h21, e_h21, hF⟩
  · subst e9
    exact v_calVXt dX21_read_2_1 vl_X21_37 q825 ⟨o23, q_o23⟩ (ct_X7_readAll e_h21) rfl rfl (Nat.le_trans (Nat.le_of_ble_eq_true rfl) hfr) (Nat.le_trans (Nat.le_of_ble_eq_true rfl) hlo) (Nat.le_of_ble_eq_true rfl) (x_out w9 tb0 rfl)
  · refine v_calVXn1 dX21_read_2_1 vl_X21_37 q825 ⟨o23, q_o23⟩ (ct_X7_readAll e_h21) rfl rfl (Nat.le_trans (Nat.le_of_ble_eq_true rfl) hfr) (Nat.le_trans (Nat.le_of_ble_eq_true rfl) hlo) (Nat.le_of_ble_eq_true rfl) ?_
    refine v_anew dX21_read_2_4 rfl q1167 q1496 hF (fun a24 h25 hF => ?_)
    refine v_astore_n dX21_read_2_7 rfl (Nat.le_of_ble_eq_true rfl) (L' := [(1, .ref a24), (0, .ref a0)]) rfl ?_
    refine v_aload_n dX21_read_2_8 rfl 1 rfl ?_
    refine v_getr dX21_read_2_9 fl_X21_33 hF (fun v26 hF => ?_)
    refine v_iconst dX21_read_2_12 (v := 0) (by decide) ?_
    refine v_aload_n dX21_read_2_13 rfl 0 rfl ?_
    refine v_iconst dX21_read_2_14 (v := 0) (by decide) ?_
    refine v_aload_n dX21_read_2_15 rfl 0 rfl ?_
    refine v_alen (k := 10) rfl dX21_read_2_16 hF (fun v27 hF => ?_)
    refine v_cpQ dX21_read_2_17 ac_X21_41 (k := 10) rfl kla_10 (by omega) (by have : lwAC ≤ 60 := Nat.le_of_ble_eq_true rfl; omega) (Nat.le_of_ble_eq_true rfl) hF (fun h28 hF => ?_)
    refine v_aload_n dX21_read_2_20 rfl 0 rfl ?_
    cases hF
    exact v_toX (v_aret (x := some _) dX21_read_2_21 rfl (Or.inr ⟨_, rfl⟩) rfl rfl)
def X21_read_2 (N : Nat) (a0 : Nat) (h : Hp) : Option ((Nat ⊕ Nat) × Hp) := (ob h a0 [18]).bind fun _ => X21_read_2_b N a0 h
theorem rc_X21_read_2 {N : Nat}  {r : ((Nat ⊕ Nat) × Hp)} {a0 : Nat} {h : Hp} (hF : X21_read_2 N a0 h = some r) : RC h a0 [18] := by
  obtain ⟨o, ho, -⟩ := Option.bind_eq_some_iff.mp hF
  exact ⟨o, ho⟩
theorem ct_X21_read_2 {l : Launch} {G : GT} {N : Nat} {r : ((Nat ⊕ Nat) × Hp)} {a0 : Nat} {h : Hp} (hF : X21_read_2 N a0 h = some r) : CtX l G yX21_read_2 (ws_ yX21_read_2 cX21_read_2 2 (Option.some (Jvm.ClassFile.FieldType.array (Jvm.ClassFile.FieldType.object "LeekReadings$Act")))) 107 2337 [.ref a0] h (rsA r.1) r.2 :=
  ctX_of (by decide) (Nat.le_of_ble_eq_true rfl) (w_X21_read_2_b (Nat.le_refl _) (Nat.le_refl _) (Option.bind_eq_some_iff.mp hF).choose_spec.2)
def X3_as_L10 (N : Nat) (x10 : Hp → Option Hp) : Nat → Nat → Nat → Int32 → Hp → Option Hp
  | 0, _, _, _, _ => none
  | n35 + 1, v23, v24, v25, h26 =>
    (gi h26 v23 [3] 1).bind fun v28 =>
    if v28 ≤ v25 then
      x10 h26
    else
      (gr h26 v23 [3] 0).bind fun v29 =>
      (aR h26 v29 6 v25).bind fun v30 =>
      (gr h26 v24 [3] 0).bind fun v31 =>
      (aR h26 v31 6 v25).bind fun v32 =>
      bd2 (X2_as v30 v32 h26) fun v34 h33 =>
      (X3_as_L10 N x10 n35) v23 v24 (v25 + (1 : Int32)) h33
theorem w_X3_as_L10 {l : Launch} {G : GT} {fr lo : Nat} {h0 : Hp} {N : Nat} {r : Hp} (hfr : 2 ≤ fr) (hlo : 81 ≤ lo) {x10 : Hp → Option Hp} (hx10 : ∀ (h27 : Hp), x10 h27 = some r → V l G cX3_as RX3 "as" 3 (Option.none : Option Jvm.ClassFile.FieldType) fr lo h0 r (QM G none h0 r) 40 [] [] h27) : ∀ (n : Nat) (v23 : Nat) (v24 : Nat) (v25 : Int32) (h26 : Hp), X3_as_L10 N x10 n v23 v24 v25 h26 = some r → V l G cX3_as RX3 "as" 3 (Option.none : Option Jvm.ClassFile.FieldType) fr lo h0 r (QM G none h0 r) 10 [(0, .ref v23), (1, .ref v24), (2, .int v25)] [] h26 := by
  intro n
  induction n with
  | zero =>
    intro v23 v24 v25 h26 hF
    cases (show (none : Option Hp) = some r from hF)
  | succ n hc10 =>
    intro v23 v24 v25 h26 hF
    rw [X3_as_L10] at hF
    refine v_iload_n dX3_as_10 rfl 2 rfl ?_
    refine v_aload_n dX3_as_11 rfl 0 rfl ?_
    refine v_geti dX3_as_12 fl_X3_18 hF (fun v28 hF => ?_)
    refine v_icmp_ge (tgt := 40) dX3_as_15 (by decide) hF (fun hF => ?_) (fun hF => ?_)
    · exact v_sub [] rfl (hx10 _ hF)
    · refine v_aload_n dX3_as_18 rfl 0 rfl ?_
      refine v_getr dX3_as_19 fl_X3_11 hF (fun v29 hF => ?_)
      refine v_iload_n dX3_as_22 rfl 2 rfl ?_
      refine v_aaldr rfl rfl dX3_as_23 hF (fun v30 hF => ?_)
      refine v_aload_n dX3_as_24 rfl 1 rfl ?_
      refine v_getr dX3_as_25 fl_X3_11 hF (fun v31 hF => ?_)
      refine v_iload_n dX3_as_28 rfl 2 rfl ?_
      refine v_aaldr rfl rfl dX3_as_29 hF (fun v32 hF => ?_)
      obtain ⟨v34, h33, e_v34, hF⟩ := bd2_spec hF
      refine v_calV1 dX3_as_30 vl_X3_28 q1318 (rc_X2_as e_v34) (ct_X2_as e_v34) rfl rfl (Nat.le_trans (Nat.le_of_ble_eq_true rfl) hfr) (Nat.le_trans (Nat.le_of_ble_eq_true rfl) hlo) (Nat.le_of_ble_eq_true rfl) ?_
      refine v_pop dX3_as_33 rfl ?_
      refine v_iinc dX3_as_34 2 rfl (v := v25 + (1 : Int32)) (by rfl) (Nat.le_of_ble_eq_true rfl) (L' := [(2, .int (v25 + (1 : Int32))), (0, .ref v23), (1, .ref v24)]) rfl ?_
      refine v_goto (tgt := 10) dX3_as_37 (by decide) ?_
      exact v_sub [1, 2, 0] rfl (hc10 _ _ _ _ hF)
def X3_as_b (N : Nat) (a0 : Nat) (a1 : Nat) (h : Hp) : Option Hp :=
  (gi h a1 [3] 1).bind fun v21 =>
  (po h a0 [3] 1 (.int v21)).bind fun h22 =>
  X3_as_L10 N (fun h36 =>
    some h36) N a0 a1 (0 : Int32) h22
theorem w_X3_as_b {l : Launch} {G : GT} {fr lo : Nat} {h0 : Hp} {N : Nat} {r : Hp} (hfr : 2 ≤ fr) (hlo : 81 ≤ lo) {a0 : Nat} {a1 : Nat} {h : Hp} (hF : X3_as_b N a0 a1 h = some r) : V l G cX3_as RX3 "as" 3 (Option.none : Option Jvm.ClassFile.FieldType) fr lo h0 r (QM G none h0 r) 0 [(0, .ref a0), (1, .ref a1)] [] h := by
  unfold X3_as_b at hF
  refine v_aload_n dX3_as_0 rfl 0 rfl ?_
  refine v_aload_n dX3_as_1 rfl 1 rfl ?_
  refine v_geti dX3_as_2 fl_X3_18 hF (fun v21 hF => ?_)
  refine v_put dX3_as_5 pl_X3_18 (fun z => by cases z) rfl rfl hF (fun h22 hF => ?_)
  refine v_iconst dX3_as_8 (v := 0) (by decide) ?_
  refine v_istore_n dX3_as_9 rfl (Nat.le_of_ble_eq_true rfl) (L' := [(2, .int (0 : Int32)), (0, .ref a0), (1, .ref a1)]) rfl ?_
  refine v_sub [1, 2, 0] rfl (w_X3_as_L10 hfr hlo ?_ N _ _ _ _ hF)
  intro h36 hF
  cases hF
  exact v_vret dX3_as_40 rfl rfl rfl
def X3_as (N : Nat) (a0 : Nat) (a1 : Nat) (h : Hp) : Option Hp := (ob h a0 [3]).bind fun _ => X3_as_b N a0 a1 h
theorem rc_X3_as {N : Nat}  {r : Hp} {a0 : Nat} {a1 : Nat} {h : Hp} (hF : X3_as N a0 a1 h = some r) : RC h a0 [3] := by
  obtain ⟨o, ho, -⟩ := Option.bind_eq_some_iff.mp hF
  exact ⟨o, ho⟩
theorem ct_X3_as {l : Launch} {G : GT} {N : Nat} {r : Hp} {a0 : Nat} {a1 : Nat} {h : Hp} (hF : X3_as N a0 a1 h = some r) : Ct l G yX3_as (ws_ yX3_as cX3_as 3 (Option.none : Option Jvm.ClassFile.FieldType)) 2 81 [.ref a0, .ref a1] h none r :=
  ct_of (by decide) (Nat.le_of_ble_eq_true rfl) (w_X3_as_b (Nat.le_refl _) (Nat.le_refl _) (Option.bind_eq_some_iff.mp hF).choose_spec.2)
theorem nl_X0_429 : NL RX0 429 18 10 [.int 0, .int 0, .int 0, .int 0, .int 0, .null, .null, .null, .null, .null] := ⟨RX21, TX21, tyX21, rfl, in_X21, tyX21_ok, q1483, q1161, q176, by decide +kernel⟩
theorem il_X0_431 : IL RX0 431 yX21_init 1 := ⟨q176, ⟨by decide, by decide⟩, by decide +kernel, q1485, rfl, Or.inl q1484⟩
theorem vl_X0_432 : ∀ ci ∈ [18], VL RX0 432 ci yX21_read_2 0 := by
  intro ci h
  simp only [List.mem_cons, List.not_mem_nil, or_false] at h
  subst h; exact ⟨RX21, TX21, 10, rfl, q176, ⟨by decide, by decide⟩, by decide +kernel, q1513, Or.inl ⟨q1512, q1514⟩⟩
theorem vl_X0_435 : ∀ ci ∈ [3], VL RX0 435 ci yX3_as 1 := by
  intro ci h
  simp only [List.mem_cons, List.not_mem_nil, or_false] at h
  subst h; exact ⟨RX3, TX3, 2, rfl, q143, ⟨by decide, by decide⟩, by decide +kernel, q1521, Or.inl ⟨q1520, q1522⟩⟩
theorem pl_X0_426 : PL RX0 426 [0] 26 (.int) false := by
  intro ci h
  simp only [List.mem_cons, List.not_mem_nil, or_false] at h
  subst h; exact ⟨RX0, _, TX0, 31, tyX0, rfl, in_X0, by decide, Or.inl q384, Or.inl rfl, tyX0_ok, rfl, by decide +kernel, rfl, fun z => by cases z⟩
theorem pl_X0_438 : PL RX0 438 [0] 27 (.int) false := by
  intro ci h
  simp only [List.mem_cons, List.not_mem_nil, or_false] at h
  subst h; exact ⟨RX0, _, TX0, 31, tyX0, rfl, in_X0, by decide, Or.inl q386, Or.inl rfl, tyX0_ok, rfl, by decide +kernel, rfl, fun z => by cases z⟩
theorem vl_X0_441 : ∀ ci ∈ [0], VL RX0 441 ci yX0_runAll 1 := by
  intro ci h
  simp only [List.mem_cons, List.not_mem_nil, or_false] at h
  subst h; exact ⟨RX0, TX0, 31, rfl, q137, ⟨by decide, by decide⟩, by decide +kernel, q1526, Or.inl ⟨q1524, qs46⟩⟩
theorem fl_X0_27 : FL RX0 27 [0] 3 := by
  intro ci h
  simp only [List.mem_cons, List.not_mem_nil, or_false] at h
  subst h; exact ⟨RX0, _, TX0, 31, rfl, in_X0, by decide, Or.inl q356, Or.inl rfl⟩
theorem fl_X0_33 : FL RX0 33 [0] 4 := by
  intro ci h
  simp only [List.mem_cons, List.not_mem_nil, or_false] at h
  subst h; exact ⟨RX0, _, TX0, 31, rfl, in_X0, by decide, Or.inl q357, Or.inl rfl⟩
def C_orders_J129 (N : Nat) (v40 : Nat) (v41 : Int32) (h42 : Hp) : Option (Int32 × Hp) :=
  bd2 (C_tell v40 v41 h42) fun v44 h43 =>
  some (v44, h43)
theorem w_C_orders_J129 {l : Launch} {G : GT} {fr lo : Nat} {h0 : Hp} {N : Nat} {r : (Int32 × Hp)} (hfr : 204 ≤ fr) (hlo : 5140 ≤ lo)   {v40 : Nat} {v41 : Int32} {h42 : Hp} (hF : C_orders_J129 N v40 v41 h42 = some r) : V l G cX0_orders RX0 "orders" 5 (Option.some Jvm.ClassFile.FieldType.int) fr lo h0 r.2 (QX G [(5, 22, 30, 256), (5, 22, 53, 0), (30, 46, 53, 0), (53, 55, 53, 0)] (.inr (some (.int r.1))) h0 r.2) 129 [(0, .ref v40), (2, .int v41)] [] h42 := by
  unfold C_orders_J129 at hF
  refine v_aload_n dX0_orders_129 rfl 0 rfl ?_
  refine v_iload_n dX0_orders_130 rfl 1 rfl ?_
  obtain ⟨v44, h43, e_v44, hF⟩ := bd2_spec hF
  refine v_calV1 dX0_orders_131 vl_X0_112 q494 (rc_C_tell e_v44) (ct_C_tell e_v44) rfl rfl (Nat.le_trans (Nat.le_of_ble_eq_true rfl) hfr) (Nat.le_trans (Nat.le_of_ble_eq_true rfl) hlo) (Nat.le_of_ble_eq_true rfl) ?_
  cases hF
  exact v_toX (v_iret dX0_orders_134 rfl rfl rfl rfl)
def C_orders_b (N : Nat) (a0 : Nat) (h : Hp) : Option (Int32 × Hp) :=
  (po h a0 [0] 13 (.int (-1 : Int32))).bind fun h21 =>
  bd2 (nwo h21 18 10 [.int 0, .int 0, .int 0, .int 0, .int 0, .null, .null, .null, .null, .null]) fun a22 h23 =>
  (X21_init a22 a0 h23).bind fun h24 =>
  bdc (X21_read_2 N a22 h24) (fun v26 h25 =>
    (po h25 a0 [0] 11 (.int (-1 : Int32))).bind fun h27 =>
    (po h27 a0 [0] 15 (.int (0 : Int32))).bind fun h28 =>
    (gr h28 a0 [0] 4).bind fun v29 =>
    (C_books h28 a0).bind fun v30 =>
    bd2 (X2_as v29 v30 h28) fun v32 h31 =>
    (gr h31 a0 [0] 3).bind fun v33 =>
    (gr h31 a0 [0] 2).bind fun v34 =>
    (X3_as N v33 v34 h31).bind fun h35 =>
    (po h35 a0 [0] 26 (.int (0 : Int32))).bind fun h36 =>
    (po h36 a0 [0] 27 (.int (-1 : Int32))).bind fun h37 =>
    bd2 (C_runAll N a0 v26 h37) fun v39 h38 =>
    if 0 ≤ v39 then
      C_orders_J129 N a0 v39 h38
    else
      (C_books h38 a0).bind fun v45 =>
      (gr h38 a0 [0] 4).bind fun v46 =>
      bd2 (X2_as v45 v46 h38) fun v48 h47 =>
      (gr h47 a0 [0] 2).bind fun v49 =>
      (gr h47 a0 [0] 3).bind fun v50 =>
      (X3_as N v49 v50 h47).bind fun h51 =>
      C_orders_J129 N a0 v39 h51) fun q52 h53 =>
  (gi h53 q52 [8] 6).bind fun v54 =>
  (po h53 a0 [0] 11 (.int v54)).bind fun h55 =>
  bd2 (C_tell a0 (-6 : Int32) h55) fun v57 h56 =>
  (po h56 a0 [0] 15 (.int (0 : Int32))).bind fun h58 =>
  some (v57, h58)
theorem w_C_orders_b {l : Launch} {G : GT} {fr lo : Nat} {h0 : Hp} {N : Nat} {r : (Int32 × Hp)} (hfr : 204 ≤ fr) (hlo : 5140 ≤ lo) {a0 : Nat} {h : Hp} (hF : C_orders_b N a0 h = some r) : V l G cX0_orders RX0 "orders" 5 (Option.some Jvm.ClassFile.FieldType.int) fr lo h0 r.2 (QX G [(5, 22, 30, 256), (5, 22, 53, 0), (30, 46, 53, 0), (53, 55, 53, 0)] (.inr (some (.int r.1))) h0 r.2) 0 [(0, .ref a0)] [] h := by
  unfold C_orders_b at hF
  refine v_aload_n dX0_orders_0 rfl 0 rfl ?_
  refine v_iconst dX0_orders_1 (v := -1) (by decide) ?_
  refine v_put dX0_orders_2 pl_X0_69 (fun z => by cases z) rfl rfl hF (fun h21 hF => ?_)
  refine v_new dX0_orders_5 nl_X0_429 hF (fun a22 h23 hF => ?_)
  refine v_dup dX0_orders_8 rfl ?_
  refine v_aload_n dX0_orders_9 rfl 0 rfl ?_
  obtain ⟨h24, e_h24, hF⟩ := Option.bind_eq_some_iff.mp hF
  refine v_calI dX0_orders_10 il_X0_431 q1486 (ct_X21_init e_h24) rfl rfl (Nat.le_trans (Nat.le_of_ble_eq_true rfl) hfr) (Nat.le_trans (Nat.le_of_ble_eq_true rfl) hlo) (Nat.le_of_ble_eq_true rfl) ?_
  rcases bdc_spec hF with ⟨q52, h53, o9, e_h25, w9, hF⟩ | ⟨v26, h25, e_h25, hF⟩
  · refine v_calVXt dX0_orders_13 vl_X0_432 q1515 (rc_X21_read_2 e_h25) (ct_X21_read_2 e_h25) rfl rfl (Nat.le_trans (Nat.le_of_ble_eq_true rfl) hfr) (Nat.le_trans (Nat.le_of_ble_eq_true rfl) hlo) (Nat.le_of_ble_eq_true rfl) (x_catch [] _ _ w9 rfl (fun z hz => nomatch hz) (by decide) (by decide) q747 ?_)
    refine v_astore_n dX0_orders_30 rfl (Nat.le_of_ble_eq_true rfl) (L' := [(2, .ref q52), (0, .ref a0)]) rfl ?_
    refine v_aload_n dX0_orders_31 rfl 1 rfl ?_
    refine v_aload_n dX0_orders_32 rfl 0 rfl ?_
    refine v_geti dX0_orders_33 fl_X0_258 hF (fun v54 hF => ?_)
    refine v_put dX0_orders_36 pl_X0_65 (fun z => by cases z) rfl rfl hF (fun h55 hF => ?_)
    refine v_aload_n dX0_orders_39 rfl 1 rfl ?_
    refine v_bipush dX0_orders_40 (v := -6) (by decide) ?_
    obtain ⟨v57, h56, e_v57, hF⟩ := bd2_spec hF
    refine v_calV1 dX0_orders_42 vl_X0_112 q494 (rc_C_tell e_v57) (ct_C_tell e_v57) rfl rfl (Nat.le_trans (Nat.le_of_ble_eq_true rfl) hfr) (Nat.le_trans (Nat.le_of_ble_eq_true rfl) hlo) (Nat.le_of_ble_eq_true rfl) ?_
    refine v_istore_n dX0_orders_45 rfl (Nat.le_of_ble_eq_true rfl) (L' := [(3, .int v57), (2, .ref q52), (0, .ref a0)]) rfl ?_
    refine v_aload_n dX0_orders_46 rfl 2 rfl ?_
    refine v_iconst dX0_orders_47 (v := 0) (by decide) ?_
    refine v_put dX0_orders_48 pl_X0_148 (fun z => by cases z) rfl rfl hF (fun h58 hF => ?_)
    refine v_iload_n dX0_orders_51 rfl 0 rfl ?_
    cases hF
    exact v_toX (v_iret dX0_orders_52 rfl rfl rfl rfl)
  · refine v_calVXn1 dX0_orders_13 vl_X0_432 q1515 (rc_X21_read_2 e_h25) (ct_X21_read_2 e_h25) rfl rfl (Nat.le_trans (Nat.le_of_ble_eq_true rfl) hfr) (Nat.le_trans (Nat.le_of_ble_eq_true rfl) hlo) (Nat.le_of_ble_eq_true rfl) ?_
    refine v_astore_n dX0_orders_16 rfl (Nat.le_of_ble_eq_true rfl) (L' := [(1, .ref v26), (0, .ref a0)]) rfl ?_
    refine v_aload_n dX0_orders_17 rfl 1 rfl ?_
    refine v_iconst dX0_orders_18 (v := -1) (by decide) ?_
    refine v_put dX0_orders_19 pl_X0_65 (fun z => by cases z) rfl rfl hF (fun h27 hF => ?_)
    refine v_aload_n dX0_orders_22 rfl 1 rfl ?_
    refine v_iconst dX0_orders_23 (v := 0) (by decide) ?_
    refine v_put dX0_orders_24 pl_X0_148 (fun z => by cases z) rfl rfl hF (fun h28 hF => ?_)
    refine v_goto (tgt := 63) dX0_orders_27 (by decide) ?_
    refine v_aload_n dX0_orders_63 rfl 1 rfl ?_
    refine v_getr dX0_orders_64 fl_X0_33 hF (fun v29 hF => ?_)
    refine v_aload_n dX0_orders_67 rfl 1 rfl ?_
    obtain ⟨v30, e_v30, hF⟩ := Option.bind_eq_some_iff.mp hF
    refine v_calV1 dX0_orders_68 vl_X0_135 q486 (rc_C_books e_v30) (ct_C_books e_v30) rfl rfl (Nat.le_trans (Nat.le_of_ble_eq_true rfl) hfr) (Nat.le_trans (Nat.le_of_ble_eq_true rfl) hlo) (Nat.le_of_ble_eq_true rfl) ?_
    obtain ⟨v32, h31, e_v32, hF⟩ := bd2_spec hF
    refine v_calV1 dX0_orders_71 vl_X0_334 q1318 (rc_X2_as e_v32) (ct_X2_as e_v32) rfl rfl (Nat.le_trans (Nat.le_of_ble_eq_true rfl) hfr) (Nat.le_trans (Nat.le_of_ble_eq_true rfl) hlo) (Nat.le_of_ble_eq_true rfl) ?_
    refine v_pop dX0_orders_74 rfl ?_
    refine v_aload_n dX0_orders_75 rfl 1 rfl ?_
    refine v_getr dX0_orders_76 fl_X0_27 hF (fun v33 hF => ?_)
    refine v_aload_n dX0_orders_79 rfl 1 rfl ?_
    refine v_getr dX0_orders_80 fl_X0_23 hF (fun v34 hF => ?_)
    obtain ⟨h35, e_h35, hF⟩ := Option.bind_eq_some_iff.mp hF
    refine v_calV0 dX0_orders_83 vl_X0_435 q1523 (rc_X3_as e_h35) (ct_X3_as e_h35) rfl rfl (Nat.le_trans (Nat.le_of_ble_eq_true rfl) hfr) (Nat.le_trans (Nat.le_of_ble_eq_true rfl) hlo) (Nat.le_of_ble_eq_true rfl) ?_
    refine v_aload_n dX0_orders_86 rfl 1 rfl ?_
    refine v_iconst dX0_orders_87 (v := 0) (by decide) ?_
    refine v_put dX0_orders_88 pl_X0_426 (fun z => by cases z) rfl rfl hF (fun h36 hF => ?_)
    refine v_aload_n dX0_orders_91 rfl 1 rfl ?_
    refine v_iconst dX0_orders_92 (v := -1) (by decide) ?_
    refine v_put dX0_orders_93 pl_X0_438 (fun z => by cases z) rfl rfl hF (fun h37 hF => ?_)
    refine v_aload_n dX0_orders_96 rfl 1 rfl ?_
    refine v_aload_n dX0_orders_97 rfl 0 rfl ?_
    obtain ⟨v39, h38, e_v39, hF⟩ := bd2_spec hF
    refine v_calV1 dX0_orders_98 vl_X0_441 q1527 (rc_C_runAll e_v39) (ct_C_runAll e_v39) rfl rfl (Nat.le_trans (Nat.le_of_ble_eq_true rfl) hfr) (Nat.le_trans (Nat.le_of_ble_eq_true rfl) hlo) (Nat.le_of_ble_eq_true rfl) ?_
    refine v_istore_n dX0_orders_101 rfl (Nat.le_of_ble_eq_true rfl) (L' := [(2, .int v39), (1, .ref v26), (0, .ref a0)]) rfl ?_
    refine v_iload_n dX0_orders_102 rfl 0 rfl ?_
    refine v_if_ge (tgt := 129) dX0_orders_103 (by decide) hF (fun hF => ?_) (fun hF => ?_)
    · exact v_sub [2, 0] rfl (w_C_orders_J129 hfr hlo hF)
    · refine v_aload_n dX0_orders_106 rfl 2 rfl ?_
      obtain ⟨v45, e_v45, hF⟩ := Option.bind_eq_some_iff.mp hF
      refine v_calV1 dX0_orders_107 vl_X0_135 q486 (rc_C_books e_v45) (ct_C_books e_v45) rfl rfl (Nat.le_trans (Nat.le_of_ble_eq_true rfl) hfr) (Nat.le_trans (Nat.le_of_ble_eq_true rfl) hlo) (Nat.le_of_ble_eq_true rfl) ?_
      refine v_aload_n dX0_orders_110 rfl 2 rfl ?_
      refine v_getr dX0_orders_111 fl_X0_33 hF (fun v46 hF => ?_)
      obtain ⟨v48, h47, e_v48, hF⟩ := bd2_spec hF
      refine v_calV1 dX0_orders_114 vl_X0_334 q1318 (rc_X2_as e_v48) (ct_X2_as e_v48) rfl rfl (Nat.le_trans (Nat.le_of_ble_eq_true rfl) hfr) (Nat.le_trans (Nat.le_of_ble_eq_true rfl) hlo) (Nat.le_of_ble_eq_true rfl) ?_
      refine v_pop dX0_orders_117 rfl ?_
      refine v_aload_n dX0_orders_118 rfl 2 rfl ?_
      refine v_getr dX0_orders_119 fl_X0_23 hF (fun v49 hF => ?_)
      refine v_aload_n dX0_orders_122 rfl 2 rfl ?_
      refine v_getr dX0_orders_123 fl_X0_27 hF (fun v50 hF => ?_)
      obtain ⟨h51, e_h51, hF⟩ := Option.bind_eq_some_iff.mp hF
      refine v_calV0 dX0_orders_126 vl_X0_435 q1523 (rc_X3_as e_h51) (ct_X3_as e_h51) rfl rfl (Nat.le_trans (Nat.le_of_ble_eq_true rfl) hfr) (Nat.le_trans (Nat.le_of_ble_eq_true rfl) hlo) (Nat.le_of_ble_eq_true rfl) ?_
      exact v_sub [2, 0] rfl (w_C_orders_J129 hfr hlo hF)
def C_orders (N : Nat) (a0 : Nat) (h : Hp) : Option (Int32 × Hp) := (ob h a0 [0]).bind fun _ => C_orders_b N a0 h
theorem rc_C_orders {N : Nat}  {r : (Int32 × Hp)} {a0 : Nat} {h : Hp} (hF : C_orders N a0 h = some r) : RC h a0 [0] := by
  obtain ⟨o, ho, -⟩ := Option.bind_eq_some_iff.mp hF
  exact ⟨o, ho⟩
theorem ct_C_orders {l : Launch} {G : GT} {N : Nat} {r : (Int32 × Hp)} {a0 : Nat} {h : Hp} (hF : C_orders N a0 h = some r) : Ct l G yX0_orders (wsH_ yX0_orders cX0_orders 5 (Option.some Jvm.ClassFile.FieldType.int) [(5, 22, 30, 256), (5, 22, 53, 0), (30, 46, 53, 0), (53, 55, 53, 0)]) 204 5140 [.ref a0] h (some (.int r.1)) r.2 :=
  ct_ofH (by decide) (Nat.le_of_ble_eq_true rfl) (w_C_orders_b (Nat.le_refl _) (Nat.le_refl _) (Option.bind_eq_some_iff.mp hF).choose_spec.2)
theorem fl_X0_69 : FL RX0 69 [0] 13 := by
  intro ci h
  simp only [List.mem_cons, List.not_mem_nil, or_false] at h
  subst h; exact ⟨RX0, _, TX0, 31, rfl, in_X0, by decide, Or.inl q367, Or.inl rfl⟩
def C_stopped_b (h : Hp) (a0 : Nat) : Option Int32 :=
  (gi h a0 [0] 13).bind fun v21 =>
  some v21
theorem w_C_stopped_b {l : Launch} {G : GT} {fr lo : Nat} {h0 : Hp} {h : Hp} {r : Int32} (hfr : 0 ≤ fr) (hlo : 0 ≤ lo) {a0 : Nat} (hF : C_stopped_b h a0 = some r) : V l G cX0_stopped RX0 "stopped" 1 (Option.some Jvm.ClassFile.FieldType.int) fr lo h0 h (QM G (some (.int r)) h0 h) 0 [(0, .ref a0)] [] h := by
  unfold C_stopped_b at hF
  refine v_aload_n dX0_stopped_0 rfl 0 rfl ?_
  refine v_geti dX0_stopped_1 fl_X0_69 hF (fun v21 hF => ?_)
  cases hF
  exact v_iret dX0_stopped_4 rfl rfl rfl rfl
def C_stopped (h : Hp) (a0 : Nat) : Option Int32 := (ob h a0 [0]).bind fun _ => C_stopped_b h a0
theorem rc_C_stopped {h : Hp}  {r : Int32} {a0 : Nat} (hF : C_stopped h a0 = some r) : RC h a0 [0] := by
  obtain ⟨o, ho, -⟩ := Option.bind_eq_some_iff.mp hF
  exact ⟨o, ho⟩
theorem ct_C_stopped {l : Launch} {G : GT} {h : Hp} {r : Int32} {a0 : Nat} (hF : C_stopped h a0 = some r) : Ct l G yX0_stopped (ws_ yX0_stopped cX0_stopped 1 (Option.some Jvm.ClassFile.FieldType.int)) 0 0 [.ref a0] h (some (.int r)) h :=
  ct_of (by decide) (Nat.le_of_ble_eq_true rfl) (w_C_stopped_b (Nat.le_refl _) (Nat.le_refl _) (Option.bind_eq_some_iff.mp hF).choose_spec.2)
theorem pl_X22_7 : PL RX22 7 [19] 0 (.long) false := by
  intro ci h
  simp only [List.mem_cons, List.not_mem_nil, or_false] at h
  subst h; exact ⟨RX22, _, TX22, 1, tyX22, rfl, in_X22, by decide, Or.inl q1571, Or.inl rfl, tyX22_ok, rfl, by decide +kernel, rfl, fun z => by cases z⟩
def X22_init_b (a0 : Nat) (a1 : Int32) (h : Hp) : Option Hp :=
  (po h a0 [19] 0 (.long a1.toInt64)).bind fun h21 =>
  some h21
theorem w_X22_init_b {l : Launch} {G : GT} {fr lo : Nat} {h0 : Hp} {r : Hp} (hfr : 1 ≤ fr) (hlo : 20 ≤ lo) {a0 : Nat} {a1 : Int32} {h : Hp} (hF : X22_init_b a0 a1 h = some r) : V l G cX22_init RX22 "<init>" 2 (Option.none : Option Jvm.ClassFile.FieldType) fr lo h0 r (QM G none h0 r) 0 [(0, .ref a0), (1, .int a1)] [] h := by
  unfold X22_init_b at hF
  refine v_aload_n dX22_init_0 rfl 0 rfl ?_
  refine v_objInit dX22_init_1 q1570 q184 q185 (by omega) (by omega) (Nat.le_of_ble_eq_true rfl) ?_
  refine v_aload_n dX22_init_4 rfl 0 rfl ?_
  refine v_iload_n dX22_init_5 rfl 1 rfl ?_
  refine v_i2l dX22_init_6 ?_
  refine v_put dX22_init_7 pl_X22_7 (fun z => by cases z) rfl rfl hF (fun h21 hF => ?_)
  cases hF
  exact v_vret dX22_init_10 rfl rfl rfl
def X22_init (a0 : Nat) (a1 : Int32) (h : Hp) : Option Hp := (ob h a0 [19]).bind fun _ => X22_init_b a0 a1 h
theorem rc_X22_init  {r : Hp} {a0 : Nat} {a1 : Int32} {h : Hp} (hF : X22_init a0 a1 h = some r) : RC h a0 [19] := by
  obtain ⟨o, ho, -⟩ := Option.bind_eq_some_iff.mp hF
  exact ⟨o, ho⟩
theorem ct_X22_init {l : Launch} {G : GT} {r : Hp} {a0 : Nat} {a1 : Int32} {h : Hp} (hF : X22_init a0 a1 h = some r) : Ct l G yX22_init (ws_ yX22_init cX22_init 2 (Option.none : Option Jvm.ClassFile.FieldType)) 1 20 [.ref a0, .int a1] h none r :=
  ct_of (by decide) (Nat.le_of_ble_eq_true rfl) (w_X22_init_b (Nat.le_refl _) (Nat.le_refl _) (Option.bind_eq_some_iff.mp hF).choose_spec.2)
theorem fl_X22_7 : FL RX22 7 [19] 0 := by
  intro ci h
  simp only [List.mem_cons, List.not_mem_nil, or_false] at h
  subst h; exact ⟨RX22, _, TX22, 1, rfl, in_X22, by decide, Or.inl q1571, Or.inl rfl⟩
def X22_next_b (a0 : Nat) (a1 : Int32) (h : Hp) : Option (Int32 × Hp) :=
  (gl h a0 [19] 0).bind fun v21 =>
  if (1000003 : Int64) = 0 then none else
  (po h a0 [19] 0 (.long (((v21 * (1103 : Int64)) + (12345 : Int64)) - ((v21 * (1103 : Int64)) + (12345 : Int64)) / (1000003 : Int64) * (1000003 : Int64)))).bind fun h22 =>
  (gl h22 a0 [19] 0).bind fun v23 =>
  if a1.toInt64 = 0 then none else
  some ((v23 - v23 / a1.toInt64 * a1.toInt64).toInt32, h22)
theorem w_X22_next_b {l : Launch} {G : GT} {fr lo : Nat} {h0 : Hp} {r : (Int32 × Hp)} (hfr : 0 ≤ fr) (hlo : 0 ≤ lo) {a0 : Nat} {a1 : Int32} {h : Hp} (hF : X22_next_b a0 a1 h = some r) : V l G cX22_next RX22 "next" 2 (Option.some Jvm.ClassFile.FieldType.int) fr lo h0 r.2 (QM G (some (.int r.1)) h0 r.2) 0 [(0, .ref a0), (1, .int a1)] [] h := by
  unfold X22_next_b at hF
  refine v_aload_n dX22_next_0 rfl 0 rfl ?_
  refine v_aload_n dX22_next_1 rfl 0 rfl ?_
  refine v_getl dX22_next_2 fl_X22_7 hF (fun v21 hF => ?_)
  refine v_ldc2 dX22_next_5 q1579 ?_
  refine v_lmul dX22_next_8 ?_
  refine v_ldc2 dX22_next_9 q1580 ?_
  refine v_ladd dX22_next_12 ?_
  refine v_ldc2 dX22_next_13 q1581 ?_
  refine v_lrem dX22_next_16 hF (fun hF => ?_)
  refine v_put dX22_next_17 pl_X22_7 (fun z => by cases z) rfl rfl hF (fun h22 hF => ?_)
  refine v_aload_n dX22_next_20 rfl 0 rfl ?_
  refine v_getl dX22_next_21 fl_X22_7 hF (fun v23 hF => ?_)
  refine v_iload_n dX22_next_24 rfl 1 rfl ?_
  refine v_i2l dX22_next_25 ?_
  refine v_lrem dX22_next_26 hF (fun hF => ?_)
  refine v_l2i dX22_next_27 ?_
  cases hF
  exact v_iret dX22_next_28 rfl rfl rfl rfl
def X22_next (a0 : Nat) (a1 : Int32) (h : Hp) : Option (Int32 × Hp) := (ob h a0 [19]).bind fun _ => X22_next_b a0 a1 h
theorem rc_X22_next  {r : (Int32 × Hp)} {a0 : Nat} {a1 : Int32} {h : Hp} (hF : X22_next a0 a1 h = some r) : RC h a0 [19] := by
  obtain ⟨o, ho, -⟩ := Option.bind_eq_some_iff.mp hF
  exact ⟨o, ho⟩
theorem ct_X22_next {l : Launch} {G : GT} {r : (Int32 × Hp)} {a0 : Nat} {a1 : Int32} {h : Hp} (hF : X22_next a0 a1 h = some r) : Ct l G yX22_next (ws_ yX22_next cX22_next 2 (Option.some Jvm.ClassFile.FieldType.int)) 0 0 [.ref a0, .int a1] h (some (.int r.1)) r.2 :=
  ct_of (by decide) (Nat.le_of_ble_eq_true rfl) (w_X22_next_b (Nat.le_refl _) (Nat.le_refl _) (Option.bind_eq_some_iff.mp hF).choose_spec.2)
theorem nl_X0_447 : NL RX0 447 19 1 [.long 0] := ⟨RX22, TX22, tyX22, rfl, in_X22, tyX22_ok, q1565, q1566, q177, by decide +kernel⟩
theorem il_X0_449 : IL RX0 449 yX22_init 1 := ⟨q177, ⟨by decide, by decide⟩, by decide +kernel, q1568, rfl, Or.inl q1567⟩
theorem vl_X0_451 : ∀ ci ∈ [19], VL RX0 451 ci yX22_next 1 := by
  intro ci h
  simp only [List.mem_cons, List.not_mem_nil, or_false] at h
  subst h; exact ⟨RX22, TX22, 1, rfl, q177, ⟨by decide, by decide⟩, by decide +kernel, q1576, Or.inl ⟨q1575, q1577⟩⟩
theorem vl_X0_454 : ∀ ci ∈ [2], VL RX0 454 ci yX2_all 0 := by
  intro ci h
  simp only [List.mem_cons, List.not_mem_nil, or_false] at h
  subst h; exact ⟨RX2, TX2, 4, rfl, q142, ⟨by decide, by decide⟩, by decide +kernel, q1539, Or.inl ⟨q1582, q1540⟩⟩
theorem fl_X0_37 : FL RX0 37 [0] 5 := by
  intro ci h
  simp only [List.mem_cons, List.not_mem_nil, or_false] at h
  subst h; exact ⟨RX0, _, TX0, 31, rfl, in_X0, by decide, Or.inl q358, Or.inl rfl⟩
theorem fl_X0_91 : FL RX0 91 [0] 28 := by
  intro ci h
  simp only [List.mem_cons, List.not_mem_nil, or_false] at h
  subst h; exact ⟨RX0, _, TX0, 31, rfl, in_X0, by decide, Or.inl q387, Or.inl rfl⟩
def C_shows_J24 (N : Nat) (v22 : Nat) (h23 : Hp) : Option (Int32 × Hp) :=
  bd2 (C_tell v22 (-1 : Int32) h23) fun v25 h24 =>
  some (v25, h24)
theorem w_C_shows_J24 {l : Launch} {G : GT} {fr lo : Nat} {h0 : Hp} {N : Nat} {r : (Int32 × Hp)} (hfr : 200 ≤ fr) (hlo : 5054 ≤ lo)   {v22 : Nat} {h23 : Hp} (hF : C_shows_J24 N v22 h23 = some r) : V l G cX0_shows RX0 "shows" 8 (Option.some Jvm.ClassFile.FieldType.int) fr lo h0 r.2 (QM G (some (.int r.1)) h0 r.2) 24 [(0, .ref v22)] [] h23 := by
  unfold C_shows_J24 at hF
  refine v_aload_n dX0_shows_24 rfl 0 rfl ?_
  refine v_iconst dX0_shows_25 (v := -1) (by decide) ?_
  obtain ⟨v25, h24, e_v25, hF⟩ := bd2_spec hF
  refine v_calV1 dX0_shows_26 vl_X0_112 q494 (rc_C_tell e_v25) (ct_C_tell e_v25) rfl rfl (Nat.le_trans (Nat.le_of_ble_eq_true rfl) hfr) (Nat.le_trans (Nat.le_of_ble_eq_true rfl) hlo) (Nat.le_of_ble_eq_true rfl) ?_
  cases hF
  exact v_iret dX0_shows_29 rfl rfl rfl rfl
def C_shows_J44 (N : Nat) (v28 : Nat) (h29 : Hp) : Option (Int32 × Hp) :=
  bd2 (C_tell v28 (-3 : Int32) h29) fun v31 h30 =>
  some (v31, h30)
theorem w_C_shows_J44 {l : Launch} {G : GT} {fr lo : Nat} {h0 : Hp} {N : Nat} {r : (Int32 × Hp)} (hfr : 200 ≤ fr) (hlo : 5054 ≤ lo)   {v28 : Nat} {h29 : Hp} (hF : C_shows_J44 N v28 h29 = some r) : V l G cX0_shows RX0 "shows" 8 (Option.some Jvm.ClassFile.FieldType.int) fr lo h0 r.2 (QM G (some (.int r.1)) h0 r.2) 44 [(0, .ref v28)] [] h29 := by
  unfold C_shows_J44 at hF
  refine v_aload_n dX0_shows_44 rfl 0 rfl ?_
  refine v_bipush dX0_shows_45 (v := -3) (by decide) ?_
  obtain ⟨v31, h30, e_v31, hF⟩ := bd2_spec hF
  refine v_calV1 dX0_shows_47 vl_X0_112 q494 (rc_C_tell e_v31) (ct_C_tell e_v31) rfl rfl (Nat.le_trans (Nat.le_of_ble_eq_true rfl) hfr) (Nat.le_trans (Nat.le_of_ble_eq_true rfl) hlo) (Nat.le_of_ble_eq_true rfl) ?_
  cases hF
  exact v_iret dX0_shows_50 rfl rfl rfl rfl
def C_shows_J220 (N : Nat) (c75 : Nat → Int32 → Nat → Int32 → Hp → Option (Int32 × Hp)) (v79 : Nat) (v80 : Int32) (v81 : Nat) (v82 : Int32) (h83 : Hp) : Option (Int32 × Hp) :=
  c75 v79 v80 v81 (v82 + (1 : Int32)) h83
theorem w_C_shows_J220 {l : Launch} {G : GT} {fr lo : Nat} {h0 : Hp} {N : Nat} {r : (Int32 × Hp)} (hfr : 200 ≤ fr) (hlo : 5054 ≤ lo) {c75 : Nat → Int32 → Nat → Int32 → Hp → Option (Int32 × Hp)} (hc75 : ∀ (v40 : Nat) (v41 : Int32) (v42 : Nat) (v43 : Int32) (h44 : Hp), c75 v40 v41 v42 v43 h44 = some r → V l G cX0_shows RX0 "shows" 8 (Option.some Jvm.ClassFile.FieldType.int) fr lo h0 r.2 (QM G (some (.int r.1)) h0 r.2) 75 [(0, .ref v40), (2, .int v41), (3, .ref v42), (4, .int v43)] [] h44) {v79 : Nat} {v80 : Int32} {v81 : Nat} {v82 : Int32} {h83 : Hp} (hF : C_shows_J220 N c75 v79 v80 v81 v82 h83 = some r) : V l G cX0_shows RX0 "shows" 8 (Option.some Jvm.ClassFile.FieldType.int) fr lo h0 r.2 (QM G (some (.int r.1)) h0 r.2) 220 [(0, .ref v79), (2, .int v80), (3, .ref v81), (4, .int v82)] [] h83 := by
  unfold C_shows_J220 at hF
  refine v_iinc dX0_shows_220 3 rfl (v := v82 + (1 : Int32)) (by rfl) (Nat.le_of_ble_eq_true rfl) (L' := [(4, .int (v82 + (1 : Int32))), (0, .ref v79), (2, .int v80), (3, .ref v81)]) rfl ?_
  refine v_goto (tgt := 75) dX0_shows_223 (by decide) ?_
  exact v_sub [1, 2, 3, 0] rfl (hc75 _ _ _ _ _ hF)
def C_shows_J202 (N : Nat) (c75 : Nat → Int32 → Nat → Int32 → Hp → Option (Int32 × Hp)) (v72 : Nat) (v73 : Int32) (v74 : Nat) (v75 : Int32) (h76 : Hp) : Option (Int32 × Hp) :=
  (C_books h76 v72).bind fun v77 =>
  (gi h76 v77 [2] 2).bind fun v78 =>
  if (999 : Int32) ≤ v78 then
    C_shows_J220 N c75 v72 v73 v74 v75 h76
  else
    bd2 (C_passIt N v72 h76) fun v85 h84 =>
    C_shows_J220 N c75 v72 v73 v74 v75 h84
theorem w_C_shows_J202 {l : Launch} {G : GT} {fr lo : Nat} {h0 : Hp} {N : Nat} {r : (Int32 × Hp)} (hfr : 200 ≤ fr) (hlo : 5054 ≤ lo) {c75 : Nat → Int32 → Nat → Int32 → Hp → Option (Int32 × Hp)} (hc75 : ∀ (v40 : Nat) (v41 : Int32) (v42 : Nat) (v43 : Int32) (h44 : Hp), c75 v40 v41 v42 v43 h44 = some r → V l G cX0_shows RX0 "shows" 8 (Option.some Jvm.ClassFile.FieldType.int) fr lo h0 r.2 (QM G (some (.int r.1)) h0 r.2) 75 [(0, .ref v40), (2, .int v41), (3, .ref v42), (4, .int v43)] [] h44) {v72 : Nat} {v73 : Int32} {v74 : Nat} {v75 : Int32} {h76 : Hp} (hF : C_shows_J202 N c75 v72 v73 v74 v75 h76 = some r) : V l G cX0_shows RX0 "shows" 8 (Option.some Jvm.ClassFile.FieldType.int) fr lo h0 r.2 (QM G (some (.int r.1)) h0 r.2) 202 [(0, .ref v72), (2, .int v73), (3, .ref v74), (4, .int v75)] [] h76 := by
  unfold C_shows_J202 at hF
  refine v_aload_n dX0_shows_202 rfl 0 rfl ?_
  obtain ⟨v77, e_v77, hF⟩ := Option.bind_eq_some_iff.mp hF
  refine v_calV1 dX0_shows_203 vl_X0_135 q486 (rc_C_books e_v77) (ct_C_books e_v77) rfl rfl (Nat.le_trans (Nat.le_of_ble_eq_true rfl) hfr) (Nat.le_trans (Nat.le_of_ble_eq_true rfl) hlo) (Nat.le_of_ble_eq_true rfl) ?_
  refine v_geti dX0_shows_206 fl_X0_204 hF (fun v78 hF => ?_)
  refine v_sipush dX0_shows_209 (v := 999) (by decide) ?_
  refine v_icmp_ge (tgt := 220) dX0_shows_212 (by decide) hF (fun hF => ?_) (fun hF => ?_)
  · exact v_sub [0, 1, 2, 3] rfl (w_C_shows_J220 hfr hlo hc75 hF)
  · refine v_aload_n dX0_shows_215 rfl 0 rfl ?_
    obtain ⟨v85, h84, e_v85, hF⟩ := bd2_spec hF
    refine v_calV1 dX0_shows_216 vl_X0_324 q1355 (rc_C_passIt e_v85) (ct_C_passIt e_v85) rfl rfl (Nat.le_trans (Nat.le_of_ble_eq_true rfl) hfr) (Nat.le_trans (Nat.le_of_ble_eq_true rfl) hlo) (Nat.le_of_ble_eq_true rfl) ?_
    refine v_pop dX0_shows_219 rfl ?_
    exact v_sub [0, 1, 2, 3] rfl (w_C_shows_J220 hfr hlo hc75 hF)
def C_shows_J169 (N : Nat) (c75 : Nat → Int32 → Nat → Int32 → Hp → Option (Int32 × Hp)) (v65 : Nat) (v66 : Int32) (v67 : Nat) (v68 : Int32) (v69 : Int32) (v70 : Int32) (h71 : Hp) : Option (Int32 × Hp) :=
  if v70 = (3 : Int32) then
    (C_canLose N h71 v65 v69).bind fun v86 =>
    if v86 = 0 then
      C_shows_J202 N c75 v65 v66 v67 v68 h71
    else
      (C_books h71 v65).bind fun v87 =>
      (gi h71 v87 [2] 1).bind fun v88 =>
      (po h71 v87 [2] 1 (.int (v88 &&& (((1 : Int32) <<< (v69 &&& 31)) ^^^ (-1 : Int32))))).bind fun h89 =>
      C_shows_J202 N c75 v65 v66 v67 v68 h89
  else
    C_shows_J202 N c75 v65 v66 v67 v68 h71
theorem w_C_shows_J169 {l : Launch} {G : GT} {fr lo : Nat} {h0 : Hp} {N : Nat} {r : (Int32 × Hp)} (hfr : 200 ≤ fr) (hlo : 5054 ≤ lo) {c75 : Nat → Int32 → Nat → Int32 → Hp → Option (Int32 × Hp)} (hc75 : ∀ (v40 : Nat) (v41 : Int32) (v42 : Nat) (v43 : Int32) (h44 : Hp), c75 v40 v41 v42 v43 h44 = some r → V l G cX0_shows RX0 "shows" 8 (Option.some Jvm.ClassFile.FieldType.int) fr lo h0 r.2 (QM G (some (.int r.1)) h0 r.2) 75 [(0, .ref v40), (2, .int v41), (3, .ref v42), (4, .int v43)] [] h44) {v65 : Nat} {v66 : Int32} {v67 : Nat} {v68 : Int32} {v69 : Int32} {v70 : Int32} {h71 : Hp} (hF : C_shows_J169 N c75 v65 v66 v67 v68 v69 v70 h71 = some r) : V l G cX0_shows RX0 "shows" 8 (Option.some Jvm.ClassFile.FieldType.int) fr lo h0 r.2 (QM G (some (.int r.1)) h0 r.2) 169 [(0, .ref v65), (2, .int v66), (3, .ref v67), (4, .int v68), (5, .int v69), (7, .int v70)] [] h71 := by
  unfold C_shows_J169 at hF
  refine v_iload dX0_shows_169 5 rfl ?_
  refine v_iconst dX0_shows_171 (v := 3) (by decide) ?_
  refine v_icmp_ne (tgt := 202) dX0_shows_172 (by decide) hF (fun hF => ?_) (fun hF => ?_)
  · exact v_sub [0, 1, 2, 3] rfl (w_C_shows_J202 hfr hlo hc75 hF)
  · refine v_aload_n dX0_shows_175 rfl 0 rfl ?_
    refine v_iload dX0_shows_176 4 rfl ?_
    obtain ⟨v86, e_v86, hF⟩ := Option.bind_eq_some_iff.mp hF
    refine v_calV1 dX0_shows_178 vl_X0_312 q1335 (rc_C_canLose e_v86) (ct_C_canLose e_v86) rfl rfl (Nat.le_trans (Nat.le_of_ble_eq_true rfl) hfr) (Nat.le_trans (Nat.le_of_ble_eq_true rfl) hlo) (Nat.le_of_ble_eq_true rfl) ?_
    refine v_if_eq (tgt := 202) dX0_shows_181 (by decide) hF (fun hF => ?_) (fun hF => ?_)
    · exact v_sub [0, 1, 2, 3] rfl (w_C_shows_J202 hfr hlo hc75 hF)
    · refine v_aload_n dX0_shows_184 rfl 0 rfl ?_
      obtain ⟨v87, e_v87, hF⟩ := Option.bind_eq_some_iff.mp hF
      refine v_calV1 dX0_shows_185 vl_X0_135 q486 (rc_C_books e_v87) (ct_C_books e_v87) rfl rfl (Nat.le_trans (Nat.le_of_ble_eq_true rfl) hfr) (Nat.le_trans (Nat.le_of_ble_eq_true rfl) hlo) (Nat.le_of_ble_eq_true rfl) ?_
      refine v_dup dX0_shows_188 rfl ?_
      refine v_geti dX0_shows_189 fl_X0_138 hF (fun v88 hF => ?_)
      refine v_iconst dX0_shows_192 (v := 1) (by decide) ?_
      refine v_iload dX0_shows_193 4 rfl ?_
      refine v_ishl dX0_shows_195 ?_
      refine v_iconst dX0_shows_196 (v := -1) (by decide) ?_
      refine v_ixor dX0_shows_197 ?_
      refine v_iand dX0_shows_198 ?_
      refine v_put dX0_shows_199 pl_X0_138 (fun z => by cases z) rfl rfl hF (fun h89 hF => ?_)
      exact v_sub [0, 1, 2, 3] rfl (w_C_shows_J202 hfr hlo hc75 hF)
def C_shows_J152 (N : Nat) (c75 : Nat → Int32 → Nat → Int32 → Hp → Option (Int32 × Hp)) (v57 : Nat) (v58 : Int32) (v59 : Nat) (v60 : Int32) (v61 : Int32) (v62 : Int32) (v63 : Int32) (h64 : Hp) : Option (Int32 × Hp) :=
  if v63 = (2 : Int32) then
    (C_books h64 v57).bind fun v90 =>
    (gr h64 v90 [2] 0).bind fun v91 =>
    (sI h64 v91 0 v62 (0 : Int32)).bind fun h92 =>
    C_shows_J169 N c75 v57 v58 v59 v60 v61 v63 h92
  else
    C_shows_J169 N c75 v57 v58 v59 v60 v61 v63 h64
theorem w_C_shows_J152 {l : Launch} {G : GT} {fr lo : Nat} {h0 : Hp} {N : Nat} {r : (Int32 × Hp)} (hfr : 200 ≤ fr) (hlo : 5054 ≤ lo) {c75 : Nat → Int32 → Nat → Int32 → Hp → Option (Int32 × Hp)} (hc75 : ∀ (v40 : Nat) (v41 : Int32) (v42 : Nat) (v43 : Int32) (h44 : Hp), c75 v40 v41 v42 v43 h44 = some r → V l G cX0_shows RX0 "shows" 8 (Option.some Jvm.ClassFile.FieldType.int) fr lo h0 r.2 (QM G (some (.int r.1)) h0 r.2) 75 [(0, .ref v40), (2, .int v41), (3, .ref v42), (4, .int v43)] [] h44) {v57 : Nat} {v58 : Int32} {v59 : Nat} {v60 : Int32} {v61 : Int32} {v62 : Int32} {v63 : Int32} {h64 : Hp} (hF : C_shows_J152 N c75 v57 v58 v59 v60 v61 v62 v63 h64 = some r) : V l G cX0_shows RX0 "shows" 8 (Option.some Jvm.ClassFile.FieldType.int) fr lo h0 r.2 (QM G (some (.int r.1)) h0 r.2) 152 [(0, .ref v57), (2, .int v58), (3, .ref v59), (4, .int v60), (5, .int v61), (6, .int v62), (7, .int v63)] [] h64 := by
  unfold C_shows_J152 at hF
  refine v_iload dX0_shows_152 6 rfl ?_
  refine v_iconst dX0_shows_154 (v := 2) (by decide) ?_
  refine v_icmp_ne (tgt := 169) dX0_shows_155 (by decide) hF (fun hF => ?_) (fun hF => ?_)
  · exact v_sub [0, 1, 2, 3, 4, 6] rfl (w_C_shows_J169 hfr hlo hc75 hF)
  · refine v_aload_n dX0_shows_158 rfl 0 rfl ?_
    obtain ⟨v90, e_v90, hF⟩ := Option.bind_eq_some_iff.mp hF
    refine v_calV1 dX0_shows_159 vl_X0_135 q486 (rc_C_books e_v90) (ct_C_books e_v90) rfl rfl (Nat.le_trans (Nat.le_of_ble_eq_true rfl) hfr) (Nat.le_trans (Nat.le_of_ble_eq_true rfl) hlo) (Nat.le_of_ble_eq_true rfl) ?_
    refine v_getr dX0_shows_162 fl_X0_188 hF (fun v91 hF => ?_)
    refine v_iload dX0_shows_165 5 rfl ?_
    refine v_iconst dX0_shows_167 (v := 0) (by decide) ?_
    refine v_iast dX0_shows_168 hF (fun h92 hF => ?_)
    exact v_sub [0, 1, 2, 3, 4, 6] rfl (w_C_shows_J169 hfr hlo hc75 hF)
def C_shows_L75 (N : Nat) (x75 : Nat → Hp → Option (Int32 × Hp)) : Nat → Nat → Int32 → Nat → Int32 → Hp → Option (Int32 × Hp)
  | 0, _, _, _, _, _ => none
  | n98 + 1, v40, v41, v42, v43, h44 =>
    if v41 ≤ v43 then
      x75 v40 h44
    else
      (C_books h44 v40).bind fun v47 =>
      (gi h44 v47 [2] 2).bind fun v48 =>
      if (999 : Int32) ≤ v48 then
        x75 v40 h44
      else
        (C_nBooks h44 v40).bind fun v49 =>
        bd2 (X22_next v42 v49 h44) fun v51 h50 =>
        (C_nLeeks h50 v40).bind fun v52 =>
        bd2 (X22_next v42 v52 h50) fun v54 h53 =>
        bd2 (X22_next v42 (4 : Int32) h53) fun v56 h55 =>
        if (2 : Int32) ≤ v56 then
          C_shows_J152 N (C_shows_L75 N x75 n98) v40 v41 v42 v43 v51 v54 v56 h55
        else
          bd2 (C_canRead N v40 v51 h55) fun v94 h93 =>
          if v94 = 0 then
            C_shows_J152 N (C_shows_L75 N x75 n98) v40 v41 v42 v43 v51 v54 v56 h93
          else
            (C_isInTime h93 v40 v51).bind fun v95 =>
            if v95 = 0 then
              C_shows_J152 N (C_shows_L75 N x75 n98) v40 v41 v42 v43 v51 v54 v56 h93
            else
              bd2 (C_readIt N v40 v51 h93) fun v97 h96 =>
              C_shows_J152 N (C_shows_L75 N x75 n98) v40 v41 v42 v43 v51 v54 v56 h96
theorem w_C_shows_L75 {l : Launch} {G : GT} {fr lo : Nat} {h0 : Hp} {N : Nat} {r : (Int32 × Hp)} (hfr : 200 ≤ fr) (hlo : 5054 ≤ lo) {x75 : Nat → Hp → Option (Int32 × Hp)} (hx75 : ∀ (v45 : Nat) (h46 : Hp), x75 v45 h46 = some r → V l G cX0_shows RX0 "shows" 8 (Option.some Jvm.ClassFile.FieldType.int) fr lo h0 r.2 (QM G (some (.int r.1)) h0 r.2) 226 [(0, .ref v45)] [] h46) : ∀ (n : Nat) (v40 : Nat) (v41 : Int32) (v42 : Nat) (v43 : Int32) (h44 : Hp), C_shows_L75 N x75 n v40 v41 v42 v43 h44 = some r → V l G cX0_shows RX0 "shows" 8 (Option.some Jvm.ClassFile.FieldType.int) fr lo h0 r.2 (QM G (some (.int r.1)) h0 r.2) 75 [(0, .ref v40), (2, .int v41), (3, .ref v42), (4, .int v43)] [] h44 := by
  intro n
  induction n with
  | zero =>
    intro v40 v41 v42 v43 h44 hF
    cases (show (none : Option (Int32 × Hp)) = some r from hF)
  | succ n hc75 =>
    intro v40 v41 v42 v43 h44 hF
    rw [C_shows_L75] at hF
    refine v_iload dX0_shows_75 3 rfl ?_
    refine v_iload_n dX0_shows_77 rfl 1 rfl ?_
    refine v_icmp_ge (tgt := 226) dX0_shows_78 (by decide) hF (fun hF => ?_) (fun hF => ?_)
    · exact v_sub [0] rfl (hx75 _ _ hF)
    · refine v_aload_n dX0_shows_81 rfl 0 rfl ?_
      obtain ⟨v47, e_v47, hF⟩ := Option.bind_eq_some_iff.mp hF
      refine v_calV1 dX0_shows_82 vl_X0_135 q486 (rc_C_books e_v47) (ct_C_books e_v47) rfl rfl (Nat.le_trans (Nat.le_of_ble_eq_true rfl) hfr) (Nat.le_trans (Nat.le_of_ble_eq_true rfl) hlo) (Nat.le_of_ble_eq_true rfl) ?_
      refine v_geti dX0_shows_85 fl_X0_204 hF (fun v48 hF => ?_)
      refine v_sipush dX0_shows_88 (v := 999) (by decide) ?_
      refine v_icmp_ge (tgt := 226) dX0_shows_91 (by decide) hF (fun hF => ?_) (fun hF => ?_)
      · exact v_sub [0] rfl (hx75 _ _ hF)
      · refine v_aload_n dX0_shows_94 rfl 2 rfl ?_
        refine v_aload_n dX0_shows_95 rfl 0 rfl ?_
        obtain ⟨v49, e_v49, hF⟩ := Option.bind_eq_some_iff.mp hF
        refine v_calV1 dX0_shows_96 vl_X0_125 q482 (rc_C_nBooks e_v49) (ct_C_nBooks e_v49) rfl rfl (Nat.le_trans (Nat.le_of_ble_eq_true rfl) hfr) (Nat.le_trans (Nat.le_of_ble_eq_true rfl) hlo) (Nat.le_of_ble_eq_true rfl) ?_
        obtain ⟨v51, h50, e_v51, hF⟩ := bd2_spec hF
        refine v_calV1 dX0_shows_99 vl_X0_451 q1578 (rc_X22_next e_v51) (ct_X22_next e_v51) rfl rfl (Nat.le_trans (Nat.le_of_ble_eq_true rfl) hfr) (Nat.le_trans (Nat.le_of_ble_eq_true rfl) hlo) (Nat.le_of_ble_eq_true rfl) ?_
        refine v_istore dX0_shows_102 (Nat.le_of_ble_eq_true rfl) (L' := [(5, .int v51), (0, .ref v40), (2, .int v41), (3, .ref v42), (4, .int v43)]) rfl ?_
        refine v_aload_n dX0_shows_104 rfl 3 rfl ?_
        refine v_aload_n dX0_shows_105 rfl 1 rfl ?_
        obtain ⟨v52, e_v52, hF⟩ := Option.bind_eq_some_iff.mp hF
        refine v_calV1 dX0_shows_106 vl_X0_132 q587 (rc_C_nLeeks e_v52) (ct_C_nLeeks e_v52) rfl rfl (Nat.le_trans (Nat.le_of_ble_eq_true rfl) hfr) (Nat.le_trans (Nat.le_of_ble_eq_true rfl) hlo) (Nat.le_of_ble_eq_true rfl) ?_
        obtain ⟨v54, h53, e_v54, hF⟩ := bd2_spec hF
        refine v_calV1 dX0_shows_109 vl_X0_451 q1578 (rc_X22_next e_v54) (ct_X22_next e_v54) rfl rfl (Nat.le_trans (Nat.le_of_ble_eq_true rfl) hfr) (Nat.le_trans (Nat.le_of_ble_eq_true rfl) hlo) (Nat.le_of_ble_eq_true rfl) ?_
        refine v_istore dX0_shows_112 (Nat.le_of_ble_eq_true rfl) (L' := [(6, .int v54), (5, .int v51), (0, .ref v40), (2, .int v41), (3, .ref v42), (4, .int v43)]) rfl ?_
        refine v_aload_n dX0_shows_114 rfl 4 rfl ?_
        refine v_iconst dX0_shows_115 (v := 4) (by decide) ?_
        obtain ⟨v56, h55, e_v56, hF⟩ := bd2_spec hF
        refine v_calV1 dX0_shows_116 vl_X0_451 q1578 (rc_X22_next e_v56) (ct_X22_next e_v56) rfl rfl (Nat.le_trans (Nat.le_of_ble_eq_true rfl) hfr) (Nat.le_trans (Nat.le_of_ble_eq_true rfl) hlo) (Nat.le_of_ble_eq_true rfl) ?_
        refine v_istore dX0_shows_119 (Nat.le_of_ble_eq_true rfl) (L' := [(7, .int v56), (6, .int v54), (5, .int v51), (0, .ref v40), (2, .int v41), (3, .ref v42), (4, .int v43)]) rfl ?_
        refine v_iload dX0_shows_121 0 rfl ?_
        refine v_iconst dX0_shows_123 (v := 2) (by decide) ?_
        refine v_icmp_ge (tgt := 152) dX0_shows_124 (by decide) hF (fun hF => ?_) (fun hF => ?_)
        · exact v_sub [3, 4, 5, 6, 2, 1, 0] rfl (w_C_shows_J152 hfr hlo hc75 hF)
        · refine v_aload_n dX0_shows_127 rfl 3 rfl ?_
          refine v_iload dX0_shows_128 2 rfl ?_
          obtain ⟨v94, h93, e_v94, hF⟩ := bd2_spec hF
          refine v_calV1 dX0_shows_130 vl_X0_296 q1305 (rc_C_canRead e_v94) (ct_C_canRead e_v94) rfl rfl (Nat.le_trans (Nat.le_of_ble_eq_true rfl) hfr) (Nat.le_trans (Nat.le_of_ble_eq_true rfl) hlo) (Nat.le_of_ble_eq_true rfl) ?_
          refine v_if_eq (tgt := 152) dX0_shows_133 (by decide) hF (fun hF => ?_) (fun hF => ?_)
          · exact v_sub [3, 4, 5, 6, 2, 1, 0] rfl (w_C_shows_J152 hfr hlo hc75 hF)
          · refine v_aload_n dX0_shows_136 rfl 3 rfl ?_
            refine v_iload dX0_shows_137 2 rfl ?_
            obtain ⟨v95, e_v95, hF⟩ := Option.bind_eq_some_iff.mp hF
            refine v_calV1 dX0_shows_139 vl_X0_299 q1309 (rc_C_isInTime e_v95) (ct_C_isInTime e_v95) rfl rfl (Nat.le_trans (Nat.le_of_ble_eq_true rfl) hfr) (Nat.le_trans (Nat.le_of_ble_eq_true rfl) hlo) (Nat.le_of_ble_eq_true rfl) ?_
            refine v_if_eq (tgt := 152) dX0_shows_142 (by decide) hF (fun hF => ?_) (fun hF => ?_)
            · exact v_sub [3, 4, 5, 6, 2, 1, 0] rfl (w_C_shows_J152 hfr hlo hc75 hF)
            · refine v_aload_n dX0_shows_145 rfl 3 rfl ?_
              refine v_iload dX0_shows_146 2 rfl ?_
              obtain ⟨v97, h96, e_v97, hF⟩ := bd2_spec hF
              refine v_calV1 dX0_shows_148 vl_X0_306 q1323 (rc_C_readIt e_v97) (ct_C_readIt e_v97) rfl rfl (Nat.le_trans (Nat.le_of_ble_eq_true rfl) hfr) (Nat.le_trans (Nat.le_of_ble_eq_true rfl) hlo) (Nat.le_of_ble_eq_true rfl) ?_
              refine v_pop dX0_shows_151 rfl ?_
              exact v_sub [3, 4, 5, 6, 2, 1, 0] rfl (w_C_shows_J152 hfr hlo hc75 hF)
def C_shows_J226 (N : Nat) (v101 : Nat) (h102 : Hp) : Option (Int32 × Hp) :=
  (C_books h102 v101).bind fun v103 =>
  (X2_all N h102 v103).bind fun v104 =>
  (gr h102 v101 [0] 28).bind fun v105 =>
  (C_books h102 v101).bind fun v106 =>
  bd2 (X2_as v105 v106 h102) fun v108 h107 =>
  (C_nBooks h107 v101).bind fun v109 =>
  (po h107 v101 [0] 29 (.int v109)).bind fun h110 =>
  (C_nLeeks h110 v101).bind fun v111 =>
  (po h110 v101 [0] 30 (.int v111)).bind fun h112 =>
  (C_books h112 v101).bind fun v113 =>
  (gr h112 v101 [0] 5).bind fun v114 =>
  bd2 (X2_as v113 v114 h112) fun v116 h115 =>
  bd2 (C_tell v101 v104 h115) fun v118 h117 =>
  some (v118, h117)
theorem w_C_shows_J226 {l : Launch} {G : GT} {fr lo : Nat} {h0 : Hp} {N : Nat} {r : (Int32 × Hp)} (hfr : 200 ≤ fr) (hlo : 5054 ≤ lo)   {v101 : Nat} {h102 : Hp} (hF : C_shows_J226 N v101 h102 = some r) : V l G cX0_shows RX0 "shows" 8 (Option.some Jvm.ClassFile.FieldType.int) fr lo h0 r.2 (QM G (some (.int r.1)) h0 r.2) 226 [(0, .ref v101)] [] h102 := by
  unfold C_shows_J226 at hF
  refine v_aload_n dX0_shows_226 rfl 0 rfl ?_
  obtain ⟨v103, e_v103, hF⟩ := Option.bind_eq_some_iff.mp hF
  refine v_calV1 dX0_shows_227 vl_X0_135 q486 (rc_C_books e_v103) (ct_C_books e_v103) rfl rfl (Nat.le_trans (Nat.le_of_ble_eq_true rfl) hfr) (Nat.le_trans (Nat.le_of_ble_eq_true rfl) hlo) (Nat.le_of_ble_eq_true rfl) ?_
  obtain ⟨v104, e_v104, hF⟩ := Option.bind_eq_some_iff.mp hF
  refine v_calV1 dX0_shows_230 vl_X0_454 q1541 (rc_X2_all e_v104) (ct_X2_all e_v104) rfl rfl (Nat.le_trans (Nat.le_of_ble_eq_true rfl) hfr) (Nat.le_trans (Nat.le_of_ble_eq_true rfl) hlo) (Nat.le_of_ble_eq_true rfl) ?_
  refine v_istore dX0_shows_233 (Nat.le_of_ble_eq_true rfl) (L' := [(4, .int v104), (0, .ref v101)]) rfl ?_
  refine v_aload_n dX0_shows_235 rfl 1 rfl ?_
  refine v_getr dX0_shows_236 fl_X0_91 hF (fun v105 hF => ?_)
  refine v_aload_n dX0_shows_239 rfl 1 rfl ?_
  obtain ⟨v106, e_v106, hF⟩ := Option.bind_eq_some_iff.mp hF
  refine v_calV1 dX0_shows_240 vl_X0_135 q486 (rc_C_books e_v106) (ct_C_books e_v106) rfl rfl (Nat.le_trans (Nat.le_of_ble_eq_true rfl) hfr) (Nat.le_trans (Nat.le_of_ble_eq_true rfl) hlo) (Nat.le_of_ble_eq_true rfl) ?_
  obtain ⟨v108, h107, e_v108, hF⟩ := bd2_spec hF
  refine v_calV1 dX0_shows_243 vl_X0_334 q1318 (rc_X2_as e_v108) (ct_X2_as e_v108) rfl rfl (Nat.le_trans (Nat.le_of_ble_eq_true rfl) hfr) (Nat.le_trans (Nat.le_of_ble_eq_true rfl) hlo) (Nat.le_of_ble_eq_true rfl) ?_
  refine v_pop dX0_shows_246 rfl ?_
  refine v_aload_n dX0_shows_247 rfl 1 rfl ?_
  refine v_aload_n dX0_shows_248 rfl 1 rfl ?_
  obtain ⟨v109, e_v109, hF⟩ := Option.bind_eq_some_iff.mp hF
  refine v_calV1 dX0_shows_249 vl_X0_125 q482 (rc_C_nBooks e_v109) (ct_C_nBooks e_v109) rfl rfl (Nat.le_trans (Nat.le_of_ble_eq_true rfl) hfr) (Nat.le_trans (Nat.le_of_ble_eq_true rfl) hlo) (Nat.le_of_ble_eq_true rfl) ?_
  refine v_put dX0_shows_252 pl_X0_94 (fun z => by cases z) rfl rfl hF (fun h110 hF => ?_)
  refine v_aload_n dX0_shows_255 rfl 1 rfl ?_
  refine v_aload_n dX0_shows_256 rfl 1 rfl ?_
  obtain ⟨v111, e_v111, hF⟩ := Option.bind_eq_some_iff.mp hF
  refine v_calV1 dX0_shows_257 vl_X0_132 q587 (rc_C_nLeeks e_v111) (ct_C_nLeeks e_v111) rfl rfl (Nat.le_trans (Nat.le_of_ble_eq_true rfl) hfr) (Nat.le_trans (Nat.le_of_ble_eq_true rfl) hlo) (Nat.le_of_ble_eq_true rfl) ?_
  refine v_put dX0_shows_260 pl_X0_97 (fun z => by cases z) rfl rfl hF (fun h112 hF => ?_)
  refine v_aload_n dX0_shows_263 rfl 1 rfl ?_
  obtain ⟨v113, e_v113, hF⟩ := Option.bind_eq_some_iff.mp hF
  refine v_calV1 dX0_shows_264 vl_X0_135 q486 (rc_C_books e_v113) (ct_C_books e_v113) rfl rfl (Nat.le_trans (Nat.le_of_ble_eq_true rfl) hfr) (Nat.le_trans (Nat.le_of_ble_eq_true rfl) hlo) (Nat.le_of_ble_eq_true rfl) ?_
  refine v_aload_n dX0_shows_267 rfl 1 rfl ?_
  refine v_getr dX0_shows_268 fl_X0_37 hF (fun v114 hF => ?_)
  obtain ⟨v116, h115, e_v116, hF⟩ := bd2_spec hF
  refine v_calV1 dX0_shows_271 vl_X0_334 q1318 (rc_X2_as e_v116) (ct_X2_as e_v116) rfl rfl (Nat.le_trans (Nat.le_of_ble_eq_true rfl) hfr) (Nat.le_trans (Nat.le_of_ble_eq_true rfl) hlo) (Nat.le_of_ble_eq_true rfl) ?_
  refine v_pop dX0_shows_274 rfl ?_
  refine v_aload_n dX0_shows_275 rfl 1 rfl ?_
  refine v_iload dX0_shows_276 0 rfl ?_
  obtain ⟨v118, h117, e_v118, hF⟩ := bd2_spec hF
  refine v_calV1 dX0_shows_278 vl_X0_112 q494 (rc_C_tell e_v118) (ct_C_tell e_v118) rfl rfl (Nat.le_trans (Nat.le_of_ble_eq_true rfl) hfr) (Nat.le_trans (Nat.le_of_ble_eq_true rfl) hlo) (Nat.le_of_ble_eq_true rfl) ?_
  cases hF
  exact v_iret dX0_shows_281 rfl rfl rfl rfl
def C_shows_b (N : Nat) (a0 : Nat) (a1 : Int32) (a2 : Int32) (h : Hp) : Option (Int32 × Hp) :=
  (C_in a1.toInt64 (0 : Int64) (1000000 : Int64)).bind fun v21 =>
  if v21 = 0 then
    C_shows_J24 N a0 h
  else
    (C_in a2.toInt64 (1 : Int64) (60 : Int64)).bind fun v26 =>
    if v26 = 0 then
      C_shows_J24 N a0 h
    else
      (C_nBooks h a0).bind fun v27 =>
      if v27 = 0 then
        C_shows_J44 N a0 h
      else
        (C_nLeeks h a0).bind fun v32 =>
        if v32 = 0 then
          C_shows_J44 N a0 h
        else
          bd2 (nwo h 19 1 [.long 0]) fun a33 h34 =>
          (X22_init a33 a1 h34).bind fun h35 =>
          (gr h35 a0 [0] 5).bind fun v36 =>
          (C_books h35 a0).bind fun v37 =>
          bd2 (X2_as v36 v37 h35) fun v39 h38 =>
          C_shows_L75 N (fun v99 h100 =>
            C_shows_J226 N v99 h100) N a0 a2 a33 (0 : Int32) h38
theorem w_C_shows_b {l : Launch} {G : GT} {fr lo : Nat} {h0 : Hp} {N : Nat} {r : (Int32 × Hp)} (hfr : 200 ≤ fr) (hlo : 5054 ≤ lo) {a0 : Nat} {a1 : Int32} {a2 : Int32} {h : Hp} (hF : C_shows_b N a0 a1 a2 h = some r) : V l G cX0_shows RX0 "shows" 8 (Option.some Jvm.ClassFile.FieldType.int) fr lo h0 r.2 (QM G (some (.int r.1)) h0 r.2) 0 [(0, .ref a0), (1, .int a1), (2, .int a2)] [] h := by
  unfold C_shows_b at hF
  refine v_iload_n dX0_shows_0 rfl 1 rfl ?_
  refine v_i2l dX0_shows_1 ?_
  refine v_lconst dX0_shows_2 (v := 0) (by decide) ?_
  refine v_ldc2 dX0_shows_3 q1564 ?_
  obtain ⟨v21, e_v21, hF⟩ := Option.bind_eq_some_iff.mp hF
  refine v_calS1 dX0_shows_6 sl_X0_128 q468 (ct_C_in e_v21) rfl rfl (Nat.le_trans (Nat.le_of_ble_eq_true rfl) hfr) (Nat.le_trans (Nat.le_of_ble_eq_true rfl) hlo) (Nat.le_of_ble_eq_true rfl) ?_
  refine v_if_eq (tgt := 24) dX0_shows_9 (by decide) hF (fun hF => ?_) (fun hF => ?_)
  · exact v_sub [0] rfl (w_C_shows_J24 hfr hlo hF)
  · refine v_iload_n dX0_shows_12 rfl 2 rfl ?_
    refine v_i2l dX0_shows_13 ?_
    refine v_lconst dX0_shows_14 (v := 1) (by decide) ?_
    refine v_ldc2 dX0_shows_15 q1430 ?_
    obtain ⟨v26, e_v26, hF⟩ := Option.bind_eq_some_iff.mp hF
    refine v_calS1 dX0_shows_18 sl_X0_128 q468 (ct_C_in e_v26) rfl rfl (Nat.le_trans (Nat.le_of_ble_eq_true rfl) hfr) (Nat.le_trans (Nat.le_of_ble_eq_true rfl) hlo) (Nat.le_of_ble_eq_true rfl) ?_
    refine v_if_ne (tgt := 30) dX0_shows_21 (by decide) hF (fun hF => ?_) (fun hF => ?_)
    · refine v_aload_n dX0_shows_30 rfl 0 rfl ?_
      obtain ⟨v27, e_v27, hF⟩ := Option.bind_eq_some_iff.mp hF
      refine v_calV1 dX0_shows_31 vl_X0_125 q482 (rc_C_nBooks e_v27) (ct_C_nBooks e_v27) rfl rfl (Nat.le_trans (Nat.le_of_ble_eq_true rfl) hfr) (Nat.le_trans (Nat.le_of_ble_eq_true rfl) hlo) (Nat.le_of_ble_eq_true rfl) ?_
      refine v_if_eq (tgt := 44) dX0_shows_34 (by decide) hF (fun hF => ?_) (fun hF => ?_)
      · exact v_sub [0] rfl (w_C_shows_J44 hfr hlo hF)
      · refine v_aload_n dX0_shows_37 rfl 0 rfl ?_
        obtain ⟨v32, e_v32, hF⟩ := Option.bind_eq_some_iff.mp hF
        refine v_calV1 dX0_shows_38 vl_X0_132 q587 (rc_C_nLeeks e_v32) (ct_C_nLeeks e_v32) rfl rfl (Nat.le_trans (Nat.le_of_ble_eq_true rfl) hfr) (Nat.le_trans (Nat.le_of_ble_eq_true rfl) hlo) (Nat.le_of_ble_eq_true rfl) ?_
        refine v_if_ne (tgt := 51) dX0_shows_41 (by decide) hF (fun hF => ?_) (fun hF => ?_)
        · refine v_new dX0_shows_51 nl_X0_447 hF (fun a33 h34 hF => ?_)
          refine v_dup dX0_shows_54 rfl ?_
          refine v_iload_n dX0_shows_55 rfl 1 rfl ?_
          obtain ⟨h35, e_h35, hF⟩ := Option.bind_eq_some_iff.mp hF
          refine v_calI dX0_shows_56 il_X0_449 q1569 (ct_X22_init e_h35) rfl rfl (Nat.le_trans (Nat.le_of_ble_eq_true rfl) hfr) (Nat.le_trans (Nat.le_of_ble_eq_true rfl) hlo) (Nat.le_of_ble_eq_true rfl) ?_
          refine v_astore_n dX0_shows_59 rfl (Nat.le_of_ble_eq_true rfl) (L' := [(3, .ref a33), (0, .ref a0), (1, .int a1), (2, .int a2)]) rfl ?_
          refine v_aload_n dX0_shows_60 rfl 1 rfl ?_
          refine v_getr dX0_shows_61 fl_X0_37 hF (fun v36 hF => ?_)
          refine v_aload_n dX0_shows_64 rfl 1 rfl ?_
          obtain ⟨v37, e_v37, hF⟩ := Option.bind_eq_some_iff.mp hF
          refine v_calV1 dX0_shows_65 vl_X0_135 q486 (rc_C_books e_v37) (ct_C_books e_v37) rfl rfl (Nat.le_trans (Nat.le_of_ble_eq_true rfl) hfr) (Nat.le_trans (Nat.le_of_ble_eq_true rfl) hlo) (Nat.le_of_ble_eq_true rfl) ?_
          obtain ⟨v39, h38, e_v39, hF⟩ := bd2_spec hF
          refine v_calV1 dX0_shows_68 vl_X0_334 q1318 (rc_X2_as e_v39) (ct_X2_as e_v39) rfl rfl (Nat.le_trans (Nat.le_of_ble_eq_true rfl) hfr) (Nat.le_trans (Nat.le_of_ble_eq_true rfl) hlo) (Nat.le_of_ble_eq_true rfl) ?_
          refine v_pop dX0_shows_71 rfl ?_
          refine v_iconst dX0_shows_72 (v := 0) (by decide) ?_
          refine v_istore dX0_shows_73 (Nat.le_of_ble_eq_true rfl) (L' := [(4, .int (0 : Int32)), (3, .ref a33), (0, .ref a0), (1, .int a1), (2, .int a2)]) rfl ?_
          refine v_sub [2, 4, 1, 0] rfl (w_C_shows_L75 hfr hlo ?_ N _ _ _ _ _ hF)
          intro v99 h100 hF
          exact v_sub [0] rfl (w_C_shows_J226 hfr hlo hF)
        · exact v_sub [0] rfl (w_C_shows_J44 hfr hlo hF)
    · exact v_sub [0] rfl (w_C_shows_J24 hfr hlo hF)
def C_shows (N : Nat) (a0 : Nat) (a1 : Int32) (a2 : Int32) (h : Hp) : Option (Int32 × Hp) := (ob h a0 [0]).bind fun _ => C_shows_b N a0 a1 a2 h
theorem rc_C_shows {N : Nat}  {r : (Int32 × Hp)} {a0 : Nat} {a1 : Int32} {a2 : Int32} {h : Hp} (hF : C_shows N a0 a1 a2 h = some r) : RC h a0 [0] := by
  obtain ⟨o, ho, -⟩ := Option.bind_eq_some_iff.mp hF
  exact ⟨o, ho⟩
theorem ct_C_shows {l : Launch} {G : GT} {N : Nat} {r : (Int32 × Hp)} {a0 : Nat} {a1 : Int32} {a2 : Int32} {h : Hp} (hF : C_shows N a0 a1 a2 h = some r) : Ct l G yX0_shows (ws_ yX0_shows cX0_shows 8 (Option.some Jvm.ClassFile.FieldType.int)) 200 5054 [.ref a0, .int a1, .int a2] h (some (.int r.1)) r.2 :=
  ct_of (by decide) (Nat.le_of_ble_eq_true rfl) (w_C_shows_b (Nat.le_refl _) (Nat.le_refl _) (Option.bind_eq_some_iff.mp hF).choose_spec.2)
