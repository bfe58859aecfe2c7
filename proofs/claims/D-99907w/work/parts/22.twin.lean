/-! printed by tools/gen.py -/
set_option maxRecDepth 100000
set_option linter.unusedVariables false
theorem pl_X6_165 : PL RX6 165 [6] 18 (.int) false := by
  intro ci h
  simp only [List.mem_cons, List.not_mem_nil, or_false] at h
  subst h; exact ⟨RX6, _, TX6, 56, tyX6, rfl, in_X6, by decide, Or.inl q1652, Or.inl rfl, tyX6_ok, rfl, by decide +kernel, rfl, fun z => by cases z⟩
theorem sl_X6_168 : SL RX6 168 yX6_isSmall 1 := ⟨q146, ⟨by decide, by decide⟩, by decide +kernel, q2008, Or.inl q2007⟩
theorem sl_X6_171 : SL RX6 171 yX6_isDigit 1 := ⟨q146, ⟨by decide, by decide⟩, by decide +kernel, q2011, Or.inl q2010⟩
theorem vl_X6_174 : ∀ ci ∈ [6], VL RX6 174 ci yX6_wordOf 2 := by
  intro ci h
  simp only [List.mem_cons, List.not_mem_nil, or_false] at h
  subst h; exact ⟨RX6, TX6, 56, rfl, q146, ⟨by decide, by decide⟩, by decide +kernel, q2015, Or.inl ⟨q2013, qs82⟩⟩
def T_splits_J240 (N : Nat) (c169 : Int32 → Int32 → Int32 → Int32 → TM → Option TM) (v44 : Int32) (v45 : Int32) (v46 : Int32) (v47 : Int32) (v48 : Int32) (v49 : Int32) (M50 : TM) : Option TM :=
  (twa M50 16 401 v49 v48).bind fun M51 =>
  c169 v44 v45 v46 (v47 + (1 : Int32)) M51
theorem w_T_splits_J240 {l : Launch} {G : GT} {fr lo : Nat} {h0 : Hp} {m0 : Nat} {hb : Hp} {N : Nat} {r : TM} (hfr : 1 ≤ fr) (hlo : 27 ≤ lo) {c169 : Int32 → Int32 → Int32 → Int32 → TM → Option TM} (hc169 : ∀ (v32 : Int32) (v33 : Int32) (v34 : Int32) (v35 : Int32) (M36 : TM), c169 v32 v33 v34 v35 M36 = some r → V l G cX6_splits RX6 "splits" 6 (Option.none : Option Jvm.ClassFile.FieldType) fr lo h0 (ovT m0 r hb) (QM G none h0 (ovT m0 r hb)) 169 [(0, .ref m0), (1, .int v32), (3, .int v33), (4, .int v34), (5, .int v35)] [] (ovT m0 M36 hb)) {v44 : Int32} {v45 : Int32} {v46 : Int32} {v47 : Int32} {v48 : Int32} {v49 : Int32} {M50 : TM} (hF : T_splits_J240 N c169 v44 v45 v46 v47 v48 v49 M50 = some r) : V l G cX6_splits RX6 "splits" 6 (Option.none : Option Jvm.ClassFile.FieldType) fr lo h0 (ovT m0 r hb) (QM G none h0 (ovT m0 r hb)) 240 [(0, .ref m0), (1, .int v44), (3, .int v45), (4, .int v46), (5, .int v47)] [.int v48, .int v49, .ref (m0 + 10)] (ovT m0 M50 hb) := by
  unfold T_splits_J240 at hF
  refine t_iast 10 dX6_splits_240 rfl (Nat.le_of_ble_eq_true rfl) (by decide) hF (fun M51 hF => ?_)
  refine v_iinc dX6_splits_241 4 rfl (v := v47 + (1 : Int32)) (by rfl) (Nat.le_of_ble_eq_true rfl) (L' := [(5, .int (v47 + (1 : Int32))), (0, .ref m0), (1, .int v44), (3, .int v45), (4, .int v46)]) rfl ?_
  refine v_goto (tgt := 169) dX6_splits_244 (by decide) ?_
  exact v_sub [1, 2, 3, 4, 0] rfl (hc169 _ _ _ _ _ hF)
def T_splits_L169 (N : Nat) (x169 : Int32 → Int32 → TM → Option TM) : Nat → Int32 → Int32 → Int32 → Int32 → TM → Option TM
  | 0, _, _, _, _, _ => none
  | n53 + 1, v32, v33, v34, v35, M36 =>
    if v34 ≤ v35 then
      x169 v32 v34 M36
    else
      (T_isDigit v33).bind fun v40 =>
      if v40 = 0 then
        x169 v32 v34 M36
      else
        (tra M36 16 401 (M36.1 18)).bind fun v41 =>
        if v41 ≤ (1000000 : Int32) then
          (tra M36 16 401 (M36.1 18)).bind fun v42 =>
          (tra M36 11 400 v35).bind fun v43 =>
          T_splits_J240 N (T_splits_L169 N x169 n53) v32 v33 v34 v35 ((((10 : Int32) * v42) + v43) - (48 : Int32)) (M36.1 18) M36
        else
          (tra M36 16 401 (M36.1 18)).bind fun v52 =>
          T_splits_J240 N (T_splits_L169 N x169 n53) v32 v33 v34 v35 v52 (M36.1 18) M36
theorem w_T_splits_L169 {l : Launch} {G : GT} {fr lo : Nat} {h0 : Hp} {m0 : Nat} {hb : Hp} {N : Nat} {r : TM} (hfr : 1 ≤ fr) (hlo : 27 ≤ lo) {x169 : Int32 → Int32 → TM → Option TM} (hx169 : ∀ (v37 : Int32) (v38 : Int32) (M39 : TM), x169 v37 v38 M39 = some r → V l G cX6_splits RX6 "splits" 6 (Option.none : Option Jvm.ClassFile.FieldType) fr lo h0 (ovT m0 r hb) (QM G none h0 (ovT m0 r hb)) 247 [(0, .ref m0), (1, .int v37), (4, .int v38)] [] (ovT m0 M39 hb)) : ∀ (n : Nat) (v32 : Int32) (v33 : Int32) (v34 : Int32) (v35 : Int32) (M36 : TM), T_splits_L169 N x169 n v32 v33 v34 v35 M36 = some r → V l G cX6_splits RX6 "splits" 6 (Option.none : Option Jvm.ClassFile.FieldType) fr lo h0 (ovT m0 r hb) (QM G none h0 (ovT m0 r hb)) 169 [(0, .ref m0), (1, .int v32), (3, .int v33), (4, .int v34), (5, .int v35)] [] (ovT m0 M36 hb) := by
  intro n
  induction n with
  | zero =>
    intro v32 v33 v34 v35 M36 hF
    cases (show (none : Option TM) = some r from hF)
  | succ n hc169 =>
    intro v32 v33 v34 v35 M36 hF
    rw [T_splits_L169] at hF
    refine v_iload dX6_splits_169 4 rfl ?_
    refine v_iload dX6_splits_171 3 rfl ?_
    refine v_icmp_ge (tgt := 247) dX6_splits_173 (by decide) hF (fun hF => ?_) (fun hF => ?_)
    · exact v_sub [0, 1, 3] rfl (hx169 _ _ _ hF)
    · refine v_iload_n dX6_splits_176 rfl 2 rfl ?_
      obtain ⟨v40, e_v40, hF⟩ := Option.bind_eq_some_iff.mp hF
      refine v_calS1 dX6_splits_177 sl_X6_171 q2012 (ct_T_isDigit e_v40) rfl rfl (Nat.le_trans (Nat.le_of_ble_eq_true rfl) hfr) (Nat.le_trans (Nat.le_of_ble_eq_true rfl) hlo) (Nat.le_of_ble_eq_true rfl) ?_
      refine v_if_eq (tgt := 247) dX6_splits_180 (by decide) hF (fun hF => ?_) (fun hF => ?_)
      · exact v_sub [0, 1, 3] rfl (hx169 _ _ _ hF)
      · refine v_aload_n dX6_splits_183 rfl 0 rfl ?_
        refine t_geta 16 10 dX6_splits_184 fl_X6_53 (Nat.le_of_ble_eq_true rfl) (fun _ _ => rfl) ?_
        refine v_aload_n dX6_splits_187 rfl 0 rfl ?_
        refine t_geti 18 dX6_splits_188 fl_X6_165 rfl ?_
        refine v_aload_n dX6_splits_191 rfl 0 rfl ?_
        refine t_geta 16 10 dX6_splits_192 fl_X6_53 (Nat.le_of_ble_eq_true rfl) (fun _ _ => rfl) ?_
        refine v_aload_n dX6_splits_195 rfl 0 rfl ?_
        refine t_geti 18 dX6_splits_196 fl_X6_165 rfl ?_
        refine t_iald 10 dX6_splits_199 rfl (Nat.le_of_ble_eq_true rfl) (by decide) hF (fun v41 hF => ?_)
        refine v_ldc dX6_splits_200 q2017 ?_
        refine v_icmp_le (tgt := 217) dX6_splits_202 (by decide) hF (fun hF => ?_) (fun hF => ?_)
        · refine v_bipush dX6_splits_217 (v := 10) (by decide) ?_
          refine v_aload_n dX6_splits_219 rfl 0 rfl ?_
          refine t_geta 16 10 dX6_splits_220 fl_X6_53 (Nat.le_of_ble_eq_true rfl) (fun _ _ => rfl) ?_
          refine v_aload_n dX6_splits_223 rfl 0 rfl ?_
          refine t_geti 18 dX6_splits_224 fl_X6_165 rfl ?_
          refine t_iald 10 dX6_splits_227 rfl (Nat.le_of_ble_eq_true rfl) (by decide) hF (fun v42 hF => ?_)
          refine v_imul dX6_splits_228 ?_
          refine v_aload_n dX6_splits_229 rfl 0 rfl ?_
          refine t_geta 11 7 dX6_splits_230 fl_X6_41 (Nat.le_of_ble_eq_true rfl) (fun _ _ => rfl) ?_
          refine v_iload dX6_splits_233 4 rfl ?_
          refine t_bald 7 dX6_splits_235 rfl (Nat.le_of_ble_eq_true rfl) (by decide) hF (fun v43 hF => ?_)
          refine v_iadd dX6_splits_236 ?_
          refine v_bipush dX6_splits_237 (v := 48) (by decide) ?_
          refine v_isub dX6_splits_239 ?_
          exact v_sub [0, 1, 2, 3, 4] rfl (w_T_splits_J240 hfr hlo hc169 hF)
        · refine v_aload_n dX6_splits_205 rfl 0 rfl ?_
          refine t_geta 16 10 dX6_splits_206 fl_X6_53 (Nat.le_of_ble_eq_true rfl) (fun _ _ => rfl) ?_
          refine v_aload_n dX6_splits_209 rfl 0 rfl ?_
          refine t_geti 18 dX6_splits_210 fl_X6_165 rfl ?_
          refine t_iald 10 dX6_splits_213 rfl (Nat.le_of_ble_eq_true rfl) (by decide) hF (fun v52 hF => ?_)
          refine v_goto (tgt := 240) dX6_splits_214 (by decide) ?_
          exact v_sub [0, 1, 2, 3, 4] rfl (w_T_splits_J240 hfr hlo hc169 hF)
def T_splits_J247 (N : Nat) (c7 : Int32 → Int32 → TM → Option TM) (v57 : Int32) (v58 : Int32) (M59 : TM) : Option TM :=
  (some (tsi M59 18 ((M59.1 18) + (1 : Int32)))).bind fun (M60 : TM) =>
  c7 v57 v58 M60
theorem w_T_splits_J247 {l : Launch} {G : GT} {fr lo : Nat} {h0 : Hp} {m0 : Nat} {hb : Hp} {N : Nat} {r : TM} (hfr : 1 ≤ fr) (hlo : 27 ≤ lo) {c7 : Int32 → Int32 → TM → Option TM} (hc7 : ∀ (v2 : Int32) (v3 : Int32) (M4 : TM), c7 v2 v3 M4 = some r → V l G cX6_splits RX6 "splits" 6 (Option.none : Option Jvm.ClassFile.FieldType) fr lo h0 (ovT m0 r hb) (QM G none h0 (ovT m0 r hb)) 7 [(0, .ref m0), (1, .int v2), (2, .int v3)] [] (ovT m0 M4 hb)) {v57 : Int32} {v58 : Int32} {M59 : TM} (hF : T_splits_J247 N c7 v57 v58 M59 = some r) : V l G cX6_splits RX6 "splits" 6 (Option.none : Option Jvm.ClassFile.FieldType) fr lo h0 (ovT m0 r hb) (QM G none h0 (ovT m0 r hb)) 247 [(0, .ref m0), (1, .int v57), (4, .int v58)] [] (ovT m0 M59 hb) := by
  unfold T_splits_J247 at hF
  refine v_aload_n dX6_splits_247 rfl 0 rfl ?_
  refine v_dup dX6_splits_248 rfl ?_
  refine t_geti 18 dX6_splits_249 fl_X6_165 rfl ?_
  refine v_iconst dX6_splits_252 (v := 1) (by decide) ?_
  refine v_iadd dX6_splits_253 ?_
  refine t_puti 18 dX6_splits_254 pl_X6_165 rfl ?_
  refine v_letM hF (fun M60 hF => ?_)
  refine v_iload dX6_splits_257 2 rfl ?_
  refine v_istore_n dX6_splits_259 rfl (Nat.le_of_ble_eq_true rfl) (L' := [(2, .int v58), (0, .ref m0), (1, .int v57), (4, .int v58)]) rfl ?_
  refine v_goto (tgt := 7) dX6_splits_260 (by decide) ?_
  exact v_sub [1, 2, 0] rfl (hc7 _ _ _ hF)
def T_splits_J165 (N : Nat) (c7 : Int32 → Int32 → TM → Option TM) (v24 : Int32) (v25 : Int32) (v26 : Int32) (v27 : Int32) (v28 : Int32) (v29 : Int32) (M30 : TM) : Option TM :=
  (twa M30 15 401 v29 v28).bind fun M31 =>
  T_splits_L169 N (fun v54 v55 M56 =>
    T_splits_J247 N c7 v54 v55 M56) N v24 v26 v27 v25 M31
theorem w_T_splits_J165 {l : Launch} {G : GT} {fr lo : Nat} {h0 : Hp} {m0 : Nat} {hb : Hp} {N : Nat} {r : TM} (hfr : 1 ≤ fr) (hlo : 27 ≤ lo) {c7 : Int32 → Int32 → TM → Option TM} (hc7 : ∀ (v2 : Int32) (v3 : Int32) (M4 : TM), c7 v2 v3 M4 = some r → V l G cX6_splits RX6 "splits" 6 (Option.none : Option Jvm.ClassFile.FieldType) fr lo h0 (ovT m0 r hb) (QM G none h0 (ovT m0 r hb)) 7 [(0, .ref m0), (1, .int v2), (2, .int v3)] [] (ovT m0 M4 hb)) {v24 : Int32} {v25 : Int32} {v26 : Int32} {v27 : Int32} {v28 : Int32} {v29 : Int32} {M30 : TM} (hF : T_splits_J165 N c7 v24 v25 v26 v27 v28 v29 M30 = some r) : V l G cX6_splits RX6 "splits" 6 (Option.none : Option Jvm.ClassFile.FieldType) fr lo h0 (ovT m0 r hb) (QM G none h0 (ovT m0 r hb)) 165 [(0, .ref m0), (1, .int v24), (2, .int v25), (3, .int v26), (4, .int v27)] [.int v28, .int v29, .ref (m0 + 9)] (ovT m0 M30 hb) := by
  unfold T_splits_J165 at hF
  refine t_iast 9 dX6_splits_165 rfl (Nat.le_of_ble_eq_true rfl) (by decide) hF (fun M31 hF => ?_)
  refine v_iload_n dX6_splits_166 rfl 2 rfl ?_
  refine v_istore dX6_splits_167 (Nat.le_of_ble_eq_true rfl) (L' := [(5, .int v25), (0, .ref m0), (1, .int v24), (2, .int v25), (3, .int v26), (4, .int v27)]) rfl ?_
  refine v_sub [1, 2, 4, 5, 0] rfl (w_T_splits_L169 hfr hlo ?_ N _ _ _ _ _ hF)
  intro v54 v55 M56 hF
  exact v_sub [0, 1, 2] rfl (w_T_splits_J247 hfr hlo hc7 hF)
def T_splits_J100 (N : Nat) (c7 : Int32 → Int32 → TM → Option TM) (v15 : Int32) (v16 : Int32) (v17 : Int32) (v18 : Int32) (M19 : TM) : Option TM :=
  (twa M19 17 401 (M19.1 18) v16).bind fun M20 =>
  (twa M20 16 401 (M20.1 18) (0 : Int32)).bind fun M21 =>
  (T_isSmall v17).bind fun v22 =>
  if v22 = 0 then
    (T_isDigit v17).bind fun v23 =>
    if v23 = 0 then
      T_splits_J165 N c7 v15 v16 v17 v18 ((100 : Int32) + (v17 &&& (255 : Int32))) (M21.1 18) M21
    else
      T_splits_J165 N c7 v15 v16 v17 v18 (50 : Int32) (M21.1 18) M21
  else
    (T_wordOf N M21 v16 v18).bind fun v61 =>
    T_splits_J165 N c7 v15 v16 v17 v18 v61 (M21.1 18) M21
theorem w_T_splits_J100 {l : Launch} {G : GT} {fr lo : Nat} {h0 : Hp} {m0 : Nat} {hb : Hp} {N : Nat} {r : TM} (hfr : 1 ≤ fr) (hlo : 27 ≤ lo) {c7 : Int32 → Int32 → TM → Option TM} (hc7 : ∀ (v2 : Int32) (v3 : Int32) (M4 : TM), c7 v2 v3 M4 = some r → V l G cX6_splits RX6 "splits" 6 (Option.none : Option Jvm.ClassFile.FieldType) fr lo h0 (ovT m0 r hb) (QM G none h0 (ovT m0 r hb)) 7 [(0, .ref m0), (1, .int v2), (2, .int v3)] [] (ovT m0 M4 hb)) {v15 : Int32} {v16 : Int32} {v17 : Int32} {v18 : Int32} {M19 : TM} (hF : T_splits_J100 N c7 v15 v16 v17 v18 M19 = some r) : V l G cX6_splits RX6 "splits" 6 (Option.none : Option Jvm.ClassFile.FieldType) fr lo h0 (ovT m0 r hb) (QM G none h0 (ovT m0 r hb)) 100 [(0, .ref m0), (1, .int v15), (2, .int v16), (3, .int v17), (4, .int v18)] [] (ovT m0 M19 hb) := by
  unfold T_splits_J100 at hF
  refine v_aload_n dX6_splits_100 rfl 0 rfl ?_
  refine t_geta 17 11 dX6_splits_101 fl_X6_56 (Nat.le_of_ble_eq_true rfl) (fun _ _ => rfl) ?_
  refine v_aload_n dX6_splits_104 rfl 0 rfl ?_
  refine t_geti 18 dX6_splits_105 fl_X6_165 rfl ?_
  refine v_iload_n dX6_splits_108 rfl 2 rfl ?_
  refine t_iast 11 dX6_splits_109 rfl (Nat.le_of_ble_eq_true rfl) (by decide) hF (fun M20 hF => ?_)
  refine v_aload_n dX6_splits_110 rfl 0 rfl ?_
  refine t_geta 16 10 dX6_splits_111 fl_X6_53 (Nat.le_of_ble_eq_true rfl) (fun _ _ => rfl) ?_
  refine v_aload_n dX6_splits_114 rfl 0 rfl ?_
  refine t_geti 18 dX6_splits_115 fl_X6_165 rfl ?_
  refine v_iconst dX6_splits_118 (v := 0) (by decide) ?_
  refine t_iast 10 dX6_splits_119 rfl (Nat.le_of_ble_eq_true rfl) (by decide) hF (fun M21 hF => ?_)
  refine v_aload_n dX6_splits_120 rfl 0 rfl ?_
  refine t_geta 15 9 dX6_splits_121 fl_X6_50 (Nat.le_of_ble_eq_true rfl) (fun _ _ => rfl) ?_
  refine v_aload_n dX6_splits_124 rfl 0 rfl ?_
  refine t_geti 18 dX6_splits_125 fl_X6_165 rfl ?_
  refine v_iload_n dX6_splits_128 rfl 3 rfl ?_
  obtain ⟨v22, e_v22, hF⟩ := Option.bind_eq_some_iff.mp hF
  refine v_calS1 dX6_splits_129 sl_X6_168 q2009 (ct_T_isSmall e_v22) rfl rfl (Nat.le_trans (Nat.le_of_ble_eq_true rfl) hfr) (Nat.le_trans (Nat.le_of_ble_eq_true rfl) hlo) (Nat.le_of_ble_eq_true rfl) ?_
  refine v_if_eq (tgt := 145) dX6_splits_132 (by decide) hF (fun hF => ?_) (fun hF => ?_)
  · refine v_iload_n dX6_splits_145 rfl 3 rfl ?_
    obtain ⟨v23, e_v23, hF⟩ := Option.bind_eq_some_iff.mp hF
    refine v_calS1 dX6_splits_146 sl_X6_171 q2012 (ct_T_isDigit e_v23) rfl rfl (Nat.le_trans (Nat.le_of_ble_eq_true rfl) hfr) (Nat.le_trans (Nat.le_of_ble_eq_true rfl) hlo) (Nat.le_of_ble_eq_true rfl) ?_
    refine v_if_eq (tgt := 157) dX6_splits_149 (by decide) hF (fun hF => ?_) (fun hF => ?_)
    · refine v_bipush dX6_splits_157 (v := 100) (by decide) ?_
      refine v_iload_n dX6_splits_159 rfl 3 rfl ?_
      refine v_sipush dX6_splits_160 (v := 255) (by decide) ?_
      refine v_iand dX6_splits_163 ?_
      refine v_iadd dX6_splits_164 ?_
      exact v_sub [0, 1, 2, 3, 4] rfl (w_T_splits_J165 hfr hlo hc7 hF)
    · refine v_bipush dX6_splits_152 (v := 50) (by decide) ?_
      refine v_goto (tgt := 165) dX6_splits_154 (by decide) ?_
      exact v_sub [0, 1, 2, 3, 4] rfl (w_T_splits_J165 hfr hlo hc7 hF)
  · refine v_aload_n dX6_splits_135 rfl 0 rfl ?_
    refine v_iload_n dX6_splits_136 rfl 2 rfl ?_
    refine v_iload dX6_splits_137 4 rfl ?_
    obtain ⟨v61, e_v61, hF⟩ := Option.bind_eq_some_iff.mp hF
    refine v_calV1 dX6_splits_139 vl_X6_174 q2016 rc_ov (ct_T_wordOf e_v61) rfl rfl (Nat.le_trans (Nat.le_of_ble_eq_true rfl) hfr) (Nat.le_trans (Nat.le_of_ble_eq_true rfl) hlo) (Nat.le_of_ble_eq_true rfl) ?_
    refine v_goto (tgt := 165) dX6_splits_142 (by decide) ?_
    exact v_sub [0, 1, 2, 3, 4] rfl (w_T_splits_J165 hfr hlo hc7 hF)
def T_splits_L75 (N : Nat) (x75 : Int32 → Int32 → Int32 → Int32 → TM → Option TM) : Nat → Int32 → Int32 → Int32 → Int32 → TM → Option TM
  | 0, _, _, _, _, _ => none
  | n74 + 1, v62, v63, v64, v65, M66 =>
    if v62 ≤ v65 then
      x75 v62 v63 v64 v65 M66
    else
      (tra M66 11 400 v65).bind fun v72 =>
      (T_isDigit v72).bind fun v73 =>
      if v73 = 0 then
        x75 v62 v63 v64 v65 M66
      else
        (T_splits_L75 N x75 n74) v62 v63 v64 (v65 + (1 : Int32)) M66
theorem w_T_splits_L75 {l : Launch} {G : GT} {fr lo : Nat} {h0 : Hp} {m0 : Nat} {hb : Hp} {N : Nat} {r : TM} (hfr : 1 ≤ fr) (hlo : 27 ≤ lo) {x75 : Int32 → Int32 → Int32 → Int32 → TM → Option TM} (hx75 : ∀ (v67 : Int32) (v68 : Int32) (v69 : Int32) (v70 : Int32) (M71 : TM), x75 v67 v68 v69 v70 M71 = some r → V l G cX6_splits RX6 "splits" 6 (Option.none : Option Jvm.ClassFile.FieldType) fr lo h0 (ovT m0 r hb) (QM G none h0 (ovT m0 r hb)) 100 [(0, .ref m0), (1, .int v67), (2, .int v68), (3, .int v69), (4, .int v70)] [] (ovT m0 M71 hb)) : ∀ (n : Nat) (v62 : Int32) (v63 : Int32) (v64 : Int32) (v65 : Int32) (M66 : TM), T_splits_L75 N x75 n v62 v63 v64 v65 M66 = some r → V l G cX6_splits RX6 "splits" 6 (Option.none : Option Jvm.ClassFile.FieldType) fr lo h0 (ovT m0 r hb) (QM G none h0 (ovT m0 r hb)) 75 [(0, .ref m0), (1, .int v62), (2, .int v63), (3, .int v64), (4, .int v65)] [] (ovT m0 M66 hb) := by
  intro n
  induction n with
  | zero =>
    intro v62 v63 v64 v65 M66 hF
    cases (show (none : Option TM) = some r from hF)
  | succ n hc75 =>
    intro v62 v63 v64 v65 M66 hF
    rw [T_splits_L75] at hF
    refine v_iload dX6_splits_75 4 rfl ?_
    refine v_iload_n dX6_splits_77 rfl 1 rfl ?_
    refine v_icmp_ge (tgt := 100) dX6_splits_78 (by decide) hF (fun hF => ?_) (fun hF => ?_)
    · exact v_sub [0, 1, 2, 3, 4] rfl (hx75 _ _ _ _ _ hF)
    · refine v_aload_n dX6_splits_81 rfl 0 rfl ?_
      refine t_geta 11 7 dX6_splits_82 fl_X6_41 (Nat.le_of_ble_eq_true rfl) (fun _ _ => rfl) ?_
      refine v_iload dX6_splits_85 4 rfl ?_
      refine t_bald 7 dX6_splits_87 rfl (Nat.le_of_ble_eq_true rfl) (by decide) hF (fun v72 hF => ?_)
      obtain ⟨v73, e_v73, hF⟩ := Option.bind_eq_some_iff.mp hF
      refine v_calS1 dX6_splits_88 sl_X6_171 q2012 (ct_T_isDigit e_v73) rfl rfl (Nat.le_trans (Nat.le_of_ble_eq_true rfl) hfr) (Nat.le_trans (Nat.le_of_ble_eq_true rfl) hlo) (Nat.le_of_ble_eq_true rfl) ?_
      refine v_if_eq (tgt := 100) dX6_splits_91 (by decide) hF (fun hF => ?_) (fun hF => ?_)
      · exact v_sub [0, 1, 2, 3, 4] rfl (hx75 _ _ _ _ _ hF)
      · refine v_iinc dX6_splits_94 4 rfl (v := v65 + (1 : Int32)) (by rfl) (Nat.le_of_ble_eq_true rfl) (L' := [(4, .int (v65 + (1 : Int32))), (0, .ref m0), (1, .int v62), (2, .int v63), (3, .int v64)]) rfl ?_
        refine v_goto (tgt := 75) dX6_splits_97 (by decide) ?_
        exact v_sub [1, 2, 3, 4, 0] rfl (hc75 _ _ _ _ _ hF)
def T_splits_J68 (N : Nat) (c7 : Int32 → Int32 → TM → Option TM) (v9 : Int32) (v10 : Int32) (v11 : Int32) (v12 : Int32) (M13 : TM) : Option TM :=
  (T_isDigit v11).bind fun v14 =>
  if v14 = 0 then
    T_splits_J100 N c7 v9 v10 v11 v12 M13
  else
    T_splits_L75 N (fun v75 v76 v77 v78 M79 =>
      T_splits_J100 N c7 v75 v76 v77 v78 M79) N v9 v10 v11 v12 M13
theorem w_T_splits_J68 {l : Launch} {G : GT} {fr lo : Nat} {h0 : Hp} {m0 : Nat} {hb : Hp} {N : Nat} {r : TM} (hfr : 1 ≤ fr) (hlo : 27 ≤ lo) {c7 : Int32 → Int32 → TM → Option TM} (hc7 : ∀ (v2 : Int32) (v3 : Int32) (M4 : TM), c7 v2 v3 M4 = some r → V l G cX6_splits RX6 "splits" 6 (Option.none : Option Jvm.ClassFile.FieldType) fr lo h0 (ovT m0 r hb) (QM G none h0 (ovT m0 r hb)) 7 [(0, .ref m0), (1, .int v2), (2, .int v3)] [] (ovT m0 M4 hb)) {v9 : Int32} {v10 : Int32} {v11 : Int32} {v12 : Int32} {M13 : TM} (hF : T_splits_J68 N c7 v9 v10 v11 v12 M13 = some r) : V l G cX6_splits RX6 "splits" 6 (Option.none : Option Jvm.ClassFile.FieldType) fr lo h0 (ovT m0 r hb) (QM G none h0 (ovT m0 r hb)) 68 [(0, .ref m0), (1, .int v9), (2, .int v10), (3, .int v11), (4, .int v12)] [] (ovT m0 M13 hb) := by
  unfold T_splits_J68 at hF
  refine v_iload_n dX6_splits_68 rfl 3 rfl ?_
  obtain ⟨v14, e_v14, hF⟩ := Option.bind_eq_some_iff.mp hF
  refine v_calS1 dX6_splits_69 sl_X6_171 q2012 (ct_T_isDigit e_v14) rfl rfl (Nat.le_trans (Nat.le_of_ble_eq_true rfl) hfr) (Nat.le_trans (Nat.le_of_ble_eq_true rfl) hlo) (Nat.le_of_ble_eq_true rfl) ?_
  refine v_if_eq (tgt := 100) dX6_splits_72 (by decide) hF (fun hF => ?_) (fun hF => ?_)
  · exact v_sub [0, 1, 2, 3, 4] rfl (w_T_splits_J100 hfr hlo hc7 hF)
  · refine v_sub [0, 1, 2, 3, 4] rfl (w_T_splits_L75 hfr hlo ?_ N _ _ _ _ _ hF)
    intro v75 v76 v77 v78 M79 hF
    exact v_sub [0, 1, 2, 3, 4] rfl (w_T_splits_J100 hfr hlo hc7 hF)
def T_splits_L43 (N : Nat) (x43 : Int32 → Int32 → Int32 → Int32 → TM → Option TM) : Nat → Int32 → Int32 → Int32 → Int32 → TM → Option TM
  | 0, _, _, _, _, _ => none
  | n92 + 1, v80, v81, v82, v83, M84 =>
    if v80 ≤ v83 then
      x43 v80 v81 v82 v83 M84
    else
      (tra M84 11 400 v83).bind fun v90 =>
      (T_isSmall v90).bind fun v91 =>
      if v91 = 0 then
        x43 v80 v81 v82 v83 M84
      else
        (T_splits_L43 N x43 n92) v80 v81 v82 (v83 + (1 : Int32)) M84
theorem w_T_splits_L43 {l : Launch} {G : GT} {fr lo : Nat} {h0 : Hp} {m0 : Nat} {hb : Hp} {N : Nat} {r : TM} (hfr : 1 ≤ fr) (hlo : 27 ≤ lo) {x43 : Int32 → Int32 → Int32 → Int32 → TM → Option TM} (hx43 : ∀ (v85 : Int32) (v86 : Int32) (v87 : Int32) (v88 : Int32) (M89 : TM), x43 v85 v86 v87 v88 M89 = some r → V l G cX6_splits RX6 "splits" 6 (Option.none : Option Jvm.ClassFile.FieldType) fr lo h0 (ovT m0 r hb) (QM G none h0 (ovT m0 r hb)) 68 [(0, .ref m0), (1, .int v85), (2, .int v86), (3, .int v87), (4, .int v88)] [] (ovT m0 M89 hb)) : ∀ (n : Nat) (v80 : Int32) (v81 : Int32) (v82 : Int32) (v83 : Int32) (M84 : TM), T_splits_L43 N x43 n v80 v81 v82 v83 M84 = some r → V l G cX6_splits RX6 "splits" 6 (Option.none : Option Jvm.ClassFile.FieldType) fr lo h0 (ovT m0 r hb) (QM G none h0 (ovT m0 r hb)) 43 [(0, .ref m0), (1, .int v80), (2, .int v81), (3, .int v82), (4, .int v83)] [] (ovT m0 M84 hb) := by
  intro n
  induction n with
  | zero =>
    intro v80 v81 v82 v83 M84 hF
    cases (show (none : Option TM) = some r from hF)
  | succ n hc43 =>
    intro v80 v81 v82 v83 M84 hF
    rw [T_splits_L43] at hF
    refine v_iload dX6_splits_43 4 rfl ?_
    refine v_iload_n dX6_splits_45 rfl 1 rfl ?_
    refine v_icmp_ge (tgt := 68) dX6_splits_46 (by decide) hF (fun hF => ?_) (fun hF => ?_)
    · exact v_sub [0, 1, 2, 3, 4] rfl (hx43 _ _ _ _ _ hF)
    · refine v_aload_n dX6_splits_49 rfl 0 rfl ?_
      refine t_geta 11 7 dX6_splits_50 fl_X6_41 (Nat.le_of_ble_eq_true rfl) (fun _ _ => rfl) ?_
      refine v_iload dX6_splits_53 4 rfl ?_
      refine t_bald 7 dX6_splits_55 rfl (Nat.le_of_ble_eq_true rfl) (by decide) hF (fun v90 hF => ?_)
      obtain ⟨v91, e_v91, hF⟩ := Option.bind_eq_some_iff.mp hF
      refine v_calS1 dX6_splits_56 sl_X6_168 q2009 (ct_T_isSmall e_v91) rfl rfl (Nat.le_trans (Nat.le_of_ble_eq_true rfl) hfr) (Nat.le_trans (Nat.le_of_ble_eq_true rfl) hlo) (Nat.le_of_ble_eq_true rfl) ?_
      refine v_if_eq (tgt := 68) dX6_splits_59 (by decide) hF (fun hF => ?_) (fun hF => ?_)
      · exact v_sub [0, 1, 2, 3, 4] rfl (hx43 _ _ _ _ _ hF)
      · refine v_iinc dX6_splits_62 4 rfl (v := v83 + (1 : Int32)) (by rfl) (Nat.le_of_ble_eq_true rfl) (L' := [(4, .int (v83 + (1 : Int32))), (0, .ref m0), (1, .int v80), (2, .int v81), (3, .int v82)]) rfl ?_
        refine v_goto (tgt := 43) dX6_splits_65 (by decide) ?_
        exact v_sub [1, 2, 3, 4, 0] rfl (hc43 _ _ _ _ _ hF)
def T_splits_L7 (N : Nat) (x7 : Int32 → TM → Option TM) : Nat → Int32 → Int32 → TM → Option TM
  | 0, _, _, _ => none
  | n98 + 1, v2, v3, M4 =>
    if v2 ≤ v3 then
      x7 v2 M4
    else
      (tra M4 11 400 v3).bind fun v7 =>
      if v7 = (32 : Int32) then
        (T_splits_L7 N x7 n98) v2 (v3 + (1 : Int32)) M4
      else
        (T_isSmall v7).bind fun v8 =>
        if v8 = 0 then
          T_splits_J68 N (T_splits_L7 N x7 n98) v2 v3 v7 (v3 + (1 : Int32)) M4
        else
          T_splits_L43 N (fun v93 v94 v95 v96 M97 =>
            T_splits_J68 N (T_splits_L7 N x7 n98) v93 v94 v95 v96 M97) N v2 v3 v7 (v3 + (1 : Int32)) M4
theorem w_T_splits_L7 {l : Launch} {G : GT} {fr lo : Nat} {h0 : Hp} {m0 : Nat} {hb : Hp} {N : Nat} {r : TM} (hfr : 1 ≤ fr) (hlo : 27 ≤ lo) {x7 : Int32 → TM → Option TM} (hx7 : ∀ (v5 : Int32) (M6 : TM), x7 v5 M6 = some r → V l G cX6_splits RX6 "splits" 6 (Option.none : Option Jvm.ClassFile.FieldType) fr lo h0 (ovT m0 r hb) (QM G none h0 (ovT m0 r hb)) 263 [(0, .ref m0), (1, .int v5)] [] (ovT m0 M6 hb)) : ∀ (n : Nat) (v2 : Int32) (v3 : Int32) (M4 : TM), T_splits_L7 N x7 n v2 v3 M4 = some r → V l G cX6_splits RX6 "splits" 6 (Option.none : Option Jvm.ClassFile.FieldType) fr lo h0 (ovT m0 r hb) (QM G none h0 (ovT m0 r hb)) 7 [(0, .ref m0), (1, .int v2), (2, .int v3)] [] (ovT m0 M4 hb) := by
  intro n
  induction n with
  | zero =>
    intro v2 v3 M4 hF
    cases (show (none : Option TM) = some r from hF)
  | succ n hc7 =>
    intro v2 v3 M4 hF
    rw [T_splits_L7] at hF
    refine v_iload_n dX6_splits_7 rfl 2 rfl ?_
    refine v_iload_n dX6_splits_8 rfl 1 rfl ?_
    refine v_icmp_ge (tgt := 263) dX6_splits_9 (by decide) hF (fun hF => ?_) (fun hF => ?_)
    · exact v_sub [0, 1] rfl (hx7 _ _ hF)
    · refine v_aload_n dX6_splits_12 rfl 0 rfl ?_
      refine t_geta 11 7 dX6_splits_13 fl_X6_41 (Nat.le_of_ble_eq_true rfl) (fun _ _ => rfl) ?_
      refine v_iload_n dX6_splits_16 rfl 2 rfl ?_
      refine t_bald 7 dX6_splits_17 rfl (Nat.le_of_ble_eq_true rfl) (by decide) hF (fun v7 hF => ?_)
      refine v_istore_n dX6_splits_18 rfl (Nat.le_of_ble_eq_true rfl) (L' := [(3, .int v7), (0, .ref m0), (1, .int v2), (2, .int v3)]) rfl ?_
      refine v_iload_n dX6_splits_19 rfl 0 rfl ?_
      refine v_bipush dX6_splits_20 (v := 32) (by decide) ?_
      refine v_icmp_ne (tgt := 31) dX6_splits_22 (by decide) hF (fun hF => ?_) (fun hF => ?_)
      · refine v_iload_n dX6_splits_31 rfl 3 rfl ?_
        refine v_iconst dX6_splits_32 (v := 1) (by decide) ?_
        refine v_iadd dX6_splits_33 ?_
        refine v_istore dX6_splits_34 (Nat.le_of_ble_eq_true rfl) (L' := [(4, .int (v3 + (1 : Int32))), (3, .int v7), (0, .ref m0), (1, .int v2), (2, .int v3)]) rfl ?_
        refine v_iload_n dX6_splits_36 rfl 1 rfl ?_
        obtain ⟨v8, e_v8, hF⟩ := Option.bind_eq_some_iff.mp hF
        refine v_calS1 dX6_splits_37 sl_X6_168 q2009 (ct_T_isSmall e_v8) rfl rfl (Nat.le_trans (Nat.le_of_ble_eq_true rfl) hfr) (Nat.le_trans (Nat.le_of_ble_eq_true rfl) hlo) (Nat.le_of_ble_eq_true rfl) ?_
        refine v_if_eq (tgt := 68) dX6_splits_40 (by decide) hF (fun hF => ?_) (fun hF => ?_)
        · exact v_sub [2, 3, 4, 1, 0] rfl (w_T_splits_J68 hfr hlo hc7 hF)
        · refine v_sub [2, 3, 4, 1, 0] rfl (w_T_splits_L43 hfr hlo ?_ N _ _ _ _ _ hF)
          intro v93 v94 v95 v96 M97 hF
          exact v_sub [0, 1, 2, 3, 4] rfl (w_T_splits_J68 hfr hlo hc7 hF)
      · refine v_iinc dX6_splits_25 3 rfl (v := v3 + (1 : Int32)) (by rfl) (Nat.le_of_ble_eq_true rfl) (L' := [(2, .int (v3 + (1 : Int32))), (3, .int v7), (0, .ref m0), (1, .int v2)]) rfl ?_
        refine v_goto (tgt := 7) dX6_splits_28 (by decide) ?_
        exact v_sub [2, 3, 0] rfl (hc7 _ _ _ hF)
def T_splits (N : Nat) (a1 : Int32) (M : TM) : Option TM :=
  (some (tsi M 18 (0 : Int32))).bind fun (M1 : TM) =>
  T_splits_L7 N (fun v99 M100 =>
    (twa M100 17 401 (M100.1 18) v99).bind fun M101 =>
    (twa M101 15 401 (M101.1 18) (0 : Int32)).bind fun M102 =>
    (twa M102 16 401 (M102.1 18) (0 : Int32)).bind fun M103 =>
    some M103) N a1 (0 : Int32) M1
theorem w_T_splits {l : Launch} {G : GT} {fr lo : Nat} {h0 : Hp} {m0 : Nat} {hb : Hp} {N : Nat} {r : TM} (hfr : 1 ≤ fr) (hlo : 27 ≤ lo) {a1 : Int32} {M : TM} (hF : T_splits N a1 M = some r) : V l G cX6_splits RX6 "splits" 6 (Option.none : Option Jvm.ClassFile.FieldType) fr lo h0 (ovT m0 r hb) (QM G none h0 (ovT m0 r hb)) 0 [(0, .ref m0), (1, .int a1)] [] (ovT m0 M hb) := by
  unfold T_splits at hF
  refine v_aload_n dX6_splits_0 rfl 0 rfl ?_
  refine v_iconst dX6_splits_1 (v := 0) (by decide) ?_
  refine t_puti 18 dX6_splits_2 pl_X6_165 rfl ?_
  refine v_letM hF (fun M1 hF => ?_)
  refine v_iconst dX6_splits_5 (v := 0) (by decide) ?_
  refine v_istore_n dX6_splits_6 rfl (Nat.le_of_ble_eq_true rfl) (L' := [(2, .int (0 : Int32)), (0, .ref m0), (1, .int a1)]) rfl ?_
  refine v_sub [1, 2, 0] rfl (w_T_splits_L7 hfr hlo ?_ N _ _ _ hF)
  intro v99 M100 hF
  refine v_aload_n dX6_splits_263 rfl 0 rfl ?_
  refine t_geta 17 11 dX6_splits_264 fl_X6_56 (Nat.le_of_ble_eq_true rfl) (fun _ _ => rfl) ?_
  refine v_aload_n dX6_splits_267 rfl 0 rfl ?_
  refine t_geti 18 dX6_splits_268 fl_X6_165 rfl ?_
  refine v_iload_n dX6_splits_271 rfl 1 rfl ?_
  refine t_iast 11 dX6_splits_272 rfl (Nat.le_of_ble_eq_true rfl) (by decide) hF (fun M101 hF => ?_)
  refine v_aload_n dX6_splits_273 rfl 0 rfl ?_
  refine t_geta 15 9 dX6_splits_274 fl_X6_50 (Nat.le_of_ble_eq_true rfl) (fun _ _ => rfl) ?_
  refine v_aload_n dX6_splits_277 rfl 0 rfl ?_
  refine t_geti 18 dX6_splits_278 fl_X6_165 rfl ?_
  refine v_iconst dX6_splits_281 (v := 0) (by decide) ?_
  refine t_iast 9 dX6_splits_282 rfl (Nat.le_of_ble_eq_true rfl) (by decide) hF (fun M102 hF => ?_)
  refine v_aload_n dX6_splits_283 rfl 0 rfl ?_
  refine t_geta 16 10 dX6_splits_284 fl_X6_53 (Nat.le_of_ble_eq_true rfl) (fun _ _ => rfl) ?_
  refine v_aload_n dX6_splits_287 rfl 0 rfl ?_
  refine t_geti 18 dX6_splits_288 fl_X6_165 rfl ?_
  refine v_iconst dX6_splits_291 (v := 0) (by decide) ?_
  refine t_iast 10 dX6_splits_292 rfl (Nat.le_of_ble_eq_true rfl) (by decide) hF (fun M103 hF => ?_)
  cases hF
  exact v_vret dX6_splits_293 rfl rfl rfl
theorem ct_T_splits {l : Launch} {G : GT} {m0 : Nat} {hb : Hp} {N : Nat} {r : TM} {a1 : Int32} {M : TM} (hF : T_splits N a1 M = some r) : Ct l G yX6_splits (ws_ yX6_splits cX6_splits 6 (Option.none : Option Jvm.ClassFile.FieldType)) 1 27 [.ref m0, .int a1] (ovT m0 M hb) none (ovT m0 r hb) :=
  ct_of (by decide) (Nat.le_of_ble_eq_true rfl) (w_T_splits (Nat.le_refl _) (Nat.le_refl _) hF)
theorem vl_X6_246 : ∀ ci ∈ [6], VL RX6 246 ci yX6_splits 1 := by
  intro ci h
  simp only [List.mem_cons, List.not_mem_nil, or_false] at h
  subst h; exact ⟨RX6, TX6, 56, rfl, q146, ⟨by decide, by decide⟩, by decide +kernel, q2005, Or.inl ⟨q2003, qs81⟩⟩
theorem vl_X6_249 : ∀ ci ∈ [6], VL RX6 249 ci yX6_readOne 0 := by
  intro ci h
  simp only [List.mem_cons, List.not_mem_nil, or_false] at h
  subst h; exact ⟨RX6, TX6, 56, rfl, q146, ⟨by decide, by decide⟩, by decide +kernel, q2020, Or.inl ⟨q2018, qs83⟩⟩
theorem pl_X6_47 : PL RX6 47 [6] 14 (.int) false := by
  intro ci h
  simp only [List.mem_cons, List.not_mem_nil, or_false] at h
  subst h; exact ⟨RX6, _, TX6, 56, tyX6, rfl, in_X6, by decide, Or.inl q1648, Or.inl rfl, tyX6_ok, rfl, by decide +kernel, rfl, fun z => by cases z⟩
def T_reads_J67 (N : Nat) (c34 : Int32 → TM → Option (Int32 × TM)) (v16 : Int32) (M17 : TM) : Option (Int32 × TM) :=
  c34 (v16 + (1 : Int32)) M17
theorem w_T_reads_J67 {l : Launch} {G : GT} {fr lo : Nat} {h0 : Hp} {m0 : Nat} {hb : Hp} {N : Nat} {r : (Int32 × TM)} (hfr : 103 ≤ fr) (hlo : 2209 ≤ lo) {c34 : Int32 → TM → Option (Int32 × TM)} (hc34 : ∀ (v7 : Int32) (M8 : TM), c34 v7 M8 = some r → V l G cX6_reads RX6 "reads" 2 (Option.some Jvm.ClassFile.FieldType.boolean) fr lo h0 (ovT m0 r.2 hb) (QM G (some (.int r.1)) h0 (ovT m0 r.2 hb)) 34 [(0, .ref m0), (1, .int v7)] [] (ovT m0 M8 hb)) {v16 : Int32} {M17 : TM} (hF : T_reads_J67 N c34 v16 M17 = some r) : V l G cX6_reads RX6 "reads" 2 (Option.some Jvm.ClassFile.FieldType.boolean) fr lo h0 (ovT m0 r.2 hb) (QM G (some (.int r.1)) h0 (ovT m0 r.2 hb)) 67 [(0, .ref m0), (1, .int v16)] [] (ovT m0 M17 hb) := by
  unfold T_reads_J67 at hF
  refine v_iinc dX6_reads_67 1 rfl (v := v16 + (1 : Int32)) (by rfl) (Nat.le_of_ble_eq_true rfl) (L' := [(1, .int (v16 + (1 : Int32))), (0, .ref m0)]) rfl ?_
  refine v_goto (tgt := 34) dX6_reads_70 (by decide) ?_
  exact v_sub [1, 0] rfl (hc34 _ _ hF)
def T_reads_J56 (N : Nat) (c34 : Int32 → TM → Option (Int32 × TM)) (v13 : Int32) (M14 : TM) : Option (Int32 × TM) :=
  (T_fine M14).bind fun v15 =>
  if v15 = 0 then
    T_reads_J67 N c34 v13 M14
  else
    (T_readOne N M14).bind fun M18 =>
    T_reads_J67 N c34 v13 M18
theorem w_T_reads_J56 {l : Launch} {G : GT} {fr lo : Nat} {h0 : Hp} {m0 : Nat} {hb : Hp} {N : Nat} {r : (Int32 × TM)} (hfr : 103 ≤ fr) (hlo : 2209 ≤ lo) {c34 : Int32 → TM → Option (Int32 × TM)} (hc34 : ∀ (v7 : Int32) (M8 : TM), c34 v7 M8 = some r → V l G cX6_reads RX6 "reads" 2 (Option.some Jvm.ClassFile.FieldType.boolean) fr lo h0 (ovT m0 r.2 hb) (QM G (some (.int r.1)) h0 (ovT m0 r.2 hb)) 34 [(0, .ref m0), (1, .int v7)] [] (ovT m0 M8 hb)) {v13 : Int32} {M14 : TM} (hF : T_reads_J56 N c34 v13 M14 = some r) : V l G cX6_reads RX6 "reads" 2 (Option.some Jvm.ClassFile.FieldType.boolean) fr lo h0 (ovT m0 r.2 hb) (QM G (some (.int r.1)) h0 (ovT m0 r.2 hb)) 56 [(0, .ref m0), (1, .int v13)] [] (ovT m0 M14 hb) := by
  unfold T_reads_J56 at hF
  refine v_aload_n dX6_reads_56 rfl 0 rfl ?_
  obtain ⟨v15, e_v15, hF⟩ := Option.bind_eq_some_iff.mp hF
  refine v_calV1 dX6_reads_57 vl_X6_181 q2033 rc_ov (ct_T_fine e_v15) rfl rfl (Nat.le_trans (Nat.le_of_ble_eq_true rfl) hfr) (Nat.le_trans (Nat.le_of_ble_eq_true rfl) hlo) (Nat.le_of_ble_eq_true rfl) ?_
  refine v_if_eq (tgt := 67) dX6_reads_60 (by decide) hF (fun hF => ?_) (fun hF => ?_)
  · exact v_sub [0, 1] rfl (w_T_reads_J67 hfr hlo hc34 hF)
  · refine v_aload_n dX6_reads_63 rfl 0 rfl ?_
    obtain ⟨M18, e_M18, hF⟩ := Option.bind_eq_some_iff.mp hF
    refine v_calV0 dX6_reads_64 vl_X6_249 q2021 rc_ov (ct_T_readOne e_M18) rfl rfl (Nat.le_trans (Nat.le_of_ble_eq_true rfl) hfr) (Nat.le_trans (Nat.le_of_ble_eq_true rfl) hlo) (Nat.le_of_ble_eq_true rfl) ?_
    exact v_sub [0, 1] rfl (w_T_reads_J67 hfr hlo hc34 hF)
def T_reads_L34 (N : Nat) (x34 : TM → Option (Int32 × TM)) : Nat → Int32 → TM → Option (Int32 × TM)
  | 0, _, _ => none
  | n20 + 1, v7, M8 =>
    (T_sign (59 : Int32)).bind fun v10 =>
    bd2 (T_takes0 v10 M8) fun v12 M11 =>
    if v12 = 0 then
      x34 M11
    else
      if v7 = (12 : Int32) then
        (T_faults M11).bind fun M19 =>
        T_reads_J56 N (T_reads_L34 N x34 n20) v7 M19
      else
        T_reads_J56 N (T_reads_L34 N x34 n20) v7 M11
theorem w_T_reads_L34 {l : Launch} {G : GT} {fr lo : Nat} {h0 : Hp} {m0 : Nat} {hb : Hp} {N : Nat} {r : (Int32 × TM)} (hfr : 103 ≤ fr) (hlo : 2209 ≤ lo) {x34 : TM → Option (Int32 × TM)} (hx34 : ∀ (M9 : TM), x34 M9 = some r → V l G cX6_reads RX6 "reads" 2 (Option.some Jvm.ClassFile.FieldType.boolean) fr lo h0 (ovT m0 r.2 hb) (QM G (some (.int r.1)) h0 (ovT m0 r.2 hb)) 73 [(0, .ref m0)] [] (ovT m0 M9 hb)) : ∀ (n : Nat) (v7 : Int32) (M8 : TM), T_reads_L34 N x34 n v7 M8 = some r → V l G cX6_reads RX6 "reads" 2 (Option.some Jvm.ClassFile.FieldType.boolean) fr lo h0 (ovT m0 r.2 hb) (QM G (some (.int r.1)) h0 (ovT m0 r.2 hb)) 34 [(0, .ref m0), (1, .int v7)] [] (ovT m0 M8 hb) := by
  intro n
  induction n with
  | zero =>
    intro v7 M8 hF
    cases (show (none : Option (Int32 × TM)) = some r from hF)
  | succ n hc34 =>
    intro v7 M8 hF
    rw [T_reads_L34] at hF
    refine v_aload_n dX6_reads_34 rfl 0 rfl ?_
    refine v_bipush dX6_reads_35 (v := 59) (by decide) ?_
    obtain ⟨v10, e_v10, hF⟩ := Option.bind_eq_some_iff.mp hF
    refine v_calS1 dX6_reads_37 sl_X6_227 q1902 (ct_T_sign e_v10) rfl rfl (Nat.le_trans (Nat.le_of_ble_eq_true rfl) hfr) (Nat.le_trans (Nat.le_of_ble_eq_true rfl) hlo) (Nat.le_of_ble_eq_true rfl) ?_
    obtain ⟨v12, M11, e_v12, hF⟩ := bd2_spec hF
    refine v_calV1 dX6_reads_40 vl_X6_188 q2029 rc_ov (ct_T_takes0 e_v12) rfl rfl (Nat.le_trans (Nat.le_of_ble_eq_true rfl) hfr) (Nat.le_trans (Nat.le_of_ble_eq_true rfl) hlo) (Nat.le_of_ble_eq_true rfl) ?_
    refine v_if_eq (tgt := 73) dX6_reads_43 (by decide) hF (fun hF => ?_) (fun hF => ?_)
    · exact v_sub [0] rfl (hx34 _ hF)
    · refine v_iload_n dX6_reads_46 rfl 1 rfl ?_
      refine v_bipush dX6_reads_47 (v := 12) (by decide) ?_
      refine v_icmp_ne (tgt := 56) dX6_reads_49 (by decide) hF (fun hF => ?_) (fun hF => ?_)
      · exact v_sub [0, 1] rfl (w_T_reads_J56 hfr hlo hc34 hF)
      · refine v_aload_n dX6_reads_52 rfl 0 rfl ?_
        obtain ⟨M19, e_M19, hF⟩ := Option.bind_eq_some_iff.mp hF
        refine v_calV0 dX6_reads_53 vl_X6_191 q2049 rc_ov (ct_T_faults e_M19) rfl rfl (Nat.le_trans (Nat.le_of_ble_eq_true rfl) hfr) (Nat.le_trans (Nat.le_of_ble_eq_true rfl) hlo) (Nat.le_of_ble_eq_true rfl) ?_
        exact v_sub [0, 1] rfl (w_T_reads_J56 hfr hlo hc34 hF)
def T_reads_J95 (N : Nat) (M23 : TM) : Option (Int32 × TM) :=
  (some (tsi M23 14 (M23.1 21))).bind fun (M24 : TM) =>
  (T_fine M24).bind fun v25 =>
  (rz v25).bind fun v26 => some (v26, M24)
theorem w_T_reads_J95 {l : Launch} {G : GT} {fr lo : Nat} {h0 : Hp} {m0 : Nat} {hb : Hp} {N : Nat} {r : (Int32 × TM)} (hfr : 103 ≤ fr) (hlo : 2209 ≤ lo)   {M23 : TM} (hF : T_reads_J95 N M23 = some r) : V l G cX6_reads RX6 "reads" 2 (Option.some Jvm.ClassFile.FieldType.boolean) fr lo h0 (ovT m0 r.2 hb) (QM G (some (.int r.1)) h0 (ovT m0 r.2 hb)) 95 [(0, .ref m0)] [] (ovT m0 M23 hb) := by
  unfold T_reads_J95 at hF
  refine v_aload_n dX6_reads_95 rfl 0 rfl ?_
  refine v_aload_n dX6_reads_96 rfl 0 rfl ?_
  refine t_geti 21 dX6_reads_97 fl_X6_178 rfl ?_
  refine t_puti 14 dX6_reads_100 pl_X6_47 rfl ?_
  refine v_letM hF (fun M24 hF => ?_)
  refine v_aload_n dX6_reads_103 rfl 0 rfl ?_
  obtain ⟨v25, e_v25, hF⟩ := Option.bind_eq_some_iff.mp hF
  refine v_calV1 dX6_reads_104 vl_X6_181 q2033 rc_ov (ct_T_fine e_v25) rfl rfl (Nat.le_trans (Nat.le_of_ble_eq_true rfl) hfr) (Nat.le_trans (Nat.le_of_ble_eq_true rfl) hlo) (Nat.le_of_ble_eq_true rfl) ?_
  refine v_zchk hF (fun v26 hz hF => ?_)
  cases hF
  exact v_iret dX6_reads_107 rfl (nar_z hz) rfl rfl
def T_reads (N : Nat) (M : TM) : Option (Int32 × TM) :=
  (T_splits N (M.1 13) M).bind fun M1 =>
  (some (tsi M1 13 (0 : Int32))).bind fun (M2 : TM) =>
  (some (tsi M2 19 (0 : Int32))).bind fun (M3 : TM) =>
  (some (tsi M3 20 (0 : Int32))).bind fun (M4 : TM) =>
  (some (tsi M4 21 (-1 : Int32))).bind fun (M5 : TM) =>
  (T_readOne N M5).bind fun M6 =>
  T_reads_L34 N (fun M21 =>
    (T_fine M21).bind fun v22 =>
    if v22 = 0 then
      T_reads_J95 N M21
    else
      if (M21.1 18) ≤ (M21.1 19) then
        T_reads_J95 N M21
      else
        (T_faults M21).bind fun M27 =>
        T_reads_J95 N M27) N (1 : Int32) M6
theorem w_T_reads {l : Launch} {G : GT} {fr lo : Nat} {h0 : Hp} {m0 : Nat} {hb : Hp} {N : Nat} {r : (Int32 × TM)} (hfr : 103 ≤ fr) (hlo : 2209 ≤ lo) {M : TM} (hF : T_reads N M = some r) : V l G cX6_reads RX6 "reads" 2 (Option.some Jvm.ClassFile.FieldType.boolean) fr lo h0 (ovT m0 r.2 hb) (QM G (some (.int r.1)) h0 (ovT m0 r.2 hb)) 0 [(0, .ref m0)] [] (ovT m0 M hb) := by
  unfold T_reads at hF
  refine v_aload_n dX6_reads_0 rfl 0 rfl ?_
  refine v_aload_n dX6_reads_1 rfl 0 rfl ?_
  refine t_geti 13 dX6_reads_2 fl_X6_159 rfl ?_
  obtain ⟨M1, e_M1, hF⟩ := Option.bind_eq_some_iff.mp hF
  refine v_calV0 dX6_reads_5 vl_X6_246 q2006 rc_ov (ct_T_splits e_M1) rfl rfl (Nat.le_trans (Nat.le_of_ble_eq_true rfl) hfr) (Nat.le_trans (Nat.le_of_ble_eq_true rfl) hlo) (Nat.le_of_ble_eq_true rfl) ?_
  refine v_aload_n dX6_reads_8 rfl 0 rfl ?_
  refine v_iconst dX6_reads_9 (v := 0) (by decide) ?_
  refine t_puti 13 dX6_reads_10 pl_X6_159 rfl ?_
  refine v_letM hF (fun M2 hF => ?_)
  refine v_aload_n dX6_reads_13 rfl 0 rfl ?_
  refine v_iconst dX6_reads_14 (v := 0) (by decide) ?_
  refine t_puti 19 dX6_reads_15 pl_X6_185 rfl ?_
  refine v_letM hF (fun M3 hF => ?_)
  refine v_aload_n dX6_reads_18 rfl 0 rfl ?_
  refine v_iconst dX6_reads_19 (v := 0) (by decide) ?_
  refine t_puti 20 dX6_reads_20 pl_X6_194 rfl ?_
  refine v_letM hF (fun M4 hF => ?_)
  refine v_aload_n dX6_reads_23 rfl 0 rfl ?_
  refine v_iconst dX6_reads_24 (v := -1) (by decide) ?_
  refine t_puti 21 dX6_reads_25 pl_X6_178 rfl ?_
  refine v_letM hF (fun M5 hF => ?_)
  refine v_aload_n dX6_reads_28 rfl 0 rfl ?_
  obtain ⟨M6, e_M6, hF⟩ := Option.bind_eq_some_iff.mp hF
  refine v_calV0 dX6_reads_29 vl_X6_249 q2021 rc_ov (ct_T_readOne e_M6) rfl rfl (Nat.le_trans (Nat.le_of_ble_eq_true rfl) hfr) (Nat.le_trans (Nat.le_of_ble_eq_true rfl) hlo) (Nat.le_of_ble_eq_true rfl) ?_
  refine v_iconst dX6_reads_32 (v := 1) (by decide) ?_
  refine v_istore_n dX6_reads_33 rfl (Nat.le_of_ble_eq_true rfl) (L' := [(1, .int (1 : Int32)), (0, .ref m0)]) rfl ?_
  refine v_sub [1, 0] rfl (w_T_reads_L34 hfr hlo ?_ N _ _ hF)
  intro M21 hF
  refine v_aload_n dX6_reads_73 rfl 0 rfl ?_
  obtain ⟨v22, e_v22, hF⟩ := Option.bind_eq_some_iff.mp hF
  refine v_calV1 dX6_reads_74 vl_X6_181 q2033 rc_ov (ct_T_fine e_v22) rfl rfl (Nat.le_trans (Nat.le_of_ble_eq_true rfl) hfr) (Nat.le_trans (Nat.le_of_ble_eq_true rfl) hlo) (Nat.le_of_ble_eq_true rfl) ?_
  refine v_if_eq (tgt := 95) dX6_reads_77 (by decide) hF (fun hF => ?_) (fun hF => ?_)
  · exact v_sub [0] rfl (w_T_reads_J95 hfr hlo hF)
  · refine v_aload_n dX6_reads_80 rfl 0 rfl ?_
    refine t_geti 19 dX6_reads_81 fl_X6_185 rfl ?_
    refine v_aload_n dX6_reads_84 rfl 0 rfl ?_
    refine t_geti 18 dX6_reads_85 fl_X6_165 rfl ?_
    refine v_icmp_ge (tgt := 95) dX6_reads_88 (by decide) hF (fun hF => ?_) (fun hF => ?_)
    · exact v_sub [0] rfl (w_T_reads_J95 hfr hlo hF)
    · refine v_aload_n dX6_reads_91 rfl 0 rfl ?_
      obtain ⟨M27, e_M27, hF⟩ := Option.bind_eq_some_iff.mp hF
      refine v_calV0 dX6_reads_92 vl_X6_191 q2049 rc_ov (ct_T_faults e_M27) rfl rfl (Nat.le_trans (Nat.le_of_ble_eq_true rfl) hfr) (Nat.le_trans (Nat.le_of_ble_eq_true rfl) hlo) (Nat.le_of_ble_eq_true rfl) ?_
      exact v_sub [0] rfl (w_T_reads_J95 hfr hlo hF)
theorem ct_T_reads {l : Launch} {G : GT} {m0 : Nat} {hb : Hp} {N : Nat} {r : (Int32 × TM)} {M : TM} (hF : T_reads N M = some r) : Ct l G yX6_reads (ws_ yX6_reads cX6_reads 2 (Option.some Jvm.ClassFile.FieldType.boolean)) 103 2209 [.ref m0] (ovT m0 M hb) (some (.int r.1)) (ovT m0 r.2 hb) :=
  ct_of (by decide) (Nat.le_of_ble_eq_true rfl) (w_T_reads (Nat.le_refl _) (Nat.le_refl _) hF)
theorem pl_X6_211 : PL RX6 211 [6] 10 (.boolean) false := by
  intro ci h
  simp only [List.mem_cons, List.not_mem_nil, or_false] at h
  subst h; exact ⟨RX6, _, TX6, 56, tyX6, rfl, in_X6, by decide, Or.inl q1644, Or.inl rfl, tyX6_ok, rfl, by decide +kernel, rfl, fun z => by cases z⟩
theorem pl_X6_237 : PL RX6 237 [6] 8 (.int) false := by
  intro ci h
  simp only [List.mem_cons, List.not_mem_nil, or_false] at h
  subst h; exact ⟨RX6, _, TX6, 56, tyX6, rfl, in_X6, by decide, Or.inl q1642, Or.inl rfl, tyX6_ok, rfl, by decide +kernel, rfl, fun z => by cases z⟩
theorem pl_X6_240 : PL RX6 240 [6] 9 (.int) false := by
  intro ci h
  simp only [List.mem_cons, List.not_mem_nil, or_false] at h
  subst h; exact ⟨RX6, _, TX6, 56, tyX6, rfl, in_X6, by decide, Or.inl q1643, Or.inl rfl, tyX6_ok, rfl, by decide +kernel, rfl, fun z => by cases z⟩
theorem vl_X6_252 : ∀ ci ∈ [6], VL RX6 252 ci yX6_reads 0 := by
  intro ci h
  simp only [List.mem_cons, List.not_mem_nil, or_false] at h
  subst h; exact ⟨RX6, TX6, 56, rfl, q146, ⟨by decide, by decide⟩, by decide +kernel, q2001, Or.inl ⟨q1999, qs80⟩⟩
def T_readsAs_J32 (N : Nat) (v6 : Int32) (M7 : TM) : Option (Int32 × TM) :=
  (some (tsi M7 9 v6)).bind fun (M8 : TM) =>
  bd2 (T_reads N M8) fun v10 M9 =>
  (rz v10).bind fun v11 => some (v11, M9)
theorem w_T_readsAs_J32 {l : Launch} {G : GT} {fr lo : Nat} {h0 : Hp} {m0 : Nat} {hb : Hp} {N : Nat} {r : (Int32 × TM)} (hfr : 104 ≤ fr) (hlo : 2230 ≤ lo)   {v6 : Int32} {M7 : TM} (hF : T_readsAs_J32 N v6 M7 = some r) : V l G cX6_readsAs RX6 "readsAs" 2 (Option.some Jvm.ClassFile.FieldType.boolean) fr lo h0 (ovT m0 r.2 hb) (QM G (some (.int r.1)) h0 (ovT m0 r.2 hb)) 32 [(0, .ref m0)] [.int v6, .ref m0] (ovT m0 M7 hb) := by
  unfold T_readsAs_J32 at hF
  refine t_puti 9 dX6_readsAs_32 pl_X6_240 rfl ?_
  refine v_letM hF (fun M8 hF => ?_)
  refine v_aload_n dX6_readsAs_35 rfl 0 rfl ?_
  obtain ⟨v10, M9, e_v10, hF⟩ := bd2_spec hF
  refine v_calV1 dX6_readsAs_36 vl_X6_252 q2002 rc_ov (ct_T_reads e_v10) rfl rfl (Nat.le_trans (Nat.le_of_ble_eq_true rfl) hfr) (Nat.le_trans (Nat.le_of_ble_eq_true rfl) hlo) (Nat.le_of_ble_eq_true rfl) ?_
  refine v_zchk hF (fun v11 hz hF => ?_)
  cases hF
  exact v_iret dX6_readsAs_39 rfl (nar_z hz) rfl rfl
def T_readsAs_J17 (N : Nat) (v2 : Int32) (v3 : Int32) (M4 : TM) : Option (Int32 × TM) :=
  (some (tsi M4 8 v3)).bind fun (M5 : TM) =>
  T_readsAs_J32 N (if v2 = 0 then (16 : Int32) else (20 : Int32)) M5
theorem w_T_readsAs_J17 {l : Launch} {G : GT} {fr lo : Nat} {h0 : Hp} {m0 : Nat} {hb : Hp} {N : Nat} {r : (Int32 × TM)} (hfr : 104 ≤ fr) (hlo : 2230 ≤ lo)   {v2 : Int32} {v3 : Int32} {M4 : TM} (hF : T_readsAs_J17 N v2 v3 M4 = some r) : V l G cX6_readsAs RX6 "readsAs" 2 (Option.some Jvm.ClassFile.FieldType.boolean) fr lo h0 (ovT m0 r.2 hb) (QM G (some (.int r.1)) h0 (ovT m0 r.2 hb)) 17 [(0, .ref m0), (1, .int v2)] [.int v3, .ref m0] (ovT m0 M4 hb) := by
  unfold T_readsAs_J17 at hF
  refine t_puti 8 dX6_readsAs_17 pl_X6_237 rfl ?_
  refine v_letM hF (fun M5 hF => ?_)
  refine v_aload_n dX6_readsAs_20 rfl 0 rfl ?_
  refine v_iload_n dX6_readsAs_21 rfl 1 rfl ?_
  refine v_tern (c := v2 = 0) (x := (16 : Int32)) (y := (20 : Int32)) (pcj := 32) (st := [.ref m0]) ?_ (fun kt kf => v_if_eq0 (tgt := 30) dX6_readsAs_22 (by decide) kt kf) (fun K => ?_) (fun K => ?_)
  · exact v_sub [0] rfl (w_T_readsAs_J32 hfr hlo hF)
  · refine v_bipush dX6_readsAs_30 (v := 16) (by decide) ?_
    exact K
  · refine v_bipush dX6_readsAs_25 (v := 20) (by decide) ?_
    refine v_goto (tgt := 32) dX6_readsAs_27 (by decide) ?_
    exact K
def T_readsAs (N : Nat) (a1 : Int32) (M : TM) : Option (Int32 × TM) :=
  (tsz M 10 a1).bind fun M1 =>
  T_readsAs_J17 N a1 (if a1 = 0 then (8 : Int32) else (14 : Int32)) M1
theorem w_T_readsAs {l : Launch} {G : GT} {fr lo : Nat} {h0 : Hp} {m0 : Nat} {hb : Hp} {N : Nat} {r : (Int32 × TM)} (hfr : 104 ≤ fr) (hlo : 2230 ≤ lo) {a1 : Int32} {M : TM} (hF : T_readsAs N a1 M = some r) : V l G cX6_readsAs RX6 "readsAs" 2 (Option.some Jvm.ClassFile.FieldType.boolean) fr lo h0 (ovT m0 r.2 hb) (QM G (some (.int r.1)) h0 (ovT m0 r.2 hb)) 0 [(0, .ref m0), (1, .int a1)] [] (ovT m0 M hb) := by
  unfold T_readsAs at hF
  refine v_aload_n dX6_readsAs_0 rfl 0 rfl ?_
  refine v_iload_n dX6_readsAs_1 rfl 1 rfl ?_
  refine t_putz 10 dX6_readsAs_2 pl_X6_211 rfl hF (fun M1 hF => ?_)
  refine v_aload_n dX6_readsAs_5 rfl 0 rfl ?_
  refine v_iload_n dX6_readsAs_6 rfl 1 rfl ?_
  refine v_tern (c := a1 = 0) (x := (8 : Int32)) (y := (14 : Int32)) (pcj := 17) (st := [.ref m0]) ?_ (fun kt kf => v_if_eq0 (tgt := 15) dX6_readsAs_7 (by decide) kt kf) (fun K => ?_) (fun K => ?_)
  · exact v_sub [0, 1] rfl (w_T_readsAs_J17 hfr hlo hF)
  · refine v_bipush dX6_readsAs_15 (v := 8) (by decide) ?_
    exact K
  · refine v_bipush dX6_readsAs_10 (v := 14) (by decide) ?_
    refine v_goto (tgt := 17) dX6_readsAs_12 (by decide) ?_
    exact K
theorem ct_T_readsAs {l : Launch} {G : GT} {m0 : Nat} {hb : Hp} {N : Nat} {r : (Int32 × TM)} {a1 : Int32} {M : TM} (hF : T_readsAs N a1 M = some r) : Ct l G yX6_readsAs (ws_ yX6_readsAs cX6_readsAs 2 (Option.some Jvm.ClassFile.FieldType.boolean)) 104 2230 [.ref m0, .int a1] (ovT m0 M hb) (some (.int r.1)) (ovT m0 r.2 hb) :=
  ct_of (by decide) (Nat.le_of_ble_eq_true rfl) (w_T_readsAs (Nat.le_refl _) (Nat.le_refl _) hF)
theorem vl_X6_255 : ∀ ci ∈ [6], VL RX6 255 ci yX6_readsAs 1 := by
  intro ci h
  simp only [List.mem_cons, List.not_mem_nil, or_false] at h
  subst h; exact ⟨RX6, TX6, 56, rfl, q146, ⟨by decide, by decide⟩, by decide +kernel, q1997, Or.inl ⟨q1995, qs79⟩⟩
theorem vl_X6_259 : ∀ ci ∈ [6], VL RX6 259 ci yX6_lays 1 := by
  intro ci h
  simp only [List.mem_cons, List.not_mem_nil, or_false] at h
  subst h; exact ⟨RX6, TX6, 56, rfl, q146, ⟨by decide, by decide⟩, by decide +kernel, q2080, Or.inl ⟨q2078, qs98⟩⟩
def T_law (N : Nat) (M : TM) : Option (Int32 × TM) :=
  (tra M 2 5660 (51 : Int32)).bind fun v1 =>
  if v1 = (6 : Int32) then
    (some (tsi M 13 (0 : Int32))).bind fun (M13 : TM) =>
    bd2 (T_refuses (-5 : Int32) M13) fun v15 M14 =>
    some (v15, M14)
  else
    bd2 (T_readsAs N (0 : Int32) M) fun v3 M2 =>
    if v3 = 0 then
      bd2 (T_refuses (-6 : Int32) M2) fun v12 M11 =>
      some (v12, M11)
    else
      (tra M2 2 5660 (51 : Int32)).bind fun v4 =>
      (T_lays N v4 M2).bind fun M5 =>
      (tra M5 2 5660 (51 : Int32)).bind fun v6 =>
      (twa M5 2 5660 (51 : Int32) (v6 + (1 : Int32))).bind fun M7 =>
      (tra M7 2 5660 (51 : Int32)).bind fun v8 =>
      bd2 (T_good (v8 - (1 : Int32)) M7) fun v10 M9 =>
      some (v10, M9)
theorem w_T_law {l : Launch} {G : GT} {fr lo : Nat} {h0 : Hp} {m0 : Nat} {hb : Hp} {N : Nat} {r : (Int32 × TM)} (hfr : 105 ≤ fr) (hlo : 2251 ≤ lo) {M : TM} (hF : T_law N M = some r) : V l G cX6_law RX6 "law" 1 (Option.some Jvm.ClassFile.FieldType.int) fr lo h0 (ovT m0 r.2 hb) (QM G (some (.int r.1)) h0 (ovT m0 r.2 hb)) 0 [(0, .ref m0)] [] (ovT m0 M hb) := by
  unfold T_law at hF
  refine v_aload_n dX6_law_0 rfl 0 rfl ?_
  refine t_geta 2 2 dX6_law_1 fl_X6_24 (Nat.le_of_ble_eq_true rfl) (fun _ _ => rfl) ?_
  refine v_bipush dX6_law_4 (v := 51) (by decide) ?_
  refine t_iald 2 dX6_law_6 rfl (Nat.le_of_ble_eq_true rfl) (by decide) hF (fun v1 hF => ?_)
  refine v_bipush dX6_law_7 (v := 6) (by decide) ?_
  refine v_icmp_ne (tgt := 24) dX6_law_9 (by decide) hF (fun hF => ?_) (fun hF => ?_)
  · refine v_aload_n dX6_law_24 rfl 0 rfl ?_
    refine v_iconst dX6_law_25 (v := 0) (by decide) ?_
    obtain ⟨v3, M2, e_v3, hF⟩ := bd2_spec hF
    refine v_calV1 dX6_law_26 vl_X6_255 q1998 rc_ov (ct_T_readsAs e_v3) rfl rfl (Nat.le_trans (Nat.le_of_ble_eq_true rfl) hfr) (Nat.le_trans (Nat.le_of_ble_eq_true rfl) hlo) (Nat.le_of_ble_eq_true rfl) ?_
    refine v_if_ne (tgt := 39) dX6_law_29 (by decide) hF (fun hF => ?_) (fun hF => ?_)
    · refine v_aload_n dX6_law_39 rfl 0 rfl ?_
      refine v_aload_n dX6_law_40 rfl 0 rfl ?_
      refine t_geta 2 2 dX6_law_41 fl_X6_24 (Nat.le_of_ble_eq_true rfl) (fun _ _ => rfl) ?_
      refine v_bipush dX6_law_44 (v := 51) (by decide) ?_
      refine t_iald 2 dX6_law_46 rfl (Nat.le_of_ble_eq_true rfl) (by decide) hF (fun v4 hF => ?_)
      obtain ⟨M5, e_M5, hF⟩ := Option.bind_eq_some_iff.mp hF
      refine v_calV0 dX6_law_47 vl_X6_259 q2081 rc_ov (ct_T_lays e_M5) rfl rfl (Nat.le_trans (Nat.le_of_ble_eq_true rfl) hfr) (Nat.le_trans (Nat.le_of_ble_eq_true rfl) hlo) (Nat.le_of_ble_eq_true rfl) ?_
      refine v_aload_n dX6_law_50 rfl 0 rfl ?_
      refine t_geta 2 2 dX6_law_51 fl_X6_24 (Nat.le_of_ble_eq_true rfl) (fun _ _ => rfl) ?_
      refine v_bipush dX6_law_54 (v := 51) (by decide) ?_
      refine v_dup2 dX6_law_56 rfl rfl ?_
      refine t_iald 2 dX6_law_57 rfl (Nat.le_of_ble_eq_true rfl) (by decide) hF (fun v6 hF => ?_)
      refine v_iconst dX6_law_58 (v := 1) (by decide) ?_
      refine v_iadd dX6_law_59 ?_
      refine t_iast 2 dX6_law_60 rfl (Nat.le_of_ble_eq_true rfl) (by decide) hF (fun M7 hF => ?_)
      refine v_aload_n dX6_law_61 rfl 0 rfl ?_
      refine v_aload_n dX6_law_62 rfl 0 rfl ?_
      refine t_geta 2 2 dX6_law_63 fl_X6_24 (Nat.le_of_ble_eq_true rfl) (fun _ _ => rfl) ?_
      refine v_bipush dX6_law_66 (v := 51) (by decide) ?_
      refine t_iald 2 dX6_law_68 rfl (Nat.le_of_ble_eq_true rfl) (by decide) hF (fun v8 hF => ?_)
      refine v_iconst dX6_law_69 (v := 1) (by decide) ?_
      refine v_isub dX6_law_70 ?_
      obtain ⟨v10, M9, e_v10, hF⟩ := bd2_spec hF
      refine v_calV1 dX6_law_71 vl_X6_14 q1818 rc_ov (ct_T_good e_v10) rfl rfl (Nat.le_trans (Nat.le_of_ble_eq_true rfl) hfr) (Nat.le_trans (Nat.le_of_ble_eq_true rfl) hlo) (Nat.le_of_ble_eq_true rfl) ?_
      cases hF
      exact v_iret dX6_law_74 rfl rfl rfl rfl
    · refine v_aload_n dX6_law_32 rfl 0 rfl ?_
      refine v_bipush dX6_law_33 (v := -6) (by decide) ?_
      obtain ⟨v12, M11, e_v12, hF⟩ := bd2_spec hF
      refine v_calV1 dX6_law_35 vl_X6_106 q1814 rc_ov (ct_T_refuses e_v12) rfl rfl (Nat.le_trans (Nat.le_of_ble_eq_true rfl) hfr) (Nat.le_trans (Nat.le_of_ble_eq_true rfl) hlo) (Nat.le_of_ble_eq_true rfl) ?_
      cases hF
      exact v_iret dX6_law_38 rfl rfl rfl rfl
  · refine v_aload_n dX6_law_12 rfl 0 rfl ?_
    refine v_iconst dX6_law_13 (v := 0) (by decide) ?_
    refine t_puti 13 dX6_law_14 pl_X6_159 rfl ?_
    refine v_letM hF (fun M13 hF => ?_)
    refine v_aload_n dX6_law_17 rfl 0 rfl ?_
    refine v_bipush dX6_law_18 (v := -5) (by decide) ?_
    obtain ⟨v15, M14, e_v15, hF⟩ := bd2_spec hF
    refine v_calV1 dX6_law_20 vl_X6_106 q1814 rc_ov (ct_T_refuses e_v15) rfl rfl (Nat.le_trans (Nat.le_of_ble_eq_true rfl) hfr) (Nat.le_trans (Nat.le_of_ble_eq_true rfl) hlo) (Nat.le_of_ble_eq_true rfl) ?_
    cases hF
    exact v_iret dX6_law_23 rfl rfl rfl rfl
theorem ct_T_law {l : Launch} {G : GT} {m0 : Nat} {hb : Hp} {N : Nat} {r : (Int32 × TM)} {M : TM} (hF : T_law N M = some r) : Ct l G yX6_law (ws_ yX6_law cX6_law 1 (Option.some Jvm.ClassFile.FieldType.int)) 105 2251 [.ref m0] (ovT m0 M hb) (some (.int r.1)) (ovT m0 r.2 hb) :=
  ct_of (by decide) (Nat.le_of_ble_eq_true rfl) (w_T_law (Nat.le_refl _) (Nat.le_refl _) hF)
theorem fl_X6_47 : FL RX6 47 [6] 14 := by
  intro ci h
  simp only [List.mem_cons, List.not_mem_nil, or_false] at h
  subst h; exact ⟨RX6, _, TX6, 56, rfl, in_X6, by decide, Or.inl q1648, Or.inl rfl⟩
def T_fault (M : TM) : Option Int32 :=
  some (M.1 14)
theorem w_T_fault {l : Launch} {G : GT} {fr lo : Nat} {h0 : Hp} {m0 : Nat} {hb : Hp} {M : TM} {r : Int32} (hfr : 0 ≤ fr) (hlo : 0 ≤ lo)  (hF : T_fault M = some r) : V l G cX6_fault RX6 "fault" 1 (Option.some Jvm.ClassFile.FieldType.int) fr lo h0 (ovT m0 M hb) (QM G (some (.int r)) h0 (ovT m0 M hb)) 0 [(0, .ref m0)] [] (ovT m0 M hb) := by
  unfold T_fault at hF
  refine v_aload_n dX6_fault_0 rfl 0 rfl ?_
  refine t_geti 14 dX6_fault_1 fl_X6_47 rfl ?_
  cases hF
  exact v_iret dX6_fault_4 rfl rfl rfl rfl
theorem ct_T_fault {l : Launch} {G : GT} {m0 : Nat} {hb : Hp} {M : TM} {r : Int32}  (hF : T_fault M = some r) : Ct l G yX6_fault (ws_ yX6_fault cX6_fault 1 (Option.some Jvm.ClassFile.FieldType.int)) 0 0 [.ref m0] (ovT m0 M hb) (some (.int r)) (ovT m0 M hb) :=
  ct_of (by decide) (Nat.le_of_ble_eq_true rfl) (w_T_fault (Nat.le_refl _) (Nat.le_refl _) hF)
def T_isLaw (M : TM) (a1 : Int32) : Option Int32 :=
  (tra M 2 5660 (51 : Int32)).bind fun v1 =>
  (T_lies a1 (-1 : Int32) (v1 - (1 : Int32))).bind fun v2 =>
  (rz v2).bind fun v3 => some v3
theorem w_T_isLaw {l : Launch} {G : GT} {fr lo : Nat} {h0 : Hp} {m0 : Nat} {hb : Hp} {M : TM} {r : Int32} (hfr : 1 ≤ fr) (hlo : 22 ≤ lo) {a1 : Int32} (hF : T_isLaw M a1 = some r) : V l G cX6_isLaw RX6 "isLaw" 2 (Option.some Jvm.ClassFile.FieldType.boolean) fr lo h0 (ovT m0 M hb) (QM G (some (.int r)) h0 (ovT m0 M hb)) 0 [(0, .ref m0), (1, .int a1)] [] (ovT m0 M hb) := by
  unfold T_isLaw at hF
  refine v_iload_n dX6_isLaw_0 rfl 1 rfl ?_
  refine v_iconst dX6_isLaw_1 (v := -1) (by decide) ?_
  refine v_aload_n dX6_isLaw_2 rfl 0 rfl ?_
  refine t_geta 2 2 dX6_isLaw_3 fl_X6_24 (Nat.le_of_ble_eq_true rfl) (fun _ _ => rfl) ?_
  refine v_bipush dX6_isLaw_6 (v := 51) (by decide) ?_
  refine t_iald 2 dX6_isLaw_8 rfl (Nat.le_of_ble_eq_true rfl) (by decide) hF (fun v1 hF => ?_)
  refine v_iconst dX6_isLaw_9 (v := 1) (by decide) ?_
  refine v_isub dX6_isLaw_10 ?_
  obtain ⟨v2, e_v2, hF⟩ := Option.bind_eq_some_iff.mp hF
  refine v_calS1 dX6_isLaw_11 sl_X6_102 q1810 (ct_T_lies e_v2) rfl rfl (Nat.le_trans (Nat.le_of_ble_eq_true rfl) hfr) (Nat.le_trans (Nat.le_of_ble_eq_true rfl) hlo) (Nat.le_of_ble_eq_true rfl) ?_
  refine v_zchk hF (fun v3 hz hF => ?_)
  cases hF
  exact v_iret dX6_isLaw_14 rfl (nar_z hz) rfl rfl
theorem ct_T_isLaw {l : Launch} {G : GT} {m0 : Nat} {hb : Hp} {M : TM} {r : Int32} {a1 : Int32} (hF : T_isLaw M a1 = some r) : Ct l G yX6_isLaw (ws_ yX6_isLaw cX6_isLaw 2 (Option.some Jvm.ClassFile.FieldType.boolean)) 1 22 [.ref m0, .int a1] (ovT m0 M hb) (some (.int r)) (ovT m0 M hb) :=
  ct_of (by decide) (Nat.le_of_ble_eq_true rfl) (w_T_isLaw (Nat.le_refl _) (Nat.le_refl _) hF)
theorem vl_X6_262 : ∀ ci ∈ [6], VL RX6 262 ci yX6_isLaw 1 := by
  intro ci h
  simp only [List.mem_cons, List.not_mem_nil, or_false] at h
  subst h; exact ⟨RX6, TX6, 56, rfl, q146, ⟨by decide, by decide⟩, by decide +kernel, q2092, Or.inl ⟨q2090, qs99⟩⟩
def T_force (a1 : Int32) (M : TM) : Option (Int32 × TM) :=
  (T_isLaw M a1).bind fun v1 =>
  if v1 = 0 then
    bd2 (T_refuses (-2 : Int32) M) fun v7 M6 =>
    some (v7, M6)
  else
    (tra M 2 5660 (52 : Int32)).bind fun v2 =>
    (twa M 2 5660 (52 : Int32) a1).bind fun M3 =>
    bd2 (T_good v2 M3) fun v5 M4 =>
    some (v5, M4)
theorem w_T_force {l : Launch} {G : GT} {fr lo : Nat} {h0 : Hp} {m0 : Nat} {hb : Hp} {r : (Int32 × TM)} (hfr : 2 ≤ fr) (hlo : 43 ≤ lo) {a1 : Int32} {M : TM} (hF : T_force a1 M = some r) : V l G cX6_force RX6 "force" 3 (Option.some Jvm.ClassFile.FieldType.int) fr lo h0 (ovT m0 r.2 hb) (QM G (some (.int r.1)) h0 (ovT m0 r.2 hb)) 0 [(0, .ref m0), (1, .int a1)] [] (ovT m0 M hb) := by
  unfold T_force at hF
  refine v_aload_n dX6_force_0 rfl 0 rfl ?_
  refine v_iload_n dX6_force_1 rfl 1 rfl ?_
  obtain ⟨v1, e_v1, hF⟩ := Option.bind_eq_some_iff.mp hF
  refine v_calV1 dX6_force_2 vl_X6_262 q2093 rc_ov (ct_T_isLaw e_v1) rfl rfl (Nat.le_trans (Nat.le_of_ble_eq_true rfl) hfr) (Nat.le_trans (Nat.le_of_ble_eq_true rfl) hlo) (Nat.le_of_ble_eq_true rfl) ?_
  refine v_if_ne (tgt := 15) dX6_force_5 (by decide) hF (fun hF => ?_) (fun hF => ?_)
  · refine v_aload_n dX6_force_15 rfl 0 rfl ?_
    refine t_geta 2 2 dX6_force_16 fl_X6_24 (Nat.le_of_ble_eq_true rfl) (fun _ _ => rfl) ?_
    refine v_bipush dX6_force_19 (v := 52) (by decide) ?_
    refine t_iald 2 dX6_force_21 rfl (Nat.le_of_ble_eq_true rfl) (by decide) hF (fun v2 hF => ?_)
    refine v_istore_n dX6_force_22 rfl (Nat.le_of_ble_eq_true rfl) (L' := [(2, .int v2), (0, .ref m0), (1, .int a1)]) rfl ?_
    refine v_aload_n dX6_force_23 rfl 1 rfl ?_
    refine t_geta 2 2 dX6_force_24 fl_X6_24 (Nat.le_of_ble_eq_true rfl) (fun _ _ => rfl) ?_
    refine v_bipush dX6_force_27 (v := 52) (by decide) ?_
    refine v_iload_n dX6_force_29 rfl 2 rfl ?_
    refine t_iast 2 dX6_force_30 rfl (Nat.le_of_ble_eq_true rfl) (by decide) hF (fun M3 hF => ?_)
    refine v_aload_n dX6_force_31 rfl 1 rfl ?_
    refine v_iload_n dX6_force_32 rfl 0 rfl ?_
    obtain ⟨v5, M4, e_v5, hF⟩ := bd2_spec hF
    refine v_calV1 dX6_force_33 vl_X6_14 q1818 rc_ov (ct_T_good e_v5) rfl rfl (Nat.le_trans (Nat.le_of_ble_eq_true rfl) hfr) (Nat.le_trans (Nat.le_of_ble_eq_true rfl) hlo) (Nat.le_of_ble_eq_true rfl) ?_
    cases hF
    exact v_iret dX6_force_36 rfl rfl rfl rfl
  · refine v_aload_n dX6_force_8 rfl 0 rfl ?_
    refine v_bipush dX6_force_9 (v := -2) (by decide) ?_
    obtain ⟨v7, M6, e_v7, hF⟩ := bd2_spec hF
    refine v_calV1 dX6_force_11 vl_X6_106 q1814 rc_ov (ct_T_refuses e_v7) rfl rfl (Nat.le_trans (Nat.le_of_ble_eq_true rfl) hfr) (Nat.le_trans (Nat.le_of_ble_eq_true rfl) hlo) (Nat.le_of_ble_eq_true rfl) ?_
    cases hF
    exact v_iret dX6_force_14 rfl rfl rfl rfl
theorem ct_T_force {l : Launch} {G : GT} {m0 : Nat} {hb : Hp} {r : (Int32 × TM)} {a1 : Int32} {M : TM} (hF : T_force a1 M = some r) : Ct l G yX6_force (ws_ yX6_force cX6_force 3 (Option.some Jvm.ClassFile.FieldType.int)) 2 43 [.ref m0, .int a1] (ovT m0 M hb) (some (.int r.1)) (ovT m0 r.2 hb) :=
  ct_of (by decide) (Nat.le_of_ble_eq_true rfl) (w_T_force (Nat.le_refl _) (Nat.le_refl _) hF)
theorem fl_X6_11 : FL RX6 11 [6] 32 := by
  intro ci h
  simp only [List.mem_cons, List.not_mem_nil, or_false] at h
  subst h; exact ⟨RX6, _, TX6, 56, rfl, in_X6, by decide, Or.inl q1666, Or.inl rfl⟩
theorem fl_X6_65 : FL RX6 65 [6] 30 := by
  intro ci h
  simp only [List.mem_cons, List.not_mem_nil, or_false] at h
  subst h; exact ⟨RX6, _, TX6, 56, rfl, in_X6, by decide, Or.inl q1664, Or.inl rfl⟩
def T_undo_L34 (N : Nat) (x34 : Int32 → TM → Option (Int32 × TM)) : Nat → Int32 → Int32 → TM → Option (Int32 × TM)
  | 0, _, _, _ => none
  | n10 + 1, v3, v4, M5 =>
    if (6 : Int32) ≤ v4 then
      x34 v3 M5
    else
      (tra M5 30 112 (v3 + v4)).bind fun v8 =>
      (twa M5 2 5660 v4 v8).bind fun M9 =>
      (T_undo_L34 N x34 n10) v3 (v4 + (1 : Int32)) M9
theorem w_T_undo_L34 {l : Launch} {G : GT} {fr lo : Nat} {h0 : Hp} {m0 : Nat} {hb : Hp} {N : Nat} {r : (Int32 × TM)} (hfr : 1 ≤ fr) (hlo : 21 ≤ lo) {x34 : Int32 → TM → Option (Int32 × TM)} (hx34 : ∀ (v6 : Int32) (M7 : TM), x34 v6 M7 = some r → V l G cX6_undo RX6 "undo" 3 (Option.some Jvm.ClassFile.FieldType.int) fr lo h0 (ovT m0 r.2 hb) (QM G (some (.int r.1)) h0 (ovT m0 r.2 hb)) 60 [(0, .ref m0), (1, .int v6)] [] (ovT m0 M7 hb)) : ∀ (n : Nat) (v3 : Int32) (v4 : Int32) (M5 : TM), T_undo_L34 N x34 n v3 v4 M5 = some r → V l G cX6_undo RX6 "undo" 3 (Option.some Jvm.ClassFile.FieldType.int) fr lo h0 (ovT m0 r.2 hb) (QM G (some (.int r.1)) h0 (ovT m0 r.2 hb)) 34 [(0, .ref m0), (1, .int v3), (2, .int v4)] [] (ovT m0 M5 hb) := by
  intro n
  induction n with
  | zero =>
    intro v3 v4 M5 hF
    cases (show (none : Option (Int32 × TM)) = some r from hF)
  | succ n hc34 =>
    intro v3 v4 M5 hF
    rw [T_undo_L34] at hF
    refine v_iload_n dX6_undo_34 rfl 2 rfl ?_
    refine v_bipush dX6_undo_35 (v := 6) (by decide) ?_
    refine v_icmp_ge (tgt := 60) dX6_undo_37 (by decide) hF (fun hF => ?_) (fun hF => ?_)
    · exact v_sub [0, 1] rfl (hx34 _ _ hF)
    · refine v_aload_n dX6_undo_40 rfl 0 rfl ?_
      refine t_geta 2 2 dX6_undo_41 fl_X6_24 (Nat.le_of_ble_eq_true rfl) (fun _ _ => rfl) ?_
      refine v_iload_n dX6_undo_44 rfl 2 rfl ?_
      refine v_aload_n dX6_undo_45 rfl 0 rfl ?_
      refine t_geta 30 14 dX6_undo_46 fl_X6_65 (Nat.le_of_ble_eq_true rfl) (fun _ _ => rfl) ?_
      refine v_iload_n dX6_undo_49 rfl 1 rfl ?_
      refine v_iload_n dX6_undo_50 rfl 2 rfl ?_
      refine v_iadd dX6_undo_51 ?_
      refine t_iald 14 dX6_undo_52 rfl (Nat.le_of_ble_eq_true rfl) (by decide) hF (fun v8 hF => ?_)
      refine t_iast 2 dX6_undo_53 rfl (Nat.le_of_ble_eq_true rfl) (by decide) hF (fun M9 hF => ?_)
      refine v_iinc dX6_undo_54 2 rfl (v := v4 + (1 : Int32)) (by rfl) (Nat.le_of_ble_eq_true rfl) (L' := [(2, .int (v4 + (1 : Int32))), (0, .ref m0), (1, .int v3)]) rfl ?_
      refine v_goto (tgt := 34) dX6_undo_57 (by decide) ?_
      exact v_sub [1, 2, 0] rfl (hc34 _ _ _ hF)
def T_undo (N : Nat) (M : TM) : Option (Int32 × TM) :=
  if (M.1 32) = 0 then
    bd2 (T_refuses (-3 : Int32) M) fun v17 M16 =>
    some (v17, M16)
  else
    (some (tsi M 32 ((M.1 32) - (1 : Int32)))).bind fun (M1 : TM) =>
    (some ((7 : Int32) * (M1.1 32))).bind fun (v2 : Int32) =>
    T_undo_L34 N (fun v11 M12 =>
      (tra M12 30 112 (v11 + (6 : Int32))).bind fun v13 =>
      bd2 (T_good v13 M12) fun v15 M14 =>
      some (v15, M14)) N v2 (0 : Int32) M1
theorem w_T_undo {l : Launch} {G : GT} {fr lo : Nat} {h0 : Hp} {m0 : Nat} {hb : Hp} {N : Nat} {r : (Int32 × TM)} (hfr : 1 ≤ fr) (hlo : 21 ≤ lo) {M : TM} (hF : T_undo N M = some r) : V l G cX6_undo RX6 "undo" 3 (Option.some Jvm.ClassFile.FieldType.int) fr lo h0 (ovT m0 r.2 hb) (QM G (some (.int r.1)) h0 (ovT m0 r.2 hb)) 0 [(0, .ref m0)] [] (ovT m0 M hb) := by
  unfold T_undo at hF
  refine v_aload_n dX6_undo_0 rfl 0 rfl ?_
  refine t_geti 32 dX6_undo_1 fl_X6_11 rfl ?_
  refine v_if_ne (tgt := 14) dX6_undo_4 (by decide) hF (fun hF => ?_) (fun hF => ?_)
  · refine v_aload_n dX6_undo_14 rfl 0 rfl ?_
    refine v_dup dX6_undo_15 rfl ?_
    refine t_geti 32 dX6_undo_16 fl_X6_11 rfl ?_
    refine v_iconst dX6_undo_19 (v := 1) (by decide) ?_
    refine v_isub dX6_undo_20 ?_
    refine t_puti 32 dX6_undo_21 pl_X6_11 rfl ?_
    refine v_letM hF (fun M1 hF => ?_)
    refine v_bipush dX6_undo_24 (v := 7) (by decide) ?_
    refine v_aload_n dX6_undo_26 rfl 0 rfl ?_
    refine t_geti 32 dX6_undo_27 fl_X6_11 rfl ?_
    refine v_imul dX6_undo_30 ?_
    refine v_leti hF (fun v2 hF => ?_)
    refine v_istore_n dX6_undo_31 rfl (Nat.le_of_ble_eq_true rfl) (L' := [(1, .int v2), (0, .ref m0)]) rfl ?_
    refine v_iconst dX6_undo_32 (v := 0) (by decide) ?_
    refine v_istore_n dX6_undo_33 rfl (Nat.le_of_ble_eq_true rfl) (L' := [(2, .int (0 : Int32)), (1, .int v2), (0, .ref m0)]) rfl ?_
    refine v_sub [2, 1, 0] rfl (w_T_undo_L34 hfr hlo ?_ N _ _ _ hF)
    intro v11 M12 hF
    refine v_aload_n dX6_undo_60 rfl 0 rfl ?_
    refine v_aload_n dX6_undo_61 rfl 0 rfl ?_
    refine t_geta 30 14 dX6_undo_62 fl_X6_65 (Nat.le_of_ble_eq_true rfl) (fun _ _ => rfl) ?_
    refine v_iload_n dX6_undo_65 rfl 1 rfl ?_
    refine v_bipush dX6_undo_66 (v := 6) (by decide) ?_
    refine v_iadd dX6_undo_68 ?_
    refine t_iald 14 dX6_undo_69 rfl (Nat.le_of_ble_eq_true rfl) (by decide) hF (fun v13 hF => ?_)
    obtain ⟨v15, M14, e_v15, hF⟩ := bd2_spec hF
    refine v_calV1 dX6_undo_70 vl_X6_14 q1818 rc_ov (ct_T_good e_v15) rfl rfl (Nat.le_trans (Nat.le_of_ble_eq_true rfl) hfr) (Nat.le_trans (Nat.le_of_ble_eq_true rfl) hlo) (Nat.le_of_ble_eq_true rfl) ?_
    cases hF
    exact v_iret dX6_undo_73 rfl rfl rfl rfl
  · refine v_aload_n dX6_undo_7 rfl 0 rfl ?_
    refine v_bipush dX6_undo_8 (v := -3) (by decide) ?_
    obtain ⟨v17, M16, e_v17, hF⟩ := bd2_spec hF
    refine v_calV1 dX6_undo_10 vl_X6_106 q1814 rc_ov (ct_T_refuses e_v17) rfl rfl (Nat.le_trans (Nat.le_of_ble_eq_true rfl) hfr) (Nat.le_trans (Nat.le_of_ble_eq_true rfl) hlo) (Nat.le_of_ble_eq_true rfl) ?_
    cases hF
    exact v_iret dX6_undo_13 rfl rfl rfl rfl
theorem ct_T_undo {l : Launch} {G : GT} {m0 : Nat} {hb : Hp} {N : Nat} {r : (Int32 × TM)} {M : TM} (hF : T_undo N M = some r) : Ct l G yX6_undo (ws_ yX6_undo cX6_undo 3 (Option.some Jvm.ClassFile.FieldType.int)) 1 21 [.ref m0] (ovT m0 M hb) (some (.int r.1)) (ovT m0 r.2 hb) :=
  ct_of (by decide) (Nat.le_of_ble_eq_true rfl) (w_T_undo (Nat.le_refl _) (Nat.le_refl _) hF)
def T_goodOr (a1 : Int32) (M : TM) : Option (Int32 × TM) :=
  if 0 ≤ a1 then
    bd2 (T_good a1 M) fun v2 M1 =>
    some (v2, M1)
  else
    bd2 (T_refuses a1 M) fun v4 M3 =>
    some (v4, M3)
theorem w_T_goodOr {l : Launch} {G : GT} {fr lo : Nat} {h0 : Hp} {m0 : Nat} {hb : Hp} {r : (Int32 × TM)} (hfr : 1 ≤ fr) (hlo : 21 ≤ lo) {a1 : Int32} {M : TM} (hF : T_goodOr a1 M = some r) : V l G cX6_goodOr RX6 "goodOr" 2 (Option.some Jvm.ClassFile.FieldType.int) fr lo h0 (ovT m0 r.2 hb) (QM G (some (.int r.1)) h0 (ovT m0 r.2 hb)) 0 [(0, .ref m0), (1, .int a1)] [] (ovT m0 M hb) := by
  unfold T_goodOr at hF
  refine v_iload_n dX6_goodOr_0 rfl 1 rfl ?_
  refine v_if_ge (tgt := 12) dX6_goodOr_1 (by decide) hF (fun hF => ?_) (fun hF => ?_)
  · refine v_aload_n dX6_goodOr_12 rfl 0 rfl ?_
    refine v_iload_n dX6_goodOr_13 rfl 1 rfl ?_
    obtain ⟨v2, M1, e_v2, hF⟩ := bd2_spec hF
    refine v_calV1 dX6_goodOr_14 vl_X6_14 q1818 rc_ov (ct_T_good e_v2) rfl rfl (Nat.le_trans (Nat.le_of_ble_eq_true rfl) hfr) (Nat.le_trans (Nat.le_of_ble_eq_true rfl) hlo) (Nat.le_of_ble_eq_true rfl) ?_
    cases hF
    exact v_iret dX6_goodOr_17 rfl rfl rfl rfl
  · refine v_aload_n dX6_goodOr_4 rfl 0 rfl ?_
    refine v_iload_n dX6_goodOr_5 rfl 1 rfl ?_
    obtain ⟨v4, M3, e_v4, hF⟩ := bd2_spec hF
    refine v_calV1 dX6_goodOr_6 vl_X6_106 q1814 rc_ov (ct_T_refuses e_v4) rfl rfl (Nat.le_trans (Nat.le_of_ble_eq_true rfl) hfr) (Nat.le_trans (Nat.le_of_ble_eq_true rfl) hlo) (Nat.le_of_ble_eq_true rfl) ?_
    refine v_goto (tgt := 17) dX6_goodOr_9 (by decide) ?_
    cases hF
    exact v_iret dX6_goodOr_17 rfl rfl rfl rfl
theorem ct_T_goodOr {l : Launch} {G : GT} {m0 : Nat} {hb : Hp} {r : (Int32 × TM)} {a1 : Int32} {M : TM} (hF : T_goodOr a1 M = some r) : Ct l G yX6_goodOr (ws_ yX6_goodOr cX6_goodOr 2 (Option.some Jvm.ClassFile.FieldType.int)) 1 21 [.ref m0, .int a1] (ovT m0 M hb) (some (.int r.1)) (ovT m0 r.2 hb) :=
  ct_of (by decide) (Nat.le_of_ble_eq_true rfl) (w_T_goodOr (Nat.le_refl _) (Nat.le_refl _) hF)
def T_canRead (N : Nat) (a1 : Int32) (M : TM) : Option (Int32 × TM) :=
  (tra M 2 5660 (0 : Int32)).bind fun v1 =>
  (T_isOpen M v1 a1).bind fun v2 =>
  if v2 = 0 then
    some ((0 : Int32), M)
  else
    bd2 (T_isBarred N a1 M) fun v4 M3 =>
    if v4 = 0 then
      (tra M3 2 5660 (5 : Int32)).bind fun v5 =>
      (tra M3 2 5660 ((6 : Int32) + a1)).bind fun v6 =>
      if (999 : Int32) < (v5 + v6) then
        some ((0 : Int32), M3)
      else
        some ((1 : Int32), M3)
    else
      some ((0 : Int32), M3)
theorem w_T_canRead {l : Launch} {G : GT} {fr lo : Nat} {h0 : Hp} {m0 : Nat} {hb : Hp} {N : Nat} {r : (Int32 × TM)} (hfr : 120 ≤ fr) (hlo : 2892 ≤ lo) {a1 : Int32} {M : TM} (hF : T_canRead N a1 M = some r) : V l G cX6_canRead RX6 "canRead" 2 (Option.some Jvm.ClassFile.FieldType.boolean) fr lo h0 (ovT m0 r.2 hb) (QM G (some (.int r.1)) h0 (ovT m0 r.2 hb)) 0 [(0, .ref m0), (1, .int a1)] [] (ovT m0 M hb) := by
  unfold T_canRead at hF
  refine v_aload_n dX6_canRead_0 rfl 0 rfl ?_
  refine v_aload_n dX6_canRead_1 rfl 0 rfl ?_
  refine t_geta 2 2 dX6_canRead_2 fl_X6_24 (Nat.le_of_ble_eq_true rfl) (fun _ _ => rfl) ?_
  refine v_iconst dX6_canRead_5 (v := 0) (by decide) ?_
  refine t_iald 2 dX6_canRead_6 rfl (Nat.le_of_ble_eq_true rfl) (by decide) hF (fun v1 hF => ?_)
  refine v_iload_n dX6_canRead_7 rfl 1 rfl ?_
  obtain ⟨v2, e_v2, hF⟩ := Option.bind_eq_some_iff.mp hF
  refine v_calV1 dX6_canRead_8 vl_X6_137 q1864 rc_ov (ct_T_isOpen e_v2) rfl rfl (Nat.le_trans (Nat.le_of_ble_eq_true rfl) hfr) (Nat.le_trans (Nat.le_of_ble_eq_true rfl) hlo) (Nat.le_of_ble_eq_true rfl) ?_
  refine v_if_eq (tgt := 48) dX6_canRead_11 (by decide) hF (fun hF => ?_) (fun hF => ?_)
  · refine v_iconst dX6_canRead_48 (v := 0) (by decide) ?_
    cases hF
    exact v_iret dX6_canRead_49 rfl (by decide) rfl rfl
  · refine v_aload_n dX6_canRead_14 rfl 0 rfl ?_
    refine v_iload_n dX6_canRead_15 rfl 1 rfl ?_
    obtain ⟨v4, M3, e_v4, hF⟩ := bd2_spec hF
    refine v_calV1 dX6_canRead_16 vl_X6_140 q1868 rc_ov (ct_T_isBarred e_v4) rfl rfl (Nat.le_trans (Nat.le_of_ble_eq_true rfl) hfr) (Nat.le_trans (Nat.le_of_ble_eq_true rfl) hlo) (Nat.le_of_ble_eq_true rfl) ?_
    refine v_if_ne (tgt := 48) dX6_canRead_19 (by decide) hF (fun hF => ?_) (fun hF => ?_)
    · refine v_iconst dX6_canRead_48 (v := 0) (by decide) ?_
      cases hF
      exact v_iret dX6_canRead_49 rfl (by decide) rfl rfl
    · refine v_aload_n dX6_canRead_22 rfl 0 rfl ?_
      refine t_geta 2 2 dX6_canRead_23 fl_X6_24 (Nat.le_of_ble_eq_true rfl) (fun _ _ => rfl) ?_
      refine v_iconst dX6_canRead_26 (v := 5) (by decide) ?_
      refine t_iald 2 dX6_canRead_27 rfl (Nat.le_of_ble_eq_true rfl) (by decide) hF (fun v5 hF => ?_)
      refine v_aload_n dX6_canRead_28 rfl 0 rfl ?_
      refine t_geta 2 2 dX6_canRead_29 fl_X6_24 (Nat.le_of_ble_eq_true rfl) (fun _ _ => rfl) ?_
      refine v_bipush dX6_canRead_32 (v := 6) (by decide) ?_
      refine v_iload_n dX6_canRead_34 rfl 1 rfl ?_
      refine v_iadd dX6_canRead_35 ?_
      refine t_iald 2 dX6_canRead_36 rfl (Nat.le_of_ble_eq_true rfl) (by decide) hF (fun v6 hF => ?_)
      refine v_iadd dX6_canRead_37 ?_
      refine v_sipush dX6_canRead_38 (v := 999) (by decide) ?_
      refine v_icmp_gt (tgt := 48) dX6_canRead_41 (by decide) hF (fun hF => ?_) (fun hF => ?_)
      · refine v_iconst dX6_canRead_48 (v := 0) (by decide) ?_
        cases hF
        exact v_iret dX6_canRead_49 rfl (by decide) rfl rfl
      · refine v_iconst dX6_canRead_44 (v := 1) (by decide) ?_
        refine v_goto (tgt := 49) dX6_canRead_45 (by decide) ?_
        cases hF
        exact v_iret dX6_canRead_49 rfl (by decide) rfl rfl
theorem ct_T_canRead {l : Launch} {G : GT} {m0 : Nat} {hb : Hp} {N : Nat} {r : (Int32 × TM)} {a1 : Int32} {M : TM} (hF : T_canRead N a1 M = some r) : Ct l G yX6_canRead (ws_ yX6_canRead cX6_canRead 2 (Option.some Jvm.ClassFile.FieldType.boolean)) 120 2892 [.ref m0, .int a1] (ovT m0 M hb) (some (.int r.1)) (ovT m0 r.2 hb) :=
  ct_of (by decide) (Nat.le_of_ble_eq_true rfl) (w_T_canRead (Nat.le_refl _) (Nat.le_refl _) hF)
def T_keeps_L54 (N : Nat) (x54 : Int32 → Int32 → TM → Option TM) : Nat → Int32 → Int32 → Int32 → TM → Option TM
  | 0, _, _, _, _ => none
  | n13 + 1, v4, v5, v6, M7 =>
    if (6 : Int32) ≤ v6 then
      x54 v4 v5 M7
    else
      (tra M7 2 5660 v6).bind fun v11 =>
      (twa M7 30 112 ((v5 * (M7.1 32)) + v6) v11).bind fun M12 =>
      (T_keeps_L54 N x54 n13) v4 v5 (v6 + (1 : Int32)) M12
theorem w_T_keeps_L54 {l : Launch} {G : GT} {fr lo : Nat} {h0 : Hp} {m0 : Nat} {hb : Hp} {N : Nat} {r : TM} (hfr : 0 ≤ fr) (hlo : 0 ≤ lo) {x54 : Int32 → Int32 → TM → Option TM} (hx54 : ∀ (v8 : Int32) (v9 : Int32) (M10 : TM), x54 v8 v9 M10 = some r → V l G cX6_keeps RX6 "keeps" 4 (Option.none : Option Jvm.ClassFile.FieldType) fr lo h0 (ovT m0 r hb) (QM G none h0 (ovT m0 r hb)) 85 [(0, .ref m0), (1, .int v8), (2, .int v9)] [] (ovT m0 M10 hb)) : ∀ (n : Nat) (v4 : Int32) (v5 : Int32) (v6 : Int32) (M7 : TM), T_keeps_L54 N x54 n v4 v5 v6 M7 = some r → V l G cX6_keeps RX6 "keeps" 4 (Option.none : Option Jvm.ClassFile.FieldType) fr lo h0 (ovT m0 r hb) (QM G none h0 (ovT m0 r hb)) 54 [(0, .ref m0), (1, .int v4), (2, .int v5), (3, .int v6)] [] (ovT m0 M7 hb) := by
  intro n
  induction n with
  | zero =>
    intro v4 v5 v6 M7 hF
    cases (show (none : Option TM) = some r from hF)
  | succ n hc54 =>
    intro v4 v5 v6 M7 hF
    rw [T_keeps_L54] at hF
    refine v_iload_n dX6_keeps_54 rfl 3 rfl ?_
    refine v_bipush dX6_keeps_55 (v := 6) (by decide) ?_
    refine v_icmp_ge (tgt := 85) dX6_keeps_57 (by decide) hF (fun hF => ?_) (fun hF => ?_)
    · exact v_sub [0, 1, 2] rfl (hx54 _ _ _ hF)
    · refine v_aload_n dX6_keeps_60 rfl 0 rfl ?_
      refine t_geta 30 14 dX6_keeps_61 fl_X6_65 (Nat.le_of_ble_eq_true rfl) (fun _ _ => rfl) ?_
      refine v_iload_n dX6_keeps_64 rfl 2 rfl ?_
      refine v_aload_n dX6_keeps_65 rfl 0 rfl ?_
      refine t_geti 32 dX6_keeps_66 fl_X6_11 rfl ?_
      refine v_imul dX6_keeps_69 ?_
      refine v_iload_n dX6_keeps_70 rfl 3 rfl ?_
      refine v_iadd dX6_keeps_71 ?_
      refine v_aload_n dX6_keeps_72 rfl 0 rfl ?_
      refine t_geta 2 2 dX6_keeps_73 fl_X6_24 (Nat.le_of_ble_eq_true rfl) (fun _ _ => rfl) ?_
      refine v_iload_n dX6_keeps_76 rfl 3 rfl ?_
      refine t_iald 2 dX6_keeps_77 rfl (Nat.le_of_ble_eq_true rfl) (by decide) hF (fun v11 hF => ?_)
      refine t_iast 14 dX6_keeps_78 rfl (Nat.le_of_ble_eq_true rfl) (by decide) hF (fun M12 hF => ?_)
      refine v_iinc dX6_keeps_79 3 rfl (v := v6 + (1 : Int32)) (by rfl) (Nat.le_of_ble_eq_true rfl) (L' := [(3, .int (v6 + (1 : Int32))), (0, .ref m0), (1, .int v4), (2, .int v5)]) rfl ?_
      refine v_goto (tgt := 54) dX6_keeps_82 (by decide) ?_
      exact v_sub [1, 2, 3, 0] rfl (hc54 _ _ _ _ hF)
def T_keeps_J52 (N : Nat) (v1 : Int32) (v2 : Int32) (M3 : TM) : Option TM :=
  T_keeps_L54 N (fun v14 v15 M16 =>
    (twa M16 30 112 ((v15 * (M16.1 32)) + (6 : Int32)) v14).bind fun M17 =>
    (some (tsi M17 32 ((M17.1 32) + (1 : Int32)))).bind fun (M18 : TM) =>
    some M18) N v1 v2 (0 : Int32) M3
theorem w_T_keeps_J52 {l : Launch} {G : GT} {fr lo : Nat} {h0 : Hp} {m0 : Nat} {hb : Hp} {N : Nat} {r : TM} (hfr : 0 ≤ fr) (hlo : 0 ≤ lo)   {v1 : Int32} {v2 : Int32} {M3 : TM} (hF : T_keeps_J52 N v1 v2 M3 = some r) : V l G cX6_keeps RX6 "keeps" 4 (Option.none : Option Jvm.ClassFile.FieldType) fr lo h0 (ovT m0 r hb) (QM G none h0 (ovT m0 r hb)) 52 [(0, .ref m0), (1, .int v1), (2, .int v2)] [] (ovT m0 M3 hb) := by
  unfold T_keeps_J52 at hF
  refine v_iconst dX6_keeps_52 (v := 0) (by decide) ?_
  refine v_istore_n dX6_keeps_53 rfl (Nat.le_of_ble_eq_true rfl) (L' := [(3, .int (0 : Int32)), (0, .ref m0), (1, .int v1), (2, .int v2)]) rfl ?_
  refine v_sub [1, 2, 3, 0] rfl (w_T_keeps_L54 hfr hlo ?_ N _ _ _ _ hF)
  intro v14 v15 M16 hF
  refine v_aload_n dX6_keeps_85 rfl 0 rfl ?_
  refine t_geta 30 14 dX6_keeps_86 fl_X6_65 (Nat.le_of_ble_eq_true rfl) (fun _ _ => rfl) ?_
  refine v_iload_n dX6_keeps_89 rfl 2 rfl ?_
  refine v_aload_n dX6_keeps_90 rfl 0 rfl ?_
  refine t_geti 32 dX6_keeps_91 fl_X6_11 rfl ?_
  refine v_imul dX6_keeps_94 ?_
  refine v_bipush dX6_keeps_95 (v := 6) (by decide) ?_
  refine v_iadd dX6_keeps_97 ?_
  refine v_iload_n dX6_keeps_98 rfl 1 rfl ?_
  refine t_iast 14 dX6_keeps_99 rfl (Nat.le_of_ble_eq_true rfl) (by decide) hF (fun M17 hF => ?_)
  refine v_aload_n dX6_keeps_100 rfl 0 rfl ?_
  refine v_dup dX6_keeps_101 rfl ?_
  refine t_geti 32 dX6_keeps_102 fl_X6_11 rfl ?_
  refine v_iconst dX6_keeps_105 (v := 1) (by decide) ?_
  refine v_iadd dX6_keeps_106 ?_
  refine t_puti 32 dX6_keeps_107 pl_X6_11 rfl ?_
  refine v_letM hF (fun M18 hF => ?_)
  cases hF
  exact v_vret dX6_keeps_110 rfl rfl rfl
def T_keeps_L14 (N : Nat) (x14 : Int32 → Int32 → TM → Option TM) : Nat → Int32 → Int32 → Int32 → TM → Option TM
  | 0, _, _, _, _ => none
  | n28 + 1, v19, v20, v21, M22 =>
    if ((15 : Int32) * v20) ≤ v21 then
      x14 v19 v20 M22
    else
      (tra M22 30 112 (v21 + v20)).bind fun v26 =>
      (twa M22 30 112 v21 v26).bind fun M27 =>
      (T_keeps_L14 N x14 n28) v19 v20 (v21 + (1 : Int32)) M27
theorem w_T_keeps_L14 {l : Launch} {G : GT} {fr lo : Nat} {h0 : Hp} {m0 : Nat} {hb : Hp} {N : Nat} {r : TM} (hfr : 0 ≤ fr) (hlo : 0 ≤ lo) {x14 : Int32 → Int32 → TM → Option TM} (hx14 : ∀ (v23 : Int32) (v24 : Int32) (M25 : TM), x14 v23 v24 M25 = some r → V l G cX6_keeps RX6 "keeps" 4 (Option.none : Option Jvm.ClassFile.FieldType) fr lo h0 (ovT m0 r hb) (QM G none h0 (ovT m0 r hb)) 42 [(0, .ref m0), (1, .int v23), (2, .int v24)] [] (ovT m0 M25 hb)) : ∀ (n : Nat) (v19 : Int32) (v20 : Int32) (v21 : Int32) (M22 : TM), T_keeps_L14 N x14 n v19 v20 v21 M22 = some r → V l G cX6_keeps RX6 "keeps" 4 (Option.none : Option Jvm.ClassFile.FieldType) fr lo h0 (ovT m0 r hb) (QM G none h0 (ovT m0 r hb)) 14 [(0, .ref m0), (1, .int v19), (2, .int v20), (3, .int v21)] [] (ovT m0 M22 hb) := by
  intro n
  induction n with
  | zero =>
    intro v19 v20 v21 M22 hF
    cases (show (none : Option TM) = some r from hF)
  | succ n hc14 =>
    intro v19 v20 v21 M22 hF
    rw [T_keeps_L14] at hF
    refine v_iload_n dX6_keeps_14 rfl 3 rfl ?_
    refine v_bipush dX6_keeps_15 (v := 15) (by decide) ?_
    refine v_iload_n dX6_keeps_17 rfl 2 rfl ?_
    refine v_imul dX6_keeps_18 ?_
    refine v_icmp_ge (tgt := 42) dX6_keeps_19 (by decide) hF (fun hF => ?_) (fun hF => ?_)
    · exact v_sub [0, 1, 2] rfl (hx14 _ _ _ hF)
    · refine v_aload_n dX6_keeps_22 rfl 0 rfl ?_
      refine t_geta 30 14 dX6_keeps_23 fl_X6_65 (Nat.le_of_ble_eq_true rfl) (fun _ _ => rfl) ?_
      refine v_iload_n dX6_keeps_26 rfl 3 rfl ?_
      refine v_aload_n dX6_keeps_27 rfl 0 rfl ?_
      refine t_geta 30 14 dX6_keeps_28 fl_X6_65 (Nat.le_of_ble_eq_true rfl) (fun _ _ => rfl) ?_
      refine v_iload_n dX6_keeps_31 rfl 3 rfl ?_
      refine v_iload_n dX6_keeps_32 rfl 2 rfl ?_
      refine v_iadd dX6_keeps_33 ?_
      refine t_iald 14 dX6_keeps_34 rfl (Nat.le_of_ble_eq_true rfl) (by decide) hF (fun v26 hF => ?_)
      refine t_iast 14 dX6_keeps_35 rfl (Nat.le_of_ble_eq_true rfl) (by decide) hF (fun M27 hF => ?_)
      refine v_iinc dX6_keeps_36 3 rfl (v := v21 + (1 : Int32)) (by rfl) (Nat.le_of_ble_eq_true rfl) (L' := [(3, .int (v21 + (1 : Int32))), (0, .ref m0), (1, .int v19), (2, .int v20)]) rfl ?_
      refine v_goto (tgt := 14) dX6_keeps_39 (by decide) ?_
      exact v_sub [1, 2, 3, 0] rfl (hc14 _ _ _ _ hF)
def T_keeps (N : Nat) (a1 : Int32) (M : TM) : Option TM :=
  if (M.1 32) = (16 : Int32) then
    T_keeps_L14 N (fun v29 v30 M31 =>
      (some (tsi M31 32 ((M31.1 32) - (1 : Int32)))).bind fun (M32 : TM) =>
      T_keeps_J52 N v29 v30 M32) N a1 (7 : Int32) (0 : Int32) M
  else
    T_keeps_J52 N a1 (7 : Int32) M
theorem w_T_keeps {l : Launch} {G : GT} {fr lo : Nat} {h0 : Hp} {m0 : Nat} {hb : Hp} {N : Nat} {r : TM} (hfr : 0 ≤ fr) (hlo : 0 ≤ lo) {a1 : Int32} {M : TM} (hF : T_keeps N a1 M = some r) : V l G cX6_keeps RX6 "keeps" 4 (Option.none : Option Jvm.ClassFile.FieldType) fr lo h0 (ovT m0 r hb) (QM G none h0 (ovT m0 r hb)) 0 [(0, .ref m0), (1, .int a1)] [] (ovT m0 M hb) := by
  unfold T_keeps at hF
  refine v_bipush dX6_keeps_0 (v := 7) (by decide) ?_
  refine v_istore_n dX6_keeps_2 rfl (Nat.le_of_ble_eq_true rfl) (L' := [(2, .int (7 : Int32)), (0, .ref m0), (1, .int a1)]) rfl ?_
  refine v_aload_n dX6_keeps_3 rfl 1 rfl ?_
  refine t_geti 32 dX6_keeps_4 fl_X6_11 rfl ?_
  refine v_bipush dX6_keeps_7 (v := 16) (by decide) ?_
  refine v_icmp_ne (tgt := 52) dX6_keeps_9 (by decide) hF (fun hF => ?_) (fun hF => ?_)
  · exact v_sub [1, 2, 0] rfl (w_T_keeps_J52 hfr hlo hF)
  · refine v_iconst dX6_keeps_12 (v := 0) (by decide) ?_
    refine v_istore_n dX6_keeps_13 rfl (Nat.le_of_ble_eq_true rfl) (L' := [(3, .int (0 : Int32)), (2, .int (7 : Int32)), (0, .ref m0), (1, .int a1)]) rfl ?_
    refine v_sub [2, 3, 1, 0] rfl (w_T_keeps_L14 hfr hlo ?_ N _ _ _ _ hF)
    intro v29 v30 M31 hF
    refine v_aload_n dX6_keeps_42 rfl 0 rfl ?_
    refine v_dup dX6_keeps_43 rfl ?_
    refine t_geti 32 dX6_keeps_44 fl_X6_11 rfl ?_
    refine v_iconst dX6_keeps_47 (v := 1) (by decide) ?_
    refine v_isub dX6_keeps_48 ?_
    refine t_puti 32 dX6_keeps_49 pl_X6_11 rfl ?_
    refine v_letM hF (fun M32 hF => ?_)
    exact v_sub [0, 1, 2] rfl (w_T_keeps_J52 hfr hlo hF)
theorem ct_T_keeps {l : Launch} {G : GT} {m0 : Nat} {hb : Hp} {N : Nat} {r : TM} {a1 : Int32} {M : TM} (hF : T_keeps N a1 M = some r) : Ct l G yX6_keeps (ws_ yX6_keeps cX6_keeps 4 (Option.none : Option Jvm.ClassFile.FieldType)) 0 0 [.ref m0, .int a1] (ovT m0 M hb) none (ovT m0 r hb) :=
  ct_of (by decide) (Nat.le_of_ble_eq_true rfl) (w_T_keeps (Nat.le_refl _) (Nat.le_refl _) hF)
def T_lesser (a1 : Int32) (a2 : Int32) : Option Int32 :=
  some (if a2 ≤ a1 then a2 else a1)
theorem w_T_lesser {l : Launch} {G : GT} {fr lo : Nat} {h0 : Hp} {h : Hp} {r : Int32} (hfr : 0 ≤ fr) (hlo : 0 ≤ lo) {a1 : Int32} {a2 : Int32} (hF : T_lesser a1 a2 = some r) : V l G cX6_lesser RX6 "lesser" 2 (Option.some Jvm.ClassFile.FieldType.int) fr lo h0 h (QM G (some (.int r)) h0 h) 0 [(0, .int a1), (1, .int a2)] [] h := by
  unfold T_lesser at hF
  refine v_iload_n dX6_lesser_0 rfl 0 rfl ?_
  refine v_iload_n dX6_lesser_1 rfl 1 rfl ?_
  refine v_tern (c := a2 ≤ a1) (x := a2) (y := a1) (pcj := 10) (st := []) ?_ (fun kt kf => v_icmp_ge0 (tgt := 9) dX6_lesser_2 (by decide) kt kf) (fun K => ?_) (fun K => ?_)
  · cases hF
    exact v_iret dX6_lesser_10 rfl rfl rfl rfl
  · refine v_iload_n dX6_lesser_9 rfl 1 rfl ?_
    exact K
  · refine v_iload_n dX6_lesser_5 rfl 0 rfl ?_
    refine v_goto (tgt := 10) dX6_lesser_6 (by decide) ?_
    exact K
theorem ct_T_lesser {l : Launch} {G : GT} {h : Hp} {r : Int32} {a1 : Int32} {a2 : Int32} (hF : T_lesser a1 a2 = some r) : Ct l G yX6_lesser (ws_ yX6_lesser cX6_lesser 2 (Option.some Jvm.ClassFile.FieldType.int)) 0 0 [.int a1, .int a2] h (some (.int r)) h :=
  ct_of (by decide) (Nat.le_of_ble_eq_true rfl) (w_T_lesser (Nat.le_refl _) (Nat.le_refl _) hF)
theorem fl_X6_62 : FL RX6 62 [6] 29 := by
  intro ci h
  simp only [List.mem_cons, List.not_mem_nil, or_false] at h
  subst h; exact ⟨RX6, _, TX6, 56, rfl, in_X6, by decide, Or.inl q1663, Or.inl rfl⟩
theorem sl_X6_343 : SL RX6 343 yX6_lesser 2 := ⟨q146, ⟨by decide, by decide⟩, by decide +kernel, q2119, Or.inl q2118⟩
def T_reading_L4 (N : Nat) (x4 : Int32 → Int32 → TM → Option (Int32 × TM)) : Nat → Int32 → Int32 → Int32 → TM → Option (Int32 × TM)
  | 0, _, _, _, _ => none
  | n12 + 1, v1, v2, v3, M4 =>
    (T_leekMany M4).bind fun v8 =>
    if v8 ≤ v3 then
      x4 v1 v2 M4
    else
      bd2 (T_growsNow N v3 v1 M4) fun v10 M9 =>
      (twa M9 29 4 v3 v10).bind fun M11 =>
      (T_reading_L4 N x4 n12) v1 v2 (v3 + (1 : Int32)) M11
theorem w_T_reading_L4 {l : Launch} {G : GT} {fr lo : Nat} {h0 : Hp} {m0 : Nat} {hb : Hp} {N : Nat} {r : (Int32 × TM)} (hfr : 120 ≤ fr) (hlo : 2895 ≤ lo) {x4 : Int32 → Int32 → TM → Option (Int32 × TM)} (hx4 : ∀ (v5 : Int32) (v6 : Int32) (M7 : TM), x4 v5 v6 M7 = some r → V l G cX6_reading RX6 "reading" 4 (Option.some Jvm.ClassFile.FieldType.int) fr lo h0 (ovT m0 r.2 hb) (QM G (some (.int r.1)) h0 (ovT m0 r.2 hb)) 30 [(0, .ref m0), (1, .int v5), (2, .int v6)] [] (ovT m0 M7 hb)) : ∀ (n : Nat) (v1 : Int32) (v2 : Int32) (v3 : Int32) (M4 : TM), T_reading_L4 N x4 n v1 v2 v3 M4 = some r → V l G cX6_reading RX6 "reading" 4 (Option.some Jvm.ClassFile.FieldType.int) fr lo h0 (ovT m0 r.2 hb) (QM G (some (.int r.1)) h0 (ovT m0 r.2 hb)) 4 [(0, .ref m0), (1, .int v1), (2, .int v2), (3, .int v3)] [] (ovT m0 M4 hb) := by
  intro n
  induction n with
  | zero =>
    intro v1 v2 v3 M4 hF
    cases (show (none : Option (Int32 × TM)) = some r from hF)
  | succ n hc4 =>
    intro v1 v2 v3 M4 hF
    rw [T_reading_L4] at hF
    refine v_iload_n dX6_reading_4 rfl 3 rfl ?_
    refine v_aload_n dX6_reading_5 rfl 0 rfl ?_
    obtain ⟨v8, e_v8, hF⟩ := Option.bind_eq_some_iff.mp hF
    refine v_calV1 dX6_reading_6 vl_X6_116 q1918 rc_ov (ct_T_leekMany e_v8) rfl rfl (Nat.le_trans (Nat.le_of_ble_eq_true rfl) hfr) (Nat.le_trans (Nat.le_of_ble_eq_true rfl) hlo) (Nat.le_of_ble_eq_true rfl) ?_
    refine v_icmp_ge (tgt := 30) dX6_reading_9 (by decide) hF (fun hF => ?_) (fun hF => ?_)
    · exact v_sub [0, 1, 2] rfl (hx4 _ _ _ hF)
    · refine v_aload_n dX6_reading_12 rfl 0 rfl ?_
      refine t_geta 29 13 dX6_reading_13 fl_X6_62 (Nat.le_of_ble_eq_true rfl) (fun _ _ => rfl) ?_
      refine v_iload_n dX6_reading_16 rfl 3 rfl ?_
      refine v_aload_n dX6_reading_17 rfl 0 rfl ?_
      refine v_iload_n dX6_reading_18 rfl 3 rfl ?_
      refine v_iload_n dX6_reading_19 rfl 1 rfl ?_
      obtain ⟨v10, M9, e_v10, hF⟩ := bd2_spec hF
      refine v_calV1 dX6_reading_20 vl_X6_146 q1956 rc_ov (ct_T_growsNow e_v10) rfl rfl (Nat.le_trans (Nat.le_of_ble_eq_true rfl) hfr) (Nat.le_trans (Nat.le_of_ble_eq_true rfl) hlo) (Nat.le_of_ble_eq_true rfl) ?_
      refine t_iast 13 dX6_reading_23 rfl (Nat.le_of_ble_eq_true rfl) (by decide) hF (fun M11 hF => ?_)
      refine v_iinc dX6_reading_24 3 rfl (v := v3 + (1 : Int32)) (by rfl) (Nat.le_of_ble_eq_true rfl) (L' := [(3, .int (v3 + (1 : Int32))), (0, .ref m0), (1, .int v1), (2, .int v2)]) rfl ?_
      refine v_goto (tgt := 4) dX6_reading_27 (by decide) ?_
      exact v_sub [1, 2, 3, 0] rfl (hc4 _ _ _ _ hF)
def T_reading_L32 (N : Nat) (x32 : Int32 → Int32 → TM → Option (Int32 × TM)) : Nat → Int32 → Int32 → Int32 → TM → Option (Int32 × TM)
  | 0, _, _, _, _ => none
  | n29 + 1, v16, v17, v18, M19 =>
    (T_leekMany M19).bind fun v23 =>
    if v23 ≤ v18 then
      x32 v16 v17 M19
    else
      (tra M19 2 5660 ((1 : Int32) + v18)).bind fun v24 =>
      (tra M19 29 4 v18).bind fun v25 =>
      (T_lesser (999 : Int32) (v24 + v25)).bind fun v26 =>
      (twa M19 2 5660 ((1 : Int32) + v18) v26).bind fun M27 =>
      (tra M27 29 4 v18).bind fun v28 =>
      (T_reading_L32 N x32 n29) v16 (v17 + v28) (v18 + (1 : Int32)) M27
theorem w_T_reading_L32 {l : Launch} {G : GT} {fr lo : Nat} {h0 : Hp} {m0 : Nat} {hb : Hp} {N : Nat} {r : (Int32 × TM)} (hfr : 120 ≤ fr) (hlo : 2895 ≤ lo) {x32 : Int32 → Int32 → TM → Option (Int32 × TM)} (hx32 : ∀ (v20 : Int32) (v21 : Int32) (M22 : TM), x32 v20 v21 M22 = some r → V l G cX6_reading RX6 "reading" 4 (Option.some Jvm.ClassFile.FieldType.int) fr lo h0 (ovT m0 r.2 hb) (QM G (some (.int r.1)) h0 (ovT m0 r.2 hb)) 84 [(0, .ref m0), (1, .int v20), (2, .int v21)] [] (ovT m0 M22 hb)) : ∀ (n : Nat) (v16 : Int32) (v17 : Int32) (v18 : Int32) (M19 : TM), T_reading_L32 N x32 n v16 v17 v18 M19 = some r → V l G cX6_reading RX6 "reading" 4 (Option.some Jvm.ClassFile.FieldType.int) fr lo h0 (ovT m0 r.2 hb) (QM G (some (.int r.1)) h0 (ovT m0 r.2 hb)) 32 [(0, .ref m0), (1, .int v16), (2, .int v17), (3, .int v18)] [] (ovT m0 M19 hb) := by
  intro n
  induction n with
  | zero =>
    intro v16 v17 v18 M19 hF
    cases (show (none : Option (Int32 × TM)) = some r from hF)
  | succ n hc32 =>
    intro v16 v17 v18 M19 hF
    rw [T_reading_L32] at hF
    refine v_iload_n dX6_reading_32 rfl 3 rfl ?_
    refine v_aload_n dX6_reading_33 rfl 0 rfl ?_
    obtain ⟨v23, e_v23, hF⟩ := Option.bind_eq_some_iff.mp hF
    refine v_calV1 dX6_reading_34 vl_X6_116 q1918 rc_ov (ct_T_leekMany e_v23) rfl rfl (Nat.le_trans (Nat.le_of_ble_eq_true rfl) hfr) (Nat.le_trans (Nat.le_of_ble_eq_true rfl) hlo) (Nat.le_of_ble_eq_true rfl) ?_
    refine v_icmp_ge (tgt := 84) dX6_reading_37 (by decide) hF (fun hF => ?_) (fun hF => ?_)
    · exact v_sub [0, 1, 2] rfl (hx32 _ _ _ hF)
    · refine v_aload_n dX6_reading_40 rfl 0 rfl ?_
      refine t_geta 2 2 dX6_reading_41 fl_X6_24 (Nat.le_of_ble_eq_true rfl) (fun _ _ => rfl) ?_
      refine v_iconst dX6_reading_44 (v := 1) (by decide) ?_
      refine v_iload_n dX6_reading_45 rfl 3 rfl ?_
      refine v_iadd dX6_reading_46 ?_
      refine v_sipush dX6_reading_47 (v := 999) (by decide) ?_
      refine v_aload_n dX6_reading_50 rfl 0 rfl ?_
      refine t_geta 2 2 dX6_reading_51 fl_X6_24 (Nat.le_of_ble_eq_true rfl) (fun _ _ => rfl) ?_
      refine v_iconst dX6_reading_54 (v := 1) (by decide) ?_
      refine v_iload_n dX6_reading_55 rfl 3 rfl ?_
      refine v_iadd dX6_reading_56 ?_
      refine t_iald 2 dX6_reading_57 rfl (Nat.le_of_ble_eq_true rfl) (by decide) hF (fun v24 hF => ?_)
      refine v_aload_n dX6_reading_58 rfl 0 rfl ?_
      refine t_geta 29 13 dX6_reading_59 fl_X6_62 (Nat.le_of_ble_eq_true rfl) (fun _ _ => rfl) ?_
      refine v_iload_n dX6_reading_62 rfl 3 rfl ?_
      refine t_iald 13 dX6_reading_63 rfl (Nat.le_of_ble_eq_true rfl) (by decide) hF (fun v25 hF => ?_)
      refine v_iadd dX6_reading_64 ?_
      obtain ⟨v26, e_v26, hF⟩ := Option.bind_eq_some_iff.mp hF
      refine v_calS1 dX6_reading_65 sl_X6_343 q2120 (ct_T_lesser e_v26) rfl rfl (Nat.le_trans (Nat.le_of_ble_eq_true rfl) hfr) (Nat.le_trans (Nat.le_of_ble_eq_true rfl) hlo) (Nat.le_of_ble_eq_true rfl) ?_
      refine t_iast 2 dX6_reading_68 rfl (Nat.le_of_ble_eq_true rfl) (by decide) hF (fun M27 hF => ?_)
      refine v_iload_n dX6_reading_69 rfl 2 rfl ?_
      refine v_aload_n dX6_reading_70 rfl 0 rfl ?_
      refine t_geta 29 13 dX6_reading_71 fl_X6_62 (Nat.le_of_ble_eq_true rfl) (fun _ _ => rfl) ?_
      refine v_iload_n dX6_reading_74 rfl 3 rfl ?_
      refine t_iald 13 dX6_reading_75 rfl (Nat.le_of_ble_eq_true rfl) (by decide) hF (fun v28 hF => ?_)
      refine v_iadd dX6_reading_76 ?_
      refine v_istore_n dX6_reading_77 rfl (Nat.le_of_ble_eq_true rfl) (L' := [(2, .int (v17 + v28)), (0, .ref m0), (1, .int v16), (3, .int v18)]) rfl ?_
      refine v_iinc dX6_reading_78 3 rfl (v := v18 + (1 : Int32)) (by rfl) (Nat.le_of_ble_eq_true rfl) (L' := [(3, .int (v18 + (1 : Int32))), (2, .int (v17 + v28)), (0, .ref m0), (1, .int v16)]) rfl ?_
      refine v_goto (tgt := 32) dX6_reading_81 (by decide) ?_
      exact v_sub [2, 3, 1, 0] rfl (hc32 _ _ _ _ hF)
def T_reading (N : Nat) (a1 : Int32) (M : TM) : Option (Int32 × TM) :=
  T_reading_L4 N (fun v13 v14 M15 =>
    T_reading_L32 N (fun v30 v31 M32 =>
      (tra M32 2 5660 (0 : Int32)).bind fun v33 =>
      (twa M32 2 5660 (0 : Int32) (v33 ||| ((1 : Int32) <<< (v30 &&& 31)))).bind fun M34 =>
      (tra M34 2 5660 (5 : Int32)).bind fun v35 =>
      (tra M34 2 5660 ((6 : Int32) + v30)).bind fun v36 =>
      (twa M34 2 5660 (5 : Int32) (v35 + v36)).bind fun M37 =>
      some (v31, M37)) N v13 v14 (0 : Int32) M15) N a1 (0 : Int32) (0 : Int32) M
theorem w_T_reading {l : Launch} {G : GT} {fr lo : Nat} {h0 : Hp} {m0 : Nat} {hb : Hp} {N : Nat} {r : (Int32 × TM)} (hfr : 120 ≤ fr) (hlo : 2895 ≤ lo) {a1 : Int32} {M : TM} (hF : T_reading N a1 M = some r) : V l G cX6_reading RX6 "reading" 4 (Option.some Jvm.ClassFile.FieldType.int) fr lo h0 (ovT m0 r.2 hb) (QM G (some (.int r.1)) h0 (ovT m0 r.2 hb)) 0 [(0, .ref m0), (1, .int a1)] [] (ovT m0 M hb) := by
  unfold T_reading at hF
  refine v_iconst dX6_reading_0 (v := 0) (by decide) ?_
  refine v_istore_n dX6_reading_1 rfl (Nat.le_of_ble_eq_true rfl) (L' := [(2, .int (0 : Int32)), (0, .ref m0), (1, .int a1)]) rfl ?_
  refine v_iconst dX6_reading_2 (v := 0) (by decide) ?_
  refine v_istore_n dX6_reading_3 rfl (Nat.le_of_ble_eq_true rfl) (L' := [(3, .int (0 : Int32)), (2, .int (0 : Int32)), (0, .ref m0), (1, .int a1)]) rfl ?_
  refine v_sub [2, 3, 1, 0] rfl (w_T_reading_L4 hfr hlo ?_ N _ _ _ _ hF)
  intro v13 v14 M15 hF
  refine v_iconst dX6_reading_30 (v := 0) (by decide) ?_
  refine v_istore_n dX6_reading_31 rfl (Nat.le_of_ble_eq_true rfl) (L' := [(3, .int (0 : Int32)), (0, .ref m0), (1, .int v13), (2, .int v14)]) rfl ?_
  refine v_sub [1, 2, 3, 0] rfl (w_T_reading_L32 hfr hlo ?_ N _ _ _ _ hF)
  intro v30 v31 M32 hF
  refine v_aload_n dX6_reading_84 rfl 0 rfl ?_
  refine t_geta 2 2 dX6_reading_85 fl_X6_24 (Nat.le_of_ble_eq_true rfl) (fun _ _ => rfl) ?_
  refine v_iconst dX6_reading_88 (v := 0) (by decide) ?_
  refine v_dup2 dX6_reading_89 rfl rfl ?_
  refine t_iald 2 dX6_reading_90 rfl (Nat.le_of_ble_eq_true rfl) (by decide) hF (fun v33 hF => ?_)
  refine v_iconst dX6_reading_91 (v := 1) (by decide) ?_
  refine v_iload_n dX6_reading_92 rfl 1 rfl ?_
  refine v_ishl dX6_reading_93 ?_
  refine v_ior dX6_reading_94 ?_
  refine t_iast 2 dX6_reading_95 rfl (Nat.le_of_ble_eq_true rfl) (by decide) hF (fun M34 hF => ?_)
  refine v_aload_n dX6_reading_96 rfl 0 rfl ?_
  refine t_geta 2 2 dX6_reading_97 fl_X6_24 (Nat.le_of_ble_eq_true rfl) (fun _ _ => rfl) ?_
  refine v_iconst dX6_reading_100 (v := 5) (by decide) ?_
  refine v_dup2 dX6_reading_101 rfl rfl ?_
  refine t_iald 2 dX6_reading_102 rfl (Nat.le_of_ble_eq_true rfl) (by decide) hF (fun v35 hF => ?_)
  refine v_aload_n dX6_reading_103 rfl 0 rfl ?_
  refine t_geta 2 2 dX6_reading_104 fl_X6_24 (Nat.le_of_ble_eq_true rfl) (fun _ _ => rfl) ?_
  refine v_bipush dX6_reading_107 (v := 6) (by decide) ?_
  refine v_iload_n dX6_reading_109 rfl 1 rfl ?_
  refine v_iadd dX6_reading_110 ?_
  refine t_iald 2 dX6_reading_111 rfl (Nat.le_of_ble_eq_true rfl) (by decide) hF (fun v36 hF => ?_)
  refine v_iadd dX6_reading_112 ?_
  refine t_iast 2 dX6_reading_113 rfl (Nat.le_of_ble_eq_true rfl) (by decide) hF (fun M37 hF => ?_)
  refine v_iload_n dX6_reading_114 rfl 2 rfl ?_
  cases hF
  exact v_iret dX6_reading_115 rfl rfl rfl rfl
theorem ct_T_reading {l : Launch} {G : GT} {m0 : Nat} {hb : Hp} {N : Nat} {r : (Int32 × TM)} {a1 : Int32} {M : TM} (hF : T_reading N a1 M = some r) : Ct l G yX6_reading (ws_ yX6_reading cX6_reading 4 (Option.some Jvm.ClassFile.FieldType.int)) 120 2895 [.ref m0, .int a1] (ovT m0 M hb) (some (.int r.1)) (ovT m0 r.2 hb) :=
  ct_of (by decide) (Nat.le_of_ble_eq_true rfl) (w_T_reading (Nat.le_refl _) (Nat.le_refl _) hF)
theorem vl_X6_349 : ∀ ci ∈ [6], VL RX6 349 ci yX6_canRead 1 := by
  intro ci h
  simp only [List.mem_cons, List.not_mem_nil, or_false] at h
  subst h; exact ⟨RX6, TX6, 56, rfl, q146, ⟨by decide, by decide⟩, by decide +kernel, q2108, Or.inl ⟨q2106, qs101⟩⟩
theorem vl_X6_352 : ∀ ci ∈ [6], VL RX6 352 ci yX6_keeps 1 := by
  intro ci h
  simp only [List.mem_cons, List.not_mem_nil, or_false] at h
  subst h; exact ⟨RX6, TX6, 56, rfl, q146, ⟨by decide, by decide⟩, by decide +kernel, q2112, Or.inl ⟨q2110, qs102⟩⟩
theorem vl_X6_355 : ∀ ci ∈ [6], VL RX6 355 ci yX6_reading 1 := by
  intro ci h
  simp only [List.mem_cons, List.not_mem_nil, or_false] at h
  subst h; exact ⟨RX6, TX6, 56, rfl, q146, ⟨by decide, by decide⟩, by decide +kernel, q2116, Or.inl ⟨q2114, qs103⟩⟩
def T_readsKept (N : Nat) (a1 : Int32) (M : TM) : Option (Int32 × TM) :=
  (T_isBook M a1).bind fun v1 =>
  if v1 = 0 then
    some ((-2 : Int32), M)
  else
    bd2 (T_canRead N a1 M) fun v3 M2 =>
    if v3 = 0 then
      some ((-3 : Int32), M2)
    else
      (T_keeps N (0 : Int32) M2).bind fun M4 =>
      bd2 (T_reading N a1 M4) fun v6 M5 =>
      some (v6, M5)
theorem w_T_readsKept {l : Launch} {G : GT} {fr lo : Nat} {h0 : Hp} {m0 : Nat} {hb : Hp} {N : Nat} {r : (Int32 × TM)} (hfr : 121 ≤ fr) (hlo : 2918 ≤ lo) {a1 : Int32} {M : TM} (hF : T_readsKept N a1 M = some r) : V l G cX6_readsKept RX6 "readsKept" 2 (Option.some Jvm.ClassFile.FieldType.int) fr lo h0 (ovT m0 r.2 hb) (QM G (some (.int r.1)) h0 (ovT m0 r.2 hb)) 0 [(0, .ref m0), (1, .int a1)] [] (ovT m0 M hb) := by
  unfold T_readsKept at hF
  refine v_aload_n dX6_readsKept_0 rfl 0 rfl ?_
  refine v_iload_n dX6_readsKept_1 rfl 1 rfl ?_
  obtain ⟨v1, e_v1, hF⟩ := Option.bind_eq_some_iff.mp hF
  refine v_calV1 dX6_readsKept_2 vl_X6_130 q1849 rc_ov (ct_T_isBook e_v1) rfl rfl (Nat.le_trans (Nat.le_of_ble_eq_true rfl) hfr) (Nat.le_trans (Nat.le_of_ble_eq_true rfl) hlo) (Nat.le_of_ble_eq_true rfl) ?_
  refine v_if_ne (tgt := 11) dX6_readsKept_5 (by decide) hF (fun hF => ?_) (fun hF => ?_)
  · refine v_aload_n dX6_readsKept_11 rfl 0 rfl ?_
    refine v_iload_n dX6_readsKept_12 rfl 1 rfl ?_
    obtain ⟨v3, M2, e_v3, hF⟩ := bd2_spec hF
    refine v_calV1 dX6_readsKept_13 vl_X6_349 q2109 rc_ov (ct_T_canRead e_v3) rfl rfl (Nat.le_trans (Nat.le_of_ble_eq_true rfl) hfr) (Nat.le_trans (Nat.le_of_ble_eq_true rfl) hlo) (Nat.le_of_ble_eq_true rfl) ?_
    refine v_if_ne (tgt := 22) dX6_readsKept_16 (by decide) hF (fun hF => ?_) (fun hF => ?_)
    · refine v_aload_n dX6_readsKept_22 rfl 0 rfl ?_
      refine v_iconst dX6_readsKept_23 (v := 0) (by decide) ?_
      obtain ⟨M4, e_M4, hF⟩ := Option.bind_eq_some_iff.mp hF
      refine v_calV0 dX6_readsKept_24 vl_X6_352 q2113 rc_ov (ct_T_keeps e_M4) rfl rfl (Nat.le_trans (Nat.le_of_ble_eq_true rfl) hfr) (Nat.le_trans (Nat.le_of_ble_eq_true rfl) hlo) (Nat.le_of_ble_eq_true rfl) ?_
      refine v_aload_n dX6_readsKept_27 rfl 0 rfl ?_
      refine v_iload_n dX6_readsKept_28 rfl 1 rfl ?_
      obtain ⟨v6, M5, e_v6, hF⟩ := bd2_spec hF
      refine v_calV1 dX6_readsKept_29 vl_X6_355 q2117 rc_ov (ct_T_reading e_v6) rfl rfl (Nat.le_trans (Nat.le_of_ble_eq_true rfl) hfr) (Nat.le_trans (Nat.le_of_ble_eq_true rfl) hlo) (Nat.le_of_ble_eq_true rfl) ?_
      cases hF
      exact v_iret dX6_readsKept_32 rfl rfl rfl rfl
    · refine v_bipush dX6_readsKept_19 (v := -3) (by decide) ?_
      cases hF
      exact v_iret dX6_readsKept_21 rfl rfl rfl rfl
  · refine v_bipush dX6_readsKept_8 (v := -2) (by decide) ?_
    cases hF
    exact v_iret dX6_readsKept_10 rfl rfl rfl rfl
theorem ct_T_readsKept {l : Launch} {G : GT} {m0 : Nat} {hb : Hp} {N : Nat} {r : (Int32 × TM)} {a1 : Int32} {M : TM} (hF : T_readsKept N a1 M = some r) : Ct l G yX6_readsKept (ws_ yX6_readsKept cX6_readsKept 2 (Option.some Jvm.ClassFile.FieldType.int)) 121 2918 [.ref m0, .int a1] (ovT m0 M hb) (some (.int r.1)) (ovT m0 r.2 hb) :=
  ct_of (by decide) (Nat.le_of_ble_eq_true rfl) (w_T_readsKept (Nat.le_refl _) (Nat.le_refl _) hF)
theorem vl_X6_364 : ∀ ci ∈ [6], VL RX6 364 ci yX6_readsKept 1 := by
  intro ci h
  simp only [List.mem_cons, List.not_mem_nil, or_false] at h
  subst h; exact ⟨RX6, TX6, 56, rfl, q146, ⟨by decide, by decide⟩, by decide +kernel, q2104, Or.inl ⟨q2102, qs100⟩⟩
theorem vl_X6_367 : ∀ ci ∈ [6], VL RX6 367 ci yX6_goodOr 1 := by
  intro ci h
  simp only [List.mem_cons, List.not_mem_nil, or_false] at h
  subst h; exact ⟨RX6, TX6, 56, rfl, q146, ⟨by decide, by decide⟩, by decide +kernel, q2123, Or.inl ⟨q2121, qs104⟩⟩
def T_read (N : Nat) (a1 : Int32) (M : TM) : Option (Int32 × TM) :=
  bd2 (T_readsKept N a1 M) fun v2 M1 =>
  bd2 (T_goodOr v2 M1) fun v4 M3 =>
  some (v4, M3)
theorem w_T_read {l : Launch} {G : GT} {fr lo : Nat} {h0 : Hp} {m0 : Nat} {hb : Hp} {N : Nat} {r : (Int32 × TM)} (hfr : 122 ≤ fr) (hlo : 2939 ≤ lo) {a1 : Int32} {M : TM} (hF : T_read N a1 M = some r) : V l G cX6_read RX6 "read" 2 (Option.some Jvm.ClassFile.FieldType.int) fr lo h0 (ovT m0 r.2 hb) (QM G (some (.int r.1)) h0 (ovT m0 r.2 hb)) 0 [(0, .ref m0), (1, .int a1)] [] (ovT m0 M hb) := by
  unfold T_read at hF
  refine v_aload_n dX6_read_0 rfl 0 rfl ?_
  refine v_aload_n dX6_read_1 rfl 0 rfl ?_
  refine v_iload_n dX6_read_2 rfl 1 rfl ?_
  obtain ⟨v2, M1, e_v2, hF⟩ := bd2_spec hF
  refine v_calV1 dX6_read_3 vl_X6_364 q2105 rc_ov (ct_T_readsKept e_v2) rfl rfl (Nat.le_trans (Nat.le_of_ble_eq_true rfl) hfr) (Nat.le_trans (Nat.le_of_ble_eq_true rfl) hlo) (Nat.le_of_ble_eq_true rfl) ?_
  obtain ⟨v4, M3, e_v4, hF⟩ := bd2_spec hF
  refine v_calV1 dX6_read_6 vl_X6_367 q2124 rc_ov (ct_T_goodOr e_v4) rfl rfl (Nat.le_trans (Nat.le_of_ble_eq_true rfl) hfr) (Nat.le_trans (Nat.le_of_ble_eq_true rfl) hlo) (Nat.le_of_ble_eq_true rfl) ?_
  cases hF
  exact v_iret dX6_read_9 rfl rfl rfl rfl
theorem ct_T_read {l : Launch} {G : GT} {m0 : Nat} {hb : Hp} {N : Nat} {r : (Int32 × TM)} {a1 : Int32} {M : TM} (hF : T_read N a1 M = some r) : Ct l G yX6_read (ws_ yX6_read cX6_read 2 (Option.some Jvm.ClassFile.FieldType.int)) 122 2939 [.ref m0, .int a1] (ovT m0 M hb) (some (.int r.1)) (ovT m0 r.2 hb) :=
  ct_of (by decide) (Nat.le_of_ble_eq_true rfl) (w_T_read (Nat.le_refl _) (Nat.le_refl _) hF)
def T_canLose_J49 (N : Nat) (M : TM) (c8 : Int32 → Int32 → Int32 → Option Int32) (v9 : Int32) (v10 : Int32) (v11 : Int32) : Option Int32 :=
  c8 v9 v11 (v10 + (1 : Int32))
theorem w_T_canLose_J49 {l : Launch} {G : GT} {fr lo : Nat} {h0 : Hp} {m0 : Nat} {hb : Hp} {N : Nat} {M : TM} {r : Int32} (hfr : 2 ≤ fr) (hlo : 42 ≤ lo) {c8 : Int32 → Int32 → Int32 → Option Int32} (hc8 : ∀ (v2 : Int32) (v3 : Int32) (v4 : Int32), c8 v2 v3 v4 = some r → V l G cX6_canLose RX6 "canLose" 4 (Option.some Jvm.ClassFile.FieldType.boolean) fr lo h0 (ovT m0 M hb) (QM G (some (.int r)) h0 (ovT m0 M hb)) 8 [(0, .ref m0), (1, .int v2), (2, .int v3), (3, .int v4)] [] (ovT m0 M hb)) {v9 : Int32} {v10 : Int32} {v11 : Int32} (hF : T_canLose_J49 N M c8 v9 v10 v11 = some r) : V l G cX6_canLose RX6 "canLose" 4 (Option.some Jvm.ClassFile.FieldType.boolean) fr lo h0 (ovT m0 M hb) (QM G (some (.int r)) h0 (ovT m0 M hb)) 49 [(0, .ref m0), (1, .int v9), (3, .int v10)] [.int v11] (ovT m0 M hb) := by
  unfold T_canLose_J49 at hF
  refine v_istore_n dX6_canLose_49 rfl (Nat.le_of_ble_eq_true rfl) (L' := [(2, .int v11), (0, .ref m0), (1, .int v9), (3, .int v10)]) rfl ?_
  refine v_iinc dX6_canLose_50 3 rfl (v := v10 + (1 : Int32)) (by rfl) (Nat.le_of_ble_eq_true rfl) (L' := [(3, .int (v10 + (1 : Int32))), (2, .int v11), (0, .ref m0), (1, .int v9)]) rfl ?_
  refine v_goto (tgt := 8) dX6_canLose_53 (by decide) ?_
  exact v_sub [2, 3, 1, 0] rfl (hc8 _ _ _ hF)
def T_canLose_J48 (N : Nat) (M : TM) (c8 : Int32 → Int32 → Int32 → Option Int32) (v7 : Int32) (v8 : Int32) : Option Int32 :=
  T_canLose_J49 N M c8 v7 v8 (0 : Int32)
theorem w_T_canLose_J48 {l : Launch} {G : GT} {fr lo : Nat} {h0 : Hp} {m0 : Nat} {hb : Hp} {N : Nat} {M : TM} {r : Int32} (hfr : 2 ≤ fr) (hlo : 42 ≤ lo) {c8 : Int32 → Int32 → Int32 → Option Int32} (hc8 : ∀ (v2 : Int32) (v3 : Int32) (v4 : Int32), c8 v2 v3 v4 = some r → V l G cX6_canLose RX6 "canLose" 4 (Option.some Jvm.ClassFile.FieldType.boolean) fr lo h0 (ovT m0 M hb) (QM G (some (.int r)) h0 (ovT m0 M hb)) 8 [(0, .ref m0), (1, .int v2), (2, .int v3), (3, .int v4)] [] (ovT m0 M hb)) {v7 : Int32} {v8 : Int32} (hF : T_canLose_J48 N M c8 v7 v8 = some r) : V l G cX6_canLose RX6 "canLose" 4 (Option.some Jvm.ClassFile.FieldType.boolean) fr lo h0 (ovT m0 M hb) (QM G (some (.int r)) h0 (ovT m0 M hb)) 48 [(0, .ref m0), (1, .int v7), (3, .int v8)] [] (ovT m0 M hb) := by
  unfold T_canLose_J48 at hF
  refine v_iconst dX6_canLose_48 (v := 0) (by decide) ?_
  exact v_sub [0, 1, 2] rfl (w_T_canLose_J49 hfr hlo hc8 hF)
def T_canLose_J44 (N : Nat) (M : TM) (c8 : Int32 → Int32 → Int32 → Option Int32) (v13 : Int32) (v14 : Int32) : Option Int32 :=
  T_canLose_J49 N M c8 v13 v14 (1 : Int32)
theorem w_T_canLose_J44 {l : Launch} {G : GT} {fr lo : Nat} {h0 : Hp} {m0 : Nat} {hb : Hp} {N : Nat} {M : TM} {r : Int32} (hfr : 2 ≤ fr) (hlo : 42 ≤ lo) {c8 : Int32 → Int32 → Int32 → Option Int32} (hc8 : ∀ (v2 : Int32) (v3 : Int32) (v4 : Int32), c8 v2 v3 v4 = some r → V l G cX6_canLose RX6 "canLose" 4 (Option.some Jvm.ClassFile.FieldType.boolean) fr lo h0 (ovT m0 M hb) (QM G (some (.int r)) h0 (ovT m0 M hb)) 8 [(0, .ref m0), (1, .int v2), (2, .int v3), (3, .int v4)] [] (ovT m0 M hb)) {v13 : Int32} {v14 : Int32} (hF : T_canLose_J44 N M c8 v13 v14 = some r) : V l G cX6_canLose RX6 "canLose" 4 (Option.some Jvm.ClassFile.FieldType.boolean) fr lo h0 (ovT m0 M hb) (QM G (some (.int r)) h0 (ovT m0 M hb)) 44 [(0, .ref m0), (1, .int v13), (3, .int v14)] [] (ovT m0 M hb) := by
  unfold T_canLose_J44 at hF
  refine v_iconst dX6_canLose_44 (v := 1) (by decide) ?_
  refine v_goto (tgt := 49) dX6_canLose_45 (by decide) ?_
  exact v_sub [0, 1, 2] rfl (w_T_canLose_J49 hfr hlo hc8 hF)
def T_canLose_L8 (N : Nat) (M : TM) (x8 : Int32 → Option Int32) : Nat → Int32 → Int32 → Int32 → Option Int32
  | 0, _, _, _ => none
  | n17 + 1, v2, v3, v4 =>
    (T_bookMany M).bind fun v6 =>
    if v6 ≤ v4 then
      x8 v3
    else
      if v3 = 0 then
        T_canLose_J48 N M (T_canLose_L8 N M x8 n17) v2 v4
      else
        (T_isRead M v4).bind fun v12 =>
        if v12 = 0 then
          T_canLose_J44 N M (T_canLose_L8 N M x8 n17) v2 v4
        else
          (tra M 2 5660 ((22 : Int32) + v4)).bind fun v15 =>
          (T_isIn v15 v2).bind fun v16 =>
          if v16 = 0 then
            T_canLose_J44 N M (T_canLose_L8 N M x8 n17) v2 v4
          else
            T_canLose_J48 N M (T_canLose_L8 N M x8 n17) v2 v4
theorem w_T_canLose_L8 {l : Launch} {G : GT} {fr lo : Nat} {h0 : Hp} {m0 : Nat} {hb : Hp} {N : Nat} {M : TM} {r : Int32} (hfr : 2 ≤ fr) (hlo : 42 ≤ lo) {x8 : Int32 → Option Int32} (hx8 : ∀ (v5 : Int32), x8 v5 = some r → V l G cX6_canLose RX6 "canLose" 4 (Option.some Jvm.ClassFile.FieldType.boolean) fr lo h0 (ovT m0 M hb) (QM G (some (.int r)) h0 (ovT m0 M hb)) 56 [(2, .int v5)] [] (ovT m0 M hb)) : ∀ (n : Nat) (v2 : Int32) (v3 : Int32) (v4 : Int32), T_canLose_L8 N M x8 n v2 v3 v4 = some r → V l G cX6_canLose RX6 "canLose" 4 (Option.some Jvm.ClassFile.FieldType.boolean) fr lo h0 (ovT m0 M hb) (QM G (some (.int r)) h0 (ovT m0 M hb)) 8 [(0, .ref m0), (1, .int v2), (2, .int v3), (3, .int v4)] [] (ovT m0 M hb) := by
  intro n
  induction n with
  | zero =>
    intro v2 v3 v4 hF
    cases (show (none : Option Int32) = some r from hF)
  | succ n hc8 =>
    intro v2 v3 v4 hF
    rw [T_canLose_L8] at hF
    refine v_iload_n dX6_canLose_8 rfl 3 rfl ?_
    refine v_aload_n dX6_canLose_9 rfl 0 rfl ?_
    obtain ⟨v6, e_v6, hF⟩ := Option.bind_eq_some_iff.mp hF
    refine v_calV1 dX6_canLose_10 vl_X6_112 q1837 rc_ov (ct_T_bookMany e_v6) rfl rfl (Nat.le_trans (Nat.le_of_ble_eq_true rfl) hfr) (Nat.le_trans (Nat.le_of_ble_eq_true rfl) hlo) (Nat.le_of_ble_eq_true rfl) ?_
    refine v_icmp_ge (tgt := 56) dX6_canLose_13 (by decide) hF (fun hF => ?_) (fun hF => ?_)
    · exact v_sub [2] rfl (hx8 _ hF)
    · refine v_iload_n dX6_canLose_16 rfl 2 rfl ?_
      refine v_if_eq (tgt := 48) dX6_canLose_17 (by decide) hF (fun hF => ?_) (fun hF => ?_)
      · exact v_sub [0, 1, 3] rfl (w_T_canLose_J48 hfr hlo hc8 hF)
      · refine v_aload_n dX6_canLose_20 rfl 0 rfl ?_
        refine v_iload_n dX6_canLose_21 rfl 3 rfl ?_
        obtain ⟨v12, e_v12, hF⟩ := Option.bind_eq_some_iff.mp hF
        refine v_calV1 dX6_canLose_22 vl_X6_134 q1857 rc_ov (ct_T_isRead e_v12) rfl rfl (Nat.le_trans (Nat.le_of_ble_eq_true rfl) hfr) (Nat.le_trans (Nat.le_of_ble_eq_true rfl) hlo) (Nat.le_of_ble_eq_true rfl) ?_
        refine v_if_eq (tgt := 44) dX6_canLose_25 (by decide) hF (fun hF => ?_) (fun hF => ?_)
        · exact v_sub [0, 1, 3] rfl (w_T_canLose_J44 hfr hlo hc8 hF)
        · refine v_aload_n dX6_canLose_28 rfl 0 rfl ?_
          refine t_geta 2 2 dX6_canLose_29 fl_X6_24 (Nat.le_of_ble_eq_true rfl) (fun _ _ => rfl) ?_
          refine v_bipush dX6_canLose_32 (v := 22) (by decide) ?_
          refine v_iload_n dX6_canLose_34 rfl 3 rfl ?_
          refine v_iadd dX6_canLose_35 ?_
          refine t_iald 2 dX6_canLose_36 rfl (Nat.le_of_ble_eq_true rfl) (by decide) hF (fun v15 hF => ?_)
          refine v_iload_n dX6_canLose_37 rfl 1 rfl ?_
          obtain ⟨v16, e_v16, hF⟩ := Option.bind_eq_some_iff.mp hF
          refine v_calS1 dX6_canLose_38 sl_X6_119 q1860 (ct_T_isIn e_v16) rfl rfl (Nat.le_trans (Nat.le_of_ble_eq_true rfl) hfr) (Nat.le_trans (Nat.le_of_ble_eq_true rfl) hlo) (Nat.le_of_ble_eq_true rfl) ?_
          refine v_if_ne (tgt := 48) dX6_canLose_41 (by decide) hF (fun hF => ?_) (fun hF => ?_)
          · exact v_sub [0, 1, 3] rfl (w_T_canLose_J48 hfr hlo hc8 hF)
          · exact v_sub [0, 1, 3] rfl (w_T_canLose_J44 hfr hlo hc8 hF)
def T_canLose (N : Nat) (M : TM) (a1 : Int32) : Option Int32 :=
  (T_isRead M a1).bind fun v1 =>
  T_canLose_L8 N M (fun v18 =>
    (rz v18).bind fun v19 => some v19) N a1 v1 (0 : Int32)
theorem w_T_canLose {l : Launch} {G : GT} {fr lo : Nat} {h0 : Hp} {m0 : Nat} {hb : Hp} {N : Nat} {M : TM} {r : Int32} (hfr : 2 ≤ fr) (hlo : 42 ≤ lo) {a1 : Int32} (hF : T_canLose N M a1 = some r) : V l G cX6_canLose RX6 "canLose" 4 (Option.some Jvm.ClassFile.FieldType.boolean) fr lo h0 (ovT m0 M hb) (QM G (some (.int r)) h0 (ovT m0 M hb)) 0 [(0, .ref m0), (1, .int a1)] [] (ovT m0 M hb) := by
  unfold T_canLose at hF
  refine v_aload_n dX6_canLose_0 rfl 0 rfl ?_
  refine v_iload_n dX6_canLose_1 rfl 1 rfl ?_
  obtain ⟨v1, e_v1, hF⟩ := Option.bind_eq_some_iff.mp hF
  refine v_calV1 dX6_canLose_2 vl_X6_134 q1857 rc_ov (ct_T_isRead e_v1) rfl rfl (Nat.le_trans (Nat.le_of_ble_eq_true rfl) hfr) (Nat.le_trans (Nat.le_of_ble_eq_true rfl) hlo) (Nat.le_of_ble_eq_true rfl) ?_
  refine v_istore_n dX6_canLose_5 rfl (Nat.le_of_ble_eq_true rfl) (L' := [(2, .int v1), (0, .ref m0), (1, .int a1)]) rfl ?_
  refine v_iconst dX6_canLose_6 (v := 0) (by decide) ?_
  refine v_istore_n dX6_canLose_7 rfl (Nat.le_of_ble_eq_true rfl) (L' := [(3, .int (0 : Int32)), (2, .int v1), (0, .ref m0), (1, .int a1)]) rfl ?_
  refine v_sub [2, 3, 1, 0] rfl (w_T_canLose_L8 hfr hlo ?_ N _ _ _ hF)
  intro v18 hF
  refine v_iload_n dX6_canLose_56 rfl 0 rfl ?_
  refine v_zchk hF (fun v19 hz hF => ?_)
  cases hF
  exact v_iret dX6_canLose_57 rfl (nar_z hz) rfl rfl
theorem ct_T_canLose {l : Launch} {G : GT} {m0 : Nat} {hb : Hp} {N : Nat} {M : TM} {r : Int32} {a1 : Int32} (hF : T_canLose N M a1 = some r) : Ct l G yX6_canLose (ws_ yX6_canLose cX6_canLose 4 (Option.some Jvm.ClassFile.FieldType.boolean)) 2 42 [.ref m0, .int a1] (ovT m0 M hb) (some (.int r)) (ovT m0 M hb) :=
  ct_of (by decide) (Nat.le_of_ble_eq_true rfl) (w_T_canLose (Nat.le_refl _) (Nat.le_refl _) hF)
theorem vl_X6_358 : ∀ ci ∈ [6], VL RX6 358 ci yX6_canLose 1 := by
  intro ci h
  simp only [List.mem_cons, List.not_mem_nil, or_false] at h
  subst h; exact ⟨RX6, TX6, 56, rfl, q146, ⟨by decide, by decide⟩, by decide +kernel, q2135, Or.inl ⟨q2133, qs106⟩⟩
def T_losesKept (N : Nat) (a1 : Int32) (M : TM) : Option (Int32 × TM) :=
  (T_isBook M a1).bind fun v1 =>
  if v1 = 0 then
    some ((-2 : Int32), M)
  else
    (T_canLose N M a1).bind fun v2 =>
    if v2 = 0 then
      some ((-3 : Int32), M)
    else
      (T_keeps N (1 : Int32) M).bind fun M3 =>
      (tra M3 2 5660 (0 : Int32)).bind fun v4 =>
      (twa M3 2 5660 (0 : Int32) (v4 &&& (((1 : Int32) <<< (a1 &&& 31)) ^^^ (-1 : Int32)))).bind fun M5 =>
      (tra M5 2 5660 (0 : Int32)).bind fun v6 =>
      (T_ones N v6).bind fun v7 =>
      some (v7, M5)
theorem w_T_losesKept {l : Launch} {G : GT} {fr lo : Nat} {h0 : Hp} {m0 : Nat} {hb : Hp} {N : Nat} {r : (Int32 × TM)} (hfr : 3 ≤ fr) (hlo : 65 ≤ lo) {a1 : Int32} {M : TM} (hF : T_losesKept N a1 M = some r) : V l G cX6_losesKept RX6 "losesKept" 2 (Option.some Jvm.ClassFile.FieldType.int) fr lo h0 (ovT m0 r.2 hb) (QM G (some (.int r.1)) h0 (ovT m0 r.2 hb)) 0 [(0, .ref m0), (1, .int a1)] [] (ovT m0 M hb) := by
  unfold T_losesKept at hF
  refine v_aload_n dX6_losesKept_0 rfl 0 rfl ?_
  refine v_iload_n dX6_losesKept_1 rfl 1 rfl ?_
  obtain ⟨v1, e_v1, hF⟩ := Option.bind_eq_some_iff.mp hF
  refine v_calV1 dX6_losesKept_2 vl_X6_130 q1849 rc_ov (ct_T_isBook e_v1) rfl rfl (Nat.le_trans (Nat.le_of_ble_eq_true rfl) hfr) (Nat.le_trans (Nat.le_of_ble_eq_true rfl) hlo) (Nat.le_of_ble_eq_true rfl) ?_
  refine v_if_ne (tgt := 11) dX6_losesKept_5 (by decide) hF (fun hF => ?_) (fun hF => ?_)
  · refine v_aload_n dX6_losesKept_11 rfl 0 rfl ?_
    refine v_iload_n dX6_losesKept_12 rfl 1 rfl ?_
    obtain ⟨v2, e_v2, hF⟩ := Option.bind_eq_some_iff.mp hF
    refine v_calV1 dX6_losesKept_13 vl_X6_358 q2136 rc_ov (ct_T_canLose e_v2) rfl rfl (Nat.le_trans (Nat.le_of_ble_eq_true rfl) hfr) (Nat.le_trans (Nat.le_of_ble_eq_true rfl) hlo) (Nat.le_of_ble_eq_true rfl) ?_
    refine v_if_ne (tgt := 22) dX6_losesKept_16 (by decide) hF (fun hF => ?_) (fun hF => ?_)
    · refine v_aload_n dX6_losesKept_22 rfl 0 rfl ?_
      refine v_iconst dX6_losesKept_23 (v := 1) (by decide) ?_
      obtain ⟨M3, e_M3, hF⟩ := Option.bind_eq_some_iff.mp hF
      refine v_calV0 dX6_losesKept_24 vl_X6_352 q2113 rc_ov (ct_T_keeps e_M3) rfl rfl (Nat.le_trans (Nat.le_of_ble_eq_true rfl) hfr) (Nat.le_trans (Nat.le_of_ble_eq_true rfl) hlo) (Nat.le_of_ble_eq_true rfl) ?_
      refine v_aload_n dX6_losesKept_27 rfl 0 rfl ?_
      refine t_geta 2 2 dX6_losesKept_28 fl_X6_24 (Nat.le_of_ble_eq_true rfl) (fun _ _ => rfl) ?_
      refine v_iconst dX6_losesKept_31 (v := 0) (by decide) ?_
      refine v_dup2 dX6_losesKept_32 rfl rfl ?_
      refine t_iald 2 dX6_losesKept_33 rfl (Nat.le_of_ble_eq_true rfl) (by decide) hF (fun v4 hF => ?_)
      refine v_iconst dX6_losesKept_34 (v := 1) (by decide) ?_
      refine v_iload_n dX6_losesKept_35 rfl 1 rfl ?_
      refine v_ishl dX6_losesKept_36 ?_
      refine v_iconst dX6_losesKept_37 (v := -1) (by decide) ?_
      refine v_ixor dX6_losesKept_38 ?_
      refine v_iand dX6_losesKept_39 ?_
      refine t_iast 2 dX6_losesKept_40 rfl (Nat.le_of_ble_eq_true rfl) (by decide) hF (fun M5 hF => ?_)
      refine v_aload_n dX6_losesKept_41 rfl 0 rfl ?_
      refine t_geta 2 2 dX6_losesKept_42 fl_X6_24 (Nat.le_of_ble_eq_true rfl) (fun _ _ => rfl) ?_
      refine v_iconst dX6_losesKept_45 (v := 0) (by decide) ?_
      refine t_iald 2 dX6_losesKept_46 rfl (Nat.le_of_ble_eq_true rfl) (by decide) hF (fun v6 hF => ?_)
      obtain ⟨v7, e_v7, hF⟩ := Option.bind_eq_some_iff.mp hF
      refine v_calS1 dX6_losesKept_47 sl_X6_304 q1871 (ct_T_ones e_v7) rfl rfl (Nat.le_trans (Nat.le_of_ble_eq_true rfl) hfr) (Nat.le_trans (Nat.le_of_ble_eq_true rfl) hlo) (Nat.le_of_ble_eq_true rfl) ?_
      cases hF
      exact v_iret dX6_losesKept_50 rfl rfl rfl rfl
    · refine v_bipush dX6_losesKept_19 (v := -3) (by decide) ?_
      cases hF
      exact v_iret dX6_losesKept_21 rfl rfl rfl rfl
  · refine v_bipush dX6_losesKept_8 (v := -2) (by decide) ?_
    cases hF
    exact v_iret dX6_losesKept_10 rfl rfl rfl rfl
theorem ct_T_losesKept {l : Launch} {G : GT} {m0 : Nat} {hb : Hp} {N : Nat} {r : (Int32 × TM)} {a1 : Int32} {M : TM} (hF : T_losesKept N a1 M = some r) : Ct l G yX6_losesKept (ws_ yX6_losesKept cX6_losesKept 2 (Option.some Jvm.ClassFile.FieldType.int)) 3 65 [.ref m0, .int a1] (ovT m0 M hb) (some (.int r.1)) (ovT m0 r.2 hb) :=
  ct_of (by decide) (Nat.le_of_ble_eq_true rfl) (w_T_losesKept (Nat.le_refl _) (Nat.le_refl _) hF)
theorem vl_X6_370 : ∀ ci ∈ [6], VL RX6 370 ci yX6_losesKept 1 := by
  intro ci h
  simp only [List.mem_cons, List.not_mem_nil, or_false] at h
  subst h; exact ⟨RX6, TX6, 56, rfl, q146, ⟨by decide, by decide⟩, by decide +kernel, q2131, Or.inl ⟨q2129, qs105⟩⟩
def T_lose (N : Nat) (a1 : Int32) (M : TM) : Option (Int32 × TM) :=
  bd2 (T_losesKept N a1 M) fun v2 M1 =>
  bd2 (T_goodOr v2 M1) fun v4 M3 =>
  some (v4, M3)
theorem w_T_lose {l : Launch} {G : GT} {fr lo : Nat} {h0 : Hp} {m0 : Nat} {hb : Hp} {N : Nat} {r : (Int32 × TM)} (hfr : 4 ≤ fr) (hlo : 86 ≤ lo) {a1 : Int32} {M : TM} (hF : T_lose N a1 M = some r) : V l G cX6_lose RX6 "lose" 2 (Option.some Jvm.ClassFile.FieldType.int) fr lo h0 (ovT m0 r.2 hb) (QM G (some (.int r.1)) h0 (ovT m0 r.2 hb)) 0 [(0, .ref m0), (1, .int a1)] [] (ovT m0 M hb) := by
  unfold T_lose at hF
  refine v_aload_n dX6_lose_0 rfl 0 rfl ?_
  refine v_aload_n dX6_lose_1 rfl 0 rfl ?_
  refine v_iload_n dX6_lose_2 rfl 1 rfl ?_
  obtain ⟨v2, M1, e_v2, hF⟩ := bd2_spec hF
  refine v_calV1 dX6_lose_3 vl_X6_370 q2132 rc_ov (ct_T_losesKept e_v2) rfl rfl (Nat.le_trans (Nat.le_of_ble_eq_true rfl) hfr) (Nat.le_trans (Nat.le_of_ble_eq_true rfl) hlo) (Nat.le_of_ble_eq_true rfl) ?_
  obtain ⟨v4, M3, e_v4, hF⟩ := bd2_spec hF
  refine v_calV1 dX6_lose_6 vl_X6_367 q2124 rc_ov (ct_T_goodOr e_v4) rfl rfl (Nat.le_trans (Nat.le_of_ble_eq_true rfl) hfr) (Nat.le_trans (Nat.le_of_ble_eq_true rfl) hlo) (Nat.le_of_ble_eq_true rfl) ?_
  cases hF
  exact v_iret dX6_lose_9 rfl rfl rfl rfl
theorem ct_T_lose {l : Launch} {G : GT} {m0 : Nat} {hb : Hp} {N : Nat} {r : (Int32 × TM)} {a1 : Int32} {M : TM} (hF : T_lose N a1 M = some r) : Ct l G yX6_lose (ws_ yX6_lose cX6_lose 2 (Option.some Jvm.ClassFile.FieldType.int)) 4 86 [.ref m0, .int a1] (ovT m0 M hb) (some (.int r.1)) (ovT m0 r.2 hb) :=
  ct_of (by decide) (Nat.le_of_ble_eq_true rfl) (w_T_lose (Nat.le_refl _) (Nat.le_refl _) hF)
def T_cutsKept (N : Nat) (a1 : Int32) (M : TM) : Option (Int32 × TM) :=
  (T_isLeek M a1).bind fun v1 =>
  if v1 = 0 then
    some ((-2 : Int32), M)
  else
    (tra M 2 5660 ((1 : Int32) + a1)).bind fun v2 =>
    if v2 = 0 then
      some ((-3 : Int32), M)
    else
      (T_keeps N (2 : Int32) M).bind fun M3 =>
      (twa M3 2 5660 ((1 : Int32) + a1) (0 : Int32)).bind fun M4 =>
      some (v2, M4)
theorem w_T_cutsKept {l : Launch} {G : GT} {fr lo : Nat} {h0 : Hp} {m0 : Nat} {hb : Hp} {N : Nat} {r : (Int32 × TM)} (hfr : 2 ≤ fr) (hlo : 43 ≤ lo) {a1 : Int32} {M : TM} (hF : T_cutsKept N a1 M = some r) : V l G cX6_cutsKept RX6 "cutsKept" 3 (Option.some Jvm.ClassFile.FieldType.int) fr lo h0 (ovT m0 r.2 hb) (QM G (some (.int r.1)) h0 (ovT m0 r.2 hb)) 0 [(0, .ref m0), (1, .int a1)] [] (ovT m0 M hb) := by
  unfold T_cutsKept at hF
  refine v_aload_n dX6_cutsKept_0 rfl 0 rfl ?_
  refine v_iload_n dX6_cutsKept_1 rfl 1 rfl ?_
  obtain ⟨v1, e_v1, hF⟩ := Option.bind_eq_some_iff.mp hF
  refine v_calV1 dX6_cutsKept_2 vl_X6_143 q1914 rc_ov (ct_T_isLeek e_v1) rfl rfl (Nat.le_trans (Nat.le_of_ble_eq_true rfl) hfr) (Nat.le_trans (Nat.le_of_ble_eq_true rfl) hlo) (Nat.le_of_ble_eq_true rfl) ?_
  refine v_if_ne (tgt := 11) dX6_cutsKept_5 (by decide) hF (fun hF => ?_) (fun hF => ?_)
  · refine v_aload_n dX6_cutsKept_11 rfl 0 rfl ?_
    refine t_geta 2 2 dX6_cutsKept_12 fl_X6_24 (Nat.le_of_ble_eq_true rfl) (fun _ _ => rfl) ?_
    refine v_iconst dX6_cutsKept_15 (v := 1) (by decide) ?_
    refine v_iload_n dX6_cutsKept_16 rfl 1 rfl ?_
    refine v_iadd dX6_cutsKept_17 ?_
    refine t_iald 2 dX6_cutsKept_18 rfl (Nat.le_of_ble_eq_true rfl) (by decide) hF (fun v2 hF => ?_)
    refine v_istore_n dX6_cutsKept_19 rfl (Nat.le_of_ble_eq_true rfl) (L' := [(2, .int v2), (0, .ref m0), (1, .int a1)]) rfl ?_
    refine v_iload_n dX6_cutsKept_20 rfl 0 rfl ?_
    refine v_if_ne (tgt := 27) dX6_cutsKept_21 (by decide) hF (fun hF => ?_) (fun hF => ?_)
    · refine v_aload_n dX6_cutsKept_27 rfl 1 rfl ?_
      refine v_iconst dX6_cutsKept_28 (v := 2) (by decide) ?_
      obtain ⟨M3, e_M3, hF⟩ := Option.bind_eq_some_iff.mp hF
      refine v_calV0 dX6_cutsKept_29 vl_X6_352 q2113 rc_ov (ct_T_keeps e_M3) rfl rfl (Nat.le_trans (Nat.le_of_ble_eq_true rfl) hfr) (Nat.le_trans (Nat.le_of_ble_eq_true rfl) hlo) (Nat.le_of_ble_eq_true rfl) ?_
      refine v_aload_n dX6_cutsKept_32 rfl 1 rfl ?_
      refine t_geta 2 2 dX6_cutsKept_33 fl_X6_24 (Nat.le_of_ble_eq_true rfl) (fun _ _ => rfl) ?_
      refine v_iconst dX6_cutsKept_36 (v := 1) (by decide) ?_
      refine v_iload_n dX6_cutsKept_37 rfl 2 rfl ?_
      refine v_iadd dX6_cutsKept_38 ?_
      refine v_iconst dX6_cutsKept_39 (v := 0) (by decide) ?_
      refine t_iast 2 dX6_cutsKept_40 rfl (Nat.le_of_ble_eq_true rfl) (by decide) hF (fun M4 hF => ?_)
      refine v_iload_n dX6_cutsKept_41 rfl 0 rfl ?_
      cases hF
      exact v_iret dX6_cutsKept_42 rfl rfl rfl rfl
    · refine v_bipush dX6_cutsKept_24 (v := -3) (by decide) ?_
      cases hF
      exact v_iret dX6_cutsKept_26 rfl rfl rfl rfl
  · refine v_bipush dX6_cutsKept_8 (v := -2) (by decide) ?_
    cases hF
    exact v_iret dX6_cutsKept_10 rfl rfl rfl rfl
theorem ct_T_cutsKept {l : Launch} {G : GT} {m0 : Nat} {hb : Hp} {N : Nat} {r : (Int32 × TM)} {a1 : Int32} {M : TM} (hF : T_cutsKept N a1 M = some r) : Ct l G yX6_cutsKept (ws_ yX6_cutsKept cX6_cutsKept 3 (Option.some Jvm.ClassFile.FieldType.int)) 2 43 [.ref m0, .int a1] (ovT m0 M hb) (some (.int r.1)) (ovT m0 r.2 hb) :=
  ct_of (by decide) (Nat.le_of_ble_eq_true rfl) (w_T_cutsKept (Nat.le_refl _) (Nat.le_refl _) hF)
theorem vl_X6_373 : ∀ ci ∈ [6], VL RX6 373 ci yX6_cutsKept 1 := by
  intro ci h
  simp only [List.mem_cons, List.not_mem_nil, or_false] at h
  subst h; exact ⟨RX6, TX6, 56, rfl, q146, ⟨by decide, by decide⟩, by decide +kernel, q2143, Or.inl ⟨q2141, qs107⟩⟩
def T_cut (N : Nat) (a1 : Int32) (M : TM) : Option (Int32 × TM) :=
  bd2 (T_cutsKept N a1 M) fun v2 M1 =>
  bd2 (T_goodOr v2 M1) fun v4 M3 =>
  some (v4, M3)
theorem w_T_cut {l : Launch} {G : GT} {fr lo : Nat} {h0 : Hp} {m0 : Nat} {hb : Hp} {N : Nat} {r : (Int32 × TM)} (hfr : 3 ≤ fr) (hlo : 65 ≤ lo) {a1 : Int32} {M : TM} (hF : T_cut N a1 M = some r) : V l G cX6_cut RX6 "cut" 2 (Option.some Jvm.ClassFile.FieldType.int) fr lo h0 (ovT m0 r.2 hb) (QM G (some (.int r.1)) h0 (ovT m0 r.2 hb)) 0 [(0, .ref m0), (1, .int a1)] [] (ovT m0 M hb) := by
  unfold T_cut at hF
  refine v_aload_n dX6_cut_0 rfl 0 rfl ?_
  refine v_aload_n dX6_cut_1 rfl 0 rfl ?_
  refine v_iload_n dX6_cut_2 rfl 1 rfl ?_
  obtain ⟨v2, M1, e_v2, hF⟩ := bd2_spec hF
  refine v_calV1 dX6_cut_3 vl_X6_373 q2144 rc_ov (ct_T_cutsKept e_v2) rfl rfl (Nat.le_trans (Nat.le_of_ble_eq_true rfl) hfr) (Nat.le_trans (Nat.le_of_ble_eq_true rfl) hlo) (Nat.le_of_ble_eq_true rfl) ?_
  obtain ⟨v4, M3, e_v4, hF⟩ := bd2_spec hF
  refine v_calV1 dX6_cut_6 vl_X6_367 q2124 rc_ov (ct_T_goodOr e_v4) rfl rfl (Nat.le_trans (Nat.le_of_ble_eq_true rfl) hfr) (Nat.le_trans (Nat.le_of_ble_eq_true rfl) hlo) (Nat.le_of_ble_eq_true rfl) ?_
  cases hF
  exact v_iret dX6_cut_9 rfl rfl rfl rfl
theorem ct_T_cut {l : Launch} {G : GT} {m0 : Nat} {hb : Hp} {N : Nat} {r : (Int32 × TM)} {a1 : Int32} {M : TM} (hF : T_cut N a1 M = some r) : Ct l G yX6_cut (ws_ yX6_cut cX6_cut 2 (Option.some Jvm.ClassFile.FieldType.int)) 3 65 [.ref m0, .int a1] (ovT m0 M hb) (some (.int r.1)) (ovT m0 r.2 hb) :=
  ct_of (by decide) (Nat.le_of_ble_eq_true rfl) (w_T_cut (Nat.le_refl _) (Nat.le_refl _) hF)
def T_greater (a1 : Int32) (a2 : Int32) : Option Int32 :=
  some (if a1 ≤ a2 then a2 else a1)
theorem w_T_greater {l : Launch} {G : GT} {fr lo : Nat} {h0 : Hp} {h : Hp} {r : Int32} (hfr : 0 ≤ fr) (hlo : 0 ≤ lo) {a1 : Int32} {a2 : Int32} (hF : T_greater a1 a2 = some r) : V l G cX6_greater RX6 "greater" 2 (Option.some Jvm.ClassFile.FieldType.int) fr lo h0 h (QM G (some (.int r)) h0 h) 0 [(0, .int a1), (1, .int a2)] [] h := by
  unfold T_greater at hF
  refine v_iload_n dX6_greater_0 rfl 0 rfl ?_
  refine v_iload_n dX6_greater_1 rfl 1 rfl ?_
  refine v_tern (c := a1 ≤ a2) (x := a2) (y := a1) (pcj := 10) (st := []) ?_ (fun kt kf => v_icmp_le0 (tgt := 9) dX6_greater_2 (by decide) kt kf) (fun K => ?_) (fun K => ?_)
  · cases hF
    exact v_iret dX6_greater_10 rfl rfl rfl rfl
  · refine v_iload_n dX6_greater_9 rfl 1 rfl ?_
    exact K
  · refine v_iload_n dX6_greater_5 rfl 0 rfl ?_
    refine v_goto (tgt := 10) dX6_greater_6 (by decide) ?_
    exact K
theorem ct_T_greater {l : Launch} {G : GT} {h : Hp} {r : Int32} {a1 : Int32} {a2 : Int32} (hF : T_greater a1 a2 = some r) : Ct l G yX6_greater (ws_ yX6_greater cX6_greater 2 (Option.some Jvm.ClassFile.FieldType.int)) 0 0 [.int a1, .int a2] h (some (.int r)) h :=
  ct_of (by decide) (Nat.le_of_ble_eq_true rfl) (w_T_greater (Nat.le_refl _) (Nat.le_refl _) hF)
theorem sl_X6_346 : SL RX6 346 yX6_greater 2 := ⟨q146, ⟨by decide, by decide⟩, by decide +kernel, q2158, Or.inl q2157⟩
def T_dayPasses_L4 (N : Nat) (x4 : Int32 → TM → Option (Int32 × TM)) : Nat → Int32 → Int32 → TM → Option (Int32 × TM)
  | 0, _, _, _ => none
  | n10 + 1, v1, v2, M3 =>
    (T_leekMany M3).bind fun v6 =>
    if v6 ≤ v2 then
      x4 v1 M3
    else
      bd2 (T_wiltsNow N v2 M3) fun v8 M7 =>
      (twa M7 29 4 v2 v8).bind fun M9 =>
      (T_dayPasses_L4 N x4 n10) v1 (v2 + (1 : Int32)) M9
theorem w_T_dayPasses_L4 {l : Launch} {G : GT} {fr lo : Nat} {h0 : Hp} {m0 : Nat} {hb : Hp} {N : Nat} {r : (Int32 × TM)} (hfr : 119 ≤ fr) (hlo : 2869 ≤ lo) {x4 : Int32 → TM → Option (Int32 × TM)} (hx4 : ∀ (v4 : Int32) (M5 : TM), x4 v4 M5 = some r → V l G cX6_dayPasses RX6 "dayPasses" 4 (Option.some Jvm.ClassFile.FieldType.int) fr lo h0 (ovT m0 r.2 hb) (QM G (some (.int r.1)) h0 (ovT m0 r.2 hb)) 29 [(0, .ref m0), (1, .int v4)] [] (ovT m0 M5 hb)) : ∀ (n : Nat) (v1 : Int32) (v2 : Int32) (M3 : TM), T_dayPasses_L4 N x4 n v1 v2 M3 = some r → V l G cX6_dayPasses RX6 "dayPasses" 4 (Option.some Jvm.ClassFile.FieldType.int) fr lo h0 (ovT m0 r.2 hb) (QM G (some (.int r.1)) h0 (ovT m0 r.2 hb)) 4 [(0, .ref m0), (1, .int v1), (2, .int v2)] [] (ovT m0 M3 hb) := by
  intro n
  induction n with
  | zero =>
    intro v1 v2 M3 hF
    cases (show (none : Option (Int32 × TM)) = some r from hF)
  | succ n hc4 =>
    intro v1 v2 M3 hF
    rw [T_dayPasses_L4] at hF
    refine v_iload_n dX6_dayPasses_4 rfl 2 rfl ?_
    refine v_aload_n dX6_dayPasses_5 rfl 0 rfl ?_
    obtain ⟨v6, e_v6, hF⟩ := Option.bind_eq_some_iff.mp hF
    refine v_calV1 dX6_dayPasses_6 vl_X6_116 q1918 rc_ov (ct_T_leekMany e_v6) rfl rfl (Nat.le_trans (Nat.le_of_ble_eq_true rfl) hfr) (Nat.le_trans (Nat.le_of_ble_eq_true rfl) hlo) (Nat.le_of_ble_eq_true rfl) ?_
    refine v_icmp_ge (tgt := 29) dX6_dayPasses_9 (by decide) hF (fun hF => ?_) (fun hF => ?_)
    · exact v_sub [0, 1] rfl (hx4 _ _ hF)
    · refine v_aload_n dX6_dayPasses_12 rfl 0 rfl ?_
      refine t_geta 29 13 dX6_dayPasses_13 fl_X6_62 (Nat.le_of_ble_eq_true rfl) (fun _ _ => rfl) ?_
      refine v_iload_n dX6_dayPasses_16 rfl 2 rfl ?_
      refine v_aload_n dX6_dayPasses_17 rfl 0 rfl ?_
      refine v_iload_n dX6_dayPasses_18 rfl 2 rfl ?_
      obtain ⟨v8, M7, e_v8, hF⟩ := bd2_spec hF
      refine v_calV1 dX6_dayPasses_19 vl_X6_150 q1964 rc_ov (ct_T_wiltsNow e_v8) rfl rfl (Nat.le_trans (Nat.le_of_ble_eq_true rfl) hfr) (Nat.le_trans (Nat.le_of_ble_eq_true rfl) hlo) (Nat.le_of_ble_eq_true rfl) ?_
      refine t_iast 13 dX6_dayPasses_22 rfl (Nat.le_of_ble_eq_true rfl) (by decide) hF (fun M9 hF => ?_)
      refine v_iinc dX6_dayPasses_23 2 rfl (v := v2 + (1 : Int32)) (by rfl) (Nat.le_of_ble_eq_true rfl) (L' := [(2, .int (v2 + (1 : Int32))), (0, .ref m0), (1, .int v1)]) rfl ?_
      refine v_goto (tgt := 4) dX6_dayPasses_26 (by decide) ?_
      exact v_sub [1, 2, 0] rfl (hc4 _ _ _ hF)
def T_dayPasses_J77 (N : Nat) (c31 : Int32 → Int32 → TM → Option (Int32 × TM)) (v23 : Int32) (v24 : Int32) (v25 : Int32) (v26 : Int32) (M27 : TM) : Option (Int32 × TM) :=
  (twa M27 2 5660 ((1 : Int32) + v23) v24).bind fun M28 =>
  c31 (v26 + v25) (v23 + (1 : Int32)) M28
theorem w_T_dayPasses_J77 {l : Launch} {G : GT} {fr lo : Nat} {h0 : Hp} {m0 : Nat} {hb : Hp} {N : Nat} {r : (Int32 × TM)} (hfr : 119 ≤ fr) (hlo : 2869 ≤ lo) {c31 : Int32 → Int32 → TM → Option (Int32 × TM)} (hc31 : ∀ (v13 : Int32) (v14 : Int32) (M15 : TM), c31 v13 v14 M15 = some r → V l G cX6_dayPasses RX6 "dayPasses" 4 (Option.some Jvm.ClassFile.FieldType.int) fr lo h0 (ovT m0 r.2 hb) (QM G (some (.int r.1)) h0 (ovT m0 r.2 hb)) 31 [(0, .ref m0), (1, .int v13), (2, .int v14)] [] (ovT m0 M15 hb)) {v23 : Int32} {v24 : Int32} {v25 : Int32} {v26 : Int32} {M27 : TM} (hF : T_dayPasses_J77 N c31 v23 v24 v25 v26 M27 = some r) : V l G cX6_dayPasses RX6 "dayPasses" 4 (Option.some Jvm.ClassFile.FieldType.int) fr lo h0 (ovT m0 r.2 hb) (QM G (some (.int r.1)) h0 (ovT m0 r.2 hb)) 77 [(0, .ref m0), (2, .int v23), (3, .int v24)] [.int v25, .int v26] (ovT m0 M27 hb) := by
  unfold T_dayPasses_J77 at hF
  refine v_iadd dX6_dayPasses_77 ?_
  refine v_istore_n dX6_dayPasses_78 rfl (Nat.le_of_ble_eq_true rfl) (L' := [(1, .int (v26 + v25)), (0, .ref m0), (2, .int v23), (3, .int v24)]) rfl ?_
  refine v_aload_n dX6_dayPasses_79 rfl 1 rfl ?_
  refine t_geta 2 2 dX6_dayPasses_80 fl_X6_24 (Nat.le_of_ble_eq_true rfl) (fun _ _ => rfl) ?_
  refine v_iconst dX6_dayPasses_83 (v := 1) (by decide) ?_
  refine v_iload_n dX6_dayPasses_84 rfl 2 rfl ?_
  refine v_iadd dX6_dayPasses_85 ?_
  refine v_iload_n dX6_dayPasses_86 rfl 3 rfl ?_
  refine t_iast 2 dX6_dayPasses_87 rfl (Nat.le_of_ble_eq_true rfl) (by decide) hF (fun M28 hF => ?_)
  refine v_iinc dX6_dayPasses_88 2 rfl (v := v23 + (1 : Int32)) (by rfl) (Nat.le_of_ble_eq_true rfl) (L' := [(2, .int (v23 + (1 : Int32))), (1, .int (v26 + v25)), (0, .ref m0), (3, .int v24)]) rfl ?_
  refine v_goto (tgt := 31) dX6_dayPasses_91 (by decide) ?_
  exact v_sub [2, 1, 0] rfl (hc31 _ _ _ hF)
def T_dayPasses_L31 (N : Nat) (x31 : Int32 → TM → Option (Int32 × TM)) : Nat → Int32 → Int32 → TM → Option (Int32 × TM)
  | 0, _, _, _ => none
  | n29 + 1, v13, v14, M15 =>
    (T_leekMany M15).bind fun v18 =>
    if v18 ≤ v14 then
      x31 v13 M15
    else
      (tra M15 2 5660 ((1 : Int32) + v14)).bind fun v19 =>
      (tra M15 29 4 v14).bind fun v20 =>
      (T_greater (0 : Int32) (v19 - v20)).bind fun v21 =>
      (tra M15 2 5660 ((1 : Int32) + v14)).bind fun v22 =>
      T_dayPasses_J77 N (T_dayPasses_L31 N x31 n29) v14 v21 (if v22 ≤ v21 then (0 : Int32) else (1 : Int32)) v13 M15
theorem w_T_dayPasses_L31 {l : Launch} {G : GT} {fr lo : Nat} {h0 : Hp} {m0 : Nat} {hb : Hp} {N : Nat} {r : (Int32 × TM)} (hfr : 119 ≤ fr) (hlo : 2869 ≤ lo) {x31 : Int32 → TM → Option (Int32 × TM)} (hx31 : ∀ (v16 : Int32) (M17 : TM), x31 v16 M17 = some r → V l G cX6_dayPasses RX6 "dayPasses" 4 (Option.some Jvm.ClassFile.FieldType.int) fr lo h0 (ovT m0 r.2 hb) (QM G (some (.int r.1)) h0 (ovT m0 r.2 hb)) 94 [(0, .ref m0), (1, .int v16)] [] (ovT m0 M17 hb)) : ∀ (n : Nat) (v13 : Int32) (v14 : Int32) (M15 : TM), T_dayPasses_L31 N x31 n v13 v14 M15 = some r → V l G cX6_dayPasses RX6 "dayPasses" 4 (Option.some Jvm.ClassFile.FieldType.int) fr lo h0 (ovT m0 r.2 hb) (QM G (some (.int r.1)) h0 (ovT m0 r.2 hb)) 31 [(0, .ref m0), (1, .int v13), (2, .int v14)] [] (ovT m0 M15 hb) := by
  intro n
  induction n with
  | zero =>
    intro v13 v14 M15 hF
    cases (show (none : Option (Int32 × TM)) = some r from hF)
  | succ n hc31 =>
    intro v13 v14 M15 hF
    rw [T_dayPasses_L31] at hF
    refine v_iload_n dX6_dayPasses_31 rfl 2 rfl ?_
    refine v_aload_n dX6_dayPasses_32 rfl 0 rfl ?_
    obtain ⟨v18, e_v18, hF⟩ := Option.bind_eq_some_iff.mp hF
    refine v_calV1 dX6_dayPasses_33 vl_X6_116 q1918 rc_ov (ct_T_leekMany e_v18) rfl rfl (Nat.le_trans (Nat.le_of_ble_eq_true rfl) hfr) (Nat.le_trans (Nat.le_of_ble_eq_true rfl) hlo) (Nat.le_of_ble_eq_true rfl) ?_
    refine v_icmp_ge (tgt := 94) dX6_dayPasses_36 (by decide) hF (fun hF => ?_) (fun hF => ?_)
    · exact v_sub [0, 1] rfl (hx31 _ _ hF)
    · refine v_iconst dX6_dayPasses_39 (v := 0) (by decide) ?_
      refine v_aload_n dX6_dayPasses_40 rfl 0 rfl ?_
      refine t_geta 2 2 dX6_dayPasses_41 fl_X6_24 (Nat.le_of_ble_eq_true rfl) (fun _ _ => rfl) ?_
      refine v_iconst dX6_dayPasses_44 (v := 1) (by decide) ?_
      refine v_iload_n dX6_dayPasses_45 rfl 2 rfl ?_
      refine v_iadd dX6_dayPasses_46 ?_
      refine t_iald 2 dX6_dayPasses_47 rfl (Nat.le_of_ble_eq_true rfl) (by decide) hF (fun v19 hF => ?_)
      refine v_aload_n dX6_dayPasses_48 rfl 0 rfl ?_
      refine t_geta 29 13 dX6_dayPasses_49 fl_X6_62 (Nat.le_of_ble_eq_true rfl) (fun _ _ => rfl) ?_
      refine v_iload_n dX6_dayPasses_52 rfl 2 rfl ?_
      refine t_iald 13 dX6_dayPasses_53 rfl (Nat.le_of_ble_eq_true rfl) (by decide) hF (fun v20 hF => ?_)
      refine v_isub dX6_dayPasses_54 ?_
      obtain ⟨v21, e_v21, hF⟩ := Option.bind_eq_some_iff.mp hF
      refine v_calS1 dX6_dayPasses_55 sl_X6_346 q2159 (ct_T_greater e_v21) rfl rfl (Nat.le_trans (Nat.le_of_ble_eq_true rfl) hfr) (Nat.le_trans (Nat.le_of_ble_eq_true rfl) hlo) (Nat.le_of_ble_eq_true rfl) ?_
      refine v_istore_n dX6_dayPasses_58 rfl (Nat.le_of_ble_eq_true rfl) (L' := [(3, .int v21), (0, .ref m0), (1, .int v13), (2, .int v14)]) rfl ?_
      refine v_iload_n dX6_dayPasses_59 rfl 2 rfl ?_
      refine v_iload_n dX6_dayPasses_60 rfl 0 rfl ?_
      refine v_aload_n dX6_dayPasses_61 rfl 1 rfl ?_
      refine t_geta 2 2 dX6_dayPasses_62 fl_X6_24 (Nat.le_of_ble_eq_true rfl) (fun _ _ => rfl) ?_
      refine v_iconst dX6_dayPasses_65 (v := 1) (by decide) ?_
      refine v_iload_n dX6_dayPasses_66 rfl 3 rfl ?_
      refine v_iadd dX6_dayPasses_67 ?_
      refine t_iald 2 dX6_dayPasses_68 rfl (Nat.le_of_ble_eq_true rfl) (by decide) hF (fun v22 hF => ?_)
      refine v_tern (c := v22 ≤ v21) (x := (0 : Int32)) (y := (1 : Int32)) (pcj := 77) (st := [.int v13]) ?_ (fun kt kf => v_icmp_ge0 (tgt := 76) dX6_dayPasses_69 (by decide) kt kf) (fun K => ?_) (fun K => ?_)
      · exact v_sub [1, 3, 0] rfl (w_T_dayPasses_J77 hfr hlo hc31 hF)
      · refine v_iconst dX6_dayPasses_76 (v := 0) (by decide) ?_
        exact K
      · refine v_iconst dX6_dayPasses_72 (v := 1) (by decide) ?_
        refine v_goto (tgt := 77) dX6_dayPasses_73 (by decide) ?_
        exact K
def T_dayPasses (N : Nat) (M : TM) : Option (Int32 × TM) :=
  T_dayPasses_L4 N (fun v11 M12 =>
    T_dayPasses_L31 N (fun v30 M31 =>
      (tra M31 2 5660 (5 : Int32)).bind fun v32 =>
      (twa M31 2 5660 (5 : Int32) (v32 + (1 : Int32))).bind fun M33 =>
      some (v30, M33)) N v11 (0 : Int32) M12) N (0 : Int32) (0 : Int32) M
theorem w_T_dayPasses {l : Launch} {G : GT} {fr lo : Nat} {h0 : Hp} {m0 : Nat} {hb : Hp} {N : Nat} {r : (Int32 × TM)} (hfr : 119 ≤ fr) (hlo : 2869 ≤ lo) {M : TM} (hF : T_dayPasses N M = some r) : V l G cX6_dayPasses RX6 "dayPasses" 4 (Option.some Jvm.ClassFile.FieldType.int) fr lo h0 (ovT m0 r.2 hb) (QM G (some (.int r.1)) h0 (ovT m0 r.2 hb)) 0 [(0, .ref m0)] [] (ovT m0 M hb) := by
  unfold T_dayPasses at hF
  refine v_iconst dX6_dayPasses_0 (v := 0) (by decide) ?_
  refine v_istore_n dX6_dayPasses_1 rfl (Nat.le_of_ble_eq_true rfl) (L' := [(1, .int (0 : Int32)), (0, .ref m0)]) rfl ?_
  refine v_iconst dX6_dayPasses_2 (v := 0) (by decide) ?_
  refine v_istore_n dX6_dayPasses_3 rfl (Nat.le_of_ble_eq_true rfl) (L' := [(2, .int (0 : Int32)), (1, .int (0 : Int32)), (0, .ref m0)]) rfl ?_
  refine v_sub [2, 1, 0] rfl (w_T_dayPasses_L4 hfr hlo ?_ N _ _ _ hF)
  intro v11 M12 hF
  refine v_iconst dX6_dayPasses_29 (v := 0) (by decide) ?_
  refine v_istore_n dX6_dayPasses_30 rfl (Nat.le_of_ble_eq_true rfl) (L' := [(2, .int (0 : Int32)), (0, .ref m0), (1, .int v11)]) rfl ?_
  refine v_sub [1, 2, 0] rfl (w_T_dayPasses_L31 hfr hlo ?_ N _ _ _ hF)
  intro v30 M31 hF
  refine v_aload_n dX6_dayPasses_94 rfl 0 rfl ?_
  refine t_geta 2 2 dX6_dayPasses_95 fl_X6_24 (Nat.le_of_ble_eq_true rfl) (fun _ _ => rfl) ?_
  refine v_iconst dX6_dayPasses_98 (v := 5) (by decide) ?_
  refine v_dup2 dX6_dayPasses_99 rfl rfl ?_
  refine t_iald 2 dX6_dayPasses_100 rfl (Nat.le_of_ble_eq_true rfl) (by decide) hF (fun v32 hF => ?_)
  refine v_iconst dX6_dayPasses_101 (v := 1) (by decide) ?_
  refine v_iadd dX6_dayPasses_102 ?_
  refine t_iast 2 dX6_dayPasses_103 rfl (Nat.le_of_ble_eq_true rfl) (by decide) hF (fun M33 hF => ?_)
  refine v_iload_n dX6_dayPasses_104 rfl 1 rfl ?_
  cases hF
  exact v_iret dX6_dayPasses_105 rfl rfl rfl rfl
theorem ct_T_dayPasses {l : Launch} {G : GT} {m0 : Nat} {hb : Hp} {N : Nat} {r : (Int32 × TM)} {M : TM} (hF : T_dayPasses N M = some r) : Ct l G yX6_dayPasses (ws_ yX6_dayPasses cX6_dayPasses 4 (Option.some Jvm.ClassFile.FieldType.int)) 119 2869 [.ref m0] (ovT m0 M hb) (some (.int r.1)) (ovT m0 r.2 hb) :=
  ct_of (by decide) (Nat.le_of_ble_eq_true rfl) (w_T_dayPasses (Nat.le_refl _) (Nat.le_refl _) hF)
theorem vl_X6_361 : ∀ ci ∈ [6], VL RX6 361 ci yX6_dayPasses 0 := by
  intro ci h
  simp only [List.mem_cons, List.not_mem_nil, or_false] at h
  subst h; exact ⟨RX6, TX6, 56, rfl, q146, ⟨by decide, by decide⟩, by decide +kernel, q2155, Or.inl ⟨q2153, qs109⟩⟩
def T_passesKept (N : Nat) (M : TM) : Option (Int32 × TM) :=
  (tra M 2 5660 (5 : Int32)).bind fun v1 =>
  if v1 = (999 : Int32) then
    some ((-3 : Int32), M)
  else
    (T_keeps N (3 : Int32) M).bind fun M2 =>
    bd2 (T_dayPasses N M2) fun v4 M3 =>
    some (v4, M3)
theorem w_T_passesKept {l : Launch} {G : GT} {fr lo : Nat} {h0 : Hp} {m0 : Nat} {hb : Hp} {N : Nat} {r : (Int32 × TM)} (hfr : 120 ≤ fr) (hlo : 2892 ≤ lo) {M : TM} (hF : T_passesKept N M = some r) : V l G cX6_passesKept RX6 "passesKept" 1 (Option.some Jvm.ClassFile.FieldType.int) fr lo h0 (ovT m0 r.2 hb) (QM G (some (.int r.1)) h0 (ovT m0 r.2 hb)) 0 [(0, .ref m0)] [] (ovT m0 M hb) := by
  unfold T_passesKept at hF
  refine v_aload_n dX6_passesKept_0 rfl 0 rfl ?_
  refine t_geta 2 2 dX6_passesKept_1 fl_X6_24 (Nat.le_of_ble_eq_true rfl) (fun _ _ => rfl) ?_
  refine v_iconst dX6_passesKept_4 (v := 5) (by decide) ?_
  refine t_iald 2 dX6_passesKept_5 rfl (Nat.le_of_ble_eq_true rfl) (by decide) hF (fun v1 hF => ?_)
  refine v_sipush dX6_passesKept_6 (v := 999) (by decide) ?_
  refine v_icmp_ne (tgt := 15) dX6_passesKept_9 (by decide) hF (fun hF => ?_) (fun hF => ?_)
  · refine v_aload_n dX6_passesKept_15 rfl 0 rfl ?_
    refine v_iconst dX6_passesKept_16 (v := 3) (by decide) ?_
    obtain ⟨M2, e_M2, hF⟩ := Option.bind_eq_some_iff.mp hF
    refine v_calV0 dX6_passesKept_17 vl_X6_352 q2113 rc_ov (ct_T_keeps e_M2) rfl rfl (Nat.le_trans (Nat.le_of_ble_eq_true rfl) hfr) (Nat.le_trans (Nat.le_of_ble_eq_true rfl) hlo) (Nat.le_of_ble_eq_true rfl) ?_
    refine v_aload_n dX6_passesKept_20 rfl 0 rfl ?_
    obtain ⟨v4, M3, e_v4, hF⟩ := bd2_spec hF
    refine v_calV1 dX6_passesKept_21 vl_X6_361 q2156 rc_ov (ct_T_dayPasses e_v4) rfl rfl (Nat.le_trans (Nat.le_of_ble_eq_true rfl) hfr) (Nat.le_trans (Nat.le_of_ble_eq_true rfl) hlo) (Nat.le_of_ble_eq_true rfl) ?_
    cases hF
    exact v_iret dX6_passesKept_24 rfl rfl rfl rfl
  · refine v_bipush dX6_passesKept_12 (v := -3) (by decide) ?_
    cases hF
    exact v_iret dX6_passesKept_14 rfl rfl rfl rfl
theorem ct_T_passesKept {l : Launch} {G : GT} {m0 : Nat} {hb : Hp} {N : Nat} {r : (Int32 × TM)} {M : TM} (hF : T_passesKept N M = some r) : Ct l G yX6_passesKept (ws_ yX6_passesKept cX6_passesKept 1 (Option.some Jvm.ClassFile.FieldType.int)) 120 2892 [.ref m0] (ovT m0 M hb) (some (.int r.1)) (ovT m0 r.2 hb) :=
  ct_of (by decide) (Nat.le_of_ble_eq_true rfl) (w_T_passesKept (Nat.le_refl _) (Nat.le_refl _) hF)
theorem vl_X6_376 : ∀ ci ∈ [6], VL RX6 376 ci yX6_passesKept 0 := by
  intro ci h
  simp only [List.mem_cons, List.not_mem_nil, or_false] at h
  subst h; exact ⟨RX6, TX6, 56, rfl, q146, ⟨by decide, by decide⟩, by decide +kernel, q2151, Or.inl ⟨q2149, qs108⟩⟩
def T_pass (N : Nat) (M : TM) : Option (Int32 × TM) :=
  bd2 (T_passesKept N M) fun v2 M1 =>
  bd2 (T_goodOr v2 M1) fun v4 M3 =>
  some (v4, M3)
theorem w_T_pass {l : Launch} {G : GT} {fr lo : Nat} {h0 : Hp} {m0 : Nat} {hb : Hp} {N : Nat} {r : (Int32 × TM)} (hfr : 121 ≤ fr) (hlo : 2912 ≤ lo) {M : TM} (hF : T_pass N M = some r) : V l G cX6_pass RX6 "pass" 1 (Option.some Jvm.ClassFile.FieldType.int) fr lo h0 (ovT m0 r.2 hb) (QM G (some (.int r.1)) h0 (ovT m0 r.2 hb)) 0 [(0, .ref m0)] [] (ovT m0 M hb) := by
  unfold T_pass at hF
  refine v_aload_n dX6_pass_0 rfl 0 rfl ?_
  refine v_aload_n dX6_pass_1 rfl 0 rfl ?_
  obtain ⟨v2, M1, e_v2, hF⟩ := bd2_spec hF
  refine v_calV1 dX6_pass_2 vl_X6_376 q2152 rc_ov (ct_T_passesKept e_v2) rfl rfl (Nat.le_trans (Nat.le_of_ble_eq_true rfl) hfr) (Nat.le_trans (Nat.le_of_ble_eq_true rfl) hlo) (Nat.le_of_ble_eq_true rfl) ?_
  obtain ⟨v4, M3, e_v4, hF⟩ := bd2_spec hF
  refine v_calV1 dX6_pass_5 vl_X6_367 q2124 rc_ov (ct_T_goodOr e_v4) rfl rfl (Nat.le_trans (Nat.le_of_ble_eq_true rfl) hfr) (Nat.le_trans (Nat.le_of_ble_eq_true rfl) hlo) (Nat.le_of_ble_eq_true rfl) ?_
  cases hF
  exact v_iret dX6_pass_8 rfl rfl rfl rfl
theorem ct_T_pass {l : Launch} {G : GT} {m0 : Nat} {hb : Hp} {N : Nat} {r : (Int32 × TM)} {M : TM} (hF : T_pass N M = some r) : Ct l G yX6_pass (ws_ yX6_pass cX6_pass 1 (Option.some Jvm.ClassFile.FieldType.int)) 121 2912 [.ref m0] (ovT m0 M hb) (some (.int r.1)) (ovT m0 r.2 hb) :=
  ct_of (by decide) (Nat.le_of_ble_eq_true rfl) (w_T_pass (Nat.le_refl _) (Nat.le_refl _) hF)
def T_allNeeds_J55 (N : Nat) (M : TM) (c22 : Int32 → Int32 → Int32 → Option Int32) (v12 : Int32) (v13 : Int32) (v14 : Int32) (v15 : Int32) : Option Int32 :=
  c22 (v15 ||| v14) v12 (v13 + (1 : Int32))
theorem w_T_allNeeds_J55 {l : Launch} {G : GT} {fr lo : Nat} {h0 : Hp} {m0 : Nat} {hb : Hp} {N : Nat} {M : TM} {r : Int32} (hfr : 1 ≤ fr) (hlo : 21 ≤ lo) {c22 : Int32 → Int32 → Int32 → Option Int32} (hc22 : ∀ (v5 : Int32) (v6 : Int32) (v7 : Int32), c22 v5 v6 v7 = some r → V l G cX6_allNeeds RX6 "allNeeds" 5 (Option.some Jvm.ClassFile.FieldType.int) fr lo h0 (ovT m0 M hb) (QM G (some (.int r)) h0 (ovT m0 M hb)) 22 [(0, .ref m0), (2, .int v5), (3, .int v6), (4, .int v7)] [] (ovT m0 M hb)) {v12 : Int32} {v13 : Int32} {v14 : Int32} {v15 : Int32} (hF : T_allNeeds_J55 N M c22 v12 v13 v14 v15 = some r) : V l G cX6_allNeeds RX6 "allNeeds" 5 (Option.some Jvm.ClassFile.FieldType.int) fr lo h0 (ovT m0 M hb) (QM G (some (.int r)) h0 (ovT m0 M hb)) 55 [(0, .ref m0), (3, .int v12), (4, .int v13)] [.int v14, .int v15] (ovT m0 M hb) := by
  unfold T_allNeeds_J55 at hF
  refine v_ior dX6_allNeeds_55 ?_
  refine v_istore_n dX6_allNeeds_56 rfl (Nat.le_of_ble_eq_true rfl) (L' := [(2, .int (v15 ||| v14)), (0, .ref m0), (3, .int v12), (4, .int v13)]) rfl ?_
  refine v_iinc dX6_allNeeds_57 3 rfl (v := v13 + (1 : Int32)) (by rfl) (Nat.le_of_ble_eq_true rfl) (L' := [(4, .int (v13 + (1 : Int32))), (2, .int (v15 ||| v14)), (0, .ref m0), (3, .int v12)]) rfl ?_
  refine v_goto (tgt := 22) dX6_allNeeds_60 (by decide) ?_
  exact v_sub [2, 1, 3, 0] rfl (hc22 _ _ _ hF)
def T_allNeeds_L22 (N : Nat) (M : TM) (x22 : Int32 → Int32 → Option Int32) : Nat → Int32 → Int32 → Int32 → Option Int32
  | 0, _, _, _ => none
  | n17 + 1, v5, v6, v7 =>
    (T_bookMany M).bind fun v10 =>
    if v10 ≤ v7 then
      x22 v5 v6
    else
      (T_isIn v6 v7).bind fun v11 =>
      if v11 = 0 then
        T_allNeeds_J55 N M (T_allNeeds_L22 N M x22 n17) v6 v7 (0 : Int32) v5
      else
        (tra M 2 5660 ((22 : Int32) + v7)).bind fun v16 =>
        T_allNeeds_J55 N M (T_allNeeds_L22 N M x22 n17) v6 v7 v16 v5
theorem w_T_allNeeds_L22 {l : Launch} {G : GT} {fr lo : Nat} {h0 : Hp} {m0 : Nat} {hb : Hp} {N : Nat} {M : TM} {r : Int32} (hfr : 1 ≤ fr) (hlo : 21 ≤ lo) {x22 : Int32 → Int32 → Option Int32} (hx22 : ∀ (v8 : Int32) (v9 : Int32), x22 v8 v9 = some r → V l G cX6_allNeeds RX6 "allNeeds" 5 (Option.some Jvm.ClassFile.FieldType.int) fr lo h0 (ovT m0 M hb) (QM G (some (.int r)) h0 (ovT m0 M hb)) 63 [(0, .ref m0), (2, .int v8), (3, .int v9)] [] (ovT m0 M hb)) : ∀ (n : Nat) (v5 : Int32) (v6 : Int32) (v7 : Int32), T_allNeeds_L22 N M x22 n v5 v6 v7 = some r → V l G cX6_allNeeds RX6 "allNeeds" 5 (Option.some Jvm.ClassFile.FieldType.int) fr lo h0 (ovT m0 M hb) (QM G (some (.int r)) h0 (ovT m0 M hb)) 22 [(0, .ref m0), (2, .int v5), (3, .int v6), (4, .int v7)] [] (ovT m0 M hb) := by
  intro n
  induction n with
  | zero =>
    intro v5 v6 v7 hF
    cases (show (none : Option Int32) = some r from hF)
  | succ n hc22 =>
    intro v5 v6 v7 hF
    rw [T_allNeeds_L22] at hF
    refine v_iload dX6_allNeeds_22 3 rfl ?_
    refine v_aload_n dX6_allNeeds_24 rfl 0 rfl ?_
    obtain ⟨v10, e_v10, hF⟩ := Option.bind_eq_some_iff.mp hF
    refine v_calV1 dX6_allNeeds_25 vl_X6_112 q1837 rc_ov (ct_T_bookMany e_v10) rfl rfl (Nat.le_trans (Nat.le_of_ble_eq_true rfl) hfr) (Nat.le_trans (Nat.le_of_ble_eq_true rfl) hlo) (Nat.le_of_ble_eq_true rfl) ?_
    refine v_icmp_ge (tgt := 63) dX6_allNeeds_28 (by decide) hF (fun hF => ?_) (fun hF => ?_)
    · exact v_sub [0, 1, 2] rfl (hx22 _ _ hF)
    · refine v_iload_n dX6_allNeeds_31 rfl 1 rfl ?_
      refine v_iload_n dX6_allNeeds_32 rfl 2 rfl ?_
      refine v_iload dX6_allNeeds_33 3 rfl ?_
      obtain ⟨v11, e_v11, hF⟩ := Option.bind_eq_some_iff.mp hF
      refine v_calS1 dX6_allNeeds_35 sl_X6_119 q1860 (ct_T_isIn e_v11) rfl rfl (Nat.le_trans (Nat.le_of_ble_eq_true rfl) hfr) (Nat.le_trans (Nat.le_of_ble_eq_true rfl) hlo) (Nat.le_of_ble_eq_true rfl) ?_
      refine v_if_eq (tgt := 54) dX6_allNeeds_38 (by decide) hF (fun hF => ?_) (fun hF => ?_)
      · refine v_iconst dX6_allNeeds_54 (v := 0) (by decide) ?_
        exact v_sub [0, 2, 3] rfl (w_T_allNeeds_J55 hfr hlo hc22 hF)
      · refine v_aload_n dX6_allNeeds_41 rfl 0 rfl ?_
        refine t_geta 2 2 dX6_allNeeds_42 fl_X6_24 (Nat.le_of_ble_eq_true rfl) (fun _ _ => rfl) ?_
        refine v_bipush dX6_allNeeds_45 (v := 22) (by decide) ?_
        refine v_iload dX6_allNeeds_47 3 rfl ?_
        refine v_iadd dX6_allNeeds_49 ?_
        refine t_iald 2 dX6_allNeeds_50 rfl (Nat.le_of_ble_eq_true rfl) (by decide) hF (fun v16 hF => ?_)
        refine v_goto (tgt := 55) dX6_allNeeds_51 (by decide) ?_
        exact v_sub [0, 2, 3] rfl (w_T_allNeeds_J55 hfr hlo hc22 hF)
def T_allNeeds_L12 (N : Nat) (M : TM) (x12 : Int32 → Option Int32) : Nat → Int32 → Int32 → Option Int32
  | 0, _, _ => none
  | n20 + 1, v2, v3 =>
    if v2 = v3 then
      x12 v2
    else
      T_allNeeds_L22 N M (fun v18 v19 =>
        (T_allNeeds_L12 N M x12 n20) v18 v19) N v2 v2 (0 : Int32)
theorem w_T_allNeeds_L12 {l : Launch} {G : GT} {fr lo : Nat} {h0 : Hp} {m0 : Nat} {hb : Hp} {N : Nat} {M : TM} {r : Int32} (hfr : 1 ≤ fr) (hlo : 21 ≤ lo) {x12 : Int32 → Option Int32} (hx12 : ∀ (v4 : Int32), x12 v4 = some r → V l G cX6_allNeeds RX6 "allNeeds" 5 (Option.some Jvm.ClassFile.FieldType.int) fr lo h0 (ovT m0 M hb) (QM G (some (.int r)) h0 (ovT m0 M hb)) 66 [(2, .int v4)] [] (ovT m0 M hb)) : ∀ (n : Nat) (v2 : Int32) (v3 : Int32), T_allNeeds_L12 N M x12 n v2 v3 = some r → V l G cX6_allNeeds RX6 "allNeeds" 5 (Option.some Jvm.ClassFile.FieldType.int) fr lo h0 (ovT m0 M hb) (QM G (some (.int r)) h0 (ovT m0 M hb)) 12 [(0, .ref m0), (2, .int v2), (3, .int v3)] [] (ovT m0 M hb) := by
  intro n
  induction n with
  | zero =>
    intro v2 v3 hF
    cases (show (none : Option Int32) = some r from hF)
  | succ n hc12 =>
    intro v2 v3 hF
    rw [T_allNeeds_L12] at hF
    refine v_iload_n dX6_allNeeds_12 rfl 1 rfl ?_
    refine v_iload_n dX6_allNeeds_13 rfl 2 rfl ?_
    refine v_icmp_eq (tgt := 66) dX6_allNeeds_14 (by decide) hF (fun hF => ?_) (fun hF => ?_)
    · exact v_sub [1] rfl (hx12 _ hF)
    · refine v_iload_n dX6_allNeeds_17 rfl 1 rfl ?_
      refine v_istore_n dX6_allNeeds_18 rfl (Nat.le_of_ble_eq_true rfl) (L' := [(3, .int v2), (0, .ref m0), (2, .int v2)]) rfl ?_
      refine v_iconst dX6_allNeeds_19 (v := 0) (by decide) ?_
      refine v_istore dX6_allNeeds_20 (Nat.le_of_ble_eq_true rfl) (L' := [(4, .int (0 : Int32)), (3, .int v2), (0, .ref m0), (2, .int v2)]) rfl ?_
      refine v_sub [2, 3, 1, 0] rfl (w_T_allNeeds_L22 hfr hlo ?_ N _ _ _ hF)
      intro v18 v19 hF
      refine v_goto (tgt := 12) dX6_allNeeds_63 (by decide) ?_
      exact v_sub [0, 1, 2] rfl (hc12 _ _ hF)
def T_allNeeds (N : Nat) (M : TM) (a1 : Int32) : Option Int32 :=
  (tra M 2 5660 ((22 : Int32) + a1)).bind fun v1 =>
  T_allNeeds_L12 N M (fun v21 =>
    some v21) N v1 (-1 : Int32)
theorem w_T_allNeeds {l : Launch} {G : GT} {fr lo : Nat} {h0 : Hp} {m0 : Nat} {hb : Hp} {N : Nat} {M : TM} {r : Int32} (hfr : 1 ≤ fr) (hlo : 21 ≤ lo) {a1 : Int32} (hF : T_allNeeds N M a1 = some r) : V l G cX6_allNeeds RX6 "allNeeds" 5 (Option.some Jvm.ClassFile.FieldType.int) fr lo h0 (ovT m0 M hb) (QM G (some (.int r)) h0 (ovT m0 M hb)) 0 [(0, .ref m0), (1, .int a1)] [] (ovT m0 M hb) := by
  unfold T_allNeeds at hF
  refine v_aload_n dX6_allNeeds_0 rfl 0 rfl ?_
  refine t_geta 2 2 dX6_allNeeds_1 fl_X6_24 (Nat.le_of_ble_eq_true rfl) (fun _ _ => rfl) ?_
  refine v_bipush dX6_allNeeds_4 (v := 22) (by decide) ?_
  refine v_iload_n dX6_allNeeds_6 rfl 1 rfl ?_
  refine v_iadd dX6_allNeeds_7 ?_
  refine t_iald 2 dX6_allNeeds_8 rfl (Nat.le_of_ble_eq_true rfl) (by decide) hF (fun v1 hF => ?_)
  refine v_istore_n dX6_allNeeds_9 rfl (Nat.le_of_ble_eq_true rfl) (L' := [(2, .int v1), (0, .ref m0), (1, .int a1)]) rfl ?_
  refine v_iconst dX6_allNeeds_10 (v := -1) (by decide) ?_
  refine v_istore_n dX6_allNeeds_11 rfl (Nat.le_of_ble_eq_true rfl) (L' := [(3, .int (-1 : Int32)), (2, .int v1), (0, .ref m0), (1, .int a1)]) rfl ?_
  refine v_sub [2, 1, 0] rfl (w_T_allNeeds_L12 hfr hlo ?_ N _ _ hF)
  intro v21 hF
  refine v_iload_n dX6_allNeeds_66 rfl 0 rfl ?_
  cases hF
  exact v_iret dX6_allNeeds_67 rfl rfl rfl rfl
theorem ct_T_allNeeds {l : Launch} {G : GT} {m0 : Nat} {hb : Hp} {N : Nat} {M : TM} {r : Int32} {a1 : Int32} (hF : T_allNeeds N M a1 = some r) : Ct l G yX6_allNeeds (ws_ yX6_allNeeds cX6_allNeeds 5 (Option.some Jvm.ClassFile.FieldType.int)) 1 21 [.ref m0, .int a1] (ovT m0 M hb) (some (.int r)) (ovT m0 M hb) :=
  ct_of (by decide) (Nat.le_of_ble_eq_true rfl) (w_T_allNeeds (Nat.le_refl _) (Nat.le_refl _) hF)
theorem vl_X6_379 : ∀ ci ∈ [6], VL RX6 379 ci yX6_allNeeds 1 := by
  intro ci h
  simp only [List.mem_cons, List.not_mem_nil, or_false] at h
  subst h; exact ⟨RX6, TX6, 56, rfl, q146, ⟨by decide, by decide⟩, by decide +kernel, q2166, Or.inl ⟨q2164, qs110⟩⟩
def T_needs (N : Nat) (M : TM) (a1 : Int32) : Option Int32 :=
  (T_isBook M a1).bind fun v1 =>
  if v1 = 0 then
    some (-1 : Int32)
  else
    (T_allNeeds N M a1).bind fun v2 =>
    some v2
theorem w_T_needs {l : Launch} {G : GT} {fr lo : Nat} {h0 : Hp} {m0 : Nat} {hb : Hp} {N : Nat} {M : TM} {r : Int32} (hfr : 2 ≤ fr) (hlo : 45 ≤ lo) {a1 : Int32} (hF : T_needs N M a1 = some r) : V l G cX6_needs RX6 "needs" 2 (Option.some Jvm.ClassFile.FieldType.int) fr lo h0 (ovT m0 M hb) (QM G (some (.int r)) h0 (ovT m0 M hb)) 0 [(0, .ref m0), (1, .int a1)] [] (ovT m0 M hb) := by
  unfold T_needs at hF
  refine v_aload_n dX6_needs_0 rfl 0 rfl ?_
  refine v_iload_n dX6_needs_1 rfl 1 rfl ?_
  obtain ⟨v1, e_v1, hF⟩ := Option.bind_eq_some_iff.mp hF
  refine v_calV1 dX6_needs_2 vl_X6_130 q1849 rc_ov (ct_T_isBook e_v1) rfl rfl (Nat.le_trans (Nat.le_of_ble_eq_true rfl) hfr) (Nat.le_trans (Nat.le_of_ble_eq_true rfl) hlo) (Nat.le_of_ble_eq_true rfl) ?_
  refine v_if_eq (tgt := 16) dX6_needs_5 (by decide) hF (fun hF => ?_) (fun hF => ?_)
  · refine v_iconst dX6_needs_16 (v := -1) (by decide) ?_
    cases hF
    exact v_iret dX6_needs_17 rfl rfl rfl rfl
  · refine v_aload_n dX6_needs_8 rfl 0 rfl ?_
    refine v_iload_n dX6_needs_9 rfl 1 rfl ?_
    obtain ⟨v2, e_v2, hF⟩ := Option.bind_eq_some_iff.mp hF
    refine v_calV1 dX6_needs_10 vl_X6_379 q2167 rc_ov (ct_T_allNeeds e_v2) rfl rfl (Nat.le_trans (Nat.le_of_ble_eq_true rfl) hfr) (Nat.le_trans (Nat.le_of_ble_eq_true rfl) hlo) (Nat.le_of_ble_eq_true rfl) ?_
    refine v_goto (tgt := 17) dX6_needs_13 (by decide) ?_
    cases hF
    exact v_iret dX6_needs_17 rfl rfl rfl rfl
theorem ct_T_needs {l : Launch} {G : GT} {m0 : Nat} {hb : Hp} {N : Nat} {M : TM} {r : Int32} {a1 : Int32} (hF : T_needs N M a1 = some r) : Ct l G yX6_needs (ws_ yX6_needs cX6_needs 2 (Option.some Jvm.ClassFile.FieldType.int)) 2 45 [.ref m0, .int a1] (ovT m0 M hb) (some (.int r)) (ovT m0 M hb) :=
  ct_of (by decide) (Nat.le_of_ble_eq_true rfl) (w_T_needs (Nat.le_refl _) (Nat.le_refl _) hF)
def T_everything (M : TM) : Option Int32 :=
  (T_bookMany M).bind fun v1 =>
  some (((1 : Int32) <<< (v1 &&& 31)) - (1 : Int32))
theorem w_T_everything {l : Launch} {G : GT} {fr lo : Nat} {h0 : Hp} {m0 : Nat} {hb : Hp} {M : TM} {r : Int32} (hfr : 1 ≤ fr) (hlo : 20 ≤ lo)  (hF : T_everything M = some r) : V l G cX6_everything RX6 "everything" 1 (Option.some Jvm.ClassFile.FieldType.int) fr lo h0 (ovT m0 M hb) (QM G (some (.int r)) h0 (ovT m0 M hb)) 0 [(0, .ref m0)] [] (ovT m0 M hb) := by
  unfold T_everything at hF
  refine v_iconst dX6_everything_0 (v := 1) (by decide) ?_
  refine v_aload_n dX6_everything_1 rfl 0 rfl ?_
  obtain ⟨v1, e_v1, hF⟩ := Option.bind_eq_some_iff.mp hF
  refine v_calV1 dX6_everything_2 vl_X6_112 q1837 rc_ov (ct_T_bookMany e_v1) rfl rfl (Nat.le_trans (Nat.le_of_ble_eq_true rfl) hfr) (Nat.le_trans (Nat.le_of_ble_eq_true rfl) hlo) (Nat.le_of_ble_eq_true rfl) ?_
  refine v_ishl dX6_everything_5 ?_
  refine v_iconst dX6_everything_6 (v := 1) (by decide) ?_
  refine v_isub dX6_everything_7 ?_
  cases hF
  exact v_iret dX6_everything_8 rfl rfl rfl rfl
theorem ct_T_everything {l : Launch} {G : GT} {m0 : Nat} {hb : Hp} {M : TM} {r : Int32}  (hF : T_everything M = some r) : Ct l G yX6_everything (ws_ yX6_everything cX6_everything 1 (Option.some Jvm.ClassFile.FieldType.int)) 1 20 [.ref m0] (ovT m0 M hb) (some (.int r)) (ovT m0 M hb) :=
  ct_of (by decide) (Nat.le_of_ble_eq_true rfl) (w_T_everything (Nat.le_refl _) (Nat.le_refl _) hF)
def T_readAtLast_J43 (N : Nat) (M : TM) (c18 : Int32 → Int32 → Int32 → Option Int32) (v12 : Int32) (v13 : Int32) (v14 : Int32) (v15 : Int32) : Option Int32 :=
  c18 (v15 ||| v14) v12 (v13 + (1 : Int32))
theorem w_T_readAtLast_J43 {l : Launch} {G : GT} {fr lo : Nat} {h0 : Hp} {m0 : Nat} {hb : Hp} {N : Nat} {M : TM} {r : Int32} (hfr : 2 ≤ fr) (hlo : 43 ≤ lo) {c18 : Int32 → Int32 → Int32 → Option Int32} (hc18 : ∀ (v5 : Int32) (v6 : Int32) (v7 : Int32), c18 v5 v6 v7 = some r → V l G cX6_readAtLast RX6 "readAtLast" 4 (Option.some Jvm.ClassFile.FieldType.int) fr lo h0 (ovT m0 M hb) (QM G (some (.int r)) h0 (ovT m0 M hb)) 18 [(0, .ref m0), (1, .int v5), (2, .int v6), (3, .int v7)] [] (ovT m0 M hb)) {v12 : Int32} {v13 : Int32} {v14 : Int32} {v15 : Int32} (hF : T_readAtLast_J43 N M c18 v12 v13 v14 v15 = some r) : V l G cX6_readAtLast RX6 "readAtLast" 4 (Option.some Jvm.ClassFile.FieldType.int) fr lo h0 (ovT m0 M hb) (QM G (some (.int r)) h0 (ovT m0 M hb)) 43 [(0, .ref m0), (2, .int v12), (3, .int v13)] [.int v14, .int v15] (ovT m0 M hb) := by
  unfold T_readAtLast_J43 at hF
  refine v_ior dX6_readAtLast_43 ?_
  refine v_istore_n dX6_readAtLast_44 rfl (Nat.le_of_ble_eq_true rfl) (L' := [(1, .int (v15 ||| v14)), (0, .ref m0), (2, .int v12), (3, .int v13)]) rfl ?_
  refine v_iinc dX6_readAtLast_45 3 rfl (v := v13 + (1 : Int32)) (by rfl) (Nat.le_of_ble_eq_true rfl) (L' := [(3, .int (v13 + (1 : Int32))), (1, .int (v15 ||| v14)), (0, .ref m0), (2, .int v12)]) rfl ?_
  refine v_goto (tgt := 18) dX6_readAtLast_48 (by decide) ?_
  exact v_sub [2, 1, 3, 0] rfl (hc18 _ _ _ hF)
def T_readAtLast_L18 (N : Nat) (M : TM) (x18 : Int32 → Int32 → Option Int32) : Nat → Int32 → Int32 → Int32 → Option Int32
  | 0, _, _, _ => none
  | n16 + 1, v5, v6, v7 =>
    (T_bookMany M).bind fun v10 =>
    if v10 ≤ v7 then
      x18 v5 v6
    else
      (T_isOpen M v6 v7).bind fun v11 =>
      T_readAtLast_J43 N M (T_readAtLast_L18 N M x18 n16) v6 v7 (if v11 = 0 then (0 : Int32) else ((1 : Int32) <<< (v7 &&& 31))) v5
theorem w_T_readAtLast_L18 {l : Launch} {G : GT} {fr lo : Nat} {h0 : Hp} {m0 : Nat} {hb : Hp} {N : Nat} {M : TM} {r : Int32} (hfr : 2 ≤ fr) (hlo : 43 ≤ lo) {x18 : Int32 → Int32 → Option Int32} (hx18 : ∀ (v8 : Int32) (v9 : Int32), x18 v8 v9 = some r → V l G cX6_readAtLast RX6 "readAtLast" 4 (Option.some Jvm.ClassFile.FieldType.int) fr lo h0 (ovT m0 M hb) (QM G (some (.int r)) h0 (ovT m0 M hb)) 51 [(0, .ref m0), (1, .int v8), (2, .int v9)] [] (ovT m0 M hb)) : ∀ (n : Nat) (v5 : Int32) (v6 : Int32) (v7 : Int32), T_readAtLast_L18 N M x18 n v5 v6 v7 = some r → V l G cX6_readAtLast RX6 "readAtLast" 4 (Option.some Jvm.ClassFile.FieldType.int) fr lo h0 (ovT m0 M hb) (QM G (some (.int r)) h0 (ovT m0 M hb)) 18 [(0, .ref m0), (1, .int v5), (2, .int v6), (3, .int v7)] [] (ovT m0 M hb) := by
  intro n
  induction n with
  | zero =>
    intro v5 v6 v7 hF
    cases (show (none : Option Int32) = some r from hF)
  | succ n hc18 =>
    intro v5 v6 v7 hF
    rw [T_readAtLast_L18] at hF
    refine v_iload_n dX6_readAtLast_18 rfl 3 rfl ?_
    refine v_aload_n dX6_readAtLast_19 rfl 0 rfl ?_
    obtain ⟨v10, e_v10, hF⟩ := Option.bind_eq_some_iff.mp hF
    refine v_calV1 dX6_readAtLast_20 vl_X6_112 q1837 rc_ov (ct_T_bookMany e_v10) rfl rfl (Nat.le_trans (Nat.le_of_ble_eq_true rfl) hfr) (Nat.le_trans (Nat.le_of_ble_eq_true rfl) hlo) (Nat.le_of_ble_eq_true rfl) ?_
    refine v_icmp_ge (tgt := 51) dX6_readAtLast_23 (by decide) hF (fun hF => ?_) (fun hF => ?_)
    · exact v_sub [0, 1, 2] rfl (hx18 _ _ hF)
    · refine v_iload_n dX6_readAtLast_26 rfl 1 rfl ?_
      refine v_aload_n dX6_readAtLast_27 rfl 0 rfl ?_
      refine v_iload_n dX6_readAtLast_28 rfl 2 rfl ?_
      refine v_iload_n dX6_readAtLast_29 rfl 3 rfl ?_
      obtain ⟨v11, e_v11, hF⟩ := Option.bind_eq_some_iff.mp hF
      refine v_calV1 dX6_readAtLast_30 vl_X6_137 q1864 rc_ov (ct_T_isOpen e_v11) rfl rfl (Nat.le_trans (Nat.le_of_ble_eq_true rfl) hfr) (Nat.le_trans (Nat.le_of_ble_eq_true rfl) hlo) (Nat.le_of_ble_eq_true rfl) ?_
      refine v_tern (c := v11 = 0) (x := (0 : Int32)) (y := ((1 : Int32) <<< (v7 &&& 31))) (pcj := 43) (st := [.int v5]) ?_ (fun kt kf => v_if_eq0 (tgt := 42) dX6_readAtLast_33 (by decide) kt kf) (fun K => ?_) (fun K => ?_)
      · exact v_sub [0, 2, 3] rfl (w_T_readAtLast_J43 hfr hlo hc18 hF)
      · refine v_iconst dX6_readAtLast_42 (v := 0) (by decide) ?_
        exact K
      · refine v_iconst dX6_readAtLast_36 (v := 1) (by decide) ?_
        refine v_iload_n dX6_readAtLast_37 rfl 3 rfl ?_
        refine v_ishl dX6_readAtLast_38 ?_
        refine v_goto (tgt := 43) dX6_readAtLast_39 (by decide) ?_
        exact K
def T_readAtLast_L9 (N : Nat) (M : TM) (x9 : Int32 → Option Int32) : Nat → Int32 → Int32 → Option Int32
  | 0, _, _ => none
  | n19 + 1, v2, v3 =>
    if v2 = v3 then
      x9 v2
    else
      T_readAtLast_L18 N M (fun v17 v18 =>
        (T_readAtLast_L9 N M x9 n19) v17 v18) N v2 v2 (0 : Int32)
theorem w_T_readAtLast_L9 {l : Launch} {G : GT} {fr lo : Nat} {h0 : Hp} {m0 : Nat} {hb : Hp} {N : Nat} {M : TM} {r : Int32} (hfr : 2 ≤ fr) (hlo : 43 ≤ lo) {x9 : Int32 → Option Int32} (hx9 : ∀ (v4 : Int32), x9 v4 = some r → V l G cX6_readAtLast RX6 "readAtLast" 4 (Option.some Jvm.ClassFile.FieldType.int) fr lo h0 (ovT m0 M hb) (QM G (some (.int r)) h0 (ovT m0 M hb)) 54 [(1, .int v4)] [] (ovT m0 M hb)) : ∀ (n : Nat) (v2 : Int32) (v3 : Int32), T_readAtLast_L9 N M x9 n v2 v3 = some r → V l G cX6_readAtLast RX6 "readAtLast" 4 (Option.some Jvm.ClassFile.FieldType.int) fr lo h0 (ovT m0 M hb) (QM G (some (.int r)) h0 (ovT m0 M hb)) 9 [(0, .ref m0), (1, .int v2), (2, .int v3)] [] (ovT m0 M hb) := by
  intro n
  induction n with
  | zero =>
    intro v2 v3 hF
    cases (show (none : Option Int32) = some r from hF)
  | succ n hc9 =>
    intro v2 v3 hF
    rw [T_readAtLast_L9] at hF
    refine v_iload_n dX6_readAtLast_9 rfl 1 rfl ?_
    refine v_iload_n dX6_readAtLast_10 rfl 2 rfl ?_
    refine v_icmp_eq (tgt := 54) dX6_readAtLast_11 (by decide) hF (fun hF => ?_) (fun hF => ?_)
    · exact v_sub [1] rfl (hx9 _ hF)
    · refine v_iload_n dX6_readAtLast_14 rfl 1 rfl ?_
      refine v_istore_n dX6_readAtLast_15 rfl (Nat.le_of_ble_eq_true rfl) (L' := [(2, .int v2), (0, .ref m0), (1, .int v2)]) rfl ?_
      refine v_iconst dX6_readAtLast_16 (v := 0) (by decide) ?_
      refine v_istore_n dX6_readAtLast_17 rfl (Nat.le_of_ble_eq_true rfl) (L' := [(3, .int (0 : Int32)), (2, .int v2), (0, .ref m0), (1, .int v2)]) rfl ?_
      refine v_sub [2, 3, 1, 0] rfl (w_T_readAtLast_L18 hfr hlo ?_ N _ _ _ hF)
      intro v17 v18 hF
      refine v_goto (tgt := 9) dX6_readAtLast_51 (by decide) ?_
      exact v_sub [0, 1, 2] rfl (hc9 _ _ hF)
def T_readAtLast (N : Nat) (M : TM) : Option Int32 :=
  (tra M 2 5660 (0 : Int32)).bind fun v1 =>
  T_readAtLast_L9 N M (fun v20 =>
    some v20) N v1 (-1 : Int32)
theorem w_T_readAtLast {l : Launch} {G : GT} {fr lo : Nat} {h0 : Hp} {m0 : Nat} {hb : Hp} {N : Nat} {M : TM} {r : Int32} (hfr : 2 ≤ fr) (hlo : 43 ≤ lo)  (hF : T_readAtLast N M = some r) : V l G cX6_readAtLast RX6 "readAtLast" 4 (Option.some Jvm.ClassFile.FieldType.int) fr lo h0 (ovT m0 M hb) (QM G (some (.int r)) h0 (ovT m0 M hb)) 0 [(0, .ref m0)] [] (ovT m0 M hb) := by
  unfold T_readAtLast at hF
  refine v_aload_n dX6_readAtLast_0 rfl 0 rfl ?_
  refine t_geta 2 2 dX6_readAtLast_1 fl_X6_24 (Nat.le_of_ble_eq_true rfl) (fun _ _ => rfl) ?_
  refine v_iconst dX6_readAtLast_4 (v := 0) (by decide) ?_
  refine t_iald 2 dX6_readAtLast_5 rfl (Nat.le_of_ble_eq_true rfl) (by decide) hF (fun v1 hF => ?_)
  refine v_istore_n dX6_readAtLast_6 rfl (Nat.le_of_ble_eq_true rfl) (L' := [(1, .int v1), (0, .ref m0)]) rfl ?_
  refine v_iconst dX6_readAtLast_7 (v := -1) (by decide) ?_
  refine v_istore_n dX6_readAtLast_8 rfl (Nat.le_of_ble_eq_true rfl) (L' := [(2, .int (-1 : Int32)), (1, .int v1), (0, .ref m0)]) rfl ?_
  refine v_sub [2, 1, 0] rfl (w_T_readAtLast_L9 hfr hlo ?_ N _ _ hF)
  intro v20 hF
  refine v_iload_n dX6_readAtLast_54 rfl 0 rfl ?_
  cases hF
  exact v_iret dX6_readAtLast_55 rfl rfl rfl rfl
theorem ct_T_readAtLast {l : Launch} {G : GT} {m0 : Nat} {hb : Hp} {N : Nat} {M : TM} {r : Int32}  (hF : T_readAtLast N M = some r) : Ct l G yX6_readAtLast (ws_ yX6_readAtLast cX6_readAtLast 4 (Option.some Jvm.ClassFile.FieldType.int)) 2 43 [.ref m0] (ovT m0 M hb) (some (.int r)) (ovT m0 M hb) :=
  ct_of (by decide) (Nat.le_of_ble_eq_true rfl) (w_T_readAtLast (Nat.le_refl _) (Nat.le_refl _) hF)
theorem vl_X6_382 : ∀ ci ∈ [6], VL RX6 382 ci yX6_everything 0 := by
  intro ci h
  simp only [List.mem_cons, List.not_mem_nil, or_false] at h
  subst h; exact ⟨RX6, TX6, 56, rfl, q146, ⟨by decide, by decide⟩, by decide +kernel, q2174, Or.inl ⟨q2172, qs111⟩⟩
theorem vl_X6_385 : ∀ ci ∈ [6], VL RX6 385 ci yX6_readAtLast 0 := by
  intro ci h
  simp only [List.mem_cons, List.not_mem_nil, or_false] at h
  subst h; exact ⟨RX6, TX6, 56, rfl, q146, ⟨by decide, by decide⟩, by decide +kernel, q2178, Or.inl ⟨q2176, qs112⟩⟩
def T_never (N : Nat) (M : TM) : Option Int32 :=
  (T_everything M).bind fun v1 =>
  (T_readAtLast N M).bind fun v2 =>
  some (v1 &&& (v2 ^^^ (-1 : Int32)))
theorem w_T_never {l : Launch} {G : GT} {fr lo : Nat} {h0 : Hp} {m0 : Nat} {hb : Hp} {N : Nat} {M : TM} {r : Int32} (hfr : 3 ≤ fr) (hlo : 66 ≤ lo)  (hF : T_never N M = some r) : V l G cX6_never RX6 "never" 1 (Option.some Jvm.ClassFile.FieldType.int) fr lo h0 (ovT m0 M hb) (QM G (some (.int r)) h0 (ovT m0 M hb)) 0 [(0, .ref m0)] [] (ovT m0 M hb) := by
  unfold T_never at hF
  refine v_aload_n dX6_never_0 rfl 0 rfl ?_
  obtain ⟨v1, e_v1, hF⟩ := Option.bind_eq_some_iff.mp hF
  refine v_calV1 dX6_never_1 vl_X6_382 q2175 rc_ov (ct_T_everything e_v1) rfl rfl (Nat.le_trans (Nat.le_of_ble_eq_true rfl) hfr) (Nat.le_trans (Nat.le_of_ble_eq_true rfl) hlo) (Nat.le_of_ble_eq_true rfl) ?_
  refine v_aload_n dX6_never_4 rfl 0 rfl ?_
  obtain ⟨v2, e_v2, hF⟩ := Option.bind_eq_some_iff.mp hF
  refine v_calV1 dX6_never_5 vl_X6_385 q2179 rc_ov (ct_T_readAtLast e_v2) rfl rfl (Nat.le_trans (Nat.le_of_ble_eq_true rfl) hfr) (Nat.le_trans (Nat.le_of_ble_eq_true rfl) hlo) (Nat.le_of_ble_eq_true rfl) ?_
  refine v_iconst dX6_never_8 (v := -1) (by decide) ?_
  refine v_ixor dX6_never_9 ?_
  refine v_iand dX6_never_10 ?_
  cases hF
  exact v_iret dX6_never_11 rfl rfl rfl rfl
theorem ct_T_never {l : Launch} {G : GT} {m0 : Nat} {hb : Hp} {N : Nat} {M : TM} {r : Int32}  (hF : T_never N M = some r) : Ct l G yX6_never (ws_ yX6_never cX6_never 1 (Option.some Jvm.ClassFile.FieldType.int)) 3 66 [.ref m0] (ovT m0 M hb) (some (.int r)) (ovT m0 M hb) :=
  ct_of (by decide) (Nat.le_of_ble_eq_true rfl) (w_T_never (Nat.le_refl _) (Nat.le_refl _) hF)
def T_lowestOpen_J40 (N : Nat) (M : TM) (c10 : Int32 → Int32 → Int32 → Int32 → Option Int32) (v12 : Int32) (v13 : Int32) (v14 : Int32) (v15 : Int32) : Option Int32 :=
  c10 v12 v13 v15 (v14 + (-1 : Int32))
theorem w_T_lowestOpen_J40 {l : Launch} {G : GT} {fr lo : Nat} {h0 : Hp} {m0 : Nat} {hb : Hp} {N : Nat} {M : TM} {r : Int32} (hfr : 2 ≤ fr) (hlo : 43 ≤ lo) {c10 : Int32 → Int32 → Int32 → Int32 → Option Int32} (hc10 : ∀ (v2 : Int32) (v3 : Int32) (v4 : Int32) (v5 : Int32), c10 v2 v3 v4 v5 = some r → V l G cX6_lowestOpen RX6 "lowestOpen" 5 (Option.some Jvm.ClassFile.FieldType.int) fr lo h0 (ovT m0 M hb) (QM G (some (.int r)) h0 (ovT m0 M hb)) 10 [(0, .ref m0), (1, .int v2), (2, .int v3), (3, .int v4), (4, .int v5)] [] (ovT m0 M hb)) {v12 : Int32} {v13 : Int32} {v14 : Int32} {v15 : Int32} (hF : T_lowestOpen_J40 N M c10 v12 v13 v14 v15 = some r) : V l G cX6_lowestOpen RX6 "lowestOpen" 5 (Option.some Jvm.ClassFile.FieldType.int) fr lo h0 (ovT m0 M hb) (QM G (some (.int r)) h0 (ovT m0 M hb)) 40 [(0, .ref m0), (1, .int v12), (2, .int v13), (4, .int v14)] [.int v15] (ovT m0 M hb) := by
  unfold T_lowestOpen_J40 at hF
  refine v_istore_n dX6_lowestOpen_40 rfl (Nat.le_of_ble_eq_true rfl) (L' := [(3, .int v15), (0, .ref m0), (1, .int v12), (2, .int v13), (4, .int v14)]) rfl ?_
  refine v_iinc dX6_lowestOpen_41 4 rfl (v := v14 + (-1 : Int32)) (by rfl) (Nat.le_of_ble_eq_true rfl) (L' := [(4, .int (v14 + (-1 : Int32))), (3, .int v15), (0, .ref m0), (1, .int v12), (2, .int v13)]) rfl ?_
  refine v_goto (tgt := 10) dX6_lowestOpen_44 (by decide) ?_
  exact v_sub [2, 3, 4, 1, 0] rfl (hc10 _ _ _ _ hF)
def T_lowestOpen_J39 (N : Nat) (M : TM) (c10 : Int32 → Int32 → Int32 → Int32 → Option Int32) (v8 : Int32) (v9 : Int32) (v10 : Int32) (v11 : Int32) : Option Int32 :=
  T_lowestOpen_J40 N M c10 v8 v9 v11 v10
theorem w_T_lowestOpen_J39 {l : Launch} {G : GT} {fr lo : Nat} {h0 : Hp} {m0 : Nat} {hb : Hp} {N : Nat} {M : TM} {r : Int32} (hfr : 2 ≤ fr) (hlo : 43 ≤ lo) {c10 : Int32 → Int32 → Int32 → Int32 → Option Int32} (hc10 : ∀ (v2 : Int32) (v3 : Int32) (v4 : Int32) (v5 : Int32), c10 v2 v3 v4 v5 = some r → V l G cX6_lowestOpen RX6 "lowestOpen" 5 (Option.some Jvm.ClassFile.FieldType.int) fr lo h0 (ovT m0 M hb) (QM G (some (.int r)) h0 (ovT m0 M hb)) 10 [(0, .ref m0), (1, .int v2), (2, .int v3), (3, .int v4), (4, .int v5)] [] (ovT m0 M hb)) {v8 : Int32} {v9 : Int32} {v10 : Int32} {v11 : Int32} (hF : T_lowestOpen_J39 N M c10 v8 v9 v10 v11 = some r) : V l G cX6_lowestOpen RX6 "lowestOpen" 5 (Option.some Jvm.ClassFile.FieldType.int) fr lo h0 (ovT m0 M hb) (QM G (some (.int r)) h0 (ovT m0 M hb)) 39 [(0, .ref m0), (1, .int v8), (2, .int v9), (3, .int v10), (4, .int v11)] [] (ovT m0 M hb) := by
  unfold T_lowestOpen_J39 at hF
  refine v_iload_n dX6_lowestOpen_39 rfl 3 rfl ?_
  exact v_sub [0, 1, 2, 4] rfl (w_T_lowestOpen_J40 hfr hlo hc10 hF)
def T_lowestOpen_L10 (N : Nat) (M : TM) (x10 : Int32 → Option Int32) : Nat → Int32 → Int32 → Int32 → Int32 → Option Int32
  | 0, _, _, _, _ => none
  | n17 + 1, v2, v3, v4, v5 =>
    if v5 < 0 then
      x10 v4
    else
      (T_isIn v3 v5).bind fun v7 =>
      if v7 = 0 then
        T_lowestOpen_J39 N M (T_lowestOpen_L10 N M x10 n17) v2 v3 v4 v5
      else
        (T_isOpen M v2 v5).bind fun v16 =>
        if v16 = 0 then
          T_lowestOpen_J39 N M (T_lowestOpen_L10 N M x10 n17) v2 v3 v4 v5
        else
          T_lowestOpen_J40 N M (T_lowestOpen_L10 N M x10 n17) v2 v3 v5 v5
theorem w_T_lowestOpen_L10 {l : Launch} {G : GT} {fr lo : Nat} {h0 : Hp} {m0 : Nat} {hb : Hp} {N : Nat} {M : TM} {r : Int32} (hfr : 2 ≤ fr) (hlo : 43 ≤ lo) {x10 : Int32 → Option Int32} (hx10 : ∀ (v6 : Int32), x10 v6 = some r → V l G cX6_lowestOpen RX6 "lowestOpen" 5 (Option.some Jvm.ClassFile.FieldType.int) fr lo h0 (ovT m0 M hb) (QM G (some (.int r)) h0 (ovT m0 M hb)) 47 [(3, .int v6)] [] (ovT m0 M hb)) : ∀ (n : Nat) (v2 : Int32) (v3 : Int32) (v4 : Int32) (v5 : Int32), T_lowestOpen_L10 N M x10 n v2 v3 v4 v5 = some r → V l G cX6_lowestOpen RX6 "lowestOpen" 5 (Option.some Jvm.ClassFile.FieldType.int) fr lo h0 (ovT m0 M hb) (QM G (some (.int r)) h0 (ovT m0 M hb)) 10 [(0, .ref m0), (1, .int v2), (2, .int v3), (3, .int v4), (4, .int v5)] [] (ovT m0 M hb) := by
  intro n
  induction n with
  | zero =>
    intro v2 v3 v4 v5 hF
    cases (show (none : Option Int32) = some r from hF)
  | succ n hc10 =>
    intro v2 v3 v4 v5 hF
    rw [T_lowestOpen_L10] at hF
    refine v_iload dX6_lowestOpen_10 4 rfl ?_
    refine v_if_lt (tgt := 47) dX6_lowestOpen_12 (by decide) hF (fun hF => ?_) (fun hF => ?_)
    · exact v_sub [3] rfl (hx10 _ hF)
    · refine v_iload_n dX6_lowestOpen_15 rfl 2 rfl ?_
      refine v_iload dX6_lowestOpen_16 4 rfl ?_
      obtain ⟨v7, e_v7, hF⟩ := Option.bind_eq_some_iff.mp hF
      refine v_calS1 dX6_lowestOpen_18 sl_X6_119 q1860 (ct_T_isIn e_v7) rfl rfl (Nat.le_trans (Nat.le_of_ble_eq_true rfl) hfr) (Nat.le_trans (Nat.le_of_ble_eq_true rfl) hlo) (Nat.le_of_ble_eq_true rfl) ?_
      refine v_if_eq (tgt := 39) dX6_lowestOpen_21 (by decide) hF (fun hF => ?_) (fun hF => ?_)
      · exact v_sub [0, 1, 2, 3, 4] rfl (w_T_lowestOpen_J39 hfr hlo hc10 hF)
      · refine v_aload_n dX6_lowestOpen_24 rfl 0 rfl ?_
        refine v_iload_n dX6_lowestOpen_25 rfl 1 rfl ?_
        refine v_iload dX6_lowestOpen_26 4 rfl ?_
        obtain ⟨v16, e_v16, hF⟩ := Option.bind_eq_some_iff.mp hF
        refine v_calV1 dX6_lowestOpen_28 vl_X6_137 q1864 rc_ov (ct_T_isOpen e_v16) rfl rfl (Nat.le_trans (Nat.le_of_ble_eq_true rfl) hfr) (Nat.le_trans (Nat.le_of_ble_eq_true rfl) hlo) (Nat.le_of_ble_eq_true rfl) ?_
        refine v_if_eq (tgt := 39) dX6_lowestOpen_31 (by decide) hF (fun hF => ?_) (fun hF => ?_)
        · exact v_sub [0, 1, 2, 3, 4] rfl (w_T_lowestOpen_J39 hfr hlo hc10 hF)
        · refine v_iload dX6_lowestOpen_34 4 rfl ?_
          refine v_goto (tgt := 40) dX6_lowestOpen_36 (by decide) ?_
          exact v_sub [0, 1, 2, 4] rfl (w_T_lowestOpen_J40 hfr hlo hc10 hF)
def T_lowestOpen (N : Nat) (M : TM) (a1 : Int32) (a2 : Int32) : Option Int32 :=
  (T_bookMany M).bind fun v1 =>
  T_lowestOpen_L10 N M (fun v18 =>
    some v18) N a1 a2 (-1 : Int32) (v1 - (1 : Int32))
theorem w_T_lowestOpen {l : Launch} {G : GT} {fr lo : Nat} {h0 : Hp} {m0 : Nat} {hb : Hp} {N : Nat} {M : TM} {r : Int32} (hfr : 2 ≤ fr) (hlo : 43 ≤ lo) {a1 : Int32} {a2 : Int32} (hF : T_lowestOpen N M a1 a2 = some r) : V l G cX6_lowestOpen RX6 "lowestOpen" 5 (Option.some Jvm.ClassFile.FieldType.int) fr lo h0 (ovT m0 M hb) (QM G (some (.int r)) h0 (ovT m0 M hb)) 0 [(0, .ref m0), (1, .int a1), (2, .int a2)] [] (ovT m0 M hb) := by
  unfold T_lowestOpen at hF
  refine v_iconst dX6_lowestOpen_0 (v := -1) (by decide) ?_
  refine v_istore_n dX6_lowestOpen_1 rfl (Nat.le_of_ble_eq_true rfl) (L' := [(3, .int (-1 : Int32)), (0, .ref m0), (1, .int a1), (2, .int a2)]) rfl ?_
  refine v_aload_n dX6_lowestOpen_2 rfl 1 rfl ?_
  obtain ⟨v1, e_v1, hF⟩ := Option.bind_eq_some_iff.mp hF
  refine v_calV1 dX6_lowestOpen_3 vl_X6_112 q1837 rc_ov (ct_T_bookMany e_v1) rfl rfl (Nat.le_trans (Nat.le_of_ble_eq_true rfl) hfr) (Nat.le_trans (Nat.le_of_ble_eq_true rfl) hlo) (Nat.le_of_ble_eq_true rfl) ?_
  refine v_iconst dX6_lowestOpen_6 (v := 1) (by decide) ?_
  refine v_isub dX6_lowestOpen_7 ?_
  refine v_istore dX6_lowestOpen_8 (Nat.le_of_ble_eq_true rfl) (L' := [(4, .int (v1 - (1 : Int32))), (3, .int (-1 : Int32)), (0, .ref m0), (1, .int a1), (2, .int a2)]) rfl ?_
  refine v_sub [2, 3, 4, 1, 0] rfl (w_T_lowestOpen_L10 hfr hlo ?_ N _ _ _ _ hF)
  intro v18 hF
  refine v_iload_n dX6_lowestOpen_47 rfl 0 rfl ?_
  cases hF
  exact v_iret dX6_lowestOpen_48 rfl rfl rfl rfl
theorem ct_T_lowestOpen {l : Launch} {G : GT} {m0 : Nat} {hb : Hp} {N : Nat} {M : TM} {r : Int32} {a1 : Int32} {a2 : Int32} (hF : T_lowestOpen N M a1 a2 = some r) : Ct l G yX6_lowestOpen (ws_ yX6_lowestOpen cX6_lowestOpen 5 (Option.some Jvm.ClassFile.FieldType.int)) 2 43 [.ref m0, .int a1, .int a2] (ovT m0 M hb) (some (.int r)) (ovT m0 M hb) :=
  ct_of (by decide) (Nat.le_of_ble_eq_true rfl) (w_T_lowestOpen (Nat.le_refl _) (Nat.le_refl _) hF)
theorem vl_X6_388 : ∀ ci ∈ [6], VL RX6 388 ci yX6_lowestOpen 2 := by
  intro ci h
  simp only [List.mem_cons, List.not_mem_nil, or_false] at h
  subst h; exact ⟨RX6, TX6, 56, rfl, q146, ⟨by decide, by decide⟩, by decide +kernel, q2198, Or.inl ⟨q2196, qs116⟩⟩
def T_inRow_L13 (N : Nat) (M : TM) (x13 : Int32 → Option Int32) : Nat → Int32 → Int32 → Int32 → Int32 → Int32 → Option Int32
  | 0, _, _, _, _, _ => none
  | n10 + 1, v2, v3, v4, v5, v6 =>
    if v3 < v6 then
      x13 v5
    else
      (T_lowestOpen N M v4 v2).bind fun v8 =>
      if v8 = (-1 : Int32) then
        some (-1 : Int32)
      else
        (some (v4 ||| ((1 : Int32) <<< (v8 &&& 31)))).bind fun (v9 : Int32) =>
        (T_inRow_L13 N M x13 n10) v2 v3 v9 v8 (v6 + (1 : Int32))
theorem w_T_inRow_L13 {l : Launch} {G : GT} {fr lo : Nat} {h0 : Hp} {m0 : Nat} {hb : Hp} {N : Nat} {M : TM} {r : Int32} (hfr : 3 ≤ fr) (hlo : 67 ≤ lo) {x13 : Int32 → Option Int32} (hx13 : ∀ (v7 : Int32), x13 v7 = some r → V l G cX6_inRow RX6 "inRow" 6 (Option.some Jvm.ClassFile.FieldType.int) fr lo h0 (ovT m0 M hb) (QM G (some (.int r)) h0 (ovT m0 M hb)) 48 [(4, .int v7)] [] (ovT m0 M hb)) : ∀ (n : Nat) (v2 : Int32) (v3 : Int32) (v4 : Int32) (v5 : Int32) (v6 : Int32), T_inRow_L13 N M x13 n v2 v3 v4 v5 v6 = some r → V l G cX6_inRow RX6 "inRow" 6 (Option.some Jvm.ClassFile.FieldType.int) fr lo h0 (ovT m0 M hb) (QM G (some (.int r)) h0 (ovT m0 M hb)) 13 [(0, .ref m0), (1, .int v2), (2, .int v3), (3, .int v4), (4, .int v5), (5, .int v6)] [] (ovT m0 M hb) := by
  intro n
  induction n with
  | zero =>
    intro v2 v3 v4 v5 v6 hF
    cases (show (none : Option Int32) = some r from hF)
  | succ n hc13 =>
    intro v2 v3 v4 v5 v6 hF
    rw [T_inRow_L13] at hF
    refine v_iload dX6_inRow_13 5 rfl ?_
    refine v_iload_n dX6_inRow_15 rfl 2 rfl ?_
    refine v_icmp_gt (tgt := 48) dX6_inRow_16 (by decide) hF (fun hF => ?_) (fun hF => ?_)
    · exact v_sub [4] rfl (hx13 _ hF)
    · refine v_aload_n dX6_inRow_19 rfl 0 rfl ?_
      refine v_iload_n dX6_inRow_20 rfl 3 rfl ?_
      refine v_iload_n dX6_inRow_21 rfl 1 rfl ?_
      obtain ⟨v8, e_v8, hF⟩ := Option.bind_eq_some_iff.mp hF
      refine v_calV1 dX6_inRow_22 vl_X6_388 q2199 rc_ov (ct_T_lowestOpen e_v8) rfl rfl (Nat.le_trans (Nat.le_of_ble_eq_true rfl) hfr) (Nat.le_trans (Nat.le_of_ble_eq_true rfl) hlo) (Nat.le_of_ble_eq_true rfl) ?_
      refine v_istore dX6_inRow_25 (Nat.le_of_ble_eq_true rfl) (L' := [(4, .int v8), (0, .ref m0), (1, .int v2), (2, .int v3), (3, .int v4), (5, .int v6)]) rfl ?_
      refine v_iload dX6_inRow_27 0 rfl ?_
      refine v_iconst dX6_inRow_29 (v := -1) (by decide) ?_
      refine v_icmp_ne (tgt := 35) dX6_inRow_30 (by decide) hF (fun hF => ?_) (fun hF => ?_)
      · refine v_iload_n dX6_inRow_35 rfl 4 rfl ?_
        refine v_iconst dX6_inRow_36 (v := 1) (by decide) ?_
        refine v_iload dX6_inRow_37 0 rfl ?_
        refine v_ishl dX6_inRow_39 ?_
        refine v_ior dX6_inRow_40 ?_
        refine v_leti hF (fun v9 hF => ?_)
        refine v_istore_n dX6_inRow_41 rfl (Nat.le_of_ble_eq_true rfl) (L' := [(3, .int v9), (4, .int v8), (0, .ref m0), (1, .int v2), (2, .int v3), (5, .int v6)]) rfl ?_
        refine v_iinc dX6_inRow_42 5 rfl (v := v6 + (1 : Int32)) (by rfl) (Nat.le_of_ble_eq_true rfl) (L' := [(5, .int (v6 + (1 : Int32))), (3, .int v9), (4, .int v8), (0, .ref m0), (1, .int v2), (2, .int v3)]) rfl ?_
        refine v_goto (tgt := 13) dX6_inRow_45 (by decide) ?_
        exact v_sub [3, 4, 5, 1, 2, 0] rfl (hc13 _ _ _ _ _ hF)
      · refine v_iconst dX6_inRow_33 (v := -1) (by decide) ?_
        cases hF
        exact v_iret dX6_inRow_34 rfl rfl rfl rfl
def T_inRow (N : Nat) (M : TM) (a1 : Int32) (a2 : Int32) : Option Int32 :=
  (tra M 2 5660 (0 : Int32)).bind fun v1 =>
  T_inRow_L13 N M (fun v11 =>
    some v11) N a1 a2 v1 (-1 : Int32) (0 : Int32)
theorem w_T_inRow {l : Launch} {G : GT} {fr lo : Nat} {h0 : Hp} {m0 : Nat} {hb : Hp} {N : Nat} {M : TM} {r : Int32} (hfr : 3 ≤ fr) (hlo : 67 ≤ lo) {a1 : Int32} {a2 : Int32} (hF : T_inRow N M a1 a2 = some r) : V l G cX6_inRow RX6 "inRow" 6 (Option.some Jvm.ClassFile.FieldType.int) fr lo h0 (ovT m0 M hb) (QM G (some (.int r)) h0 (ovT m0 M hb)) 0 [(0, .ref m0), (1, .int a1), (2, .int a2)] [] (ovT m0 M hb) := by
  unfold T_inRow at hF
  refine v_aload_n dX6_inRow_0 rfl 0 rfl ?_
  refine t_geta 2 2 dX6_inRow_1 fl_X6_24 (Nat.le_of_ble_eq_true rfl) (fun _ _ => rfl) ?_
  refine v_iconst dX6_inRow_4 (v := 0) (by decide) ?_
  refine t_iald 2 dX6_inRow_5 rfl (Nat.le_of_ble_eq_true rfl) (by decide) hF (fun v1 hF => ?_)
  refine v_istore_n dX6_inRow_6 rfl (Nat.le_of_ble_eq_true rfl) (L' := [(3, .int v1), (0, .ref m0), (1, .int a1), (2, .int a2)]) rfl ?_
  refine v_iconst dX6_inRow_7 (v := -1) (by decide) ?_
  refine v_istore dX6_inRow_8 (Nat.le_of_ble_eq_true rfl) (L' := [(4, .int (-1 : Int32)), (3, .int v1), (0, .ref m0), (1, .int a1), (2, .int a2)]) rfl ?_
  refine v_iconst dX6_inRow_10 (v := 0) (by decide) ?_
  refine v_istore dX6_inRow_11 (Nat.le_of_ble_eq_true rfl) (L' := [(5, .int (0 : Int32)), (4, .int (-1 : Int32)), (3, .int v1), (0, .ref m0), (1, .int a1), (2, .int a2)]) rfl ?_
  refine v_sub [3, 4, 5, 2, 1, 0] rfl (w_T_inRow_L13 hfr hlo ?_ N _ _ _ _ _ hF)
  intro v11 hF
  refine v_iload dX6_inRow_48 0 rfl ?_
  cases hF
  exact v_iret dX6_inRow_50 rfl rfl rfl rfl
theorem ct_T_inRow {l : Launch} {G : GT} {m0 : Nat} {hb : Hp} {N : Nat} {M : TM} {r : Int32} {a1 : Int32} {a2 : Int32} (hF : T_inRow N M a1 a2 = some r) : Ct l G yX6_inRow (ws_ yX6_inRow cX6_inRow 6 (Option.some Jvm.ClassFile.FieldType.int)) 3 67 [.ref m0, .int a1, .int a2] (ovT m0 M hb) (some (.int r)) (ovT m0 M hb) :=
  ct_of (by decide) (Nat.le_of_ble_eq_true rfl) (w_T_inRow (Nat.le_refl _) (Nat.le_refl _) hF)
theorem fl_X6_71 : FL RX6 71 [6] 33 := by
  intro ci h
  simp only [List.mem_cons, List.not_mem_nil, or_false] at h
  subst h; exact ⟨RX6, _, TX6, 56, rfl, in_X6, by decide, Or.inl q1667, Or.inl rfl⟩
def T_rowsLeft_J113 (N : Nat) (c7 : Int32 → Int32 → TM → Option (Int32 × TM)) (v13 : Int32) (v14 : Int32) (M15 : TM) : Option (Int32 × TM) :=
  c7 v13 (v14 + (-1 : Int32)) M15
theorem w_T_rowsLeft_J113 {l : Launch} {G : GT} {fr lo : Nat} {h0 : Hp} {m0 : Nat} {hb : Hp} {N : Nat} {r : (Int32 × TM)} (hfr : 3 ≤ fr) (hlo : 66 ≤ lo) {c7 : Int32 → Int32 → TM → Option (Int32 × TM)} (hc7 : ∀ (v2 : Int32) (v3 : Int32) (M4 : TM), c7 v2 v3 M4 = some r → V l G cX6_rowsLeft RX6 "rowsLeft" 4 (Option.some Jvm.ClassFile.FieldType.int) fr lo h0 (ovT m0 r.2 hb) (QM G (some (.int r.1)) h0 (ovT m0 r.2 hb)) 7 [(0, .ref m0), (1, .int v2), (2, .int v3)] [] (ovT m0 M4 hb)) {v13 : Int32} {v14 : Int32} {M15 : TM} (hF : T_rowsLeft_J113 N c7 v13 v14 M15 = some r) : V l G cX6_rowsLeft RX6 "rowsLeft" 4 (Option.some Jvm.ClassFile.FieldType.int) fr lo h0 (ovT m0 r.2 hb) (QM G (some (.int r.1)) h0 (ovT m0 r.2 hb)) 113 [(0, .ref m0), (1, .int v13), (2, .int v14)] [] (ovT m0 M15 hb) := by
  unfold T_rowsLeft_J113 at hF
  refine v_iinc dX6_rowsLeft_113 2 rfl (v := v14 + (-1 : Int32)) (by rfl) (Nat.le_of_ble_eq_true rfl) (L' := [(2, .int (v14 + (-1 : Int32))), (0, .ref m0), (1, .int v13)]) rfl ?_
  refine v_goto (tgt := 7) dX6_rowsLeft_116 (by decide) ?_
  exact v_sub [1, 2, 0] rfl (hc7 _ _ _ hF)
def T_rowsLeft_J105 (N : Nat) (c59 : Int32 → Int32 → Int32 → TM → Option (Int32 × TM)) (v33 : Int32) (v34 : Int32) (v35 : Int32) (v36 : Int32) (v37 : Int32) (v38 : Int32) (M39 : TM) : Option (Int32 × TM) :=
  (twa M39 33 256 v38 (v37 + v36)).bind fun M40 =>
  c59 v33 v34 (v35 + (1 : Int32)) M40
theorem w_T_rowsLeft_J105 {l : Launch} {G : GT} {fr lo : Nat} {h0 : Hp} {m0 : Nat} {hb : Hp} {N : Nat} {r : (Int32 × TM)} (hfr : 3 ≤ fr) (hlo : 66 ≤ lo) {c59 : Int32 → Int32 → Int32 → TM → Option (Int32 × TM)} (hc59 : ∀ (v17 : Int32) (v18 : Int32) (v19 : Int32) (M20 : TM), c59 v17 v18 v19 M20 = some r → V l G cX6_rowsLeft RX6 "rowsLeft" 4 (Option.some Jvm.ClassFile.FieldType.int) fr lo h0 (ovT m0 r.2 hb) (QM G (some (.int r.1)) h0 (ovT m0 r.2 hb)) 59 [(0, .ref m0), (1, .int v17), (2, .int v18), (3, .int v19)] [] (ovT m0 M20 hb)) {v33 : Int32} {v34 : Int32} {v35 : Int32} {v36 : Int32} {v37 : Int32} {v38 : Int32} {M39 : TM} (hF : T_rowsLeft_J105 N c59 v33 v34 v35 v36 v37 v38 M39 = some r) : V l G cX6_rowsLeft RX6 "rowsLeft" 4 (Option.some Jvm.ClassFile.FieldType.int) fr lo h0 (ovT m0 r.2 hb) (QM G (some (.int r.1)) h0 (ovT m0 r.2 hb)) 105 [(0, .ref m0), (1, .int v33), (2, .int v34), (3, .int v35)] [.int v36, .int v37, .int v38, .ref (m0 + 16)] (ovT m0 M39 hb) := by
  unfold T_rowsLeft_J105 at hF
  refine v_iadd dX6_rowsLeft_105 ?_
  refine t_iast 16 dX6_rowsLeft_106 rfl (Nat.le_of_ble_eq_true rfl) (by decide) hF (fun M40 hF => ?_)
  refine v_iinc dX6_rowsLeft_107 3 rfl (v := v35 + (1 : Int32)) (by rfl) (Nat.le_of_ble_eq_true rfl) (L' := [(3, .int (v35 + (1 : Int32))), (0, .ref m0), (1, .int v33), (2, .int v34)]) rfl ?_
  refine v_goto (tgt := 59) dX6_rowsLeft_110 (by decide) ?_
  exact v_sub [1, 2, 3, 0] rfl (hc59 _ _ _ _ hF)
def T_rowsLeft_J104 (N : Nat) (c59 : Int32 → Int32 → Int32 → TM → Option (Int32 × TM)) (v27 : Int32) (v28 : Int32) (v29 : Int32) (v30 : Int32) (v31 : Int32) (M32 : TM) : Option (Int32 × TM) :=
  T_rowsLeft_J105 N c59 v27 v28 v29 (0 : Int32) v30 v31 M32
theorem w_T_rowsLeft_J104 {l : Launch} {G : GT} {fr lo : Nat} {h0 : Hp} {m0 : Nat} {hb : Hp} {N : Nat} {r : (Int32 × TM)} (hfr : 3 ≤ fr) (hlo : 66 ≤ lo) {c59 : Int32 → Int32 → Int32 → TM → Option (Int32 × TM)} (hc59 : ∀ (v17 : Int32) (v18 : Int32) (v19 : Int32) (M20 : TM), c59 v17 v18 v19 M20 = some r → V l G cX6_rowsLeft RX6 "rowsLeft" 4 (Option.some Jvm.ClassFile.FieldType.int) fr lo h0 (ovT m0 r.2 hb) (QM G (some (.int r.1)) h0 (ovT m0 r.2 hb)) 59 [(0, .ref m0), (1, .int v17), (2, .int v18), (3, .int v19)] [] (ovT m0 M20 hb)) {v27 : Int32} {v28 : Int32} {v29 : Int32} {v30 : Int32} {v31 : Int32} {M32 : TM} (hF : T_rowsLeft_J104 N c59 v27 v28 v29 v30 v31 M32 = some r) : V l G cX6_rowsLeft RX6 "rowsLeft" 4 (Option.some Jvm.ClassFile.FieldType.int) fr lo h0 (ovT m0 r.2 hb) (QM G (some (.int r.1)) h0 (ovT m0 r.2 hb)) 104 [(0, .ref m0), (1, .int v27), (2, .int v28), (3, .int v29)] [.int v30, .int v31, .ref (m0 + 16)] (ovT m0 M32 hb) := by
  unfold T_rowsLeft_J104 at hF
  refine v_iconst dX6_rowsLeft_104 (v := 0) (by decide) ?_
  exact v_sub [0, 1, 2, 3] rfl (w_T_rowsLeft_J105 hfr hlo hc59 hF)
def T_rowsLeft_L59 (N : Nat) (x59 : Int32 → Int32 → TM → Option (Int32 × TM)) : Nat → Int32 → Int32 → Int32 → TM → Option (Int32 × TM)
  | 0, _, _, _, _ => none
  | n43 + 1, v17, v18, v19, M20 =>
    (T_bookMany M20).bind fun v24 =>
    if v24 ≤ v19 then
      x59 v17 v18 M20
    else
      (tra M20 33 256 v18).bind fun v25 =>
      (T_isOpen M20 v18 v19).bind fun v26 =>
      if v26 = 0 then
        T_rowsLeft_J104 N (T_rowsLeft_L59 N x59 n43) v17 v18 v19 v25 v18 M20
      else
        (T_isIn v17 v19).bind fun v41 =>
        if v41 = 0 then
          T_rowsLeft_J104 N (T_rowsLeft_L59 N x59 n43) v17 v18 v19 v25 v18 M20
        else
          (tra M20 33 256 (v18 ||| ((1 : Int32) <<< (v19 &&& 31)))).bind fun v42 =>
          T_rowsLeft_J105 N (T_rowsLeft_L59 N x59 n43) v17 v18 v19 v42 v25 v18 M20
theorem w_T_rowsLeft_L59 {l : Launch} {G : GT} {fr lo : Nat} {h0 : Hp} {m0 : Nat} {hb : Hp} {N : Nat} {r : (Int32 × TM)} (hfr : 3 ≤ fr) (hlo : 66 ≤ lo) {x59 : Int32 → Int32 → TM → Option (Int32 × TM)} (hx59 : ∀ (v21 : Int32) (v22 : Int32) (M23 : TM), x59 v21 v22 M23 = some r → V l G cX6_rowsLeft RX6 "rowsLeft" 4 (Option.some Jvm.ClassFile.FieldType.int) fr lo h0 (ovT m0 r.2 hb) (QM G (some (.int r.1)) h0 (ovT m0 r.2 hb)) 113 [(0, .ref m0), (1, .int v21), (2, .int v22)] [] (ovT m0 M23 hb)) : ∀ (n : Nat) (v17 : Int32) (v18 : Int32) (v19 : Int32) (M20 : TM), T_rowsLeft_L59 N x59 n v17 v18 v19 M20 = some r → V l G cX6_rowsLeft RX6 "rowsLeft" 4 (Option.some Jvm.ClassFile.FieldType.int) fr lo h0 (ovT m0 r.2 hb) (QM G (some (.int r.1)) h0 (ovT m0 r.2 hb)) 59 [(0, .ref m0), (1, .int v17), (2, .int v18), (3, .int v19)] [] (ovT m0 M20 hb) := by
  intro n
  induction n with
  | zero =>
    intro v17 v18 v19 M20 hF
    cases (show (none : Option (Int32 × TM)) = some r from hF)
  | succ n hc59 =>
    intro v17 v18 v19 M20 hF
    rw [T_rowsLeft_L59] at hF
    refine v_iload_n dX6_rowsLeft_59 rfl 3 rfl ?_
    refine v_aload_n dX6_rowsLeft_60 rfl 0 rfl ?_
    obtain ⟨v24, e_v24, hF⟩ := Option.bind_eq_some_iff.mp hF
    refine v_calV1 dX6_rowsLeft_61 vl_X6_112 q1837 rc_ov (ct_T_bookMany e_v24) rfl rfl (Nat.le_trans (Nat.le_of_ble_eq_true rfl) hfr) (Nat.le_trans (Nat.le_of_ble_eq_true rfl) hlo) (Nat.le_of_ble_eq_true rfl) ?_
    refine v_icmp_ge (tgt := 113) dX6_rowsLeft_64 (by decide) hF (fun hF => ?_) (fun hF => ?_)
    · exact v_sub [0, 1, 2] rfl (hx59 _ _ _ hF)
    · refine v_aload_n dX6_rowsLeft_67 rfl 0 rfl ?_
      refine t_geta 33 16 dX6_rowsLeft_68 fl_X6_71 (Nat.le_of_ble_eq_true rfl) (fun _ _ => rfl) ?_
      refine v_iload_n dX6_rowsLeft_71 rfl 2 rfl ?_
      refine v_dup2 dX6_rowsLeft_72 rfl rfl ?_
      refine t_iald 16 dX6_rowsLeft_73 rfl (Nat.le_of_ble_eq_true rfl) (by decide) hF (fun v25 hF => ?_)
      refine v_aload_n dX6_rowsLeft_74 rfl 0 rfl ?_
      refine v_iload_n dX6_rowsLeft_75 rfl 2 rfl ?_
      refine v_iload_n dX6_rowsLeft_76 rfl 3 rfl ?_
      obtain ⟨v26, e_v26, hF⟩ := Option.bind_eq_some_iff.mp hF
      refine v_calV1 dX6_rowsLeft_77 vl_X6_137 q1864 rc_ov (ct_T_isOpen e_v26) rfl rfl (Nat.le_trans (Nat.le_of_ble_eq_true rfl) hfr) (Nat.le_trans (Nat.le_of_ble_eq_true rfl) hlo) (Nat.le_of_ble_eq_true rfl) ?_
      refine v_if_eq (tgt := 104) dX6_rowsLeft_80 (by decide) hF (fun hF => ?_) (fun hF => ?_)
      · exact v_sub [0, 1, 2, 3] rfl (w_T_rowsLeft_J104 hfr hlo hc59 hF)
      · refine v_iload_n dX6_rowsLeft_83 rfl 1 rfl ?_
        refine v_iload_n dX6_rowsLeft_84 rfl 3 rfl ?_
        obtain ⟨v41, e_v41, hF⟩ := Option.bind_eq_some_iff.mp hF
        refine v_calS1 dX6_rowsLeft_85 sl_X6_119 q1860 (ct_T_isIn e_v41) rfl rfl (Nat.le_trans (Nat.le_of_ble_eq_true rfl) hfr) (Nat.le_trans (Nat.le_of_ble_eq_true rfl) hlo) (Nat.le_of_ble_eq_true rfl) ?_
        refine v_if_eq (tgt := 104) dX6_rowsLeft_88 (by decide) hF (fun hF => ?_) (fun hF => ?_)
        · exact v_sub [0, 1, 2, 3] rfl (w_T_rowsLeft_J104 hfr hlo hc59 hF)
        · refine v_aload_n dX6_rowsLeft_91 rfl 0 rfl ?_
          refine t_geta 33 16 dX6_rowsLeft_92 fl_X6_71 (Nat.le_of_ble_eq_true rfl) (fun _ _ => rfl) ?_
          refine v_iload_n dX6_rowsLeft_95 rfl 2 rfl ?_
          refine v_iconst dX6_rowsLeft_96 (v := 1) (by decide) ?_
          refine v_iload_n dX6_rowsLeft_97 rfl 3 rfl ?_
          refine v_ishl dX6_rowsLeft_98 ?_
          refine v_ior dX6_rowsLeft_99 ?_
          refine t_iald 16 dX6_rowsLeft_100 rfl (Nat.le_of_ble_eq_true rfl) (by decide) hF (fun v42 hF => ?_)
          refine v_goto (tgt := 105) dX6_rowsLeft_101 (by decide) ?_
          exact v_sub [0, 1, 2, 3] rfl (w_T_rowsLeft_J105 hfr hlo hc59 hF)
def T_rowsLeft_J32 (N : Nat) (c7 : Int32 → Int32 → TM → Option (Int32 × TM)) (v7 : Int32) (v8 : Int32) (v9 : Int32) (v10 : Int32) (M11 : TM) : Option (Int32 × TM) :=
  (twa M11 33 256 v10 v9).bind fun M12 =>
  if (v8 &&& (v7 ^^^ (-1 : Int32))) = 0 then
    (tra M12 2 5660 (0 : Int32)).bind fun v16 =>
    if (v16 &&& (v8 ^^^ (-1 : Int32))) = 0 then
      T_rowsLeft_L59 N (fun v44 v45 M46 =>
        T_rowsLeft_J113 N c7 v44 v45 M46) N v7 v8 (0 : Int32) M12
    else
      T_rowsLeft_J113 N c7 v7 v8 M12
  else
    T_rowsLeft_J113 N c7 v7 v8 M12
theorem w_T_rowsLeft_J32 {l : Launch} {G : GT} {fr lo : Nat} {h0 : Hp} {m0 : Nat} {hb : Hp} {N : Nat} {r : (Int32 × TM)} (hfr : 3 ≤ fr) (hlo : 66 ≤ lo) {c7 : Int32 → Int32 → TM → Option (Int32 × TM)} (hc7 : ∀ (v2 : Int32) (v3 : Int32) (M4 : TM), c7 v2 v3 M4 = some r → V l G cX6_rowsLeft RX6 "rowsLeft" 4 (Option.some Jvm.ClassFile.FieldType.int) fr lo h0 (ovT m0 r.2 hb) (QM G (some (.int r.1)) h0 (ovT m0 r.2 hb)) 7 [(0, .ref m0), (1, .int v2), (2, .int v3)] [] (ovT m0 M4 hb)) {v7 : Int32} {v8 : Int32} {v9 : Int32} {v10 : Int32} {M11 : TM} (hF : T_rowsLeft_J32 N c7 v7 v8 v9 v10 M11 = some r) : V l G cX6_rowsLeft RX6 "rowsLeft" 4 (Option.some Jvm.ClassFile.FieldType.int) fr lo h0 (ovT m0 r.2 hb) (QM G (some (.int r.1)) h0 (ovT m0 r.2 hb)) 32 [(0, .ref m0), (1, .int v7), (2, .int v8)] [.int v9, .int v10, .ref (m0 + 16)] (ovT m0 M11 hb) := by
  unfold T_rowsLeft_J32 at hF
  refine t_iast 16 dX6_rowsLeft_32 rfl (Nat.le_of_ble_eq_true rfl) (by decide) hF (fun M12 hF => ?_)
  refine v_iload_n dX6_rowsLeft_33 rfl 2 rfl ?_
  refine v_iload_n dX6_rowsLeft_34 rfl 1 rfl ?_
  refine v_iconst dX6_rowsLeft_35 (v := -1) (by decide) ?_
  refine v_ixor dX6_rowsLeft_36 ?_
  refine v_iand dX6_rowsLeft_37 ?_
  refine v_if_ne (tgt := 113) dX6_rowsLeft_38 (by decide) hF (fun hF => ?_) (fun hF => ?_)
  · exact v_sub [0, 1, 2] rfl (w_T_rowsLeft_J113 hfr hlo hc7 hF)
  · refine v_aload_n dX6_rowsLeft_41 rfl 0 rfl ?_
    refine t_geta 2 2 dX6_rowsLeft_42 fl_X6_24 (Nat.le_of_ble_eq_true rfl) (fun _ _ => rfl) ?_
    refine v_iconst dX6_rowsLeft_45 (v := 0) (by decide) ?_
    refine t_iald 2 dX6_rowsLeft_46 rfl (Nat.le_of_ble_eq_true rfl) (by decide) hF (fun v16 hF => ?_)
    refine v_iload_n dX6_rowsLeft_47 rfl 2 rfl ?_
    refine v_iconst dX6_rowsLeft_48 (v := -1) (by decide) ?_
    refine v_ixor dX6_rowsLeft_49 ?_
    refine v_iand dX6_rowsLeft_50 ?_
    refine v_if_eq (tgt := 57) dX6_rowsLeft_51 (by decide) hF (fun hF => ?_) (fun hF => ?_)
    · refine v_iconst dX6_rowsLeft_57 (v := 0) (by decide) ?_
      refine v_istore_n dX6_rowsLeft_58 rfl (Nat.le_of_ble_eq_true rfl) (L' := [(3, .int (0 : Int32)), (0, .ref m0), (1, .int v7), (2, .int v8)]) rfl ?_
      refine v_sub [1, 2, 3, 0] rfl (w_T_rowsLeft_L59 hfr hlo ?_ N _ _ _ _ hF)
      intro v44 v45 M46 hF
      exact v_sub [0, 1, 2] rfl (w_T_rowsLeft_J113 hfr hlo hc7 hF)
    · refine v_goto (tgt := 113) dX6_rowsLeft_54 (by decide) ?_
      exact v_sub [0, 1, 2] rfl (w_T_rowsLeft_J113 hfr hlo hc7 hF)
def T_rowsLeft_L7 (N : Nat) (x7 : TM → Option (Int32 × TM)) : Nat → Int32 → Int32 → TM → Option (Int32 × TM)
  | 0, _, _, _ => none
  | n47 + 1, v2, v3, M4 =>
    (tra M4 2 5660 (0 : Int32)).bind fun v6 =>
    if v3 < v6 then
      x7 M4
    else
      T_rowsLeft_J32 N (T_rowsLeft_L7 N x7 n47) v2 v3 (if v3 = v2 then (1 : Int32) else (0 : Int32)) v3 M4
theorem w_T_rowsLeft_L7 {l : Launch} {G : GT} {fr lo : Nat} {h0 : Hp} {m0 : Nat} {hb : Hp} {N : Nat} {r : (Int32 × TM)} (hfr : 3 ≤ fr) (hlo : 66 ≤ lo) {x7 : TM → Option (Int32 × TM)} (hx7 : ∀ (M5 : TM), x7 M5 = some r → V l G cX6_rowsLeft RX6 "rowsLeft" 4 (Option.some Jvm.ClassFile.FieldType.int) fr lo h0 (ovT m0 r.2 hb) (QM G (some (.int r.1)) h0 (ovT m0 r.2 hb)) 119 [(0, .ref m0)] [] (ovT m0 M5 hb)) : ∀ (n : Nat) (v2 : Int32) (v3 : Int32) (M4 : TM), T_rowsLeft_L7 N x7 n v2 v3 M4 = some r → V l G cX6_rowsLeft RX6 "rowsLeft" 4 (Option.some Jvm.ClassFile.FieldType.int) fr lo h0 (ovT m0 r.2 hb) (QM G (some (.int r.1)) h0 (ovT m0 r.2 hb)) 7 [(0, .ref m0), (1, .int v2), (2, .int v3)] [] (ovT m0 M4 hb) := by
  intro n
  induction n with
  | zero =>
    intro v2 v3 M4 hF
    cases (show (none : Option (Int32 × TM)) = some r from hF)
  | succ n hc7 =>
    intro v2 v3 M4 hF
    rw [T_rowsLeft_L7] at hF
    refine v_iload_n dX6_rowsLeft_7 rfl 2 rfl ?_
    refine v_aload_n dX6_rowsLeft_8 rfl 0 rfl ?_
    refine t_geta 2 2 dX6_rowsLeft_9 fl_X6_24 (Nat.le_of_ble_eq_true rfl) (fun _ _ => rfl) ?_
    refine v_iconst dX6_rowsLeft_12 (v := 0) (by decide) ?_
    refine t_iald 2 dX6_rowsLeft_13 rfl (Nat.le_of_ble_eq_true rfl) (by decide) hF (fun v6 hF => ?_)
    refine v_icmp_lt (tgt := 119) dX6_rowsLeft_14 (by decide) hF (fun hF => ?_) (fun hF => ?_)
    · exact v_sub [0] rfl (hx7 _ hF)
    · refine v_aload_n dX6_rowsLeft_17 rfl 0 rfl ?_
      refine t_geta 33 16 dX6_rowsLeft_18 fl_X6_71 (Nat.le_of_ble_eq_true rfl) (fun _ _ => rfl) ?_
      refine v_iload_n dX6_rowsLeft_21 rfl 2 rfl ?_
      refine v_iload_n dX6_rowsLeft_22 rfl 2 rfl ?_
      refine v_iload_n dX6_rowsLeft_23 rfl 1 rfl ?_
      refine v_tern (c := v3 = v2) (x := (1 : Int32)) (y := (0 : Int32)) (pcj := 32) (st := [.int v3, .ref (m0 + 16)]) ?_ (fun kt kf => v_icmp_ne0 (tgt := 31) dX6_rowsLeft_24 (by decide) kt kf) (fun K => ?_) (fun K => ?_)
      · exact v_sub [0, 1, 2] rfl (w_T_rowsLeft_J32 hfr hlo hc7 hF)
      · refine v_iconst dX6_rowsLeft_27 (v := 1) (by decide) ?_
        refine v_goto (tgt := 32) dX6_rowsLeft_28 (by decide) ?_
        exact K
      · refine v_iconst dX6_rowsLeft_31 (v := 0) (by decide) ?_
        exact K
def T_rowsLeft (N : Nat) (M : TM) : Option (Int32 × TM) :=
  (T_readAtLast N M).bind fun v1 =>
  T_rowsLeft_L7 N (fun M48 =>
    (tra M48 2 5660 (0 : Int32)).bind fun v49 =>
    (tra M48 33 256 v49).bind fun v50 =>
    some (v50, M48)) N v1 v1 M
theorem w_T_rowsLeft {l : Launch} {G : GT} {fr lo : Nat} {h0 : Hp} {m0 : Nat} {hb : Hp} {N : Nat} {r : (Int32 × TM)} (hfr : 3 ≤ fr) (hlo : 66 ≤ lo) {M : TM} (hF : T_rowsLeft N M = some r) : V l G cX6_rowsLeft RX6 "rowsLeft" 4 (Option.some Jvm.ClassFile.FieldType.int) fr lo h0 (ovT m0 r.2 hb) (QM G (some (.int r.1)) h0 (ovT m0 r.2 hb)) 0 [(0, .ref m0)] [] (ovT m0 M hb) := by
  unfold T_rowsLeft at hF
  refine v_aload_n dX6_rowsLeft_0 rfl 0 rfl ?_
  obtain ⟨v1, e_v1, hF⟩ := Option.bind_eq_some_iff.mp hF
  refine v_calV1 dX6_rowsLeft_1 vl_X6_385 q2179 rc_ov (ct_T_readAtLast e_v1) rfl rfl (Nat.le_trans (Nat.le_of_ble_eq_true rfl) hfr) (Nat.le_trans (Nat.le_of_ble_eq_true rfl) hlo) (Nat.le_of_ble_eq_true rfl) ?_
  refine v_istore_n dX6_rowsLeft_4 rfl (Nat.le_of_ble_eq_true rfl) (L' := [(1, .int v1), (0, .ref m0)]) rfl ?_
  refine v_iload_n dX6_rowsLeft_5 rfl 0 rfl ?_
  refine v_istore_n dX6_rowsLeft_6 rfl (Nat.le_of_ble_eq_true rfl) (L' := [(2, .int v1), (1, .int v1), (0, .ref m0)]) rfl ?_
  refine v_sub [2, 1, 0] rfl (w_T_rowsLeft_L7 hfr hlo ?_ N _ _ _ hF)
  intro M48 hF
  refine v_aload_n dX6_rowsLeft_119 rfl 0 rfl ?_
  refine t_geta 33 16 dX6_rowsLeft_120 fl_X6_71 (Nat.le_of_ble_eq_true rfl) (fun _ _ => rfl) ?_
  refine v_aload_n dX6_rowsLeft_123 rfl 0 rfl ?_
  refine t_geta 2 2 dX6_rowsLeft_124 fl_X6_24 (Nat.le_of_ble_eq_true rfl) (fun _ _ => rfl) ?_
  refine v_iconst dX6_rowsLeft_127 (v := 0) (by decide) ?_
  refine t_iald 2 dX6_rowsLeft_128 rfl (Nat.le_of_ble_eq_true rfl) (by decide) hF (fun v49 hF => ?_)
  refine t_iald 16 dX6_rowsLeft_129 rfl (Nat.le_of_ble_eq_true rfl) (by decide) hF (fun v50 hF => ?_)
  cases hF
  exact v_iret dX6_rowsLeft_130 rfl rfl rfl rfl
theorem ct_T_rowsLeft {l : Launch} {G : GT} {m0 : Nat} {hb : Hp} {N : Nat} {r : (Int32 × TM)} {M : TM} (hF : T_rowsLeft N M = some r) : Ct l G yX6_rowsLeft (ws_ yX6_rowsLeft cX6_rowsLeft 4 (Option.some Jvm.ClassFile.FieldType.int)) 3 66 [.ref m0] (ovT m0 M hb) (some (.int r.1)) (ovT m0 r.2 hb) :=
  ct_of (by decide) (Nat.le_of_ble_eq_true rfl) (w_T_rowsLeft (Nat.le_refl _) (Nat.le_refl _) hF)
def T_toCome (N : Nat) (M : TM) : Option Int32 :=
  (T_readAtLast N M).bind fun v1 =>
  (tra M 2 5660 (0 : Int32)).bind fun v2 =>
  some (v1 &&& (v2 ^^^ (-1 : Int32)))
theorem w_T_toCome {l : Launch} {G : GT} {fr lo : Nat} {h0 : Hp} {m0 : Nat} {hb : Hp} {N : Nat} {M : TM} {r : Int32} (hfr : 3 ≤ fr) (hlo : 66 ≤ lo)  (hF : T_toCome N M = some r) : V l G cX6_toCome RX6 "toCome" 1 (Option.some Jvm.ClassFile.FieldType.int) fr lo h0 (ovT m0 M hb) (QM G (some (.int r)) h0 (ovT m0 M hb)) 0 [(0, .ref m0)] [] (ovT m0 M hb) := by
  unfold T_toCome at hF
  refine v_aload_n dX6_toCome_0 rfl 0 rfl ?_
  obtain ⟨v1, e_v1, hF⟩ := Option.bind_eq_some_iff.mp hF
  refine v_calV1 dX6_toCome_1 vl_X6_385 q2179 rc_ov (ct_T_readAtLast e_v1) rfl rfl (Nat.le_trans (Nat.le_of_ble_eq_true rfl) hfr) (Nat.le_trans (Nat.le_of_ble_eq_true rfl) hlo) (Nat.le_of_ble_eq_true rfl) ?_
  refine v_aload_n dX6_toCome_4 rfl 0 rfl ?_
  refine t_geta 2 2 dX6_toCome_5 fl_X6_24 (Nat.le_of_ble_eq_true rfl) (fun _ _ => rfl) ?_
  refine v_iconst dX6_toCome_8 (v := 0) (by decide) ?_
  refine t_iald 2 dX6_toCome_9 rfl (Nat.le_of_ble_eq_true rfl) (by decide) hF (fun v2 hF => ?_)
  refine v_iconst dX6_toCome_10 (v := -1) (by decide) ?_
  refine v_ixor dX6_toCome_11 ?_
  refine v_iand dX6_toCome_12 ?_
  cases hF
  exact v_iret dX6_toCome_13 rfl rfl rfl rfl
theorem ct_T_toCome {l : Launch} {G : GT} {m0 : Nat} {hb : Hp} {N : Nat} {M : TM} {r : Int32}  (hF : T_toCome N M = some r) : Ct l G yX6_toCome (ws_ yX6_toCome cX6_toCome 1 (Option.some Jvm.ClassFile.FieldType.int)) 3 66 [.ref m0] (ovT m0 M hb) (some (.int r)) (ovT m0 M hb) :=
  ct_of (by decide) (Nat.le_of_ble_eq_true rfl) (w_T_toCome (Nat.le_refl _) (Nat.le_refl _) hF)
theorem vl_X6_394 : ∀ ci ∈ [6], VL RX6 394 ci yX6_toCome 0 := by
  intro ci h
  simp only [List.mem_cons, List.not_mem_nil, or_false] at h
  subst h; exact ⟨RX6, TX6, 56, rfl, q146, ⟨by decide, by decide⟩, by decide +kernel, q2190, Or.inl ⟨q2188, qs114⟩⟩
theorem vl_X6_397 : ∀ ci ∈ [6], VL RX6 397 ci yX6_inRow 2 := by
  intro ci h
  simp only [List.mem_cons, List.not_mem_nil, or_false] at h
  subst h; exact ⟨RX6, TX6, 56, rfl, q146, ⟨by decide, by decide⟩, by decide +kernel, q2194, Or.inl ⟨q2192, qs115⟩⟩
theorem vl_X6_391 : ∀ ci ∈ [6], VL RX6 391 ci yX6_rowsLeft 0 := by
  intro ci h
  simp only [List.mem_cons, List.not_mem_nil, or_false] at h
  subst h; exact ⟨RX6, TX6, 56, rfl, q146, ⟨by decide, by decide⟩, by decide +kernel, q2186, Or.inl ⟨q2184, qs113⟩⟩
def T_rows (N : Nat) (a1 : Int32) (M : TM) : Option (Int32 × TM) :=
  if (-1 : Int32) ≤ a1 then
    if a1 = (-1 : Int32) then
      bd2 (T_rowsLeft N M) fun v4 M3 =>
      some (v4, M3)
    else
      (T_toCome N M).bind fun v1 =>
      (T_inRow N M v1 a1).bind fun v2 =>
      some (v2, M)
  else
    some ((-1 : Int32), M)
theorem w_T_rows {l : Launch} {G : GT} {fr lo : Nat} {h0 : Hp} {m0 : Nat} {hb : Hp} {N : Nat} {r : (Int32 × TM)} (hfr : 4 ≤ fr) (hlo : 92 ≤ lo) {a1 : Int32} {M : TM} (hF : T_rows N a1 M = some r) : V l G cX6_rows RX6 "rows" 2 (Option.some Jvm.ClassFile.FieldType.int) fr lo h0 (ovT m0 r.2 hb) (QM G (some (.int r.1)) h0 (ovT m0 r.2 hb)) 0 [(0, .ref m0), (1, .int a1)] [] (ovT m0 M hb) := by
  unfold T_rows at hF
  refine v_iload_n dX6_rows_0 rfl 1 rfl ?_
  refine v_iconst dX6_rows_1 (v := -1) (by decide) ?_
  refine v_icmp_ge (tgt := 7) dX6_rows_2 (by decide) hF (fun hF => ?_) (fun hF => ?_)
  · refine v_iload_n dX6_rows_7 rfl 1 rfl ?_
    refine v_iconst dX6_rows_8 (v := -1) (by decide) ?_
    refine v_icmp_ne (tgt := 19) dX6_rows_9 (by decide) hF (fun hF => ?_) (fun hF => ?_)
    · refine v_aload_n dX6_rows_19 rfl 0 rfl ?_
      refine v_aload_n dX6_rows_20 rfl 0 rfl ?_
      obtain ⟨v1, e_v1, hF⟩ := Option.bind_eq_some_iff.mp hF
      refine v_calV1 dX6_rows_21 vl_X6_394 q2191 rc_ov (ct_T_toCome e_v1) rfl rfl (Nat.le_trans (Nat.le_of_ble_eq_true rfl) hfr) (Nat.le_trans (Nat.le_of_ble_eq_true rfl) hlo) (Nat.le_of_ble_eq_true rfl) ?_
      refine v_iload_n dX6_rows_24 rfl 1 rfl ?_
      obtain ⟨v2, e_v2, hF⟩ := Option.bind_eq_some_iff.mp hF
      refine v_calV1 dX6_rows_25 vl_X6_397 q2195 rc_ov (ct_T_inRow e_v2) rfl rfl (Nat.le_trans (Nat.le_of_ble_eq_true rfl) hfr) (Nat.le_trans (Nat.le_of_ble_eq_true rfl) hlo) (Nat.le_of_ble_eq_true rfl) ?_
      cases hF
      exact v_iret dX6_rows_28 rfl rfl rfl rfl
    · refine v_aload_n dX6_rows_12 rfl 0 rfl ?_
      obtain ⟨v4, M3, e_v4, hF⟩ := bd2_spec hF
      refine v_calV1 dX6_rows_13 vl_X6_391 q2187 rc_ov (ct_T_rowsLeft e_v4) rfl rfl (Nat.le_trans (Nat.le_of_ble_eq_true rfl) hfr) (Nat.le_trans (Nat.le_of_ble_eq_true rfl) hlo) (Nat.le_of_ble_eq_true rfl) ?_
      refine v_goto (tgt := 28) dX6_rows_16 (by decide) ?_
      cases hF
      exact v_iret dX6_rows_28 rfl rfl rfl rfl
  · refine v_iconst dX6_rows_5 (v := -1) (by decide) ?_
    cases hF
    exact v_iret dX6_rows_6 rfl rfl rfl rfl
theorem ct_T_rows {l : Launch} {G : GT} {m0 : Nat} {hb : Hp} {N : Nat} {r : (Int32 × TM)} {a1 : Int32} {M : TM} (hF : T_rows N a1 M = some r) : Ct l G yX6_rows (ws_ yX6_rows cX6_rows 2 (Option.some Jvm.ClassFile.FieldType.int)) 4 92 [.ref m0, .int a1] (ovT m0 M hb) (some (.int r.1)) (ovT m0 r.2 hb) :=
  ct_of (by decide) (Nat.le_of_ble_eq_true rfl) (w_T_rows (Nat.le_refl _) (Nat.le_refl _) hF)
def T_readFor_J58 (N : Nat) (M : TM) (c16 : Int32 → Int32 → Int32 → Option Int32) (v12 : Int32) (v13 : Int32) (v14 : Int32) (v15 : Int32) : Option Int32 :=
  c16 (v15 ||| v14) v12 (v13 + (1 : Int32))
theorem w_T_readFor_J58 {l : Launch} {G : GT} {fr lo : Nat} {h0 : Hp} {m0 : Nat} {hb : Hp} {N : Nat} {M : TM} {r : Int32} (hfr : 1 ≤ fr) (hlo : 21 ≤ lo) {c16 : Int32 → Int32 → Int32 → Option Int32} (hc16 : ∀ (v5 : Int32) (v6 : Int32) (v7 : Int32), c16 v5 v6 v7 = some r → V l G cX6_readFor RX6 "readFor" 5 (Option.some Jvm.ClassFile.FieldType.int) fr lo h0 (ovT m0 M hb) (QM G (some (.int r)) h0 (ovT m0 M hb)) 16 [(0, .ref m0), (2, .int v5), (3, .int v6), (4, .int v7)] [] (ovT m0 M hb)) {v12 : Int32} {v13 : Int32} {v14 : Int32} {v15 : Int32} (hF : T_readFor_J58 N M c16 v12 v13 v14 v15 = some r) : V l G cX6_readFor RX6 "readFor" 5 (Option.some Jvm.ClassFile.FieldType.int) fr lo h0 (ovT m0 M hb) (QM G (some (.int r)) h0 (ovT m0 M hb)) 58 [(0, .ref m0), (3, .int v12), (4, .int v13)] [.int v14, .int v15] (ovT m0 M hb) := by
  unfold T_readFor_J58 at hF
  refine v_ior dX6_readFor_58 ?_
  refine v_istore_n dX6_readFor_59 rfl (Nat.le_of_ble_eq_true rfl) (L' := [(2, .int (v15 ||| v14)), (0, .ref m0), (3, .int v12), (4, .int v13)]) rfl ?_
  refine v_iinc dX6_readFor_60 3 rfl (v := v13 + (1 : Int32)) (by rfl) (Nat.le_of_ble_eq_true rfl) (L' := [(4, .int (v13 + (1 : Int32))), (2, .int (v15 ||| v14)), (0, .ref m0), (3, .int v12)]) rfl ?_
  refine v_goto (tgt := 16) dX6_readFor_63 (by decide) ?_
  exact v_sub [2, 1, 3, 0] rfl (hc16 _ _ _ hF)
def T_readFor_L16 (N : Nat) (M : TM) (x16 : Int32 → Int32 → Option Int32) : Nat → Int32 → Int32 → Int32 → Option Int32
  | 0, _, _, _ => none
  | n18 + 1, v5, v6, v7 =>
    (T_bookMany M).bind fun v10 =>
    if v10 ≤ v7 then
      x16 v5 v6
    else
      (T_isIn v6 v7).bind fun v11 =>
      if v11 = 0 then
        T_readFor_J58 N M (T_readFor_L16 N M x16 n18) v6 v7 (0 : Int32) v5
      else
        (tra M 2 5660 ((22 : Int32) + v7)).bind fun v16 =>
        (tra M 2 5660 (0 : Int32)).bind fun v17 =>
        T_readFor_J58 N M (T_readFor_L16 N M x16 n18) v6 v7 (v16 &&& (v17 ^^^ (-1 : Int32))) v5
theorem w_T_readFor_L16 {l : Launch} {G : GT} {fr lo : Nat} {h0 : Hp} {m0 : Nat} {hb : Hp} {N : Nat} {M : TM} {r : Int32} (hfr : 1 ≤ fr) (hlo : 21 ≤ lo) {x16 : Int32 → Int32 → Option Int32} (hx16 : ∀ (v8 : Int32) (v9 : Int32), x16 v8 v9 = some r → V l G cX6_readFor RX6 "readFor" 5 (Option.some Jvm.ClassFile.FieldType.int) fr lo h0 (ovT m0 M hb) (QM G (some (.int r)) h0 (ovT m0 M hb)) 66 [(0, .ref m0), (2, .int v8), (3, .int v9)] [] (ovT m0 M hb)) : ∀ (n : Nat) (v5 : Int32) (v6 : Int32) (v7 : Int32), T_readFor_L16 N M x16 n v5 v6 v7 = some r → V l G cX6_readFor RX6 "readFor" 5 (Option.some Jvm.ClassFile.FieldType.int) fr lo h0 (ovT m0 M hb) (QM G (some (.int r)) h0 (ovT m0 M hb)) 16 [(0, .ref m0), (2, .int v5), (3, .int v6), (4, .int v7)] [] (ovT m0 M hb) := by
  intro n
  induction n with
  | zero =>
    intro v5 v6 v7 hF
    cases (show (none : Option Int32) = some r from hF)
  | succ n hc16 =>
    intro v5 v6 v7 hF
    rw [T_readFor_L16] at hF
    refine v_iload dX6_readFor_16 3 rfl ?_
    refine v_aload_n dX6_readFor_18 rfl 0 rfl ?_
    obtain ⟨v10, e_v10, hF⟩ := Option.bind_eq_some_iff.mp hF
    refine v_calV1 dX6_readFor_19 vl_X6_112 q1837 rc_ov (ct_T_bookMany e_v10) rfl rfl (Nat.le_trans (Nat.le_of_ble_eq_true rfl) hfr) (Nat.le_trans (Nat.le_of_ble_eq_true rfl) hlo) (Nat.le_of_ble_eq_true rfl) ?_
    refine v_icmp_ge (tgt := 66) dX6_readFor_22 (by decide) hF (fun hF => ?_) (fun hF => ?_)
    · exact v_sub [0, 1, 2] rfl (hx16 _ _ hF)
    · refine v_iload_n dX6_readFor_25 rfl 1 rfl ?_
      refine v_iload_n dX6_readFor_26 rfl 2 rfl ?_
      refine v_iload dX6_readFor_27 3 rfl ?_
      obtain ⟨v11, e_v11, hF⟩ := Option.bind_eq_some_iff.mp hF
      refine v_calS1 dX6_readFor_29 sl_X6_119 q1860 (ct_T_isIn e_v11) rfl rfl (Nat.le_trans (Nat.le_of_ble_eq_true rfl) hfr) (Nat.le_trans (Nat.le_of_ble_eq_true rfl) hlo) (Nat.le_of_ble_eq_true rfl) ?_
      refine v_if_eq (tgt := 57) dX6_readFor_32 (by decide) hF (fun hF => ?_) (fun hF => ?_)
      · refine v_iconst dX6_readFor_57 (v := 0) (by decide) ?_
        exact v_sub [0, 2, 3] rfl (w_T_readFor_J58 hfr hlo hc16 hF)
      · refine v_aload_n dX6_readFor_35 rfl 0 rfl ?_
        refine t_geta 2 2 dX6_readFor_36 fl_X6_24 (Nat.le_of_ble_eq_true rfl) (fun _ _ => rfl) ?_
        refine v_bipush dX6_readFor_39 (v := 22) (by decide) ?_
        refine v_iload dX6_readFor_41 3 rfl ?_
        refine v_iadd dX6_readFor_43 ?_
        refine t_iald 2 dX6_readFor_44 rfl (Nat.le_of_ble_eq_true rfl) (by decide) hF (fun v16 hF => ?_)
        refine v_aload_n dX6_readFor_45 rfl 0 rfl ?_
        refine t_geta 2 2 dX6_readFor_46 fl_X6_24 (Nat.le_of_ble_eq_true rfl) (fun _ _ => rfl) ?_
        refine v_iconst dX6_readFor_49 (v := 0) (by decide) ?_
        refine t_iald 2 dX6_readFor_50 rfl (Nat.le_of_ble_eq_true rfl) (by decide) hF (fun v17 hF => ?_)
        refine v_iconst dX6_readFor_51 (v := -1) (by decide) ?_
        refine v_ixor dX6_readFor_52 ?_
        refine v_iand dX6_readFor_53 ?_
        refine v_goto (tgt := 58) dX6_readFor_54 (by decide) ?_
        exact v_sub [0, 2, 3] rfl (w_T_readFor_J58 hfr hlo hc16 hF)
def T_readFor_L6 (N : Nat) (M : TM) (x6 : Int32 → Option Int32) : Nat → Int32 → Int32 → Option Int32
  | 0, _, _ => none
  | n21 + 1, v2, v3 =>
    if v2 = v3 then
      x6 v2
    else
      T_readFor_L16 N M (fun v19 v20 =>
        (T_readFor_L6 N M x6 n21) v19 v20) N v2 v2 (0 : Int32)
theorem w_T_readFor_L6 {l : Launch} {G : GT} {fr lo : Nat} {h0 : Hp} {m0 : Nat} {hb : Hp} {N : Nat} {M : TM} {r : Int32} (hfr : 1 ≤ fr) (hlo : 21 ≤ lo) {x6 : Int32 → Option Int32} (hx6 : ∀ (v4 : Int32), x6 v4 = some r → V l G cX6_readFor RX6 "readFor" 5 (Option.some Jvm.ClassFile.FieldType.int) fr lo h0 (ovT m0 M hb) (QM G (some (.int r)) h0 (ovT m0 M hb)) 69 [(2, .int v4)] [] (ovT m0 M hb)) : ∀ (n : Nat) (v2 : Int32) (v3 : Int32), T_readFor_L6 N M x6 n v2 v3 = some r → V l G cX6_readFor RX6 "readFor" 5 (Option.some Jvm.ClassFile.FieldType.int) fr lo h0 (ovT m0 M hb) (QM G (some (.int r)) h0 (ovT m0 M hb)) 6 [(0, .ref m0), (2, .int v2), (3, .int v3)] [] (ovT m0 M hb) := by
  intro n
  induction n with
  | zero =>
    intro v2 v3 hF
    cases (show (none : Option Int32) = some r from hF)
  | succ n hc6 =>
    intro v2 v3 hF
    rw [T_readFor_L6] at hF
    refine v_iload_n dX6_readFor_6 rfl 1 rfl ?_
    refine v_iload_n dX6_readFor_7 rfl 2 rfl ?_
    refine v_icmp_eq (tgt := 69) dX6_readFor_8 (by decide) hF (fun hF => ?_) (fun hF => ?_)
    · exact v_sub [1] rfl (hx6 _ hF)
    · refine v_iload_n dX6_readFor_11 rfl 1 rfl ?_
      refine v_istore_n dX6_readFor_12 rfl (Nat.le_of_ble_eq_true rfl) (L' := [(3, .int v2), (0, .ref m0), (2, .int v2)]) rfl ?_
      refine v_iconst dX6_readFor_13 (v := 0) (by decide) ?_
      refine v_istore dX6_readFor_14 (Nat.le_of_ble_eq_true rfl) (L' := [(4, .int (0 : Int32)), (3, .int v2), (0, .ref m0), (2, .int v2)]) rfl ?_
      refine v_sub [2, 3, 1, 0] rfl (w_T_readFor_L16 hfr hlo ?_ N _ _ _ hF)
      intro v19 v20 hF
      refine v_goto (tgt := 6) dX6_readFor_66 (by decide) ?_
      exact v_sub [0, 1, 2] rfl (hc6 _ _ hF)
def T_readFor (N : Nat) (M : TM) (a1 : Int32) : Option Int32 :=
  (some ((1 : Int32) <<< (a1 &&& 31))).bind fun (v1 : Int32) =>
  T_readFor_L6 N M (fun v22 =>
    some v22) N v1 (0 : Int32)
theorem w_T_readFor {l : Launch} {G : GT} {fr lo : Nat} {h0 : Hp} {m0 : Nat} {hb : Hp} {N : Nat} {M : TM} {r : Int32} (hfr : 1 ≤ fr) (hlo : 21 ≤ lo) {a1 : Int32} (hF : T_readFor N M a1 = some r) : V l G cX6_readFor RX6 "readFor" 5 (Option.some Jvm.ClassFile.FieldType.int) fr lo h0 (ovT m0 M hb) (QM G (some (.int r)) h0 (ovT m0 M hb)) 0 [(0, .ref m0), (1, .int a1)] [] (ovT m0 M hb) := by
  unfold T_readFor at hF
  refine v_iconst dX6_readFor_0 (v := 1) (by decide) ?_
  refine v_iload_n dX6_readFor_1 rfl 1 rfl ?_
  refine v_ishl dX6_readFor_2 ?_
  refine v_leti hF (fun v1 hF => ?_)
  refine v_istore_n dX6_readFor_3 rfl (Nat.le_of_ble_eq_true rfl) (L' := [(2, .int v1), (0, .ref m0), (1, .int a1)]) rfl ?_
  refine v_iconst dX6_readFor_4 (v := 0) (by decide) ?_
  refine v_istore_n dX6_readFor_5 rfl (Nat.le_of_ble_eq_true rfl) (L' := [(3, .int (0 : Int32)), (2, .int v1), (0, .ref m0), (1, .int a1)]) rfl ?_
  refine v_sub [2, 1, 0] rfl (w_T_readFor_L6 hfr hlo ?_ N _ _ hF)
  intro v22 hF
  refine v_iload_n dX6_readFor_69 rfl 0 rfl ?_
  cases hF
  exact v_iret dX6_readFor_70 rfl rfl rfl rfl
theorem ct_T_readFor {l : Launch} {G : GT} {m0 : Nat} {hb : Hp} {N : Nat} {M : TM} {r : Int32} {a1 : Int32} (hF : T_readFor N M a1 = some r) : Ct l G yX6_readFor (ws_ yX6_readFor cX6_readFor 5 (Option.some Jvm.ClassFile.FieldType.int)) 1 21 [.ref m0, .int a1] (ovT m0 M hb) (some (.int r)) (ovT m0 M hb) :=
  ct_of (by decide) (Nat.le_of_ble_eq_true rfl) (w_T_readFor (Nat.le_refl _) (Nat.le_refl _) hF)
