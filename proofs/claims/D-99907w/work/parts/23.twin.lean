/-! printed by tools/gen.py -/
set_option maxRecDepth 100000
set_option linter.unusedVariables false
theorem vl_X6_400 : ∀ ci ∈ [6], VL RX6 400 ci yX6_never 0 := by
  intro ci h
  simp only [List.mem_cons, List.not_mem_nil, or_false] at h
  subst h; exact ⟨RX6, TX6, 56, rfl, q146, ⟨by decide, by decide⟩, by decide +kernel, q2169, Or.inl ⟨q2204, q2170⟩⟩
theorem vl_X6_403 : ∀ ci ∈ [6], VL RX6 403 ci yX6_readFor 1 := by
  intro ci h
  simp only [List.mem_cons, List.not_mem_nil, or_false] at h
  subst h; exact ⟨RX6, TX6, 56, rfl, q146, ⟨by decide, by decide⟩, by decide +kernel, q2207, Or.inl ⟨q2205, qs117⟩⟩
def T_to (N : Nat) (M : TM) (a1 : Int32) (a2 : Int32) : Option Int32 :=
  (T_isBook M a1).bind fun v1 =>
  if v1 = 0 then
    some (-1 : Int32)
  else
    if a2 < (-1 : Int32) then
      some (-1 : Int32)
    else
      (T_never N M).bind fun v2 =>
      (T_isIn v2 a1).bind fun v3 =>
      if v3 = 0 then
        (T_isRead M a1).bind fun v4 =>
        if v4 = 0 then
          (T_readFor N M a1).bind fun v5 =>
          if a2 = (-1 : Int32) then
            (T_ones N v5).bind fun v8 =>
            some v8
          else
            (T_ones N v5).bind fun v6 =>
            if a2 = (v6 - (1 : Int32)) then
              some a1
            else
              (T_inRow N M (v5 &&& (((1 : Int32) <<< (a1 &&& 31)) ^^^ (-1 : Int32))) a2).bind fun v7 =>
              some v7
        else
          some (if a2 = (-1 : Int32) then (0 : Int32) else (-1 : Int32))
      else
        some (-1 : Int32)
theorem w_T_to {l : Launch} {G : GT} {fr lo : Nat} {h0 : Hp} {m0 : Nat} {hb : Hp} {N : Nat} {M : TM} {r : Int32} (hfr : 4 ≤ fr) (hlo : 92 ≤ lo) {a1 : Int32} {a2 : Int32} (hF : T_to N M a1 a2 = some r) : V l G cX6_to RX6 "to" 4 (Option.some Jvm.ClassFile.FieldType.int) fr lo h0 (ovT m0 M hb) (QM G (some (.int r)) h0 (ovT m0 M hb)) 0 [(0, .ref m0), (1, .int a1), (2, .int a2)] [] (ovT m0 M hb) := by
  unfold T_to at hF
  refine v_aload_n dX6_to_0 rfl 0 rfl ?_
  refine v_iload_n dX6_to_1 rfl 1 rfl ?_
  obtain ⟨v1, e_v1, hF⟩ := Option.bind_eq_some_iff.mp hF
  refine v_calV1 dX6_to_2 vl_X6_130 q1849 rc_ov (ct_T_isBook e_v1) rfl rfl (Nat.le_trans (Nat.le_of_ble_eq_true rfl) hfr) (Nat.le_trans (Nat.le_of_ble_eq_true rfl) hlo) (Nat.le_of_ble_eq_true rfl) ?_
  refine v_if_eq (tgt := 24) dX6_to_5 (by decide) hF (fun hF => ?_) (fun hF => ?_)
  · refine v_iconst dX6_to_24 (v := -1) (by decide) ?_
    cases hF
    exact v_iret dX6_to_25 rfl rfl rfl rfl
  · refine v_iload_n dX6_to_8 rfl 2 rfl ?_
    refine v_iconst dX6_to_9 (v := -1) (by decide) ?_
    refine v_icmp_lt (tgt := 24) dX6_to_10 (by decide) hF (fun hF => ?_) (fun hF => ?_)
    · refine v_iconst dX6_to_24 (v := -1) (by decide) ?_
      cases hF
      exact v_iret dX6_to_25 rfl rfl rfl rfl
    · refine v_aload_n dX6_to_13 rfl 0 rfl ?_
      obtain ⟨v2, e_v2, hF⟩ := Option.bind_eq_some_iff.mp hF
      refine v_calV1 dX6_to_14 vl_X6_400 q2171 rc_ov (ct_T_never e_v2) rfl rfl (Nat.le_trans (Nat.le_of_ble_eq_true rfl) hfr) (Nat.le_trans (Nat.le_of_ble_eq_true rfl) hlo) (Nat.le_of_ble_eq_true rfl) ?_
      refine v_iload_n dX6_to_17 rfl 1 rfl ?_
      obtain ⟨v3, e_v3, hF⟩ := Option.bind_eq_some_iff.mp hF
      refine v_calS1 dX6_to_18 sl_X6_119 q1860 (ct_T_isIn e_v3) rfl rfl (Nat.le_trans (Nat.le_of_ble_eq_true rfl) hfr) (Nat.le_trans (Nat.le_of_ble_eq_true rfl) hlo) (Nat.le_of_ble_eq_true rfl) ?_
      refine v_if_eq (tgt := 26) dX6_to_21 (by decide) hF (fun hF => ?_) (fun hF => ?_)
      · refine v_aload_n dX6_to_26 rfl 0 rfl ?_
        refine v_iload_n dX6_to_27 rfl 1 rfl ?_
        obtain ⟨v4, e_v4, hF⟩ := Option.bind_eq_some_iff.mp hF
        refine v_calV1 dX6_to_28 vl_X6_134 q1857 rc_ov (ct_T_isRead e_v4) rfl rfl (Nat.le_trans (Nat.le_of_ble_eq_true rfl) hfr) (Nat.le_trans (Nat.le_of_ble_eq_true rfl) hlo) (Nat.le_of_ble_eq_true rfl) ?_
        refine v_if_eq (tgt := 45) dX6_to_31 (by decide) hF (fun hF => ?_) (fun hF => ?_)
        · refine v_aload_n dX6_to_45 rfl 0 rfl ?_
          refine v_iload_n dX6_to_46 rfl 1 rfl ?_
          obtain ⟨v5, e_v5, hF⟩ := Option.bind_eq_some_iff.mp hF
          refine v_calV1 dX6_to_47 vl_X6_403 q2208 rc_ov (ct_T_readFor e_v5) rfl rfl (Nat.le_trans (Nat.le_of_ble_eq_true rfl) hfr) (Nat.le_trans (Nat.le_of_ble_eq_true rfl) hlo) (Nat.le_of_ble_eq_true rfl) ?_
          refine v_istore_n dX6_to_50 rfl (Nat.le_of_ble_eq_true rfl) (L' := [(3, .int v5), (0, .ref m0), (1, .int a1), (2, .int a2)]) rfl ?_
          refine v_iload_n dX6_to_51 rfl 3 rfl ?_
          refine v_iconst dX6_to_52 (v := -1) (by decide) ?_
          refine v_icmp_ne (tgt := 61) dX6_to_53 (by decide) hF (fun hF => ?_) (fun hF => ?_)
          · refine v_iload_n dX6_to_61 rfl 3 rfl ?_
            refine v_iload_n dX6_to_62 rfl 0 rfl ?_
            obtain ⟨v6, e_v6, hF⟩ := Option.bind_eq_some_iff.mp hF
            refine v_calS1 dX6_to_63 sl_X6_304 q1871 (ct_T_ones e_v6) rfl rfl (Nat.le_trans (Nat.le_of_ble_eq_true rfl) hfr) (Nat.le_trans (Nat.le_of_ble_eq_true rfl) hlo) (Nat.le_of_ble_eq_true rfl) ?_
            refine v_iconst dX6_to_66 (v := 1) (by decide) ?_
            refine v_isub dX6_to_67 ?_
            refine v_icmp_ne (tgt := 75) dX6_to_68 (by decide) hF (fun hF => ?_) (fun hF => ?_)
            · refine v_aload_n dX6_to_75 rfl 1 rfl ?_
              refine v_iload_n dX6_to_76 rfl 0 rfl ?_
              refine v_iconst dX6_to_77 (v := 1) (by decide) ?_
              refine v_iload_n dX6_to_78 rfl 2 rfl ?_
              refine v_ishl dX6_to_79 ?_
              refine v_iconst dX6_to_80 (v := -1) (by decide) ?_
              refine v_ixor dX6_to_81 ?_
              refine v_iand dX6_to_82 ?_
              refine v_iload_n dX6_to_83 rfl 3 rfl ?_
              obtain ⟨v7, e_v7, hF⟩ := Option.bind_eq_some_iff.mp hF
              refine v_calV1 dX6_to_84 vl_X6_397 q2195 rc_ov (ct_T_inRow e_v7) rfl rfl (Nat.le_trans (Nat.le_of_ble_eq_true rfl) hfr) (Nat.le_trans (Nat.le_of_ble_eq_true rfl) hlo) (Nat.le_of_ble_eq_true rfl) ?_
              cases hF
              exact v_iret dX6_to_87 rfl rfl rfl rfl
            · refine v_iload_n dX6_to_71 rfl 2 rfl ?_
              refine v_goto (tgt := 87) dX6_to_72 (by decide) ?_
              cases hF
              exact v_iret dX6_to_87 rfl rfl rfl rfl
          · refine v_iload_n dX6_to_56 rfl 0 rfl ?_
            obtain ⟨v8, e_v8, hF⟩ := Option.bind_eq_some_iff.mp hF
            refine v_calS1 dX6_to_57 sl_X6_304 q1871 (ct_T_ones e_v8) rfl rfl (Nat.le_trans (Nat.le_of_ble_eq_true rfl) hfr) (Nat.le_trans (Nat.le_of_ble_eq_true rfl) hlo) (Nat.le_of_ble_eq_true rfl) ?_
            cases hF
            exact v_iret dX6_to_60 rfl rfl rfl rfl
        · refine v_iload_n dX6_to_34 rfl 2 rfl ?_
          refine v_iconst dX6_to_35 (v := -1) (by decide) ?_
          refine v_tern (c := a2 = (-1 : Int32)) (x := (0 : Int32)) (y := (-1 : Int32)) (pcj := 44) (st := []) ?_ (fun kt kf => v_icmp_ne0 (tgt := 43) dX6_to_36 (by decide) kt kf) (fun K => ?_) (fun K => ?_)
          · cases hF
            exact v_iret dX6_to_44 rfl rfl rfl rfl
          · refine v_iconst dX6_to_39 (v := 0) (by decide) ?_
            refine v_goto (tgt := 44) dX6_to_40 (by decide) ?_
            exact K
          · refine v_iconst dX6_to_43 (v := -1) (by decide) ?_
            exact K
      · refine v_iconst dX6_to_24 (v := -1) (by decide) ?_
        cases hF
        exact v_iret dX6_to_25 rfl rfl rfl rfl
theorem ct_T_to {l : Launch} {G : GT} {m0 : Nat} {hb : Hp} {N : Nat} {M : TM} {r : Int32} {a1 : Int32} {a2 : Int32} (hF : T_to N M a1 a2 = some r) : Ct l G yX6_to (ws_ yX6_to cX6_to 4 (Option.some Jvm.ClassFile.FieldType.int)) 4 92 [.ref m0, .int a1, .int a2] (ovT m0 M hb) (some (.int r)) (ovT m0 M hb) :=
  ct_of (by decide) (Nat.le_of_ble_eq_true rfl) (w_T_to (Nat.le_refl _) (Nat.le_refl _) hF)
def T_hasRing_J52 (N : Nat) (M : TM) (c11 : Int32 → Int32 → Int32 → Option Int32) (v9 : Int32) (v10 : Int32) (v11 : Int32) : Option Int32 :=
  c11 v9 v11 (v10 + (1 : Int32))
theorem w_T_hasRing_J52 {l : Launch} {G : GT} {fr lo : Nat} {h0 : Hp} {m0 : Nat} {hb : Hp} {N : Nat} {M : TM} {r : Int32} (hfr : 2 ≤ fr) (hlo : 45 ≤ lo) {c11 : Int32 → Int32 → Int32 → Option Int32} (hc11 : ∀ (v2 : Int32) (v3 : Int32) (v4 : Int32), c11 v2 v3 v4 = some r → V l G cX6_hasRing RX6 "hasRing" 5 (Option.some Jvm.ClassFile.FieldType.boolean) fr lo h0 (ovT m0 M hb) (QM G (some (.int r)) h0 (ovT m0 M hb)) 11 [(0, .ref m0), (2, .int v2), (3, .int v3), (4, .int v4)] [] (ovT m0 M hb)) {v9 : Int32} {v10 : Int32} {v11 : Int32} (hF : T_hasRing_J52 N M c11 v9 v10 v11 = some r) : V l G cX6_hasRing RX6 "hasRing" 5 (Option.some Jvm.ClassFile.FieldType.boolean) fr lo h0 (ovT m0 M hb) (QM G (some (.int r)) h0 (ovT m0 M hb)) 52 [(0, .ref m0), (2, .int v9), (4, .int v10)] [.int v11] (ovT m0 M hb) := by
  unfold T_hasRing_J52 at hF
  refine v_istore_n dX6_hasRing_52 rfl (Nat.le_of_ble_eq_true rfl) (L' := [(3, .int v11), (0, .ref m0), (2, .int v9), (4, .int v10)]) rfl ?_
  refine v_iinc dX6_hasRing_53 3 rfl (v := v10 + (1 : Int32)) (by rfl) (Nat.le_of_ble_eq_true rfl) (L' := [(4, .int (v10 + (1 : Int32))), (3, .int v11), (0, .ref m0), (2, .int v9)]) rfl ?_
  refine v_goto (tgt := 11) dX6_hasRing_56 (by decide) ?_
  exact v_sub [2, 3, 1, 0] rfl (hc11 _ _ _ hF)
def T_hasRing_J47 (N : Nat) (M : TM) (c11 : Int32 → Int32 → Int32 → Option Int32) (v7 : Int32) (v8 : Int32) : Option Int32 :=
  T_hasRing_J52 N M c11 v7 v8 (1 : Int32)
theorem w_T_hasRing_J47 {l : Launch} {G : GT} {fr lo : Nat} {h0 : Hp} {m0 : Nat} {hb : Hp} {N : Nat} {M : TM} {r : Int32} (hfr : 2 ≤ fr) (hlo : 45 ≤ lo) {c11 : Int32 → Int32 → Int32 → Option Int32} (hc11 : ∀ (v2 : Int32) (v3 : Int32) (v4 : Int32), c11 v2 v3 v4 = some r → V l G cX6_hasRing RX6 "hasRing" 5 (Option.some Jvm.ClassFile.FieldType.boolean) fr lo h0 (ovT m0 M hb) (QM G (some (.int r)) h0 (ovT m0 M hb)) 11 [(0, .ref m0), (2, .int v2), (3, .int v3), (4, .int v4)] [] (ovT m0 M hb)) {v7 : Int32} {v8 : Int32} (hF : T_hasRing_J47 N M c11 v7 v8 = some r) : V l G cX6_hasRing RX6 "hasRing" 5 (Option.some Jvm.ClassFile.FieldType.boolean) fr lo h0 (ovT m0 M hb) (QM G (some (.int r)) h0 (ovT m0 M hb)) 47 [(0, .ref m0), (2, .int v7), (4, .int v8)] [] (ovT m0 M hb) := by
  unfold T_hasRing_J47 at hF
  refine v_iconst dX6_hasRing_47 (v := 1) (by decide) ?_
  refine v_goto (tgt := 52) dX6_hasRing_48 (by decide) ?_
  exact v_sub [0, 1, 2] rfl (w_T_hasRing_J52 hfr hlo hc11 hF)
def T_hasRing_J51 (N : Nat) (M : TM) (c11 : Int32 → Int32 → Int32 → Option Int32) (v13 : Int32) (v14 : Int32) : Option Int32 :=
  T_hasRing_J52 N M c11 v13 v14 (0 : Int32)
theorem w_T_hasRing_J51 {l : Launch} {G : GT} {fr lo : Nat} {h0 : Hp} {m0 : Nat} {hb : Hp} {N : Nat} {M : TM} {r : Int32} (hfr : 2 ≤ fr) (hlo : 45 ≤ lo) {c11 : Int32 → Int32 → Int32 → Option Int32} (hc11 : ∀ (v2 : Int32) (v3 : Int32) (v4 : Int32), c11 v2 v3 v4 = some r → V l G cX6_hasRing RX6 "hasRing" 5 (Option.some Jvm.ClassFile.FieldType.boolean) fr lo h0 (ovT m0 M hb) (QM G (some (.int r)) h0 (ovT m0 M hb)) 11 [(0, .ref m0), (2, .int v2), (3, .int v3), (4, .int v4)] [] (ovT m0 M hb)) {v13 : Int32} {v14 : Int32} (hF : T_hasRing_J51 N M c11 v13 v14 = some r) : V l G cX6_hasRing RX6 "hasRing" 5 (Option.some Jvm.ClassFile.FieldType.boolean) fr lo h0 (ovT m0 M hb) (QM G (some (.int r)) h0 (ovT m0 M hb)) 51 [(0, .ref m0), (2, .int v13), (4, .int v14)] [] (ovT m0 M hb) := by
  unfold T_hasRing_J51 at hF
  refine v_iconst dX6_hasRing_51 (v := 0) (by decide) ?_
  exact v_sub [0, 1, 2] rfl (w_T_hasRing_J52 hfr hlo hc11 hF)
def T_hasRing_L11 (N : Nat) (M : TM) (x11 : Int32 → Option Int32) : Nat → Int32 → Int32 → Int32 → Option Int32
  | 0, _, _, _ => none
  | n17 + 1, v2, v3, v4 =>
    (T_bookMany M).bind fun v6 =>
    if v6 ≤ v4 then
      x11 v3
    else
      if v3 = 0 then
        (T_isIn v2 v4).bind fun v12 =>
        if v12 = 0 then
          T_hasRing_J51 N M (T_hasRing_L11 N M x11 n17) v2 v4
        else
          (T_allNeeds N M v4).bind fun v15 =>
          (T_isIn v15 v4).bind fun v16 =>
          if v16 = 0 then
            T_hasRing_J51 N M (T_hasRing_L11 N M x11 n17) v2 v4
          else
            T_hasRing_J47 N M (T_hasRing_L11 N M x11 n17) v2 v4
      else
        T_hasRing_J47 N M (T_hasRing_L11 N M x11 n17) v2 v4
theorem w_T_hasRing_L11 {l : Launch} {G : GT} {fr lo : Nat} {h0 : Hp} {m0 : Nat} {hb : Hp} {N : Nat} {M : TM} {r : Int32} (hfr : 2 ≤ fr) (hlo : 45 ≤ lo) {x11 : Int32 → Option Int32} (hx11 : ∀ (v5 : Int32), x11 v5 = some r → V l G cX6_hasRing RX6 "hasRing" 5 (Option.some Jvm.ClassFile.FieldType.boolean) fr lo h0 (ovT m0 M hb) (QM G (some (.int r)) h0 (ovT m0 M hb)) 59 [(3, .int v5)] [] (ovT m0 M hb)) : ∀ (n : Nat) (v2 : Int32) (v3 : Int32) (v4 : Int32), T_hasRing_L11 N M x11 n v2 v3 v4 = some r → V l G cX6_hasRing RX6 "hasRing" 5 (Option.some Jvm.ClassFile.FieldType.boolean) fr lo h0 (ovT m0 M hb) (QM G (some (.int r)) h0 (ovT m0 M hb)) 11 [(0, .ref m0), (2, .int v2), (3, .int v3), (4, .int v4)] [] (ovT m0 M hb) := by
  intro n
  induction n with
  | zero =>
    intro v2 v3 v4 hF
    cases (show (none : Option Int32) = some r from hF)
  | succ n hc11 =>
    intro v2 v3 v4 hF
    rw [T_hasRing_L11] at hF
    refine v_iload dX6_hasRing_11 3 rfl ?_
    refine v_aload_n dX6_hasRing_13 rfl 0 rfl ?_
    obtain ⟨v6, e_v6, hF⟩ := Option.bind_eq_some_iff.mp hF
    refine v_calV1 dX6_hasRing_14 vl_X6_112 q1837 rc_ov (ct_T_bookMany e_v6) rfl rfl (Nat.le_trans (Nat.le_of_ble_eq_true rfl) hfr) (Nat.le_trans (Nat.le_of_ble_eq_true rfl) hlo) (Nat.le_of_ble_eq_true rfl) ?_
    refine v_icmp_ge (tgt := 59) dX6_hasRing_17 (by decide) hF (fun hF => ?_) (fun hF => ?_)
    · exact v_sub [2] rfl (hx11 _ hF)
    · refine v_iload_n dX6_hasRing_20 rfl 2 rfl ?_
      refine v_if_ne (tgt := 47) dX6_hasRing_21 (by decide) hF (fun hF => ?_) (fun hF => ?_)
      · exact v_sub [0, 1, 3] rfl (w_T_hasRing_J47 hfr hlo hc11 hF)
      · refine v_iload_n dX6_hasRing_24 rfl 1 rfl ?_
        refine v_iload dX6_hasRing_25 3 rfl ?_
        obtain ⟨v12, e_v12, hF⟩ := Option.bind_eq_some_iff.mp hF
        refine v_calS1 dX6_hasRing_27 sl_X6_119 q1860 (ct_T_isIn e_v12) rfl rfl (Nat.le_trans (Nat.le_of_ble_eq_true rfl) hfr) (Nat.le_trans (Nat.le_of_ble_eq_true rfl) hlo) (Nat.le_of_ble_eq_true rfl) ?_
        refine v_if_eq (tgt := 51) dX6_hasRing_30 (by decide) hF (fun hF => ?_) (fun hF => ?_)
        · exact v_sub [0, 1, 3] rfl (w_T_hasRing_J51 hfr hlo hc11 hF)
        · refine v_aload_n dX6_hasRing_33 rfl 0 rfl ?_
          refine v_iload dX6_hasRing_34 3 rfl ?_
          obtain ⟨v15, e_v15, hF⟩ := Option.bind_eq_some_iff.mp hF
          refine v_calV1 dX6_hasRing_36 vl_X6_379 q2167 rc_ov (ct_T_allNeeds e_v15) rfl rfl (Nat.le_trans (Nat.le_of_ble_eq_true rfl) hfr) (Nat.le_trans (Nat.le_of_ble_eq_true rfl) hlo) (Nat.le_of_ble_eq_true rfl) ?_
          refine v_iload dX6_hasRing_39 3 rfl ?_
          obtain ⟨v16, e_v16, hF⟩ := Option.bind_eq_some_iff.mp hF
          refine v_calS1 dX6_hasRing_41 sl_X6_119 q1860 (ct_T_isIn e_v16) rfl rfl (Nat.le_trans (Nat.le_of_ble_eq_true rfl) hfr) (Nat.le_trans (Nat.le_of_ble_eq_true rfl) hlo) (Nat.le_of_ble_eq_true rfl) ?_
          refine v_if_eq (tgt := 51) dX6_hasRing_44 (by decide) hF (fun hF => ?_) (fun hF => ?_)
          · exact v_sub [0, 1, 3] rfl (w_T_hasRing_J51 hfr hlo hc11 hF)
          · exact v_sub [0, 1, 3] rfl (w_T_hasRing_J47 hfr hlo hc11 hF)
def T_hasRing (N : Nat) (M : TM) (a1 : Int32) : Option Int32 :=
  (T_allNeeds N M a1).bind fun v1 =>
  T_hasRing_L11 N M (fun v18 =>
    (rz v18).bind fun v19 => some v19) N v1 (0 : Int32) (0 : Int32)
theorem w_T_hasRing {l : Launch} {G : GT} {fr lo : Nat} {h0 : Hp} {m0 : Nat} {hb : Hp} {N : Nat} {M : TM} {r : Int32} (hfr : 2 ≤ fr) (hlo : 45 ≤ lo) {a1 : Int32} (hF : T_hasRing N M a1 = some r) : V l G cX6_hasRing RX6 "hasRing" 5 (Option.some Jvm.ClassFile.FieldType.boolean) fr lo h0 (ovT m0 M hb) (QM G (some (.int r)) h0 (ovT m0 M hb)) 0 [(0, .ref m0), (1, .int a1)] [] (ovT m0 M hb) := by
  unfold T_hasRing at hF
  refine v_aload_n dX6_hasRing_0 rfl 0 rfl ?_
  refine v_iload_n dX6_hasRing_1 rfl 1 rfl ?_
  obtain ⟨v1, e_v1, hF⟩ := Option.bind_eq_some_iff.mp hF
  refine v_calV1 dX6_hasRing_2 vl_X6_379 q2167 rc_ov (ct_T_allNeeds e_v1) rfl rfl (Nat.le_trans (Nat.le_of_ble_eq_true rfl) hfr) (Nat.le_trans (Nat.le_of_ble_eq_true rfl) hlo) (Nat.le_of_ble_eq_true rfl) ?_
  refine v_istore_n dX6_hasRing_5 rfl (Nat.le_of_ble_eq_true rfl) (L' := [(2, .int v1), (0, .ref m0), (1, .int a1)]) rfl ?_
  refine v_iconst dX6_hasRing_6 (v := 0) (by decide) ?_
  refine v_istore_n dX6_hasRing_7 rfl (Nat.le_of_ble_eq_true rfl) (L' := [(3, .int (0 : Int32)), (2, .int v1), (0, .ref m0), (1, .int a1)]) rfl ?_
  refine v_iconst dX6_hasRing_8 (v := 0) (by decide) ?_
  refine v_istore dX6_hasRing_9 (Nat.le_of_ble_eq_true rfl) (L' := [(4, .int (0 : Int32)), (3, .int (0 : Int32)), (2, .int v1), (0, .ref m0), (1, .int a1)]) rfl ?_
  refine v_sub [3, 2, 1, 0] rfl (w_T_hasRing_L11 hfr hlo ?_ N _ _ _ hF)
  intro v18 hF
  refine v_iload_n dX6_hasRing_59 rfl 0 rfl ?_
  refine v_zchk hF (fun v19 hz hF => ?_)
  cases hF
  exact v_iret dX6_hasRing_60 rfl (nar_z hz) rfl rfl
theorem ct_T_hasRing {l : Launch} {G : GT} {m0 : Nat} {hb : Hp} {N : Nat} {M : TM} {r : Int32} {a1 : Int32} (hF : T_hasRing N M a1 = some r) : Ct l G yX6_hasRing (ws_ yX6_hasRing cX6_hasRing 5 (Option.some Jvm.ClassFile.FieldType.boolean)) 2 45 [.ref m0, .int a1] (ovT m0 M hb) (some (.int r)) (ovT m0 M hb) :=
  ct_of (by decide) (Nat.le_of_ble_eq_true rfl) (w_T_hasRing (Nat.le_refl _) (Nat.le_refl _) hF)
theorem fl_X6_74 : FL RX6 74 [6] 34 := by
  intro ci h
  simp only [List.mem_cons, List.not_mem_nil, or_false] at h
  subst h; exact ⟨RX6, _, TX6, 56, rfl, in_X6, by decide, Or.inl q1668, Or.inl rfl⟩
def T_laysDepth_L2 (N : Nat) (x2 : Int32 → Int32 → TM → Option TM) : Nat → Int32 → Int32 → Int32 → TM → Option TM
  | 0, _, _, _, _ => none
  | n10 + 1, v1, v2, v3, M4 =>
    (T_bookMany M4).bind fun v8 =>
    if v8 ≤ v3 then
      x2 v1 v2 M4
    else
      (twa M4 34 8 v3 (0 : Int32)).bind fun M9 =>
      (T_laysDepth_L2 N x2 n10) v1 v2 (v3 + (1 : Int32)) M9
theorem w_T_laysDepth_L2 {l : Launch} {G : GT} {fr lo : Nat} {h0 : Hp} {m0 : Nat} {hb : Hp} {N : Nat} {r : TM} (hfr : 1 ≤ fr) (hlo : 21 ≤ lo) {x2 : Int32 → Int32 → TM → Option TM} (hx2 : ∀ (v5 : Int32) (v6 : Int32) (M7 : TM), x2 v5 v6 M7 = some r → V l G cX6_laysDepth RX6 "laysDepth" 7 (Option.none : Option Jvm.ClassFile.FieldType) fr lo h0 (ovT m0 r hb) (QM G none h0 (ovT m0 r hb)) 23 [(0, .ref m0), (1, .int v5), (2, .int v6)] [] (ovT m0 M7 hb)) : ∀ (n : Nat) (v1 : Int32) (v2 : Int32) (v3 : Int32) (M4 : TM), T_laysDepth_L2 N x2 n v1 v2 v3 M4 = some r → V l G cX6_laysDepth RX6 "laysDepth" 7 (Option.none : Option Jvm.ClassFile.FieldType) fr lo h0 (ovT m0 r hb) (QM G none h0 (ovT m0 r hb)) 2 [(0, .ref m0), (1, .int v1), (2, .int v2), (3, .int v3)] [] (ovT m0 M4 hb) := by
  intro n
  induction n with
  | zero =>
    intro v1 v2 v3 M4 hF
    cases (show (none : Option TM) = some r from hF)
  | succ n hc2 =>
    intro v1 v2 v3 M4 hF
    rw [T_laysDepth_L2] at hF
    refine v_iload_n dX6_laysDepth_2 rfl 3 rfl ?_
    refine v_aload_n dX6_laysDepth_3 rfl 0 rfl ?_
    obtain ⟨v8, e_v8, hF⟩ := Option.bind_eq_some_iff.mp hF
    refine v_calV1 dX6_laysDepth_4 vl_X6_112 q1837 rc_ov (ct_T_bookMany e_v8) rfl rfl (Nat.le_trans (Nat.le_of_ble_eq_true rfl) hfr) (Nat.le_trans (Nat.le_of_ble_eq_true rfl) hlo) (Nat.le_of_ble_eq_true rfl) ?_
    refine v_icmp_ge (tgt := 23) dX6_laysDepth_7 (by decide) hF (fun hF => ?_) (fun hF => ?_)
    · exact v_sub [0, 1, 2] rfl (hx2 _ _ _ hF)
    · refine v_aload_n dX6_laysDepth_10 rfl 0 rfl ?_
      refine t_geta 34 17 dX6_laysDepth_11 fl_X6_74 (Nat.le_of_ble_eq_true rfl) (fun _ _ => rfl) ?_
      refine v_iload_n dX6_laysDepth_14 rfl 3 rfl ?_
      refine v_iconst dX6_laysDepth_15 (v := 0) (by decide) ?_
      refine t_iast 17 dX6_laysDepth_16 rfl (Nat.le_of_ble_eq_true rfl) (by decide) hF (fun M9 hF => ?_)
      refine v_iinc dX6_laysDepth_17 3 rfl (v := v3 + (1 : Int32)) (by rfl) (Nat.le_of_ble_eq_true rfl) (L' := [(3, .int (v3 + (1 : Int32))), (0, .ref m0), (1, .int v1), (2, .int v2)]) rfl ?_
      refine v_goto (tgt := 2) dX6_laysDepth_20 (by decide) ?_
      exact v_sub [1, 2, 3, 0] rfl (hc2 _ _ _ _ hF)
def T_laysDepth_J102 (N : Nat) (c49 : Int32 → Int32 → Int32 → Int32 → Int32 → Int32 → TM → Option TM) (v51 : Int32) (v52 : Int32) (v53 : Int32) (v54 : Int32) (v55 : Int32) (v56 : Int32) (M57 : TM) : Option TM :=
  c49 v51 v52 v53 v54 v56 (v55 + (1 : Int32)) M57
theorem w_T_laysDepth_J102 {l : Launch} {G : GT} {fr lo : Nat} {h0 : Hp} {m0 : Nat} {hb : Hp} {N : Nat} {r : TM} (hfr : 1 ≤ fr) (hlo : 21 ≤ lo) {c49 : Int32 → Int32 → Int32 → Int32 → Int32 → Int32 → TM → Option TM} (hc49 : ∀ (v29 : Int32) (v30 : Int32) (v31 : Int32) (v32 : Int32) (v33 : Int32) (v34 : Int32) (M35 : TM), c49 v29 v30 v31 v32 v33 v34 M35 = some r → V l G cX6_laysDepth RX6 "laysDepth" 7 (Option.none : Option Jvm.ClassFile.FieldType) fr lo h0 (ovT m0 r hb) (QM G none h0 (ovT m0 r hb)) 49 [(0, .ref m0), (1, .int v29), (2, .int v30), (3, .int v31), (4, .int v32), (5, .int v33), (6, .int v34)] [] (ovT m0 M35 hb)) {v51 : Int32} {v52 : Int32} {v53 : Int32} {v54 : Int32} {v55 : Int32} {v56 : Int32} {M57 : TM} (hF : T_laysDepth_J102 N c49 v51 v52 v53 v54 v55 v56 M57 = some r) : V l G cX6_laysDepth RX6 "laysDepth" 7 (Option.none : Option Jvm.ClassFile.FieldType) fr lo h0 (ovT m0 r hb) (QM G none h0 (ovT m0 r hb)) 102 [(0, .ref m0), (1, .int v51), (2, .int v52), (3, .int v53), (4, .int v54), (6, .int v55)] [.int v56] (ovT m0 M57 hb) := by
  unfold T_laysDepth_J102 at hF
  refine v_istore dX6_laysDepth_102 (Nat.le_of_ble_eq_true rfl) (L' := [(5, .int v56), (0, .ref m0), (1, .int v51), (2, .int v52), (3, .int v53), (4, .int v54), (6, .int v55)]) rfl ?_
  refine v_iinc dX6_laysDepth_104 6 rfl (v := v55 + (1 : Int32)) (by rfl) (Nat.le_of_ble_eq_true rfl) (L' := [(6, .int (v55 + (1 : Int32))), (5, .int v56), (0, .ref m0), (1, .int v51), (2, .int v52), (3, .int v53), (4, .int v54)]) rfl ?_
  refine v_goto (tgt := 49) dX6_laysDepth_107 (by decide) ?_
  exact v_sub [2, 3, 4, 5, 6, 1, 0] rfl (hc49 _ _ _ _ _ _ _ hF)
def T_laysDepth_J100 (N : Nat) (c49 : Int32 → Int32 → Int32 → Int32 → Int32 → Int32 → TM → Option TM) (v44 : Int32) (v45 : Int32) (v46 : Int32) (v47 : Int32) (v48 : Int32) (v49 : Int32) (M50 : TM) : Option TM :=
  T_laysDepth_J102 N c49 v44 v45 v46 v47 v49 v48 M50
theorem w_T_laysDepth_J100 {l : Launch} {G : GT} {fr lo : Nat} {h0 : Hp} {m0 : Nat} {hb : Hp} {N : Nat} {r : TM} (hfr : 1 ≤ fr) (hlo : 21 ≤ lo) {c49 : Int32 → Int32 → Int32 → Int32 → Int32 → Int32 → TM → Option TM} (hc49 : ∀ (v29 : Int32) (v30 : Int32) (v31 : Int32) (v32 : Int32) (v33 : Int32) (v34 : Int32) (M35 : TM), c49 v29 v30 v31 v32 v33 v34 M35 = some r → V l G cX6_laysDepth RX6 "laysDepth" 7 (Option.none : Option Jvm.ClassFile.FieldType) fr lo h0 (ovT m0 r hb) (QM G none h0 (ovT m0 r hb)) 49 [(0, .ref m0), (1, .int v29), (2, .int v30), (3, .int v31), (4, .int v32), (5, .int v33), (6, .int v34)] [] (ovT m0 M35 hb)) {v44 : Int32} {v45 : Int32} {v46 : Int32} {v47 : Int32} {v48 : Int32} {v49 : Int32} {M50 : TM} (hF : T_laysDepth_J100 N c49 v44 v45 v46 v47 v48 v49 M50 = some r) : V l G cX6_laysDepth RX6 "laysDepth" 7 (Option.none : Option Jvm.ClassFile.FieldType) fr lo h0 (ovT m0 r hb) (QM G none h0 (ovT m0 r hb)) 100 [(0, .ref m0), (1, .int v44), (2, .int v45), (3, .int v46), (4, .int v47), (5, .int v48), (6, .int v49)] [] (ovT m0 M50 hb) := by
  unfold T_laysDepth_J100 at hF
  refine v_iload dX6_laysDepth_100 5 rfl ?_
  exact v_sub [0, 1, 2, 3, 4, 6] rfl (w_T_laysDepth_J102 hfr hlo hc49 hF)
def T_laysDepth_L49 (N : Nat) (x49 : Int32 → Int32 → Int32 → Int32 → Int32 → TM → Option TM) : Nat → Int32 → Int32 → Int32 → Int32 → Int32 → Int32 → TM → Option TM
  | 0, _, _, _, _, _, _, _ => none
  | n62 + 1, v29, v30, v31, v32, v33, v34, M35 =>
    (T_bookMany M35).bind fun v42 =>
    if v42 ≤ v34 then
      x49 v29 v30 v31 v32 v33 M35
    else
      (T_isIn v29 v34).bind fun v43 =>
      if v43 = 0 then
        T_laysDepth_J100 N (T_laysDepth_L49 N x49 n62) v29 v30 v31 v32 v33 v34 M35
      else
        (tra M35 2 5660 ((22 : Int32) + v32)).bind fun v58 =>
        (T_isIn v58 v34).bind fun v59 =>
        if v59 = 0 then
          T_laysDepth_J100 N (T_laysDepth_L49 N x49 n62) v29 v30 v31 v32 v33 v34 M35
        else
          (tra M35 34 8 v34).bind fun v60 =>
          (T_greater v33 v60).bind fun v61 =>
          T_laysDepth_J102 N (T_laysDepth_L49 N x49 n62) v29 v30 v31 v32 v34 v61 M35
theorem w_T_laysDepth_L49 {l : Launch} {G : GT} {fr lo : Nat} {h0 : Hp} {m0 : Nat} {hb : Hp} {N : Nat} {r : TM} (hfr : 1 ≤ fr) (hlo : 21 ≤ lo) {x49 : Int32 → Int32 → Int32 → Int32 → Int32 → TM → Option TM} (hx49 : ∀ (v36 : Int32) (v37 : Int32) (v38 : Int32) (v39 : Int32) (v40 : Int32) (M41 : TM), x49 v36 v37 v38 v39 v40 M41 = some r → V l G cX6_laysDepth RX6 "laysDepth" 7 (Option.none : Option Jvm.ClassFile.FieldType) fr lo h0 (ovT m0 r hb) (QM G none h0 (ovT m0 r hb)) 110 [(0, .ref m0), (1, .int v36), (2, .int v37), (3, .int v38), (4, .int v39), (5, .int v40)] [] (ovT m0 M41 hb)) : ∀ (n : Nat) (v29 : Int32) (v30 : Int32) (v31 : Int32) (v32 : Int32) (v33 : Int32) (v34 : Int32) (M35 : TM), T_laysDepth_L49 N x49 n v29 v30 v31 v32 v33 v34 M35 = some r → V l G cX6_laysDepth RX6 "laysDepth" 7 (Option.none : Option Jvm.ClassFile.FieldType) fr lo h0 (ovT m0 r hb) (QM G none h0 (ovT m0 r hb)) 49 [(0, .ref m0), (1, .int v29), (2, .int v30), (3, .int v31), (4, .int v32), (5, .int v33), (6, .int v34)] [] (ovT m0 M35 hb) := by
  intro n
  induction n with
  | zero =>
    intro v29 v30 v31 v32 v33 v34 M35 hF
    cases (show (none : Option TM) = some r from hF)
  | succ n hc49 =>
    intro v29 v30 v31 v32 v33 v34 M35 hF
    rw [T_laysDepth_L49] at hF
    refine v_iload dX6_laysDepth_49 6 rfl ?_
    refine v_aload_n dX6_laysDepth_51 rfl 0 rfl ?_
    obtain ⟨v42, e_v42, hF⟩ := Option.bind_eq_some_iff.mp hF
    refine v_calV1 dX6_laysDepth_52 vl_X6_112 q1837 rc_ov (ct_T_bookMany e_v42) rfl rfl (Nat.le_trans (Nat.le_of_ble_eq_true rfl) hfr) (Nat.le_trans (Nat.le_of_ble_eq_true rfl) hlo) (Nat.le_of_ble_eq_true rfl) ?_
    refine v_icmp_ge (tgt := 110) dX6_laysDepth_55 (by decide) hF (fun hF => ?_) (fun hF => ?_)
    · exact v_sub [0, 1, 2, 3, 4, 5] rfl (hx49 _ _ _ _ _ _ hF)
    · refine v_iload_n dX6_laysDepth_58 rfl 1 rfl ?_
      refine v_iload dX6_laysDepth_59 6 rfl ?_
      obtain ⟨v43, e_v43, hF⟩ := Option.bind_eq_some_iff.mp hF
      refine v_calS1 dX6_laysDepth_61 sl_X6_119 q1860 (ct_T_isIn e_v43) rfl rfl (Nat.le_trans (Nat.le_of_ble_eq_true rfl) hfr) (Nat.le_trans (Nat.le_of_ble_eq_true rfl) hlo) (Nat.le_of_ble_eq_true rfl) ?_
      refine v_if_eq (tgt := 100) dX6_laysDepth_64 (by decide) hF (fun hF => ?_) (fun hF => ?_)
      · exact v_sub [0, 1, 2, 3, 4, 5, 6] rfl (w_T_laysDepth_J100 hfr hlo hc49 hF)
      · refine v_aload_n dX6_laysDepth_67 rfl 0 rfl ?_
        refine t_geta 2 2 dX6_laysDepth_68 fl_X6_24 (Nat.le_of_ble_eq_true rfl) (fun _ _ => rfl) ?_
        refine v_bipush dX6_laysDepth_71 (v := 22) (by decide) ?_
        refine v_iload dX6_laysDepth_73 4 rfl ?_
        refine v_iadd dX6_laysDepth_75 ?_
        refine t_iald 2 dX6_laysDepth_76 rfl (Nat.le_of_ble_eq_true rfl) (by decide) hF (fun v58 hF => ?_)
        refine v_iload dX6_laysDepth_77 6 rfl ?_
        obtain ⟨v59, e_v59, hF⟩ := Option.bind_eq_some_iff.mp hF
        refine v_calS1 dX6_laysDepth_79 sl_X6_119 q1860 (ct_T_isIn e_v59) rfl rfl (Nat.le_trans (Nat.le_of_ble_eq_true rfl) hfr) (Nat.le_trans (Nat.le_of_ble_eq_true rfl) hlo) (Nat.le_of_ble_eq_true rfl) ?_
        refine v_if_eq (tgt := 100) dX6_laysDepth_82 (by decide) hF (fun hF => ?_) (fun hF => ?_)
        · exact v_sub [0, 1, 2, 3, 4, 5, 6] rfl (w_T_laysDepth_J100 hfr hlo hc49 hF)
        · refine v_iload dX6_laysDepth_85 5 rfl ?_
          refine v_aload_n dX6_laysDepth_87 rfl 0 rfl ?_
          refine t_geta 34 17 dX6_laysDepth_88 fl_X6_74 (Nat.le_of_ble_eq_true rfl) (fun _ _ => rfl) ?_
          refine v_iload dX6_laysDepth_91 6 rfl ?_
          refine t_iald 17 dX6_laysDepth_93 rfl (Nat.le_of_ble_eq_true rfl) (by decide) hF (fun v60 hF => ?_)
          obtain ⟨v61, e_v61, hF⟩ := Option.bind_eq_some_iff.mp hF
          refine v_calS1 dX6_laysDepth_94 sl_X6_346 q2159 (ct_T_greater e_v61) rfl rfl (Nat.le_trans (Nat.le_of_ble_eq_true rfl) hfr) (Nat.le_trans (Nat.le_of_ble_eq_true rfl) hlo) (Nat.le_of_ble_eq_true rfl) ?_
          refine v_goto (tgt := 102) dX6_laysDepth_97 (by decide) ?_
          exact v_sub [0, 1, 2, 3, 4, 6] rfl (w_T_laysDepth_J102 hfr hlo hc49 hF)
def T_laysDepth_J150 (N : Nat) (c34 : Int32 → Int32 → Int32 → Int32 → TM → Option TM) (v70 : Int32) (v71 : Int32) (v72 : Int32) (v73 : Int32) (v74 : Int32) (v75 : Int32) (M76 : TM) : Option TM :=
  (twa M76 34 8 v75 v74).bind fun M77 =>
  c34 v70 v71 v72 (v73 + (1 : Int32)) M77
theorem w_T_laysDepth_J150 {l : Launch} {G : GT} {fr lo : Nat} {h0 : Hp} {m0 : Nat} {hb : Hp} {N : Nat} {r : TM} (hfr : 1 ≤ fr) (hlo : 21 ≤ lo) {c34 : Int32 → Int32 → Int32 → Int32 → TM → Option TM} (hc34 : ∀ (v19 : Int32) (v20 : Int32) (v21 : Int32) (v22 : Int32) (M23 : TM), c34 v19 v20 v21 v22 M23 = some r → V l G cX6_laysDepth RX6 "laysDepth" 7 (Option.none : Option Jvm.ClassFile.FieldType) fr lo h0 (ovT m0 r hb) (QM G none h0 (ovT m0 r hb)) 34 [(0, .ref m0), (1, .int v19), (2, .int v20), (3, .int v21), (4, .int v22)] [] (ovT m0 M23 hb)) {v70 : Int32} {v71 : Int32} {v72 : Int32} {v73 : Int32} {v74 : Int32} {v75 : Int32} {M76 : TM} (hF : T_laysDepth_J150 N c34 v70 v71 v72 v73 v74 v75 M76 = some r) : V l G cX6_laysDepth RX6 "laysDepth" 7 (Option.none : Option Jvm.ClassFile.FieldType) fr lo h0 (ovT m0 r hb) (QM G none h0 (ovT m0 r hb)) 150 [(0, .ref m0), (1, .int v70), (2, .int v71), (3, .int v72), (4, .int v73)] [.int v74, .int v75, .ref (m0 + 17)] (ovT m0 M76 hb) := by
  unfold T_laysDepth_J150 at hF
  refine t_iast 17 dX6_laysDepth_150 rfl (Nat.le_of_ble_eq_true rfl) (by decide) hF (fun M77 hF => ?_)
  refine v_iinc dX6_laysDepth_151 4 rfl (v := v73 + (1 : Int32)) (by rfl) (Nat.le_of_ble_eq_true rfl) (L' := [(4, .int (v73 + (1 : Int32))), (0, .ref m0), (1, .int v70), (2, .int v71), (3, .int v72)]) rfl ?_
  refine v_goto (tgt := 34) dX6_laysDepth_154 (by decide) ?_
  exact v_sub [1, 2, 3, 4, 0] rfl (hc34 _ _ _ _ _ hF)
def T_laysDepth_J145 (N : Nat) (c34 : Int32 → Int32 → Int32 → Int32 → TM → Option TM) (v78 : Int32) (v79 : Int32) (v80 : Int32) (v81 : Int32) (v82 : Int32) (v83 : Int32) (v84 : Int32) (M85 : TM) : Option TM :=
  T_laysDepth_J150 N c34 v78 v79 v80 v81 (v83 + v82) v84 M85
theorem w_T_laysDepth_J145 {l : Launch} {G : GT} {fr lo : Nat} {h0 : Hp} {m0 : Nat} {hb : Hp} {N : Nat} {r : TM} (hfr : 1 ≤ fr) (hlo : 21 ≤ lo) {c34 : Int32 → Int32 → Int32 → Int32 → TM → Option TM} (hc34 : ∀ (v19 : Int32) (v20 : Int32) (v21 : Int32) (v22 : Int32) (M23 : TM), c34 v19 v20 v21 v22 M23 = some r → V l G cX6_laysDepth RX6 "laysDepth" 7 (Option.none : Option Jvm.ClassFile.FieldType) fr lo h0 (ovT m0 r hb) (QM G none h0 (ovT m0 r hb)) 34 [(0, .ref m0), (1, .int v19), (2, .int v20), (3, .int v21), (4, .int v22)] [] (ovT m0 M23 hb)) {v78 : Int32} {v79 : Int32} {v80 : Int32} {v81 : Int32} {v82 : Int32} {v83 : Int32} {v84 : Int32} {M85 : TM} (hF : T_laysDepth_J145 N c34 v78 v79 v80 v81 v82 v83 v84 M85 = some r) : V l G cX6_laysDepth RX6 "laysDepth" 7 (Option.none : Option Jvm.ClassFile.FieldType) fr lo h0 (ovT m0 r hb) (QM G none h0 (ovT m0 r hb)) 145 [(0, .ref m0), (1, .int v78), (2, .int v79), (3, .int v80), (4, .int v81)] [.int v82, .int v83, .int v84, .ref (m0 + 17)] (ovT m0 M85 hb) := by
  unfold T_laysDepth_J145 at hF
  refine v_iadd dX6_laysDepth_145 ?_
  refine v_goto (tgt := 150) dX6_laysDepth_146 (by decide) ?_
  exact v_sub [0, 1, 2, 3, 4] rfl (w_T_laysDepth_J150 hfr hlo hc34 hF)
def T_laysDepth_L34 (N : Nat) (x34 : Int32 → Int32 → Int32 → TM → Option TM) : Nat → Int32 → Int32 → Int32 → Int32 → TM → Option TM
  | 0, _, _, _, _, _ => none
  | n87 + 1, v19, v20, v21, v22, M23 =>
    (T_bookMany M23).bind fun v28 =>
    if v28 ≤ v22 then
      x34 v19 v20 v21 M23
    else
      T_laysDepth_L49 N (fun v63 v64 v65 v66 v67 M68 =>
        (T_isIn v63 v66).bind fun v69 =>
        if v69 = 0 then
          T_laysDepth_J150 N (T_laysDepth_L34 N x34 n87) v63 v64 v65 v66 (0 : Int32) v66 M68
        else
          if v64 = 0 then
            T_laysDepth_J145 N (T_laysDepth_L34 N x34 n87) v63 v64 v65 v66 (1 : Int32) v67 v66 M68
          else
            (tra M68 2 5660 ((6 : Int32) + v66)).bind fun v86 =>
            T_laysDepth_J145 N (T_laysDepth_L34 N x34 n87) v63 v64 v65 v66 v86 v67 v66 M68) N v19 v20 v21 v22 (0 : Int32) (0 : Int32) M23
theorem w_T_laysDepth_L34 {l : Launch} {G : GT} {fr lo : Nat} {h0 : Hp} {m0 : Nat} {hb : Hp} {N : Nat} {r : TM} (hfr : 1 ≤ fr) (hlo : 21 ≤ lo) {x34 : Int32 → Int32 → Int32 → TM → Option TM} (hx34 : ∀ (v24 : Int32) (v25 : Int32) (v26 : Int32) (M27 : TM), x34 v24 v25 v26 M27 = some r → V l G cX6_laysDepth RX6 "laysDepth" 7 (Option.none : Option Jvm.ClassFile.FieldType) fr lo h0 (ovT m0 r hb) (QM G none h0 (ovT m0 r hb)) 157 [(0, .ref m0), (1, .int v24), (2, .int v25), (3, .int v26)] [] (ovT m0 M27 hb)) : ∀ (n : Nat) (v19 : Int32) (v20 : Int32) (v21 : Int32) (v22 : Int32) (M23 : TM), T_laysDepth_L34 N x34 n v19 v20 v21 v22 M23 = some r → V l G cX6_laysDepth RX6 "laysDepth" 7 (Option.none : Option Jvm.ClassFile.FieldType) fr lo h0 (ovT m0 r hb) (QM G none h0 (ovT m0 r hb)) 34 [(0, .ref m0), (1, .int v19), (2, .int v20), (3, .int v21), (4, .int v22)] [] (ovT m0 M23 hb) := by
  intro n
  induction n with
  | zero =>
    intro v19 v20 v21 v22 M23 hF
    cases (show (none : Option TM) = some r from hF)
  | succ n hc34 =>
    intro v19 v20 v21 v22 M23 hF
    rw [T_laysDepth_L34] at hF
    refine v_iload dX6_laysDepth_34 4 rfl ?_
    refine v_aload_n dX6_laysDepth_36 rfl 0 rfl ?_
    obtain ⟨v28, e_v28, hF⟩ := Option.bind_eq_some_iff.mp hF
    refine v_calV1 dX6_laysDepth_37 vl_X6_112 q1837 rc_ov (ct_T_bookMany e_v28) rfl rfl (Nat.le_trans (Nat.le_of_ble_eq_true rfl) hfr) (Nat.le_trans (Nat.le_of_ble_eq_true rfl) hlo) (Nat.le_of_ble_eq_true rfl) ?_
    refine v_icmp_ge (tgt := 157) dX6_laysDepth_40 (by decide) hF (fun hF => ?_) (fun hF => ?_)
    · exact v_sub [0, 1, 2, 3] rfl (hx34 _ _ _ _ hF)
    · refine v_iconst dX6_laysDepth_43 (v := 0) (by decide) ?_
      refine v_istore dX6_laysDepth_44 (Nat.le_of_ble_eq_true rfl) (L' := [(5, .int (0 : Int32)), (0, .ref m0), (1, .int v19), (2, .int v20), (3, .int v21), (4, .int v22)]) rfl ?_
      refine v_iconst dX6_laysDepth_46 (v := 0) (by decide) ?_
      refine v_istore dX6_laysDepth_47 (Nat.le_of_ble_eq_true rfl) (L' := [(6, .int (0 : Int32)), (5, .int (0 : Int32)), (0, .ref m0), (1, .int v19), (2, .int v20), (3, .int v21), (4, .int v22)]) rfl ?_
      refine v_sub [2, 3, 4, 5, 6, 1, 0] rfl (w_T_laysDepth_L49 hfr hlo ?_ N _ _ _ _ _ _ _ hF)
      intro v63 v64 v65 v66 v67 M68 hF
      refine v_aload_n dX6_laysDepth_110 rfl 0 rfl ?_
      refine t_geta 34 17 dX6_laysDepth_111 fl_X6_74 (Nat.le_of_ble_eq_true rfl) (fun _ _ => rfl) ?_
      refine v_iload dX6_laysDepth_114 4 rfl ?_
      refine v_iload_n dX6_laysDepth_116 rfl 1 rfl ?_
      refine v_iload dX6_laysDepth_117 4 rfl ?_
      obtain ⟨v69, e_v69, hF⟩ := Option.bind_eq_some_iff.mp hF
      refine v_calS1 dX6_laysDepth_119 sl_X6_119 q1860 (ct_T_isIn e_v69) rfl rfl (Nat.le_trans (Nat.le_of_ble_eq_true rfl) hfr) (Nat.le_trans (Nat.le_of_ble_eq_true rfl) hlo) (Nat.le_of_ble_eq_true rfl) ?_
      refine v_if_eq (tgt := 149) dX6_laysDepth_122 (by decide) hF (fun hF => ?_) (fun hF => ?_)
      · refine v_iconst dX6_laysDepth_149 (v := 0) (by decide) ?_
        exact v_sub [0, 1, 2, 3, 4] rfl (w_T_laysDepth_J150 hfr hlo hc34 hF)
      · refine v_iload dX6_laysDepth_125 5 rfl ?_
        refine v_iload_n dX6_laysDepth_127 rfl 2 rfl ?_
        refine v_if_eq (tgt := 144) dX6_laysDepth_128 (by decide) hF (fun hF => ?_) (fun hF => ?_)
        · refine v_iconst dX6_laysDepth_144 (v := 1) (by decide) ?_
          exact v_sub [0, 1, 2, 3, 4] rfl (w_T_laysDepth_J145 hfr hlo hc34 hF)
        · refine v_aload_n dX6_laysDepth_131 rfl 0 rfl ?_
          refine t_geta 2 2 dX6_laysDepth_132 fl_X6_24 (Nat.le_of_ble_eq_true rfl) (fun _ _ => rfl) ?_
          refine v_bipush dX6_laysDepth_135 (v := 6) (by decide) ?_
          refine v_iload dX6_laysDepth_137 4 rfl ?_
          refine v_iadd dX6_laysDepth_139 ?_
          refine t_iald 2 dX6_laysDepth_140 rfl (Nat.le_of_ble_eq_true rfl) (by decide) hF (fun v86 hF => ?_)
          refine v_goto (tgt := 145) dX6_laysDepth_141 (by decide) ?_
          exact v_sub [0, 1, 2, 3, 4] rfl (w_T_laysDepth_J145 hfr hlo hc34 hF)
def T_laysDepth_L25 (N : Nat) (x25 : TM → Option TM) : Nat → Int32 → Int32 → Int32 → TM → Option TM
  | 0, _, _, _, _ => none
  | n92 + 1, v14, v15, v16, M17 =>
    if (8 : Int32) ≤ v16 then
      x25 M17
    else
      T_laysDepth_L34 N (fun v88 v89 v90 M91 =>
        (T_laysDepth_L25 N x25 n92) v88 v89 (v90 + (1 : Int32)) M91) N v14 v15 v16 (0 : Int32) M17
theorem w_T_laysDepth_L25 {l : Launch} {G : GT} {fr lo : Nat} {h0 : Hp} {m0 : Nat} {hb : Hp} {N : Nat} {r : TM} (hfr : 1 ≤ fr) (hlo : 21 ≤ lo) {x25 : TM → Option TM} (hx25 : ∀ (M18 : TM), x25 M18 = some r → V l G cX6_laysDepth RX6 "laysDepth" 7 (Option.none : Option Jvm.ClassFile.FieldType) fr lo h0 (ovT m0 r hb) (QM G none h0 (ovT m0 r hb)) 163 [] [] (ovT m0 M18 hb)) : ∀ (n : Nat) (v14 : Int32) (v15 : Int32) (v16 : Int32) (M17 : TM), T_laysDepth_L25 N x25 n v14 v15 v16 M17 = some r → V l G cX6_laysDepth RX6 "laysDepth" 7 (Option.none : Option Jvm.ClassFile.FieldType) fr lo h0 (ovT m0 r hb) (QM G none h0 (ovT m0 r hb)) 25 [(0, .ref m0), (1, .int v14), (2, .int v15), (3, .int v16)] [] (ovT m0 M17 hb) := by
  intro n
  induction n with
  | zero =>
    intro v14 v15 v16 M17 hF
    cases (show (none : Option TM) = some r from hF)
  | succ n hc25 =>
    intro v14 v15 v16 M17 hF
    rw [T_laysDepth_L25] at hF
    refine v_iload_n dX6_laysDepth_25 rfl 3 rfl ?_
    refine v_bipush dX6_laysDepth_26 (v := 8) (by decide) ?_
    refine v_icmp_ge (tgt := 163) dX6_laysDepth_28 (by decide) hF (fun hF => ?_) (fun hF => ?_)
    · exact v_sub [] rfl (hx25 _ hF)
    · refine v_iconst dX6_laysDepth_31 (v := 0) (by decide) ?_
      refine v_istore dX6_laysDepth_32 (Nat.le_of_ble_eq_true rfl) (L' := [(4, .int (0 : Int32)), (0, .ref m0), (1, .int v14), (2, .int v15), (3, .int v16)]) rfl ?_
      refine v_sub [1, 2, 3, 4, 0] rfl (w_T_laysDepth_L34 hfr hlo ?_ N _ _ _ _ _ hF)
      intro v88 v89 v90 M91 hF
      refine v_iinc dX6_laysDepth_157 3 rfl (v := v90 + (1 : Int32)) (by rfl) (Nat.le_of_ble_eq_true rfl) (L' := [(3, .int (v90 + (1 : Int32))), (0, .ref m0), (1, .int v88), (2, .int v89)]) rfl ?_
      refine v_goto (tgt := 25) dX6_laysDepth_160 (by decide) ?_
      exact v_sub [1, 2, 3, 0] rfl (hc25 _ _ _ _ hF)
def T_laysDepth (N : Nat) (a1 : Int32) (a2 : Int32) (M : TM) : Option TM :=
  T_laysDepth_L2 N (fun v11 v12 M13 =>
    T_laysDepth_L25 N (fun M93 =>
      some M93) N v11 v12 (0 : Int32) M13) N a1 a2 (0 : Int32) M
theorem w_T_laysDepth {l : Launch} {G : GT} {fr lo : Nat} {h0 : Hp} {m0 : Nat} {hb : Hp} {N : Nat} {r : TM} (hfr : 1 ≤ fr) (hlo : 21 ≤ lo) {a1 : Int32} {a2 : Int32} {M : TM} (hF : T_laysDepth N a1 a2 M = some r) : V l G cX6_laysDepth RX6 "laysDepth" 7 (Option.none : Option Jvm.ClassFile.FieldType) fr lo h0 (ovT m0 r hb) (QM G none h0 (ovT m0 r hb)) 0 [(0, .ref m0), (1, .int a1), (2, .int a2)] [] (ovT m0 M hb) := by
  unfold T_laysDepth at hF
  refine v_iconst dX6_laysDepth_0 (v := 0) (by decide) ?_
  refine v_istore_n dX6_laysDepth_1 rfl (Nat.le_of_ble_eq_true rfl) (L' := [(3, .int (0 : Int32)), (0, .ref m0), (1, .int a1), (2, .int a2)]) rfl ?_
  refine v_sub [1, 2, 3, 0] rfl (w_T_laysDepth_L2 hfr hlo ?_ N _ _ _ _ hF)
  intro v11 v12 M13 hF
  refine v_iconst dX6_laysDepth_23 (v := 0) (by decide) ?_
  refine v_istore_n dX6_laysDepth_24 rfl (Nat.le_of_ble_eq_true rfl) (L' := [(3, .int (0 : Int32)), (0, .ref m0), (1, .int v11), (2, .int v12)]) rfl ?_
  refine v_sub [1, 2, 3, 0] rfl (w_T_laysDepth_L25 hfr hlo ?_ N _ _ _ _ hF)
  intro M93 hF
  cases hF
  exact v_vret dX6_laysDepth_163 rfl rfl rfl
theorem ct_T_laysDepth {l : Launch} {G : GT} {m0 : Nat} {hb : Hp} {N : Nat} {r : TM} {a1 : Int32} {a2 : Int32} {M : TM} (hF : T_laysDepth N a1 a2 M = some r) : Ct l G yX6_laysDepth (ws_ yX6_laysDepth cX6_laysDepth 7 (Option.none : Option Jvm.ClassFile.FieldType)) 1 21 [.ref m0, .int a1, .int a2] (ovT m0 M hb) none (ovT m0 r hb) :=
  ct_of (by decide) (Nat.le_of_ble_eq_true rfl) (w_T_laysDepth (Nat.le_refl _) (Nat.le_refl _) hF)
theorem vl_X6_406 : ∀ ci ∈ [6], VL RX6 406 ci yX6_hasRing 1 := by
  intro ci h
  simp only [List.mem_cons, List.not_mem_nil, or_false] at h
  subst h; exact ⟨RX6, TX6, 56, rfl, q146, ⟨by decide, by decide⟩, by decide +kernel, q2215, Or.inl ⟨q2213, qs118⟩⟩
theorem vl_X6_409 : ∀ ci ∈ [6], VL RX6 409 ci yX6_laysDepth 2 := by
  intro ci h
  simp only [List.mem_cons, List.not_mem_nil, or_false] at h
  subst h; exact ⟨RX6, TX6, 56, rfl, q146, ⟨by decide, by decide⟩, by decide +kernel, q2219, Or.inl ⟨q2217, qs119⟩⟩
def T_deep (N : Nat) (a1 : Int32) (M : TM) : Option (Int32 × TM) :=
  (T_isBook M a1).bind fun v1 =>
  if v1 = 0 then
    some ((-1 : Int32), M)
  else
    (T_hasRing N M a1).bind fun v2 =>
    if v2 = 0 then
      (T_allNeeds N M a1).bind fun v3 =>
      (T_laysDepth N (v3 ||| ((1 : Int32) <<< (a1 &&& 31))) (0 : Int32) M).bind fun M4 =>
      (tra M4 34 8 a1).bind fun v5 =>
      some (v5, M4)
    else
      some ((-1 : Int32), M)
theorem w_T_deep {l : Launch} {G : GT} {fr lo : Nat} {h0 : Hp} {m0 : Nat} {hb : Hp} {N : Nat} {r : (Int32 × TM)} (hfr : 3 ≤ fr) (hlo : 69 ≤ lo) {a1 : Int32} {M : TM} (hF : T_deep N a1 M = some r) : V l G cX6_deep RX6 "deep" 2 (Option.some Jvm.ClassFile.FieldType.int) fr lo h0 (ovT m0 r.2 hb) (QM G (some (.int r.1)) h0 (ovT m0 r.2 hb)) 0 [(0, .ref m0), (1, .int a1)] [] (ovT m0 M hb) := by
  unfold T_deep at hF
  refine v_aload_n dX6_deep_0 rfl 0 rfl ?_
  refine v_iload_n dX6_deep_1 rfl 1 rfl ?_
  obtain ⟨v1, e_v1, hF⟩ := Option.bind_eq_some_iff.mp hF
  refine v_calV1 dX6_deep_2 vl_X6_130 q1849 rc_ov (ct_T_isBook e_v1) rfl rfl (Nat.le_trans (Nat.le_of_ble_eq_true rfl) hfr) (Nat.le_trans (Nat.le_of_ble_eq_true rfl) hlo) (Nat.le_of_ble_eq_true rfl) ?_
  refine v_if_eq (tgt := 16) dX6_deep_5 (by decide) hF (fun hF => ?_) (fun hF => ?_)
  · refine v_iconst dX6_deep_16 (v := -1) (by decide) ?_
    cases hF
    exact v_iret dX6_deep_17 rfl rfl rfl rfl
  · refine v_aload_n dX6_deep_8 rfl 0 rfl ?_
    refine v_iload_n dX6_deep_9 rfl 1 rfl ?_
    obtain ⟨v2, e_v2, hF⟩ := Option.bind_eq_some_iff.mp hF
    refine v_calV1 dX6_deep_10 vl_X6_406 q2216 rc_ov (ct_T_hasRing e_v2) rfl rfl (Nat.le_trans (Nat.le_of_ble_eq_true rfl) hfr) (Nat.le_trans (Nat.le_of_ble_eq_true rfl) hlo) (Nat.le_of_ble_eq_true rfl) ?_
    refine v_if_eq (tgt := 18) dX6_deep_13 (by decide) hF (fun hF => ?_) (fun hF => ?_)
    · refine v_aload_n dX6_deep_18 rfl 0 rfl ?_
      refine v_aload_n dX6_deep_19 rfl 0 rfl ?_
      refine v_iload_n dX6_deep_20 rfl 1 rfl ?_
      obtain ⟨v3, e_v3, hF⟩ := Option.bind_eq_some_iff.mp hF
      refine v_calV1 dX6_deep_21 vl_X6_379 q2167 rc_ov (ct_T_allNeeds e_v3) rfl rfl (Nat.le_trans (Nat.le_of_ble_eq_true rfl) hfr) (Nat.le_trans (Nat.le_of_ble_eq_true rfl) hlo) (Nat.le_of_ble_eq_true rfl) ?_
      refine v_iconst dX6_deep_24 (v := 1) (by decide) ?_
      refine v_iload_n dX6_deep_25 rfl 1 rfl ?_
      refine v_ishl dX6_deep_26 ?_
      refine v_ior dX6_deep_27 ?_
      refine v_iconst dX6_deep_28 (v := 0) (by decide) ?_
      obtain ⟨M4, e_M4, hF⟩ := Option.bind_eq_some_iff.mp hF
      refine v_calV0 dX6_deep_29 vl_X6_409 q2220 rc_ov (ct_T_laysDepth e_M4) rfl rfl (Nat.le_trans (Nat.le_of_ble_eq_true rfl) hfr) (Nat.le_trans (Nat.le_of_ble_eq_true rfl) hlo) (Nat.le_of_ble_eq_true rfl) ?_
      refine v_aload_n dX6_deep_32 rfl 0 rfl ?_
      refine t_geta 34 17 dX6_deep_33 fl_X6_74 (Nat.le_of_ble_eq_true rfl) (fun _ _ => rfl) ?_
      refine v_iload_n dX6_deep_36 rfl 1 rfl ?_
      refine t_iald 17 dX6_deep_37 rfl (Nat.le_of_ble_eq_true rfl) (by decide) hF (fun v5 hF => ?_)
      cases hF
      exact v_iret dX6_deep_38 rfl rfl rfl rfl
    · refine v_iconst dX6_deep_16 (v := -1) (by decide) ?_
      cases hF
      exact v_iret dX6_deep_17 rfl rfl rfl rfl
theorem ct_T_deep {l : Launch} {G : GT} {m0 : Nat} {hb : Hp} {N : Nat} {r : (Int32 × TM)} {a1 : Int32} {M : TM} (hF : T_deep N a1 M = some r) : Ct l G yX6_deep (ws_ yX6_deep cX6_deep 2 (Option.some Jvm.ClassFile.FieldType.int)) 3 69 [.ref m0, .int a1] (ovT m0 M hb) (some (.int r.1)) (ovT m0 r.2 hb) :=
  ct_of (by decide) (Nat.le_of_ble_eq_true rfl) (w_T_deep (Nat.le_refl _) (Nat.le_refl _) hF)
def T_atOnce_L13 (N : Nat) (x13 : Int32 → TM → Option (Int32 × TM)) : Nat → Int32 → Int32 → TM → Option (Int32 × TM)
  | 0, _, _, _ => none
  | n11 + 1, v3, v4, M5 =>
    (T_bookMany M5).bind fun v8 =>
    if v8 ≤ v4 then
      x13 v3 M5
    else
      (tra M5 34 8 v4).bind fun v9 =>
      (T_greater v3 v9).bind fun v10 =>
      (T_atOnce_L13 N x13 n11) v10 (v4 + (1 : Int32)) M5
theorem w_T_atOnce_L13 {l : Launch} {G : GT} {fr lo : Nat} {h0 : Hp} {m0 : Nat} {hb : Hp} {N : Nat} {r : (Int32 × TM)} (hfr : 4 ≤ fr) (hlo : 86 ≤ lo) {x13 : Int32 → TM → Option (Int32 × TM)} (hx13 : ∀ (v6 : Int32) (M7 : TM), x13 v6 M7 = some r → V l G cX6_atOnce RX6 "atOnce" 3 (Option.some Jvm.ClassFile.FieldType.int) fr lo h0 (ovT m0 r.2 hb) (QM G (some (.int r.1)) h0 (ovT m0 r.2 hb)) 38 [(1, .int v6)] [] (ovT m0 M7 hb)) : ∀ (n : Nat) (v3 : Int32) (v4 : Int32) (M5 : TM), T_atOnce_L13 N x13 n v3 v4 M5 = some r → V l G cX6_atOnce RX6 "atOnce" 3 (Option.some Jvm.ClassFile.FieldType.int) fr lo h0 (ovT m0 r.2 hb) (QM G (some (.int r.1)) h0 (ovT m0 r.2 hb)) 13 [(0, .ref m0), (1, .int v3), (2, .int v4)] [] (ovT m0 M5 hb) := by
  intro n
  induction n with
  | zero =>
    intro v3 v4 M5 hF
    cases (show (none : Option (Int32 × TM)) = some r from hF)
  | succ n hc13 =>
    intro v3 v4 M5 hF
    rw [T_atOnce_L13] at hF
    refine v_iload_n dX6_atOnce_13 rfl 2 rfl ?_
    refine v_aload_n dX6_atOnce_14 rfl 0 rfl ?_
    obtain ⟨v8, e_v8, hF⟩ := Option.bind_eq_some_iff.mp hF
    refine v_calV1 dX6_atOnce_15 vl_X6_112 q1837 rc_ov (ct_T_bookMany e_v8) rfl rfl (Nat.le_trans (Nat.le_of_ble_eq_true rfl) hfr) (Nat.le_trans (Nat.le_of_ble_eq_true rfl) hlo) (Nat.le_of_ble_eq_true rfl) ?_
    refine v_icmp_ge (tgt := 38) dX6_atOnce_18 (by decide) hF (fun hF => ?_) (fun hF => ?_)
    · exact v_sub [1] rfl (hx13 _ _ hF)
    · refine v_iload_n dX6_atOnce_21 rfl 1 rfl ?_
      refine v_aload_n dX6_atOnce_22 rfl 0 rfl ?_
      refine t_geta 34 17 dX6_atOnce_23 fl_X6_74 (Nat.le_of_ble_eq_true rfl) (fun _ _ => rfl) ?_
      refine v_iload_n dX6_atOnce_26 rfl 2 rfl ?_
      refine t_iald 17 dX6_atOnce_27 rfl (Nat.le_of_ble_eq_true rfl) (by decide) hF (fun v9 hF => ?_)
      obtain ⟨v10, e_v10, hF⟩ := Option.bind_eq_some_iff.mp hF
      refine v_calS1 dX6_atOnce_28 sl_X6_346 q2159 (ct_T_greater e_v10) rfl rfl (Nat.le_trans (Nat.le_of_ble_eq_true rfl) hfr) (Nat.le_trans (Nat.le_of_ble_eq_true rfl) hlo) (Nat.le_of_ble_eq_true rfl) ?_
      refine v_istore_n dX6_atOnce_31 rfl (Nat.le_of_ble_eq_true rfl) (L' := [(1, .int v10), (0, .ref m0), (2, .int v4)]) rfl ?_
      refine v_iinc dX6_atOnce_32 2 rfl (v := v4 + (1 : Int32)) (by rfl) (Nat.le_of_ble_eq_true rfl) (L' := [(2, .int (v4 + (1 : Int32))), (1, .int v10), (0, .ref m0)]) rfl ?_
      refine v_goto (tgt := 13) dX6_atOnce_35 (by decide) ?_
      exact v_sub [2, 1, 0] rfl (hc13 _ _ _ hF)
def T_atOnce (N : Nat) (M : TM) : Option (Int32 × TM) :=
  (T_toCome N M).bind fun v1 =>
  (T_laysDepth N v1 (1 : Int32) M).bind fun M2 =>
  T_atOnce_L13 N (fun v12 M13 =>
    some (v12, M13)) N (0 : Int32) (0 : Int32) M2
theorem w_T_atOnce {l : Launch} {G : GT} {fr lo : Nat} {h0 : Hp} {m0 : Nat} {hb : Hp} {N : Nat} {r : (Int32 × TM)} (hfr : 4 ≤ fr) (hlo : 86 ≤ lo) {M : TM} (hF : T_atOnce N M = some r) : V l G cX6_atOnce RX6 "atOnce" 3 (Option.some Jvm.ClassFile.FieldType.int) fr lo h0 (ovT m0 r.2 hb) (QM G (some (.int r.1)) h0 (ovT m0 r.2 hb)) 0 [(0, .ref m0)] [] (ovT m0 M hb) := by
  unfold T_atOnce at hF
  refine v_aload_n dX6_atOnce_0 rfl 0 rfl ?_
  refine v_aload_n dX6_atOnce_1 rfl 0 rfl ?_
  obtain ⟨v1, e_v1, hF⟩ := Option.bind_eq_some_iff.mp hF
  refine v_calV1 dX6_atOnce_2 vl_X6_394 q2191 rc_ov (ct_T_toCome e_v1) rfl rfl (Nat.le_trans (Nat.le_of_ble_eq_true rfl) hfr) (Nat.le_trans (Nat.le_of_ble_eq_true rfl) hlo) (Nat.le_of_ble_eq_true rfl) ?_
  refine v_iconst dX6_atOnce_5 (v := 1) (by decide) ?_
  obtain ⟨M2, e_M2, hF⟩ := Option.bind_eq_some_iff.mp hF
  refine v_calV0 dX6_atOnce_6 vl_X6_409 q2220 rc_ov (ct_T_laysDepth e_M2) rfl rfl (Nat.le_trans (Nat.le_of_ble_eq_true rfl) hfr) (Nat.le_trans (Nat.le_of_ble_eq_true rfl) hlo) (Nat.le_of_ble_eq_true rfl) ?_
  refine v_iconst dX6_atOnce_9 (v := 0) (by decide) ?_
  refine v_istore_n dX6_atOnce_10 rfl (Nat.le_of_ble_eq_true rfl) (L' := [(1, .int (0 : Int32)), (0, .ref m0)]) rfl ?_
  refine v_iconst dX6_atOnce_11 (v := 0) (by decide) ?_
  refine v_istore_n dX6_atOnce_12 rfl (Nat.le_of_ble_eq_true rfl) (L' := [(2, .int (0 : Int32)), (1, .int (0 : Int32)), (0, .ref m0)]) rfl ?_
  refine v_sub [2, 1, 0] rfl (w_T_atOnce_L13 hfr hlo ?_ N _ _ _ hF)
  intro v12 M13 hF
  refine v_iload_n dX6_atOnce_38 rfl 0 rfl ?_
  cases hF
  exact v_iret dX6_atOnce_39 rfl rfl rfl rfl
theorem ct_T_atOnce {l : Launch} {G : GT} {m0 : Nat} {hb : Hp} {N : Nat} {r : (Int32 × TM)} {M : TM} (hF : T_atOnce N M = some r) : Ct l G yX6_atOnce (ws_ yX6_atOnce cX6_atOnce 3 (Option.some Jvm.ClassFile.FieldType.int)) 4 86 [.ref m0] (ovT m0 M hb) (some (.int r.1)) (ovT m0 r.2 hb) :=
  ct_of (by decide) (Nat.le_of_ble_eq_true rfl) (w_T_atOnce (Nat.le_refl _) (Nat.le_refl _) hF)
def T_needIt_J48 (N : Nat) (M : TM) (c5 : Int32 → Int32 → Int32 → Int32 → Option Int32) (v11 : Int32) (v12 : Int32) (v13 : Int32) (v14 : Int32) (v15 : Int32) : Option Int32 :=
  c5 v11 v12 (v15 + v14) (v13 + (1 : Int32))
theorem w_T_needIt_J48 {l : Launch} {G : GT} {fr lo : Nat} {h0 : Hp} {m0 : Nat} {hb : Hp} {N : Nat} {M : TM} {r : Int32} (hfr : 2 ≤ fr) (hlo : 45 ≤ lo) {c5 : Int32 → Int32 → Int32 → Int32 → Option Int32} (hc5 : ∀ (v1 : Int32) (v2 : Int32) (v3 : Int32) (v4 : Int32), c5 v1 v2 v3 v4 = some r → V l G cX6_needIt RX6 "needIt" 5 (Option.some Jvm.ClassFile.FieldType.int) fr lo h0 (ovT m0 M hb) (QM G (some (.int r)) h0 (ovT m0 M hb)) 5 [(0, .ref m0), (1, .int v1), (2, .int v2), (3, .int v3), (4, .int v4)] [] (ovT m0 M hb)) {v11 : Int32} {v12 : Int32} {v13 : Int32} {v14 : Int32} {v15 : Int32} (hF : T_needIt_J48 N M c5 v11 v12 v13 v14 v15 = some r) : V l G cX6_needIt RX6 "needIt" 5 (Option.some Jvm.ClassFile.FieldType.int) fr lo h0 (ovT m0 M hb) (QM G (some (.int r)) h0 (ovT m0 M hb)) 48 [(0, .ref m0), (1, .int v11), (2, .int v12), (4, .int v13)] [.int v14, .int v15] (ovT m0 M hb) := by
  unfold T_needIt_J48 at hF
  refine v_iadd dX6_needIt_48 ?_
  refine v_istore_n dX6_needIt_49 rfl (Nat.le_of_ble_eq_true rfl) (L' := [(3, .int (v15 + v14)), (0, .ref m0), (1, .int v11), (2, .int v12), (4, .int v13)]) rfl ?_
  refine v_iinc dX6_needIt_50 4 rfl (v := v13 + (1 : Int32)) (by rfl) (Nat.le_of_ble_eq_true rfl) (L' := [(4, .int (v13 + (1 : Int32))), (3, .int (v15 + v14)), (0, .ref m0), (1, .int v11), (2, .int v12)]) rfl ?_
  refine v_goto (tgt := 5) dX6_needIt_53 (by decide) ?_
  exact v_sub [2, 3, 4, 1, 0] rfl (hc5 _ _ _ _ hF)
def T_needIt_J47 (N : Nat) (M : TM) (c5 : Int32 → Int32 → Int32 → Int32 → Option Int32) (v7 : Int32) (v8 : Int32) (v9 : Int32) (v10 : Int32) : Option Int32 :=
  T_needIt_J48 N M c5 v7 v8 v9 (0 : Int32) v10
theorem w_T_needIt_J47 {l : Launch} {G : GT} {fr lo : Nat} {h0 : Hp} {m0 : Nat} {hb : Hp} {N : Nat} {M : TM} {r : Int32} (hfr : 2 ≤ fr) (hlo : 45 ≤ lo) {c5 : Int32 → Int32 → Int32 → Int32 → Option Int32} (hc5 : ∀ (v1 : Int32) (v2 : Int32) (v3 : Int32) (v4 : Int32), c5 v1 v2 v3 v4 = some r → V l G cX6_needIt RX6 "needIt" 5 (Option.some Jvm.ClassFile.FieldType.int) fr lo h0 (ovT m0 M hb) (QM G (some (.int r)) h0 (ovT m0 M hb)) 5 [(0, .ref m0), (1, .int v1), (2, .int v2), (3, .int v3), (4, .int v4)] [] (ovT m0 M hb)) {v7 : Int32} {v8 : Int32} {v9 : Int32} {v10 : Int32} (hF : T_needIt_J47 N M c5 v7 v8 v9 v10 = some r) : V l G cX6_needIt RX6 "needIt" 5 (Option.some Jvm.ClassFile.FieldType.int) fr lo h0 (ovT m0 M hb) (QM G (some (.int r)) h0 (ovT m0 M hb)) 47 [(0, .ref m0), (1, .int v7), (2, .int v8), (4, .int v9)] [.int v10] (ovT m0 M hb) := by
  unfold T_needIt_J47 at hF
  refine v_iconst dX6_needIt_47 (v := 0) (by decide) ?_
  exact v_sub [0, 1, 2, 3] rfl (w_T_needIt_J48 hfr hlo hc5 hF)
def T_needIt_L5 (N : Nat) (M : TM) (x5 : Int32 → Option Int32) : Nat → Int32 → Int32 → Int32 → Int32 → Option Int32
  | 0, _, _, _, _ => none
  | n19 + 1, v1, v2, v3, v4 =>
    (T_bookMany M).bind fun v6 =>
    if v6 ≤ v4 then
      x5 v3
    else
      if v4 = v1 then
        T_needIt_J47 N M (T_needIt_L5 N M x5 n19) v1 v2 v4 v3
      else
        (T_isIn v2 v4).bind fun v16 =>
        if v16 = 0 then
          T_needIt_J47 N M (T_needIt_L5 N M x5 n19) v1 v2 v4 v3
        else
          (T_allNeeds N M v4).bind fun v17 =>
          (T_isIn v17 v1).bind fun v18 =>
          if v18 = 0 then
            T_needIt_J47 N M (T_needIt_L5 N M x5 n19) v1 v2 v4 v3
          else
            T_needIt_J48 N M (T_needIt_L5 N M x5 n19) v1 v2 v4 (1 : Int32) v3
theorem w_T_needIt_L5 {l : Launch} {G : GT} {fr lo : Nat} {h0 : Hp} {m0 : Nat} {hb : Hp} {N : Nat} {M : TM} {r : Int32} (hfr : 2 ≤ fr) (hlo : 45 ≤ lo) {x5 : Int32 → Option Int32} (hx5 : ∀ (v5 : Int32), x5 v5 = some r → V l G cX6_needIt RX6 "needIt" 5 (Option.some Jvm.ClassFile.FieldType.int) fr lo h0 (ovT m0 M hb) (QM G (some (.int r)) h0 (ovT m0 M hb)) 56 [(3, .int v5)] [] (ovT m0 M hb)) : ∀ (n : Nat) (v1 : Int32) (v2 : Int32) (v3 : Int32) (v4 : Int32), T_needIt_L5 N M x5 n v1 v2 v3 v4 = some r → V l G cX6_needIt RX6 "needIt" 5 (Option.some Jvm.ClassFile.FieldType.int) fr lo h0 (ovT m0 M hb) (QM G (some (.int r)) h0 (ovT m0 M hb)) 5 [(0, .ref m0), (1, .int v1), (2, .int v2), (3, .int v3), (4, .int v4)] [] (ovT m0 M hb) := by
  intro n
  induction n with
  | zero =>
    intro v1 v2 v3 v4 hF
    cases (show (none : Option Int32) = some r from hF)
  | succ n hc5 =>
    intro v1 v2 v3 v4 hF
    rw [T_needIt_L5] at hF
    refine v_iload dX6_needIt_5 4 rfl ?_
    refine v_aload_n dX6_needIt_7 rfl 0 rfl ?_
    obtain ⟨v6, e_v6, hF⟩ := Option.bind_eq_some_iff.mp hF
    refine v_calV1 dX6_needIt_8 vl_X6_112 q1837 rc_ov (ct_T_bookMany e_v6) rfl rfl (Nat.le_trans (Nat.le_of_ble_eq_true rfl) hfr) (Nat.le_trans (Nat.le_of_ble_eq_true rfl) hlo) (Nat.le_of_ble_eq_true rfl) ?_
    refine v_icmp_ge (tgt := 56) dX6_needIt_11 (by decide) hF (fun hF => ?_) (fun hF => ?_)
    · exact v_sub [3] rfl (hx5 _ hF)
    · refine v_iload_n dX6_needIt_14 rfl 3 rfl ?_
      refine v_iload dX6_needIt_15 4 rfl ?_
      refine v_iload_n dX6_needIt_17 rfl 1 rfl ?_
      refine v_icmp_eq (tgt := 47) dX6_needIt_18 (by decide) hF (fun hF => ?_) (fun hF => ?_)
      · exact v_sub [0, 1, 2, 4] rfl (w_T_needIt_J47 hfr hlo hc5 hF)
      · refine v_iload_n dX6_needIt_21 rfl 2 rfl ?_
        refine v_iload dX6_needIt_22 4 rfl ?_
        obtain ⟨v16, e_v16, hF⟩ := Option.bind_eq_some_iff.mp hF
        refine v_calS1 dX6_needIt_24 sl_X6_119 q1860 (ct_T_isIn e_v16) rfl rfl (Nat.le_trans (Nat.le_of_ble_eq_true rfl) hfr) (Nat.le_trans (Nat.le_of_ble_eq_true rfl) hlo) (Nat.le_of_ble_eq_true rfl) ?_
        refine v_if_eq (tgt := 47) dX6_needIt_27 (by decide) hF (fun hF => ?_) (fun hF => ?_)
        · exact v_sub [0, 1, 2, 4] rfl (w_T_needIt_J47 hfr hlo hc5 hF)
        · refine v_aload_n dX6_needIt_30 rfl 0 rfl ?_
          refine v_iload dX6_needIt_31 4 rfl ?_
          obtain ⟨v17, e_v17, hF⟩ := Option.bind_eq_some_iff.mp hF
          refine v_calV1 dX6_needIt_33 vl_X6_379 q2167 rc_ov (ct_T_allNeeds e_v17) rfl rfl (Nat.le_trans (Nat.le_of_ble_eq_true rfl) hfr) (Nat.le_trans (Nat.le_of_ble_eq_true rfl) hlo) (Nat.le_of_ble_eq_true rfl) ?_
          refine v_iload_n dX6_needIt_36 rfl 1 rfl ?_
          obtain ⟨v18, e_v18, hF⟩ := Option.bind_eq_some_iff.mp hF
          refine v_calS1 dX6_needIt_37 sl_X6_119 q1860 (ct_T_isIn e_v18) rfl rfl (Nat.le_trans (Nat.le_of_ble_eq_true rfl) hfr) (Nat.le_trans (Nat.le_of_ble_eq_true rfl) hlo) (Nat.le_of_ble_eq_true rfl) ?_
          refine v_if_eq (tgt := 47) dX6_needIt_40 (by decide) hF (fun hF => ?_) (fun hF => ?_)
          · exact v_sub [0, 1, 2, 4] rfl (w_T_needIt_J47 hfr hlo hc5 hF)
          · refine v_iconst dX6_needIt_43 (v := 1) (by decide) ?_
            refine v_goto (tgt := 48) dX6_needIt_44 (by decide) ?_
            exact v_sub [0, 1, 2, 4] rfl (w_T_needIt_J48 hfr hlo hc5 hF)
def T_needIt (N : Nat) (M : TM) (a1 : Int32) (a2 : Int32) : Option Int32 :=
  T_needIt_L5 N M (fun v20 =>
    some v20) N a1 a2 (0 : Int32) (0 : Int32)
theorem w_T_needIt {l : Launch} {G : GT} {fr lo : Nat} {h0 : Hp} {m0 : Nat} {hb : Hp} {N : Nat} {M : TM} {r : Int32} (hfr : 2 ≤ fr) (hlo : 45 ≤ lo) {a1 : Int32} {a2 : Int32} (hF : T_needIt N M a1 a2 = some r) : V l G cX6_needIt RX6 "needIt" 5 (Option.some Jvm.ClassFile.FieldType.int) fr lo h0 (ovT m0 M hb) (QM G (some (.int r)) h0 (ovT m0 M hb)) 0 [(0, .ref m0), (1, .int a1), (2, .int a2)] [] (ovT m0 M hb) := by
  unfold T_needIt at hF
  refine v_iconst dX6_needIt_0 (v := 0) (by decide) ?_
  refine v_istore_n dX6_needIt_1 rfl (Nat.le_of_ble_eq_true rfl) (L' := [(3, .int (0 : Int32)), (0, .ref m0), (1, .int a1), (2, .int a2)]) rfl ?_
  refine v_iconst dX6_needIt_2 (v := 0) (by decide) ?_
  refine v_istore dX6_needIt_3 (Nat.le_of_ble_eq_true rfl) (L' := [(4, .int (0 : Int32)), (3, .int (0 : Int32)), (0, .ref m0), (1, .int a1), (2, .int a2)]) rfl ?_
  refine v_sub [2, 3, 4, 1, 0] rfl (w_T_needIt_L5 hfr hlo ?_ N _ _ _ _ hF)
  intro v20 hF
  refine v_iload_n dX6_needIt_56 rfl 0 rfl ?_
  cases hF
  exact v_iret dX6_needIt_57 rfl rfl rfl rfl
theorem ct_T_needIt {l : Launch} {G : GT} {m0 : Nat} {hb : Hp} {N : Nat} {M : TM} {r : Int32} {a1 : Int32} {a2 : Int32} (hF : T_needIt N M a1 a2 = some r) : Ct l G yX6_needIt (ws_ yX6_needIt cX6_needIt 5 (Option.some Jvm.ClassFile.FieldType.int)) 2 45 [.ref m0, .int a1, .int a2] (ovT m0 M hb) (some (.int r)) (ovT m0 M hb) :=
  ct_of (by decide) (Nat.le_of_ble_eq_true rfl) (w_T_needIt (Nat.le_refl _) (Nat.le_refl _) hF)
theorem vl_X6_413 : ∀ ci ∈ [6], VL RX6 413 ci yX6_needIt 2 := by
  intro ci h
  simp only [List.mem_cons, List.not_mem_nil, or_false] at h
  subst h; exact ⟨RX6, TX6, 56, rfl, q146, ⟨by decide, by decide⟩, by decide +kernel, q2231, Or.inl ⟨q2229, qs120⟩⟩
def T_key_J72 (N : Nat) (M : TM) (c24 : Int32 → Int32 → Int32 → Int32 → Int32 → Option Int32) (v19 : Int32) (v20 : Int32) (v21 : Int32) (v22 : Int32) (v23 : Int32) : Option Int32 :=
  c24 v19 v20 v21 v22 (v23 + (1 : Int32))
theorem w_T_key_J72 {l : Launch} {G : GT} {fr lo : Nat} {h0 : Hp} {m0 : Nat} {hb : Hp} {N : Nat} {M : TM} {r : Int32} (hfr : 4 ≤ fr) (hlo : 86 ≤ lo) {c24 : Int32 → Int32 → Int32 → Int32 → Int32 → Option Int32} (hc24 : ∀ (v3 : Int32) (v4 : Int32) (v5 : Int32) (v6 : Int32) (v7 : Int32), c24 v3 v4 v5 v6 v7 = some r → V l G cX6_key RX6 "key" 7 (Option.some Jvm.ClassFile.FieldType.int) fr lo h0 (ovT m0 M hb) (QM G (some (.int r)) h0 (ovT m0 M hb)) 24 [(0, .ref m0), (1, .int v3), (2, .int v4), (3, .int v5), (4, .int v6), (5, .int v7)] [] (ovT m0 M hb)) {v19 : Int32} {v20 : Int32} {v21 : Int32} {v22 : Int32} {v23 : Int32} (hF : T_key_J72 N M c24 v19 v20 v21 v22 v23 = some r) : V l G cX6_key RX6 "key" 7 (Option.some Jvm.ClassFile.FieldType.int) fr lo h0 (ovT m0 M hb) (QM G (some (.int r)) h0 (ovT m0 M hb)) 72 [(0, .ref m0), (1, .int v19), (2, .int v20), (3, .int v21), (4, .int v22), (5, .int v23)] [] (ovT m0 M hb) := by
  unfold T_key_J72 at hF
  refine v_iinc dX6_key_72 5 rfl (v := v23 + (1 : Int32)) (by rfl) (Nat.le_of_ble_eq_true rfl) (L' := [(5, .int (v23 + (1 : Int32))), (0, .ref m0), (1, .int v19), (2, .int v20), (3, .int v21), (4, .int v22)]) rfl ?_
  refine v_goto (tgt := 24) dX6_key_75 (by decide) ?_
  exact v_sub [1, 2, 3, 4, 5, 0] rfl (hc24 _ _ _ _ _ hF)
def T_key_J53 (N : Nat) (M : TM) (c24 : Int32 → Int32 → Int32 → Int32 → Int32 → Option Int32) (v13 : Int32) (v14 : Int32) (v15 : Int32) (v16 : Int32) (v17 : Int32) (v18 : Int32) : Option Int32 :=
  if v16 < v18 then
    T_key_J72 N M c24 v13 v14 v17 v18 v17
  else
    T_key_J72 N M c24 v13 v14 v15 v16 v17
theorem w_T_key_J53 {l : Launch} {G : GT} {fr lo : Nat} {h0 : Hp} {m0 : Nat} {hb : Hp} {N : Nat} {M : TM} {r : Int32} (hfr : 4 ≤ fr) (hlo : 86 ≤ lo) {c24 : Int32 → Int32 → Int32 → Int32 → Int32 → Option Int32} (hc24 : ∀ (v3 : Int32) (v4 : Int32) (v5 : Int32) (v6 : Int32) (v7 : Int32), c24 v3 v4 v5 v6 v7 = some r → V l G cX6_key RX6 "key" 7 (Option.some Jvm.ClassFile.FieldType.int) fr lo h0 (ovT m0 M hb) (QM G (some (.int r)) h0 (ovT m0 M hb)) 24 [(0, .ref m0), (1, .int v3), (2, .int v4), (3, .int v5), (4, .int v6), (5, .int v7)] [] (ovT m0 M hb)) {v13 : Int32} {v14 : Int32} {v15 : Int32} {v16 : Int32} {v17 : Int32} {v18 : Int32} (hF : T_key_J53 N M c24 v13 v14 v15 v16 v17 v18 = some r) : V l G cX6_key RX6 "key" 7 (Option.some Jvm.ClassFile.FieldType.int) fr lo h0 (ovT m0 M hb) (QM G (some (.int r)) h0 (ovT m0 M hb)) 53 [(0, .ref m0), (1, .int v13), (2, .int v14), (3, .int v15), (4, .int v16), (5, .int v17)] [.int v18] (ovT m0 M hb) := by
  unfold T_key_J53 at hF
  refine v_istore dX6_key_53 (Nat.le_of_ble_eq_true rfl) (L' := [(6, .int v18), (0, .ref m0), (1, .int v13), (2, .int v14), (3, .int v15), (4, .int v16), (5, .int v17)]) rfl ?_
  refine v_iload dX6_key_55 0 rfl ?_
  refine v_iload dX6_key_57 5 rfl ?_
  refine v_icmp_gt (tgt := 65) dX6_key_59 (by decide) hF (fun hF => ?_) (fun hF => ?_)
  · refine v_iload dX6_key_65 0 rfl ?_
    refine v_istore dX6_key_67 (Nat.le_of_ble_eq_true rfl) (L' := [(4, .int v18), (6, .int v18), (0, .ref m0), (1, .int v13), (2, .int v14), (3, .int v15), (5, .int v17)]) rfl ?_
    refine v_iload dX6_key_69 6 rfl ?_
    refine v_istore_n dX6_key_71 rfl (Nat.le_of_ble_eq_true rfl) (L' := [(3, .int v17), (4, .int v18), (6, .int v18), (0, .ref m0), (1, .int v13), (2, .int v14), (5, .int v17)]) rfl ?_
    exact v_sub [3, 4, 5, 0, 1, 6] rfl (w_T_key_J72 hfr hlo hc24 hF)
  · refine v_goto (tgt := 72) dX6_key_62 (by decide) ?_
    exact v_sub [1, 2, 3, 4, 5, 6] rfl (w_T_key_J72 hfr hlo hc24 hF)
def T_key_L24 (N : Nat) (M : TM) (x24 : Int32 → Int32 → Int32 → Option Int32) : Nat → Int32 → Int32 → Int32 → Int32 → Int32 → Option Int32
  | 0, _, _, _, _, _ => none
  | n25 + 1, v3, v4, v5, v6, v7 =>
    (T_bookMany M).bind fun v11 =>
    if v11 ≤ v7 then
      x24 v3 v5 v6
    else
      (T_isIn v4 v7).bind fun v12 =>
      if v12 = 0 then
        T_key_J53 N M (T_key_L24 N M x24 n25) v3 v4 v5 v6 v7 (-1 : Int32)
      else
        (T_needIt N M v7 v4).bind fun v24 =>
        T_key_J53 N M (T_key_L24 N M x24 n25) v3 v4 v5 v6 v7 v24
theorem w_T_key_L24 {l : Launch} {G : GT} {fr lo : Nat} {h0 : Hp} {m0 : Nat} {hb : Hp} {N : Nat} {M : TM} {r : Int32} (hfr : 4 ≤ fr) (hlo : 86 ≤ lo) {x24 : Int32 → Int32 → Int32 → Option Int32} (hx24 : ∀ (v8 : Int32) (v9 : Int32) (v10 : Int32), x24 v8 v9 v10 = some r → V l G cX6_key RX6 "key" 7 (Option.some Jvm.ClassFile.FieldType.int) fr lo h0 (ovT m0 M hb) (QM G (some (.int r)) h0 (ovT m0 M hb)) 78 [(1, .int v8), (3, .int v9), (4, .int v10)] [] (ovT m0 M hb)) : ∀ (n : Nat) (v3 : Int32) (v4 : Int32) (v5 : Int32) (v6 : Int32) (v7 : Int32), T_key_L24 N M x24 n v3 v4 v5 v6 v7 = some r → V l G cX6_key RX6 "key" 7 (Option.some Jvm.ClassFile.FieldType.int) fr lo h0 (ovT m0 M hb) (QM G (some (.int r)) h0 (ovT m0 M hb)) 24 [(0, .ref m0), (1, .int v3), (2, .int v4), (3, .int v5), (4, .int v6), (5, .int v7)] [] (ovT m0 M hb) := by
  intro n
  induction n with
  | zero =>
    intro v3 v4 v5 v6 v7 hF
    cases (show (none : Option Int32) = some r from hF)
  | succ n hc24 =>
    intro v3 v4 v5 v6 v7 hF
    rw [T_key_L24] at hF
    refine v_iload dX6_key_24 5 rfl ?_
    refine v_aload_n dX6_key_26 rfl 0 rfl ?_
    obtain ⟨v11, e_v11, hF⟩ := Option.bind_eq_some_iff.mp hF
    refine v_calV1 dX6_key_27 vl_X6_112 q1837 rc_ov (ct_T_bookMany e_v11) rfl rfl (Nat.le_trans (Nat.le_of_ble_eq_true rfl) hfr) (Nat.le_trans (Nat.le_of_ble_eq_true rfl) hlo) (Nat.le_of_ble_eq_true rfl) ?_
    refine v_icmp_ge (tgt := 78) dX6_key_30 (by decide) hF (fun hF => ?_) (fun hF => ?_)
    · exact v_sub [1, 3, 4] rfl (hx24 _ _ _ hF)
    · refine v_iload_n dX6_key_33 rfl 2 rfl ?_
      refine v_iload dX6_key_34 5 rfl ?_
      obtain ⟨v12, e_v12, hF⟩ := Option.bind_eq_some_iff.mp hF
      refine v_calS1 dX6_key_36 sl_X6_119 q1860 (ct_T_isIn e_v12) rfl rfl (Nat.le_trans (Nat.le_of_ble_eq_true rfl) hfr) (Nat.le_trans (Nat.le_of_ble_eq_true rfl) hlo) (Nat.le_of_ble_eq_true rfl) ?_
      refine v_if_eq (tgt := 52) dX6_key_39 (by decide) hF (fun hF => ?_) (fun hF => ?_)
      · refine v_iconst dX6_key_52 (v := -1) (by decide) ?_
        exact v_sub [0, 1, 2, 3, 4, 5] rfl (w_T_key_J53 hfr hlo hc24 hF)
      · refine v_aload_n dX6_key_42 rfl 0 rfl ?_
        refine v_iload dX6_key_43 5 rfl ?_
        refine v_iload_n dX6_key_45 rfl 2 rfl ?_
        obtain ⟨v24, e_v24, hF⟩ := Option.bind_eq_some_iff.mp hF
        refine v_calV1 dX6_key_46 vl_X6_413 q2232 rc_ov (ct_T_needIt e_v24) rfl rfl (Nat.le_trans (Nat.le_of_ble_eq_true rfl) hfr) (Nat.le_trans (Nat.le_of_ble_eq_true rfl) hlo) (Nat.le_of_ble_eq_true rfl) ?_
        refine v_goto (tgt := 53) dX6_key_49 (by decide) ?_
        exact v_sub [0, 1, 2, 3, 4, 5] rfl (w_T_key_J53 hfr hlo hc24 hF)
def T_key (N : Nat) (M : TM) (a1 : Int32) : Option Int32 :=
  (T_lies a1 (0 : Int32) (1 : Int32)).bind fun v1 =>
  if v1 = 0 then
    some (-1 : Int32)
  else
    (T_toCome N M).bind fun v2 =>
    T_key_L24 N M (fun v26 v27 v28 =>
      if v27 = (-1 : Int32) then
        some v27
      else
        if v26 = 0 then
          some v27
        else
          some v28) N a1 v2 (-1 : Int32) (-1 : Int32) (0 : Int32)
theorem w_T_key {l : Launch} {G : GT} {fr lo : Nat} {h0 : Hp} {m0 : Nat} {hb : Hp} {N : Nat} {M : TM} {r : Int32} (hfr : 4 ≤ fr) (hlo : 86 ≤ lo) {a1 : Int32} (hF : T_key N M a1 = some r) : V l G cX6_key RX6 "key" 7 (Option.some Jvm.ClassFile.FieldType.int) fr lo h0 (ovT m0 M hb) (QM G (some (.int r)) h0 (ovT m0 M hb)) 0 [(0, .ref m0), (1, .int a1)] [] (ovT m0 M hb) := by
  unfold T_key at hF
  refine v_iload_n dX6_key_0 rfl 1 rfl ?_
  refine v_iconst dX6_key_1 (v := 0) (by decide) ?_
  refine v_iconst dX6_key_2 (v := 1) (by decide) ?_
  obtain ⟨v1, e_v1, hF⟩ := Option.bind_eq_some_iff.mp hF
  refine v_calS1 dX6_key_3 sl_X6_102 q1810 (ct_T_lies e_v1) rfl rfl (Nat.le_trans (Nat.le_of_ble_eq_true rfl) hfr) (Nat.le_trans (Nat.le_of_ble_eq_true rfl) hlo) (Nat.le_of_ble_eq_true rfl) ?_
  refine v_if_ne (tgt := 11) dX6_key_6 (by decide) hF (fun hF => ?_) (fun hF => ?_)
  · refine v_aload_n dX6_key_11 rfl 0 rfl ?_
    obtain ⟨v2, e_v2, hF⟩ := Option.bind_eq_some_iff.mp hF
    refine v_calV1 dX6_key_12 vl_X6_394 q2191 rc_ov (ct_T_toCome e_v2) rfl rfl (Nat.le_trans (Nat.le_of_ble_eq_true rfl) hfr) (Nat.le_trans (Nat.le_of_ble_eq_true rfl) hlo) (Nat.le_of_ble_eq_true rfl) ?_
    refine v_istore_n dX6_key_15 rfl (Nat.le_of_ble_eq_true rfl) (L' := [(2, .int v2), (0, .ref m0), (1, .int a1)]) rfl ?_
    refine v_iconst dX6_key_16 (v := -1) (by decide) ?_
    refine v_istore_n dX6_key_17 rfl (Nat.le_of_ble_eq_true rfl) (L' := [(3, .int (-1 : Int32)), (2, .int v2), (0, .ref m0), (1, .int a1)]) rfl ?_
    refine v_iconst dX6_key_18 (v := -1) (by decide) ?_
    refine v_istore dX6_key_19 (Nat.le_of_ble_eq_true rfl) (L' := [(4, .int (-1 : Int32)), (3, .int (-1 : Int32)), (2, .int v2), (0, .ref m0), (1, .int a1)]) rfl ?_
    refine v_iconst dX6_key_21 (v := 0) (by decide) ?_
    refine v_istore dX6_key_22 (Nat.le_of_ble_eq_true rfl) (L' := [(5, .int (0 : Int32)), (4, .int (-1 : Int32)), (3, .int (-1 : Int32)), (2, .int v2), (0, .ref m0), (1, .int a1)]) rfl ?_
    refine v_sub [4, 5, 3, 2, 1, 0] rfl (w_T_key_L24 hfr hlo ?_ N _ _ _ _ _ hF)
    intro v26 v27 v28 hF
    refine v_iload_n dX6_key_78 rfl 1 rfl ?_
    refine v_iconst dX6_key_79 (v := -1) (by decide) ?_
    refine v_icmp_eq (tgt := 87) dX6_key_80 (by decide) hF (fun hF => ?_) (fun hF => ?_)
    · refine v_iload_n dX6_key_87 rfl 1 rfl ?_
      refine v_goto (tgt := 93) dX6_key_88 (by decide) ?_
      cases hF
      exact v_iret dX6_key_93 rfl rfl rfl rfl
    · refine v_iload_n dX6_key_83 rfl 0 rfl ?_
      refine v_if_ne (tgt := 91) dX6_key_84 (by decide) hF (fun hF => ?_) (fun hF => ?_)
      · refine v_iload dX6_key_91 2 rfl ?_
        cases hF
        exact v_iret dX6_key_93 rfl rfl rfl rfl
      · refine v_iload_n dX6_key_87 rfl 1 rfl ?_
        refine v_goto (tgt := 93) dX6_key_88 (by decide) ?_
        cases hF
        exact v_iret dX6_key_93 rfl rfl rfl rfl
  · refine v_iconst dX6_key_9 (v := -1) (by decide) ?_
    cases hF
    exact v_iret dX6_key_10 rfl rfl rfl rfl
theorem ct_T_key {l : Launch} {G : GT} {m0 : Nat} {hb : Hp} {N : Nat} {M : TM} {r : Int32} {a1 : Int32} (hF : T_key N M a1 = some r) : Ct l G yX6_key (ws_ yX6_key cX6_key 7 (Option.some Jvm.ClassFile.FieldType.int)) 4 86 [.ref m0, .int a1] (ovT m0 M hb) (some (.int r)) (ovT m0 M hb) :=
  ct_of (by decide) (Nat.le_of_ble_eq_true rfl) (w_T_key (Nat.le_refl _) (Nat.le_refl _) hF)
theorem fl_X6_419 : FL RX6 419 [6] 42 := by
  intro ci h
  simp only [List.mem_cons, List.not_mem_nil, or_false] at h
  subst h; exact ⟨RX6, _, TX6, 56, rfl, in_X6, by decide, Or.inl q1676, Or.inl rfl⟩
theorem fl_X6_425 : FL RX6 425 [6] 39 := by
  intro ci h
  simp only [List.mem_cons, List.not_mem_nil, or_false] at h
  subst h; exact ⟨RX6, _, TX6, 56, rfl, in_X6, by decide, Or.inl q1673, Or.inl rfl⟩
theorem pl_X6_425 : PL RX6 425 [6] 39 (.int) false := by
  intro ci h
  simp only [List.mem_cons, List.not_mem_nil, or_false] at h
  subst h; exact ⟨RX6, _, TX6, 56, tyX6, rfl, in_X6, by decide, Or.inl q1673, Or.inl rfl, tyX6_ok, rfl, by decide +kernel, rfl, fun z => by cases z⟩
theorem pl_X6_428 : PL RX6 428 [6] 38 (.int) false := by
  intro ci h
  simp only [List.mem_cons, List.not_mem_nil, or_false] at h
  subst h; exact ⟨RX6, _, TX6, 56, tyX6, rfl, in_X6, by decide, Or.inl q1672, Or.inl rfl, tyX6_ok, rfl, by decide +kernel, rfl, fun z => by cases z⟩
theorem fl_X6_83 : FL RX6 83 [6] 37 := by
  intro ci h
  simp only [List.mem_cons, List.not_mem_nil, or_false] at h
  subst h; exact ⟨RX6, _, TX6, 56, rfl, in_X6, by decide, Or.inl q1671, Or.inl rfl⟩
theorem fl_X6_80 : FL RX6 80 [6] 36 := by
  intro ci h
  simp only [List.mem_cons, List.not_mem_nil, or_false] at h
  subst h; exact ⟨RX6, _, TX6, 56, rfl, in_X6, by decide, Or.inl q1670, Or.inl rfl⟩
theorem fl_X6_422 : FL RX6 422 [6] 40 := by
  intro ci h
  simp only [List.mem_cons, List.not_mem_nil, or_false] at h
  subst h; exact ⟨RX6, _, TX6, 56, rfl, in_X6, by decide, Or.inl q1674, Or.inl rfl⟩
theorem pl_X6_422 : PL RX6 422 [6] 40 (.int) false := by
  intro ci h
  simp only [List.mem_cons, List.not_mem_nil, or_false] at h
  subst h; exact ⟨RX6, _, TX6, 56, tyX6, rfl, in_X6, by decide, Or.inl q1674, Or.inl rfl, tyX6_ok, rfl, by decide +kernel, rfl, fun z => by cases z⟩
def T_isRow_L42 (N : Nat) (x42 : TM → Option TM) : Nat → Int32 → Int32 → TM → Option TM
  | 0, _, _, _ => none
  | n12 + 1, v6, v7, M8 =>
    if v6 ≤ v7 then
      x42 M8
    else
      (tra M8 36 8 v7).bind fun v10 =>
      (twa M8 37 8 v7 v10).bind fun M11 =>
      (T_isRow_L42 N x42 n12) v6 (v7 + (1 : Int32)) M11
theorem w_T_isRow_L42 {l : Launch} {G : GT} {fr lo : Nat} {h0 : Hp} {m0 : Nat} {hb : Hp} {N : Nat} {r : TM} (hfr : 1 ≤ fr) (hlo : 21 ≤ lo) {x42 : TM → Option TM} (hx42 : ∀ (M9 : TM), x42 M9 = some r → V l G cX6_isRow RX6 "isRow" 5 (Option.none : Option Jvm.ClassFile.FieldType) fr lo h0 (ovT m0 r hb) (QM G none h0 (ovT m0 r hb)) 68 [] [] (ovT m0 M9 hb)) : ∀ (n : Nat) (v6 : Int32) (v7 : Int32) (M8 : TM), T_isRow_L42 N x42 n v6 v7 M8 = some r → V l G cX6_isRow RX6 "isRow" 5 (Option.none : Option Jvm.ClassFile.FieldType) fr lo h0 (ovT m0 r hb) (QM G none h0 (ovT m0 r hb)) 42 [(0, .ref m0), (1, .int v6), (4, .int v7)] [] (ovT m0 M8 hb) := by
  intro n
  induction n with
  | zero =>
    intro v6 v7 M8 hF
    cases (show (none : Option TM) = some r from hF)
  | succ n hc42 =>
    intro v6 v7 M8 hF
    rw [T_isRow_L42] at hF
    refine v_iload dX6_isRow_42 2 rfl ?_
    refine v_iload_n dX6_isRow_44 rfl 1 rfl ?_
    refine v_icmp_ge (tgt := 68) dX6_isRow_45 (by decide) hF (fun hF => ?_) (fun hF => ?_)
    · exact v_sub [] rfl (hx42 _ hF)
    · refine v_aload_n dX6_isRow_48 rfl 0 rfl ?_
      refine t_geta 37 20 dX6_isRow_49 fl_X6_83 (Nat.le_of_ble_eq_true rfl) (fun _ _ => rfl) ?_
      refine v_iload dX6_isRow_52 2 rfl ?_
      refine v_aload_n dX6_isRow_54 rfl 0 rfl ?_
      refine t_geta 36 19 dX6_isRow_55 fl_X6_80 (Nat.le_of_ble_eq_true rfl) (fun _ _ => rfl) ?_
      refine v_iload dX6_isRow_58 2 rfl ?_
      refine t_iald 19 dX6_isRow_60 rfl (Nat.le_of_ble_eq_true rfl) (by decide) hF (fun v10 hF => ?_)
      refine t_iast 20 dX6_isRow_61 rfl (Nat.le_of_ble_eq_true rfl) (by decide) hF (fun M11 hF => ?_)
      refine v_iinc dX6_isRow_62 2 rfl (v := v7 + (1 : Int32)) (by rfl) (Nat.le_of_ble_eq_true rfl) (L' := [(4, .int (v7 + (1 : Int32))), (0, .ref m0), (1, .int v6)]) rfl ?_
      refine v_goto (tgt := 42) dX6_isRow_65 (by decide) ?_
      exact v_sub [1, 2, 0] rfl (hc42 _ _ _ hF)
def T_isRow_J20 (N : Nat) (v1 : Int32) (v2 : Int32) (M3 : TM) : Option TM :=
  if (M3.1 39) < v2 then
    (some (tsi M3 39 v2)).bind fun (M4 : TM) =>
    (some (tsi M4 38 v1)).bind fun (M5 : TM) =>
    T_isRow_L42 N (fun M13 =>
      some M13) N v1 (0 : Int32) M5
  else
    some M3
theorem w_T_isRow_J20 {l : Launch} {G : GT} {fr lo : Nat} {h0 : Hp} {m0 : Nat} {hb : Hp} {N : Nat} {r : TM} (hfr : 1 ≤ fr) (hlo : 21 ≤ lo)   {v1 : Int32} {v2 : Int32} {M3 : TM} (hF : T_isRow_J20 N v1 v2 M3 = some r) : V l G cX6_isRow RX6 "isRow" 5 (Option.none : Option Jvm.ClassFile.FieldType) fr lo h0 (ovT m0 r hb) (QM G none h0 (ovT m0 r hb)) 20 [(0, .ref m0), (1, .int v1), (2, .int v2)] [] (ovT m0 M3 hb) := by
  unfold T_isRow_J20 at hF
  refine v_iload_n dX6_isRow_20 rfl 2 rfl ?_
  refine v_aload_n dX6_isRow_21 rfl 0 rfl ?_
  refine t_geti 39 dX6_isRow_22 fl_X6_425 rfl ?_
  refine v_icmp_gt (tgt := 29) dX6_isRow_25 (by decide) hF (fun hF => ?_) (fun hF => ?_)
  · refine v_aload_n dX6_isRow_29 rfl 0 rfl ?_
    refine v_iload_n dX6_isRow_30 rfl 2 rfl ?_
    refine t_puti 39 dX6_isRow_31 pl_X6_425 rfl ?_
    refine v_letM hF (fun M4 hF => ?_)
    refine v_aload_n dX6_isRow_34 rfl 0 rfl ?_
    refine v_iload_n dX6_isRow_35 rfl 1 rfl ?_
    refine t_puti 38 dX6_isRow_36 pl_X6_428 rfl ?_
    refine v_letM hF (fun M5 hF => ?_)
    refine v_iconst dX6_isRow_39 (v := 0) (by decide) ?_
    refine v_istore dX6_isRow_40 (Nat.le_of_ble_eq_true rfl) (L' := [(4, .int (0 : Int32)), (0, .ref m0), (1, .int v1), (2, .int v2)]) rfl ?_
    refine v_sub [1, 2, 0] rfl (w_T_isRow_L42 hfr hlo ?_ N _ _ _ hF)
    intro M13 hF
    cases hF
    exact v_vret dX6_isRow_68 rfl rfl rfl
  · cases hF
    exact v_vret dX6_isRow_28 rfl rfl rfl
def T_isRow (N : Nat) (a1 : Int32) (a2 : Int32) (a3 : Int32) (M : TM) : Option TM :=
  if a2 < (M.1 42) then
    T_isRow_J20 N a1 a2 M
  else
    (T_lesser (M.1 40) a3).bind fun v14 =>
    (some (tsi M 40 v14)).bind fun (M15 : TM) =>
    T_isRow_J20 N a1 a2 M15
theorem w_T_isRow {l : Launch} {G : GT} {fr lo : Nat} {h0 : Hp} {m0 : Nat} {hb : Hp} {N : Nat} {r : TM} (hfr : 1 ≤ fr) (hlo : 21 ≤ lo) {a1 : Int32} {a2 : Int32} {a3 : Int32} {M : TM} (hF : T_isRow N a1 a2 a3 M = some r) : V l G cX6_isRow RX6 "isRow" 5 (Option.none : Option Jvm.ClassFile.FieldType) fr lo h0 (ovT m0 r hb) (QM G none h0 (ovT m0 r hb)) 0 [(0, .ref m0), (1, .int a1), (2, .int a2), (3, .int a3)] [] (ovT m0 M hb) := by
  unfold T_isRow at hF
  refine v_iload_n dX6_isRow_0 rfl 2 rfl ?_
  refine v_aload_n dX6_isRow_1 rfl 0 rfl ?_
  refine t_geti 42 dX6_isRow_2 fl_X6_419 rfl ?_
  refine v_icmp_lt (tgt := 20) dX6_isRow_5 (by decide) hF (fun hF => ?_) (fun hF => ?_)
  · exact v_sub [0, 1, 2] rfl (w_T_isRow_J20 hfr hlo hF)
  · refine v_aload_n dX6_isRow_8 rfl 0 rfl ?_
    refine v_aload_n dX6_isRow_9 rfl 0 rfl ?_
    refine t_geti 40 dX6_isRow_10 fl_X6_422 rfl ?_
    refine v_iload_n dX6_isRow_13 rfl 3 rfl ?_
    obtain ⟨v14, e_v14, hF⟩ := Option.bind_eq_some_iff.mp hF
    refine v_calS1 dX6_isRow_14 sl_X6_343 q2120 (ct_T_lesser e_v14) rfl rfl (Nat.le_trans (Nat.le_of_ble_eq_true rfl) hfr) (Nat.le_trans (Nat.le_of_ble_eq_true rfl) hlo) (Nat.le_of_ble_eq_true rfl) ?_
    refine t_puti 40 dX6_isRow_17 pl_X6_422 rfl ?_
    refine v_letM hF (fun M15 hF => ?_)
    exact v_sub [0, 1, 2] rfl (w_T_isRow_J20 hfr hlo hF)
theorem ct_T_isRow {l : Launch} {G : GT} {m0 : Nat} {hb : Hp} {N : Nat} {r : TM} {a1 : Int32} {a2 : Int32} {a3 : Int32} {M : TM} (hF : T_isRow N a1 a2 a3 M = some r) : Ct l G yX6_isRow (ws_ yX6_isRow cX6_isRow 5 (Option.none : Option Jvm.ClassFile.FieldType)) 1 21 [.ref m0, .int a1, .int a2, .int a3] (ovT m0 M hb) none (ovT m0 r hb) :=
  ct_of (by decide) (Nat.le_of_ble_eq_true rfl) (w_T_isRow (Nat.le_refl _) (Nat.le_refl _) hF)
theorem vl_X6_431 : ∀ ci ∈ [6], VL RX6 431 ci yX6_isRow 3 := by
  intro ci h
  simp only [List.mem_cons, List.not_mem_nil, or_false] at h
  subst h; exact ⟨RX6, TX6, 56, rfl, q146, ⟨by decide, by decide⟩, by decide +kernel, q2255, Or.inl ⟨q2253, qs125⟩⟩
theorem fl_X6_77 : FL RX6 77 [6] 35 := by
  intro ci h
  simp only [List.mem_cons, List.not_mem_nil, or_false] at h
  subst h; exact ⟨RX6, _, TX6, 56, rfl, in_X6, by decide, Or.inl q1669, Or.inl rfl⟩
theorem fl_X6_434 : FL RX6 434 [6] 41 := by
  intro ci h
  simp only [List.mem_cons, List.not_mem_nil, or_false] at h
  subst h; exact ⟨RX6, _, TX6, 56, rfl, in_X6, by decide, Or.inl q1675, Or.inl rfl⟩
theorem vl_X6_437 : ∀ ci ∈ [6], VL RX6 437 ci yX6_goesOn 5 := by
  intro ci h
  simp only [List.mem_cons, List.not_mem_nil, or_false] at h
  subst h; exact ⟨RX6, TX6, 56, rfl, q146, ⟨by decide, by decide⟩, by decide +kernel, q2251, Or.inl ⟨q2249, qs124⟩⟩
def T_goesOn_o_J132 (N : Nat) (f : Int32 → Int32 → Int32 → Int32 → Int32 → TM → Option TM) (c12 : Int32 → Int32 → Int32 → Int32 → Int32 → Int32 → TM → Option TM) (v13 : Int32) (v14 : Int32) (v15 : Int32) (v16 : Int32) (v17 : Int32) (v18 : Int32) (M19 : TM) : Option TM :=
  c12 v13 v14 v15 v16 v17 (v18 + (1 : Int32)) M19
theorem w_T_goesOn_o_J132 {l : Launch} {G : GT} {fr lo : Nat} {h0 : Hp} {m0 : Nat} {hb : Hp} {N : Nat} {f : Int32 → Int32 → Int32 → Int32 → Int32 → TM → Option TM} {r : TM} {frf lof : Nat} (hbf : 119 ≤ frf) (hbl : 2873 ≤ lof) (hfr : frf + 1 ≤ fr) (hlo : lof + 28 ≤ lo) (hf : ∀ (a1 : Int32) (a2 : Int32) (a3 : Int32) (a4 : Int32) (a5 : Int32) (M : TM) (r : TM), f a1 a2 a3 a4 a5 M = some r → Ct l G yX6_goesOn (ws_ yX6_goesOn cX6_goesOn 9 (Option.none : Option Jvm.ClassFile.FieldType)) frf lof [.ref m0, .int a1, .int a2, .int a3, .int a4, .int a5] (ovT m0 M hb) none (ovT m0 r hb)) {c12 : Int32 → Int32 → Int32 → Int32 → Int32 → Int32 → TM → Option TM} (hc12 : ∀ (v2 : Int32) (v3 : Int32) (v4 : Int32) (v5 : Int32) (v6 : Int32) (v7 : Int32) (M8 : TM), c12 v2 v3 v4 v5 v6 v7 M8 = some r → V l G cX6_goesOn RX6 "goesOn" 9 (Option.none : Option Jvm.ClassFile.FieldType) fr lo h0 (ovT m0 r hb) (QM G none h0 (ovT m0 r hb)) 12 [(0, .ref m0), (1, .int v2), (2, .int v3), (3, .int v4), (4, .int v5), (5, .int v6), (6, .int v7)] [] (ovT m0 M8 hb)) {v13 : Int32} {v14 : Int32} {v15 : Int32} {v16 : Int32} {v17 : Int32} {v18 : Int32} {M19 : TM} (hF : T_goesOn_o_J132 N f c12 v13 v14 v15 v16 v17 v18 M19 = some r) : V l G cX6_goesOn RX6 "goesOn" 9 (Option.none : Option Jvm.ClassFile.FieldType) fr lo h0 (ovT m0 r hb) (QM G none h0 (ovT m0 r hb)) 132 [(0, .ref m0), (1, .int v13), (2, .int v14), (3, .int v15), (4, .int v16), (5, .int v17), (6, .int v18)] [] (ovT m0 M19 hb) := by
  unfold T_goesOn_o_J132 at hF
  refine v_iinc dX6_goesOn_132 6 rfl (v := v18 + (1 : Int32)) (by rfl) (Nat.le_of_ble_eq_true rfl) (L' := [(6, .int (v18 + (1 : Int32))), (0, .ref m0), (1, .int v13), (2, .int v14), (3, .int v15), (4, .int v16), (5, .int v17)]) rfl ?_
  refine v_goto (tgt := 12) dX6_goesOn_135 (by decide) ?_
  exact v_sub [1, 2, 3, 4, 5, 6, 0] rfl (hc12 _ _ _ _ _ _ _ hF)
def T_goesOn_o_L12 (N : Nat) (f : Int32 → Int32 → Int32 → Int32 → Int32 → TM → Option TM) (x12 : TM → Option TM) : Nat → Int32 → Int32 → Int32 → Int32 → Int32 → Int32 → TM → Option TM
  | 0, _, _, _, _, _, _, _ => none
  | n28 + 1, v2, v3, v4, v5, v6, v7, M8 =>
    (T_bookMany M8).bind fun v10 =>
    if v10 ≤ v7 then
      x12 M8
    else
      (tra M8 2 5660 ((6 : Int32) + v7)).bind fun v11 =>
      (T_isOpen M8 v3 v7).bind fun v12 =>
      if v12 = 0 then
        T_goesOn_o_J132 N f (T_goesOn_o_L12 N f x12 n28) v2 v3 v4 v5 v6 v7 M8
      else
        (tra M8 35 2048 (((8 : Int32) * v3) + v7)).bind fun v20 =>
        if v20 = 0 then
          if (v6 + v11) ≤ (M8.1 41) then
            (twa M8 36 8 v4 v7).bind fun M21 =>
            (T_ones N v3).bind fun v22 =>
            (tra M21 2 5660 (5 : Int32)).bind fun v23 =>
            bd2 (T_growsBy N v2 v7 v5 v22 (v23 + v6) M21) fun v25 M24 =>
            (T_lesser (999 : Int32) (v5 + v25)).bind fun v26 =>
            (f v2 (v3 ||| ((1 : Int32) <<< (v7 &&& 31))) (v4 + (1 : Int32)) v26 (v6 + v11) M24).bind fun M27 =>
            T_goesOn_o_J132 N f (T_goesOn_o_L12 N f x12 n28) v2 v3 v4 v5 v6 v7 M27
          else
            T_goesOn_o_J132 N f (T_goesOn_o_L12 N f x12 n28) v2 v3 v4 v5 v6 v7 M8
        else
          T_goesOn_o_J132 N f (T_goesOn_o_L12 N f x12 n28) v2 v3 v4 v5 v6 v7 M8
theorem w_T_goesOn_o_L12 {l : Launch} {G : GT} {fr lo : Nat} {h0 : Hp} {m0 : Nat} {hb : Hp} {N : Nat} {f : Int32 → Int32 → Int32 → Int32 → Int32 → TM → Option TM} {r : TM} {frf lof : Nat} (hbf : 119 ≤ frf) (hbl : 2873 ≤ lof) (hfr : frf + 1 ≤ fr) (hlo : lof + 28 ≤ lo) (hf : ∀ (a1 : Int32) (a2 : Int32) (a3 : Int32) (a4 : Int32) (a5 : Int32) (M : TM) (r : TM), f a1 a2 a3 a4 a5 M = some r → Ct l G yX6_goesOn (ws_ yX6_goesOn cX6_goesOn 9 (Option.none : Option Jvm.ClassFile.FieldType)) frf lof [.ref m0, .int a1, .int a2, .int a3, .int a4, .int a5] (ovT m0 M hb) none (ovT m0 r hb)) {x12 : TM → Option TM} (hx12 : ∀ (M9 : TM), x12 M9 = some r → V l G cX6_goesOn RX6 "goesOn" 9 (Option.none : Option Jvm.ClassFile.FieldType) fr lo h0 (ovT m0 r hb) (QM G none h0 (ovT m0 r hb)) 138 [] [] (ovT m0 M9 hb)) : ∀ (n : Nat) (v2 : Int32) (v3 : Int32) (v4 : Int32) (v5 : Int32) (v6 : Int32) (v7 : Int32) (M8 : TM), T_goesOn_o_L12 N f x12 n v2 v3 v4 v5 v6 v7 M8 = some r → V l G cX6_goesOn RX6 "goesOn" 9 (Option.none : Option Jvm.ClassFile.FieldType) fr lo h0 (ovT m0 r hb) (QM G none h0 (ovT m0 r hb)) 12 [(0, .ref m0), (1, .int v2), (2, .int v3), (3, .int v4), (4, .int v5), (5, .int v6), (6, .int v7)] [] (ovT m0 M8 hb) := by
  intro n
  induction n with
  | zero =>
    intro v2 v3 v4 v5 v6 v7 M8 hF
    cases (show (none : Option TM) = some r from hF)
  | succ n hc12 =>
    intro v2 v3 v4 v5 v6 v7 M8 hF
    rw [T_goesOn_o_L12] at hF
    refine v_iload dX6_goesOn_12 6 rfl ?_
    refine v_aload_n dX6_goesOn_14 rfl 0 rfl ?_
    obtain ⟨v10, e_v10, hF⟩ := Option.bind_eq_some_iff.mp hF
    refine v_calV1 dX6_goesOn_15 vl_X6_112 q1837 rc_ov (ct_T_bookMany e_v10) rfl rfl (by omega) (by omega) (Nat.le_of_ble_eq_true rfl) ?_
    refine v_icmp_ge (tgt := 138) dX6_goesOn_18 (by decide) hF (fun hF => ?_) (fun hF => ?_)
    · exact v_sub [] rfl (hx12 _ hF)
    · refine v_iload dX6_goesOn_21 5 rfl ?_
      refine v_aload_n dX6_goesOn_23 rfl 0 rfl ?_
      refine t_geta 2 2 dX6_goesOn_24 fl_X6_24 (Nat.le_of_ble_eq_true rfl) (fun _ _ => rfl) ?_
      refine v_bipush dX6_goesOn_27 (v := 6) (by decide) ?_
      refine v_iload dX6_goesOn_29 6 rfl ?_
      refine v_iadd dX6_goesOn_31 ?_
      refine t_iald 2 dX6_goesOn_32 rfl (Nat.le_of_ble_eq_true rfl) (by decide) hF (fun v11 hF => ?_)
      refine v_iadd dX6_goesOn_33 ?_
      refine v_istore dX6_goesOn_34 (Nat.le_of_ble_eq_true rfl) (L' := [(7, .int (v6 + v11)), (0, .ref m0), (1, .int v2), (2, .int v3), (3, .int v4), (4, .int v5), (5, .int v6), (6, .int v7)]) rfl ?_
      refine v_aload_n dX6_goesOn_36 rfl 1 rfl ?_
      refine v_iload_n dX6_goesOn_37 rfl 3 rfl ?_
      refine v_iload dX6_goesOn_38 7 rfl ?_
      obtain ⟨v12, e_v12, hF⟩ := Option.bind_eq_some_iff.mp hF
      refine v_calV1 dX6_goesOn_40 vl_X6_137 q1864 rc_ov (ct_T_isOpen e_v12) rfl rfl (by omega) (by omega) (Nat.le_of_ble_eq_true rfl) ?_
      refine v_if_eq (tgt := 132) dX6_goesOn_43 (by decide) hF (fun hF => ?_) (fun hF => ?_)
      · exact v_sub [1, 2, 3, 4, 5, 6, 7] rfl (w_T_goesOn_o_J132 hbf hbl hfr hlo hf hc12 hF)
      · refine v_aload_n dX6_goesOn_46 rfl 1 rfl ?_
        refine t_geta 35 18 dX6_goesOn_47 fl_X6_77 (Nat.le_of_ble_eq_true rfl) (fun _ _ => rfl) ?_
        refine v_bipush dX6_goesOn_50 (v := 8) (by decide) ?_
        refine v_iload_n dX6_goesOn_52 rfl 3 rfl ?_
        refine v_imul dX6_goesOn_53 ?_
        refine v_iload dX6_goesOn_54 7 rfl ?_
        refine v_iadd dX6_goesOn_56 ?_
        refine t_zald 18 dX6_goesOn_57 rfl (Nat.le_of_ble_eq_true rfl) (by decide) hF (fun v20 hF => ?_)
        refine v_if_ne (tgt := 132) dX6_goesOn_58 (by decide) hF (fun hF => ?_) (fun hF => ?_)
        · exact v_sub [1, 2, 3, 4, 5, 6, 7] rfl (w_T_goesOn_o_J132 hbf hbl hfr hlo hf hc12 hF)
        · refine v_iload dX6_goesOn_61 0 rfl ?_
          refine v_aload_n dX6_goesOn_63 rfl 1 rfl ?_
          refine t_geti 41 dX6_goesOn_64 fl_X6_434 rfl ?_
          refine v_icmp_le (tgt := 73) dX6_goesOn_67 (by decide) hF (fun hF => ?_) (fun hF => ?_)
          · refine v_aload_n dX6_goesOn_73 rfl 1 rfl ?_
            refine t_geta 36 19 dX6_goesOn_74 fl_X6_80 (Nat.le_of_ble_eq_true rfl) (fun _ _ => rfl) ?_
            refine v_iload_n dX6_goesOn_77 rfl 4 rfl ?_
            refine v_iload dX6_goesOn_78 7 rfl ?_
            refine t_iast 19 dX6_goesOn_80 rfl (Nat.le_of_ble_eq_true rfl) (by decide) hF (fun M21 hF => ?_)
            refine v_aload_n dX6_goesOn_81 rfl 1 rfl ?_
            refine v_iload_n dX6_goesOn_82 rfl 2 rfl ?_
            refine v_iload dX6_goesOn_83 7 rfl ?_
            refine v_iload dX6_goesOn_85 5 rfl ?_
            refine v_iload_n dX6_goesOn_87 rfl 3 rfl ?_
            obtain ⟨v22, e_v22, hF⟩ := Option.bind_eq_some_iff.mp hF
            refine v_calS1 dX6_goesOn_88 sl_X6_304 q1871 (ct_T_ones e_v22) rfl rfl (by omega) (by omega) (Nat.le_of_ble_eq_true rfl) ?_
            refine v_aload_n dX6_goesOn_91 rfl 1 rfl ?_
            refine t_geta 2 2 dX6_goesOn_92 fl_X6_24 (Nat.le_of_ble_eq_true rfl) (fun _ _ => rfl) ?_
            refine v_iconst dX6_goesOn_95 (v := 5) (by decide) ?_
            refine t_iald 2 dX6_goesOn_96 rfl (Nat.le_of_ble_eq_true rfl) (by decide) hF (fun v23 hF => ?_)
            refine v_iload dX6_goesOn_97 6 rfl ?_
            refine v_iadd dX6_goesOn_99 ?_
            obtain ⟨v25, M24, e_v25, hF⟩ := bd2_spec hF
            refine v_calV1 dX6_goesOn_100 vl_X6_336 q1960 rc_ov (ct_T_growsBy e_v25) rfl rfl (by omega) (by omega) (Nat.le_of_ble_eq_true rfl) ?_
            refine v_istore dX6_goesOn_103 (Nat.le_of_ble_eq_true rfl) (L' := [(8, .int v25), (7, .int (v6 + v11)), (0, .ref m0), (1, .int v2), (2, .int v3), (3, .int v4), (4, .int v5), (5, .int v6), (6, .int v7)]) rfl ?_
            refine v_aload_n dX6_goesOn_105 rfl 2 rfl ?_
            refine v_iload_n dX6_goesOn_106 rfl 3 rfl ?_
            refine v_iload_n dX6_goesOn_107 rfl 4 rfl ?_
            refine v_iconst dX6_goesOn_108 (v := 1) (by decide) ?_
            refine v_iload dX6_goesOn_109 8 rfl ?_
            refine v_ishl dX6_goesOn_111 ?_
            refine v_ior dX6_goesOn_112 ?_
            refine v_iload_n dX6_goesOn_113 rfl 5 rfl ?_
            refine v_iconst dX6_goesOn_114 (v := 1) (by decide) ?_
            refine v_iadd dX6_goesOn_115 ?_
            refine v_sipush dX6_goesOn_116 (v := 999) (by decide) ?_
            refine v_iload dX6_goesOn_119 6 rfl ?_
            refine v_iload dX6_goesOn_121 0 rfl ?_
            refine v_iadd dX6_goesOn_123 ?_
            obtain ⟨v26, e_v26, hF⟩ := Option.bind_eq_some_iff.mp hF
            refine v_calS1 dX6_goesOn_124 sl_X6_343 q2120 (ct_T_lesser e_v26) rfl rfl (by omega) (by omega) (Nat.le_of_ble_eq_true rfl) ?_
            refine v_iload dX6_goesOn_127 1 rfl ?_
            obtain ⟨M27, e_M27, hF⟩ := Option.bind_eq_some_iff.mp hF
            refine v_calV0 dX6_goesOn_129 vl_X6_437 q2252 rc_ov (hf _ _ _ _ _ _ _ e_M27) rfl rfl (by omega) (by omega) (Nat.le_of_ble_eq_true rfl) ?_
            exact v_sub [2, 3, 4, 5, 6, 7, 8] rfl (w_T_goesOn_o_J132 hbf hbl hfr hlo hf hc12 hF)
          · refine v_goto (tgt := 132) dX6_goesOn_70 (by decide) ?_
            exact v_sub [1, 2, 3, 4, 5, 6, 7] rfl (w_T_goesOn_o_J132 hbf hbl hfr hlo hf hc12 hF)
def T_goesOn_o (N : Nat) (f : Int32 → Int32 → Int32 → Int32 → Int32 → TM → Option TM) (a1 : Int32) (a2 : Int32) (a3 : Int32) (a4 : Int32) (a5 : Int32) (M : TM) : Option TM :=
  (T_isRow N a3 a4 a5 M).bind fun M1 =>
  T_goesOn_o_L12 N f (fun M29 =>
    some M29) N a1 a2 a3 a4 a5 (0 : Int32) M1
theorem w_T_goesOn_o {l : Launch} {G : GT} {fr lo : Nat} {h0 : Hp} {m0 : Nat} {hb : Hp} {N : Nat} {f : Int32 → Int32 → Int32 → Int32 → Int32 → TM → Option TM} {r : TM} {frf lof : Nat} (hbf : 119 ≤ frf) (hbl : 2873 ≤ lof) (hfr : frf + 1 ≤ fr) (hlo : lof + 28 ≤ lo) (hf : ∀ (a1 : Int32) (a2 : Int32) (a3 : Int32) (a4 : Int32) (a5 : Int32) (M : TM) (r : TM), f a1 a2 a3 a4 a5 M = some r → Ct l G yX6_goesOn (ws_ yX6_goesOn cX6_goesOn 9 (Option.none : Option Jvm.ClassFile.FieldType)) frf lof [.ref m0, .int a1, .int a2, .int a3, .int a4, .int a5] (ovT m0 M hb) none (ovT m0 r hb)) {a1 : Int32} {a2 : Int32} {a3 : Int32} {a4 : Int32} {a5 : Int32} {M : TM} (hF : T_goesOn_o N f a1 a2 a3 a4 a5 M = some r) : V l G cX6_goesOn RX6 "goesOn" 9 (Option.none : Option Jvm.ClassFile.FieldType) fr lo h0 (ovT m0 r hb) (QM G none h0 (ovT m0 r hb)) 0 [(0, .ref m0), (1, .int a1), (2, .int a2), (3, .int a3), (4, .int a4), (5, .int a5)] [] (ovT m0 M hb) := by
  unfold T_goesOn_o at hF
  refine v_aload_n dX6_goesOn_0 rfl 0 rfl ?_
  refine v_iload_n dX6_goesOn_1 rfl 3 rfl ?_
  refine v_iload dX6_goesOn_2 4 rfl ?_
  refine v_iload dX6_goesOn_4 5 rfl ?_
  obtain ⟨M1, e_M1, hF⟩ := Option.bind_eq_some_iff.mp hF
  refine v_calV0 dX6_goesOn_6 vl_X6_431 q2256 rc_ov (ct_T_isRow e_M1) rfl rfl (by omega) (by omega) (Nat.le_of_ble_eq_true rfl) ?_
  refine v_iconst dX6_goesOn_9 (v := 0) (by decide) ?_
  refine v_istore dX6_goesOn_10 (Nat.le_of_ble_eq_true rfl) (L' := [(6, .int (0 : Int32)), (0, .ref m0), (1, .int a1), (2, .int a2), (3, .int a3), (4, .int a4), (5, .int a5)]) rfl ?_
  refine v_sub [1, 2, 3, 4, 5, 6, 0] rfl (w_T_goesOn_o_L12 hbf hbl hfr hlo hf ?_ N _ _ _ _ _ _ _ hF)
  intro M29 hF
  cases hF
  exact v_vret dX6_goesOn_138 rfl rfl rfl
theorem ct_T_goesOn_o {l : Launch} {G : GT} {m0 : Nat} {hb : Hp} {N : Nat} {f : Int32 → Int32 → Int32 → Int32 → Int32 → TM → Option TM} {frf lof : Nat} (hbf : 119 ≤ frf) (hbl : 2873 ≤ lof) (hf : ∀ (a1 : Int32) (a2 : Int32) (a3 : Int32) (a4 : Int32) (a5 : Int32) (M : TM) (r : TM), f a1 a2 a3 a4 a5 M = some r → Ct l G yX6_goesOn (ws_ yX6_goesOn cX6_goesOn 9 (Option.none : Option Jvm.ClassFile.FieldType)) frf lof [.ref m0, .int a1, .int a2, .int a3, .int a4, .int a5] (ovT m0 M hb) none (ovT m0 r hb)) {r : TM} {a1 : Int32} {a2 : Int32} {a3 : Int32} {a4 : Int32} {a5 : Int32} {M : TM} (hF : T_goesOn_o N f a1 a2 a3 a4 a5 M = some r) : Ct l G yX6_goesOn (ws_ yX6_goesOn cX6_goesOn 9 (Option.none : Option Jvm.ClassFile.FieldType)) (frf + 1) (lof + 28) [.ref m0, .int a1, .int a2, .int a3, .int a4, .int a5] (ovT m0 M hb) none (ovT m0 r hb) :=
  ct_of (by decide) (Nat.le_of_ble_eq_true rfl) (w_T_goesOn_o hbf hbl (Nat.le_refl _) (Nat.le_refl _) hf hF)
def T_goesOn (N : Nat) : Nat → Int32 → Int32 → Int32 → Int32 → Int32 → TM → Option TM
  | 0, _, _, _, _, _, _ => none
  | d + 1, a1, a2, a3, a4, a5, M => T_goesOn_o N (T_goesOn N d) a1 a2 a3 a4 a5 M
theorem ctd_T_goesOn {l : Launch} {G : GT} {m0 : Nat} {hb : Hp} {N : Nat} : ∀ (d : Nat) {r : TM} {a1 : Int32} {a2 : Int32} {a3 : Int32} {a4 : Int32} {a5 : Int32} {M : TM} (hF : T_goesOn N d a1 a2 a3 a4 a5 M = some r), Ct l G yX6_goesOn (ws_ yX6_goesOn cX6_goesOn 9 (Option.none : Option Jvm.ClassFile.FieldType)) (119 + 1 * d) (2873 + 28 * d) [.ref m0, .int a1, .int a2, .int a3, .int a4, .int a5] (ovT m0 M hb) none (ovT m0 r hb) := by
  intro d
  induction d with
  | zero => intro r a1 a2 a3 a4 a5 M hF; cases (show (none : Option TM) = some r from hF)
  | succ d ih =>
    intro r a1 a2 a3 a4 a5 M hF
    rw [show 119 + 1 * (d + 1) = (119 + 1 * d) + 1 by omega, show 2873 + 28 * (d + 1) = (2873 + 28 * d) + 28 by omega]
    exact ct_T_goesOn_o (frf := 119 + 1 * d) (lof := 2873 + 28 * d) (by omega) (by omega) (fun _ _ _ _ _ _ _ z => ih z) hF
def T_daysOf_J34 (N : Nat) (M : TM) (c4 : Int32 → Int32 → Int32 → Option Int32) (v7 : Int32) (v8 : Int32) (v9 : Int32) (v10 : Int32) : Option Int32 :=
  c4 v7 (v10 + v9) (v8 + (1 : Int32))
theorem w_T_daysOf_J34 {l : Launch} {G : GT} {fr lo : Nat} {h0 : Hp} {m0 : Nat} {hb : Hp} {N : Nat} {M : TM} {r : Int32} (hfr : 1 ≤ fr) (hlo : 21 ≤ lo) {c4 : Int32 → Int32 → Int32 → Option Int32} (hc4 : ∀ (v1 : Int32) (v2 : Int32) (v3 : Int32), c4 v1 v2 v3 = some r → V l G cX6_daysOf RX6 "daysOf" 4 (Option.some Jvm.ClassFile.FieldType.int) fr lo h0 (ovT m0 M hb) (QM G (some (.int r)) h0 (ovT m0 M hb)) 4 [(0, .ref m0), (1, .int v1), (2, .int v2), (3, .int v3)] [] (ovT m0 M hb)) {v7 : Int32} {v8 : Int32} {v9 : Int32} {v10 : Int32} (hF : T_daysOf_J34 N M c4 v7 v8 v9 v10 = some r) : V l G cX6_daysOf RX6 "daysOf" 4 (Option.some Jvm.ClassFile.FieldType.int) fr lo h0 (ovT m0 M hb) (QM G (some (.int r)) h0 (ovT m0 M hb)) 34 [(0, .ref m0), (1, .int v7), (3, .int v8)] [.int v9, .int v10] (ovT m0 M hb) := by
  unfold T_daysOf_J34 at hF
  refine v_iadd dX6_daysOf_34 ?_
  refine v_istore_n dX6_daysOf_35 rfl (Nat.le_of_ble_eq_true rfl) (L' := [(2, .int (v10 + v9)), (0, .ref m0), (1, .int v7), (3, .int v8)]) rfl ?_
  refine v_iinc dX6_daysOf_36 3 rfl (v := v8 + (1 : Int32)) (by rfl) (Nat.le_of_ble_eq_true rfl) (L' := [(3, .int (v8 + (1 : Int32))), (2, .int (v10 + v9)), (0, .ref m0), (1, .int v7)]) rfl ?_
  refine v_goto (tgt := 4) dX6_daysOf_39 (by decide) ?_
  exact v_sub [2, 3, 1, 0] rfl (hc4 _ _ _ hF)
def T_daysOf_L4 (N : Nat) (M : TM) (x4 : Int32 → Option Int32) : Nat → Int32 → Int32 → Int32 → Option Int32
  | 0, _, _, _ => none
  | n12 + 1, v1, v2, v3 =>
    (T_bookMany M).bind fun v5 =>
    if v5 ≤ v3 then
      x4 v2
    else
      (T_isIn v1 v3).bind fun v6 =>
      if v6 = 0 then
        T_daysOf_J34 N M (T_daysOf_L4 N M x4 n12) v1 v3 (0 : Int32) v2
      else
        (tra M 2 5660 ((6 : Int32) + v3)).bind fun v11 =>
        T_daysOf_J34 N M (T_daysOf_L4 N M x4 n12) v1 v3 v11 v2
theorem w_T_daysOf_L4 {l : Launch} {G : GT} {fr lo : Nat} {h0 : Hp} {m0 : Nat} {hb : Hp} {N : Nat} {M : TM} {r : Int32} (hfr : 1 ≤ fr) (hlo : 21 ≤ lo) {x4 : Int32 → Option Int32} (hx4 : ∀ (v4 : Int32), x4 v4 = some r → V l G cX6_daysOf RX6 "daysOf" 4 (Option.some Jvm.ClassFile.FieldType.int) fr lo h0 (ovT m0 M hb) (QM G (some (.int r)) h0 (ovT m0 M hb)) 42 [(2, .int v4)] [] (ovT m0 M hb)) : ∀ (n : Nat) (v1 : Int32) (v2 : Int32) (v3 : Int32), T_daysOf_L4 N M x4 n v1 v2 v3 = some r → V l G cX6_daysOf RX6 "daysOf" 4 (Option.some Jvm.ClassFile.FieldType.int) fr lo h0 (ovT m0 M hb) (QM G (some (.int r)) h0 (ovT m0 M hb)) 4 [(0, .ref m0), (1, .int v1), (2, .int v2), (3, .int v3)] [] (ovT m0 M hb) := by
  intro n
  induction n with
  | zero =>
    intro v1 v2 v3 hF
    cases (show (none : Option Int32) = some r from hF)
  | succ n hc4 =>
    intro v1 v2 v3 hF
    rw [T_daysOf_L4] at hF
    refine v_iload_n dX6_daysOf_4 rfl 3 rfl ?_
    refine v_aload_n dX6_daysOf_5 rfl 0 rfl ?_
    obtain ⟨v5, e_v5, hF⟩ := Option.bind_eq_some_iff.mp hF
    refine v_calV1 dX6_daysOf_6 vl_X6_112 q1837 rc_ov (ct_T_bookMany e_v5) rfl rfl (Nat.le_trans (Nat.le_of_ble_eq_true rfl) hfr) (Nat.le_trans (Nat.le_of_ble_eq_true rfl) hlo) (Nat.le_of_ble_eq_true rfl) ?_
    refine v_icmp_ge (tgt := 42) dX6_daysOf_9 (by decide) hF (fun hF => ?_) (fun hF => ?_)
    · exact v_sub [2] rfl (hx4 _ hF)
    · refine v_iload_n dX6_daysOf_12 rfl 2 rfl ?_
      refine v_iload_n dX6_daysOf_13 rfl 1 rfl ?_
      refine v_iload_n dX6_daysOf_14 rfl 3 rfl ?_
      obtain ⟨v6, e_v6, hF⟩ := Option.bind_eq_some_iff.mp hF
      refine v_calS1 dX6_daysOf_15 sl_X6_119 q1860 (ct_T_isIn e_v6) rfl rfl (Nat.le_trans (Nat.le_of_ble_eq_true rfl) hfr) (Nat.le_trans (Nat.le_of_ble_eq_true rfl) hlo) (Nat.le_of_ble_eq_true rfl) ?_
      refine v_if_eq (tgt := 33) dX6_daysOf_18 (by decide) hF (fun hF => ?_) (fun hF => ?_)
      · refine v_iconst dX6_daysOf_33 (v := 0) (by decide) ?_
        exact v_sub [0, 1, 3] rfl (w_T_daysOf_J34 hfr hlo hc4 hF)
      · refine v_aload_n dX6_daysOf_21 rfl 0 rfl ?_
        refine t_geta 2 2 dX6_daysOf_22 fl_X6_24 (Nat.le_of_ble_eq_true rfl) (fun _ _ => rfl) ?_
        refine v_bipush dX6_daysOf_25 (v := 6) (by decide) ?_
        refine v_iload_n dX6_daysOf_27 rfl 3 rfl ?_
        refine v_iadd dX6_daysOf_28 ?_
        refine t_iald 2 dX6_daysOf_29 rfl (Nat.le_of_ble_eq_true rfl) (by decide) hF (fun v11 hF => ?_)
        refine v_goto (tgt := 34) dX6_daysOf_30 (by decide) ?_
        exact v_sub [0, 1, 3] rfl (w_T_daysOf_J34 hfr hlo hc4 hF)
def T_daysOf (N : Nat) (M : TM) (a1 : Int32) : Option Int32 :=
  T_daysOf_L4 N M (fun v13 =>
    some v13) N a1 (0 : Int32) (0 : Int32)
theorem w_T_daysOf {l : Launch} {G : GT} {fr lo : Nat} {h0 : Hp} {m0 : Nat} {hb : Hp} {N : Nat} {M : TM} {r : Int32} (hfr : 1 ≤ fr) (hlo : 21 ≤ lo) {a1 : Int32} (hF : T_daysOf N M a1 = some r) : V l G cX6_daysOf RX6 "daysOf" 4 (Option.some Jvm.ClassFile.FieldType.int) fr lo h0 (ovT m0 M hb) (QM G (some (.int r)) h0 (ovT m0 M hb)) 0 [(0, .ref m0), (1, .int a1)] [] (ovT m0 M hb) := by
  unfold T_daysOf at hF
  refine v_iconst dX6_daysOf_0 (v := 0) (by decide) ?_
  refine v_istore_n dX6_daysOf_1 rfl (Nat.le_of_ble_eq_true rfl) (L' := [(2, .int (0 : Int32)), (0, .ref m0), (1, .int a1)]) rfl ?_
  refine v_iconst dX6_daysOf_2 (v := 0) (by decide) ?_
  refine v_istore_n dX6_daysOf_3 rfl (Nat.le_of_ble_eq_true rfl) (L' := [(3, .int (0 : Int32)), (2, .int (0 : Int32)), (0, .ref m0), (1, .int a1)]) rfl ?_
  refine v_sub [2, 3, 1, 0] rfl (w_T_daysOf_L4 hfr hlo ?_ N _ _ _ hF)
  intro v13 hF
  refine v_iload_n dX6_daysOf_42 rfl 0 rfl ?_
  cases hF
  exact v_iret dX6_daysOf_43 rfl rfl rfl rfl
theorem ct_T_daysOf {l : Launch} {G : GT} {m0 : Nat} {hb : Hp} {N : Nat} {M : TM} {r : Int32} {a1 : Int32} (hF : T_daysOf N M a1 = some r) : Ct l G yX6_daysOf (ws_ yX6_daysOf cX6_daysOf 4 (Option.some Jvm.ClassFile.FieldType.int)) 1 21 [.ref m0, .int a1] (ovT m0 M hb) (some (.int r)) (ovT m0 M hb) :=
  ct_of (by decide) (Nat.le_of_ble_eq_true rfl) (w_T_daysOf (Nat.le_refl _) (Nat.le_refl _) hF)
theorem vl_X6_416 : ∀ ci ∈ [6], VL RX6 416 ci yX6_daysOf 1 := by
  intro ci h
  simp only [List.mem_cons, List.not_mem_nil, or_false] at h
  subst h; exact ⟨RX6, TX6, 56, rfl, q146, ⟨by decide, by decide⟩, by decide +kernel, q2247, Or.inl ⟨q2245, qs123⟩⟩
def T_laysBarred_J90 (N : Nat) (c30 : Int32 → Int32 → Int32 → TM → Option TM) (v21 : Int32) (v22 : Int32) (v23 : Int32) (v24 : Int32) (v25 : Int32) (M26 : TM) : Option TM :=
  (twb M26 2 35 2048 v25 v24).bind fun M27 =>
  c30 v21 v22 (v23 + (1 : Int32)) M27
theorem w_T_laysBarred_J90 {l : Launch} {G : GT} {fr lo : Nat} {h0 : Hp} {m0 : Nat} {hb : Hp} {N : Nat} {r : TM} (hfr : 119 ≤ fr) (hlo : 2871 ≤ lo) {c30 : Int32 → Int32 → Int32 → TM → Option TM} (hc30 : ∀ (v7 : Int32) (v8 : Int32) (v9 : Int32) (M10 : TM), c30 v7 v8 v9 M10 = some r → V l G cX6_laysBarred RX6 "laysBarred" 4 (Option.none : Option Jvm.ClassFile.FieldType) fr lo h0 (ovT m0 r hb) (QM G none h0 (ovT m0 r hb)) 30 [(0, .ref m0), (1, .int v7), (2, .int v8), (3, .int v9)] [] (ovT m0 M10 hb)) {v21 : Int32} {v22 : Int32} {v23 : Int32} {v24 : Int32} {v25 : Int32} {M26 : TM} (hF : T_laysBarred_J90 N c30 v21 v22 v23 v24 v25 M26 = some r) : V l G cX6_laysBarred RX6 "laysBarred" 4 (Option.none : Option Jvm.ClassFile.FieldType) fr lo h0 (ovT m0 r hb) (QM G none h0 (ovT m0 r hb)) 90 [(0, .ref m0), (1, .int v21), (2, .int v22), (3, .int v23)] [.int v24, .int v25, .ref (m0 + 18)] (ovT m0 M26 hb) := by
  unfold T_laysBarred_J90 at hF
  refine t_zast 18 dX6_laysBarred_90 rfl (Nat.le_of_ble_eq_true rfl) (by decide) hF (fun M27 hF => ?_)
  refine v_iinc dX6_laysBarred_91 3 rfl (v := v23 + (1 : Int32)) (by rfl) (Nat.le_of_ble_eq_true rfl) (L' := [(3, .int (v23 + (1 : Int32))), (0, .ref m0), (1, .int v21), (2, .int v22)]) rfl ?_
  refine v_goto (tgt := 30) dX6_laysBarred_94 (by decide) ?_
  exact v_sub [1, 2, 3, 0] rfl (hc30 _ _ _ _ hF)
def T_laysBarred_J89 (N : Nat) (c30 : Int32 → Int32 → Int32 → TM → Option TM) (v16 : Int32) (v17 : Int32) (v18 : Int32) (v19 : Int32) (M20 : TM) : Option TM :=
  T_laysBarred_J90 N c30 v16 v17 v18 (0 : Int32) v19 M20
theorem w_T_laysBarred_J89 {l : Launch} {G : GT} {fr lo : Nat} {h0 : Hp} {m0 : Nat} {hb : Hp} {N : Nat} {r : TM} (hfr : 119 ≤ fr) (hlo : 2871 ≤ lo) {c30 : Int32 → Int32 → Int32 → TM → Option TM} (hc30 : ∀ (v7 : Int32) (v8 : Int32) (v9 : Int32) (M10 : TM), c30 v7 v8 v9 M10 = some r → V l G cX6_laysBarred RX6 "laysBarred" 4 (Option.none : Option Jvm.ClassFile.FieldType) fr lo h0 (ovT m0 r hb) (QM G none h0 (ovT m0 r hb)) 30 [(0, .ref m0), (1, .int v7), (2, .int v8), (3, .int v9)] [] (ovT m0 M10 hb)) {v16 : Int32} {v17 : Int32} {v18 : Int32} {v19 : Int32} {M20 : TM} (hF : T_laysBarred_J89 N c30 v16 v17 v18 v19 M20 = some r) : V l G cX6_laysBarred RX6 "laysBarred" 4 (Option.none : Option Jvm.ClassFile.FieldType) fr lo h0 (ovT m0 r hb) (QM G none h0 (ovT m0 r hb)) 89 [(0, .ref m0), (1, .int v16), (2, .int v17), (3, .int v18)] [.int v19, .ref (m0 + 18)] (ovT m0 M20 hb) := by
  unfold T_laysBarred_J89 at hF
  refine v_iconst dX6_laysBarred_89 (v := 0) (by decide) ?_
  exact v_sub [0, 1, 2, 3] rfl (w_T_laysBarred_J90 hfr hlo hc30 hF)
def T_laysBarred_L30 (N : Nat) (x30 : Int32 → Int32 → TM → Option TM) : Nat → Int32 → Int32 → Int32 → TM → Option TM
  | 0, _, _, _, _ => none
  | n33 + 1, v7, v8, v9, M10 =>
    (T_bookMany M10).bind fun v14 =>
    if v14 ≤ v9 then
      x30 v7 v8 M10
    else
      (T_isOpen M10 v8 v9).bind fun v15 =>
      if v15 = 0 then
        T_laysBarred_J89 N (T_laysBarred_L30 N x30 n33) v7 v8 v9 (((8 : Int32) * v8) + v9) M10
      else
        (T_ones N v8).bind fun v28 =>
        (tra M10 2 5660 (5 : Int32)).bind fun v29 =>
        (T_daysOf N M10 (v8 &&& (v7 ^^^ (-1 : Int32)))).bind fun v30 =>
        bd2 (T_isBarredBy N v9 v28 (v29 + v30) M10) fun v32 M31 =>
        if v32 = 0 then
          T_laysBarred_J89 N (T_laysBarred_L30 N x30 n33) v7 v8 v9 (((8 : Int32) * v8) + v9) M31
        else
          T_laysBarred_J90 N (T_laysBarred_L30 N x30 n33) v7 v8 v9 (1 : Int32) (((8 : Int32) * v8) + v9) M31
theorem w_T_laysBarred_L30 {l : Launch} {G : GT} {fr lo : Nat} {h0 : Hp} {m0 : Nat} {hb : Hp} {N : Nat} {r : TM} (hfr : 119 ≤ fr) (hlo : 2871 ≤ lo) {x30 : Int32 → Int32 → TM → Option TM} (hx30 : ∀ (v11 : Int32) (v12 : Int32) (M13 : TM), x30 v11 v12 M13 = some r → V l G cX6_laysBarred RX6 "laysBarred" 4 (Option.none : Option Jvm.ClassFile.FieldType) fr lo h0 (ovT m0 r hb) (QM G none h0 (ovT m0 r hb)) 97 [(0, .ref m0), (1, .int v11), (2, .int v12)] [] (ovT m0 M13 hb)) : ∀ (n : Nat) (v7 : Int32) (v8 : Int32) (v9 : Int32) (M10 : TM), T_laysBarred_L30 N x30 n v7 v8 v9 M10 = some r → V l G cX6_laysBarred RX6 "laysBarred" 4 (Option.none : Option Jvm.ClassFile.FieldType) fr lo h0 (ovT m0 r hb) (QM G none h0 (ovT m0 r hb)) 30 [(0, .ref m0), (1, .int v7), (2, .int v8), (3, .int v9)] [] (ovT m0 M10 hb) := by
  intro n
  induction n with
  | zero =>
    intro v7 v8 v9 M10 hF
    cases (show (none : Option TM) = some r from hF)
  | succ n hc30 =>
    intro v7 v8 v9 M10 hF
    rw [T_laysBarred_L30] at hF
    refine v_iload_n dX6_laysBarred_30 rfl 3 rfl ?_
    refine v_aload_n dX6_laysBarred_31 rfl 0 rfl ?_
    obtain ⟨v14, e_v14, hF⟩ := Option.bind_eq_some_iff.mp hF
    refine v_calV1 dX6_laysBarred_32 vl_X6_112 q1837 rc_ov (ct_T_bookMany e_v14) rfl rfl (Nat.le_trans (Nat.le_of_ble_eq_true rfl) hfr) (Nat.le_trans (Nat.le_of_ble_eq_true rfl) hlo) (Nat.le_of_ble_eq_true rfl) ?_
    refine v_icmp_ge (tgt := 97) dX6_laysBarred_35 (by decide) hF (fun hF => ?_) (fun hF => ?_)
    · exact v_sub [0, 1, 2] rfl (hx30 _ _ _ hF)
    · refine v_aload_n dX6_laysBarred_38 rfl 0 rfl ?_
      refine t_geta 35 18 dX6_laysBarred_39 fl_X6_77 (Nat.le_of_ble_eq_true rfl) (fun _ _ => rfl) ?_
      refine v_bipush dX6_laysBarred_42 (v := 8) (by decide) ?_
      refine v_iload_n dX6_laysBarred_44 rfl 2 rfl ?_
      refine v_imul dX6_laysBarred_45 ?_
      refine v_iload_n dX6_laysBarred_46 rfl 3 rfl ?_
      refine v_iadd dX6_laysBarred_47 ?_
      refine v_aload_n dX6_laysBarred_48 rfl 0 rfl ?_
      refine v_iload_n dX6_laysBarred_49 rfl 2 rfl ?_
      refine v_iload_n dX6_laysBarred_50 rfl 3 rfl ?_
      obtain ⟨v15, e_v15, hF⟩ := Option.bind_eq_some_iff.mp hF
      refine v_calV1 dX6_laysBarred_51 vl_X6_137 q1864 rc_ov (ct_T_isOpen e_v15) rfl rfl (Nat.le_trans (Nat.le_of_ble_eq_true rfl) hfr) (Nat.le_trans (Nat.le_of_ble_eq_true rfl) hlo) (Nat.le_of_ble_eq_true rfl) ?_
      refine v_if_eq (tgt := 89) dX6_laysBarred_54 (by decide) hF (fun hF => ?_) (fun hF => ?_)
      · exact v_sub [0, 1, 2, 3] rfl (w_T_laysBarred_J89 hfr hlo hc30 hF)
      · refine v_aload_n dX6_laysBarred_57 rfl 0 rfl ?_
        refine v_iload_n dX6_laysBarred_58 rfl 3 rfl ?_
        refine v_iload_n dX6_laysBarred_59 rfl 2 rfl ?_
        obtain ⟨v28, e_v28, hF⟩ := Option.bind_eq_some_iff.mp hF
        refine v_calS1 dX6_laysBarred_60 sl_X6_304 q1871 (ct_T_ones e_v28) rfl rfl (Nat.le_trans (Nat.le_of_ble_eq_true rfl) hfr) (Nat.le_trans (Nat.le_of_ble_eq_true rfl) hlo) (Nat.le_of_ble_eq_true rfl) ?_
        refine v_aload_n dX6_laysBarred_63 rfl 0 rfl ?_
        refine t_geta 2 2 dX6_laysBarred_64 fl_X6_24 (Nat.le_of_ble_eq_true rfl) (fun _ _ => rfl) ?_
        refine v_iconst dX6_laysBarred_67 (v := 5) (by decide) ?_
        refine t_iald 2 dX6_laysBarred_68 rfl (Nat.le_of_ble_eq_true rfl) (by decide) hF (fun v29 hF => ?_)
        refine v_aload_n dX6_laysBarred_69 rfl 0 rfl ?_
        refine v_iload_n dX6_laysBarred_70 rfl 2 rfl ?_
        refine v_iload_n dX6_laysBarred_71 rfl 1 rfl ?_
        refine v_iconst dX6_laysBarred_72 (v := -1) (by decide) ?_
        refine v_ixor dX6_laysBarred_73 ?_
        refine v_iand dX6_laysBarred_74 ?_
        obtain ⟨v30, e_v30, hF⟩ := Option.bind_eq_some_iff.mp hF
        refine v_calV1 dX6_laysBarred_75 vl_X6_416 q2248 rc_ov (ct_T_daysOf e_v30) rfl rfl (Nat.le_trans (Nat.le_of_ble_eq_true rfl) hfr) (Nat.le_trans (Nat.le_of_ble_eq_true rfl) hlo) (Nat.le_of_ble_eq_true rfl) ?_
        refine v_iadd dX6_laysBarred_78 ?_
        obtain ⟨v32, M31, e_v32, hF⟩ := bd2_spec hF
        refine v_calV1 dX6_laysBarred_79 vl_X6_340 q1875 rc_ov (ct_T_isBarredBy e_v32) rfl rfl (Nat.le_trans (Nat.le_of_ble_eq_true rfl) hfr) (Nat.le_trans (Nat.le_of_ble_eq_true rfl) hlo) (Nat.le_of_ble_eq_true rfl) ?_
        refine v_if_eq (tgt := 89) dX6_laysBarred_82 (by decide) hF (fun hF => ?_) (fun hF => ?_)
        · exact v_sub [0, 1, 2, 3] rfl (w_T_laysBarred_J89 hfr hlo hc30 hF)
        · refine v_iconst dX6_laysBarred_85 (v := 1) (by decide) ?_
          refine v_goto (tgt := 90) dX6_laysBarred_86 (by decide) ?_
          exact v_sub [0, 1, 2, 3] rfl (w_T_laysBarred_J90 hfr hlo hc30 hF)
def T_laysBarred_J97 (N : Nat) (c9 : Int32 → Int32 → TM → Option TM) (v37 : Int32) (v38 : Int32) (M39 : TM) : Option TM :=
  c9 v37 (v38 + (1 : Int32)) M39
theorem w_T_laysBarred_J97 {l : Launch} {G : GT} {fr lo : Nat} {h0 : Hp} {m0 : Nat} {hb : Hp} {N : Nat} {r : TM} (hfr : 119 ≤ fr) (hlo : 2871 ≤ lo) {c9 : Int32 → Int32 → TM → Option TM} (hc9 : ∀ (v2 : Int32) (v3 : Int32) (M4 : TM), c9 v2 v3 M4 = some r → V l G cX6_laysBarred RX6 "laysBarred" 4 (Option.none : Option Jvm.ClassFile.FieldType) fr lo h0 (ovT m0 r hb) (QM G none h0 (ovT m0 r hb)) 9 [(0, .ref m0), (1, .int v2), (2, .int v3)] [] (ovT m0 M4 hb)) {v37 : Int32} {v38 : Int32} {M39 : TM} (hF : T_laysBarred_J97 N c9 v37 v38 M39 = some r) : V l G cX6_laysBarred RX6 "laysBarred" 4 (Option.none : Option Jvm.ClassFile.FieldType) fr lo h0 (ovT m0 r hb) (QM G none h0 (ovT m0 r hb)) 97 [(0, .ref m0), (1, .int v37), (2, .int v38)] [] (ovT m0 M39 hb) := by
  unfold T_laysBarred_J97 at hF
  refine v_iinc dX6_laysBarred_97 2 rfl (v := v38 + (1 : Int32)) (by rfl) (Nat.le_of_ble_eq_true rfl) (L' := [(2, .int (v38 + (1 : Int32))), (0, .ref m0), (1, .int v37)]) rfl ?_
  refine v_goto (tgt := 9) dX6_laysBarred_100 (by decide) ?_
  exact v_sub [1, 2, 0] rfl (hc9 _ _ _ hF)
def T_laysBarred_L9 (N : Nat) (x9 : TM → Option TM) : Nat → Int32 → Int32 → TM → Option TM
  | 0, _, _, _ => none
  | n40 + 1, v2, v3, M4 =>
    (T_everything M4).bind fun v6 =>
    if v6 < v3 then
      x9 M4
    else
      if (v2 &&& (v3 ^^^ (-1 : Int32))) = 0 then
        T_laysBarred_L30 N (fun v34 v35 M36 =>
          T_laysBarred_J97 N (T_laysBarred_L9 N x9 n40) v34 v35 M36) N v2 v3 (0 : Int32) M4
      else
        T_laysBarred_J97 N (T_laysBarred_L9 N x9 n40) v2 v3 M4
theorem w_T_laysBarred_L9 {l : Launch} {G : GT} {fr lo : Nat} {h0 : Hp} {m0 : Nat} {hb : Hp} {N : Nat} {r : TM} (hfr : 119 ≤ fr) (hlo : 2871 ≤ lo) {x9 : TM → Option TM} (hx9 : ∀ (M5 : TM), x9 M5 = some r → V l G cX6_laysBarred RX6 "laysBarred" 4 (Option.none : Option Jvm.ClassFile.FieldType) fr lo h0 (ovT m0 r hb) (QM G none h0 (ovT m0 r hb)) 103 [] [] (ovT m0 M5 hb)) : ∀ (n : Nat) (v2 : Int32) (v3 : Int32) (M4 : TM), T_laysBarred_L9 N x9 n v2 v3 M4 = some r → V l G cX6_laysBarred RX6 "laysBarred" 4 (Option.none : Option Jvm.ClassFile.FieldType) fr lo h0 (ovT m0 r hb) (QM G none h0 (ovT m0 r hb)) 9 [(0, .ref m0), (1, .int v2), (2, .int v3)] [] (ovT m0 M4 hb) := by
  intro n
  induction n with
  | zero =>
    intro v2 v3 M4 hF
    cases (show (none : Option TM) = some r from hF)
  | succ n hc9 =>
    intro v2 v3 M4 hF
    rw [T_laysBarred_L9] at hF
    refine v_iload_n dX6_laysBarred_9 rfl 2 rfl ?_
    refine v_aload_n dX6_laysBarred_10 rfl 0 rfl ?_
    obtain ⟨v6, e_v6, hF⟩ := Option.bind_eq_some_iff.mp hF
    refine v_calV1 dX6_laysBarred_11 vl_X6_382 q2175 rc_ov (ct_T_everything e_v6) rfl rfl (Nat.le_trans (Nat.le_of_ble_eq_true rfl) hfr) (Nat.le_trans (Nat.le_of_ble_eq_true rfl) hlo) (Nat.le_of_ble_eq_true rfl) ?_
    refine v_icmp_gt (tgt := 103) dX6_laysBarred_14 (by decide) hF (fun hF => ?_) (fun hF => ?_)
    · exact v_sub [] rfl (hx9 _ hF)
    · refine v_iload_n dX6_laysBarred_17 rfl 1 rfl ?_
      refine v_iload_n dX6_laysBarred_18 rfl 2 rfl ?_
      refine v_iconst dX6_laysBarred_19 (v := -1) (by decide) ?_
      refine v_ixor dX6_laysBarred_20 ?_
      refine v_iand dX6_laysBarred_21 ?_
      refine v_if_eq (tgt := 28) dX6_laysBarred_22 (by decide) hF (fun hF => ?_) (fun hF => ?_)
      · refine v_iconst dX6_laysBarred_28 (v := 0) (by decide) ?_
        refine v_istore_n dX6_laysBarred_29 rfl (Nat.le_of_ble_eq_true rfl) (L' := [(3, .int (0 : Int32)), (0, .ref m0), (1, .int v2), (2, .int v3)]) rfl ?_
        refine v_sub [1, 2, 3, 0] rfl (w_T_laysBarred_L30 hfr hlo ?_ N _ _ _ _ hF)
        intro v34 v35 M36 hF
        exact v_sub [0, 1, 2] rfl (w_T_laysBarred_J97 hfr hlo hc9 hF)
      · refine v_goto (tgt := 97) dX6_laysBarred_25 (by decide) ?_
        exact v_sub [0, 1, 2] rfl (w_T_laysBarred_J97 hfr hlo hc9 hF)
def T_laysBarred (N : Nat) (M : TM) : Option TM :=
  (tra M 2 5660 (0 : Int32)).bind fun v1 =>
  T_laysBarred_L9 N (fun M41 =>
    some M41) N v1 v1 M
theorem w_T_laysBarred {l : Launch} {G : GT} {fr lo : Nat} {h0 : Hp} {m0 : Nat} {hb : Hp} {N : Nat} {r : TM} (hfr : 119 ≤ fr) (hlo : 2871 ≤ lo) {M : TM} (hF : T_laysBarred N M = some r) : V l G cX6_laysBarred RX6 "laysBarred" 4 (Option.none : Option Jvm.ClassFile.FieldType) fr lo h0 (ovT m0 r hb) (QM G none h0 (ovT m0 r hb)) 0 [(0, .ref m0)] [] (ovT m0 M hb) := by
  unfold T_laysBarred at hF
  refine v_aload_n dX6_laysBarred_0 rfl 0 rfl ?_
  refine t_geta 2 2 dX6_laysBarred_1 fl_X6_24 (Nat.le_of_ble_eq_true rfl) (fun _ _ => rfl) ?_
  refine v_iconst dX6_laysBarred_4 (v := 0) (by decide) ?_
  refine t_iald 2 dX6_laysBarred_5 rfl (Nat.le_of_ble_eq_true rfl) (by decide) hF (fun v1 hF => ?_)
  refine v_istore_n dX6_laysBarred_6 rfl (Nat.le_of_ble_eq_true rfl) (L' := [(1, .int v1), (0, .ref m0)]) rfl ?_
  refine v_iload_n dX6_laysBarred_7 rfl 0 rfl ?_
  refine v_istore_n dX6_laysBarred_8 rfl (Nat.le_of_ble_eq_true rfl) (L' := [(2, .int v1), (1, .int v1), (0, .ref m0)]) rfl ?_
  refine v_sub [2, 1, 0] rfl (w_T_laysBarred_L9 hfr hlo ?_ N _ _ _ hF)
  intro M41 hF
  cases hF
  exact v_vret dX6_laysBarred_103 rfl rfl rfl
theorem ct_T_laysBarred {l : Launch} {G : GT} {m0 : Nat} {hb : Hp} {N : Nat} {r : TM} {M : TM} (hF : T_laysBarred N M = some r) : Ct l G yX6_laysBarred (ws_ yX6_laysBarred cX6_laysBarred 4 (Option.none : Option Jvm.ClassFile.FieldType)) 119 2871 [.ref m0] (ovT m0 M hb) none (ovT m0 r hb) :=
  ct_of (by decide) (Nat.le_of_ble_eq_true rfl) (w_T_laysBarred (Nat.le_refl _) (Nat.le_refl _) hF)
theorem vl_X6_440 : ∀ ci ∈ [6], VL RX6 440 ci yX6_laysBarred 0 := by
  intro ci h
  simp only [List.mem_cons, List.not_mem_nil, or_false] at h
  subst h; exact ⟨RX6, TX6, 56, rfl, q146, ⟨by decide, by decide⟩, by decide +kernel, q2243, Or.inl ⟨q2241, qs122⟩⟩
theorem pl_X6_434 : PL RX6 434 [6] 41 (.int) false := by
  intro ci h
  simp only [List.mem_cons, List.not_mem_nil, or_false] at h
  subst h; exact ⟨RX6, _, TX6, 56, tyX6, rfl, in_X6, by decide, Or.inl q1675, Or.inl rfl, tyX6_ok, rfl, by decide +kernel, rfl, fun z => by cases z⟩
theorem pl_X6_419 : PL RX6 419 [6] 42 (.int) false := by
  intro ci h
  simp only [List.mem_cons, List.not_mem_nil, or_false] at h
  subst h; exact ⟨RX6, _, TX6, 56, tyX6, rfl, in_X6, by decide, Or.inl q1676, Or.inl rfl, tyX6_ok, rfl, by decide +kernel, rfl, fun z => by cases z⟩
def T_goesThrough (N : Nat) (a1 : Int32) (a2 : Int32) (a3 : Int32) (M : TM) : Option TM :=
  (T_laysBarred N M).bind fun M1 =>
  (some (tsi M1 41 a2)).bind fun (M2 : TM) =>
  (some (tsi M2 42 a3)).bind fun (M3 : TM) =>
  (some (tsi M3 39 (-1 : Int32))).bind fun (M4 : TM) =>
  (some (tsi M4 38 (0 : Int32))).bind fun (M5 : TM) =>
  (some (tsi M5 40 (1000000 : Int32))).bind fun (M6 : TM) =>
  (tra M6 2 5660 (0 : Int32)).bind fun v7 =>
  (tra M6 2 5660 ((1 : Int32) + a1)).bind fun v8 =>
  (T_goesOn N 16 a1 v7 (0 : Int32) v8 (0 : Int32) M6).bind fun M9 =>
  some M9
theorem w_T_goesThrough {l : Launch} {G : GT} {fr lo : Nat} {h0 : Hp} {m0 : Nat} {hb : Hp} {N : Nat} {r : TM} (hfr : 136 ≤ fr) (hlo : 3349 ≤ lo) {a1 : Int32} {a2 : Int32} {a3 : Int32} {M : TM} (hF : T_goesThrough N a1 a2 a3 M = some r) : V l G cX6_goesThrough RX6 "goesThrough" 4 (Option.none : Option Jvm.ClassFile.FieldType) fr lo h0 (ovT m0 r hb) (QM G none h0 (ovT m0 r hb)) 0 [(0, .ref m0), (1, .int a1), (2, .int a2), (3, .int a3)] [] (ovT m0 M hb) := by
  unfold T_goesThrough at hF
  refine v_aload_n dX6_goesThrough_0 rfl 0 rfl ?_
  obtain ⟨M1, e_M1, hF⟩ := Option.bind_eq_some_iff.mp hF
  refine v_calV0 dX6_goesThrough_1 vl_X6_440 q2244 rc_ov (ct_T_laysBarred e_M1) rfl rfl (Nat.le_trans (Nat.le_of_ble_eq_true rfl) hfr) (Nat.le_trans (Nat.le_of_ble_eq_true rfl) hlo) (Nat.le_of_ble_eq_true rfl) ?_
  refine v_aload_n dX6_goesThrough_4 rfl 0 rfl ?_
  refine v_iload_n dX6_goesThrough_5 rfl 2 rfl ?_
  refine t_puti 41 dX6_goesThrough_6 pl_X6_434 rfl ?_
  refine v_letM hF (fun M2 hF => ?_)
  refine v_aload_n dX6_goesThrough_9 rfl 0 rfl ?_
  refine v_iload_n dX6_goesThrough_10 rfl 3 rfl ?_
  refine t_puti 42 dX6_goesThrough_11 pl_X6_419 rfl ?_
  refine v_letM hF (fun M3 hF => ?_)
  refine v_aload_n dX6_goesThrough_14 rfl 0 rfl ?_
  refine v_iconst dX6_goesThrough_15 (v := -1) (by decide) ?_
  refine t_puti 39 dX6_goesThrough_16 pl_X6_425 rfl ?_
  refine v_letM hF (fun M4 hF => ?_)
  refine v_aload_n dX6_goesThrough_19 rfl 0 rfl ?_
  refine v_iconst dX6_goesThrough_20 (v := 0) (by decide) ?_
  refine t_puti 38 dX6_goesThrough_21 pl_X6_428 rfl ?_
  refine v_letM hF (fun M5 hF => ?_)
  refine v_aload_n dX6_goesThrough_24 rfl 0 rfl ?_
  refine v_ldc dX6_goesThrough_25 q2017 ?_
  refine t_puti 40 dX6_goesThrough_27 pl_X6_422 rfl ?_
  refine v_letM hF (fun M6 hF => ?_)
  refine v_aload_n dX6_goesThrough_30 rfl 0 rfl ?_
  refine v_iload_n dX6_goesThrough_31 rfl 1 rfl ?_
  refine v_aload_n dX6_goesThrough_32 rfl 0 rfl ?_
  refine t_geta 2 2 dX6_goesThrough_33 fl_X6_24 (Nat.le_of_ble_eq_true rfl) (fun _ _ => rfl) ?_
  refine v_iconst dX6_goesThrough_36 (v := 0) (by decide) ?_
  refine t_iald 2 dX6_goesThrough_37 rfl (Nat.le_of_ble_eq_true rfl) (by decide) hF (fun v7 hF => ?_)
  refine v_iconst dX6_goesThrough_38 (v := 0) (by decide) ?_
  refine v_aload_n dX6_goesThrough_39 rfl 0 rfl ?_
  refine t_geta 2 2 dX6_goesThrough_40 fl_X6_24 (Nat.le_of_ble_eq_true rfl) (fun _ _ => rfl) ?_
  refine v_iconst dX6_goesThrough_43 (v := 1) (by decide) ?_
  refine v_iload_n dX6_goesThrough_44 rfl 1 rfl ?_
  refine v_iadd dX6_goesThrough_45 ?_
  refine t_iald 2 dX6_goesThrough_46 rfl (Nat.le_of_ble_eq_true rfl) (by decide) hF (fun v8 hF => ?_)
  refine v_iconst dX6_goesThrough_47 (v := 0) (by decide) ?_
  obtain ⟨M9, e_M9, hF⟩ := Option.bind_eq_some_iff.mp hF
  refine v_calV0 dX6_goesThrough_48 vl_X6_437 q2252 rc_ov (ctd_T_goesOn 16 e_M9) rfl rfl (Nat.le_trans (Nat.le_of_ble_eq_true rfl) hfr) (Nat.le_trans (Nat.le_of_ble_eq_true rfl) hlo) (Nat.le_of_ble_eq_true rfl) ?_
  cases hF
  exact v_vret dX6_goesThrough_51 rfl rfl rfl
theorem ct_T_goesThrough {l : Launch} {G : GT} {m0 : Nat} {hb : Hp} {N : Nat} {r : TM} {a1 : Int32} {a2 : Int32} {a3 : Int32} {M : TM} (hF : T_goesThrough N a1 a2 a3 M = some r) : Ct l G yX6_goesThrough (ws_ yX6_goesThrough cX6_goesThrough 4 (Option.none : Option Jvm.ClassFile.FieldType)) 136 3349 [.ref m0, .int a1, .int a2, .int a3] (ovT m0 M hb) none (ovT m0 r hb) :=
  ct_of (by decide) (Nat.le_of_ble_eq_true rfl) (w_T_goesThrough (Nat.le_refl _) (Nat.le_refl _) hF)
theorem vl_X6_443 : ∀ ci ∈ [6], VL RX6 443 ci yX6_goesThrough 3 := by
  intro ci h
  simp only [List.mem_cons, List.not_mem_nil, or_false] at h
  subst h; exact ⟨RX6, TX6, 56, rfl, q146, ⟨by decide, by decide⟩, by decide +kernel, q2239, Or.inl ⟨q2237, qs121⟩⟩
theorem fl_X6_428 : FL RX6 428 [6] 38 := by
  intro ci h
  simp only [List.mem_cons, List.not_mem_nil, or_false] at h
  subst h; exact ⟨RX6, _, TX6, 56, rfl, in_X6, by decide, Or.inl q1672, Or.inl rfl⟩
def T_tallest (N : Nat) (a1 : Int32) (a2 : Int32) (a3 : Int32) (M : TM) : Option (Int32 × TM) :=
  (T_isLeek M a1).bind fun v1 =>
  if v1 = 0 then
    some ((-1 : Int32), M)
  else
    (T_lies a2 (0 : Int32) (60 : Int32)).bind fun v2 =>
    if v2 = 0 then
      some ((-1 : Int32), M)
    else
      if (-1 : Int32) ≤ a3 then
        (T_goesThrough N a1 a2 (1000000 : Int32) M).bind fun M3 =>
        if a3 = (-1 : Int32) then
          some ((M3.1 39), M3)
        else
          if (M3.1 38) ≤ a3 then
            some ((-1 : Int32), M3)
          else
            (tra M3 37 8 a3).bind fun v4 =>
            some (v4, M3)
      else
        some ((-1 : Int32), M)
theorem w_T_tallest {l : Launch} {G : GT} {fr lo : Nat} {h0 : Hp} {m0 : Nat} {hb : Hp} {N : Nat} {r : (Int32 × TM)} (hfr : 137 ≤ fr) (hlo : 3372 ≤ lo) {a1 : Int32} {a2 : Int32} {a3 : Int32} {M : TM} (hF : T_tallest N a1 a2 a3 M = some r) : V l G cX6_tallest RX6 "tallest" 4 (Option.some Jvm.ClassFile.FieldType.int) fr lo h0 (ovT m0 r.2 hb) (QM G (some (.int r.1)) h0 (ovT m0 r.2 hb)) 0 [(0, .ref m0), (1, .int a1), (2, .int a2), (3, .int a3)] [] (ovT m0 M hb) := by
  unfold T_tallest at hF
  refine v_aload_n dX6_tallest_0 rfl 0 rfl ?_
  refine v_iload_n dX6_tallest_1 rfl 1 rfl ?_
  obtain ⟨v1, e_v1, hF⟩ := Option.bind_eq_some_iff.mp hF
  refine v_calV1 dX6_tallest_2 vl_X6_143 q1914 rc_ov (ct_T_isLeek e_v1) rfl rfl (Nat.le_trans (Nat.le_of_ble_eq_true rfl) hfr) (Nat.le_trans (Nat.le_of_ble_eq_true rfl) hlo) (Nat.le_of_ble_eq_true rfl) ?_
  refine v_if_eq (tgt := 23) dX6_tallest_5 (by decide) hF (fun hF => ?_) (fun hF => ?_)
  · refine v_iconst dX6_tallest_23 (v := -1) (by decide) ?_
    cases hF
    exact v_iret dX6_tallest_24 rfl rfl rfl rfl
  · refine v_iload_n dX6_tallest_8 rfl 2 rfl ?_
    refine v_iconst dX6_tallest_9 (v := 0) (by decide) ?_
    refine v_bipush dX6_tallest_10 (v := 60) (by decide) ?_
    obtain ⟨v2, e_v2, hF⟩ := Option.bind_eq_some_iff.mp hF
    refine v_calS1 dX6_tallest_12 sl_X6_102 q1810 (ct_T_lies e_v2) rfl rfl (Nat.le_trans (Nat.le_of_ble_eq_true rfl) hfr) (Nat.le_trans (Nat.le_of_ble_eq_true rfl) hlo) (Nat.le_of_ble_eq_true rfl) ?_
    refine v_if_eq (tgt := 23) dX6_tallest_15 (by decide) hF (fun hF => ?_) (fun hF => ?_)
    · refine v_iconst dX6_tallest_23 (v := -1) (by decide) ?_
      cases hF
      exact v_iret dX6_tallest_24 rfl rfl rfl rfl
    · refine v_iload_n dX6_tallest_18 rfl 3 rfl ?_
      refine v_iconst dX6_tallest_19 (v := -1) (by decide) ?_
      refine v_icmp_ge (tgt := 25) dX6_tallest_20 (by decide) hF (fun hF => ?_) (fun hF => ?_)
      · refine v_aload_n dX6_tallest_25 rfl 0 rfl ?_
        refine v_iload_n dX6_tallest_26 rfl 1 rfl ?_
        refine v_iload_n dX6_tallest_27 rfl 2 rfl ?_
        refine v_ldc dX6_tallest_28 q2017 ?_
        obtain ⟨M3, e_M3, hF⟩ := Option.bind_eq_some_iff.mp hF
        refine v_calV0 dX6_tallest_30 vl_X6_443 q2240 rc_ov (ct_T_goesThrough e_M3) rfl rfl (Nat.le_trans (Nat.le_of_ble_eq_true rfl) hfr) (Nat.le_trans (Nat.le_of_ble_eq_true rfl) hlo) (Nat.le_of_ble_eq_true rfl) ?_
        refine v_iload_n dX6_tallest_33 rfl 3 rfl ?_
        refine v_iconst dX6_tallest_34 (v := -1) (by decide) ?_
        refine v_icmp_ne (tgt := 45) dX6_tallest_35 (by decide) hF (fun hF => ?_) (fun hF => ?_)
        · refine v_iload_n dX6_tallest_45 rfl 3 rfl ?_
          refine v_aload_n dX6_tallest_46 rfl 0 rfl ?_
          refine t_geti 38 dX6_tallest_47 fl_X6_428 rfl ?_
          refine v_icmp_ge (tgt := 62) dX6_tallest_50 (by decide) hF (fun hF => ?_) (fun hF => ?_)
          · refine v_iconst dX6_tallest_62 (v := -1) (by decide) ?_
            cases hF
            exact v_iret dX6_tallest_63 rfl rfl rfl rfl
          · refine v_aload_n dX6_tallest_53 rfl 0 rfl ?_
            refine t_geta 37 20 dX6_tallest_54 fl_X6_83 (Nat.le_of_ble_eq_true rfl) (fun _ _ => rfl) ?_
            refine v_iload_n dX6_tallest_57 rfl 3 rfl ?_
            refine t_iald 20 dX6_tallest_58 rfl (Nat.le_of_ble_eq_true rfl) (by decide) hF (fun v4 hF => ?_)
            refine v_goto (tgt := 63) dX6_tallest_59 (by decide) ?_
            cases hF
            exact v_iret dX6_tallest_63 rfl rfl rfl rfl
        · refine v_aload_n dX6_tallest_38 rfl 0 rfl ?_
          refine t_geti 39 dX6_tallest_39 fl_X6_425 rfl ?_
          refine v_goto (tgt := 63) dX6_tallest_42 (by decide) ?_
          cases hF
          exact v_iret dX6_tallest_63 rfl rfl rfl rfl
      · refine v_iconst dX6_tallest_23 (v := -1) (by decide) ?_
        cases hF
        exact v_iret dX6_tallest_24 rfl rfl rfl rfl
theorem ct_T_tallest {l : Launch} {G : GT} {m0 : Nat} {hb : Hp} {N : Nat} {r : (Int32 × TM)} {a1 : Int32} {a2 : Int32} {a3 : Int32} {M : TM} (hF : T_tallest N a1 a2 a3 M = some r) : Ct l G yX6_tallest (ws_ yX6_tallest cX6_tallest 4 (Option.some Jvm.ClassFile.FieldType.int)) 137 3372 [.ref m0, .int a1, .int a2, .int a3] (ovT m0 M hb) (some (.int r.1)) (ovT m0 r.2 hb) :=
  ct_of (by decide) (Nat.le_of_ble_eq_true rfl) (w_T_tallest (Nat.le_refl _) (Nat.le_refl _) hF)
def T_soon (N : Nat) (a1 : Int32) (a2 : Int32) (M : TM) : Option (Int32 × TM) :=
  (T_isLeek M a1).bind fun v1 =>
  if v1 = 0 then
    some ((-1 : Int32), M)
  else
    (T_lies a2 (0 : Int32) (999 : Int32)).bind fun v2 =>
    if v2 = 0 then
      some ((-1 : Int32), M)
    else
      (T_goesThrough N a1 (1000000 : Int32) a2 M).bind fun M3 =>
      if (M3.1 40) = (1000000 : Int32) then
        some ((-1 : Int32), M3)
      else
        some ((M3.1 40), M3)
theorem w_T_soon {l : Launch} {G : GT} {fr lo : Nat} {h0 : Hp} {m0 : Nat} {hb : Hp} {N : Nat} {r : (Int32 × TM)} (hfr : 137 ≤ fr) (hlo : 3372 ≤ lo) {a1 : Int32} {a2 : Int32} {M : TM} (hF : T_soon N a1 a2 M = some r) : V l G cX6_soon RX6 "soon" 3 (Option.some Jvm.ClassFile.FieldType.int) fr lo h0 (ovT m0 r.2 hb) (QM G (some (.int r.1)) h0 (ovT m0 r.2 hb)) 0 [(0, .ref m0), (1, .int a1), (2, .int a2)] [] (ovT m0 M hb) := by
  unfold T_soon at hF
  refine v_aload_n dX6_soon_0 rfl 0 rfl ?_
  refine v_iload_n dX6_soon_1 rfl 1 rfl ?_
  obtain ⟨v1, e_v1, hF⟩ := Option.bind_eq_some_iff.mp hF
  refine v_calV1 dX6_soon_2 vl_X6_143 q1914 rc_ov (ct_T_isLeek e_v1) rfl rfl (Nat.le_trans (Nat.le_of_ble_eq_true rfl) hfr) (Nat.le_trans (Nat.le_of_ble_eq_true rfl) hlo) (Nat.le_of_ble_eq_true rfl) ?_
  refine v_if_eq (tgt := 19) dX6_soon_5 (by decide) hF (fun hF => ?_) (fun hF => ?_)
  · refine v_iconst dX6_soon_19 (v := -1) (by decide) ?_
    cases hF
    exact v_iret dX6_soon_20 rfl rfl rfl rfl
  · refine v_iload_n dX6_soon_8 rfl 2 rfl ?_
    refine v_iconst dX6_soon_9 (v := 0) (by decide) ?_
    refine v_sipush dX6_soon_10 (v := 999) (by decide) ?_
    obtain ⟨v2, e_v2, hF⟩ := Option.bind_eq_some_iff.mp hF
    refine v_calS1 dX6_soon_13 sl_X6_102 q1810 (ct_T_lies e_v2) rfl rfl (Nat.le_trans (Nat.le_of_ble_eq_true rfl) hfr) (Nat.le_trans (Nat.le_of_ble_eq_true rfl) hlo) (Nat.le_of_ble_eq_true rfl) ?_
    refine v_if_ne (tgt := 21) dX6_soon_16 (by decide) hF (fun hF => ?_) (fun hF => ?_)
    · refine v_aload_n dX6_soon_21 rfl 0 rfl ?_
      refine v_iload_n dX6_soon_22 rfl 1 rfl ?_
      refine v_ldc dX6_soon_23 q2017 ?_
      refine v_iload_n dX6_soon_25 rfl 2 rfl ?_
      obtain ⟨M3, e_M3, hF⟩ := Option.bind_eq_some_iff.mp hF
      refine v_calV0 dX6_soon_26 vl_X6_443 q2240 rc_ov (ct_T_goesThrough e_M3) rfl rfl (Nat.le_trans (Nat.le_of_ble_eq_true rfl) hfr) (Nat.le_trans (Nat.le_of_ble_eq_true rfl) hlo) (Nat.le_of_ble_eq_true rfl) ?_
      refine v_aload_n dX6_soon_29 rfl 0 rfl ?_
      refine t_geti 40 dX6_soon_30 fl_X6_422 rfl ?_
      refine v_ldc dX6_soon_33 q2017 ?_
      refine v_icmp_ne (tgt := 42) dX6_soon_35 (by decide) hF (fun hF => ?_) (fun hF => ?_)
      · refine v_aload_n dX6_soon_42 rfl 0 rfl ?_
        refine t_geti 40 dX6_soon_43 fl_X6_422 rfl ?_
        cases hF
        exact v_iret dX6_soon_46 rfl rfl rfl rfl
      · refine v_iconst dX6_soon_38 (v := -1) (by decide) ?_
        refine v_goto (tgt := 46) dX6_soon_39 (by decide) ?_
        cases hF
        exact v_iret dX6_soon_46 rfl rfl rfl rfl
    · refine v_iconst dX6_soon_19 (v := -1) (by decide) ?_
      cases hF
      exact v_iret dX6_soon_20 rfl rfl rfl rfl
theorem ct_T_soon {l : Launch} {G : GT} {m0 : Nat} {hb : Hp} {N : Nat} {r : (Int32 × TM)} {a1 : Int32} {a2 : Int32} {M : TM} (hF : T_soon N a1 a2 M = some r) : Ct l G yX6_soon (ws_ yX6_soon cX6_soon 3 (Option.some Jvm.ClassFile.FieldType.int)) 137 3372 [.ref m0, .int a1, .int a2] (ovT m0 M hb) (some (.int r.1)) (ovT m0 r.2 hb) :=
  ct_of (by decide) (Nat.le_of_ble_eq_true rfl) (w_T_soon (Nat.le_refl _) (Nat.le_refl _) hF)
def T_seen (a1 : Int32) (a2 : Int32) (M : TM) : Option (Int32 × TM) :=
  (T_lies a2 (0 : Int32) (99 : Int32)).bind fun v1 =>
  if v1 = 0 then
    bd2 (T_refuses (-1 : Int32) M) fun v18 M17 =>
    some (v18, M17)
  else
    (T_isLeek M a1).bind fun v2 =>
    if v2 = 0 then
      bd2 (T_refuses (-2 : Int32) M) fun v16 M15 =>
      some (v16, M15)
    else
      (tra M 2 5660 (50 : Int32)).bind fun v3 =>
      (some ((34 : Int32) + ((2 : Int32) * v3))).bind fun (v4 : Int32) =>
      (tra M 2 5660 (50 : Int32)).bind fun v5 =>
      if v5 = (6 : Int32) then
        bd2 (T_refuses (-5 : Int32) M) fun v14 M13 =>
        some (v14, M13)
      else
        (twa M 2 5660 v4 a1).bind fun M6 =>
        (twa M6 2 5660 (v4 + (1 : Int32)) a2).bind fun M7 =>
        (tra M7 2 5660 (50 : Int32)).bind fun v8 =>
        (twa M7 2 5660 (50 : Int32) (v8 + (1 : Int32))).bind fun M9 =>
        (tra M9 2 5660 (50 : Int32)).bind fun v10 =>
        bd2 (T_good v10 M9) fun v12 M11 =>
        some (v12, M11)
theorem w_T_seen {l : Launch} {G : GT} {fr lo : Nat} {h0 : Hp} {m0 : Nat} {hb : Hp} {r : (Int32 × TM)} (hfr : 2 ≤ fr) (hlo : 43 ≤ lo) {a1 : Int32} {a2 : Int32} {M : TM} (hF : T_seen a1 a2 M = some r) : V l G cX6_seen RX6 "seen" 4 (Option.some Jvm.ClassFile.FieldType.int) fr lo h0 (ovT m0 r.2 hb) (QM G (some (.int r.1)) h0 (ovT m0 r.2 hb)) 0 [(0, .ref m0), (1, .int a1), (2, .int a2)] [] (ovT m0 M hb) := by
  unfold T_seen at hF
  refine v_iload_n dX6_seen_0 rfl 2 rfl ?_
  refine v_iconst dX6_seen_1 (v := 0) (by decide) ?_
  refine v_bipush dX6_seen_2 (v := 99) (by decide) ?_
  obtain ⟨v1, e_v1, hF⟩ := Option.bind_eq_some_iff.mp hF
  refine v_calS1 dX6_seen_4 sl_X6_102 q1810 (ct_T_lies e_v1) rfl rfl (Nat.le_trans (Nat.le_of_ble_eq_true rfl) hfr) (Nat.le_trans (Nat.le_of_ble_eq_true rfl) hlo) (Nat.le_of_ble_eq_true rfl) ?_
  refine v_if_ne (tgt := 16) dX6_seen_7 (by decide) hF (fun hF => ?_) (fun hF => ?_)
  · refine v_aload_n dX6_seen_16 rfl 0 rfl ?_
    refine v_iload_n dX6_seen_17 rfl 1 rfl ?_
    obtain ⟨v2, e_v2, hF⟩ := Option.bind_eq_some_iff.mp hF
    refine v_calV1 dX6_seen_18 vl_X6_143 q1914 rc_ov (ct_T_isLeek e_v2) rfl rfl (Nat.le_trans (Nat.le_of_ble_eq_true rfl) hfr) (Nat.le_trans (Nat.le_of_ble_eq_true rfl) hlo) (Nat.le_of_ble_eq_true rfl) ?_
    refine v_if_ne (tgt := 31) dX6_seen_21 (by decide) hF (fun hF => ?_) (fun hF => ?_)
    · refine v_bipush dX6_seen_31 (v := 34) (by decide) ?_
      refine v_iconst dX6_seen_33 (v := 2) (by decide) ?_
      refine v_aload_n dX6_seen_34 rfl 0 rfl ?_
      refine t_geta 2 2 dX6_seen_35 fl_X6_24 (Nat.le_of_ble_eq_true rfl) (fun _ _ => rfl) ?_
      refine v_bipush dX6_seen_38 (v := 50) (by decide) ?_
      refine t_iald 2 dX6_seen_40 rfl (Nat.le_of_ble_eq_true rfl) (by decide) hF (fun v3 hF => ?_)
      refine v_imul dX6_seen_41 ?_
      refine v_iadd dX6_seen_42 ?_
      refine v_leti hF (fun v4 hF => ?_)
      refine v_istore_n dX6_seen_43 rfl (Nat.le_of_ble_eq_true rfl) (L' := [(3, .int v4), (0, .ref m0), (1, .int a1), (2, .int a2)]) rfl ?_
      refine v_aload_n dX6_seen_44 rfl 1 rfl ?_
      refine t_geta 2 2 dX6_seen_45 fl_X6_24 (Nat.le_of_ble_eq_true rfl) (fun _ _ => rfl) ?_
      refine v_bipush dX6_seen_48 (v := 50) (by decide) ?_
      refine t_iald 2 dX6_seen_50 rfl (Nat.le_of_ble_eq_true rfl) (by decide) hF (fun v5 hF => ?_)
      refine v_bipush dX6_seen_51 (v := 6) (by decide) ?_
      refine v_icmp_ne (tgt := 63) dX6_seen_53 (by decide) hF (fun hF => ?_) (fun hF => ?_)
      · refine v_aload_n dX6_seen_63 rfl 1 rfl ?_
        refine t_geta 2 2 dX6_seen_64 fl_X6_24 (Nat.le_of_ble_eq_true rfl) (fun _ _ => rfl) ?_
        refine v_iload_n dX6_seen_67 rfl 0 rfl ?_
        refine v_iload_n dX6_seen_68 rfl 2 rfl ?_
        refine t_iast 2 dX6_seen_69 rfl (Nat.le_of_ble_eq_true rfl) (by decide) hF (fun M6 hF => ?_)
        refine v_aload_n dX6_seen_70 rfl 1 rfl ?_
        refine t_geta 2 2 dX6_seen_71 fl_X6_24 (Nat.le_of_ble_eq_true rfl) (fun _ _ => rfl) ?_
        refine v_iload_n dX6_seen_74 rfl 0 rfl ?_
        refine v_iconst dX6_seen_75 (v := 1) (by decide) ?_
        refine v_iadd dX6_seen_76 ?_
        refine v_iload_n dX6_seen_77 rfl 3 rfl ?_
        refine t_iast 2 dX6_seen_78 rfl (Nat.le_of_ble_eq_true rfl) (by decide) hF (fun M7 hF => ?_)
        refine v_aload_n dX6_seen_79 rfl 1 rfl ?_
        refine t_geta 2 2 dX6_seen_80 fl_X6_24 (Nat.le_of_ble_eq_true rfl) (fun _ _ => rfl) ?_
        refine v_bipush dX6_seen_83 (v := 50) (by decide) ?_
        refine v_dup2 dX6_seen_85 rfl rfl ?_
        refine t_iald 2 dX6_seen_86 rfl (Nat.le_of_ble_eq_true rfl) (by decide) hF (fun v8 hF => ?_)
        refine v_iconst dX6_seen_87 (v := 1) (by decide) ?_
        refine v_iadd dX6_seen_88 ?_
        refine t_iast 2 dX6_seen_89 rfl (Nat.le_of_ble_eq_true rfl) (by decide) hF (fun M9 hF => ?_)
        refine v_aload_n dX6_seen_90 rfl 1 rfl ?_
        refine v_aload_n dX6_seen_91 rfl 1 rfl ?_
        refine t_geta 2 2 dX6_seen_92 fl_X6_24 (Nat.le_of_ble_eq_true rfl) (fun _ _ => rfl) ?_
        refine v_bipush dX6_seen_95 (v := 50) (by decide) ?_
        refine t_iald 2 dX6_seen_97 rfl (Nat.le_of_ble_eq_true rfl) (by decide) hF (fun v10 hF => ?_)
        obtain ⟨v12, M11, e_v12, hF⟩ := bd2_spec hF
        refine v_calV1 dX6_seen_98 vl_X6_14 q1818 rc_ov (ct_T_good e_v12) rfl rfl (Nat.le_trans (Nat.le_of_ble_eq_true rfl) hfr) (Nat.le_trans (Nat.le_of_ble_eq_true rfl) hlo) (Nat.le_of_ble_eq_true rfl) ?_
        cases hF
        exact v_iret dX6_seen_101 rfl rfl rfl rfl
      · refine v_aload_n dX6_seen_56 rfl 1 rfl ?_
        refine v_bipush dX6_seen_57 (v := -5) (by decide) ?_
        obtain ⟨v14, M13, e_v14, hF⟩ := bd2_spec hF
        refine v_calV1 dX6_seen_59 vl_X6_106 q1814 rc_ov (ct_T_refuses e_v14) rfl rfl (Nat.le_trans (Nat.le_of_ble_eq_true rfl) hfr) (Nat.le_trans (Nat.le_of_ble_eq_true rfl) hlo) (Nat.le_of_ble_eq_true rfl) ?_
        cases hF
        exact v_iret dX6_seen_62 rfl rfl rfl rfl
    · refine v_aload_n dX6_seen_24 rfl 0 rfl ?_
      refine v_bipush dX6_seen_25 (v := -2) (by decide) ?_
      obtain ⟨v16, M15, e_v16, hF⟩ := bd2_spec hF
      refine v_calV1 dX6_seen_27 vl_X6_106 q1814 rc_ov (ct_T_refuses e_v16) rfl rfl (Nat.le_trans (Nat.le_of_ble_eq_true rfl) hfr) (Nat.le_trans (Nat.le_of_ble_eq_true rfl) hlo) (Nat.le_of_ble_eq_true rfl) ?_
      cases hF
      exact v_iret dX6_seen_30 rfl rfl rfl rfl
  · refine v_aload_n dX6_seen_10 rfl 0 rfl ?_
    refine v_iconst dX6_seen_11 (v := -1) (by decide) ?_
    obtain ⟨v18, M17, e_v18, hF⟩ := bd2_spec hF
    refine v_calV1 dX6_seen_12 vl_X6_106 q1814 rc_ov (ct_T_refuses e_v18) rfl rfl (Nat.le_trans (Nat.le_of_ble_eq_true rfl) hfr) (Nat.le_trans (Nat.le_of_ble_eq_true rfl) hlo) (Nat.le_of_ble_eq_true rfl) ?_
    cases hF
    exact v_iret dX6_seen_15 rfl rfl rfl rfl
theorem ct_T_seen {l : Launch} {G : GT} {m0 : Nat} {hb : Hp} {r : (Int32 × TM)} {a1 : Int32} {a2 : Int32} {M : TM} (hF : T_seen a1 a2 M = some r) : Ct l G yX6_seen (ws_ yX6_seen cX6_seen 4 (Option.some Jvm.ClassFile.FieldType.int)) 2 43 [.ref m0, .int a1, .int a2] (ovT m0 M hb) (some (.int r.1)) (ovT m0 r.2 hb) :=
  ct_of (by decide) (Nat.le_of_ble_eq_true rfl) (w_T_seen (Nat.le_refl _) (Nat.le_refl _) hF)
def T_forget (M : TM) : Option (Int32 × TM) :=
  (tra M 2 5660 (50 : Int32)).bind fun v1 =>
  (twa M 2 5660 (50 : Int32) (0 : Int32)).bind fun M2 =>
  some (v1, M2)
theorem w_T_forget {l : Launch} {G : GT} {fr lo : Nat} {h0 : Hp} {m0 : Nat} {hb : Hp} {r : (Int32 × TM)} (hfr : 0 ≤ fr) (hlo : 0 ≤ lo) {M : TM} (hF : T_forget M = some r) : V l G cX6_forget RX6 "forget" 2 (Option.some Jvm.ClassFile.FieldType.int) fr lo h0 (ovT m0 r.2 hb) (QM G (some (.int r.1)) h0 (ovT m0 r.2 hb)) 0 [(0, .ref m0)] [] (ovT m0 M hb) := by
  unfold T_forget at hF
  refine v_aload_n dX6_forget_0 rfl 0 rfl ?_
  refine t_geta 2 2 dX6_forget_1 fl_X6_24 (Nat.le_of_ble_eq_true rfl) (fun _ _ => rfl) ?_
  refine v_bipush dX6_forget_4 (v := 50) (by decide) ?_
  refine t_iald 2 dX6_forget_6 rfl (Nat.le_of_ble_eq_true rfl) (by decide) hF (fun v1 hF => ?_)
  refine v_istore_n dX6_forget_7 rfl (Nat.le_of_ble_eq_true rfl) (L' := [(1, .int v1), (0, .ref m0)]) rfl ?_
  refine v_aload_n dX6_forget_8 rfl 1 rfl ?_
  refine t_geta 2 2 dX6_forget_9 fl_X6_24 (Nat.le_of_ble_eq_true rfl) (fun _ _ => rfl) ?_
  refine v_bipush dX6_forget_12 (v := 50) (by decide) ?_
  refine v_iconst dX6_forget_14 (v := 0) (by decide) ?_
  refine t_iast 2 dX6_forget_15 rfl (Nat.le_of_ble_eq_true rfl) (by decide) hF (fun M2 hF => ?_)
  refine v_iload_n dX6_forget_16 rfl 0 rfl ?_
  cases hF
  exact v_iret dX6_forget_17 rfl rfl rfl rfl
theorem ct_T_forget {l : Launch} {G : GT} {m0 : Nat} {hb : Hp} {r : (Int32 × TM)} {M : TM} (hF : T_forget M = some r) : Ct l G yX6_forget (ws_ yX6_forget cX6_forget 2 (Option.some Jvm.ClassFile.FieldType.int)) 0 0 [.ref m0] (ovT m0 M hb) (some (.int r.1)) (ovT m0 r.2 hb) :=
  ct_of (by decide) (Nat.le_of_ble_eq_true rfl) (w_T_forget (Nat.le_refl _) (Nat.le_refl _) hF)
theorem fl_X6_86 : FL RX6 86 [6] 43 := by
  intro ci h
  simp only [List.mem_cons, List.not_mem_nil, or_false] at h
  subst h; exact ⟨RX6, _, TX6, 56, rfl, in_X6, by decide, Or.inl q1677, Or.inl rfl⟩
def T_isSo_J61 (N : Nat) (M : TM) (c4 : Int32 → Int32 → Int32 → Option Int32) (v8 : Int32) (v9 : Int32) (v10 : Int32) : Option Int32 :=
  c4 v8 v10 (v9 + (1 : Int32))
theorem w_T_isSo_J61 {l : Launch} {G : GT} {fr lo : Nat} {h0 : Hp} {m0 : Nat} {hb : Hp} {N : Nat} {M : TM} {r : Int32} (hfr : 0 ≤ fr) (hlo : 0 ≤ lo) {c4 : Int32 → Int32 → Int32 → Option Int32} (hc4 : ∀ (v1 : Int32) (v2 : Int32) (v3 : Int32), c4 v1 v2 v3 = some r → V l G cX6_isSo RX6 "isSo" 4 (Option.some Jvm.ClassFile.FieldType.boolean) fr lo h0 (ovT m0 M hb) (QM G (some (.int r)) h0 (ovT m0 M hb)) 4 [(0, .ref m0), (1, .int v1), (2, .int v2), (3, .int v3)] [] (ovT m0 M hb)) {v8 : Int32} {v9 : Int32} {v10 : Int32} (hF : T_isSo_J61 N M c4 v8 v9 v10 = some r) : V l G cX6_isSo RX6 "isSo" 4 (Option.some Jvm.ClassFile.FieldType.boolean) fr lo h0 (ovT m0 M hb) (QM G (some (.int r)) h0 (ovT m0 M hb)) 61 [(0, .ref m0), (1, .int v8), (3, .int v9)] [.int v10] (ovT m0 M hb) := by
  unfold T_isSo_J61 at hF
  refine v_istore_n dX6_isSo_61 rfl (Nat.le_of_ble_eq_true rfl) (L' := [(2, .int v10), (0, .ref m0), (1, .int v8), (3, .int v9)]) rfl ?_
  refine v_iinc dX6_isSo_62 3 rfl (v := v9 + (1 : Int32)) (by rfl) (Nat.le_of_ble_eq_true rfl) (L' := [(3, .int (v9 + (1 : Int32))), (2, .int v10), (0, .ref m0), (1, .int v8)]) rfl ?_
  refine v_goto (tgt := 4) dX6_isSo_65 (by decide) ?_
  exact v_sub [2, 3, 1, 0] rfl (hc4 _ _ _ hF)
def T_isSo_J60 (N : Nat) (M : TM) (c4 : Int32 → Int32 → Int32 → Option Int32) (v6 : Int32) (v7 : Int32) : Option Int32 :=
  T_isSo_J61 N M c4 v6 v7 (0 : Int32)
theorem w_T_isSo_J60 {l : Launch} {G : GT} {fr lo : Nat} {h0 : Hp} {m0 : Nat} {hb : Hp} {N : Nat} {M : TM} {r : Int32} (hfr : 0 ≤ fr) (hlo : 0 ≤ lo) {c4 : Int32 → Int32 → Int32 → Option Int32} (hc4 : ∀ (v1 : Int32) (v2 : Int32) (v3 : Int32), c4 v1 v2 v3 = some r → V l G cX6_isSo RX6 "isSo" 4 (Option.some Jvm.ClassFile.FieldType.boolean) fr lo h0 (ovT m0 M hb) (QM G (some (.int r)) h0 (ovT m0 M hb)) 4 [(0, .ref m0), (1, .int v1), (2, .int v2), (3, .int v3)] [] (ovT m0 M hb)) {v6 : Int32} {v7 : Int32} (hF : T_isSo_J60 N M c4 v6 v7 = some r) : V l G cX6_isSo RX6 "isSo" 4 (Option.some Jvm.ClassFile.FieldType.boolean) fr lo h0 (ovT m0 M hb) (QM G (some (.int r)) h0 (ovT m0 M hb)) 60 [(0, .ref m0), (1, .int v6), (3, .int v7)] [] (ovT m0 M hb) := by
  unfold T_isSo_J60 at hF
  refine v_iconst dX6_isSo_60 (v := 0) (by decide) ?_
  exact v_sub [0, 1, 2] rfl (w_T_isSo_J61 hfr hlo hc4 hF)
def T_isSo_L4 (N : Nat) (M : TM) (x4 : Int32 → Option Int32) : Nat → Int32 → Int32 → Int32 → Option Int32
  | 0, _, _, _ => none
  | n14 + 1, v1, v2, v3 =>
    (tra M 2 5660 (50 : Int32)).bind fun v5 =>
    if v5 ≤ v3 then
      x4 v2
    else
      if v2 = 0 then
        T_isSo_J60 N M (T_isSo_L4 N M x4 n14) v1 v3
      else
        (tra M 2 5660 ((34 : Int32) + ((2 : Int32) * v3))).bind fun v11 =>
        (tra M 43 32 (((8 : Int32) * v11) + v1)).bind fun v12 =>
        (tra M 2 5660 (((34 : Int32) + ((2 : Int32) * v3)) + (1 : Int32))).bind fun v13 =>
        if v12 = v13 then
          T_isSo_J61 N M (T_isSo_L4 N M x4 n14) v1 v3 (1 : Int32)
        else
          T_isSo_J60 N M (T_isSo_L4 N M x4 n14) v1 v3
theorem w_T_isSo_L4 {l : Launch} {G : GT} {fr lo : Nat} {h0 : Hp} {m0 : Nat} {hb : Hp} {N : Nat} {M : TM} {r : Int32} (hfr : 0 ≤ fr) (hlo : 0 ≤ lo) {x4 : Int32 → Option Int32} (hx4 : ∀ (v4 : Int32), x4 v4 = some r → V l G cX6_isSo RX6 "isSo" 4 (Option.some Jvm.ClassFile.FieldType.boolean) fr lo h0 (ovT m0 M hb) (QM G (some (.int r)) h0 (ovT m0 M hb)) 68 [(2, .int v4)] [] (ovT m0 M hb)) : ∀ (n : Nat) (v1 : Int32) (v2 : Int32) (v3 : Int32), T_isSo_L4 N M x4 n v1 v2 v3 = some r → V l G cX6_isSo RX6 "isSo" 4 (Option.some Jvm.ClassFile.FieldType.boolean) fr lo h0 (ovT m0 M hb) (QM G (some (.int r)) h0 (ovT m0 M hb)) 4 [(0, .ref m0), (1, .int v1), (2, .int v2), (3, .int v3)] [] (ovT m0 M hb) := by
  intro n
  induction n with
  | zero =>
    intro v1 v2 v3 hF
    cases (show (none : Option Int32) = some r from hF)
  | succ n hc4 =>
    intro v1 v2 v3 hF
    rw [T_isSo_L4] at hF
    refine v_iload_n dX6_isSo_4 rfl 3 rfl ?_
    refine v_aload_n dX6_isSo_5 rfl 0 rfl ?_
    refine t_geta 2 2 dX6_isSo_6 fl_X6_24 (Nat.le_of_ble_eq_true rfl) (fun _ _ => rfl) ?_
    refine v_bipush dX6_isSo_9 (v := 50) (by decide) ?_
    refine t_iald 2 dX6_isSo_11 rfl (Nat.le_of_ble_eq_true rfl) (by decide) hF (fun v5 hF => ?_)
    refine v_icmp_ge (tgt := 68) dX6_isSo_12 (by decide) hF (fun hF => ?_) (fun hF => ?_)
    · exact v_sub [2] rfl (hx4 _ hF)
    · refine v_iload_n dX6_isSo_15 rfl 2 rfl ?_
      refine v_if_eq (tgt := 60) dX6_isSo_16 (by decide) hF (fun hF => ?_) (fun hF => ?_)
      · exact v_sub [0, 1, 3] rfl (w_T_isSo_J60 hfr hlo hc4 hF)
      · refine v_aload_n dX6_isSo_19 rfl 0 rfl ?_
        refine t_geta 43 21 dX6_isSo_20 fl_X6_86 (Nat.le_of_ble_eq_true rfl) (fun _ _ => rfl) ?_
        refine v_bipush dX6_isSo_23 (v := 8) (by decide) ?_
        refine v_aload_n dX6_isSo_25 rfl 0 rfl ?_
        refine t_geta 2 2 dX6_isSo_26 fl_X6_24 (Nat.le_of_ble_eq_true rfl) (fun _ _ => rfl) ?_
        refine v_bipush dX6_isSo_29 (v := 34) (by decide) ?_
        refine v_iconst dX6_isSo_31 (v := 2) (by decide) ?_
        refine v_iload_n dX6_isSo_32 rfl 3 rfl ?_
        refine v_imul dX6_isSo_33 ?_
        refine v_iadd dX6_isSo_34 ?_
        refine t_iald 2 dX6_isSo_35 rfl (Nat.le_of_ble_eq_true rfl) (by decide) hF (fun v11 hF => ?_)
        refine v_imul dX6_isSo_36 ?_
        refine v_iload_n dX6_isSo_37 rfl 1 rfl ?_
        refine v_iadd dX6_isSo_38 ?_
        refine t_iald 21 dX6_isSo_39 rfl (Nat.le_of_ble_eq_true rfl) (by decide) hF (fun v12 hF => ?_)
        refine v_aload_n dX6_isSo_40 rfl 0 rfl ?_
        refine t_geta 2 2 dX6_isSo_41 fl_X6_24 (Nat.le_of_ble_eq_true rfl) (fun _ _ => rfl) ?_
        refine v_bipush dX6_isSo_44 (v := 34) (by decide) ?_
        refine v_iconst dX6_isSo_46 (v := 2) (by decide) ?_
        refine v_iload_n dX6_isSo_47 rfl 3 rfl ?_
        refine v_imul dX6_isSo_48 ?_
        refine v_iadd dX6_isSo_49 ?_
        refine v_iconst dX6_isSo_50 (v := 1) (by decide) ?_
        refine v_iadd dX6_isSo_51 ?_
        refine t_iald 2 dX6_isSo_52 rfl (Nat.le_of_ble_eq_true rfl) (by decide) hF (fun v13 hF => ?_)
        refine v_icmp_ne (tgt := 60) dX6_isSo_53 (by decide) hF (fun hF => ?_) (fun hF => ?_)
        · exact v_sub [0, 1, 3] rfl (w_T_isSo_J60 hfr hlo hc4 hF)
        · refine v_iconst dX6_isSo_56 (v := 1) (by decide) ?_
          refine v_goto (tgt := 61) dX6_isSo_57 (by decide) ?_
          exact v_sub [0, 1, 3] rfl (w_T_isSo_J61 hfr hlo hc4 hF)
def T_isSo (N : Nat) (M : TM) (a1 : Int32) : Option Int32 :=
  T_isSo_L4 N M (fun v15 =>
    (rz v15).bind fun v16 => some v16) N a1 (1 : Int32) (0 : Int32)
theorem w_T_isSo {l : Launch} {G : GT} {fr lo : Nat} {h0 : Hp} {m0 : Nat} {hb : Hp} {N : Nat} {M : TM} {r : Int32} (hfr : 0 ≤ fr) (hlo : 0 ≤ lo) {a1 : Int32} (hF : T_isSo N M a1 = some r) : V l G cX6_isSo RX6 "isSo" 4 (Option.some Jvm.ClassFile.FieldType.boolean) fr lo h0 (ovT m0 M hb) (QM G (some (.int r)) h0 (ovT m0 M hb)) 0 [(0, .ref m0), (1, .int a1)] [] (ovT m0 M hb) := by
  unfold T_isSo at hF
  refine v_iconst dX6_isSo_0 (v := 1) (by decide) ?_
  refine v_istore_n dX6_isSo_1 rfl (Nat.le_of_ble_eq_true rfl) (L' := [(2, .int (1 : Int32)), (0, .ref m0), (1, .int a1)]) rfl ?_
  refine v_iconst dX6_isSo_2 (v := 0) (by decide) ?_
  refine v_istore_n dX6_isSo_3 rfl (Nat.le_of_ble_eq_true rfl) (L' := [(3, .int (0 : Int32)), (2, .int (1 : Int32)), (0, .ref m0), (1, .int a1)]) rfl ?_
  refine v_sub [2, 3, 1, 0] rfl (w_T_isSo_L4 hfr hlo ?_ N _ _ _ hF)
  intro v15 hF
  refine v_iload_n dX6_isSo_68 rfl 0 rfl ?_
  refine v_zchk hF (fun v16 hz hF => ?_)
  cases hF
  exact v_iret dX6_isSo_69 rfl (nar_z hz) rfl rfl
theorem ct_T_isSo {l : Launch} {G : GT} {m0 : Nat} {hb : Hp} {N : Nat} {M : TM} {r : Int32} {a1 : Int32} (hF : T_isSo N M a1 = some r) : Ct l G yX6_isSo (ws_ yX6_isSo cX6_isSo 4 (Option.some Jvm.ClassFile.FieldType.boolean)) 0 0 [.ref m0, .int a1] (ovT m0 M hb) (some (.int r)) (ovT m0 M hb) :=
  ct_of (by decide) (Nat.le_of_ble_eq_true rfl) (w_T_isSo (Nat.le_refl _) (Nat.le_refl _) hF)
def T_laysGrowth_L12 (N : Nat) (x12 : Int32 → TM → Option TM) : Nat → Int32 → Int32 → TM → Option TM
  | 0, _, _, _ => none
  | n14 + 1, v5, v6, M7 =>
    (T_bookMany M7).bind fun v10 =>
    if v10 ≤ v6 then
      x12 v5 M7
    else
      bd2 (T_growsNow N v5 v6 M7) fun v12 M11 =>
      (twa M11 43 32 (((8 : Int32) * v5) + v6) v12).bind fun M13 =>
      (T_laysGrowth_L12 N x12 n14) v5 (v6 + (1 : Int32)) M13
theorem w_T_laysGrowth_L12 {l : Launch} {G : GT} {fr lo : Nat} {h0 : Hp} {m0 : Nat} {hb : Hp} {N : Nat} {r : TM} (hfr : 120 ≤ fr) (hlo : 2895 ≤ lo) {x12 : Int32 → TM → Option TM} (hx12 : ∀ (v8 : Int32) (M9 : TM), x12 v8 M9 = some r → V l G cX6_laysGrowth RX6 "laysGrowth" 3 (Option.none : Option Jvm.ClassFile.FieldType) fr lo h0 (ovT m0 r hb) (QM G none h0 (ovT m0 r hb)) 43 [(0, .ref m0), (1, .int v8)] [] (ovT m0 M9 hb)) : ∀ (n : Nat) (v5 : Int32) (v6 : Int32) (M7 : TM), T_laysGrowth_L12 N x12 n v5 v6 M7 = some r → V l G cX6_laysGrowth RX6 "laysGrowth" 3 (Option.none : Option Jvm.ClassFile.FieldType) fr lo h0 (ovT m0 r hb) (QM G none h0 (ovT m0 r hb)) 12 [(0, .ref m0), (1, .int v5), (2, .int v6)] [] (ovT m0 M7 hb) := by
  intro n
  induction n with
  | zero =>
    intro v5 v6 M7 hF
    cases (show (none : Option TM) = some r from hF)
  | succ n hc12 =>
    intro v5 v6 M7 hF
    rw [T_laysGrowth_L12] at hF
    refine v_iload_n dX6_laysGrowth_12 rfl 2 rfl ?_
    refine v_aload_n dX6_laysGrowth_13 rfl 0 rfl ?_
    obtain ⟨v10, e_v10, hF⟩ := Option.bind_eq_some_iff.mp hF
    refine v_calV1 dX6_laysGrowth_14 vl_X6_112 q1837 rc_ov (ct_T_bookMany e_v10) rfl rfl (Nat.le_trans (Nat.le_of_ble_eq_true rfl) hfr) (Nat.le_trans (Nat.le_of_ble_eq_true rfl) hlo) (Nat.le_of_ble_eq_true rfl) ?_
    refine v_icmp_ge (tgt := 43) dX6_laysGrowth_17 (by decide) hF (fun hF => ?_) (fun hF => ?_)
    · exact v_sub [0, 1] rfl (hx12 _ _ hF)
    · refine v_aload_n dX6_laysGrowth_20 rfl 0 rfl ?_
      refine t_geta 43 21 dX6_laysGrowth_21 fl_X6_86 (Nat.le_of_ble_eq_true rfl) (fun _ _ => rfl) ?_
      refine v_bipush dX6_laysGrowth_24 (v := 8) (by decide) ?_
      refine v_iload_n dX6_laysGrowth_26 rfl 1 rfl ?_
      refine v_imul dX6_laysGrowth_27 ?_
      refine v_iload_n dX6_laysGrowth_28 rfl 2 rfl ?_
      refine v_iadd dX6_laysGrowth_29 ?_
      refine v_aload_n dX6_laysGrowth_30 rfl 0 rfl ?_
      refine v_iload_n dX6_laysGrowth_31 rfl 1 rfl ?_
      refine v_iload_n dX6_laysGrowth_32 rfl 2 rfl ?_
      obtain ⟨v12, M11, e_v12, hF⟩ := bd2_spec hF
      refine v_calV1 dX6_laysGrowth_33 vl_X6_146 q1956 rc_ov (ct_T_growsNow e_v12) rfl rfl (Nat.le_trans (Nat.le_of_ble_eq_true rfl) hfr) (Nat.le_trans (Nat.le_of_ble_eq_true rfl) hlo) (Nat.le_of_ble_eq_true rfl) ?_
      refine t_iast 21 dX6_laysGrowth_36 rfl (Nat.le_of_ble_eq_true rfl) (by decide) hF (fun M13 hF => ?_)
      refine v_iinc dX6_laysGrowth_37 2 rfl (v := v6 + (1 : Int32)) (by rfl) (Nat.le_of_ble_eq_true rfl) (L' := [(2, .int (v6 + (1 : Int32))), (0, .ref m0), (1, .int v5)]) rfl ?_
      refine v_goto (tgt := 12) dX6_laysGrowth_40 (by decide) ?_
      exact v_sub [1, 2, 0] rfl (hc12 _ _ _ hF)
def T_laysGrowth_L2 (N : Nat) (x2 : TM → Option TM) : Nat → Int32 → TM → Option TM
  | 0, _, _ => none
  | n17 + 1, v1, M2 =>
    (T_leekMany M2).bind fun v4 =>
    if v4 ≤ v1 then
      x2 M2
    else
      T_laysGrowth_L12 N (fun v15 M16 =>
        (T_laysGrowth_L2 N x2 n17) (v15 + (1 : Int32)) M16) N v1 (0 : Int32) M2
theorem w_T_laysGrowth_L2 {l : Launch} {G : GT} {fr lo : Nat} {h0 : Hp} {m0 : Nat} {hb : Hp} {N : Nat} {r : TM} (hfr : 120 ≤ fr) (hlo : 2895 ≤ lo) {x2 : TM → Option TM} (hx2 : ∀ (M3 : TM), x2 M3 = some r → V l G cX6_laysGrowth RX6 "laysGrowth" 3 (Option.none : Option Jvm.ClassFile.FieldType) fr lo h0 (ovT m0 r hb) (QM G none h0 (ovT m0 r hb)) 49 [] [] (ovT m0 M3 hb)) : ∀ (n : Nat) (v1 : Int32) (M2 : TM), T_laysGrowth_L2 N x2 n v1 M2 = some r → V l G cX6_laysGrowth RX6 "laysGrowth" 3 (Option.none : Option Jvm.ClassFile.FieldType) fr lo h0 (ovT m0 r hb) (QM G none h0 (ovT m0 r hb)) 2 [(0, .ref m0), (1, .int v1)] [] (ovT m0 M2 hb) := by
  intro n
  induction n with
  | zero =>
    intro v1 M2 hF
    cases (show (none : Option TM) = some r from hF)
  | succ n hc2 =>
    intro v1 M2 hF
    rw [T_laysGrowth_L2] at hF
    refine v_iload_n dX6_laysGrowth_2 rfl 1 rfl ?_
    refine v_aload_n dX6_laysGrowth_3 rfl 0 rfl ?_
    obtain ⟨v4, e_v4, hF⟩ := Option.bind_eq_some_iff.mp hF
    refine v_calV1 dX6_laysGrowth_4 vl_X6_116 q1918 rc_ov (ct_T_leekMany e_v4) rfl rfl (Nat.le_trans (Nat.le_of_ble_eq_true rfl) hfr) (Nat.le_trans (Nat.le_of_ble_eq_true rfl) hlo) (Nat.le_of_ble_eq_true rfl) ?_
    refine v_icmp_ge (tgt := 49) dX6_laysGrowth_7 (by decide) hF (fun hF => ?_) (fun hF => ?_)
    · exact v_sub [] rfl (hx2 _ hF)
    · refine v_iconst dX6_laysGrowth_10 (v := 0) (by decide) ?_
      refine v_istore_n dX6_laysGrowth_11 rfl (Nat.le_of_ble_eq_true rfl) (L' := [(2, .int (0 : Int32)), (0, .ref m0), (1, .int v1)]) rfl ?_
      refine v_sub [1, 2, 0] rfl (w_T_laysGrowth_L12 hfr hlo ?_ N _ _ _ hF)
      intro v15 M16 hF
      refine v_iinc dX6_laysGrowth_43 1 rfl (v := v15 + (1 : Int32)) (by rfl) (Nat.le_of_ble_eq_true rfl) (L' := [(1, .int (v15 + (1 : Int32))), (0, .ref m0)]) rfl ?_
      refine v_goto (tgt := 2) dX6_laysGrowth_46 (by decide) ?_
      exact v_sub [1, 0] rfl (hc2 _ _ hF)
def T_laysGrowth (N : Nat) (M : TM) : Option TM :=
  T_laysGrowth_L2 N (fun M18 =>
    some M18) N (0 : Int32) M
theorem w_T_laysGrowth {l : Launch} {G : GT} {fr lo : Nat} {h0 : Hp} {m0 : Nat} {hb : Hp} {N : Nat} {r : TM} (hfr : 120 ≤ fr) (hlo : 2895 ≤ lo) {M : TM} (hF : T_laysGrowth N M = some r) : V l G cX6_laysGrowth RX6 "laysGrowth" 3 (Option.none : Option Jvm.ClassFile.FieldType) fr lo h0 (ovT m0 r hb) (QM G none h0 (ovT m0 r hb)) 0 [(0, .ref m0)] [] (ovT m0 M hb) := by
  unfold T_laysGrowth at hF
  refine v_iconst dX6_laysGrowth_0 (v := 0) (by decide) ?_
  refine v_istore_n dX6_laysGrowth_1 rfl (Nat.le_of_ble_eq_true rfl) (L' := [(1, .int (0 : Int32)), (0, .ref m0)]) rfl ?_
  refine v_sub [1, 0] rfl (w_T_laysGrowth_L2 hfr hlo ?_ N _ _ hF)
  intro M18 hF
  cases hF
  exact v_vret dX6_laysGrowth_49 rfl rfl rfl
theorem ct_T_laysGrowth {l : Launch} {G : GT} {m0 : Nat} {hb : Hp} {N : Nat} {r : TM} {M : TM} (hF : T_laysGrowth N M = some r) : Ct l G yX6_laysGrowth (ws_ yX6_laysGrowth cX6_laysGrowth 3 (Option.none : Option Jvm.ClassFile.FieldType)) 120 2895 [.ref m0] (ovT m0 M hb) none (ovT m0 r hb) :=
  ct_of (by decide) (Nat.le_of_ble_eq_true rfl) (w_T_laysGrowth (Nat.le_refl _) (Nat.le_refl _) hF)
theorem vl_X6_446 : ∀ ci ∈ [6], VL RX6 446 ci yX6_laysGrowth 0 := by
  intro ci h
  simp only [List.mem_cons, List.not_mem_nil, or_false] at h
  subst h; exact ⟨RX6, TX6, 56, rfl, q146, ⟨by decide, by decide⟩, by decide +kernel, q2275, Or.inl ⟨q2273, qs126⟩⟩
theorem vl_X6_449 : ∀ ci ∈ [6], VL RX6 449 ci yX6_isSo 1 := by
  intro ci h
  simp only [List.mem_cons, List.not_mem_nil, or_false] at h
  subst h; exact ⟨RX6, TX6, 56, rfl, q146, ⟨by decide, by decide⟩, by decide +kernel, q2279, Or.inl ⟨q2277, qs127⟩⟩
def T_canBe_J32 (N : Nat) (c8 : Int32 → Int32 → TM → Option (Int32 × TM)) (v9 : Int32) (v10 : Int32) (v11 : Int32) (M12 : TM) : Option (Int32 × TM) :=
  c8 (v11 ||| v10) (v9 + (1 : Int32)) M12
theorem w_T_canBe_J32 {l : Launch} {G : GT} {fr lo : Nat} {h0 : Hp} {m0 : Nat} {hb : Hp} {N : Nat} {r : (Int32 × TM)} (hfr : 121 ≤ fr) (hlo : 2917 ≤ lo) {c8 : Int32 → Int32 → TM → Option (Int32 × TM)} (hc8 : ∀ (v2 : Int32) (v3 : Int32) (M4 : TM), c8 v2 v3 M4 = some r → V l G cX6_canBe RX6 "canBe" 3 (Option.some Jvm.ClassFile.FieldType.int) fr lo h0 (ovT m0 r.2 hb) (QM G (some (.int r.1)) h0 (ovT m0 r.2 hb)) 8 [(0, .ref m0), (1, .int v2), (2, .int v3)] [] (ovT m0 M4 hb)) {v9 : Int32} {v10 : Int32} {v11 : Int32} {M12 : TM} (hF : T_canBe_J32 N c8 v9 v10 v11 M12 = some r) : V l G cX6_canBe RX6 "canBe" 3 (Option.some Jvm.ClassFile.FieldType.int) fr lo h0 (ovT m0 r.2 hb) (QM G (some (.int r.1)) h0 (ovT m0 r.2 hb)) 32 [(0, .ref m0), (2, .int v9)] [.int v10, .int v11] (ovT m0 M12 hb) := by
  unfold T_canBe_J32 at hF
  refine v_ior dX6_canBe_32 ?_
  refine v_istore_n dX6_canBe_33 rfl (Nat.le_of_ble_eq_true rfl) (L' := [(1, .int (v11 ||| v10)), (0, .ref m0), (2, .int v9)]) rfl ?_
  refine v_iinc dX6_canBe_34 2 rfl (v := v9 + (1 : Int32)) (by rfl) (Nat.le_of_ble_eq_true rfl) (L' := [(2, .int (v9 + (1 : Int32))), (1, .int (v11 ||| v10)), (0, .ref m0)]) rfl ?_
  refine v_goto (tgt := 8) dX6_canBe_37 (by decide) ?_
  exact v_sub [2, 1, 0] rfl (hc8 _ _ _ hF)
def T_canBe_L8 (N : Nat) (x8 : Int32 → TM → Option (Int32 × TM)) : Nat → Int32 → Int32 → TM → Option (Int32 × TM)
  | 0, _, _, _ => none
  | n13 + 1, v2, v3, M4 =>
    (T_bookMany M4).bind fun v7 =>
    if v7 ≤ v3 then
      x8 v2 M4
    else
      (T_isSo N M4 v3).bind fun v8 =>
      T_canBe_J32 N (T_canBe_L8 N x8 n13) v3 (if v8 = 0 then (0 : Int32) else ((1 : Int32) <<< (v3 &&& 31))) v2 M4
theorem w_T_canBe_L8 {l : Launch} {G : GT} {fr lo : Nat} {h0 : Hp} {m0 : Nat} {hb : Hp} {N : Nat} {r : (Int32 × TM)} (hfr : 121 ≤ fr) (hlo : 2917 ≤ lo) {x8 : Int32 → TM → Option (Int32 × TM)} (hx8 : ∀ (v5 : Int32) (M6 : TM), x8 v5 M6 = some r → V l G cX6_canBe RX6 "canBe" 3 (Option.some Jvm.ClassFile.FieldType.int) fr lo h0 (ovT m0 r.2 hb) (QM G (some (.int r.1)) h0 (ovT m0 r.2 hb)) 40 [(1, .int v5)] [] (ovT m0 M6 hb)) : ∀ (n : Nat) (v2 : Int32) (v3 : Int32) (M4 : TM), T_canBe_L8 N x8 n v2 v3 M4 = some r → V l G cX6_canBe RX6 "canBe" 3 (Option.some Jvm.ClassFile.FieldType.int) fr lo h0 (ovT m0 r.2 hb) (QM G (some (.int r.1)) h0 (ovT m0 r.2 hb)) 8 [(0, .ref m0), (1, .int v2), (2, .int v3)] [] (ovT m0 M4 hb) := by
  intro n
  induction n with
  | zero =>
    intro v2 v3 M4 hF
    cases (show (none : Option (Int32 × TM)) = some r from hF)
  | succ n hc8 =>
    intro v2 v3 M4 hF
    rw [T_canBe_L8] at hF
    refine v_iload_n dX6_canBe_8 rfl 2 rfl ?_
    refine v_aload_n dX6_canBe_9 rfl 0 rfl ?_
    obtain ⟨v7, e_v7, hF⟩ := Option.bind_eq_some_iff.mp hF
    refine v_calV1 dX6_canBe_10 vl_X6_112 q1837 rc_ov (ct_T_bookMany e_v7) rfl rfl (Nat.le_trans (Nat.le_of_ble_eq_true rfl) hfr) (Nat.le_trans (Nat.le_of_ble_eq_true rfl) hlo) (Nat.le_of_ble_eq_true rfl) ?_
    refine v_icmp_ge (tgt := 40) dX6_canBe_13 (by decide) hF (fun hF => ?_) (fun hF => ?_)
    · exact v_sub [1] rfl (hx8 _ _ hF)
    · refine v_iload_n dX6_canBe_16 rfl 1 rfl ?_
      refine v_aload_n dX6_canBe_17 rfl 0 rfl ?_
      refine v_iload_n dX6_canBe_18 rfl 2 rfl ?_
      obtain ⟨v8, e_v8, hF⟩ := Option.bind_eq_some_iff.mp hF
      refine v_calV1 dX6_canBe_19 vl_X6_449 q2280 rc_ov (ct_T_isSo e_v8) rfl rfl (Nat.le_trans (Nat.le_of_ble_eq_true rfl) hfr) (Nat.le_trans (Nat.le_of_ble_eq_true rfl) hlo) (Nat.le_of_ble_eq_true rfl) ?_
      refine v_tern (c := v8 = 0) (x := (0 : Int32)) (y := ((1 : Int32) <<< (v3 &&& 31))) (pcj := 32) (st := [.int v2]) ?_ (fun kt kf => v_if_eq0 (tgt := 31) dX6_canBe_22 (by decide) kt kf) (fun K => ?_) (fun K => ?_)
      · exact v_sub [0, 2] rfl (w_T_canBe_J32 hfr hlo hc8 hF)
      · refine v_iconst dX6_canBe_31 (v := 0) (by decide) ?_
        exact K
      · refine v_iconst dX6_canBe_25 (v := 1) (by decide) ?_
        refine v_iload_n dX6_canBe_26 rfl 2 rfl ?_
        refine v_ishl dX6_canBe_27 ?_
        refine v_goto (tgt := 32) dX6_canBe_28 (by decide) ?_
        exact K
def T_canBe (N : Nat) (M : TM) : Option (Int32 × TM) :=
  (T_laysGrowth N M).bind fun M1 =>
  T_canBe_L8 N (fun v14 M15 =>
    some (v14, M15)) N (0 : Int32) (0 : Int32) M1
theorem w_T_canBe {l : Launch} {G : GT} {fr lo : Nat} {h0 : Hp} {m0 : Nat} {hb : Hp} {N : Nat} {r : (Int32 × TM)} (hfr : 121 ≤ fr) (hlo : 2917 ≤ lo) {M : TM} (hF : T_canBe N M = some r) : V l G cX6_canBe RX6 "canBe" 3 (Option.some Jvm.ClassFile.FieldType.int) fr lo h0 (ovT m0 r.2 hb) (QM G (some (.int r.1)) h0 (ovT m0 r.2 hb)) 0 [(0, .ref m0)] [] (ovT m0 M hb) := by
  unfold T_canBe at hF
  refine v_aload_n dX6_canBe_0 rfl 0 rfl ?_
  obtain ⟨M1, e_M1, hF⟩ := Option.bind_eq_some_iff.mp hF
  refine v_calV0 dX6_canBe_1 vl_X6_446 q2276 rc_ov (ct_T_laysGrowth e_M1) rfl rfl (Nat.le_trans (Nat.le_of_ble_eq_true rfl) hfr) (Nat.le_trans (Nat.le_of_ble_eq_true rfl) hlo) (Nat.le_of_ble_eq_true rfl) ?_
  refine v_iconst dX6_canBe_4 (v := 0) (by decide) ?_
  refine v_istore_n dX6_canBe_5 rfl (Nat.le_of_ble_eq_true rfl) (L' := [(1, .int (0 : Int32)), (0, .ref m0)]) rfl ?_
  refine v_iconst dX6_canBe_6 (v := 0) (by decide) ?_
  refine v_istore_n dX6_canBe_7 rfl (Nat.le_of_ble_eq_true rfl) (L' := [(2, .int (0 : Int32)), (1, .int (0 : Int32)), (0, .ref m0)]) rfl ?_
  refine v_sub [2, 1, 0] rfl (w_T_canBe_L8 hfr hlo ?_ N _ _ _ hF)
  intro v14 M15 hF
  refine v_iload_n dX6_canBe_40 rfl 0 rfl ?_
  cases hF
  exact v_iret dX6_canBe_41 rfl rfl rfl rfl
theorem ct_T_canBe {l : Launch} {G : GT} {m0 : Nat} {hb : Hp} {N : Nat} {r : (Int32 × TM)} {M : TM} (hF : T_canBe N M = some r) : Ct l G yX6_canBe (ws_ yX6_canBe cX6_canBe 3 (Option.some Jvm.ClassFile.FieldType.int)) 121 2917 [.ref m0] (ovT m0 M hb) (some (.int r.1)) (ovT m0 r.2 hb) :=
  ct_of (by decide) (Nat.le_of_ble_eq_true rfl) (w_T_canBe (Nat.le_refl _) (Nat.le_refl _) hF)
def T_mostAlike_J72 (N : Nat) (M : TM) (c20 : Int32 → Int32 → Int32 → Int32 → Int32 → Int32 → Option Int32) (v26 : Int32) (v27 : Int32) (v28 : Int32) (v29 : Int32) (v30 : Int32) (v31 : Int32) (v32 : Int32) : Option Int32 :=
  c20 v26 v27 v28 v29 (v32 + v31) (v30 + (1 : Int32))
theorem w_T_mostAlike_J72 {l : Launch} {G : GT} {fr lo : Nat} {h0 : Hp} {m0 : Nat} {hb : Hp} {N : Nat} {M : TM} {r : Int32} (hfr : 1 ≤ fr) (hlo : 21 ≤ lo) {c20 : Int32 → Int32 → Int32 → Int32 → Int32 → Int32 → Option Int32} (hc20 : ∀ (v7 : Int32) (v8 : Int32) (v9 : Int32) (v10 : Int32) (v11 : Int32) (v12 : Int32), c20 v7 v8 v9 v10 v11 v12 = some r → V l G cX6_mostAlike RX6 "mostAlike" 7 (Option.some Jvm.ClassFile.FieldType.int) fr lo h0 (ovT m0 M hb) (QM G (some (.int r)) h0 (ovT m0 M hb)) 20 [(0, .ref m0), (1, .int v7), (2, .int v8), (3, .int v9), (4, .int v10), (5, .int v11), (6, .int v12)] [] (ovT m0 M hb)) {v26 : Int32} {v27 : Int32} {v28 : Int32} {v29 : Int32} {v30 : Int32} {v31 : Int32} {v32 : Int32} (hF : T_mostAlike_J72 N M c20 v26 v27 v28 v29 v30 v31 v32 = some r) : V l G cX6_mostAlike RX6 "mostAlike" 7 (Option.some Jvm.ClassFile.FieldType.int) fr lo h0 (ovT m0 M hb) (QM G (some (.int r)) h0 (ovT m0 M hb)) 72 [(0, .ref m0), (1, .int v26), (2, .int v27), (3, .int v28), (4, .int v29), (6, .int v30)] [.int v31, .int v32] (ovT m0 M hb) := by
  unfold T_mostAlike_J72 at hF
  refine v_iadd dX6_mostAlike_72 ?_
  refine v_istore dX6_mostAlike_73 (Nat.le_of_ble_eq_true rfl) (L' := [(5, .int (v32 + v31)), (0, .ref m0), (1, .int v26), (2, .int v27), (3, .int v28), (4, .int v29), (6, .int v30)]) rfl ?_
  refine v_iinc dX6_mostAlike_75 6 rfl (v := v30 + (1 : Int32)) (by rfl) (Nat.le_of_ble_eq_true rfl) (L' := [(6, .int (v30 + (1 : Int32))), (5, .int (v32 + v31)), (0, .ref m0), (1, .int v26), (2, .int v27), (3, .int v28), (4, .int v29)]) rfl ?_
  refine v_goto (tgt := 20) dX6_mostAlike_78 (by decide) ?_
  exact v_sub [2, 3, 4, 5, 6, 1, 0] rfl (hc20 _ _ _ _ _ _ hF)
def T_mostAlike_J71 (N : Nat) (M : TM) (c20 : Int32 → Int32 → Int32 → Int32 → Int32 → Int32 → Option Int32) (v20 : Int32) (v21 : Int32) (v22 : Int32) (v23 : Int32) (v24 : Int32) (v25 : Int32) : Option Int32 :=
  T_mostAlike_J72 N M c20 v20 v21 v22 v23 v24 (0 : Int32) v25
theorem w_T_mostAlike_J71 {l : Launch} {G : GT} {fr lo : Nat} {h0 : Hp} {m0 : Nat} {hb : Hp} {N : Nat} {M : TM} {r : Int32} (hfr : 1 ≤ fr) (hlo : 21 ≤ lo) {c20 : Int32 → Int32 → Int32 → Int32 → Int32 → Int32 → Option Int32} (hc20 : ∀ (v7 : Int32) (v8 : Int32) (v9 : Int32) (v10 : Int32) (v11 : Int32) (v12 : Int32), c20 v7 v8 v9 v10 v11 v12 = some r → V l G cX6_mostAlike RX6 "mostAlike" 7 (Option.some Jvm.ClassFile.FieldType.int) fr lo h0 (ovT m0 M hb) (QM G (some (.int r)) h0 (ovT m0 M hb)) 20 [(0, .ref m0), (1, .int v7), (2, .int v8), (3, .int v9), (4, .int v10), (5, .int v11), (6, .int v12)] [] (ovT m0 M hb)) {v20 : Int32} {v21 : Int32} {v22 : Int32} {v23 : Int32} {v24 : Int32} {v25 : Int32} (hF : T_mostAlike_J71 N M c20 v20 v21 v22 v23 v24 v25 = some r) : V l G cX6_mostAlike RX6 "mostAlike" 7 (Option.some Jvm.ClassFile.FieldType.int) fr lo h0 (ovT m0 M hb) (QM G (some (.int r)) h0 (ovT m0 M hb)) 71 [(0, .ref m0), (1, .int v20), (2, .int v21), (3, .int v22), (4, .int v23), (6, .int v24)] [.int v25] (ovT m0 M hb) := by
  unfold T_mostAlike_J71 at hF
  refine v_iconst dX6_mostAlike_71 (v := 0) (by decide) ?_
  exact v_sub [0, 1, 2, 3, 4, 5] rfl (w_T_mostAlike_J72 hfr hlo hc20 hF)
def T_mostAlike_L20 (N : Nat) (M : TM) (x20 : Int32 → Int32 → Int32 → Int32 → Int32 → Option Int32) : Nat → Int32 → Int32 → Int32 → Int32 → Int32 → Int32 → Option Int32
  | 0, _, _, _, _, _, _ => none
  | n35 + 1, v7, v8, v9, v10, v11, v12 =>
    (T_bookMany M).bind fun v18 =>
    if v18 ≤ v12 then
      x20 v7 v8 v9 v10 v11
    else
      (T_isIn v7 v12).bind fun v19 =>
      if v19 = 0 then
        T_mostAlike_J71 N M (T_mostAlike_L20 N M x20 n35) v7 v8 v9 v10 v12 v11
      else
        (tra M 43 32 (((8 : Int32) * v8) + v10)).bind fun v33 =>
        (tra M 43 32 (((8 : Int32) * v8) + v12)).bind fun v34 =>
        if v33 = v34 then
          T_mostAlike_J72 N M (T_mostAlike_L20 N M x20 n35) v7 v8 v9 v10 v12 (1 : Int32) v11
        else
          T_mostAlike_J71 N M (T_mostAlike_L20 N M x20 n35) v7 v8 v9 v10 v12 v11
theorem w_T_mostAlike_L20 {l : Launch} {G : GT} {fr lo : Nat} {h0 : Hp} {m0 : Nat} {hb : Hp} {N : Nat} {M : TM} {r : Int32} (hfr : 1 ≤ fr) (hlo : 21 ≤ lo) {x20 : Int32 → Int32 → Int32 → Int32 → Int32 → Option Int32} (hx20 : ∀ (v13 : Int32) (v14 : Int32) (v15 : Int32) (v16 : Int32) (v17 : Int32), x20 v13 v14 v15 v16 v17 = some r → V l G cX6_mostAlike RX6 "mostAlike" 7 (Option.some Jvm.ClassFile.FieldType.int) fr lo h0 (ovT m0 M hb) (QM G (some (.int r)) h0 (ovT m0 M hb)) 81 [(0, .ref m0), (1, .int v13), (2, .int v14), (3, .int v15), (4, .int v16), (5, .int v17)] [] (ovT m0 M hb)) : ∀ (n : Nat) (v7 : Int32) (v8 : Int32) (v9 : Int32) (v10 : Int32) (v11 : Int32) (v12 : Int32), T_mostAlike_L20 N M x20 n v7 v8 v9 v10 v11 v12 = some r → V l G cX6_mostAlike RX6 "mostAlike" 7 (Option.some Jvm.ClassFile.FieldType.int) fr lo h0 (ovT m0 M hb) (QM G (some (.int r)) h0 (ovT m0 M hb)) 20 [(0, .ref m0), (1, .int v7), (2, .int v8), (3, .int v9), (4, .int v10), (5, .int v11), (6, .int v12)] [] (ovT m0 M hb) := by
  intro n
  induction n with
  | zero =>
    intro v7 v8 v9 v10 v11 v12 hF
    cases (show (none : Option Int32) = some r from hF)
  | succ n hc20 =>
    intro v7 v8 v9 v10 v11 v12 hF
    rw [T_mostAlike_L20] at hF
    refine v_iload dX6_mostAlike_20 6 rfl ?_
    refine v_aload_n dX6_mostAlike_22 rfl 0 rfl ?_
    obtain ⟨v18, e_v18, hF⟩ := Option.bind_eq_some_iff.mp hF
    refine v_calV1 dX6_mostAlike_23 vl_X6_112 q1837 rc_ov (ct_T_bookMany e_v18) rfl rfl (Nat.le_trans (Nat.le_of_ble_eq_true rfl) hfr) (Nat.le_trans (Nat.le_of_ble_eq_true rfl) hlo) (Nat.le_of_ble_eq_true rfl) ?_
    refine v_icmp_ge (tgt := 81) dX6_mostAlike_26 (by decide) hF (fun hF => ?_) (fun hF => ?_)
    · exact v_sub [0, 1, 2, 3, 4, 5] rfl (hx20 _ _ _ _ _ hF)
    · refine v_iload dX6_mostAlike_29 5 rfl ?_
      refine v_iload_n dX6_mostAlike_31 rfl 1 rfl ?_
      refine v_iload dX6_mostAlike_32 6 rfl ?_
      obtain ⟨v19, e_v19, hF⟩ := Option.bind_eq_some_iff.mp hF
      refine v_calS1 dX6_mostAlike_34 sl_X6_119 q1860 (ct_T_isIn e_v19) rfl rfl (Nat.le_trans (Nat.le_of_ble_eq_true rfl) hfr) (Nat.le_trans (Nat.le_of_ble_eq_true rfl) hlo) (Nat.le_of_ble_eq_true rfl) ?_
      refine v_if_eq (tgt := 71) dX6_mostAlike_37 (by decide) hF (fun hF => ?_) (fun hF => ?_)
      · exact v_sub [0, 1, 2, 3, 4, 6] rfl (w_T_mostAlike_J71 hfr hlo hc20 hF)
      · refine v_aload_n dX6_mostAlike_40 rfl 0 rfl ?_
        refine t_geta 43 21 dX6_mostAlike_41 fl_X6_86 (Nat.le_of_ble_eq_true rfl) (fun _ _ => rfl) ?_
        refine v_bipush dX6_mostAlike_44 (v := 8) (by decide) ?_
        refine v_iload_n dX6_mostAlike_46 rfl 2 rfl ?_
        refine v_imul dX6_mostAlike_47 ?_
        refine v_iload dX6_mostAlike_48 4 rfl ?_
        refine v_iadd dX6_mostAlike_50 ?_
        refine t_iald 21 dX6_mostAlike_51 rfl (Nat.le_of_ble_eq_true rfl) (by decide) hF (fun v33 hF => ?_)
        refine v_aload_n dX6_mostAlike_52 rfl 0 rfl ?_
        refine t_geta 43 21 dX6_mostAlike_53 fl_X6_86 (Nat.le_of_ble_eq_true rfl) (fun _ _ => rfl) ?_
        refine v_bipush dX6_mostAlike_56 (v := 8) (by decide) ?_
        refine v_iload_n dX6_mostAlike_58 rfl 2 rfl ?_
        refine v_imul dX6_mostAlike_59 ?_
        refine v_iload dX6_mostAlike_60 6 rfl ?_
        refine v_iadd dX6_mostAlike_62 ?_
        refine t_iald 21 dX6_mostAlike_63 rfl (Nat.le_of_ble_eq_true rfl) (by decide) hF (fun v34 hF => ?_)
        refine v_icmp_ne (tgt := 71) dX6_mostAlike_64 (by decide) hF (fun hF => ?_) (fun hF => ?_)
        · exact v_sub [0, 1, 2, 3, 4, 6] rfl (w_T_mostAlike_J71 hfr hlo hc20 hF)
        · refine v_iconst dX6_mostAlike_67 (v := 1) (by decide) ?_
          refine v_goto (tgt := 72) dX6_mostAlike_68 (by decide) ?_
          exact v_sub [0, 1, 2, 3, 4, 6] rfl (w_T_mostAlike_J72 hfr hlo hc20 hF)
def T_mostAlike_J100 (N : Nat) (M : TM) (c5 : Int32 → Int32 → Int32 → Int32 → Option Int32) (v42 : Int32) (v43 : Int32) (v44 : Int32) (v45 : Int32) : Option Int32 :=
  c5 v42 v43 v45 (v44 + (1 : Int32))
theorem w_T_mostAlike_J100 {l : Launch} {G : GT} {fr lo : Nat} {h0 : Hp} {m0 : Nat} {hb : Hp} {N : Nat} {M : TM} {r : Int32} (hfr : 1 ≤ fr) (hlo : 21 ≤ lo) {c5 : Int32 → Int32 → Int32 → Int32 → Option Int32} (hc5 : ∀ (v1 : Int32) (v2 : Int32) (v3 : Int32) (v4 : Int32), c5 v1 v2 v3 v4 = some r → V l G cX6_mostAlike RX6 "mostAlike" 7 (Option.some Jvm.ClassFile.FieldType.int) fr lo h0 (ovT m0 M hb) (QM G (some (.int r)) h0 (ovT m0 M hb)) 5 [(0, .ref m0), (1, .int v1), (2, .int v2), (3, .int v3), (4, .int v4)] [] (ovT m0 M hb)) {v42 : Int32} {v43 : Int32} {v44 : Int32} {v45 : Int32} (hF : T_mostAlike_J100 N M c5 v42 v43 v44 v45 = some r) : V l G cX6_mostAlike RX6 "mostAlike" 7 (Option.some Jvm.ClassFile.FieldType.int) fr lo h0 (ovT m0 M hb) (QM G (some (.int r)) h0 (ovT m0 M hb)) 100 [(0, .ref m0), (1, .int v42), (2, .int v43), (4, .int v44)] [.int v45] (ovT m0 M hb) := by
  unfold T_mostAlike_J100 at hF
  refine v_istore_n dX6_mostAlike_100 rfl (Nat.le_of_ble_eq_true rfl) (L' := [(3, .int v45), (0, .ref m0), (1, .int v42), (2, .int v43), (4, .int v44)]) rfl ?_
  refine v_iinc dX6_mostAlike_101 4 rfl (v := v44 + (1 : Int32)) (by rfl) (Nat.le_of_ble_eq_true rfl) (L' := [(4, .int (v44 + (1 : Int32))), (3, .int v45), (0, .ref m0), (1, .int v42), (2, .int v43)]) rfl ?_
  refine v_goto (tgt := 5) dX6_mostAlike_104 (by decide) ?_
  exact v_sub [2, 3, 4, 1, 0] rfl (hc5 _ _ _ _ hF)
def T_mostAlike_L5 (N : Nat) (M : TM) (x5 : Int32 → Option Int32) : Nat → Int32 → Int32 → Int32 → Int32 → Option Int32
  | 0, _, _, _, _ => none
  | n47 + 1, v1, v2, v3, v4 =>
    (T_bookMany M).bind fun v6 =>
    if v6 ≤ v4 then
      x5 v3
    else
      T_mostAlike_L20 N M (fun v36 v37 v38 v39 v40 =>
        (T_isIn v36 v39).bind fun v41 =>
        if v41 = 0 then
          T_mostAlike_J100 N M (T_mostAlike_L5 N M x5 n47) v36 v37 v39 v38
        else
          (T_greater v38 v40).bind fun v46 =>
          T_mostAlike_J100 N M (T_mostAlike_L5 N M x5 n47) v36 v37 v39 v46) N v1 v2 v3 v4 (0 : Int32) (0 : Int32)
theorem w_T_mostAlike_L5 {l : Launch} {G : GT} {fr lo : Nat} {h0 : Hp} {m0 : Nat} {hb : Hp} {N : Nat} {M : TM} {r : Int32} (hfr : 1 ≤ fr) (hlo : 21 ≤ lo) {x5 : Int32 → Option Int32} (hx5 : ∀ (v5 : Int32), x5 v5 = some r → V l G cX6_mostAlike RX6 "mostAlike" 7 (Option.some Jvm.ClassFile.FieldType.int) fr lo h0 (ovT m0 M hb) (QM G (some (.int r)) h0 (ovT m0 M hb)) 107 [(3, .int v5)] [] (ovT m0 M hb)) : ∀ (n : Nat) (v1 : Int32) (v2 : Int32) (v3 : Int32) (v4 : Int32), T_mostAlike_L5 N M x5 n v1 v2 v3 v4 = some r → V l G cX6_mostAlike RX6 "mostAlike" 7 (Option.some Jvm.ClassFile.FieldType.int) fr lo h0 (ovT m0 M hb) (QM G (some (.int r)) h0 (ovT m0 M hb)) 5 [(0, .ref m0), (1, .int v1), (2, .int v2), (3, .int v3), (4, .int v4)] [] (ovT m0 M hb) := by
  intro n
  induction n with
  | zero =>
    intro v1 v2 v3 v4 hF
    cases (show (none : Option Int32) = some r from hF)
  | succ n hc5 =>
    intro v1 v2 v3 v4 hF
    rw [T_mostAlike_L5] at hF
    refine v_iload dX6_mostAlike_5 4 rfl ?_
    refine v_aload_n dX6_mostAlike_7 rfl 0 rfl ?_
    obtain ⟨v6, e_v6, hF⟩ := Option.bind_eq_some_iff.mp hF
    refine v_calV1 dX6_mostAlike_8 vl_X6_112 q1837 rc_ov (ct_T_bookMany e_v6) rfl rfl (Nat.le_trans (Nat.le_of_ble_eq_true rfl) hfr) (Nat.le_trans (Nat.le_of_ble_eq_true rfl) hlo) (Nat.le_of_ble_eq_true rfl) ?_
    refine v_icmp_ge (tgt := 107) dX6_mostAlike_11 (by decide) hF (fun hF => ?_) (fun hF => ?_)
    · exact v_sub [3] rfl (hx5 _ hF)
    · refine v_iconst dX6_mostAlike_14 (v := 0) (by decide) ?_
      refine v_istore dX6_mostAlike_15 (Nat.le_of_ble_eq_true rfl) (L' := [(5, .int (0 : Int32)), (0, .ref m0), (1, .int v1), (2, .int v2), (3, .int v3), (4, .int v4)]) rfl ?_
      refine v_iconst dX6_mostAlike_17 (v := 0) (by decide) ?_
      refine v_istore dX6_mostAlike_18 (Nat.le_of_ble_eq_true rfl) (L' := [(6, .int (0 : Int32)), (5, .int (0 : Int32)), (0, .ref m0), (1, .int v1), (2, .int v2), (3, .int v3), (4, .int v4)]) rfl ?_
      refine v_sub [2, 3, 4, 5, 6, 1, 0] rfl (w_T_mostAlike_L20 hfr hlo ?_ N _ _ _ _ _ _ hF)
      intro v36 v37 v38 v39 v40 hF
      refine v_iload_n dX6_mostAlike_81 rfl 1 rfl ?_
      refine v_iload dX6_mostAlike_82 4 rfl ?_
      obtain ⟨v41, e_v41, hF⟩ := Option.bind_eq_some_iff.mp hF
      refine v_calS1 dX6_mostAlike_84 sl_X6_119 q1860 (ct_T_isIn e_v41) rfl rfl (Nat.le_trans (Nat.le_of_ble_eq_true rfl) hfr) (Nat.le_trans (Nat.le_of_ble_eq_true rfl) hlo) (Nat.le_of_ble_eq_true rfl) ?_
      refine v_if_eq (tgt := 99) dX6_mostAlike_87 (by decide) hF (fun hF => ?_) (fun hF => ?_)
      · refine v_iload_n dX6_mostAlike_99 rfl 3 rfl ?_
        exact v_sub [0, 1, 2, 4] rfl (w_T_mostAlike_J100 hfr hlo hc5 hF)
      · refine v_iload_n dX6_mostAlike_90 rfl 3 rfl ?_
        refine v_iload dX6_mostAlike_91 5 rfl ?_
        obtain ⟨v46, e_v46, hF⟩ := Option.bind_eq_some_iff.mp hF
        refine v_calS1 dX6_mostAlike_93 sl_X6_346 q2159 (ct_T_greater e_v46) rfl rfl (Nat.le_trans (Nat.le_of_ble_eq_true rfl) hfr) (Nat.le_trans (Nat.le_of_ble_eq_true rfl) hlo) (Nat.le_of_ble_eq_true rfl) ?_
        refine v_goto (tgt := 100) dX6_mostAlike_96 (by decide) ?_
        exact v_sub [0, 1, 2, 4] rfl (w_T_mostAlike_J100 hfr hlo hc5 hF)
def T_mostAlike (N : Nat) (M : TM) (a1 : Int32) (a2 : Int32) : Option Int32 :=
  T_mostAlike_L5 N M (fun v48 =>
    some v48) N a1 a2 (0 : Int32) (0 : Int32)
theorem w_T_mostAlike {l : Launch} {G : GT} {fr lo : Nat} {h0 : Hp} {m0 : Nat} {hb : Hp} {N : Nat} {M : TM} {r : Int32} (hfr : 1 ≤ fr) (hlo : 21 ≤ lo) {a1 : Int32} {a2 : Int32} (hF : T_mostAlike N M a1 a2 = some r) : V l G cX6_mostAlike RX6 "mostAlike" 7 (Option.some Jvm.ClassFile.FieldType.int) fr lo h0 (ovT m0 M hb) (QM G (some (.int r)) h0 (ovT m0 M hb)) 0 [(0, .ref m0), (1, .int a1), (2, .int a2)] [] (ovT m0 M hb) := by
  unfold T_mostAlike at hF
  refine v_iconst dX6_mostAlike_0 (v := 0) (by decide) ?_
  refine v_istore_n dX6_mostAlike_1 rfl (Nat.le_of_ble_eq_true rfl) (L' := [(3, .int (0 : Int32)), (0, .ref m0), (1, .int a1), (2, .int a2)]) rfl ?_
  refine v_iconst dX6_mostAlike_2 (v := 0) (by decide) ?_
  refine v_istore dX6_mostAlike_3 (Nat.le_of_ble_eq_true rfl) (L' := [(4, .int (0 : Int32)), (3, .int (0 : Int32)), (0, .ref m0), (1, .int a1), (2, .int a2)]) rfl ?_
  refine v_sub [2, 3, 4, 1, 0] rfl (w_T_mostAlike_L5 hfr hlo ?_ N _ _ _ _ hF)
  intro v48 hF
  refine v_iload_n dX6_mostAlike_107 rfl 0 rfl ?_
  cases hF
  exact v_iret dX6_mostAlike_108 rfl rfl rfl rfl
theorem ct_T_mostAlike {l : Launch} {G : GT} {m0 : Nat} {hb : Hp} {N : Nat} {M : TM} {r : Int32} {a1 : Int32} {a2 : Int32} (hF : T_mostAlike N M a1 a2 = some r) : Ct l G yX6_mostAlike (ws_ yX6_mostAlike cX6_mostAlike 7 (Option.some Jvm.ClassFile.FieldType.int)) 1 21 [.ref m0, .int a1, .int a2] (ovT m0 M hb) (some (.int r)) (ovT m0 M hb) :=
  ct_of (by decide) (Nat.le_of_ble_eq_true rfl) (w_T_mostAlike (Nat.le_refl _) (Nat.le_refl _) hF)
theorem vl_X6_452 : ∀ ci ∈ [6], VL RX6 452 ci yX6_canBe 0 := by
  intro ci h
  simp only [List.mem_cons, List.not_mem_nil, or_false] at h
  subst h; exact ⟨RX6, TX6, 56, rfl, q146, ⟨by decide, by decide⟩, by decide +kernel, q2270, Or.inl ⟨q2285, q2271⟩⟩
theorem vl_X6_455 : ∀ ci ∈ [6], VL RX6 455 ci yX6_mostAlike 2 := by
  intro ci h
  simp only [List.mem_cons, List.not_mem_nil, or_false] at h
  subst h; exact ⟨RX6, TX6, 56, rfl, q146, ⟨by decide, by decide⟩, by decide +kernel, q2288, Or.inl ⟨q2286, qs128⟩⟩
def T_look_J64 (N : Nat) (c25 : Int32 → Int32 → Int32 → Int32 → Int32 → TM → Option (Int32 × TM)) (v16 : Int32) (v17 : Int32) (v18 : Int32) (v19 : Int32) (v20 : Int32) (M21 : TM) : Option (Int32 × TM) :=
  c25 v16 v17 v18 v19 (v20 + (1 : Int32)) M21
theorem w_T_look_J64 {l : Launch} {G : GT} {fr lo : Nat} {h0 : Hp} {m0 : Nat} {hb : Hp} {N : Nat} {r : (Int32 × TM)} (hfr : 122 ≤ fr) (hlo : 2939 ≤ lo) {c25 : Int32 → Int32 → Int32 → Int32 → Int32 → TM → Option (Int32 × TM)} (hc25 : ∀ (v4 : Int32) (v5 : Int32) (v6 : Int32) (v7 : Int32) (v8 : Int32) (M9 : TM), c25 v4 v5 v6 v7 v8 M9 = some r → V l G cX6_look RX6 "look" 7 (Option.some Jvm.ClassFile.FieldType.int) fr lo h0 (ovT m0 r.2 hb) (QM G (some (.int r.1)) h0 (ovT m0 r.2 hb)) 25 [(0, .ref m0), (1, .int v4), (2, .int v5), (3, .int v6), (4, .int v7), (5, .int v8)] [] (ovT m0 M9 hb)) {v16 : Int32} {v17 : Int32} {v18 : Int32} {v19 : Int32} {v20 : Int32} {M21 : TM} (hF : T_look_J64 N c25 v16 v17 v18 v19 v20 M21 = some r) : V l G cX6_look RX6 "look" 7 (Option.some Jvm.ClassFile.FieldType.int) fr lo h0 (ovT m0 r.2 hb) (QM G (some (.int r.1)) h0 (ovT m0 r.2 hb)) 64 [(0, .ref m0), (1, .int v16), (2, .int v17), (3, .int v18), (4, .int v19), (5, .int v20)] [] (ovT m0 M21 hb) := by
  unfold T_look_J64 at hF
  refine v_iinc dX6_look_64 5 rfl (v := v20 + (1 : Int32)) (by rfl) (Nat.le_of_ble_eq_true rfl) (L' := [(5, .int (v20 + (1 : Int32))), (0, .ref m0), (1, .int v16), (2, .int v17), (3, .int v18), (4, .int v19)]) rfl ?_
  refine v_goto (tgt := 25) dX6_look_67 (by decide) ?_
  exact v_sub [1, 2, 3, 4, 5, 0] rfl (hc25 _ _ _ _ _ _ hF)
def T_look_L25 (N : Nat) (x25 : Int32 → Int32 → Int32 → TM → Option (Int32 × TM)) : Nat → Int32 → Int32 → Int32 → Int32 → Int32 → TM → Option (Int32 × TM)
  | 0, _, _, _, _, _, _ => none
  | n22 + 1, v4, v5, v6, v7, v8, M9 =>
    (T_leekMany M9).bind fun v14 =>
    if v14 ≤ v8 then
      x25 v4 v6 v7 M9
    else
      if v5 = 0 then
        x25 v4 v6 v7 M9
      else
        (T_mostAlike N M9 v5 v8).bind fun v15 =>
        if v15 < v7 then
          T_look_J64 N (T_look_L25 N x25 n22) v4 v5 v8 v15 v8 M9
        else
          T_look_J64 N (T_look_L25 N x25 n22) v4 v5 v6 v7 v8 M9
theorem w_T_look_L25 {l : Launch} {G : GT} {fr lo : Nat} {h0 : Hp} {m0 : Nat} {hb : Hp} {N : Nat} {r : (Int32 × TM)} (hfr : 122 ≤ fr) (hlo : 2939 ≤ lo) {x25 : Int32 → Int32 → Int32 → TM → Option (Int32 × TM)} (hx25 : ∀ (v10 : Int32) (v11 : Int32) (v12 : Int32) (M13 : TM), x25 v10 v11 v12 M13 = some r → V l G cX6_look RX6 "look" 7 (Option.some Jvm.ClassFile.FieldType.int) fr lo h0 (ovT m0 r.2 hb) (QM G (some (.int r.1)) h0 (ovT m0 r.2 hb)) 70 [(1, .int v10), (3, .int v11), (4, .int v12)] [] (ovT m0 M13 hb)) : ∀ (n : Nat) (v4 : Int32) (v5 : Int32) (v6 : Int32) (v7 : Int32) (v8 : Int32) (M9 : TM), T_look_L25 N x25 n v4 v5 v6 v7 v8 M9 = some r → V l G cX6_look RX6 "look" 7 (Option.some Jvm.ClassFile.FieldType.int) fr lo h0 (ovT m0 r.2 hb) (QM G (some (.int r.1)) h0 (ovT m0 r.2 hb)) 25 [(0, .ref m0), (1, .int v4), (2, .int v5), (3, .int v6), (4, .int v7), (5, .int v8)] [] (ovT m0 M9 hb) := by
  intro n
  induction n with
  | zero =>
    intro v4 v5 v6 v7 v8 M9 hF
    cases (show (none : Option (Int32 × TM)) = some r from hF)
  | succ n hc25 =>
    intro v4 v5 v6 v7 v8 M9 hF
    rw [T_look_L25] at hF
    refine v_iload dX6_look_25 5 rfl ?_
    refine v_aload_n dX6_look_27 rfl 0 rfl ?_
    obtain ⟨v14, e_v14, hF⟩ := Option.bind_eq_some_iff.mp hF
    refine v_calV1 dX6_look_28 vl_X6_116 q1918 rc_ov (ct_T_leekMany e_v14) rfl rfl (Nat.le_trans (Nat.le_of_ble_eq_true rfl) hfr) (Nat.le_trans (Nat.le_of_ble_eq_true rfl) hlo) (Nat.le_of_ble_eq_true rfl) ?_
    refine v_icmp_ge (tgt := 70) dX6_look_31 (by decide) hF (fun hF => ?_) (fun hF => ?_)
    · exact v_sub [1, 3, 4] rfl (hx25 _ _ _ _ hF)
    · refine v_iload_n dX6_look_34 rfl 2 rfl ?_
      refine v_if_eq (tgt := 70) dX6_look_35 (by decide) hF (fun hF => ?_) (fun hF => ?_)
      · exact v_sub [1, 3, 4] rfl (hx25 _ _ _ _ hF)
      · refine v_aload_n dX6_look_38 rfl 0 rfl ?_
        refine v_iload_n dX6_look_39 rfl 2 rfl ?_
        refine v_iload dX6_look_40 5 rfl ?_
        obtain ⟨v15, e_v15, hF⟩ := Option.bind_eq_some_iff.mp hF
        refine v_calV1 dX6_look_42 vl_X6_455 q2289 rc_ov (ct_T_mostAlike e_v15) rfl rfl (Nat.le_trans (Nat.le_of_ble_eq_true rfl) hfr) (Nat.le_trans (Nat.le_of_ble_eq_true rfl) hlo) (Nat.le_of_ble_eq_true rfl) ?_
        refine v_istore dX6_look_45 (Nat.le_of_ble_eq_true rfl) (L' := [(6, .int v15), (0, .ref m0), (1, .int v4), (2, .int v5), (3, .int v6), (4, .int v7), (5, .int v8)]) rfl ?_
        refine v_iload dX6_look_47 0 rfl ?_
        refine v_iload dX6_look_49 5 rfl ?_
        refine v_icmp_lt (tgt := 57) dX6_look_51 (by decide) hF (fun hF => ?_) (fun hF => ?_)
        · refine v_iload dX6_look_57 0 rfl ?_
          refine v_istore dX6_look_59 (Nat.le_of_ble_eq_true rfl) (L' := [(4, .int v15), (6, .int v15), (0, .ref m0), (1, .int v4), (2, .int v5), (3, .int v6), (5, .int v8)]) rfl ?_
          refine v_iload dX6_look_61 6 rfl ?_
          refine v_istore_n dX6_look_63 rfl (Nat.le_of_ble_eq_true rfl) (L' := [(3, .int v8), (4, .int v15), (6, .int v15), (0, .ref m0), (1, .int v4), (2, .int v5), (5, .int v8)]) rfl ?_
          exact v_sub [3, 4, 5, 0, 1, 6] rfl (w_T_look_J64 hfr hlo hc25 hF)
        · refine v_goto (tgt := 64) dX6_look_54 (by decide) ?_
          exact v_sub [1, 2, 3, 4, 5, 6] rfl (w_T_look_J64 hfr hlo hc25 hF)
def T_look_J70 (N : Nat) (v27 : Int32) (v28 : Int32) (v29 : Int32) (M30 : TM) : Option (Int32 × TM) :=
  if v28 = (-1 : Int32) then
    some (v28, M30)
  else
    if v27 = 0 then
      some (v28, M30)
    else
      some (v29, M30)
theorem w_T_look_J70 {l : Launch} {G : GT} {fr lo : Nat} {h0 : Hp} {m0 : Nat} {hb : Hp} {N : Nat} {r : (Int32 × TM)} (hfr : 122 ≤ fr) (hlo : 2939 ≤ lo)   {v27 : Int32} {v28 : Int32} {v29 : Int32} {M30 : TM} (hF : T_look_J70 N v27 v28 v29 M30 = some r) : V l G cX6_look RX6 "look" 7 (Option.some Jvm.ClassFile.FieldType.int) fr lo h0 (ovT m0 r.2 hb) (QM G (some (.int r.1)) h0 (ovT m0 r.2 hb)) 70 [(1, .int v27), (3, .int v28), (4, .int v29)] [] (ovT m0 M30 hb) := by
  unfold T_look_J70 at hF
  refine v_iload_n dX6_look_70 rfl 1 rfl ?_
  refine v_iconst dX6_look_71 (v := -1) (by decide) ?_
  refine v_icmp_eq (tgt := 79) dX6_look_72 (by decide) hF (fun hF => ?_) (fun hF => ?_)
  · refine v_iload_n dX6_look_79 rfl 1 rfl ?_
    refine v_goto (tgt := 85) dX6_look_80 (by decide) ?_
    cases hF
    exact v_iret dX6_look_85 rfl rfl rfl rfl
  · refine v_iload_n dX6_look_75 rfl 0 rfl ?_
    refine v_if_ne (tgt := 83) dX6_look_76 (by decide) hF (fun hF => ?_) (fun hF => ?_)
    · refine v_iload dX6_look_83 2 rfl ?_
      cases hF
      exact v_iret dX6_look_85 rfl rfl rfl rfl
    · refine v_iload_n dX6_look_79 rfl 1 rfl ?_
      refine v_goto (tgt := 85) dX6_look_80 (by decide) ?_
      cases hF
      exact v_iret dX6_look_85 rfl rfl rfl rfl
def T_look (N : Nat) (a1 : Int32) (M : TM) : Option (Int32 × TM) :=
  (T_lies a1 (0 : Int32) (1 : Int32)).bind fun v1 =>
  if v1 = 0 then
    some ((-1 : Int32), M)
  else
    bd2 (T_canBe N M) fun v3 M2 =>
    T_look_L25 N (fun v23 v24 v25 M26 =>
      T_look_J70 N v23 v24 v25 M26) N a1 v3 (-1 : Int32) (1000000 : Int32) (0 : Int32) M2
theorem w_T_look {l : Launch} {G : GT} {fr lo : Nat} {h0 : Hp} {m0 : Nat} {hb : Hp} {N : Nat} {r : (Int32 × TM)} (hfr : 122 ≤ fr) (hlo : 2939 ≤ lo) {a1 : Int32} {M : TM} (hF : T_look N a1 M = some r) : V l G cX6_look RX6 "look" 7 (Option.some Jvm.ClassFile.FieldType.int) fr lo h0 (ovT m0 r.2 hb) (QM G (some (.int r.1)) h0 (ovT m0 r.2 hb)) 0 [(0, .ref m0), (1, .int a1)] [] (ovT m0 M hb) := by
  unfold T_look at hF
  refine v_iload_n dX6_look_0 rfl 1 rfl ?_
  refine v_iconst dX6_look_1 (v := 0) (by decide) ?_
  refine v_iconst dX6_look_2 (v := 1) (by decide) ?_
  obtain ⟨v1, e_v1, hF⟩ := Option.bind_eq_some_iff.mp hF
  refine v_calS1 dX6_look_3 sl_X6_102 q1810 (ct_T_lies e_v1) rfl rfl (Nat.le_trans (Nat.le_of_ble_eq_true rfl) hfr) (Nat.le_trans (Nat.le_of_ble_eq_true rfl) hlo) (Nat.le_of_ble_eq_true rfl) ?_
  refine v_if_ne (tgt := 11) dX6_look_6 (by decide) hF (fun hF => ?_) (fun hF => ?_)
  · refine v_aload_n dX6_look_11 rfl 0 rfl ?_
    obtain ⟨v3, M2, e_v3, hF⟩ := bd2_spec hF
    refine v_calV1 dX6_look_12 vl_X6_452 q2272 rc_ov (ct_T_canBe e_v3) rfl rfl (Nat.le_trans (Nat.le_of_ble_eq_true rfl) hfr) (Nat.le_trans (Nat.le_of_ble_eq_true rfl) hlo) (Nat.le_of_ble_eq_true rfl) ?_
    refine v_istore_n dX6_look_15 rfl (Nat.le_of_ble_eq_true rfl) (L' := [(2, .int v3), (0, .ref m0), (1, .int a1)]) rfl ?_
    refine v_iconst dX6_look_16 (v := -1) (by decide) ?_
    refine v_istore_n dX6_look_17 rfl (Nat.le_of_ble_eq_true rfl) (L' := [(3, .int (-1 : Int32)), (2, .int v3), (0, .ref m0), (1, .int a1)]) rfl ?_
    refine v_ldc dX6_look_18 q2017 ?_
    refine v_istore dX6_look_20 (Nat.le_of_ble_eq_true rfl) (L' := [(4, .int (1000000 : Int32)), (3, .int (-1 : Int32)), (2, .int v3), (0, .ref m0), (1, .int a1)]) rfl ?_
    refine v_iconst dX6_look_22 (v := 0) (by decide) ?_
    refine v_istore dX6_look_23 (Nat.le_of_ble_eq_true rfl) (L' := [(5, .int (0 : Int32)), (4, .int (1000000 : Int32)), (3, .int (-1 : Int32)), (2, .int v3), (0, .ref m0), (1, .int a1)]) rfl ?_
    refine v_sub [4, 5, 3, 2, 1, 0] rfl (w_T_look_L25 hfr hlo ?_ N _ _ _ _ _ _ hF)
    intro v23 v24 v25 M26 hF
    exact v_sub [0, 1, 2] rfl (w_T_look_J70 hfr hlo hF)
  · refine v_iconst dX6_look_9 (v := -1) (by decide) ?_
    cases hF
    exact v_iret dX6_look_10 rfl rfl rfl rfl
theorem ct_T_look {l : Launch} {G : GT} {m0 : Nat} {hb : Hp} {N : Nat} {r : (Int32 × TM)} {a1 : Int32} {M : TM} (hF : T_look N a1 M = some r) : Ct l G yX6_look (ws_ yX6_look cX6_look 7 (Option.some Jvm.ClassFile.FieldType.int)) 122 2939 [.ref m0, .int a1] (ovT m0 M hb) (some (.int r.1)) (ovT m0 r.2 hb) :=
  ct_of (by decide) (Nat.le_of_ble_eq_true rfl) (w_T_look (Nat.le_refl _) (Nat.le_refl _) hF)
def T_compare (N : Nat) (a1 : Int32) (a2 : Int32) (a3 : Int32) (M : TM) : Option (Int32 × TM) :=
  (T_isLaw M a1).bind fun v1 =>
  if v1 = 0 then
    some ((-1 : Int32), M)
  else
    (T_isLeek M a2).bind fun v2 =>
    if v2 = 0 then
      some ((-1 : Int32), M)
    else
      (T_isBook M a3).bind fun v3 =>
      if v3 = 0 then
        some ((-1 : Int32), M)
      else
        (tra M 2 5660 (52 : Int32)).bind fun v4 =>
        (twa M 2 5660 (52 : Int32) a1).bind fun M5 =>
        bd2 (T_growsNow N a2 a3 M5) fun v7 M6 =>
        (twa M6 2 5660 (52 : Int32) v4).bind fun M8 =>
        some (v7, M8)
theorem w_T_compare {l : Launch} {G : GT} {fr lo : Nat} {h0 : Hp} {m0 : Nat} {hb : Hp} {N : Nat} {r : (Int32 × TM)} (hfr : 120 ≤ fr) (hlo : 2895 ≤ lo) {a1 : Int32} {a2 : Int32} {a3 : Int32} {M : TM} (hF : T_compare N a1 a2 a3 M = some r) : V l G cX6_compare RX6 "compare" 6 (Option.some Jvm.ClassFile.FieldType.int) fr lo h0 (ovT m0 r.2 hb) (QM G (some (.int r.1)) h0 (ovT m0 r.2 hb)) 0 [(0, .ref m0), (1, .int a1), (2, .int a2), (3, .int a3)] [] (ovT m0 M hb) := by
  unfold T_compare at hF
  refine v_aload_n dX6_compare_0 rfl 0 rfl ?_
  refine v_iload_n dX6_compare_1 rfl 1 rfl ?_
  obtain ⟨v1, e_v1, hF⟩ := Option.bind_eq_some_iff.mp hF
  refine v_calV1 dX6_compare_2 vl_X6_262 q2093 rc_ov (ct_T_isLaw e_v1) rfl rfl (Nat.le_trans (Nat.le_of_ble_eq_true rfl) hfr) (Nat.le_trans (Nat.le_of_ble_eq_true rfl) hlo) (Nat.le_of_ble_eq_true rfl) ?_
  refine v_if_eq (tgt := 24) dX6_compare_5 (by decide) hF (fun hF => ?_) (fun hF => ?_)
  · refine v_iconst dX6_compare_24 (v := -1) (by decide) ?_
    cases hF
    exact v_iret dX6_compare_25 rfl rfl rfl rfl
  · refine v_aload_n dX6_compare_8 rfl 0 rfl ?_
    refine v_iload_n dX6_compare_9 rfl 2 rfl ?_
    obtain ⟨v2, e_v2, hF⟩ := Option.bind_eq_some_iff.mp hF
    refine v_calV1 dX6_compare_10 vl_X6_143 q1914 rc_ov (ct_T_isLeek e_v2) rfl rfl (Nat.le_trans (Nat.le_of_ble_eq_true rfl) hfr) (Nat.le_trans (Nat.le_of_ble_eq_true rfl) hlo) (Nat.le_of_ble_eq_true rfl) ?_
    refine v_if_eq (tgt := 24) dX6_compare_13 (by decide) hF (fun hF => ?_) (fun hF => ?_)
    · refine v_iconst dX6_compare_24 (v := -1) (by decide) ?_
      cases hF
      exact v_iret dX6_compare_25 rfl rfl rfl rfl
    · refine v_aload_n dX6_compare_16 rfl 0 rfl ?_
      refine v_iload_n dX6_compare_17 rfl 3 rfl ?_
      obtain ⟨v3, e_v3, hF⟩ := Option.bind_eq_some_iff.mp hF
      refine v_calV1 dX6_compare_18 vl_X6_130 q1849 rc_ov (ct_T_isBook e_v3) rfl rfl (Nat.le_trans (Nat.le_of_ble_eq_true rfl) hfr) (Nat.le_trans (Nat.le_of_ble_eq_true rfl) hlo) (Nat.le_of_ble_eq_true rfl) ?_
      refine v_if_ne (tgt := 26) dX6_compare_21 (by decide) hF (fun hF => ?_) (fun hF => ?_)
      · refine v_aload_n dX6_compare_26 rfl 0 rfl ?_
        refine t_geta 2 2 dX6_compare_27 fl_X6_24 (Nat.le_of_ble_eq_true rfl) (fun _ _ => rfl) ?_
        refine v_bipush dX6_compare_30 (v := 52) (by decide) ?_
        refine t_iald 2 dX6_compare_32 rfl (Nat.le_of_ble_eq_true rfl) (by decide) hF (fun v4 hF => ?_)
        refine v_istore dX6_compare_33 (Nat.le_of_ble_eq_true rfl) (L' := [(4, .int v4), (0, .ref m0), (1, .int a1), (2, .int a2), (3, .int a3)]) rfl ?_
        refine v_aload_n dX6_compare_35 rfl 1 rfl ?_
        refine t_geta 2 2 dX6_compare_36 fl_X6_24 (Nat.le_of_ble_eq_true rfl) (fun _ _ => rfl) ?_
        refine v_bipush dX6_compare_39 (v := 52) (by decide) ?_
        refine v_iload_n dX6_compare_41 rfl 2 rfl ?_
        refine t_iast 2 dX6_compare_42 rfl (Nat.le_of_ble_eq_true rfl) (by decide) hF (fun M5 hF => ?_)
        refine v_aload_n dX6_compare_43 rfl 1 rfl ?_
        refine v_iload_n dX6_compare_44 rfl 3 rfl ?_
        refine v_iload_n dX6_compare_45 rfl 4 rfl ?_
        obtain ⟨v7, M6, e_v7, hF⟩ := bd2_spec hF
        refine v_calV1 dX6_compare_46 vl_X6_146 q1956 rc_ov (ct_T_growsNow e_v7) rfl rfl (Nat.le_trans (Nat.le_of_ble_eq_true rfl) hfr) (Nat.le_trans (Nat.le_of_ble_eq_true rfl) hlo) (Nat.le_of_ble_eq_true rfl) ?_
        refine v_istore dX6_compare_49 (Nat.le_of_ble_eq_true rfl) (L' := [(5, .int v7), (4, .int v4), (0, .ref m0), (1, .int a1), (2, .int a2), (3, .int a3)]) rfl ?_
        refine v_aload_n dX6_compare_51 rfl 2 rfl ?_
        refine t_geta 2 2 dX6_compare_52 fl_X6_24 (Nat.le_of_ble_eq_true rfl) (fun _ _ => rfl) ?_
        refine v_bipush dX6_compare_55 (v := 52) (by decide) ?_
        refine v_iload dX6_compare_57 1 rfl ?_
        refine t_iast 2 dX6_compare_59 rfl (Nat.le_of_ble_eq_true rfl) (by decide) hF (fun M8 hF => ?_)
        refine v_iload dX6_compare_60 0 rfl ?_
        cases hF
        exact v_iret dX6_compare_62 rfl rfl rfl rfl
      · refine v_iconst dX6_compare_24 (v := -1) (by decide) ?_
        cases hF
        exact v_iret dX6_compare_25 rfl rfl rfl rfl
theorem ct_T_compare {l : Launch} {G : GT} {m0 : Nat} {hb : Hp} {N : Nat} {r : (Int32 × TM)} {a1 : Int32} {a2 : Int32} {a3 : Int32} {M : TM} (hF : T_compare N a1 a2 a3 M = some r) : Ct l G yX6_compare (ws_ yX6_compare cX6_compare 6 (Option.some Jvm.ClassFile.FieldType.int)) 120 2895 [.ref m0, .int a1, .int a2, .int a3] (ovT m0 M hb) (some (.int r.1)) (ovT m0 r.2 hb) :=
  ct_of (by decide) (Nat.le_of_ble_eq_true rfl) (w_T_compare (Nat.le_refl _) (Nat.le_refl _) hF)
theorem fl_X6_89 : FL RX6 89 [6] 44 := by
  intro ci h
  simp only [List.mem_cons, List.not_mem_nil, or_false] at h
  subst h; exact ⟨RX6, _, TX6, 56, rfl, in_X6, by decide, Or.inl q1678, Or.inl rfl⟩
def T_few_J48 (N : Nat) (c26 : Int32 → Int32 → Int32 → TM → Option (Int64 × TM)) (v10 : Int32) (v11 : Int32) (v12 : Int32) (v13 : Int64) (v14 : Int32) (M15 : TM) : Option (Int64 × TM) :=
  (twl M15 21 v14 v13).bind fun M16 =>
  c26 v10 v11 (v12 + (1 : Int32)) M16
theorem w_T_few_J48 {l : Launch} {G : GT} {fr lo : Nat} {h0 : Hp} {m0 : Nat} {hb : Hp} {N : Nat} {r : (Int64 × TM)} (hfr : 1 ≤ fr) (hlo : 22 ≤ lo) {c26 : Int32 → Int32 → Int32 → TM → Option (Int64 × TM)} (hc26 : ∀ (v3 : Int32) (v4 : Int32) (v5 : Int32) (M6 : TM), c26 v3 v4 v5 M6 = some r → V l G cX6_few RX6 "few" 6 (Option.some Jvm.ClassFile.FieldType.long) fr lo h0 (ovT m0 r.2 hb) (QM G (some (.long r.1)) h0 (ovT m0 r.2 hb)) 26 [(0, .ref m0), (1, .int v3), (2, .int v4), (3, .int v5)] [] (ovT m0 M6 hb)) {v10 : Int32} {v11 : Int32} {v12 : Int32} {v13 : Int64} {v14 : Int32} {M15 : TM} (hF : T_few_J48 N c26 v10 v11 v12 v13 v14 M15 = some r) : V l G cX6_few RX6 "few" 6 (Option.some Jvm.ClassFile.FieldType.long) fr lo h0 (ovT m0 r.2 hb) (QM G (some (.long r.1)) h0 (ovT m0 r.2 hb)) 48 [(0, .ref m0), (1, .int v10), (2, .int v11), (3, .int v12)] [.long v13, .int v14, .ref (m0 + 22)] (ovT m0 M15 hb) := by
  unfold T_few_J48 at hF
  refine t_last dX6_few_48 hF (fun M16 hF => ?_)
  refine v_iinc dX6_few_49 3 rfl (v := v12 + (1 : Int32)) (by rfl) (Nat.le_of_ble_eq_true rfl) (L' := [(3, .int (v12 + (1 : Int32))), (0, .ref m0), (1, .int v10), (2, .int v11)]) rfl ?_
  refine v_goto (tgt := 26) dX6_few_52 (by decide) ?_
  exact v_sub [1, 2, 3, 0] rfl (hc26 _ _ _ _ hF)
def T_few_L26 (N : Nat) (x26 : Int32 → Int32 → TM → Option (Int64 × TM)) : Nat → Int32 → Int32 → Int32 → TM → Option (Int64 × TM)
  | 0, _, _, _, _ => none
  | n17 + 1, v3, v4, v5, M6 =>
    if (20 : Int32) < v5 then
      x26 v3 v4 M6
    else
      if v5 = 0 then
        T_few_J48 N (T_few_L26 N x26 n17) v3 v4 v5 (1000000000000 : Int64) v5 M6
      else
        T_few_J48 N (T_few_L26 N x26 n17) v3 v4 v5 (0 : Int64) v5 M6
theorem w_T_few_L26 {l : Launch} {G : GT} {fr lo : Nat} {h0 : Hp} {m0 : Nat} {hb : Hp} {N : Nat} {r : (Int64 × TM)} (hfr : 1 ≤ fr) (hlo : 22 ≤ lo) {x26 : Int32 → Int32 → TM → Option (Int64 × TM)} (hx26 : ∀ (v7 : Int32) (v8 : Int32) (M9 : TM), x26 v7 v8 M9 = some r → V l G cX6_few RX6 "few" 6 (Option.some Jvm.ClassFile.FieldType.long) fr lo h0 (ovT m0 r.2 hb) (QM G (some (.long r.1)) h0 (ovT m0 r.2 hb)) 55 [(0, .ref m0), (1, .int v7), (2, .int v8)] [] (ovT m0 M9 hb)) : ∀ (n : Nat) (v3 : Int32) (v4 : Int32) (v5 : Int32) (M6 : TM), T_few_L26 N x26 n v3 v4 v5 M6 = some r → V l G cX6_few RX6 "few" 6 (Option.some Jvm.ClassFile.FieldType.long) fr lo h0 (ovT m0 r.2 hb) (QM G (some (.long r.1)) h0 (ovT m0 r.2 hb)) 26 [(0, .ref m0), (1, .int v3), (2, .int v4), (3, .int v5)] [] (ovT m0 M6 hb) := by
  intro n
  induction n with
  | zero =>
    intro v3 v4 v5 M6 hF
    cases (show (none : Option (Int64 × TM)) = some r from hF)
  | succ n hc26 =>
    intro v3 v4 v5 M6 hF
    rw [T_few_L26] at hF
    refine v_iload_n dX6_few_26 rfl 3 rfl ?_
    refine v_bipush dX6_few_27 (v := 20) (by decide) ?_
    refine v_icmp_gt (tgt := 55) dX6_few_29 (by decide) hF (fun hF => ?_) (fun hF => ?_)
    · exact v_sub [0, 1, 2] rfl (hx26 _ _ _ hF)
    · refine v_aload_n dX6_few_32 rfl 0 rfl ?_
      refine t_geta 44 22 dX6_few_33 fl_X6_89 (Nat.le_of_ble_eq_true rfl) (fun _ _ => rfl) ?_
      refine v_iload_n dX6_few_36 rfl 3 rfl ?_
      refine v_iload_n dX6_few_37 rfl 3 rfl ?_
      refine v_if_ne (tgt := 47) dX6_few_38 (by decide) hF (fun hF => ?_) (fun hF => ?_)
      · refine v_lconst dX6_few_47 (v := 0) (by decide) ?_
        exact v_sub [0, 1, 2, 3] rfl (w_T_few_J48 hfr hlo hc26 hF)
      · refine v_ldc2 dX6_few_41 q2299 ?_
        refine v_goto (tgt := 48) dX6_few_44 (by decide) ?_
        exact v_sub [0, 1, 2, 3] rfl (w_T_few_J48 hfr hlo hc26 hF)
def T_few_L67 (N : Nat) (x67 : Int32 → Int32 → Int32 → TM → Option (Int64 × TM)) : Nat → Int32 → Int32 → Int32 → Int32 → TM → Option (Int64 × TM)
  | 0, _, _, _, _, _ => none
  | n43 + 1, v27, v28, v29, v30, M31 =>
    if v30 < 0 then
      x67 v27 v28 v29 M31
    else
      (trl M31 21 (v30 + (1 : Int32))).bind fun v36 =>
      (trl M31 21 v30).bind fun v37 =>
      (tra M31 2 5660 (46 : Int32)).bind fun v38 =>
      if (10 : Int64) = 0 then none else
      (twl M31 21 (v30 + (1 : Int32)) (v36 + ((v37 * v38.toInt64) / (10 : Int64)))).bind fun M39 =>
      (trl M39 21 v30).bind fun v40 =>
      (tra M39 2 5660 (46 : Int32)).bind fun v41 =>
      if (10 : Int64) = 0 then none else
      (twl M39 21 v30 ((v40 * (((10 : Int32) - v41).toInt64)) / (10 : Int64))).bind fun M42 =>
      (T_few_L67 N x67 n43) v27 v28 v29 (v30 + (-1 : Int32)) M42
theorem w_T_few_L67 {l : Launch} {G : GT} {fr lo : Nat} {h0 : Hp} {m0 : Nat} {hb : Hp} {N : Nat} {r : (Int64 × TM)} (hfr : 1 ≤ fr) (hlo : 22 ≤ lo) {x67 : Int32 → Int32 → Int32 → TM → Option (Int64 × TM)} (hx67 : ∀ (v32 : Int32) (v33 : Int32) (v34 : Int32) (M35 : TM), x67 v32 v33 v34 M35 = some r → V l G cX6_few RX6 "few" 6 (Option.some Jvm.ClassFile.FieldType.long) fr lo h0 (ovT m0 r.2 hb) (QM G (some (.long r.1)) h0 (ovT m0 r.2 hb)) 140 [(0, .ref m0), (1, .int v32), (2, .int v33), (3, .int v34)] [] (ovT m0 M35 hb)) : ∀ (n : Nat) (v27 : Int32) (v28 : Int32) (v29 : Int32) (v30 : Int32) (M31 : TM), T_few_L67 N x67 n v27 v28 v29 v30 M31 = some r → V l G cX6_few RX6 "few" 6 (Option.some Jvm.ClassFile.FieldType.long) fr lo h0 (ovT m0 r.2 hb) (QM G (some (.long r.1)) h0 (ovT m0 r.2 hb)) 67 [(0, .ref m0), (1, .int v27), (2, .int v28), (3, .int v29), (4, .int v30)] [] (ovT m0 M31 hb) := by
  intro n
  induction n with
  | zero =>
    intro v27 v28 v29 v30 M31 hF
    cases (show (none : Option (Int64 × TM)) = some r from hF)
  | succ n hc67 =>
    intro v27 v28 v29 v30 M31 hF
    rw [T_few_L67] at hF
    refine v_iload dX6_few_67 4 rfl ?_
    refine v_if_lt (tgt := 140) dX6_few_69 (by decide) hF (fun hF => ?_) (fun hF => ?_)
    · exact v_sub [0, 1, 2, 3] rfl (hx67 _ _ _ _ hF)
    · refine v_aload_n dX6_few_72 rfl 0 rfl ?_
      refine t_geta 44 22 dX6_few_73 fl_X6_89 (Nat.le_of_ble_eq_true rfl) (fun _ _ => rfl) ?_
      refine v_iload dX6_few_76 4 rfl ?_
      refine v_iconst dX6_few_78 (v := 1) (by decide) ?_
      refine v_iadd dX6_few_79 ?_
      refine v_dup2 dX6_few_80 rfl rfl ?_
      refine t_lald dX6_few_81 hF (fun v36 hF => ?_)
      refine v_aload_n dX6_few_82 rfl 0 rfl ?_
      refine t_geta 44 22 dX6_few_83 fl_X6_89 (Nat.le_of_ble_eq_true rfl) (fun _ _ => rfl) ?_
      refine v_iload dX6_few_86 4 rfl ?_
      refine t_lald dX6_few_88 hF (fun v37 hF => ?_)
      refine v_aload_n dX6_few_89 rfl 0 rfl ?_
      refine t_geta 2 2 dX6_few_90 fl_X6_24 (Nat.le_of_ble_eq_true rfl) (fun _ _ => rfl) ?_
      refine v_bipush dX6_few_93 (v := 46) (by decide) ?_
      refine t_iald 2 dX6_few_95 rfl (Nat.le_of_ble_eq_true rfl) (by decide) hF (fun v38 hF => ?_)
      refine v_i2l dX6_few_96 ?_
      refine v_lmul dX6_few_97 ?_
      refine v_ldc2 dX6_few_98 q2300 ?_
      refine v_ldiv dX6_few_101 hF (fun hF => ?_)
      refine v_ladd dX6_few_102 ?_
      refine t_last dX6_few_103 hF (fun M39 hF => ?_)
      refine v_aload_n dX6_few_104 rfl 0 rfl ?_
      refine t_geta 44 22 dX6_few_105 fl_X6_89 (Nat.le_of_ble_eq_true rfl) (fun _ _ => rfl) ?_
      refine v_iload dX6_few_108 4 rfl ?_
      refine v_aload_n dX6_few_110 rfl 0 rfl ?_
      refine t_geta 44 22 dX6_few_111 fl_X6_89 (Nat.le_of_ble_eq_true rfl) (fun _ _ => rfl) ?_
      refine v_iload dX6_few_114 4 rfl ?_
      refine t_lald dX6_few_116 hF (fun v40 hF => ?_)
      refine v_bipush dX6_few_117 (v := 10) (by decide) ?_
      refine v_aload_n dX6_few_119 rfl 0 rfl ?_
      refine t_geta 2 2 dX6_few_120 fl_X6_24 (Nat.le_of_ble_eq_true rfl) (fun _ _ => rfl) ?_
      refine v_bipush dX6_few_123 (v := 46) (by decide) ?_
      refine t_iald 2 dX6_few_125 rfl (Nat.le_of_ble_eq_true rfl) (by decide) hF (fun v41 hF => ?_)
      refine v_isub dX6_few_126 ?_
      refine v_i2l dX6_few_127 ?_
      refine v_lmul dX6_few_128 ?_
      refine v_ldc2 dX6_few_129 q2300 ?_
      refine v_ldiv dX6_few_132 hF (fun hF => ?_)
      refine t_last dX6_few_133 hF (fun M42 hF => ?_)
      refine v_iinc dX6_few_134 4 rfl (v := v30 + (-1 : Int32)) (by rfl) (Nat.le_of_ble_eq_true rfl) (L' := [(4, .int (v30 + (-1 : Int32))), (0, .ref m0), (1, .int v27), (2, .int v28), (3, .int v29)]) rfl ?_
      refine v_goto (tgt := 67) dX6_few_137 (by decide) ?_
      exact v_sub [1, 2, 3, 4, 0] rfl (hc67 _ _ _ _ _ hF)
def T_few_L57 (N : Nat) (x57 : Int32 → TM → Option (Int64 × TM)) : Nat → Int32 → Int32 → Int32 → TM → Option (Int64 × TM)
  | 0, _, _, _, _ => none
  | n48 + 1, v21, v22, v23, M24 =>
    if v22 ≤ v23 then
      x57 v21 M24
    else
      T_few_L67 N (fun v44 v45 v46 M47 =>
        (T_few_L57 N x57 n48) v44 v45 (v46 + (1 : Int32)) M47) N v21 v22 v23 (v21 - (1 : Int32)) M24
theorem w_T_few_L57 {l : Launch} {G : GT} {fr lo : Nat} {h0 : Hp} {m0 : Nat} {hb : Hp} {N : Nat} {r : (Int64 × TM)} (hfr : 1 ≤ fr) (hlo : 22 ≤ lo) {x57 : Int32 → TM → Option (Int64 × TM)} (hx57 : ∀ (v25 : Int32) (M26 : TM), x57 v25 M26 = some r → V l G cX6_few RX6 "few" 6 (Option.some Jvm.ClassFile.FieldType.long) fr lo h0 (ovT m0 r.2 hb) (QM G (some (.long r.1)) h0 (ovT m0 r.2 hb)) 146 [(0, .ref m0), (1, .int v25)] [] (ovT m0 M26 hb)) : ∀ (n : Nat) (v21 : Int32) (v22 : Int32) (v23 : Int32) (M24 : TM), T_few_L57 N x57 n v21 v22 v23 M24 = some r → V l G cX6_few RX6 "few" 6 (Option.some Jvm.ClassFile.FieldType.long) fr lo h0 (ovT m0 r.2 hb) (QM G (some (.long r.1)) h0 (ovT m0 r.2 hb)) 57 [(0, .ref m0), (1, .int v21), (2, .int v22), (3, .int v23)] [] (ovT m0 M24 hb) := by
  intro n
  induction n with
  | zero =>
    intro v21 v22 v23 M24 hF
    cases (show (none : Option (Int64 × TM)) = some r from hF)
  | succ n hc57 =>
    intro v21 v22 v23 M24 hF
    rw [T_few_L57] at hF
    refine v_iload_n dX6_few_57 rfl 3 rfl ?_
    refine v_iload_n dX6_few_58 rfl 2 rfl ?_
    refine v_icmp_ge (tgt := 146) dX6_few_59 (by decide) hF (fun hF => ?_) (fun hF => ?_)
    · exact v_sub [0, 1] rfl (hx57 _ _ hF)
    · refine v_iload_n dX6_few_62 rfl 1 rfl ?_
      refine v_iconst dX6_few_63 (v := 1) (by decide) ?_
      refine v_isub dX6_few_64 ?_
      refine v_istore dX6_few_65 (Nat.le_of_ble_eq_true rfl) (L' := [(4, .int (v21 - (1 : Int32))), (0, .ref m0), (1, .int v21), (2, .int v22), (3, .int v23)]) rfl ?_
      refine v_sub [1, 2, 3, 4, 0] rfl (w_T_few_L67 hfr hlo ?_ N _ _ _ _ _ hF)
      intro v44 v45 v46 M47 hF
      refine v_iinc dX6_few_140 3 rfl (v := v46 + (1 : Int32)) (by rfl) (Nat.le_of_ble_eq_true rfl) (L' := [(3, .int (v46 + (1 : Int32))), (0, .ref m0), (1, .int v44), (2, .int v45)]) rfl ?_
      refine v_goto (tgt := 57) dX6_few_143 (by decide) ?_
      exact v_sub [1, 2, 3, 0] rfl (hc57 _ _ _ _ hF)
def T_few_L151 (N : Nat) (x151 : Int64 → TM → Option (Int64 × TM)) : Nat → Int32 → Int64 → Int32 → TM → Option (Int64 × TM)
  | 0, _, _, _, _ => none
  | n58 + 1, v51, v52, v53, M54 =>
    if v51 ≤ v53 then
      x151 v52 M54
    else
      (trl M54 21 v53).bind fun v57 =>
      (T_few_L151 N x151 n58) v51 (v52 + v57) (v53 + (1 : Int32)) M54
theorem w_T_few_L151 {l : Launch} {G : GT} {fr lo : Nat} {h0 : Hp} {m0 : Nat} {hb : Hp} {N : Nat} {r : (Int64 × TM)} (hfr : 1 ≤ fr) (hlo : 22 ≤ lo) {x151 : Int64 → TM → Option (Int64 × TM)} (hx151 : ∀ (v55 : Int64) (M56 : TM), x151 v55 M56 = some r → V l G cX6_few RX6 "few" 6 (Option.some Jvm.ClassFile.FieldType.long) fr lo h0 (ovT m0 r.2 hb) (QM G (some (.long r.1)) h0 (ovT m0 r.2 hb)) 173 [(3, .long v55)] [] (ovT m0 M56 hb)) : ∀ (n : Nat) (v51 : Int32) (v52 : Int64) (v53 : Int32) (M54 : TM), T_few_L151 N x151 n v51 v52 v53 M54 = some r → V l G cX6_few RX6 "few" 6 (Option.some Jvm.ClassFile.FieldType.long) fr lo h0 (ovT m0 r.2 hb) (QM G (some (.long r.1)) h0 (ovT m0 r.2 hb)) 151 [(0, .ref m0), (1, .int v51), (3, .long v52), (5, .int v53)] [] (ovT m0 M54 hb) := by
  intro n
  induction n with
  | zero =>
    intro v51 v52 v53 M54 hF
    cases (show (none : Option (Int64 × TM)) = some r from hF)
  | succ n hc151 =>
    intro v51 v52 v53 M54 hF
    rw [T_few_L151] at hF
    refine v_iload dX6_few_151 3 rfl ?_
    refine v_iload_n dX6_few_153 rfl 1 rfl ?_
    refine v_icmp_ge (tgt := 173) dX6_few_154 (by decide) hF (fun hF => ?_) (fun hF => ?_)
    · exact v_sub [2] rfl (hx151 _ _ hF)
    · refine v_lload_n dX6_few_157 rfl 2 rfl ?_
      refine v_aload_n dX6_few_158 rfl 0 rfl ?_
      refine t_geta 44 22 dX6_few_159 fl_X6_89 (Nat.le_of_ble_eq_true rfl) (fun _ _ => rfl) ?_
      refine v_iload dX6_few_162 3 rfl ?_
      refine t_lald dX6_few_164 hF (fun v57 hF => ?_)
      refine v_ladd dX6_few_165 ?_
      refine v_lstore_n dX6_few_166 rfl (Nat.le_of_ble_eq_true rfl) (L' := [(3, .long (v52 + v57)), (0, .ref m0), (1, .int v51), (5, .int v53)]) rfl ?_
      refine v_iinc dX6_few_167 3 rfl (v := v53 + (1 : Int32)) (by rfl) (Nat.le_of_ble_eq_true rfl) (L' := [(5, .int (v53 + (1 : Int32))), (3, .long (v52 + v57)), (0, .ref m0), (1, .int v51)]) rfl ?_
      refine v_goto (tgt := 151) dX6_few_170 (by decide) ?_
      exact v_sub [2, 3, 1, 0] rfl (hc151 _ _ _ _ hF)
def T_few (N : Nat) (a1 : Int32) (a2 : Int32) (M : TM) : Option (Int64 × TM) :=
  (T_lies a1 (1 : Int32) (20 : Int32)).bind fun v1 =>
  if v1 = 0 then
    some ((-1 : Int64), M)
  else
    (T_lies a2 (0 : Int32) (99 : Int32)).bind fun v2 =>
    if v2 = 0 then
      some ((-1 : Int64), M)
    else
      T_few_L26 N (fun v18 v19 M20 =>
        T_few_L57 N (fun v49 M50 =>
          T_few_L151 N (fun v59 M60 =>
            some (v59, M60)) N v49 (0 : Int64) (0 : Int32) M50) N v18 v19 (0 : Int32) M20) N a1 a2 (0 : Int32) M
theorem w_T_few {l : Launch} {G : GT} {fr lo : Nat} {h0 : Hp} {m0 : Nat} {hb : Hp} {N : Nat} {r : (Int64 × TM)} (hfr : 1 ≤ fr) (hlo : 22 ≤ lo) {a1 : Int32} {a2 : Int32} {M : TM} (hF : T_few N a1 a2 M = some r) : V l G cX6_few RX6 "few" 6 (Option.some Jvm.ClassFile.FieldType.long) fr lo h0 (ovT m0 r.2 hb) (QM G (some (.long r.1)) h0 (ovT m0 r.2 hb)) 0 [(0, .ref m0), (1, .int a1), (2, .int a2)] [] (ovT m0 M hb) := by
  unfold T_few at hF
  refine v_iload_n dX6_few_0 rfl 1 rfl ?_
  refine v_iconst dX6_few_1 (v := 1) (by decide) ?_
  refine v_bipush dX6_few_2 (v := 20) (by decide) ?_
  obtain ⟨v1, e_v1, hF⟩ := Option.bind_eq_some_iff.mp hF
  refine v_calS1 dX6_few_4 sl_X6_102 q1810 (ct_T_lies e_v1) rfl rfl (Nat.le_trans (Nat.le_of_ble_eq_true rfl) hfr) (Nat.le_trans (Nat.le_of_ble_eq_true rfl) hlo) (Nat.le_of_ble_eq_true rfl) ?_
  refine v_if_eq (tgt := 20) dX6_few_7 (by decide) hF (fun hF => ?_) (fun hF => ?_)
  · refine v_ldc2 dX6_few_20 q2298 ?_
    cases hF
    exact v_lret dX6_few_23 rfl rfl rfl
  · refine v_iload_n dX6_few_10 rfl 2 rfl ?_
    refine v_iconst dX6_few_11 (v := 0) (by decide) ?_
    refine v_bipush dX6_few_12 (v := 99) (by decide) ?_
    obtain ⟨v2, e_v2, hF⟩ := Option.bind_eq_some_iff.mp hF
    refine v_calS1 dX6_few_14 sl_X6_102 q1810 (ct_T_lies e_v2) rfl rfl (Nat.le_trans (Nat.le_of_ble_eq_true rfl) hfr) (Nat.le_trans (Nat.le_of_ble_eq_true rfl) hlo) (Nat.le_of_ble_eq_true rfl) ?_
    refine v_if_ne (tgt := 24) dX6_few_17 (by decide) hF (fun hF => ?_) (fun hF => ?_)
    · refine v_iconst dX6_few_24 (v := 0) (by decide) ?_
      refine v_istore_n dX6_few_25 rfl (Nat.le_of_ble_eq_true rfl) (L' := [(3, .int (0 : Int32)), (0, .ref m0), (1, .int a1), (2, .int a2)]) rfl ?_
      refine v_sub [1, 2, 3, 0] rfl (w_T_few_L26 hfr hlo ?_ N _ _ _ _ hF)
      intro v18 v19 M20 hF
      refine v_iconst dX6_few_55 (v := 0) (by decide) ?_
      refine v_istore_n dX6_few_56 rfl (Nat.le_of_ble_eq_true rfl) (L' := [(3, .int (0 : Int32)), (0, .ref m0), (1, .int v18), (2, .int v19)]) rfl ?_
      refine v_sub [1, 2, 3, 0] rfl (w_T_few_L57 hfr hlo ?_ N _ _ _ _ hF)
      intro v49 M50 hF
      refine v_lconst dX6_few_146 (v := 0) (by decide) ?_
      refine v_lstore_n dX6_few_147 rfl (Nat.le_of_ble_eq_true rfl) (L' := [(3, .long (0 : Int64)), (0, .ref m0), (1, .int v49)]) rfl ?_
      refine v_iconst dX6_few_148 (v := 0) (by decide) ?_
      refine v_istore dX6_few_149 (Nat.le_of_ble_eq_true rfl) (L' := [(5, .int (0 : Int32)), (3, .long (0 : Int64)), (0, .ref m0), (1, .int v49)]) rfl ?_
      refine v_sub [2, 3, 1, 0] rfl (w_T_few_L151 hfr hlo ?_ N _ _ _ _ hF)
      intro v59 M60 hF
      refine v_lload_n dX6_few_173 rfl 0 rfl ?_
      cases hF
      exact v_lret dX6_few_174 rfl rfl rfl
    · refine v_ldc2 dX6_few_20 q2298 ?_
      cases hF
      exact v_lret dX6_few_23 rfl rfl rfl
theorem ct_T_few {l : Launch} {G : GT} {m0 : Nat} {hb : Hp} {N : Nat} {r : (Int64 × TM)} {a1 : Int32} {a2 : Int32} {M : TM} (hF : T_few N a1 a2 M = some r) : Ct l G yX6_few (ws_ yX6_few cX6_few 6 (Option.some Jvm.ClassFile.FieldType.long)) 1 22 [.ref m0, .int a1, .int a2] (ovT m0 M hb) (some (.long r.1)) (ovT m0 r.2 hb) :=
  ct_of (by decide) (Nat.le_of_ble_eq_true rfl) (w_T_few (Nat.le_refl _) (Nat.le_refl _) hF)
theorem fl_X6_93 : FL RX6 93 [6] 45 := by
  intro ci h
  simp only [List.mem_cons, List.not_mem_nil, or_false] at h
  subst h; exact ⟨RX6, _, TX6, 56, rfl, in_X6, by decide, Or.inl q1679, Or.inl rfl⟩
def T_stopped (M : TM) : Option Int32 :=
  some (M.1 45)
theorem w_T_stopped {l : Launch} {G : GT} {fr lo : Nat} {h0 : Hp} {m0 : Nat} {hb : Hp} {M : TM} {r : Int32} (hfr : 0 ≤ fr) (hlo : 0 ≤ lo)  (hF : T_stopped M = some r) : V l G cX6_stopped RX6 "stopped" 1 (Option.some Jvm.ClassFile.FieldType.int) fr lo h0 (ovT m0 M hb) (QM G (some (.int r)) h0 (ovT m0 M hb)) 0 [(0, .ref m0)] [] (ovT m0 M hb) := by
  unfold T_stopped at hF
  refine v_aload_n dX6_stopped_0 rfl 0 rfl ?_
  refine t_geti 45 dX6_stopped_1 fl_X6_93 rfl ?_
  cases hF
  exact v_iret dX6_stopped_4 rfl rfl rfl rfl
theorem ct_T_stopped {l : Launch} {G : GT} {m0 : Nat} {hb : Hp} {M : TM} {r : Int32}  (hF : T_stopped M = some r) : Ct l G yX6_stopped (ws_ yX6_stopped cX6_stopped 1 (Option.some Jvm.ClassFile.FieldType.int)) 0 0 [.ref m0] (ovT m0 M hb) (some (.int r)) (ovT m0 M hb) :=
  ct_of (by decide) (Nat.le_of_ble_eq_true rfl) (w_T_stopped (Nat.le_refl _) (Nat.le_refl _) hF)
theorem fl_X6_34 : FL RX6 34 [6] 5 := by
  intro ci h
  simp only [List.mem_cons, List.not_mem_nil, or_false] at h
  subst h; exact ⟨RX6, _, TX6, 56, rfl, in_X6, by decide, Or.inl q1639, Or.inl rfl⟩
def T_laysAside_L2 (N : Nat) (x2 : TM → Option TM) : Nat → Int32 → Int32 → TM → Option TM
  | 0, _, _, _ => none
  | n7 + 1, v1, v2, M3 =>
    if (6 : Int32) ≤ v2 then
      x2 M3
    else
      (tra M3 2 5660 v2).bind fun v5 =>
      (twa M3 5 12 (((6 : Int32) * v1) + v2) v5).bind fun M6 =>
      (T_laysAside_L2 N x2 n7) v1 (v2 + (1 : Int32)) M6
theorem w_T_laysAside_L2 {l : Launch} {G : GT} {fr lo : Nat} {h0 : Hp} {m0 : Nat} {hb : Hp} {N : Nat} {r : TM} (hfr : 0 ≤ fr) (hlo : 0 ≤ lo) {x2 : TM → Option TM} (hx2 : ∀ (M4 : TM), x2 M4 = some r → V l G cX6_laysAside RX6 "laysAside" 3 (Option.none : Option Jvm.ClassFile.FieldType) fr lo h0 (ovT m0 r hb) (QM G none h0 (ovT m0 r hb)) 31 [] [] (ovT m0 M4 hb)) : ∀ (n : Nat) (v1 : Int32) (v2 : Int32) (M3 : TM), T_laysAside_L2 N x2 n v1 v2 M3 = some r → V l G cX6_laysAside RX6 "laysAside" 3 (Option.none : Option Jvm.ClassFile.FieldType) fr lo h0 (ovT m0 r hb) (QM G none h0 (ovT m0 r hb)) 2 [(0, .ref m0), (1, .int v1), (2, .int v2)] [] (ovT m0 M3 hb) := by
  intro n
  induction n with
  | zero =>
    intro v1 v2 M3 hF
    cases (show (none : Option TM) = some r from hF)
  | succ n hc2 =>
    intro v1 v2 M3 hF
    rw [T_laysAside_L2] at hF
    refine v_iload_n dX6_laysAside_2 rfl 2 rfl ?_
    refine v_bipush dX6_laysAside_3 (v := 6) (by decide) ?_
    refine v_icmp_ge (tgt := 31) dX6_laysAside_5 (by decide) hF (fun hF => ?_) (fun hF => ?_)
    · exact v_sub [] rfl (hx2 _ hF)
    · refine v_aload_n dX6_laysAside_8 rfl 0 rfl ?_
      refine t_geta 5 5 dX6_laysAside_9 fl_X6_34 (Nat.le_of_ble_eq_true rfl) (fun _ _ => rfl) ?_
      refine v_bipush dX6_laysAside_12 (v := 6) (by decide) ?_
      refine v_iload_n dX6_laysAside_14 rfl 1 rfl ?_
      refine v_imul dX6_laysAside_15 ?_
      refine v_iload_n dX6_laysAside_16 rfl 2 rfl ?_
      refine v_iadd dX6_laysAside_17 ?_
      refine v_aload_n dX6_laysAside_18 rfl 0 rfl ?_
      refine t_geta 2 2 dX6_laysAside_19 fl_X6_24 (Nat.le_of_ble_eq_true rfl) (fun _ _ => rfl) ?_
      refine v_iload_n dX6_laysAside_22 rfl 2 rfl ?_
      refine t_iald 2 dX6_laysAside_23 rfl (Nat.le_of_ble_eq_true rfl) (by decide) hF (fun v5 hF => ?_)
      refine t_iast 5 dX6_laysAside_24 rfl (Nat.le_of_ble_eq_true rfl) (by decide) hF (fun M6 hF => ?_)
      refine v_iinc dX6_laysAside_25 2 rfl (v := v2 + (1 : Int32)) (by rfl) (Nat.le_of_ble_eq_true rfl) (L' := [(2, .int (v2 + (1 : Int32))), (0, .ref m0), (1, .int v1)]) rfl ?_
      refine v_goto (tgt := 2) dX6_laysAside_28 (by decide) ?_
      exact v_sub [1, 2, 0] rfl (hc2 _ _ _ hF)
def T_laysAside (N : Nat) (a1 : Int32) (M : TM) : Option TM :=
  T_laysAside_L2 N (fun M8 =>
    some M8) N a1 (0 : Int32) M
theorem w_T_laysAside {l : Launch} {G : GT} {fr lo : Nat} {h0 : Hp} {m0 : Nat} {hb : Hp} {N : Nat} {r : TM} (hfr : 0 ≤ fr) (hlo : 0 ≤ lo) {a1 : Int32} {M : TM} (hF : T_laysAside N a1 M = some r) : V l G cX6_laysAside RX6 "laysAside" 3 (Option.none : Option Jvm.ClassFile.FieldType) fr lo h0 (ovT m0 r hb) (QM G none h0 (ovT m0 r hb)) 0 [(0, .ref m0), (1, .int a1)] [] (ovT m0 M hb) := by
  unfold T_laysAside at hF
  refine v_iconst dX6_laysAside_0 (v := 0) (by decide) ?_
  refine v_istore_n dX6_laysAside_1 rfl (Nat.le_of_ble_eq_true rfl) (L' := [(2, .int (0 : Int32)), (0, .ref m0), (1, .int a1)]) rfl ?_
  refine v_sub [1, 2, 0] rfl (w_T_laysAside_L2 hfr hlo ?_ N _ _ _ hF)
  intro M8 hF
  cases hF
  exact v_vret dX6_laysAside_31 rfl rfl rfl
theorem ct_T_laysAside {l : Launch} {G : GT} {m0 : Nat} {hb : Hp} {N : Nat} {r : TM} {a1 : Int32} {M : TM} (hF : T_laysAside N a1 M = some r) : Ct l G yX6_laysAside (ws_ yX6_laysAside cX6_laysAside 3 (Option.none : Option Jvm.ClassFile.FieldType)) 0 0 [.ref m0, .int a1] (ovT m0 M hb) none (ovT m0 r hb) :=
  ct_of (by decide) (Nat.le_of_ble_eq_true rfl) (w_T_laysAside (Nat.le_refl _) (Nat.le_refl _) hF)
