/-! printed by tools/gen.py -/
set_option maxRecDepth 100000
set_option linter.unusedVariables false
theorem fl_X0_65 : FL RX0 65 [0] 11 := by
  intro ci h
  simp only [List.mem_cons, List.not_mem_nil, or_false] at h
  subst h; exact ⟨RX0, _, TX0, 31, rfl, in_X0, by decide, Or.inl q365, Or.inl rfl⟩
def C_fault_b (h : Hp) (a0 : Nat) : Option Int32 :=
  (gi h a0 [0] 11).bind fun v21 =>
  some v21
theorem w_C_fault_b {l : Launch} {G : GT} {fr lo : Nat} {h0 : Hp} {h : Hp} {r : Int32} (hfr : 0 ≤ fr) (hlo : 0 ≤ lo) {a0 : Nat} (hF : C_fault_b h a0 = some r) : V l G cX0_fault RX0 "fault" 1 (Option.some Jvm.ClassFile.FieldType.int) fr lo h0 h (QM G (some (.int r)) h0 h) 0 [(0, .ref a0)] [] h := by
  unfold C_fault_b at hF
  refine v_aload_n dX0_fault_0 rfl 0 rfl ?_
  refine v_geti dX0_fault_1 fl_X0_65 hF (fun v21 hF => ?_)
  cases hF
  exact v_iret dX0_fault_4 rfl rfl rfl rfl
def C_fault (h : Hp) (a0 : Nat) : Option Int32 := (ob h a0 [0]).bind fun _ => C_fault_b h a0
theorem rc_C_fault {h : Hp}  {r : Int32} {a0 : Nat} (hF : C_fault h a0 = some r) : RC h a0 [0] := by
  obtain ⟨o, ho, -⟩ := Option.bind_eq_some_iff.mp hF
  exact ⟨o, ho⟩
theorem ct_C_fault {l : Launch} {G : GT} {h : Hp} {r : Int32} {a0 : Nat} (hF : C_fault h a0 = some r) : Ct l G yX0_fault (ws_ yX0_fault cX0_fault 1 (Option.some Jvm.ClassFile.FieldType.int)) 0 0 [.ref a0] h (some (.int r)) h :=
  ct_of (by decide) (Nat.le_of_ble_eq_true rfl) (w_C_fault_b (Nat.le_refl _) (Nat.le_refl _) (Option.bind_eq_some_iff.mp hF).choose_spec.2)
def C_isLaw_b (h : Hp) (a0 : Nat) (a1 : Int32) : Option Int32 :=
  if a1 = (-1 : Int32) then
    some (1 : Int32)
  else
    (gr h a0 [0] 0).bind fun v21 =>
    (gr h v21 [1] 0).bind fun v22 =>
    (J2_size h v22).bind fun v23 =>
    (C_in a1.toInt64 (0 : Int64) ((v23 - (1 : Int32)).toInt64)).bind fun v24 =>
    if v24 = 0 then
      some (0 : Int32)
    else
      some (1 : Int32)
theorem w_C_isLaw_b {l : Launch} {G : GT} {fr lo : Nat} {h0 : Hp} {h : Hp} {r : Int32} (hfr : 1 ≤ fr) (hlo : 25 ≤ lo) {a0 : Nat} {a1 : Int32} (hF : C_isLaw_b h a0 a1 = some r) : V l G cX0_isLaw RX0 "isLaw" 2 (Option.some Jvm.ClassFile.FieldType.boolean) fr lo h0 h (QM G (some (.int r)) h0 h) 0 [(0, .ref a0), (1, .int a1)] [] h := by
  unfold C_isLaw_b at hF
  refine v_iload_n dX0_isLaw_0 rfl 1 rfl ?_
  refine v_iconst dX0_isLaw_1 (v := -1) (by decide) ?_
  refine v_icmp_eq (tgt := 27) dX0_isLaw_2 (by decide) hF (fun hF => ?_) (fun hF => ?_)
  · refine v_iconst dX0_isLaw_27 (v := 1) (by decide) ?_
    refine v_goto (tgt := 32) dX0_isLaw_28 (by decide) ?_
    cases hF
    exact v_iret dX0_isLaw_32 rfl (by decide) rfl rfl
  · refine v_iload_n dX0_isLaw_5 rfl 1 rfl ?_
    refine v_i2l dX0_isLaw_6 ?_
    refine v_lconst dX0_isLaw_7 (v := 0) (by decide) ?_
    refine v_aload_n dX0_isLaw_8 rfl 0 rfl ?_
    refine v_getr dX0_isLaw_9 fl_X0_10 hF (fun v21 hF => ?_)
    refine v_getr dX0_isLaw_12 fl_X0_234 hF (fun v22 hF => ?_)
    obtain ⟨v23, e_v23, hF⟩ := Option.bind_eq_some_iff.mp hF
    refine v_calV1 dX0_isLaw_15 vl_X0_238 q751 (rc_J2_size e_v23) (ct_J2_size e_v23) rfl rfl (Nat.le_trans (Nat.le_of_ble_eq_true rfl) hfr) (Nat.le_trans (Nat.le_of_ble_eq_true rfl) hlo) (Nat.le_of_ble_eq_true rfl) ?_
    refine v_iconst dX0_isLaw_18 (v := 1) (by decide) ?_
    refine v_isub dX0_isLaw_19 ?_
    refine v_i2l dX0_isLaw_20 ?_
    obtain ⟨v24, e_v24, hF⟩ := Option.bind_eq_some_iff.mp hF
    refine v_calS1 dX0_isLaw_21 sl_X0_128 q468 (ct_C_in e_v24) rfl rfl (Nat.le_trans (Nat.le_of_ble_eq_true rfl) hfr) (Nat.le_trans (Nat.le_of_ble_eq_true rfl) hlo) (Nat.le_of_ble_eq_true rfl) ?_
    refine v_if_eq (tgt := 31) dX0_isLaw_24 (by decide) hF (fun hF => ?_) (fun hF => ?_)
    · refine v_iconst dX0_isLaw_31 (v := 0) (by decide) ?_
      cases hF
      exact v_iret dX0_isLaw_32 rfl (by decide) rfl rfl
    · refine v_iconst dX0_isLaw_27 (v := 1) (by decide) ?_
      refine v_goto (tgt := 32) dX0_isLaw_28 (by decide) ?_
      cases hF
      exact v_iret dX0_isLaw_32 rfl (by decide) rfl rfl
def C_isLaw (h : Hp) (a0 : Nat) (a1 : Int32) : Option Int32 := (ob h a0 [0]).bind fun _ => C_isLaw_b h a0 a1
theorem rc_C_isLaw {h : Hp}  {r : Int32} {a0 : Nat} {a1 : Int32} (hF : C_isLaw h a0 a1 = some r) : RC h a0 [0] := by
  obtain ⟨o, ho, -⟩ := Option.bind_eq_some_iff.mp hF
  exact ⟨o, ho⟩
theorem ct_C_isLaw {l : Launch} {G : GT} {h : Hp} {r : Int32} {a0 : Nat} {a1 : Int32} (hF : C_isLaw h a0 a1 = some r) : Ct l G yX0_isLaw (ws_ yX0_isLaw cX0_isLaw 2 (Option.some Jvm.ClassFile.FieldType.boolean)) 1 25 [.ref a0, .int a1] h (some (.int r)) h :=
  ct_of (by decide) (Nat.le_of_ble_eq_true rfl) (w_C_isLaw_b (Nat.le_refl _) (Nat.le_refl _) (Option.bind_eq_some_iff.mp hF).choose_spec.2)
theorem vl_X0_261 : ∀ ci ∈ [0], VL RX0 261 ci yX0_isLaw 1 := by
  intro ci h
  simp only [List.mem_cons, List.not_mem_nil, or_false] at h
  subst h; exact ⟨RX0, TX0, 31, rfl, q137, ⟨by decide, by decide⟩, by decide +kernel, q1292, Or.inl ⟨q1290, qs24⟩⟩
theorem pl_X0_264 : PL RX0 264 [1] 11 (.int) false := by
  intro ci h
  simp only [List.mem_cons, List.not_mem_nil, or_false] at h
  subst h; exact ⟨RX1, _, TX1, 12, tyX1, rfl, in_X1, by decide, Or.inr ⟨rfl, _, q271⟩, Or.inl rfl, tyX1_ok, rfl, by decide +kernel, rfl, fun z => by cases z⟩
def C_force_b (a0 : Nat) (a1 : Int32) (h : Hp) : Option (Int32 × Hp) :=
  (C_isLaw h a0 a1).bind fun v21 =>
  if v21 = 0 then
    bd2 (C_tell a0 (-2 : Int32) h) fun v29 h28 =>
    some (v29, h28)
  else
    (gr h a0 [0] 0).bind fun v22 =>
    (gi h v22 [1] 11).bind fun v23 =>
    (gr h a0 [0] 0).bind fun v24 =>
    (po h v24 [1] 11 (.int a1)).bind fun h25 =>
    bd2 (C_had a0 v23 h25) fun v27 h26 =>
    some (v27, h26)
theorem w_C_force_b {l : Launch} {G : GT} {fr lo : Nat} {h0 : Hp} {r : (Int32 × Hp)} (hfr : 2 ≤ fr) (hlo : 51 ≤ lo) {a0 : Nat} {a1 : Int32} {h : Hp} (hF : C_force_b a0 a1 h = some r) : V l G cX0_force RX0 "force" 3 (Option.some Jvm.ClassFile.FieldType.int) fr lo h0 r.2 (QM G (some (.int r.1)) h0 r.2) 0 [(0, .ref a0), (1, .int a1)] [] h := by
  unfold C_force_b at hF
  refine v_aload_n dX0_force_0 rfl 0 rfl ?_
  refine v_iload_n dX0_force_1 rfl 1 rfl ?_
  obtain ⟨v21, e_v21, hF⟩ := Option.bind_eq_some_iff.mp hF
  refine v_calV1 dX0_force_2 vl_X0_261 q1293 (rc_C_isLaw e_v21) (ct_C_isLaw e_v21) rfl rfl (Nat.le_trans (Nat.le_of_ble_eq_true rfl) hfr) (Nat.le_trans (Nat.le_of_ble_eq_true rfl) hlo) (Nat.le_of_ble_eq_true rfl) ?_
  refine v_if_ne (tgt := 15) dX0_force_5 (by decide) hF (fun hF => ?_) (fun hF => ?_)
  · refine v_aload_n dX0_force_15 rfl 0 rfl ?_
    refine v_getr dX0_force_16 fl_X0_10 hF (fun v22 hF => ?_)
    refine v_geti dX0_force_19 fl_X0_264 hF (fun v23 hF => ?_)
    refine v_istore_n dX0_force_22 rfl (Nat.le_of_ble_eq_true rfl) (L' := [(2, .int v23), (0, .ref a0), (1, .int a1)]) rfl ?_
    refine v_aload_n dX0_force_23 rfl 1 rfl ?_
    refine v_getr dX0_force_24 fl_X0_10 hF (fun v24 hF => ?_)
    refine v_iload_n dX0_force_27 rfl 2 rfl ?_
    refine v_put dX0_force_28 pl_X0_264 (fun z => by cases z) rfl rfl hF (fun h25 hF => ?_)
    refine v_aload_n dX0_force_31 rfl 1 rfl ?_
    refine v_iload_n dX0_force_32 rfl 0 rfl ?_
    obtain ⟨v27, h26, e_v27, hF⟩ := bd2_spec hF
    refine v_calV1 dX0_force_33 vl_X0_216 q654 (rc_C_had e_v27) (ct_C_had e_v27) rfl rfl (Nat.le_trans (Nat.le_of_ble_eq_true rfl) hfr) (Nat.le_trans (Nat.le_of_ble_eq_true rfl) hlo) (Nat.le_of_ble_eq_true rfl) ?_
    cases hF
    exact v_iret dX0_force_36 rfl rfl rfl rfl
  · refine v_aload_n dX0_force_8 rfl 0 rfl ?_
    refine v_bipush dX0_force_9 (v := -2) (by decide) ?_
    obtain ⟨v29, h28, e_v29, hF⟩ := bd2_spec hF
    refine v_calV1 dX0_force_11 vl_X0_112 q494 (rc_C_tell e_v29) (ct_C_tell e_v29) rfl rfl (Nat.le_trans (Nat.le_of_ble_eq_true rfl) hfr) (Nat.le_trans (Nat.le_of_ble_eq_true rfl) hlo) (Nat.le_of_ble_eq_true rfl) ?_
    cases hF
    exact v_iret dX0_force_14 rfl rfl rfl rfl
def C_force (a0 : Nat) (a1 : Int32) (h : Hp) : Option (Int32 × Hp) := (ob h a0 [0]).bind fun _ => C_force_b a0 a1 h
theorem rc_C_force  {r : (Int32 × Hp)} {a0 : Nat} {a1 : Int32} {h : Hp} (hF : C_force a0 a1 h = some r) : RC h a0 [0] := by
  obtain ⟨o, ho, -⟩ := Option.bind_eq_some_iff.mp hF
  exact ⟨o, ho⟩
theorem ct_C_force {l : Launch} {G : GT} {r : (Int32 × Hp)} {a0 : Nat} {a1 : Int32} {h : Hp} (hF : C_force a0 a1 h = some r) : Ct l G yX0_force (ws_ yX0_force cX0_force 3 (Option.some Jvm.ClassFile.FieldType.int)) 2 51 [.ref a0, .int a1] h (some (.int r.1)) r.2 :=
  ct_of (by decide) (Nat.le_of_ble_eq_true rfl) (w_C_force_b (Nat.le_refl _) (Nat.le_refl _) (Option.bind_eq_some_iff.mp hF).choose_spec.2)
def C_canRead_b (N : Nat) (a0 : Nat) (a1 : Int32) (h : Hp) : Option (Int32 × Hp) :=
  (C_books h a0).bind fun v21 =>
  (gi h v21 [2] 1).bind fun v22 =>
  (C_isOpen h a0 a1 v22).bind fun v23 =>
  if v23 = 0 then
    some ((0 : Int32), h)
  else
    bd2 (C_isBarred N a0 a1 h) fun v25 h24 =>
    if v25 = 0 then
      some ((1 : Int32), h24)
    else
      some ((0 : Int32), h24)
theorem w_C_canRead_b {l : Launch} {G : GT} {fr lo : Nat} {h0 : Hp} {N : Nat} {r : (Int32 × Hp)} (hfr : 199 ≤ fr) (hlo : 5026 ≤ lo) {a0 : Nat} {a1 : Int32} {h : Hp} (hF : C_canRead_b N a0 a1 h = some r) : V l G cX0_canRead RX0 "canRead" 2 (Option.some Jvm.ClassFile.FieldType.boolean) fr lo h0 r.2 (QM G (some (.int r.1)) h0 r.2) 0 [(0, .ref a0), (1, .int a1)] [] h := by
  unfold C_canRead_b at hF
  refine v_aload_n dX0_canRead_0 rfl 0 rfl ?_
  refine v_iload_n dX0_canRead_1 rfl 1 rfl ?_
  refine v_aload_n dX0_canRead_2 rfl 0 rfl ?_
  obtain ⟨v21, e_v21, hF⟩ := Option.bind_eq_some_iff.mp hF
  refine v_calV1 dX0_canRead_3 vl_X0_135 q486 (rc_C_books e_v21) (ct_C_books e_v21) rfl rfl (Nat.le_trans (Nat.le_of_ble_eq_true rfl) hfr) (Nat.le_trans (Nat.le_of_ble_eq_true rfl) hlo) (Nat.le_of_ble_eq_true rfl) ?_
  refine v_geti dX0_canRead_6 fl_X0_138 hF (fun v22 hF => ?_)
  obtain ⟨v23, e_v23, hF⟩ := Option.bind_eq_some_iff.mp hF
  refine v_calV1 dX0_canRead_9 vl_X0_179 q520 (rc_C_isOpen e_v23) (ct_C_isOpen e_v23) rfl rfl (Nat.le_trans (Nat.le_of_ble_eq_true rfl) hfr) (Nat.le_trans (Nat.le_of_ble_eq_true rfl) hlo) (Nat.le_of_ble_eq_true rfl) ?_
  refine v_if_eq (tgt := 27) dX0_canRead_12 (by decide) hF (fun hF => ?_) (fun hF => ?_)
  · refine v_iconst dX0_canRead_27 (v := 0) (by decide) ?_
    cases hF
    exact v_iret dX0_canRead_28 rfl (by decide) rfl rfl
  · refine v_aload_n dX0_canRead_15 rfl 0 rfl ?_
    refine v_iload_n dX0_canRead_16 rfl 1 rfl ?_
    obtain ⟨v25, h24, e_v25, hF⟩ := bd2_spec hF
    refine v_calV1 dX0_canRead_17 vl_X0_182 q524 (rc_C_isBarred e_v25) (ct_C_isBarred e_v25) rfl rfl (Nat.le_trans (Nat.le_of_ble_eq_true rfl) hfr) (Nat.le_trans (Nat.le_of_ble_eq_true rfl) hlo) (Nat.le_of_ble_eq_true rfl) ?_
    refine v_if_ne (tgt := 27) dX0_canRead_20 (by decide) hF (fun hF => ?_) (fun hF => ?_)
    · refine v_iconst dX0_canRead_27 (v := 0) (by decide) ?_
      cases hF
      exact v_iret dX0_canRead_28 rfl (by decide) rfl rfl
    · refine v_iconst dX0_canRead_23 (v := 1) (by decide) ?_
      refine v_goto (tgt := 28) dX0_canRead_24 (by decide) ?_
      cases hF
      exact v_iret dX0_canRead_28 rfl (by decide) rfl rfl
def C_canRead (N : Nat) (a0 : Nat) (a1 : Int32) (h : Hp) : Option (Int32 × Hp) := (ob h a0 [0]).bind fun _ => C_canRead_b N a0 a1 h
theorem rc_C_canRead {N : Nat}  {r : (Int32 × Hp)} {a0 : Nat} {a1 : Int32} {h : Hp} (hF : C_canRead N a0 a1 h = some r) : RC h a0 [0] := by
  obtain ⟨o, ho, -⟩ := Option.bind_eq_some_iff.mp hF
  exact ⟨o, ho⟩
theorem ct_C_canRead {l : Launch} {G : GT} {N : Nat} {r : (Int32 × Hp)} {a0 : Nat} {a1 : Int32} {h : Hp} (hF : C_canRead N a0 a1 h = some r) : Ct l G yX0_canRead (ws_ yX0_canRead cX0_canRead 2 (Option.some Jvm.ClassFile.FieldType.boolean)) 199 5026 [.ref a0, .int a1] h (some (.int r.1)) r.2 :=
  ct_of (by decide) (Nat.le_of_ble_eq_true rfl) (w_C_canRead_b (Nat.le_refl _) (Nat.le_refl _) (Option.bind_eq_some_iff.mp hF).choose_spec.2)
def C_isInTime_b (h : Hp) (a0 : Nat) (a1 : Int32) : Option Int32 :=
  (C_books h a0).bind fun v21 =>
  (gi h v21 [2] 2).bind fun v22 =>
  (gr h a0 [0] 0).bind fun v23 =>
  (gr h v23 [1] 1).bind fun v24 =>
  (aI h v24 0 a1).bind fun v25 =>
  (rz (if (999 : Int32) < (v22 + v25) then (0 : Int32) else (1 : Int32))).bind fun v26 => some v26
theorem w_C_isInTime_b {l : Launch} {G : GT} {fr lo : Nat} {h0 : Hp} {h : Hp} {r : Int32} (hfr : 1 ≤ fr) (hlo : 20 ≤ lo) {a0 : Nat} {a1 : Int32} (hF : C_isInTime_b h a0 a1 = some r) : V l G cX0_isInTime RX0 "isInTime" 2 (Option.some Jvm.ClassFile.FieldType.boolean) fr lo h0 h (QM G (some (.int r)) h0 h) 0 [(0, .ref a0), (1, .int a1)] [] h := by
  unfold C_isInTime_b at hF
  refine v_aload_n dX0_isInTime_0 rfl 0 rfl ?_
  obtain ⟨v21, e_v21, hF⟩ := Option.bind_eq_some_iff.mp hF
  refine v_calV1 dX0_isInTime_1 vl_X0_135 q486 (rc_C_books e_v21) (ct_C_books e_v21) rfl rfl (Nat.le_trans (Nat.le_of_ble_eq_true rfl) hfr) (Nat.le_trans (Nat.le_of_ble_eq_true rfl) hlo) (Nat.le_of_ble_eq_true rfl) ?_
  refine v_geti dX0_isInTime_4 fl_X0_204 hF (fun v22 hF => ?_)
  refine v_aload_n dX0_isInTime_7 rfl 0 rfl ?_
  refine v_getr dX0_isInTime_8 fl_X0_10 hF (fun v23 hF => ?_)
  refine v_getr dX0_isInTime_11 fl_X0_159 hF (fun v24 hF => ?_)
  refine v_iload_n dX0_isInTime_14 rfl 1 rfl ?_
  refine v_iald dX0_isInTime_15 hF (fun v25 hF => ?_)
  refine v_iadd dX0_isInTime_16 ?_
  refine v_sipush dX0_isInTime_17 (v := 999) (by decide) ?_
  refine v_tern (c := (999 : Int32) < (v22 + v25)) (x := (0 : Int32)) (y := (1 : Int32)) (pcj := 28) (st := []) ?_ (fun kt kf => v_icmp_gt0 (tgt := 27) dX0_isInTime_20 (by decide) kt kf) (fun K => ?_) (fun K => ?_)
  · refine v_zchk hF (fun v26 hz hF => ?_)
    cases hF
    exact v_iret dX0_isInTime_28 rfl (nar_z hz) rfl rfl
  · refine v_iconst dX0_isInTime_27 (v := 0) (by decide) ?_
    exact K
  · refine v_iconst dX0_isInTime_23 (v := 1) (by decide) ?_
    refine v_goto (tgt := 28) dX0_isInTime_24 (by decide) ?_
    exact K
def C_isInTime (h : Hp) (a0 : Nat) (a1 : Int32) : Option Int32 := (ob h a0 [0]).bind fun _ => C_isInTime_b h a0 a1
theorem rc_C_isInTime {h : Hp}  {r : Int32} {a0 : Nat} {a1 : Int32} (hF : C_isInTime h a0 a1 = some r) : RC h a0 [0] := by
  obtain ⟨o, ho, -⟩ := Option.bind_eq_some_iff.mp hF
  exact ⟨o, ho⟩
theorem ct_C_isInTime {l : Launch} {G : GT} {h : Hp} {r : Int32} {a0 : Nat} {a1 : Int32} (hF : C_isInTime h a0 a1 = some r) : Ct l G yX0_isInTime (ws_ yX0_isInTime cX0_isInTime 2 (Option.some Jvm.ClassFile.FieldType.boolean)) 1 20 [.ref a0, .int a1] h (some (.int r)) h :=
  ct_of (by decide) (Nat.le_of_ble_eq_true rfl) (w_C_isInTime_b (Nat.le_refl _) (Nat.le_refl _) (Option.bind_eq_some_iff.mp hF).choose_spec.2)
theorem fl_X0_76 : FL RX0 76 [0] 16 := by
  intro ci h
  simp only [List.mem_cons, List.not_mem_nil, or_false] at h
  subst h; exact ⟨RX0, _, TX0, 31, rfl, in_X0, by decide, Or.inl q373, Or.inl rfl⟩
def C_readIt_L4 (N : Nat) (x4 : Nat → Int32 → Int32 → Hp → Option (Int32 × Hp)) : Nat → Nat → Int32 → Int32 → Int32 → Hp → Option (Int32 × Hp)
  | 0, _, _, _, _, _ => none
  | n37 + 1, v21, v22, v23, v24, h25 =>
    (C_nLeeks h25 v21).bind fun v30 =>
    if v30 ≤ v24 then
      x4 v21 v22 v23 h25
    else
      (gr h25 v21 [0] 16).bind fun v31 =>
      bd2 (C_grows N v21 v24 v22 h25) fun v33 h32 =>
      (sI h32 v31 0 v24 v33).bind fun h34 =>
      (gr h34 v21 [0] 16).bind fun v35 =>
      (aI h34 v35 0 v24).bind fun v36 =>
      (C_readIt_L4 N x4 n37) v21 v22 (v23 + v36) (v24 + (1 : Int32)) h34
theorem w_C_readIt_L4 {l : Launch} {G : GT} {fr lo : Nat} {h0 : Hp} {N : Nat} {r : (Int32 × Hp)} (hfr : 199 ≤ fr) (hlo : 5031 ≤ lo) {x4 : Nat → Int32 → Int32 → Hp → Option (Int32 × Hp)} (hx4 : ∀ (v26 : Nat) (v27 : Int32) (v28 : Int32) (h29 : Hp), x4 v26 v27 v28 h29 = some r → V l G cX0_readIt RX0 "readIt" 4 (Option.some Jvm.ClassFile.FieldType.int) fr lo h0 r.2 (QM G (some (.int r.1)) h0 r.2) 39 [(0, .ref v26), (1, .int v27), (2, .int v28)] [] h29) : ∀ (n : Nat) (v21 : Nat) (v22 : Int32) (v23 : Int32) (v24 : Int32) (h25 : Hp), C_readIt_L4 N x4 n v21 v22 v23 v24 h25 = some r → V l G cX0_readIt RX0 "readIt" 4 (Option.some Jvm.ClassFile.FieldType.int) fr lo h0 r.2 (QM G (some (.int r.1)) h0 r.2) 4 [(0, .ref v21), (1, .int v22), (2, .int v23), (3, .int v24)] [] h25 := by
  intro n
  induction n with
  | zero =>
    intro v21 v22 v23 v24 h25 hF
    cases (show (none : Option (Int32 × Hp)) = some r from hF)
  | succ n hc4 =>
    intro v21 v22 v23 v24 h25 hF
    rw [C_readIt_L4] at hF
    refine v_iload_n dX0_readIt_4 rfl 3 rfl ?_
    refine v_aload_n dX0_readIt_5 rfl 0 rfl ?_
    obtain ⟨v30, e_v30, hF⟩ := Option.bind_eq_some_iff.mp hF
    refine v_calV1 dX0_readIt_6 vl_X0_132 q587 (rc_C_nLeeks e_v30) (ct_C_nLeeks e_v30) rfl rfl (Nat.le_trans (Nat.le_of_ble_eq_true rfl) hfr) (Nat.le_trans (Nat.le_of_ble_eq_true rfl) hlo) (Nat.le_of_ble_eq_true rfl) ?_
    refine v_icmp_ge (tgt := 39) dX0_readIt_9 (by decide) hF (fun hF => ?_) (fun hF => ?_)
    · exact v_sub [0, 1, 2] rfl (hx4 _ _ _ _ hF)
    · refine v_aload_n dX0_readIt_12 rfl 0 rfl ?_
      refine v_getr dX0_readIt_13 fl_X0_76 hF (fun v31 hF => ?_)
      refine v_iload_n dX0_readIt_16 rfl 3 rfl ?_
      refine v_aload_n dX0_readIt_17 rfl 0 rfl ?_
      refine v_iload_n dX0_readIt_18 rfl 3 rfl ?_
      refine v_iload_n dX0_readIt_19 rfl 1 rfl ?_
      obtain ⟨v33, h32, e_v33, hF⟩ := bd2_spec hF
      refine v_calV1 dX0_readIt_20 vl_X0_197 q637 (rc_C_grows e_v33) (ct_C_grows e_v33) rfl rfl (Nat.le_trans (Nat.le_of_ble_eq_true rfl) hfr) (Nat.le_trans (Nat.le_of_ble_eq_true rfl) hlo) (Nat.le_of_ble_eq_true rfl) ?_
      refine v_iast dX0_readIt_23 hF (fun h34 hF => ?_)
      refine v_iload_n dX0_readIt_24 rfl 2 rfl ?_
      refine v_aload_n dX0_readIt_25 rfl 0 rfl ?_
      refine v_getr dX0_readIt_26 fl_X0_76 hF (fun v35 hF => ?_)
      refine v_iload_n dX0_readIt_29 rfl 3 rfl ?_
      refine v_iald dX0_readIt_30 hF (fun v36 hF => ?_)
      refine v_iadd dX0_readIt_31 ?_
      refine v_istore_n dX0_readIt_32 rfl (Nat.le_of_ble_eq_true rfl) (L' := [(2, .int (v23 + v36)), (0, .ref v21), (1, .int v22), (3, .int v24)]) rfl ?_
      refine v_iinc dX0_readIt_33 3 rfl (v := v24 + (1 : Int32)) (by rfl) (Nat.le_of_ble_eq_true rfl) (L' := [(3, .int (v24 + (1 : Int32))), (2, .int (v23 + v36)), (0, .ref v21), (1, .int v22)]) rfl ?_
      refine v_goto (tgt := 4) dX0_readIt_36 (by decide) ?_
      exact v_sub [2, 3, 1, 0] rfl (hc4 _ _ _ _ _ hF)
def C_readIt_L41 (N : Nat) (x41 : Nat → Int32 → Int32 → Hp → Option (Int32 × Hp)) : Nat → Nat → Int32 → Int32 → Int32 → Hp → Option (Int32 × Hp)
  | 0, _, _, _, _, _ => none
  | n61 + 1, v42, v43, v44, v45, h46 =>
    (C_nLeeks h46 v42).bind fun v51 =>
    if v51 ≤ v45 then
      x41 v42 v43 v44 h46
    else
      (C_books h46 v42).bind fun v52 =>
      (gr h46 v52 [2] 0).bind fun v53 =>
      (C_books h46 v42).bind fun v54 =>
      (gr h46 v54 [2] 0).bind fun v55 =>
      (aI h46 v55 0 v45).bind fun v56 =>
      (gr h46 v42 [0] 16).bind fun v57 =>
      (aI h46 v57 0 v45).bind fun v58 =>
      (some (if (v56 + v58) < (999 : Int32) then (v56 + v58) else (999 : Int32))).bind fun (v59 : Int32) =>
      (sI h46 v53 0 v45 v59).bind fun h60 =>
      (C_readIt_L41 N x41 n61) v42 v43 v44 (v45 + (1 : Int32)) h60
theorem w_C_readIt_L41 {l : Launch} {G : GT} {fr lo : Nat} {h0 : Hp} {N : Nat} {r : (Int32 × Hp)} (hfr : 199 ≤ fr) (hlo : 5031 ≤ lo) {x41 : Nat → Int32 → Int32 → Hp → Option (Int32 × Hp)} (hx41 : ∀ (v47 : Nat) (v48 : Int32) (v49 : Int32) (h50 : Hp), x41 v47 v48 v49 h50 = some r → V l G cX0_readIt RX0 "readIt" 4 (Option.some Jvm.ClassFile.FieldType.int) fr lo h0 r.2 (QM G (some (.int r.1)) h0 r.2) 86 [(0, .ref v47), (1, .int v48), (2, .int v49)] [] h50) : ∀ (n : Nat) (v42 : Nat) (v43 : Int32) (v44 : Int32) (v45 : Int32) (h46 : Hp), C_readIt_L41 N x41 n v42 v43 v44 v45 h46 = some r → V l G cX0_readIt RX0 "readIt" 4 (Option.some Jvm.ClassFile.FieldType.int) fr lo h0 r.2 (QM G (some (.int r.1)) h0 r.2) 41 [(0, .ref v42), (1, .int v43), (2, .int v44), (3, .int v45)] [] h46 := by
  intro n
  induction n with
  | zero =>
    intro v42 v43 v44 v45 h46 hF
    cases (show (none : Option (Int32 × Hp)) = some r from hF)
  | succ n hc41 =>
    intro v42 v43 v44 v45 h46 hF
    rw [C_readIt_L41] at hF
    refine v_iload_n dX0_readIt_41 rfl 3 rfl ?_
    refine v_aload_n dX0_readIt_42 rfl 0 rfl ?_
    obtain ⟨v51, e_v51, hF⟩ := Option.bind_eq_some_iff.mp hF
    refine v_calV1 dX0_readIt_43 vl_X0_132 q587 (rc_C_nLeeks e_v51) (ct_C_nLeeks e_v51) rfl rfl (Nat.le_trans (Nat.le_of_ble_eq_true rfl) hfr) (Nat.le_trans (Nat.le_of_ble_eq_true rfl) hlo) (Nat.le_of_ble_eq_true rfl) ?_
    refine v_icmp_ge (tgt := 86) dX0_readIt_46 (by decide) hF (fun hF => ?_) (fun hF => ?_)
    · exact v_sub [0, 1, 2] rfl (hx41 _ _ _ _ hF)
    · refine v_aload_n dX0_readIt_49 rfl 0 rfl ?_
      obtain ⟨v52, e_v52, hF⟩ := Option.bind_eq_some_iff.mp hF
      refine v_calV1 dX0_readIt_50 vl_X0_135 q486 (rc_C_books e_v52) (ct_C_books e_v52) rfl rfl (Nat.le_trans (Nat.le_of_ble_eq_true rfl) hfr) (Nat.le_trans (Nat.le_of_ble_eq_true rfl) hlo) (Nat.le_of_ble_eq_true rfl) ?_
      refine v_getr dX0_readIt_53 fl_X0_188 hF (fun v53 hF => ?_)
      refine v_iload_n dX0_readIt_56 rfl 3 rfl ?_
      refine v_sipush dX0_readIt_57 (v := 999) (by decide) ?_
      refine v_aload_n dX0_readIt_60 rfl 0 rfl ?_
      obtain ⟨v54, e_v54, hF⟩ := Option.bind_eq_some_iff.mp hF
      refine v_calV1 dX0_readIt_61 vl_X0_135 q486 (rc_C_books e_v54) (ct_C_books e_v54) rfl rfl (Nat.le_trans (Nat.le_of_ble_eq_true rfl) hfr) (Nat.le_trans (Nat.le_of_ble_eq_true rfl) hlo) (Nat.le_of_ble_eq_true rfl) ?_
      refine v_getr dX0_readIt_64 fl_X0_188 hF (fun v55 hF => ?_)
      refine v_iload_n dX0_readIt_67 rfl 3 rfl ?_
      refine v_iald dX0_readIt_68 hF (fun v56 hF => ?_)
      refine v_aload_n dX0_readIt_69 rfl 0 rfl ?_
      refine v_getr dX0_readIt_70 fl_X0_76 hF (fun v57 hF => ?_)
      refine v_iload_n dX0_readIt_73 rfl 3 rfl ?_
      refine v_iald dX0_readIt_74 hF (fun v58 hF => ?_)
      refine v_iadd dX0_readIt_75 ?_
      refine v_mmin dX0_readIt_76 q495 (by omega) (by omega) (Nat.le_of_ble_eq_true rfl) ?_
      refine v_leti hF (fun v59 hF => ?_)
      refine v_iast dX0_readIt_79 hF (fun h60 hF => ?_)
      refine v_iinc dX0_readIt_80 3 rfl (v := v45 + (1 : Int32)) (by rfl) (Nat.le_of_ble_eq_true rfl) (L' := [(3, .int (v45 + (1 : Int32))), (0, .ref v42), (1, .int v43), (2, .int v44)]) rfl ?_
      refine v_goto (tgt := 41) dX0_readIt_83 (by decide) ?_
      exact v_sub [1, 2, 3, 0] rfl (hc41 _ _ _ _ _ hF)
def C_readIt_b (N : Nat) (a0 : Nat) (a1 : Int32) (h : Hp) : Option (Int32 × Hp) :=
  C_readIt_L4 N (fun v38 v39 v40 h41 =>
    C_readIt_L41 N (fun v62 v63 v64 h65 =>
      (C_books h65 v62).bind fun v66 =>
      (gi h65 v66 [2] 1).bind fun v67 =>
      (po h65 v66 [2] 1 (.int (v67 ||| ((1 : Int32) <<< (v63 &&& 31))))).bind fun h68 =>
      (C_books h68 v62).bind fun v69 =>
      (gi h68 v69 [2] 2).bind fun v70 =>
      (gr h68 v62 [0] 0).bind fun v71 =>
      (gr h68 v71 [1] 1).bind fun v72 =>
      (aI h68 v72 0 v63).bind fun v73 =>
      (po h68 v69 [2] 2 (.int (v70 + v73))).bind fun h74 =>
      some (v64, h74)) N v38 v39 v40 (0 : Int32) h41) N a0 a1 (0 : Int32) (0 : Int32) h
theorem w_C_readIt_b {l : Launch} {G : GT} {fr lo : Nat} {h0 : Hp} {N : Nat} {r : (Int32 × Hp)} (hfr : 199 ≤ fr) (hlo : 5031 ≤ lo) {a0 : Nat} {a1 : Int32} {h : Hp} (hF : C_readIt_b N a0 a1 h = some r) : V l G cX0_readIt RX0 "readIt" 4 (Option.some Jvm.ClassFile.FieldType.int) fr lo h0 r.2 (QM G (some (.int r.1)) h0 r.2) 0 [(0, .ref a0), (1, .int a1)] [] h := by
  unfold C_readIt_b at hF
  refine v_iconst dX0_readIt_0 (v := 0) (by decide) ?_
  refine v_istore_n dX0_readIt_1 rfl (Nat.le_of_ble_eq_true rfl) (L' := [(2, .int (0 : Int32)), (0, .ref a0), (1, .int a1)]) rfl ?_
  refine v_iconst dX0_readIt_2 (v := 0) (by decide) ?_
  refine v_istore_n dX0_readIt_3 rfl (Nat.le_of_ble_eq_true rfl) (L' := [(3, .int (0 : Int32)), (2, .int (0 : Int32)), (0, .ref a0), (1, .int a1)]) rfl ?_
  refine v_sub [2, 3, 1, 0] rfl (w_C_readIt_L4 hfr hlo ?_ N _ _ _ _ _ hF)
  intro v38 v39 v40 h41 hF
  refine v_iconst dX0_readIt_39 (v := 0) (by decide) ?_
  refine v_istore_n dX0_readIt_40 rfl (Nat.le_of_ble_eq_true rfl) (L' := [(3, .int (0 : Int32)), (0, .ref v38), (1, .int v39), (2, .int v40)]) rfl ?_
  refine v_sub [1, 2, 3, 0] rfl (w_C_readIt_L41 hfr hlo ?_ N _ _ _ _ _ hF)
  intro v62 v63 v64 h65 hF
  refine v_aload_n dX0_readIt_86 rfl 0 rfl ?_
  obtain ⟨v66, e_v66, hF⟩ := Option.bind_eq_some_iff.mp hF
  refine v_calV1 dX0_readIt_87 vl_X0_135 q486 (rc_C_books e_v66) (ct_C_books e_v66) rfl rfl (Nat.le_trans (Nat.le_of_ble_eq_true rfl) hfr) (Nat.le_trans (Nat.le_of_ble_eq_true rfl) hlo) (Nat.le_of_ble_eq_true rfl) ?_
  refine v_dup dX0_readIt_90 rfl ?_
  refine v_geti dX0_readIt_91 fl_X0_138 hF (fun v67 hF => ?_)
  refine v_iconst dX0_readIt_94 (v := 1) (by decide) ?_
  refine v_iload_n dX0_readIt_95 rfl 1 rfl ?_
  refine v_ishl dX0_readIt_96 ?_
  refine v_ior dX0_readIt_97 ?_
  refine v_put dX0_readIt_98 pl_X0_138 (fun z => by cases z) rfl rfl hF (fun h68 hF => ?_)
  refine v_aload_n dX0_readIt_101 rfl 0 rfl ?_
  obtain ⟨v69, e_v69, hF⟩ := Option.bind_eq_some_iff.mp hF
  refine v_calV1 dX0_readIt_102 vl_X0_135 q486 (rc_C_books e_v69) (ct_C_books e_v69) rfl rfl (Nat.le_trans (Nat.le_of_ble_eq_true rfl) hfr) (Nat.le_trans (Nat.le_of_ble_eq_true rfl) hlo) (Nat.le_of_ble_eq_true rfl) ?_
  refine v_dup dX0_readIt_105 rfl ?_
  refine v_geti dX0_readIt_106 fl_X0_204 hF (fun v70 hF => ?_)
  refine v_aload_n dX0_readIt_109 rfl 0 rfl ?_
  refine v_getr dX0_readIt_110 fl_X0_10 hF (fun v71 hF => ?_)
  refine v_getr dX0_readIt_113 fl_X0_159 hF (fun v72 hF => ?_)
  refine v_iload_n dX0_readIt_116 rfl 1 rfl ?_
  refine v_iald dX0_readIt_117 hF (fun v73 hF => ?_)
  refine v_iadd dX0_readIt_118 ?_
  refine v_put dX0_readIt_119 pl_X0_204 (fun z => by cases z) rfl rfl hF (fun h74 hF => ?_)
  refine v_iload_n dX0_readIt_122 rfl 2 rfl ?_
  cases hF
  exact v_iret dX0_readIt_123 rfl rfl rfl rfl
def C_readIt (N : Nat) (a0 : Nat) (a1 : Int32) (h : Hp) : Option (Int32 × Hp) := (ob h a0 [0]).bind fun _ => C_readIt_b N a0 a1 h
theorem rc_C_readIt {N : Nat}  {r : (Int32 × Hp)} {a0 : Nat} {a1 : Int32} {h : Hp} (hF : C_readIt N a0 a1 h = some r) : RC h a0 [0] := by
  obtain ⟨o, ho, -⟩ := Option.bind_eq_some_iff.mp hF
  exact ⟨o, ho⟩
theorem ct_C_readIt {l : Launch} {G : GT} {N : Nat} {r : (Int32 × Hp)} {a0 : Nat} {a1 : Int32} {h : Hp} (hF : C_readIt N a0 a1 h = some r) : Ct l G yX0_readIt (ws_ yX0_readIt cX0_readIt 4 (Option.some Jvm.ClassFile.FieldType.int)) 199 5031 [.ref a0, .int a1] h (some (.int r.1)) r.2 :=
  ct_of (by decide) (Nat.le_of_ble_eq_true rfl) (w_C_readIt_b (Nat.le_refl _) (Nat.le_refl _) (Option.bind_eq_some_iff.mp hF).choose_spec.2)
theorem ac_X2_15 : ACL RX2 15 := ⟨q1319, q735, q734, q157⟩
theorem pl_X2_21 : PL RX2 21 [2] 1 (.int) false := by
  intro ci h
  simp only [List.mem_cons, List.not_mem_nil, or_false] at h
  subst h; exact ⟨RX2, _, TX2, 4, tyX2, rfl, in_X2, by decide, Or.inl q229, Or.inl rfl, tyX2_ok, rfl, by decide +kernel, rfl, fun z => by cases z⟩
theorem pl_X2_25 : PL RX2 25 [2] 2 (.int) false := by
  intro ci h
  simp only [List.mem_cons, List.not_mem_nil, or_false] at h
  subst h; exact ⟨RX2, _, TX2, 4, tyX2, rfl, in_X2, by decide, Or.inl q233, Or.inl rfl, tyX2_ok, rfl, by decide +kernel, rfl, fun z => by cases z⟩
theorem pl_X2_28 : PL RX2 28 [2] 3 (.int) false := by
  intro ci h
  simp only [List.mem_cons, List.not_mem_nil, or_false] at h
  subst h; exact ⟨RX2, _, TX2, 4, tyX2, rfl, in_X2, by decide, Or.inl q235, Or.inl rfl, tyX2_ok, rfl, by decide +kernel, rfl, fun z => by cases z⟩
theorem fl_X2_28 : FL RX2 28 [2] 3 := by
  intro ci h
  simp only [List.mem_cons, List.not_mem_nil, or_false] at h
  subst h; exact ⟨RX2, _, TX2, 4, rfl, in_X2, by decide, Or.inl q235, Or.inl rfl⟩
theorem fl_X2_25 : FL RX2 25 [2] 2 := by
  intro ci h
  simp only [List.mem_cons, List.not_mem_nil, or_false] at h
  subst h; exact ⟨RX2, _, TX2, 4, rfl, in_X2, by decide, Or.inl q233, Or.inl rfl⟩
theorem fl_X2_21 : FL RX2 21 [2] 1 := by
  intro ci h
  simp only [List.mem_cons, List.not_mem_nil, or_false] at h
  subst h; exact ⟨RX2, _, TX2, 4, rfl, in_X2, by decide, Or.inl q229, Or.inl rfl⟩
theorem fl_X2_9 : FL RX2 9 [2] 0 := by
  intro ci h
  simp only [List.mem_cons, List.not_mem_nil, or_false] at h
  subst h; exact ⟨RX2, _, TX2, 4, rfl, in_X2, by decide, Or.inl q226, Or.inl rfl⟩
def X2_as_b (a0 : Nat) (a1 : Nat) (h : Hp) : Option (Nat × Hp) :=
  (gr h a1 [2] 0).bind fun v21 =>
  (gr h a0 [2] 0).bind fun v22 =>
  (cpI h 0 v21 (0 : Int32) v22 (0 : Int32) (4 : Int32)).bind fun h23 =>
  (gi h23 a1 [2] 1).bind fun v24 =>
  (po h23 a0 [2] 1 (.int v24)).bind fun h25 =>
  (gi h25 a1 [2] 2).bind fun v26 =>
  (po h25 a0 [2] 2 (.int v26)).bind fun h27 =>
  (gi h27 a1 [2] 3).bind fun v28 =>
  (po h27 a0 [2] 3 (.int v28)).bind fun h29 =>
  some (a0, h29)
theorem w_X2_as_b {l : Launch} {G : GT} {fr lo : Nat} {h0 : Hp} {r : (Nat × Hp)} (hfr : 1 ≤ fr) (hlo : 60 ≤ lo) {a0 : Nat} {a1 : Nat} {h : Hp} (hF : X2_as_b a0 a1 h = some r) : V l G cX2_as RX2 "as" 2 (Option.some (Jvm.ClassFile.FieldType.object "LeekReadings$Books")) fr lo h0 r.2 (QM G (some (.ref r.1)) h0 r.2) 0 [(0, .ref a0), (1, .ref a1)] [] h := by
  unfold X2_as_b at hF
  refine v_aload_n dX2_as_0 rfl 1 rfl ?_
  refine v_getr dX2_as_1 fl_X2_9 hF (fun v21 hF => ?_)
  refine v_iconst dX2_as_4 (v := 0) (by decide) ?_
  refine v_aload_n dX2_as_5 rfl 0 rfl ?_
  refine v_getr dX2_as_6 fl_X2_9 hF (fun v22 hF => ?_)
  refine v_iconst dX2_as_9 (v := 0) (by decide) ?_
  refine v_iconst dX2_as_10 (v := 4) (by decide) ?_
  refine v_cpI dX2_as_11 ac_X2_15 (k := 0) rfl (Or.inl ⟨rfl, rfl⟩) (by omega) (by have : lwAC ≤ 60 := Nat.le_of_ble_eq_true rfl; omega) (Nat.le_of_ble_eq_true rfl) hF (fun h23 hF => ?_)
  refine v_aload_n dX2_as_14 rfl 0 rfl ?_
  refine v_aload_n dX2_as_15 rfl 1 rfl ?_
  refine v_geti dX2_as_16 fl_X2_21 hF (fun v24 hF => ?_)
  refine v_put dX2_as_19 pl_X2_21 (fun z => by cases z) rfl rfl hF (fun h25 hF => ?_)
  refine v_aload_n dX2_as_22 rfl 0 rfl ?_
  refine v_aload_n dX2_as_23 rfl 1 rfl ?_
  refine v_geti dX2_as_24 fl_X2_25 hF (fun v26 hF => ?_)
  refine v_put dX2_as_27 pl_X2_25 (fun z => by cases z) rfl rfl hF (fun h27 hF => ?_)
  refine v_aload_n dX2_as_30 rfl 0 rfl ?_
  refine v_aload_n dX2_as_31 rfl 1 rfl ?_
  refine v_geti dX2_as_32 fl_X2_28 hF (fun v28 hF => ?_)
  refine v_put dX2_as_35 pl_X2_28 (fun z => by cases z) rfl rfl hF (fun h29 hF => ?_)
  refine v_aload_n dX2_as_38 rfl 0 rfl ?_
  cases hF
  exact v_aret (x := some _) dX2_as_39 rfl (Or.inl ⟨_, rfl⟩) rfl rfl
def X2_as (a0 : Nat) (a1 : Nat) (h : Hp) : Option (Nat × Hp) := (ob h a0 [2]).bind fun _ => X2_as_b a0 a1 h
theorem rc_X2_as  {r : (Nat × Hp)} {a0 : Nat} {a1 : Nat} {h : Hp} (hF : X2_as a0 a1 h = some r) : RC h a0 [2] := by
  obtain ⟨o, ho, -⟩ := Option.bind_eq_some_iff.mp hF
  exact ⟨o, ho⟩
theorem ct_X2_as {l : Launch} {G : GT} {r : (Nat × Hp)} {a0 : Nat} {a1 : Nat} {h : Hp} (hF : X2_as a0 a1 h = some r) : Ct l G yX2_as (ws_ yX2_as cX2_as 2 (Option.some (Jvm.ClassFile.FieldType.object "LeekReadings$Books"))) 1 60 [.ref a0, .ref a1] h (some (.ref r.1)) r.2 :=
  ct_of (by decide) (Nat.le_of_ble_eq_true rfl) (w_X2_as_b (Nat.le_refl _) (Nat.le_refl _) (Option.bind_eq_some_iff.mp hF).choose_spec.2)
theorem vl_X3_28 : ∀ ci ∈ [2], VL RX3 28 ci yX2_as 1 := by
  intro ci h
  simp only [List.mem_cons, List.not_mem_nil, or_false] at h
  subst h; exact ⟨RX2, TX2, 4, rfl, q142, ⟨by decide, by decide⟩, by decide +kernel, q1316, Or.inl ⟨q1315, q1317⟩⟩
theorem pl_X3_32 : PL RX3 32 [2] 3 (.int) false := by
  intro ci h
  simp only [List.mem_cons, List.not_mem_nil, or_false] at h
  subst h; exact ⟨RX2, _, TX2, 4, tyX2, rfl, in_X2, by decide, Or.inr ⟨rfl, _, q236⟩, Or.inl rfl, tyX2_ok, rfl, by decide +kernel, rfl, fun z => by cases z⟩
theorem pl_X3_18 : PL RX3 18 [3] 1 (.int) false := by
  intro ci h
  simp only [List.mem_cons, List.not_mem_nil, or_false] at h
  subst h; exact ⟨RX3, _, TX3, 2, tyX3, rfl, in_X3, by decide, Or.inl q309, Or.inl rfl, tyX3_ok, rfl, by decide +kernel, rfl, fun z => by cases z⟩
theorem fl_X3_18 : FL RX3 18 [3] 1 := by
  intro ci h
  simp only [List.mem_cons, List.not_mem_nil, or_false] at h
  subst h; exact ⟨RX3, _, TX3, 2, rfl, in_X3, by decide, Or.inl q309, Or.inl rfl⟩
theorem ac_X3_22 : ACL RX3 22 := ⟨q1314, q735, q734, q157⟩
theorem kla_6 : KL "LeekReadings$Books" [2] := by
  intro ci h
  simp only [List.mem_cons, List.not_mem_nil, or_false] at h
  subst h; exact ⟨(RX2, TX2, 4), rfl, Or.inl rfl⟩
def X3_append_J49 (v22 : Nat) (v23 : Nat) (v24 : Int32) (h25 : Hp) : Option Hp :=
  (gr h25 v22 [3] 0).bind fun v26 =>
  (gi h25 v22 [3] 1).bind fun v27 =>
  (aR h25 v26 6 v27).bind fun v28 =>
  bd2 (X2_as v28 v23 h25) fun v30 h29 =>
  (po h29 v30 [2] 3 (.int v24)).bind fun h31 =>
  (gi h31 v22 [3] 1).bind fun v32 =>
  (po h31 v22 [3] 1 (.int (v32 + (1 : Int32)))).bind fun h33 =>
  some h33
theorem w_X3_append_J49 {l : Launch} {G : GT} {fr lo : Nat} {h0 : Hp} {r : Hp} (hfr : 2 ≤ fr) (hlo : 81 ≤ lo)   {v22 : Nat} {v23 : Nat} {v24 : Int32} {h25 : Hp} (hF : X3_append_J49 v22 v23 v24 h25 = some r) : V l G cX3_append RX3 "append" 4 (Option.none : Option Jvm.ClassFile.FieldType) fr lo h0 r (QM G none h0 r) 49 [(0, .ref v22), (1, .ref v23), (2, .int v24)] [] h25 := by
  unfold X3_append_J49 at hF
  refine v_aload_n dX3_append_49 rfl 0 rfl ?_
  refine v_getr dX3_append_50 fl_X3_11 hF (fun v26 hF => ?_)
  refine v_aload_n dX3_append_53 rfl 0 rfl ?_
  refine v_geti dX3_append_54 fl_X3_18 hF (fun v27 hF => ?_)
  refine v_aaldr rfl rfl dX3_append_57 hF (fun v28 hF => ?_)
  refine v_aload_n dX3_append_58 rfl 1 rfl ?_
  obtain ⟨v30, h29, e_v30, hF⟩ := bd2_spec hF
  refine v_calV1 dX3_append_59 vl_X3_28 q1318 (rc_X2_as e_v30) (ct_X2_as e_v30) rfl rfl (Nat.le_trans (Nat.le_of_ble_eq_true rfl) hfr) (Nat.le_trans (Nat.le_of_ble_eq_true rfl) hlo) (Nat.le_of_ble_eq_true rfl) ?_
  refine v_iload_n dX3_append_62 rfl 2 rfl ?_
  refine v_put dX3_append_63 pl_X3_32 (fun z => by cases z) rfl rfl hF (fun h31 hF => ?_)
  refine v_aload_n dX3_append_66 rfl 0 rfl ?_
  refine v_dup dX3_append_67 rfl ?_
  refine v_geti dX3_append_68 fl_X3_18 hF (fun v32 hF => ?_)
  refine v_iconst dX3_append_71 (v := 1) (by decide) ?_
  refine v_iadd dX3_append_72 ?_
  refine v_put dX3_append_73 pl_X3_18 (fun z => by cases z) rfl rfl hF (fun h33 hF => ?_)
  cases hF
  exact v_vret dX3_append_76 rfl rfl rfl
def X3_append_b (a0 : Nat) (a1 : Nat) (a2 : Int32) (h : Hp) : Option Hp :=
  (gi h a0 [3] 1).bind fun v21 =>
  if v21 = (16 : Int32) then
    (gr h a0 [3] 0).bind fun v34 =>
    (aR h v34 6 (0 : Int32)).bind fun v35 =>
    (gr h a0 [3] 0).bind fun v36 =>
    (gr h a0 [3] 0).bind fun v37 =>
    (cpQ h 6 [2] v36 (1 : Int32) v37 (0 : Int32) (15 : Int32)).bind fun h38 =>
    (gr h38 a0 [3] 0).bind fun v39 =>
    (sR h38 v39 6 [2] (15 : Int32) v35).bind fun h40 =>
    (gi h40 a0 [3] 1).bind fun v41 =>
    (po h40 a0 [3] 1 (.int (v41 - (1 : Int32)))).bind fun h42 =>
    X3_append_J49 a0 a1 a2 h42
  else
    X3_append_J49 a0 a1 a2 h
theorem w_X3_append_b {l : Launch} {G : GT} {fr lo : Nat} {h0 : Hp} {r : Hp} (hfr : 2 ≤ fr) (hlo : 81 ≤ lo) {a0 : Nat} {a1 : Nat} {a2 : Int32} {h : Hp} (hF : X3_append_b a0 a1 a2 h = some r) : V l G cX3_append RX3 "append" 4 (Option.none : Option Jvm.ClassFile.FieldType) fr lo h0 r (QM G none h0 r) 0 [(0, .ref a0), (1, .ref a1), (2, .int a2)] [] h := by
  unfold X3_append_b at hF
  refine v_aload_n dX3_append_0 rfl 0 rfl ?_
  refine v_geti dX3_append_1 fl_X3_18 hF (fun v21 hF => ?_)
  refine v_bipush dX3_append_4 (v := 16) (by decide) ?_
  refine v_icmp_ne (tgt := 49) dX3_append_6 (by decide) hF (fun hF => ?_) (fun hF => ?_)
  · exact v_sub [0, 1, 2] rfl (w_X3_append_J49 hfr hlo hF)
  · refine v_aload_n dX3_append_9 rfl 0 rfl ?_
    refine v_getr dX3_append_10 fl_X3_11 hF (fun v34 hF => ?_)
    refine v_iconst dX3_append_13 (v := 0) (by decide) ?_
    refine v_aaldr rfl rfl dX3_append_14 hF (fun v35 hF => ?_)
    refine v_astore_n dX3_append_15 rfl (Nat.le_of_ble_eq_true rfl) (L' := [(3, .ref v35), (0, .ref a0), (1, .ref a1), (2, .int a2)]) rfl ?_
    refine v_aload_n dX3_append_16 rfl 1 rfl ?_
    refine v_getr dX3_append_17 fl_X3_11 hF (fun v36 hF => ?_)
    refine v_iconst dX3_append_20 (v := 1) (by decide) ?_
    refine v_aload_n dX3_append_21 rfl 1 rfl ?_
    refine v_getr dX3_append_22 fl_X3_11 hF (fun v37 hF => ?_)
    refine v_iconst dX3_append_25 (v := 0) (by decide) ?_
    refine v_bipush dX3_append_26 (v := 15) (by decide) ?_
    refine v_cpQ dX3_append_28 ac_X3_22 (k := 6) rfl kla_6 (by omega) (by have : lwAC ≤ 60 := Nat.le_of_ble_eq_true rfl; omega) (Nat.le_of_ble_eq_true rfl) hF (fun h38 hF => ?_)
    refine v_aload_n dX3_append_31 rfl 1 rfl ?_
    refine v_getr dX3_append_32 fl_X3_11 hF (fun v39 hF => ?_)
    refine v_bipush dX3_append_35 (v := 15) (by decide) ?_
    refine v_aload_n dX3_append_37 rfl 0 rfl ?_
    refine v_aast rfl al_6 dX3_append_38 hF (fun h40 hF => ?_)
    refine v_aload_n dX3_append_39 rfl 1 rfl ?_
    refine v_dup dX3_append_40 rfl ?_
    refine v_geti dX3_append_41 fl_X3_18 hF (fun v41 hF => ?_)
    refine v_iconst dX3_append_44 (v := 1) (by decide) ?_
    refine v_isub dX3_append_45 ?_
    refine v_put dX3_append_46 pl_X3_18 (fun z => by cases z) rfl rfl hF (fun h42 hF => ?_)
    exact v_sub [1, 2, 3] rfl (w_X3_append_J49 hfr hlo hF)
def X3_append (a0 : Nat) (a1 : Nat) (a2 : Int32) (h : Hp) : Option Hp := (ob h a0 [3]).bind fun _ => X3_append_b a0 a1 a2 h
theorem rc_X3_append  {r : Hp} {a0 : Nat} {a1 : Nat} {a2 : Int32} {h : Hp} (hF : X3_append a0 a1 a2 h = some r) : RC h a0 [3] := by
  obtain ⟨o, ho, -⟩ := Option.bind_eq_some_iff.mp hF
  exact ⟨o, ho⟩
theorem ct_X3_append {l : Launch} {G : GT} {r : Hp} {a0 : Nat} {a1 : Nat} {a2 : Int32} {h : Hp} (hF : X3_append a0 a1 a2 h = some r) : Ct l G yX3_append (ws_ yX3_append cX3_append 4 (Option.none : Option Jvm.ClassFile.FieldType)) 2 81 [.ref a0, .ref a1, .int a2] h none r :=
  ct_of (by decide) (Nat.le_of_ble_eq_true rfl) (w_X3_append_b (Nat.le_refl _) (Nat.le_refl _) (Option.bind_eq_some_iff.mp hF).choose_spec.2)
theorem vl_X0_296 : ∀ ci ∈ [0], VL RX0 296 ci yX0_canRead 1 := by
  intro ci h
  simp only [List.mem_cons, List.not_mem_nil, or_false] at h
  subst h; exact ⟨RX0, TX0, 31, rfl, q137, ⟨by decide, by decide⟩, by decide +kernel, q1304, Or.inl ⟨q1302, qs26⟩⟩
theorem vl_X0_299 : ∀ ci ∈ [0], VL RX0 299 ci yX0_isInTime 1 := by
  intro ci h
  simp only [List.mem_cons, List.not_mem_nil, or_false] at h
  subst h; exact ⟨RX0, TX0, 31, rfl, q137, ⟨by decide, by decide⟩, by decide +kernel, q1308, Or.inl ⟨q1306, qs27⟩⟩
theorem vl_X0_302 : ∀ ci ∈ [3], VL RX0 302 ci yX3_append 2 := by
  intro ci h
  simp only [List.mem_cons, List.not_mem_nil, or_false] at h
  subst h; exact ⟨RX3, TX3, 2, rfl, q143, ⟨by decide, by decide⟩, by decide +kernel, q1311, Or.inl ⟨q1310, q1312⟩⟩
theorem vl_X0_306 : ∀ ci ∈ [0], VL RX0 306 ci yX0_readIt 1 := by
  intro ci h
  simp only [List.mem_cons, List.not_mem_nil, or_false] at h
  subst h; exact ⟨RX0, TX0, 31, rfl, q137, ⟨by decide, by decide⟩, by decide +kernel, q1322, Or.inl ⟨q1320, qs28⟩⟩
def C_readNow_b (N : Nat) (a0 : Nat) (a1 : Int32) (h : Hp) : Option (Int32 × Hp) :=
  (C_isBook h a0 a1).bind fun v21 =>
  if v21 = 0 then
    some ((-2 : Int32), h)
  else
    bd2 (C_canRead N a0 a1 h) fun v23 h22 =>
    if v23 = 0 then
      some ((-3 : Int32), h22)
    else
      (C_isInTime h22 a0 a1).bind fun v24 =>
      if v24 = 0 then
        some ((-3 : Int32), h22)
      else
        (gr h22 a0 [0] 2).bind fun v25 =>
        (C_books h22 a0).bind fun v26 =>
        (X3_append v25 v26 (0 : Int32) h22).bind fun h27 =>
        bd2 (C_readIt N a0 a1 h27) fun v29 h28 =>
        some (v29, h28)
theorem w_C_readNow_b {l : Launch} {G : GT} {fr lo : Nat} {h0 : Hp} {N : Nat} {r : (Int32 × Hp)} (hfr : 200 ≤ fr) (hlo : 5054 ≤ lo) {a0 : Nat} {a1 : Int32} {h : Hp} (hF : C_readNow_b N a0 a1 h = some r) : V l G cX0_readNow RX0 "readNow" 2 (Option.some Jvm.ClassFile.FieldType.int) fr lo h0 r.2 (QM G (some (.int r.1)) h0 r.2) 0 [(0, .ref a0), (1, .int a1)] [] h := by
  unfold C_readNow_b at hF
  refine v_aload_n dX0_readNow_0 rfl 0 rfl ?_
  refine v_iload_n dX0_readNow_1 rfl 1 rfl ?_
  obtain ⟨v21, e_v21, hF⟩ := Option.bind_eq_some_iff.mp hF
  refine v_calV1 dX0_readNow_2 vl_X0_172 q505 (rc_C_isBook e_v21) (ct_C_isBook e_v21) rfl rfl (Nat.le_trans (Nat.le_of_ble_eq_true rfl) hfr) (Nat.le_trans (Nat.le_of_ble_eq_true rfl) hlo) (Nat.le_of_ble_eq_true rfl) ?_
  refine v_if_ne (tgt := 11) dX0_readNow_5 (by decide) hF (fun hF => ?_) (fun hF => ?_)
  · refine v_aload_n dX0_readNow_11 rfl 0 rfl ?_
    refine v_iload_n dX0_readNow_12 rfl 1 rfl ?_
    obtain ⟨v23, h22, e_v23, hF⟩ := bd2_spec hF
    refine v_calV1 dX0_readNow_13 vl_X0_296 q1305 (rc_C_canRead e_v23) (ct_C_canRead e_v23) rfl rfl (Nat.le_trans (Nat.le_of_ble_eq_true rfl) hfr) (Nat.le_trans (Nat.le_of_ble_eq_true rfl) hlo) (Nat.le_of_ble_eq_true rfl) ?_
    refine v_if_eq (tgt := 27) dX0_readNow_16 (by decide) hF (fun hF => ?_) (fun hF => ?_)
    · refine v_bipush dX0_readNow_27 (v := -3) (by decide) ?_
      cases hF
      exact v_iret dX0_readNow_29 rfl rfl rfl rfl
    · refine v_aload_n dX0_readNow_19 rfl 0 rfl ?_
      refine v_iload_n dX0_readNow_20 rfl 1 rfl ?_
      obtain ⟨v24, e_v24, hF⟩ := Option.bind_eq_some_iff.mp hF
      refine v_calV1 dX0_readNow_21 vl_X0_299 q1309 (rc_C_isInTime e_v24) (ct_C_isInTime e_v24) rfl rfl (Nat.le_trans (Nat.le_of_ble_eq_true rfl) hfr) (Nat.le_trans (Nat.le_of_ble_eq_true rfl) hlo) (Nat.le_of_ble_eq_true rfl) ?_
      refine v_if_ne (tgt := 30) dX0_readNow_24 (by decide) hF (fun hF => ?_) (fun hF => ?_)
      · refine v_aload_n dX0_readNow_30 rfl 0 rfl ?_
        refine v_getr dX0_readNow_31 fl_X0_23 hF (fun v25 hF => ?_)
        refine v_aload_n dX0_readNow_34 rfl 0 rfl ?_
        obtain ⟨v26, e_v26, hF⟩ := Option.bind_eq_some_iff.mp hF
        refine v_calV1 dX0_readNow_35 vl_X0_135 q486 (rc_C_books e_v26) (ct_C_books e_v26) rfl rfl (Nat.le_trans (Nat.le_of_ble_eq_true rfl) hfr) (Nat.le_trans (Nat.le_of_ble_eq_true rfl) hlo) (Nat.le_of_ble_eq_true rfl) ?_
        refine v_iconst dX0_readNow_38 (v := 0) (by decide) ?_
        obtain ⟨h27, e_h27, hF⟩ := Option.bind_eq_some_iff.mp hF
        refine v_calV0 dX0_readNow_39 vl_X0_302 q1313 (rc_X3_append e_h27) (ct_X3_append e_h27) rfl rfl (Nat.le_trans (Nat.le_of_ble_eq_true rfl) hfr) (Nat.le_trans (Nat.le_of_ble_eq_true rfl) hlo) (Nat.le_of_ble_eq_true rfl) ?_
        refine v_aload_n dX0_readNow_42 rfl 0 rfl ?_
        refine v_iload_n dX0_readNow_43 rfl 1 rfl ?_
        obtain ⟨v29, h28, e_v29, hF⟩ := bd2_spec hF
        refine v_calV1 dX0_readNow_44 vl_X0_306 q1323 (rc_C_readIt e_v29) (ct_C_readIt e_v29) rfl rfl (Nat.le_trans (Nat.le_of_ble_eq_true rfl) hfr) (Nat.le_trans (Nat.le_of_ble_eq_true rfl) hlo) (Nat.le_of_ble_eq_true rfl) ?_
        cases hF
        exact v_iret dX0_readNow_47 rfl rfl rfl rfl
      · refine v_bipush dX0_readNow_27 (v := -3) (by decide) ?_
        cases hF
        exact v_iret dX0_readNow_29 rfl rfl rfl rfl
  · refine v_bipush dX0_readNow_8 (v := -2) (by decide) ?_
    cases hF
    exact v_iret dX0_readNow_10 rfl rfl rfl rfl
def C_readNow (N : Nat) (a0 : Nat) (a1 : Int32) (h : Hp) : Option (Int32 × Hp) := (ob h a0 [0]).bind fun _ => C_readNow_b N a0 a1 h
theorem rc_C_readNow {N : Nat}  {r : (Int32 × Hp)} {a0 : Nat} {a1 : Int32} {h : Hp} (hF : C_readNow N a0 a1 h = some r) : RC h a0 [0] := by
  obtain ⟨o, ho, -⟩ := Option.bind_eq_some_iff.mp hF
  exact ⟨o, ho⟩
theorem ct_C_readNow {l : Launch} {G : GT} {N : Nat} {r : (Int32 × Hp)} {a0 : Nat} {a1 : Int32} {h : Hp} (hF : C_readNow N a0 a1 h = some r) : Ct l G yX0_readNow (ws_ yX0_readNow cX0_readNow 2 (Option.some Jvm.ClassFile.FieldType.int)) 200 5054 [.ref a0, .int a1] h (some (.int r.1)) r.2 :=
  ct_of (by decide) (Nat.le_of_ble_eq_true rfl) (w_C_readNow_b (Nat.le_refl _) (Nat.le_refl _) (Option.bind_eq_some_iff.mp hF).choose_spec.2)
theorem vl_X0_309 : ∀ ci ∈ [0], VL RX0 309 ci yX0_readNow 1 := by
  intro ci h
  simp only [List.mem_cons, List.not_mem_nil, or_false] at h
  subst h; exact ⟨RX0, TX0, 31, rfl, q137, ⟨by decide, by decide⟩, by decide +kernel, q1300, Or.inl ⟨q1298, qs25⟩⟩
def C_read_b (N : Nat) (a0 : Nat) (a1 : Int32) (h : Hp) : Option (Int32 × Hp) :=
  bd2 (C_readNow N a0 a1 h) fun v22 h21 =>
  bd2 (C_tell a0 v22 h21) fun v24 h23 =>
  some (v24, h23)
theorem w_C_read_b {l : Launch} {G : GT} {fr lo : Nat} {h0 : Hp} {N : Nat} {r : (Int32 × Hp)} (hfr : 201 ≤ fr) (hlo : 5075 ≤ lo) {a0 : Nat} {a1 : Int32} {h : Hp} (hF : C_read_b N a0 a1 h = some r) : V l G cX0_read RX0 "read" 2 (Option.some Jvm.ClassFile.FieldType.int) fr lo h0 r.2 (QM G (some (.int r.1)) h0 r.2) 0 [(0, .ref a0), (1, .int a1)] [] h := by
  unfold C_read_b at hF
  refine v_aload_n dX0_read_0 rfl 0 rfl ?_
  refine v_aload_n dX0_read_1 rfl 0 rfl ?_
  refine v_iload_n dX0_read_2 rfl 1 rfl ?_
  obtain ⟨v22, h21, e_v22, hF⟩ := bd2_spec hF
  refine v_calV1 dX0_read_3 vl_X0_309 q1301 (rc_C_readNow e_v22) (ct_C_readNow e_v22) rfl rfl (Nat.le_trans (Nat.le_of_ble_eq_true rfl) hfr) (Nat.le_trans (Nat.le_of_ble_eq_true rfl) hlo) (Nat.le_of_ble_eq_true rfl) ?_
  obtain ⟨v24, h23, e_v24, hF⟩ := bd2_spec hF
  refine v_calV1 dX0_read_6 vl_X0_112 q494 (rc_C_tell e_v24) (ct_C_tell e_v24) rfl rfl (Nat.le_trans (Nat.le_of_ble_eq_true rfl) hfr) (Nat.le_trans (Nat.le_of_ble_eq_true rfl) hlo) (Nat.le_of_ble_eq_true rfl) ?_
  cases hF
  exact v_iret dX0_read_9 rfl rfl rfl rfl
def C_read (N : Nat) (a0 : Nat) (a1 : Int32) (h : Hp) : Option (Int32 × Hp) := (ob h a0 [0]).bind fun _ => C_read_b N a0 a1 h
theorem rc_C_read {N : Nat}  {r : (Int32 × Hp)} {a0 : Nat} {a1 : Int32} {h : Hp} (hF : C_read N a0 a1 h = some r) : RC h a0 [0] := by
  obtain ⟨o, ho, -⟩ := Option.bind_eq_some_iff.mp hF
  exact ⟨o, ho⟩
theorem ct_C_read {l : Launch} {G : GT} {N : Nat} {r : (Int32 × Hp)} {a0 : Nat} {a1 : Int32} {h : Hp} (hF : C_read N a0 a1 h = some r) : Ct l G yX0_read (ws_ yX0_read cX0_read 2 (Option.some Jvm.ClassFile.FieldType.int)) 201 5075 [.ref a0, .int a1] h (some (.int r.1)) r.2 :=
  ct_of (by decide) (Nat.le_of_ble_eq_true rfl) (w_C_read_b (Nat.le_refl _) (Nat.le_refl _) (Option.bind_eq_some_iff.mp hF).choose_spec.2)
def C_canLose_J46 (N : Nat) (h : Hp) (c8 : Nat → Int32 → Int32 → Int32 → Option Int32) (v33 : Nat) (v34 : Int32) (v35 : Int32) (v36 : Int32) (v37 : Int32) : Option Int32 :=
  c8 v33 v34 (v37 &&& v36) (v35 + (1 : Int32))
theorem w_C_canLose_J46 {l : Launch} {G : GT} {fr lo : Nat} {h0 : Hp} {N : Nat} {h : Hp} {r : Int32} (hfr : 2 ≤ fr) (hlo : 42 ≤ lo) {c8 : Nat → Int32 → Int32 → Int32 → Option Int32} (hc8 : ∀ (v22 : Nat) (v23 : Int32) (v24 : Int32) (v25 : Int32), c8 v22 v23 v24 v25 = some r → V l G cX0_canLose RX0 "canLose" 4 (Option.some Jvm.ClassFile.FieldType.boolean) fr lo h0 h (QM G (some (.int r)) h0 h) 8 [(0, .ref v22), (1, .int v23), (2, .int v24), (3, .int v25)] [] h) {v33 : Nat} {v34 : Int32} {v35 : Int32} {v36 : Int32} {v37 : Int32} (hF : C_canLose_J46 N h c8 v33 v34 v35 v36 v37 = some r) : V l G cX0_canLose RX0 "canLose" 4 (Option.some Jvm.ClassFile.FieldType.boolean) fr lo h0 h (QM G (some (.int r)) h0 h) 46 [(0, .ref v33), (1, .int v34), (3, .int v35)] [.int v36, .int v37] h := by
  unfold C_canLose_J46 at hF
  refine v_iand dX0_canLose_46 ?_
  refine v_istore_n dX0_canLose_47 rfl (Nat.le_of_ble_eq_true rfl) (L' := [(2, .int (v37 &&& v36)), (0, .ref v33), (1, .int v34), (3, .int v35)]) rfl ?_
  refine v_iinc dX0_canLose_48 3 rfl (v := v35 + (1 : Int32)) (by rfl) (Nat.le_of_ble_eq_true rfl) (L' := [(3, .int (v35 + (1 : Int32))), (2, .int (v37 &&& v36)), (0, .ref v33), (1, .int v34)]) rfl ?_
  refine v_goto (tgt := 8) dX0_canLose_51 (by decide) ?_
  exact v_sub [2, 3, 1, 0] rfl (hc8 _ _ _ _ hF)
def C_canLose_J41 (N : Nat) (h : Hp) (c8 : Nat → Int32 → Int32 → Int32 → Option Int32) (v29 : Nat) (v30 : Int32) (v31 : Int32) (v32 : Int32) : Option Int32 :=
  C_canLose_J46 N h c8 v29 v30 v31 (1 : Int32) v32
theorem w_C_canLose_J41 {l : Launch} {G : GT} {fr lo : Nat} {h0 : Hp} {N : Nat} {h : Hp} {r : Int32} (hfr : 2 ≤ fr) (hlo : 42 ≤ lo) {c8 : Nat → Int32 → Int32 → Int32 → Option Int32} (hc8 : ∀ (v22 : Nat) (v23 : Int32) (v24 : Int32) (v25 : Int32), c8 v22 v23 v24 v25 = some r → V l G cX0_canLose RX0 "canLose" 4 (Option.some Jvm.ClassFile.FieldType.boolean) fr lo h0 h (QM G (some (.int r)) h0 h) 8 [(0, .ref v22), (1, .int v23), (2, .int v24), (3, .int v25)] [] h) {v29 : Nat} {v30 : Int32} {v31 : Int32} {v32 : Int32} (hF : C_canLose_J41 N h c8 v29 v30 v31 v32 = some r) : V l G cX0_canLose RX0 "canLose" 4 (Option.some Jvm.ClassFile.FieldType.boolean) fr lo h0 h (QM G (some (.int r)) h0 h) 41 [(0, .ref v29), (1, .int v30), (3, .int v31)] [.int v32] h := by
  unfold C_canLose_J41 at hF
  refine v_iconst dX0_canLose_41 (v := 1) (by decide) ?_
  refine v_goto (tgt := 46) dX0_canLose_42 (by decide) ?_
  exact v_sub [0, 1, 2] rfl (w_C_canLose_J46 hfr hlo hc8 hF)
def C_canLose_L8 (N : Nat) (h : Hp) (x8 : Int32 → Option Int32) : Nat → Nat → Int32 → Int32 → Int32 → Option Int32
  | 0, _, _, _, _ => none
  | n42 + 1, v22, v23, v24, v25 =>
    (C_nBooks h v22).bind fun v27 =>
    if v27 ≤ v25 then
      x8 v24
    else
      (C_isRead h v22 v25).bind fun v28 =>
      if v28 = 0 then
        C_canLose_J41 N h (C_canLose_L8 N h x8 n42) v22 v23 v25 v24
      else
        (gr h v22 [0] 0).bind fun v38 =>
        (gr h v38 [1] 3).bind fun v39 =>
        (aI h v39 0 v25).bind fun v40 =>
        (C_has v40 v23).bind fun v41 =>
        if v41 = 0 then
          C_canLose_J41 N h (C_canLose_L8 N h x8 n42) v22 v23 v25 v24
        else
          C_canLose_J46 N h (C_canLose_L8 N h x8 n42) v22 v23 v25 (0 : Int32) v24
theorem w_C_canLose_L8 {l : Launch} {G : GT} {fr lo : Nat} {h0 : Hp} {N : Nat} {h : Hp} {r : Int32} (hfr : 2 ≤ fr) (hlo : 42 ≤ lo) {x8 : Int32 → Option Int32} (hx8 : ∀ (v26 : Int32), x8 v26 = some r → V l G cX0_canLose RX0 "canLose" 4 (Option.some Jvm.ClassFile.FieldType.boolean) fr lo h0 h (QM G (some (.int r)) h0 h) 54 [(2, .int v26)] [] h) : ∀ (n : Nat) (v22 : Nat) (v23 : Int32) (v24 : Int32) (v25 : Int32), C_canLose_L8 N h x8 n v22 v23 v24 v25 = some r → V l G cX0_canLose RX0 "canLose" 4 (Option.some Jvm.ClassFile.FieldType.boolean) fr lo h0 h (QM G (some (.int r)) h0 h) 8 [(0, .ref v22), (1, .int v23), (2, .int v24), (3, .int v25)] [] h := by
  intro n
  induction n with
  | zero =>
    intro v22 v23 v24 v25 hF
    cases (show (none : Option Int32) = some r from hF)
  | succ n hc8 =>
    intro v22 v23 v24 v25 hF
    rw [C_canLose_L8] at hF
    refine v_iload_n dX0_canLose_8 rfl 3 rfl ?_
    refine v_aload_n dX0_canLose_9 rfl 0 rfl ?_
    obtain ⟨v27, e_v27, hF⟩ := Option.bind_eq_some_iff.mp hF
    refine v_calV1 dX0_canLose_10 vl_X0_125 q482 (rc_C_nBooks e_v27) (ct_C_nBooks e_v27) rfl rfl (Nat.le_trans (Nat.le_of_ble_eq_true rfl) hfr) (Nat.le_trans (Nat.le_of_ble_eq_true rfl) hlo) (Nat.le_of_ble_eq_true rfl) ?_
    refine v_icmp_ge (tgt := 54) dX0_canLose_13 (by decide) hF (fun hF => ?_) (fun hF => ?_)
    · exact v_sub [2] rfl (hx8 _ hF)
    · refine v_iload_n dX0_canLose_16 rfl 2 rfl ?_
      refine v_aload_n dX0_canLose_17 rfl 0 rfl ?_
      refine v_iload_n dX0_canLose_18 rfl 3 rfl ?_
      obtain ⟨v28, e_v28, hF⟩ := Option.bind_eq_some_iff.mp hF
      refine v_calV1 dX0_canLose_19 vl_X0_176 q513 (rc_C_isRead e_v28) (ct_C_isRead e_v28) rfl rfl (Nat.le_trans (Nat.le_of_ble_eq_true rfl) hfr) (Nat.le_trans (Nat.le_of_ble_eq_true rfl) hlo) (Nat.le_of_ble_eq_true rfl) ?_
      refine v_if_eq (tgt := 41) dX0_canLose_22 (by decide) hF (fun hF => ?_) (fun hF => ?_)
      · exact v_sub [0, 1, 3] rfl (w_C_canLose_J41 hfr hlo hc8 hF)
      · refine v_aload_n dX0_canLose_25 rfl 0 rfl ?_
        refine v_getr dX0_canLose_26 fl_X0_10 hF (fun v38 hF => ?_)
        refine v_getr dX0_canLose_29 fl_X0_145 hF (fun v39 hF => ?_)
        refine v_iload_n dX0_canLose_32 rfl 3 rfl ?_
        refine v_iald dX0_canLose_33 hF (fun v40 hF => ?_)
        refine v_iload_n dX0_canLose_34 rfl 1 rfl ?_
        obtain ⟨v41, e_v41, hF⟩ := Option.bind_eq_some_iff.mp hF
        refine v_calS1 dX0_canLose_35 sl_X0_141 q516 (ct_C_has e_v41) rfl rfl (Nat.le_trans (Nat.le_of_ble_eq_true rfl) hfr) (Nat.le_trans (Nat.le_of_ble_eq_true rfl) hlo) (Nat.le_of_ble_eq_true rfl) ?_
        refine v_if_ne (tgt := 45) dX0_canLose_38 (by decide) hF (fun hF => ?_) (fun hF => ?_)
        · refine v_iconst dX0_canLose_45 (v := 0) (by decide) ?_
          exact v_sub [0, 1, 3] rfl (w_C_canLose_J46 hfr hlo hc8 hF)
        · exact v_sub [0, 1, 3] rfl (w_C_canLose_J41 hfr hlo hc8 hF)
def C_canLose_b (N : Nat) (h : Hp) (a0 : Nat) (a1 : Int32) : Option Int32 :=
  (C_isRead h a0 a1).bind fun v21 =>
  C_canLose_L8 N h (fun v43 =>
    (rz v43).bind fun v44 => some v44) N a0 a1 v21 (0 : Int32)
theorem w_C_canLose_b {l : Launch} {G : GT} {fr lo : Nat} {h0 : Hp} {N : Nat} {h : Hp} {r : Int32} (hfr : 2 ≤ fr) (hlo : 42 ≤ lo) {a0 : Nat} {a1 : Int32} (hF : C_canLose_b N h a0 a1 = some r) : V l G cX0_canLose RX0 "canLose" 4 (Option.some Jvm.ClassFile.FieldType.boolean) fr lo h0 h (QM G (some (.int r)) h0 h) 0 [(0, .ref a0), (1, .int a1)] [] h := by
  unfold C_canLose_b at hF
  refine v_aload_n dX0_canLose_0 rfl 0 rfl ?_
  refine v_iload_n dX0_canLose_1 rfl 1 rfl ?_
  obtain ⟨v21, e_v21, hF⟩ := Option.bind_eq_some_iff.mp hF
  refine v_calV1 dX0_canLose_2 vl_X0_176 q513 (rc_C_isRead e_v21) (ct_C_isRead e_v21) rfl rfl (Nat.le_trans (Nat.le_of_ble_eq_true rfl) hfr) (Nat.le_trans (Nat.le_of_ble_eq_true rfl) hlo) (Nat.le_of_ble_eq_true rfl) ?_
  refine v_istore_n dX0_canLose_5 rfl (Nat.le_of_ble_eq_true rfl) (L' := [(2, .int v21), (0, .ref a0), (1, .int a1)]) rfl ?_
  refine v_iconst dX0_canLose_6 (v := 0) (by decide) ?_
  refine v_istore_n dX0_canLose_7 rfl (Nat.le_of_ble_eq_true rfl) (L' := [(3, .int (0 : Int32)), (2, .int v21), (0, .ref a0), (1, .int a1)]) rfl ?_
  refine v_sub [2, 3, 1, 0] rfl (w_C_canLose_L8 hfr hlo ?_ N _ _ _ _ hF)
  intro v43 hF
  refine v_iload_n dX0_canLose_54 rfl 0 rfl ?_
  refine v_zchk hF (fun v44 hz hF => ?_)
  cases hF
  exact v_iret dX0_canLose_55 rfl (nar_z hz) rfl rfl
def C_canLose (N : Nat) (h : Hp) (a0 : Nat) (a1 : Int32) : Option Int32 := (ob h a0 [0]).bind fun _ => C_canLose_b N h a0 a1
theorem rc_C_canLose {N : Nat} {h : Hp}  {r : Int32} {a0 : Nat} {a1 : Int32} (hF : C_canLose N h a0 a1 = some r) : RC h a0 [0] := by
  obtain ⟨o, ho, -⟩ := Option.bind_eq_some_iff.mp hF
  exact ⟨o, ho⟩
theorem ct_C_canLose {l : Launch} {G : GT} {N : Nat} {h : Hp} {r : Int32} {a0 : Nat} {a1 : Int32} (hF : C_canLose N h a0 a1 = some r) : Ct l G yX0_canLose (ws_ yX0_canLose cX0_canLose 4 (Option.some Jvm.ClassFile.FieldType.boolean)) 2 42 [.ref a0, .int a1] h (some (.int r)) h :=
  ct_of (by decide) (Nat.le_of_ble_eq_true rfl) (w_C_canLose_b (Nat.le_refl _) (Nat.le_refl _) (Option.bind_eq_some_iff.mp hF).choose_spec.2)
theorem vl_X0_312 : ∀ ci ∈ [0], VL RX0 312 ci yX0_canLose 1 := by
  intro ci h
  simp only [List.mem_cons, List.not_mem_nil, or_false] at h
  subst h; exact ⟨RX0, TX0, 31, rfl, q137, ⟨by decide, by decide⟩, by decide +kernel, q1334, Or.inl ⟨q1332, qs30⟩⟩
def C_loseNow_b (N : Nat) (a0 : Nat) (a1 : Int32) (h : Hp) : Option (Int32 × Hp) :=
  (C_isBook h a0 a1).bind fun v21 =>
  if v21 = 0 then
    some ((-2 : Int32), h)
  else
    (C_canLose N h a0 a1).bind fun v22 =>
    if v22 = 0 then
      some ((-3 : Int32), h)
    else
      (gr h a0 [0] 2).bind fun v23 =>
      (C_books h a0).bind fun v24 =>
      (X3_append v23 v24 (1 : Int32) h).bind fun h25 =>
      (C_books h25 a0).bind fun v26 =>
      (gi h25 v26 [2] 1).bind fun v27 =>
      (po h25 v26 [2] 1 (.int (v27 &&& (((1 : Int32) <<< (a1 &&& 31)) ^^^ (-1 : Int32))))).bind fun h28 =>
      (C_books h28 a0).bind fun v29 =>
      (gi h28 v29 [2] 1).bind fun v30 =>
      (J4_bitCount v30).bind fun v31 =>
      some (v31, h28)
theorem w_C_loseNow_b {l : Launch} {G : GT} {fr lo : Nat} {h0 : Hp} {N : Nat} {r : (Int32 × Hp)} (hfr : 3 ≤ fr) (hlo : 104 ≤ lo) {a0 : Nat} {a1 : Int32} {h : Hp} (hF : C_loseNow_b N a0 a1 h = some r) : V l G cX0_loseNow RX0 "loseNow" 2 (Option.some Jvm.ClassFile.FieldType.int) fr lo h0 r.2 (QM G (some (.int r.1)) h0 r.2) 0 [(0, .ref a0), (1, .int a1)] [] h := by
  unfold C_loseNow_b at hF
  refine v_aload_n dX0_loseNow_0 rfl 0 rfl ?_
  refine v_iload_n dX0_loseNow_1 rfl 1 rfl ?_
  obtain ⟨v21, e_v21, hF⟩ := Option.bind_eq_some_iff.mp hF
  refine v_calV1 dX0_loseNow_2 vl_X0_172 q505 (rc_C_isBook e_v21) (ct_C_isBook e_v21) rfl rfl (Nat.le_trans (Nat.le_of_ble_eq_true rfl) hfr) (Nat.le_trans (Nat.le_of_ble_eq_true rfl) hlo) (Nat.le_of_ble_eq_true rfl) ?_
  refine v_if_ne (tgt := 11) dX0_loseNow_5 (by decide) hF (fun hF => ?_) (fun hF => ?_)
  · refine v_aload_n dX0_loseNow_11 rfl 0 rfl ?_
    refine v_iload_n dX0_loseNow_12 rfl 1 rfl ?_
    obtain ⟨v22, e_v22, hF⟩ := Option.bind_eq_some_iff.mp hF
    refine v_calV1 dX0_loseNow_13 vl_X0_312 q1335 (rc_C_canLose e_v22) (ct_C_canLose e_v22) rfl rfl (Nat.le_trans (Nat.le_of_ble_eq_true rfl) hfr) (Nat.le_trans (Nat.le_of_ble_eq_true rfl) hlo) (Nat.le_of_ble_eq_true rfl) ?_
    refine v_if_ne (tgt := 22) dX0_loseNow_16 (by decide) hF (fun hF => ?_) (fun hF => ?_)
    · refine v_aload_n dX0_loseNow_22 rfl 0 rfl ?_
      refine v_getr dX0_loseNow_23 fl_X0_23 hF (fun v23 hF => ?_)
      refine v_aload_n dX0_loseNow_26 rfl 0 rfl ?_
      obtain ⟨v24, e_v24, hF⟩ := Option.bind_eq_some_iff.mp hF
      refine v_calV1 dX0_loseNow_27 vl_X0_135 q486 (rc_C_books e_v24) (ct_C_books e_v24) rfl rfl (Nat.le_trans (Nat.le_of_ble_eq_true rfl) hfr) (Nat.le_trans (Nat.le_of_ble_eq_true rfl) hlo) (Nat.le_of_ble_eq_true rfl) ?_
      refine v_iconst dX0_loseNow_30 (v := 1) (by decide) ?_
      obtain ⟨h25, e_h25, hF⟩ := Option.bind_eq_some_iff.mp hF
      refine v_calV0 dX0_loseNow_31 vl_X0_302 q1313 (rc_X3_append e_h25) (ct_X3_append e_h25) rfl rfl (Nat.le_trans (Nat.le_of_ble_eq_true rfl) hfr) (Nat.le_trans (Nat.le_of_ble_eq_true rfl) hlo) (Nat.le_of_ble_eq_true rfl) ?_
      refine v_aload_n dX0_loseNow_34 rfl 0 rfl ?_
      obtain ⟨v26, e_v26, hF⟩ := Option.bind_eq_some_iff.mp hF
      refine v_calV1 dX0_loseNow_35 vl_X0_135 q486 (rc_C_books e_v26) (ct_C_books e_v26) rfl rfl (Nat.le_trans (Nat.le_of_ble_eq_true rfl) hfr) (Nat.le_trans (Nat.le_of_ble_eq_true rfl) hlo) (Nat.le_of_ble_eq_true rfl) ?_
      refine v_dup dX0_loseNow_38 rfl ?_
      refine v_geti dX0_loseNow_39 fl_X0_138 hF (fun v27 hF => ?_)
      refine v_iconst dX0_loseNow_42 (v := 1) (by decide) ?_
      refine v_iload_n dX0_loseNow_43 rfl 1 rfl ?_
      refine v_ishl dX0_loseNow_44 ?_
      refine v_iconst dX0_loseNow_45 (v := -1) (by decide) ?_
      refine v_ixor dX0_loseNow_46 ?_
      refine v_iand dX0_loseNow_47 ?_
      refine v_put dX0_loseNow_48 pl_X0_138 (fun z => by cases z) rfl rfl hF (fun h28 hF => ?_)
      refine v_aload_n dX0_loseNow_51 rfl 0 rfl ?_
      obtain ⟨v29, e_v29, hF⟩ := Option.bind_eq_some_iff.mp hF
      refine v_calV1 dX0_loseNow_52 vl_X0_135 q486 (rc_C_books e_v29) (ct_C_books e_v29) rfl rfl (Nat.le_trans (Nat.le_of_ble_eq_true rfl) hfr) (Nat.le_trans (Nat.le_of_ble_eq_true rfl) hlo) (Nat.le_of_ble_eq_true rfl) ?_
      refine v_geti dX0_loseNow_55 fl_X0_138 hF (fun v30 hF => ?_)
      obtain ⟨v31, e_v31, hF⟩ := Option.bind_eq_some_iff.mp hF
      refine v_calS1 dX0_loseNow_58 sl_X0_277 q532 (ct_J4_bitCount e_v31) rfl rfl (Nat.le_trans (Nat.le_of_ble_eq_true rfl) hfr) (Nat.le_trans (Nat.le_of_ble_eq_true rfl) hlo) (Nat.le_of_ble_eq_true rfl) ?_
      cases hF
      exact v_iret dX0_loseNow_61 rfl rfl rfl rfl
    · refine v_bipush dX0_loseNow_19 (v := -3) (by decide) ?_
      cases hF
      exact v_iret dX0_loseNow_21 rfl rfl rfl rfl
  · refine v_bipush dX0_loseNow_8 (v := -2) (by decide) ?_
    cases hF
    exact v_iret dX0_loseNow_10 rfl rfl rfl rfl
def C_loseNow (N : Nat) (a0 : Nat) (a1 : Int32) (h : Hp) : Option (Int32 × Hp) := (ob h a0 [0]).bind fun _ => C_loseNow_b N a0 a1 h
theorem rc_C_loseNow {N : Nat}  {r : (Int32 × Hp)} {a0 : Nat} {a1 : Int32} {h : Hp} (hF : C_loseNow N a0 a1 h = some r) : RC h a0 [0] := by
  obtain ⟨o, ho, -⟩ := Option.bind_eq_some_iff.mp hF
  exact ⟨o, ho⟩
theorem ct_C_loseNow {l : Launch} {G : GT} {N : Nat} {r : (Int32 × Hp)} {a0 : Nat} {a1 : Int32} {h : Hp} (hF : C_loseNow N a0 a1 h = some r) : Ct l G yX0_loseNow (ws_ yX0_loseNow cX0_loseNow 2 (Option.some Jvm.ClassFile.FieldType.int)) 3 104 [.ref a0, .int a1] h (some (.int r.1)) r.2 :=
  ct_of (by decide) (Nat.le_of_ble_eq_true rfl) (w_C_loseNow_b (Nat.le_refl _) (Nat.le_refl _) (Option.bind_eq_some_iff.mp hF).choose_spec.2)
theorem vl_X0_315 : ∀ ci ∈ [0], VL RX0 315 ci yX0_loseNow 1 := by
  intro ci h
  simp only [List.mem_cons, List.not_mem_nil, or_false] at h
  subst h; exact ⟨RX0, TX0, 31, rfl, q137, ⟨by decide, by decide⟩, by decide +kernel, q1330, Or.inl ⟨q1328, qs29⟩⟩
def C_lose_b (N : Nat) (a0 : Nat) (a1 : Int32) (h : Hp) : Option (Int32 × Hp) :=
  bd2 (C_loseNow N a0 a1 h) fun v22 h21 =>
  bd2 (C_tell a0 v22 h21) fun v24 h23 =>
  some (v24, h23)
theorem w_C_lose_b {l : Launch} {G : GT} {fr lo : Nat} {h0 : Hp} {N : Nat} {r : (Int32 × Hp)} (hfr : 4 ≤ fr) (hlo : 125 ≤ lo) {a0 : Nat} {a1 : Int32} {h : Hp} (hF : C_lose_b N a0 a1 h = some r) : V l G cX0_lose RX0 "lose" 2 (Option.some Jvm.ClassFile.FieldType.int) fr lo h0 r.2 (QM G (some (.int r.1)) h0 r.2) 0 [(0, .ref a0), (1, .int a1)] [] h := by
  unfold C_lose_b at hF
  refine v_aload_n dX0_lose_0 rfl 0 rfl ?_
  refine v_aload_n dX0_lose_1 rfl 0 rfl ?_
  refine v_iload_n dX0_lose_2 rfl 1 rfl ?_
  obtain ⟨v22, h21, e_v22, hF⟩ := bd2_spec hF
  refine v_calV1 dX0_lose_3 vl_X0_315 q1331 (rc_C_loseNow e_v22) (ct_C_loseNow e_v22) rfl rfl (Nat.le_trans (Nat.le_of_ble_eq_true rfl) hfr) (Nat.le_trans (Nat.le_of_ble_eq_true rfl) hlo) (Nat.le_of_ble_eq_true rfl) ?_
  obtain ⟨v24, h23, e_v24, hF⟩ := bd2_spec hF
  refine v_calV1 dX0_lose_6 vl_X0_112 q494 (rc_C_tell e_v24) (ct_C_tell e_v24) rfl rfl (Nat.le_trans (Nat.le_of_ble_eq_true rfl) hfr) (Nat.le_trans (Nat.le_of_ble_eq_true rfl) hlo) (Nat.le_of_ble_eq_true rfl) ?_
  cases hF
  exact v_iret dX0_lose_9 rfl rfl rfl rfl
def C_lose (N : Nat) (a0 : Nat) (a1 : Int32) (h : Hp) : Option (Int32 × Hp) := (ob h a0 [0]).bind fun _ => C_lose_b N a0 a1 h
theorem rc_C_lose {N : Nat}  {r : (Int32 × Hp)} {a0 : Nat} {a1 : Int32} {h : Hp} (hF : C_lose N a0 a1 h = some r) : RC h a0 [0] := by
  obtain ⟨o, ho, -⟩ := Option.bind_eq_some_iff.mp hF
  exact ⟨o, ho⟩
theorem ct_C_lose {l : Launch} {G : GT} {N : Nat} {r : (Int32 × Hp)} {a0 : Nat} {a1 : Int32} {h : Hp} (hF : C_lose N a0 a1 h = some r) : Ct l G yX0_lose (ws_ yX0_lose cX0_lose 2 (Option.some Jvm.ClassFile.FieldType.int)) 4 125 [.ref a0, .int a1] h (some (.int r.1)) r.2 :=
  ct_of (by decide) (Nat.le_of_ble_eq_true rfl) (w_C_lose_b (Nat.le_refl _) (Nat.le_refl _) (Option.bind_eq_some_iff.mp hF).choose_spec.2)
def C_cutNow_b (a0 : Nat) (a1 : Int32) (h : Hp) : Option (Int32 × Hp) :=
  (C_isLeek h a0 a1).bind fun v21 =>
  if v21 = 0 then
    some ((-2 : Int32), h)
  else
    (C_books h a0).bind fun v22 =>
    (gr h v22 [2] 0).bind fun v23 =>
    (aI h v23 0 a1).bind fun v24 =>
    if v24 = 0 then
      some ((-3 : Int32), h)
    else
      (gr h a0 [0] 2).bind fun v25 =>
      (C_books h a0).bind fun v26 =>
      (X3_append v25 v26 (2 : Int32) h).bind fun h27 =>
      (C_books h27 a0).bind fun v28 =>
      (gr h27 v28 [2] 0).bind fun v29 =>
      (sI h27 v29 0 a1 (0 : Int32)).bind fun h30 =>
      some (v24, h30)
theorem w_C_cutNow_b {l : Launch} {G : GT} {fr lo : Nat} {h0 : Hp} {r : (Int32 × Hp)} (hfr : 3 ≤ fr) (hlo : 104 ≤ lo) {a0 : Nat} {a1 : Int32} {h : Hp} (hF : C_cutNow_b a0 a1 h = some r) : V l G cX0_cutNow RX0 "cutNow" 3 (Option.some Jvm.ClassFile.FieldType.int) fr lo h0 r.2 (QM G (some (.int r.1)) h0 r.2) 0 [(0, .ref a0), (1, .int a1)] [] h := by
  unfold C_cutNow_b at hF
  refine v_aload_n dX0_cutNow_0 rfl 0 rfl ?_
  refine v_iload_n dX0_cutNow_1 rfl 1 rfl ?_
  obtain ⟨v21, e_v21, hF⟩ := Option.bind_eq_some_iff.mp hF
  refine v_calV1 dX0_cutNow_2 vl_X0_191 q583 (rc_C_isLeek e_v21) (ct_C_isLeek e_v21) rfl rfl (Nat.le_trans (Nat.le_of_ble_eq_true rfl) hfr) (Nat.le_trans (Nat.le_of_ble_eq_true rfl) hlo) (Nat.le_of_ble_eq_true rfl) ?_
  refine v_if_ne (tgt := 11) dX0_cutNow_5 (by decide) hF (fun hF => ?_) (fun hF => ?_)
  · refine v_aload_n dX0_cutNow_11 rfl 0 rfl ?_
    obtain ⟨v22, e_v22, hF⟩ := Option.bind_eq_some_iff.mp hF
    refine v_calV1 dX0_cutNow_12 vl_X0_135 q486 (rc_C_books e_v22) (ct_C_books e_v22) rfl rfl (Nat.le_trans (Nat.le_of_ble_eq_true rfl) hfr) (Nat.le_trans (Nat.le_of_ble_eq_true rfl) hlo) (Nat.le_of_ble_eq_true rfl) ?_
    refine v_getr dX0_cutNow_15 fl_X0_188 hF (fun v23 hF => ?_)
    refine v_iload_n dX0_cutNow_18 rfl 1 rfl ?_
    refine v_iald dX0_cutNow_19 hF (fun v24 hF => ?_)
    refine v_istore_n dX0_cutNow_20 rfl (Nat.le_of_ble_eq_true rfl) (L' := [(2, .int v24), (0, .ref a0), (1, .int a1)]) rfl ?_
    refine v_iload_n dX0_cutNow_21 rfl 0 rfl ?_
    refine v_if_ne (tgt := 28) dX0_cutNow_22 (by decide) hF (fun hF => ?_) (fun hF => ?_)
    · refine v_aload_n dX0_cutNow_28 rfl 1 rfl ?_
      refine v_getr dX0_cutNow_29 fl_X0_23 hF (fun v25 hF => ?_)
      refine v_aload_n dX0_cutNow_32 rfl 1 rfl ?_
      obtain ⟨v26, e_v26, hF⟩ := Option.bind_eq_some_iff.mp hF
      refine v_calV1 dX0_cutNow_33 vl_X0_135 q486 (rc_C_books e_v26) (ct_C_books e_v26) rfl rfl (Nat.le_trans (Nat.le_of_ble_eq_true rfl) hfr) (Nat.le_trans (Nat.le_of_ble_eq_true rfl) hlo) (Nat.le_of_ble_eq_true rfl) ?_
      refine v_iconst dX0_cutNow_36 (v := 2) (by decide) ?_
      obtain ⟨h27, e_h27, hF⟩ := Option.bind_eq_some_iff.mp hF
      refine v_calV0 dX0_cutNow_37 vl_X0_302 q1313 (rc_X3_append e_h27) (ct_X3_append e_h27) rfl rfl (Nat.le_trans (Nat.le_of_ble_eq_true rfl) hfr) (Nat.le_trans (Nat.le_of_ble_eq_true rfl) hlo) (Nat.le_of_ble_eq_true rfl) ?_
      refine v_aload_n dX0_cutNow_40 rfl 1 rfl ?_
      obtain ⟨v28, e_v28, hF⟩ := Option.bind_eq_some_iff.mp hF
      refine v_calV1 dX0_cutNow_41 vl_X0_135 q486 (rc_C_books e_v28) (ct_C_books e_v28) rfl rfl (Nat.le_trans (Nat.le_of_ble_eq_true rfl) hfr) (Nat.le_trans (Nat.le_of_ble_eq_true rfl) hlo) (Nat.le_of_ble_eq_true rfl) ?_
      refine v_getr dX0_cutNow_44 fl_X0_188 hF (fun v29 hF => ?_)
      refine v_iload_n dX0_cutNow_47 rfl 2 rfl ?_
      refine v_iconst dX0_cutNow_48 (v := 0) (by decide) ?_
      refine v_iast dX0_cutNow_49 hF (fun h30 hF => ?_)
      refine v_iload_n dX0_cutNow_50 rfl 0 rfl ?_
      cases hF
      exact v_iret dX0_cutNow_51 rfl rfl rfl rfl
    · refine v_bipush dX0_cutNow_25 (v := -3) (by decide) ?_
      cases hF
      exact v_iret dX0_cutNow_27 rfl rfl rfl rfl
  · refine v_bipush dX0_cutNow_8 (v := -2) (by decide) ?_
    cases hF
    exact v_iret dX0_cutNow_10 rfl rfl rfl rfl
def C_cutNow (a0 : Nat) (a1 : Int32) (h : Hp) : Option (Int32 × Hp) := (ob h a0 [0]).bind fun _ => C_cutNow_b a0 a1 h
theorem rc_C_cutNow  {r : (Int32 × Hp)} {a0 : Nat} {a1 : Int32} {h : Hp} (hF : C_cutNow a0 a1 h = some r) : RC h a0 [0] := by
  obtain ⟨o, ho, -⟩ := Option.bind_eq_some_iff.mp hF
  exact ⟨o, ho⟩
theorem ct_C_cutNow {l : Launch} {G : GT} {r : (Int32 × Hp)} {a0 : Nat} {a1 : Int32} {h : Hp} (hF : C_cutNow a0 a1 h = some r) : Ct l G yX0_cutNow (ws_ yX0_cutNow cX0_cutNow 3 (Option.some Jvm.ClassFile.FieldType.int)) 3 104 [.ref a0, .int a1] h (some (.int r.1)) r.2 :=
  ct_of (by decide) (Nat.le_of_ble_eq_true rfl) (w_C_cutNow_b (Nat.le_refl _) (Nat.le_refl _) (Option.bind_eq_some_iff.mp hF).choose_spec.2)
theorem vl_X0_318 : ∀ ci ∈ [0], VL RX0 318 ci yX0_cutNow 1 := by
  intro ci h
  simp only [List.mem_cons, List.not_mem_nil, or_false] at h
  subst h; exact ⟨RX0, TX0, 31, rfl, q137, ⟨by decide, by decide⟩, by decide +kernel, q1342, Or.inl ⟨q1340, qs31⟩⟩
def C_cut_b (a0 : Nat) (a1 : Int32) (h : Hp) : Option (Int32 × Hp) :=
  bd2 (C_cutNow a0 a1 h) fun v22 h21 =>
  bd2 (C_tell a0 v22 h21) fun v24 h23 =>
  some (v24, h23)
theorem w_C_cut_b {l : Launch} {G : GT} {fr lo : Nat} {h0 : Hp} {r : (Int32 × Hp)} (hfr : 4 ≤ fr) (hlo : 126 ≤ lo) {a0 : Nat} {a1 : Int32} {h : Hp} (hF : C_cut_b a0 a1 h = some r) : V l G cX0_cut RX0 "cut" 2 (Option.some Jvm.ClassFile.FieldType.int) fr lo h0 r.2 (QM G (some (.int r.1)) h0 r.2) 0 [(0, .ref a0), (1, .int a1)] [] h := by
  unfold C_cut_b at hF
  refine v_aload_n dX0_cut_0 rfl 0 rfl ?_
  refine v_aload_n dX0_cut_1 rfl 0 rfl ?_
  refine v_iload_n dX0_cut_2 rfl 1 rfl ?_
  obtain ⟨v22, h21, e_v22, hF⟩ := bd2_spec hF
  refine v_calV1 dX0_cut_3 vl_X0_318 q1343 (rc_C_cutNow e_v22) (ct_C_cutNow e_v22) rfl rfl (Nat.le_trans (Nat.le_of_ble_eq_true rfl) hfr) (Nat.le_trans (Nat.le_of_ble_eq_true rfl) hlo) (Nat.le_of_ble_eq_true rfl) ?_
  obtain ⟨v24, h23, e_v24, hF⟩ := bd2_spec hF
  refine v_calV1 dX0_cut_6 vl_X0_112 q494 (rc_C_tell e_v24) (ct_C_tell e_v24) rfl rfl (Nat.le_trans (Nat.le_of_ble_eq_true rfl) hfr) (Nat.le_trans (Nat.le_of_ble_eq_true rfl) hlo) (Nat.le_of_ble_eq_true rfl) ?_
  cases hF
  exact v_iret dX0_cut_9 rfl rfl rfl rfl
def C_cut (a0 : Nat) (a1 : Int32) (h : Hp) : Option (Int32 × Hp) := (ob h a0 [0]).bind fun _ => C_cut_b a0 a1 h
theorem rc_C_cut  {r : (Int32 × Hp)} {a0 : Nat} {a1 : Int32} {h : Hp} (hF : C_cut a0 a1 h = some r) : RC h a0 [0] := by
  obtain ⟨o, ho, -⟩ := Option.bind_eq_some_iff.mp hF
  exact ⟨o, ho⟩
theorem ct_C_cut {l : Launch} {G : GT} {r : (Int32 × Hp)} {a0 : Nat} {a1 : Int32} {h : Hp} (hF : C_cut a0 a1 h = some r) : Ct l G yX0_cut (ws_ yX0_cut cX0_cut 2 (Option.some Jvm.ClassFile.FieldType.int)) 4 126 [.ref a0, .int a1] h (some (.int r.1)) r.2 :=
  ct_of (by decide) (Nat.le_of_ble_eq_true rfl) (w_C_cut_b (Nat.le_refl _) (Nat.le_refl _) (Option.bind_eq_some_iff.mp hF).choose_spec.2)
def C_passIt_L4 (N : Nat) (x4 : Nat → Int32 → Hp → Option (Int32 × Hp)) : Nat → Nat → Int32 → Int32 → Hp → Option (Int32 × Hp)
  | 0, _, _, _, _ => none
  | n33 + 1, v21, v22, v23, h24 =>
    (C_nLeeks h24 v21).bind fun v28 =>
    if v28 ≤ v23 then
      x4 v21 v22 h24
    else
      (gr h24 v21 [0] 16).bind fun v29 =>
      bd2 (C_wilts N v21 v23 h24) fun v31 h30 =>
      (sI h30 v29 0 v23 v31).bind fun h32 =>
      (C_passIt_L4 N x4 n33) v21 v22 (v23 + (1 : Int32)) h32
theorem w_C_passIt_L4 {l : Launch} {G : GT} {fr lo : Nat} {h0 : Hp} {N : Nat} {r : (Int32 × Hp)} (hfr : 199 ≤ fr) (hlo : 5030 ≤ lo) {x4 : Nat → Int32 → Hp → Option (Int32 × Hp)} (hx4 : ∀ (v25 : Nat) (v26 : Int32) (h27 : Hp), x4 v25 v26 h27 = some r → V l G cX0_passIt RX0 "passIt" 4 (Option.some Jvm.ClassFile.FieldType.int) fr lo h0 r.2 (QM G (some (.int r.1)) h0 r.2) 29 [(0, .ref v25), (1, .int v26)] [] h27) : ∀ (n : Nat) (v21 : Nat) (v22 : Int32) (v23 : Int32) (h24 : Hp), C_passIt_L4 N x4 n v21 v22 v23 h24 = some r → V l G cX0_passIt RX0 "passIt" 4 (Option.some Jvm.ClassFile.FieldType.int) fr lo h0 r.2 (QM G (some (.int r.1)) h0 r.2) 4 [(0, .ref v21), (1, .int v22), (2, .int v23)] [] h24 := by
  intro n
  induction n with
  | zero =>
    intro v21 v22 v23 h24 hF
    cases (show (none : Option (Int32 × Hp)) = some r from hF)
  | succ n hc4 =>
    intro v21 v22 v23 h24 hF
    rw [C_passIt_L4] at hF
    refine v_iload_n dX0_passIt_4 rfl 2 rfl ?_
    refine v_aload_n dX0_passIt_5 rfl 0 rfl ?_
    obtain ⟨v28, e_v28, hF⟩ := Option.bind_eq_some_iff.mp hF
    refine v_calV1 dX0_passIt_6 vl_X0_132 q587 (rc_C_nLeeks e_v28) (ct_C_nLeeks e_v28) rfl rfl (Nat.le_trans (Nat.le_of_ble_eq_true rfl) hfr) (Nat.le_trans (Nat.le_of_ble_eq_true rfl) hlo) (Nat.le_of_ble_eq_true rfl) ?_
    refine v_icmp_ge (tgt := 29) dX0_passIt_9 (by decide) hF (fun hF => ?_) (fun hF => ?_)
    · exact v_sub [0, 1] rfl (hx4 _ _ _ hF)
    · refine v_aload_n dX0_passIt_12 rfl 0 rfl ?_
      refine v_getr dX0_passIt_13 fl_X0_76 hF (fun v29 hF => ?_)
      refine v_iload_n dX0_passIt_16 rfl 2 rfl ?_
      refine v_aload_n dX0_passIt_17 rfl 0 rfl ?_
      refine v_iload_n dX0_passIt_18 rfl 2 rfl ?_
      obtain ⟨v31, h30, e_v31, hF⟩ := bd2_spec hF
      refine v_calV1 dX0_passIt_19 vl_X0_194 q623 (rc_C_wilts e_v31) (ct_C_wilts e_v31) rfl rfl (Nat.le_trans (Nat.le_of_ble_eq_true rfl) hfr) (Nat.le_trans (Nat.le_of_ble_eq_true rfl) hlo) (Nat.le_of_ble_eq_true rfl) ?_
      refine v_iast dX0_passIt_22 hF (fun h32 hF => ?_)
      refine v_iinc dX0_passIt_23 2 rfl (v := v23 + (1 : Int32)) (by rfl) (Nat.le_of_ble_eq_true rfl) (L' := [(2, .int (v23 + (1 : Int32))), (0, .ref v21), (1, .int v22)]) rfl ?_
      refine v_goto (tgt := 4) dX0_passIt_26 (by decide) ?_
      exact v_sub [1, 2, 0] rfl (hc4 _ _ _ _ hF)
def C_passIt_J79 (N : Nat) (c31 : Nat → Int32 → Int32 → Hp → Option (Int32 × Hp)) (v54 : Nat) (v55 : Int32) (v56 : Int32) (v57 : Int32) (v58 : Int32) (h59 : Hp) : Option (Int32 × Hp) :=
  (C_books h59 v54).bind fun v60 =>
  (gr h59 v60 [2] 0).bind fun v61 =>
  (sI h59 v61 0 v55 v56).bind fun h62 =>
  c31 v54 (v58 + v57) (v55 + (1 : Int32)) h62
theorem w_C_passIt_J79 {l : Launch} {G : GT} {fr lo : Nat} {h0 : Hp} {N : Nat} {r : (Int32 × Hp)} (hfr : 199 ≤ fr) (hlo : 5030 ≤ lo) {c31 : Nat → Int32 → Int32 → Hp → Option (Int32 × Hp)} (hc31 : ∀ (v37 : Nat) (v38 : Int32) (v39 : Int32) (h40 : Hp), c31 v37 v38 v39 h40 = some r → V l G cX0_passIt RX0 "passIt" 4 (Option.some Jvm.ClassFile.FieldType.int) fr lo h0 r.2 (QM G (some (.int r.1)) h0 r.2) 31 [(0, .ref v37), (1, .int v38), (2, .int v39)] [] h40) {v54 : Nat} {v55 : Int32} {v56 : Int32} {v57 : Int32} {v58 : Int32} {h59 : Hp} (hF : C_passIt_J79 N c31 v54 v55 v56 v57 v58 h59 = some r) : V l G cX0_passIt RX0 "passIt" 4 (Option.some Jvm.ClassFile.FieldType.int) fr lo h0 r.2 (QM G (some (.int r.1)) h0 r.2) 79 [(0, .ref v54), (2, .int v55), (3, .int v56)] [.int v57, .int v58] h59 := by
  unfold C_passIt_J79 at hF
  refine v_iadd dX0_passIt_79 ?_
  refine v_istore_n dX0_passIt_80 rfl (Nat.le_of_ble_eq_true rfl) (L' := [(1, .int (v58 + v57)), (0, .ref v54), (2, .int v55), (3, .int v56)]) rfl ?_
  refine v_aload_n dX0_passIt_81 rfl 1 rfl ?_
  obtain ⟨v60, e_v60, hF⟩ := Option.bind_eq_some_iff.mp hF
  refine v_calV1 dX0_passIt_82 vl_X0_135 q486 (rc_C_books e_v60) (ct_C_books e_v60) rfl rfl (Nat.le_trans (Nat.le_of_ble_eq_true rfl) hfr) (Nat.le_trans (Nat.le_of_ble_eq_true rfl) hlo) (Nat.le_of_ble_eq_true rfl) ?_
  refine v_getr dX0_passIt_85 fl_X0_188 hF (fun v61 hF => ?_)
  refine v_iload_n dX0_passIt_88 rfl 2 rfl ?_
  refine v_iload_n dX0_passIt_89 rfl 3 rfl ?_
  refine v_iast dX0_passIt_90 hF (fun h62 hF => ?_)
  refine v_iinc dX0_passIt_91 2 rfl (v := v55 + (1 : Int32)) (by rfl) (Nat.le_of_ble_eq_true rfl) (L' := [(2, .int (v55 + (1 : Int32))), (1, .int (v58 + v57)), (0, .ref v54), (3, .int v56)]) rfl ?_
  refine v_goto (tgt := 31) dX0_passIt_94 (by decide) ?_
  exact v_sub [2, 1, 0] rfl (hc31 _ _ _ _ hF)
def C_passIt_L31 (N : Nat) (x31 : Nat → Int32 → Hp → Option (Int32 × Hp)) : Nat → Nat → Int32 → Int32 → Hp → Option (Int32 × Hp)
  | 0, _, _, _, _ => none
  | n63 + 1, v37, v38, v39, h40 =>
    (C_nLeeks h40 v37).bind fun v44 =>
    if v44 ≤ v39 then
      x31 v37 v38 h40
    else
      (C_books h40 v37).bind fun v45 =>
      (gr h40 v45 [2] 0).bind fun v46 =>
      (aI h40 v46 0 v39).bind fun v47 =>
      (gr h40 v37 [0] 16).bind fun v48 =>
      (aI h40 v48 0 v39).bind fun v49 =>
      (some (if (0 : Int32) < (v47 - v49) then (v47 - v49) else (0 : Int32))).bind fun (v50 : Int32) =>
      (C_books h40 v37).bind fun v51 =>
      (gr h40 v51 [2] 0).bind fun v52 =>
      (aI h40 v52 0 v39).bind fun v53 =>
      C_passIt_J79 N (C_passIt_L31 N x31 n63) v37 v39 v50 (if v53 ≤ v50 then (0 : Int32) else (1 : Int32)) v38 h40
theorem w_C_passIt_L31 {l : Launch} {G : GT} {fr lo : Nat} {h0 : Hp} {N : Nat} {r : (Int32 × Hp)} (hfr : 199 ≤ fr) (hlo : 5030 ≤ lo) {x31 : Nat → Int32 → Hp → Option (Int32 × Hp)} (hx31 : ∀ (v41 : Nat) (v42 : Int32) (h43 : Hp), x31 v41 v42 h43 = some r → V l G cX0_passIt RX0 "passIt" 4 (Option.some Jvm.ClassFile.FieldType.int) fr lo h0 r.2 (QM G (some (.int r.1)) h0 r.2) 97 [(0, .ref v41), (1, .int v42)] [] h43) : ∀ (n : Nat) (v37 : Nat) (v38 : Int32) (v39 : Int32) (h40 : Hp), C_passIt_L31 N x31 n v37 v38 v39 h40 = some r → V l G cX0_passIt RX0 "passIt" 4 (Option.some Jvm.ClassFile.FieldType.int) fr lo h0 r.2 (QM G (some (.int r.1)) h0 r.2) 31 [(0, .ref v37), (1, .int v38), (2, .int v39)] [] h40 := by
  intro n
  induction n with
  | zero =>
    intro v37 v38 v39 h40 hF
    cases (show (none : Option (Int32 × Hp)) = some r from hF)
  | succ n hc31 =>
    intro v37 v38 v39 h40 hF
    rw [C_passIt_L31] at hF
    refine v_iload_n dX0_passIt_31 rfl 2 rfl ?_
    refine v_aload_n dX0_passIt_32 rfl 0 rfl ?_
    obtain ⟨v44, e_v44, hF⟩ := Option.bind_eq_some_iff.mp hF
    refine v_calV1 dX0_passIt_33 vl_X0_132 q587 (rc_C_nLeeks e_v44) (ct_C_nLeeks e_v44) rfl rfl (Nat.le_trans (Nat.le_of_ble_eq_true rfl) hfr) (Nat.le_trans (Nat.le_of_ble_eq_true rfl) hlo) (Nat.le_of_ble_eq_true rfl) ?_
    refine v_icmp_ge (tgt := 97) dX0_passIt_36 (by decide) hF (fun hF => ?_) (fun hF => ?_)
    · exact v_sub [0, 1] rfl (hx31 _ _ _ hF)
    · refine v_iconst dX0_passIt_39 (v := 0) (by decide) ?_
      refine v_aload_n dX0_passIt_40 rfl 0 rfl ?_
      obtain ⟨v45, e_v45, hF⟩ := Option.bind_eq_some_iff.mp hF
      refine v_calV1 dX0_passIt_41 vl_X0_135 q486 (rc_C_books e_v45) (ct_C_books e_v45) rfl rfl (Nat.le_trans (Nat.le_of_ble_eq_true rfl) hfr) (Nat.le_trans (Nat.le_of_ble_eq_true rfl) hlo) (Nat.le_of_ble_eq_true rfl) ?_
      refine v_getr dX0_passIt_44 fl_X0_188 hF (fun v46 hF => ?_)
      refine v_iload_n dX0_passIt_47 rfl 2 rfl ?_
      refine v_iald dX0_passIt_48 hF (fun v47 hF => ?_)
      refine v_aload_n dX0_passIt_49 rfl 0 rfl ?_
      refine v_getr dX0_passIt_50 fl_X0_76 hF (fun v48 hF => ?_)
      refine v_iload_n dX0_passIt_53 rfl 2 rfl ?_
      refine v_iald dX0_passIt_54 hF (fun v49 hF => ?_)
      refine v_isub dX0_passIt_55 ?_
      refine v_mmax dX0_passIt_56 q1356 (by omega) (by omega) (Nat.le_of_ble_eq_true rfl) ?_
      refine v_leti hF (fun v50 hF => ?_)
      refine v_istore_n dX0_passIt_59 rfl (Nat.le_of_ble_eq_true rfl) (L' := [(3, .int v50), (0, .ref v37), (1, .int v38), (2, .int v39)]) rfl ?_
      refine v_iload_n dX0_passIt_60 rfl 2 rfl ?_
      refine v_iload_n dX0_passIt_61 rfl 0 rfl ?_
      refine v_aload_n dX0_passIt_62 rfl 1 rfl ?_
      obtain ⟨v51, e_v51, hF⟩ := Option.bind_eq_some_iff.mp hF
      refine v_calV1 dX0_passIt_63 vl_X0_135 q486 (rc_C_books e_v51) (ct_C_books e_v51) rfl rfl (Nat.le_trans (Nat.le_of_ble_eq_true rfl) hfr) (Nat.le_trans (Nat.le_of_ble_eq_true rfl) hlo) (Nat.le_of_ble_eq_true rfl) ?_
      refine v_getr dX0_passIt_66 fl_X0_188 hF (fun v52 hF => ?_)
      refine v_iload_n dX0_passIt_69 rfl 3 rfl ?_
      refine v_iald dX0_passIt_70 hF (fun v53 hF => ?_)
      refine v_tern (c := v53 ≤ v50) (x := (0 : Int32)) (y := (1 : Int32)) (pcj := 79) (st := [.int v38]) ?_ (fun kt kf => v_icmp_ge0 (tgt := 78) dX0_passIt_71 (by decide) kt kf) (fun K => ?_) (fun K => ?_)
      · exact v_sub [1, 3, 0] rfl (w_C_passIt_J79 hfr hlo hc31 hF)
      · refine v_iconst dX0_passIt_78 (v := 0) (by decide) ?_
        exact K
      · refine v_iconst dX0_passIt_74 (v := 1) (by decide) ?_
        refine v_goto (tgt := 79) dX0_passIt_75 (by decide) ?_
        exact K
def C_passIt_b (N : Nat) (a0 : Nat) (h : Hp) : Option (Int32 × Hp) :=
  C_passIt_L4 N (fun v34 v35 h36 =>
    C_passIt_L31 N (fun v64 v65 h66 =>
      (C_books h66 v64).bind fun v67 =>
      (gi h66 v67 [2] 2).bind fun v68 =>
      (po h66 v67 [2] 2 (.int (v68 + (1 : Int32)))).bind fun h69 =>
      some (v65, h69)) N v34 v35 (0 : Int32) h36) N a0 (0 : Int32) (0 : Int32) h
theorem w_C_passIt_b {l : Launch} {G : GT} {fr lo : Nat} {h0 : Hp} {N : Nat} {r : (Int32 × Hp)} (hfr : 199 ≤ fr) (hlo : 5030 ≤ lo) {a0 : Nat} {h : Hp} (hF : C_passIt_b N a0 h = some r) : V l G cX0_passIt RX0 "passIt" 4 (Option.some Jvm.ClassFile.FieldType.int) fr lo h0 r.2 (QM G (some (.int r.1)) h0 r.2) 0 [(0, .ref a0)] [] h := by
  unfold C_passIt_b at hF
  refine v_iconst dX0_passIt_0 (v := 0) (by decide) ?_
  refine v_istore_n dX0_passIt_1 rfl (Nat.le_of_ble_eq_true rfl) (L' := [(1, .int (0 : Int32)), (0, .ref a0)]) rfl ?_
  refine v_iconst dX0_passIt_2 (v := 0) (by decide) ?_
  refine v_istore_n dX0_passIt_3 rfl (Nat.le_of_ble_eq_true rfl) (L' := [(2, .int (0 : Int32)), (1, .int (0 : Int32)), (0, .ref a0)]) rfl ?_
  refine v_sub [2, 1, 0] rfl (w_C_passIt_L4 hfr hlo ?_ N _ _ _ _ hF)
  intro v34 v35 h36 hF
  refine v_iconst dX0_passIt_29 (v := 0) (by decide) ?_
  refine v_istore_n dX0_passIt_30 rfl (Nat.le_of_ble_eq_true rfl) (L' := [(2, .int (0 : Int32)), (0, .ref v34), (1, .int v35)]) rfl ?_
  refine v_sub [1, 2, 0] rfl (w_C_passIt_L31 hfr hlo ?_ N _ _ _ _ hF)
  intro v64 v65 h66 hF
  refine v_aload_n dX0_passIt_97 rfl 0 rfl ?_
  obtain ⟨v67, e_v67, hF⟩ := Option.bind_eq_some_iff.mp hF
  refine v_calV1 dX0_passIt_98 vl_X0_135 q486 (rc_C_books e_v67) (ct_C_books e_v67) rfl rfl (Nat.le_trans (Nat.le_of_ble_eq_true rfl) hfr) (Nat.le_trans (Nat.le_of_ble_eq_true rfl) hlo) (Nat.le_of_ble_eq_true rfl) ?_
  refine v_dup dX0_passIt_101 rfl ?_
  refine v_geti dX0_passIt_102 fl_X0_204 hF (fun v68 hF => ?_)
  refine v_iconst dX0_passIt_105 (v := 1) (by decide) ?_
  refine v_iadd dX0_passIt_106 ?_
  refine v_put dX0_passIt_107 pl_X0_204 (fun z => by cases z) rfl rfl hF (fun h69 hF => ?_)
  refine v_iload_n dX0_passIt_110 rfl 1 rfl ?_
  cases hF
  exact v_iret dX0_passIt_111 rfl rfl rfl rfl
def C_passIt (N : Nat) (a0 : Nat) (h : Hp) : Option (Int32 × Hp) := (ob h a0 [0]).bind fun _ => C_passIt_b N a0 h
theorem rc_C_passIt {N : Nat}  {r : (Int32 × Hp)} {a0 : Nat} {h : Hp} (hF : C_passIt N a0 h = some r) : RC h a0 [0] := by
  obtain ⟨o, ho, -⟩ := Option.bind_eq_some_iff.mp hF
  exact ⟨o, ho⟩
theorem ct_C_passIt {l : Launch} {G : GT} {N : Nat} {r : (Int32 × Hp)} {a0 : Nat} {h : Hp} (hF : C_passIt N a0 h = some r) : Ct l G yX0_passIt (ws_ yX0_passIt cX0_passIt 4 (Option.some Jvm.ClassFile.FieldType.int)) 199 5030 [.ref a0] h (some (.int r.1)) r.2 :=
  ct_of (by decide) (Nat.le_of_ble_eq_true rfl) (w_C_passIt_b (Nat.le_refl _) (Nat.le_refl _) (Option.bind_eq_some_iff.mp hF).choose_spec.2)
theorem vl_X0_324 : ∀ ci ∈ [0], VL RX0 324 ci yX0_passIt 0 := by
  intro ci h
  simp only [List.mem_cons, List.not_mem_nil, or_false] at h
  subst h; exact ⟨RX0, TX0, 31, rfl, q137, ⟨by decide, by decide⟩, by decide +kernel, q1354, Or.inl ⟨q1352, qs33⟩⟩
def C_passNow_b (N : Nat) (a0 : Nat) (h : Hp) : Option (Int32 × Hp) :=
  (C_books h a0).bind fun v21 =>
  (gi h v21 [2] 2).bind fun v22 =>
  if v22 = (999 : Int32) then
    some ((-3 : Int32), h)
  else
    (gr h a0 [0] 2).bind fun v23 =>
    (C_books h a0).bind fun v24 =>
    (X3_append v23 v24 (3 : Int32) h).bind fun h25 =>
    bd2 (C_passIt N a0 h25) fun v27 h26 =>
    some (v27, h26)
theorem w_C_passNow_b {l : Launch} {G : GT} {fr lo : Nat} {h0 : Hp} {N : Nat} {r : (Int32 × Hp)} (hfr : 200 ≤ fr) (hlo : 5053 ≤ lo) {a0 : Nat} {h : Hp} (hF : C_passNow_b N a0 h = some r) : V l G cX0_passNow RX0 "passNow" 1 (Option.some Jvm.ClassFile.FieldType.int) fr lo h0 r.2 (QM G (some (.int r.1)) h0 r.2) 0 [(0, .ref a0)] [] h := by
  unfold C_passNow_b at hF
  refine v_aload_n dX0_passNow_0 rfl 0 rfl ?_
  obtain ⟨v21, e_v21, hF⟩ := Option.bind_eq_some_iff.mp hF
  refine v_calV1 dX0_passNow_1 vl_X0_135 q486 (rc_C_books e_v21) (ct_C_books e_v21) rfl rfl (Nat.le_trans (Nat.le_of_ble_eq_true rfl) hfr) (Nat.le_trans (Nat.le_of_ble_eq_true rfl) hlo) (Nat.le_of_ble_eq_true rfl) ?_
  refine v_geti dX0_passNow_4 fl_X0_204 hF (fun v22 hF => ?_)
  refine v_sipush dX0_passNow_7 (v := 999) (by decide) ?_
  refine v_icmp_ne (tgt := 16) dX0_passNow_10 (by decide) hF (fun hF => ?_) (fun hF => ?_)
  · refine v_aload_n dX0_passNow_16 rfl 0 rfl ?_
    refine v_getr dX0_passNow_17 fl_X0_23 hF (fun v23 hF => ?_)
    refine v_aload_n dX0_passNow_20 rfl 0 rfl ?_
    obtain ⟨v24, e_v24, hF⟩ := Option.bind_eq_some_iff.mp hF
    refine v_calV1 dX0_passNow_21 vl_X0_135 q486 (rc_C_books e_v24) (ct_C_books e_v24) rfl rfl (Nat.le_trans (Nat.le_of_ble_eq_true rfl) hfr) (Nat.le_trans (Nat.le_of_ble_eq_true rfl) hlo) (Nat.le_of_ble_eq_true rfl) ?_
    refine v_iconst dX0_passNow_24 (v := 3) (by decide) ?_
    obtain ⟨h25, e_h25, hF⟩ := Option.bind_eq_some_iff.mp hF
    refine v_calV0 dX0_passNow_25 vl_X0_302 q1313 (rc_X3_append e_h25) (ct_X3_append e_h25) rfl rfl (Nat.le_trans (Nat.le_of_ble_eq_true rfl) hfr) (Nat.le_trans (Nat.le_of_ble_eq_true rfl) hlo) (Nat.le_of_ble_eq_true rfl) ?_
    refine v_aload_n dX0_passNow_28 rfl 0 rfl ?_
    obtain ⟨v27, h26, e_v27, hF⟩ := bd2_spec hF
    refine v_calV1 dX0_passNow_29 vl_X0_324 q1355 (rc_C_passIt e_v27) (ct_C_passIt e_v27) rfl rfl (Nat.le_trans (Nat.le_of_ble_eq_true rfl) hfr) (Nat.le_trans (Nat.le_of_ble_eq_true rfl) hlo) (Nat.le_of_ble_eq_true rfl) ?_
    cases hF
    exact v_iret dX0_passNow_32 rfl rfl rfl rfl
  · refine v_bipush dX0_passNow_13 (v := -3) (by decide) ?_
    cases hF
    exact v_iret dX0_passNow_15 rfl rfl rfl rfl
def C_passNow (N : Nat) (a0 : Nat) (h : Hp) : Option (Int32 × Hp) := (ob h a0 [0]).bind fun _ => C_passNow_b N a0 h
theorem rc_C_passNow {N : Nat}  {r : (Int32 × Hp)} {a0 : Nat} {h : Hp} (hF : C_passNow N a0 h = some r) : RC h a0 [0] := by
  obtain ⟨o, ho, -⟩ := Option.bind_eq_some_iff.mp hF
  exact ⟨o, ho⟩
theorem ct_C_passNow {l : Launch} {G : GT} {N : Nat} {r : (Int32 × Hp)} {a0 : Nat} {h : Hp} (hF : C_passNow N a0 h = some r) : Ct l G yX0_passNow (ws_ yX0_passNow cX0_passNow 1 (Option.some Jvm.ClassFile.FieldType.int)) 200 5053 [.ref a0] h (some (.int r.1)) r.2 :=
  ct_of (by decide) (Nat.le_of_ble_eq_true rfl) (w_C_passNow_b (Nat.le_refl _) (Nat.le_refl _) (Option.bind_eq_some_iff.mp hF).choose_spec.2)
theorem vl_X0_327 : ∀ ci ∈ [0], VL RX0 327 ci yX0_passNow 0 := by
  intro ci h
  simp only [List.mem_cons, List.not_mem_nil, or_false] at h
  subst h; exact ⟨RX0, TX0, 31, rfl, q137, ⟨by decide, by decide⟩, by decide +kernel, q1350, Or.inl ⟨q1348, qs32⟩⟩
def C_pass_b (N : Nat) (a0 : Nat) (h : Hp) : Option (Int32 × Hp) :=
  bd2 (C_passNow N a0 h) fun v22 h21 =>
  bd2 (C_tell a0 v22 h21) fun v24 h23 =>
  some (v24, h23)
theorem w_C_pass_b {l : Launch} {G : GT} {fr lo : Nat} {h0 : Hp} {N : Nat} {r : (Int32 × Hp)} (hfr : 201 ≤ fr) (hlo : 5073 ≤ lo) {a0 : Nat} {h : Hp} (hF : C_pass_b N a0 h = some r) : V l G cX0_pass RX0 "pass" 1 (Option.some Jvm.ClassFile.FieldType.int) fr lo h0 r.2 (QM G (some (.int r.1)) h0 r.2) 0 [(0, .ref a0)] [] h := by
  unfold C_pass_b at hF
  refine v_aload_n dX0_pass_0 rfl 0 rfl ?_
  refine v_aload_n dX0_pass_1 rfl 0 rfl ?_
  obtain ⟨v22, h21, e_v22, hF⟩ := bd2_spec hF
  refine v_calV1 dX0_pass_2 vl_X0_327 q1351 (rc_C_passNow e_v22) (ct_C_passNow e_v22) rfl rfl (Nat.le_trans (Nat.le_of_ble_eq_true rfl) hfr) (Nat.le_trans (Nat.le_of_ble_eq_true rfl) hlo) (Nat.le_of_ble_eq_true rfl) ?_
  obtain ⟨v24, h23, e_v24, hF⟩ := bd2_spec hF
  refine v_calV1 dX0_pass_5 vl_X0_112 q494 (rc_C_tell e_v24) (ct_C_tell e_v24) rfl rfl (Nat.le_trans (Nat.le_of_ble_eq_true rfl) hfr) (Nat.le_trans (Nat.le_of_ble_eq_true rfl) hlo) (Nat.le_of_ble_eq_true rfl) ?_
  cases hF
  exact v_iret dX0_pass_8 rfl rfl rfl rfl
def C_pass (N : Nat) (a0 : Nat) (h : Hp) : Option (Int32 × Hp) := (ob h a0 [0]).bind fun _ => C_pass_b N a0 h
theorem rc_C_pass {N : Nat}  {r : (Int32 × Hp)} {a0 : Nat} {h : Hp} (hF : C_pass N a0 h = some r) : RC h a0 [0] := by
  obtain ⟨o, ho, -⟩ := Option.bind_eq_some_iff.mp hF
  exact ⟨o, ho⟩
theorem ct_C_pass {l : Launch} {G : GT} {N : Nat} {r : (Int32 × Hp)} {a0 : Nat} {h : Hp} (hF : C_pass N a0 h = some r) : Ct l G yX0_pass (ws_ yX0_pass cX0_pass 1 (Option.some Jvm.ClassFile.FieldType.int)) 201 5073 [.ref a0] h (some (.int r.1)) r.2 :=
  ct_of (by decide) (Nat.le_of_ble_eq_true rfl) (w_C_pass_b (Nat.le_refl _) (Nat.le_refl _) (Option.bind_eq_some_iff.mp hF).choose_spec.2)
theorem vl_X0_334 : ∀ ci ∈ [2], VL RX0 334 ci yX2_as 1 := by
  intro ci h
  simp only [List.mem_cons, List.not_mem_nil, or_false] at h
  subst h; exact ⟨RX2, TX2, 4, rfl, q142, ⟨by decide, by decide⟩, by decide +kernel, q1316, Or.inl ⟨q1361, q1317⟩⟩
theorem fl_X0_338 : FL RX0 338 [2] 3 := by
  intro ci h
  simp only [List.mem_cons, List.not_mem_nil, or_false] at h
  subst h; exact ⟨RX2, _, TX2, 4, rfl, in_X2, by decide, Or.inr ⟨_, q237⟩, Or.inl rfl⟩
theorem fl_X0_109 : FL RX0 109 [3] 1 := by
  intro ci h
  simp only [List.mem_cons, List.not_mem_nil, or_false] at h
  subst h; exact ⟨RX3, _, TX3, 2, rfl, in_X3, by decide, Or.inr ⟨_, q310⟩, Or.inl rfl⟩
theorem fl_X0_330 : FL RX0 330 [3] 0 := by
  intro ci h
  simp only [List.mem_cons, List.not_mem_nil, or_false] at h
  subst h; exact ⟨RX3, _, TX3, 2, rfl, in_X3, by decide, Or.inr ⟨_, q308⟩, Or.inl rfl⟩
def C_undo_b (a0 : Nat) (h : Hp) : Option (Int32 × Hp) :=
  (gr h a0 [0] 2).bind fun v21 =>
  (gi h v21 [3] 1).bind fun v22 =>
  if v22 = 0 then
    bd2 (C_tell a0 (-3 : Int32) h) fun v43 h42 =>
    some (v43, h42)
  else
    (gr h a0 [0] 2).bind fun v23 =>
    (gi h v23 [3] 1).bind fun v24 =>
    (po h v23 [3] 1 (.int (v24 - (1 : Int32)))).bind fun h25 =>
    (C_books h25 a0).bind fun v26 =>
    (gr h25 a0 [0] 2).bind fun v27 =>
    (gr h25 v27 [3] 0).bind fun v28 =>
    (gr h25 a0 [0] 2).bind fun v29 =>
    (gi h25 v29 [3] 1).bind fun v30 =>
    (aR h25 v28 6 v30).bind fun v31 =>
    bd2 (X2_as v26 v31 h25) fun v33 h32 =>
    (gr h32 a0 [0] 2).bind fun v34 =>
    (gr h32 v34 [3] 0).bind fun v35 =>
    (gr h32 a0 [0] 2).bind fun v36 =>
    (gi h32 v36 [3] 1).bind fun v37 =>
    (aR h32 v35 6 v37).bind fun v38 =>
    (gi h32 v38 [2] 3).bind fun v39 =>
    bd2 (C_tell a0 v39 h32) fun v41 h40 =>
    some (v41, h40)
theorem w_C_undo_b {l : Launch} {G : GT} {fr lo : Nat} {h0 : Hp} {r : (Int32 × Hp)} (hfr : 2 ≤ fr) (hlo : 81 ≤ lo) {a0 : Nat} {h : Hp} (hF : C_undo_b a0 h = some r) : V l G cX0_undo RX0 "undo" 1 (Option.some Jvm.ClassFile.FieldType.int) fr lo h0 r.2 (QM G (some (.int r.1)) h0 r.2) 0 [(0, .ref a0)] [] h := by
  unfold C_undo_b at hF
  refine v_aload_n dX0_undo_0 rfl 0 rfl ?_
  refine v_getr dX0_undo_1 fl_X0_23 hF (fun v21 hF => ?_)
  refine v_geti dX0_undo_4 fl_X0_109 hF (fun v22 hF => ?_)
  refine v_if_ne (tgt := 17) dX0_undo_7 (by decide) hF (fun hF => ?_) (fun hF => ?_)
  · refine v_aload_n dX0_undo_17 rfl 0 rfl ?_
    refine v_getr dX0_undo_18 fl_X0_23 hF (fun v23 hF => ?_)
    refine v_dup dX0_undo_21 rfl ?_
    refine v_geti dX0_undo_22 fl_X0_109 hF (fun v24 hF => ?_)
    refine v_iconst dX0_undo_25 (v := 1) (by decide) ?_
    refine v_isub dX0_undo_26 ?_
    refine v_put dX0_undo_27 pl_X0_109 (fun z => by cases z) rfl rfl hF (fun h25 hF => ?_)
    refine v_aload_n dX0_undo_30 rfl 0 rfl ?_
    obtain ⟨v26, e_v26, hF⟩ := Option.bind_eq_some_iff.mp hF
    refine v_calV1 dX0_undo_31 vl_X0_135 q486 (rc_C_books e_v26) (ct_C_books e_v26) rfl rfl (Nat.le_trans (Nat.le_of_ble_eq_true rfl) hfr) (Nat.le_trans (Nat.le_of_ble_eq_true rfl) hlo) (Nat.le_of_ble_eq_true rfl) ?_
    refine v_aload_n dX0_undo_34 rfl 0 rfl ?_
    refine v_getr dX0_undo_35 fl_X0_23 hF (fun v27 hF => ?_)
    refine v_getr dX0_undo_38 fl_X0_330 hF (fun v28 hF => ?_)
    refine v_aload_n dX0_undo_41 rfl 0 rfl ?_
    refine v_getr dX0_undo_42 fl_X0_23 hF (fun v29 hF => ?_)
    refine v_geti dX0_undo_45 fl_X0_109 hF (fun v30 hF => ?_)
    refine v_aaldr rfl rfl dX0_undo_48 hF (fun v31 hF => ?_)
    obtain ⟨v33, h32, e_v33, hF⟩ := bd2_spec hF
    refine v_calV1 dX0_undo_49 vl_X0_334 q1318 (rc_X2_as e_v33) (ct_X2_as e_v33) rfl rfl (Nat.le_trans (Nat.le_of_ble_eq_true rfl) hfr) (Nat.le_trans (Nat.le_of_ble_eq_true rfl) hlo) (Nat.le_of_ble_eq_true rfl) ?_
    refine v_pop dX0_undo_52 rfl ?_
    refine v_aload_n dX0_undo_53 rfl 0 rfl ?_
    refine v_aload_n dX0_undo_54 rfl 0 rfl ?_
    refine v_getr dX0_undo_55 fl_X0_23 hF (fun v34 hF => ?_)
    refine v_getr dX0_undo_58 fl_X0_330 hF (fun v35 hF => ?_)
    refine v_aload_n dX0_undo_61 rfl 0 rfl ?_
    refine v_getr dX0_undo_62 fl_X0_23 hF (fun v36 hF => ?_)
    refine v_geti dX0_undo_65 fl_X0_109 hF (fun v37 hF => ?_)
    refine v_aaldr rfl rfl dX0_undo_68 hF (fun v38 hF => ?_)
    refine v_geti dX0_undo_69 fl_X0_338 hF (fun v39 hF => ?_)
    obtain ⟨v41, h40, e_v41, hF⟩ := bd2_spec hF
    refine v_calV1 dX0_undo_72 vl_X0_112 q494 (rc_C_tell e_v41) (ct_C_tell e_v41) rfl rfl (Nat.le_trans (Nat.le_of_ble_eq_true rfl) hfr) (Nat.le_trans (Nat.le_of_ble_eq_true rfl) hlo) (Nat.le_of_ble_eq_true rfl) ?_
    cases hF
    exact v_iret dX0_undo_75 rfl rfl rfl rfl
  · refine v_aload_n dX0_undo_10 rfl 0 rfl ?_
    refine v_bipush dX0_undo_11 (v := -3) (by decide) ?_
    obtain ⟨v43, h42, e_v43, hF⟩ := bd2_spec hF
    refine v_calV1 dX0_undo_13 vl_X0_112 q494 (rc_C_tell e_v43) (ct_C_tell e_v43) rfl rfl (Nat.le_trans (Nat.le_of_ble_eq_true rfl) hfr) (Nat.le_trans (Nat.le_of_ble_eq_true rfl) hlo) (Nat.le_of_ble_eq_true rfl) ?_
    cases hF
    exact v_iret dX0_undo_16 rfl rfl rfl rfl
def C_undo (a0 : Nat) (h : Hp) : Option (Int32 × Hp) := (ob h a0 [0]).bind fun _ => C_undo_b a0 h
theorem rc_C_undo  {r : (Int32 × Hp)} {a0 : Nat} {h : Hp} (hF : C_undo a0 h = some r) : RC h a0 [0] := by
  obtain ⟨o, ho, -⟩ := Option.bind_eq_some_iff.mp hF
  exact ⟨o, ho⟩
theorem ct_C_undo {l : Launch} {G : GT} {r : (Int32 × Hp)} {a0 : Nat} {h : Hp} (hF : C_undo a0 h = some r) : Ct l G yX0_undo (ws_ yX0_undo cX0_undo 1 (Option.some Jvm.ClassFile.FieldType.int)) 2 81 [.ref a0] h (some (.int r.1)) r.2 :=
  ct_of (by decide) (Nat.le_of_ble_eq_true rfl) (w_C_undo_b (Nat.le_refl _) (Nat.le_refl _) (Option.bind_eq_some_iff.mp hF).choose_spec.2)
def C_allNeeds_J55 (N : Nat) (h : Hp) (c22 : Nat → Int32 → Int32 → Int32 → Option Int32) (v37 : Nat) (v38 : Int32) (v39 : Int32) (v40 : Int32) (v41 : Int32) : Option Int32 :=
  c22 v37 (v41 ||| v40) v38 (v39 + (1 : Int32))
theorem w_C_allNeeds_J55 {l : Launch} {G : GT} {fr lo : Nat} {h0 : Hp} {N : Nat} {h : Hp} {r : Int32} (hfr : 1 ≤ fr) (hlo : 21 ≤ lo) {c22 : Nat → Int32 → Int32 → Int32 → Option Int32} (hc22 : ∀ (v28 : Nat) (v29 : Int32) (v30 : Int32) (v31 : Int32), c22 v28 v29 v30 v31 = some r → V l G cX0_allNeeds RX0 "allNeeds" 5 (Option.some Jvm.ClassFile.FieldType.int) fr lo h0 h (QM G (some (.int r)) h0 h) 22 [(0, .ref v28), (2, .int v29), (3, .int v30), (4, .int v31)] [] h) {v37 : Nat} {v38 : Int32} {v39 : Int32} {v40 : Int32} {v41 : Int32} (hF : C_allNeeds_J55 N h c22 v37 v38 v39 v40 v41 = some r) : V l G cX0_allNeeds RX0 "allNeeds" 5 (Option.some Jvm.ClassFile.FieldType.int) fr lo h0 h (QM G (some (.int r)) h0 h) 55 [(0, .ref v37), (3, .int v38), (4, .int v39)] [.int v40, .int v41] h := by
  unfold C_allNeeds_J55 at hF
  refine v_ior dX0_allNeeds_55 ?_
  refine v_istore_n dX0_allNeeds_56 rfl (Nat.le_of_ble_eq_true rfl) (L' := [(2, .int (v41 ||| v40)), (0, .ref v37), (3, .int v38), (4, .int v39)]) rfl ?_
  refine v_iinc dX0_allNeeds_57 3 rfl (v := v39 + (1 : Int32)) (by rfl) (Nat.le_of_ble_eq_true rfl) (L' := [(4, .int (v39 + (1 : Int32))), (2, .int (v41 ||| v40)), (0, .ref v37), (3, .int v38)]) rfl ?_
  refine v_goto (tgt := 22) dX0_allNeeds_60 (by decide) ?_
  exact v_sub [2, 1, 3, 0] rfl (hc22 _ _ _ _ hF)
def C_allNeeds_L22 (N : Nat) (h : Hp) (x22 : Nat → Int32 → Int32 → Option Int32) : Nat → Nat → Int32 → Int32 → Int32 → Option Int32
  | 0, _, _, _, _ => none
  | n45 + 1, v28, v29, v30, v31 =>
    (C_nBooks h v28).bind fun v35 =>
    if v35 ≤ v31 then
      x22 v28 v29 v30
    else
      (C_has v29 v31).bind fun v36 =>
      if v36 = 0 then
        C_allNeeds_J55 N h (C_allNeeds_L22 N h x22 n45) v28 v30 v31 (0 : Int32) v29
      else
        (gr h v28 [0] 0).bind fun v42 =>
        (gr h v42 [1] 3).bind fun v43 =>
        (aI h v43 0 v31).bind fun v44 =>
        C_allNeeds_J55 N h (C_allNeeds_L22 N h x22 n45) v28 v30 v31 v44 v29
theorem w_C_allNeeds_L22 {l : Launch} {G : GT} {fr lo : Nat} {h0 : Hp} {N : Nat} {h : Hp} {r : Int32} (hfr : 1 ≤ fr) (hlo : 21 ≤ lo) {x22 : Nat → Int32 → Int32 → Option Int32} (hx22 : ∀ (v32 : Nat) (v33 : Int32) (v34 : Int32), x22 v32 v33 v34 = some r → V l G cX0_allNeeds RX0 "allNeeds" 5 (Option.some Jvm.ClassFile.FieldType.int) fr lo h0 h (QM G (some (.int r)) h0 h) 63 [(0, .ref v32), (2, .int v33), (3, .int v34)] [] h) : ∀ (n : Nat) (v28 : Nat) (v29 : Int32) (v30 : Int32) (v31 : Int32), C_allNeeds_L22 N h x22 n v28 v29 v30 v31 = some r → V l G cX0_allNeeds RX0 "allNeeds" 5 (Option.some Jvm.ClassFile.FieldType.int) fr lo h0 h (QM G (some (.int r)) h0 h) 22 [(0, .ref v28), (2, .int v29), (3, .int v30), (4, .int v31)] [] h := by
  intro n
  induction n with
  | zero =>
    intro v28 v29 v30 v31 hF
    cases (show (none : Option Int32) = some r from hF)
  | succ n hc22 =>
    intro v28 v29 v30 v31 hF
    rw [C_allNeeds_L22] at hF
    refine v_iload dX0_allNeeds_22 3 rfl ?_
    refine v_aload_n dX0_allNeeds_24 rfl 0 rfl ?_
    obtain ⟨v35, e_v35, hF⟩ := Option.bind_eq_some_iff.mp hF
    refine v_calV1 dX0_allNeeds_25 vl_X0_125 q482 (rc_C_nBooks e_v35) (ct_C_nBooks e_v35) rfl rfl (Nat.le_trans (Nat.le_of_ble_eq_true rfl) hfr) (Nat.le_trans (Nat.le_of_ble_eq_true rfl) hlo) (Nat.le_of_ble_eq_true rfl) ?_
    refine v_icmp_ge (tgt := 63) dX0_allNeeds_28 (by decide) hF (fun hF => ?_) (fun hF => ?_)
    · exact v_sub [0, 1, 2] rfl (hx22 _ _ _ hF)
    · refine v_iload_n dX0_allNeeds_31 rfl 1 rfl ?_
      refine v_iload_n dX0_allNeeds_32 rfl 1 rfl ?_
      refine v_iload dX0_allNeeds_33 3 rfl ?_
      obtain ⟨v36, e_v36, hF⟩ := Option.bind_eq_some_iff.mp hF
      refine v_calS1 dX0_allNeeds_35 sl_X0_141 q516 (ct_C_has e_v36) rfl rfl (Nat.le_trans (Nat.le_of_ble_eq_true rfl) hfr) (Nat.le_trans (Nat.le_of_ble_eq_true rfl) hlo) (Nat.le_of_ble_eq_true rfl) ?_
      refine v_if_eq (tgt := 54) dX0_allNeeds_38 (by decide) hF (fun hF => ?_) (fun hF => ?_)
      · refine v_iconst dX0_allNeeds_54 (v := 0) (by decide) ?_
        exact v_sub [0, 2, 3] rfl (w_C_allNeeds_J55 hfr hlo hc22 hF)
      · refine v_aload_n dX0_allNeeds_41 rfl 0 rfl ?_
        refine v_getr dX0_allNeeds_42 fl_X0_10 hF (fun v42 hF => ?_)
        refine v_getr dX0_allNeeds_45 fl_X0_145 hF (fun v43 hF => ?_)
        refine v_iload dX0_allNeeds_48 3 rfl ?_
        refine v_iald dX0_allNeeds_50 hF (fun v44 hF => ?_)
        refine v_goto (tgt := 55) dX0_allNeeds_51 (by decide) ?_
        exact v_sub [0, 2, 3] rfl (w_C_allNeeds_J55 hfr hlo hc22 hF)
def C_allNeeds_L12 (N : Nat) (h : Hp) (x12 : Int32 → Option Int32) : Nat → Nat → Int32 → Int32 → Option Int32
  | 0, _, _, _ => none
  | n49 + 1, v24, v25, v26 =>
    if v26 = v25 then
      x12 v25
    else
      C_allNeeds_L22 N h (fun v46 v47 v48 =>
        (C_allNeeds_L12 N h x12 n49) v46 v47 v48) N v24 v25 v25 (0 : Int32)
theorem w_C_allNeeds_L12 {l : Launch} {G : GT} {fr lo : Nat} {h0 : Hp} {N : Nat} {h : Hp} {r : Int32} (hfr : 1 ≤ fr) (hlo : 21 ≤ lo) {x12 : Int32 → Option Int32} (hx12 : ∀ (v27 : Int32), x12 v27 = some r → V l G cX0_allNeeds RX0 "allNeeds" 5 (Option.some Jvm.ClassFile.FieldType.int) fr lo h0 h (QM G (some (.int r)) h0 h) 66 [(2, .int v27)] [] h) : ∀ (n : Nat) (v24 : Nat) (v25 : Int32) (v26 : Int32), C_allNeeds_L12 N h x12 n v24 v25 v26 = some r → V l G cX0_allNeeds RX0 "allNeeds" 5 (Option.some Jvm.ClassFile.FieldType.int) fr lo h0 h (QM G (some (.int r)) h0 h) 12 [(0, .ref v24), (2, .int v25), (3, .int v26)] [] h := by
  intro n
  induction n with
  | zero =>
    intro v24 v25 v26 hF
    cases (show (none : Option Int32) = some r from hF)
  | succ n hc12 =>
    intro v24 v25 v26 hF
    rw [C_allNeeds_L12] at hF
    refine v_iload_n dX0_allNeeds_12 rfl 2 rfl ?_
    refine v_iload_n dX0_allNeeds_13 rfl 1 rfl ?_
    refine v_icmp_eq (tgt := 66) dX0_allNeeds_14 (by decide) hF (fun hF => ?_) (fun hF => ?_)
    · exact v_sub [1] rfl (hx12 _ hF)
    · refine v_iload_n dX0_allNeeds_17 rfl 1 rfl ?_
      refine v_istore_n dX0_allNeeds_18 rfl (Nat.le_of_ble_eq_true rfl) (L' := [(3, .int v25), (0, .ref v24), (2, .int v25)]) rfl ?_
      refine v_iconst dX0_allNeeds_19 (v := 0) (by decide) ?_
      refine v_istore dX0_allNeeds_20 (Nat.le_of_ble_eq_true rfl) (L' := [(4, .int (0 : Int32)), (3, .int v25), (0, .ref v24), (2, .int v25)]) rfl ?_
      refine v_sub [2, 3, 1, 0] rfl (w_C_allNeeds_L22 hfr hlo ?_ N _ _ _ _ hF)
      intro v46 v47 v48 hF
      refine v_goto (tgt := 12) dX0_allNeeds_63 (by decide) ?_
      exact v_sub [0, 1, 2] rfl (hc12 _ _ _ hF)
def C_allNeeds_b (N : Nat) (h : Hp) (a0 : Nat) (a1 : Int32) : Option Int32 :=
  (gr h a0 [0] 0).bind fun v21 =>
  (gr h v21 [1] 3).bind fun v22 =>
  (aI h v22 0 a1).bind fun v23 =>
  C_allNeeds_L12 N h (fun v50 =>
    some v50) N a0 v23 (-1 : Int32)
theorem w_C_allNeeds_b {l : Launch} {G : GT} {fr lo : Nat} {h0 : Hp} {N : Nat} {h : Hp} {r : Int32} (hfr : 1 ≤ fr) (hlo : 21 ≤ lo) {a0 : Nat} {a1 : Int32} (hF : C_allNeeds_b N h a0 a1 = some r) : V l G cX0_allNeeds RX0 "allNeeds" 5 (Option.some Jvm.ClassFile.FieldType.int) fr lo h0 h (QM G (some (.int r)) h0 h) 0 [(0, .ref a0), (1, .int a1)] [] h := by
  unfold C_allNeeds_b at hF
  refine v_aload_n dX0_allNeeds_0 rfl 0 rfl ?_
  refine v_getr dX0_allNeeds_1 fl_X0_10 hF (fun v21 hF => ?_)
  refine v_getr dX0_allNeeds_4 fl_X0_145 hF (fun v22 hF => ?_)
  refine v_iload_n dX0_allNeeds_7 rfl 1 rfl ?_
  refine v_iald dX0_allNeeds_8 hF (fun v23 hF => ?_)
  refine v_istore_n dX0_allNeeds_9 rfl (Nat.le_of_ble_eq_true rfl) (L' := [(2, .int v23), (0, .ref a0), (1, .int a1)]) rfl ?_
  refine v_iconst dX0_allNeeds_10 (v := -1) (by decide) ?_
  refine v_istore_n dX0_allNeeds_11 rfl (Nat.le_of_ble_eq_true rfl) (L' := [(3, .int (-1 : Int32)), (2, .int v23), (0, .ref a0), (1, .int a1)]) rfl ?_
  refine v_sub [2, 1, 0] rfl (w_C_allNeeds_L12 hfr hlo ?_ N _ _ _ hF)
  intro v50 hF
  refine v_iload_n dX0_allNeeds_66 rfl 0 rfl ?_
  cases hF
  exact v_iret dX0_allNeeds_67 rfl rfl rfl rfl
def C_allNeeds (N : Nat) (h : Hp) (a0 : Nat) (a1 : Int32) : Option Int32 := (ob h a0 [0]).bind fun _ => C_allNeeds_b N h a0 a1
theorem rc_C_allNeeds {N : Nat} {h : Hp}  {r : Int32} {a0 : Nat} {a1 : Int32} (hF : C_allNeeds N h a0 a1 = some r) : RC h a0 [0] := by
  obtain ⟨o, ho, -⟩ := Option.bind_eq_some_iff.mp hF
  exact ⟨o, ho⟩
theorem ct_C_allNeeds {l : Launch} {G : GT} {N : Nat} {h : Hp} {r : Int32} {a0 : Nat} {a1 : Int32} (hF : C_allNeeds N h a0 a1 = some r) : Ct l G yX0_allNeeds (ws_ yX0_allNeeds cX0_allNeeds 5 (Option.some Jvm.ClassFile.FieldType.int)) 1 21 [.ref a0, .int a1] h (some (.int r)) h :=
  ct_of (by decide) (Nat.le_of_ble_eq_true rfl) (w_C_allNeeds_b (Nat.le_refl _) (Nat.le_refl _) (Option.bind_eq_some_iff.mp hF).choose_spec.2)
theorem vl_X0_341 : ∀ ci ∈ [0], VL RX0 341 ci yX0_allNeeds 1 := by
  intro ci h
  simp only [List.mem_cons, List.not_mem_nil, or_false] at h
  subst h; exact ⟨RX0, TX0, 31, rfl, q137, ⟨by decide, by decide⟩, by decide +kernel, q1368, Or.inl ⟨q1366, qs34⟩⟩
def C_needs_b (N : Nat) (h : Hp) (a0 : Nat) (a1 : Int32) : Option Int32 :=
  (C_isBook h a0 a1).bind fun v21 =>
  if v21 = 0 then
    some (-1 : Int32)
  else
    (C_allNeeds N h a0 a1).bind fun v22 =>
    some v22
theorem w_C_needs_b {l : Launch} {G : GT} {fr lo : Nat} {h0 : Hp} {N : Nat} {h : Hp} {r : Int32} (hfr : 2 ≤ fr) (hlo : 46 ≤ lo) {a0 : Nat} {a1 : Int32} (hF : C_needs_b N h a0 a1 = some r) : V l G cX0_needs RX0 "needs" 2 (Option.some Jvm.ClassFile.FieldType.int) fr lo h0 h (QM G (some (.int r)) h0 h) 0 [(0, .ref a0), (1, .int a1)] [] h := by
  unfold C_needs_b at hF
  refine v_aload_n dX0_needs_0 rfl 0 rfl ?_
  refine v_iload_n dX0_needs_1 rfl 1 rfl ?_
  obtain ⟨v21, e_v21, hF⟩ := Option.bind_eq_some_iff.mp hF
  refine v_calV1 dX0_needs_2 vl_X0_172 q505 (rc_C_isBook e_v21) (ct_C_isBook e_v21) rfl rfl (Nat.le_trans (Nat.le_of_ble_eq_true rfl) hfr) (Nat.le_trans (Nat.le_of_ble_eq_true rfl) hlo) (Nat.le_of_ble_eq_true rfl) ?_
  refine v_if_eq (tgt := 16) dX0_needs_5 (by decide) hF (fun hF => ?_) (fun hF => ?_)
  · refine v_iconst dX0_needs_16 (v := -1) (by decide) ?_
    cases hF
    exact v_iret dX0_needs_17 rfl rfl rfl rfl
  · refine v_aload_n dX0_needs_8 rfl 0 rfl ?_
    refine v_iload_n dX0_needs_9 rfl 1 rfl ?_
    obtain ⟨v22, e_v22, hF⟩ := Option.bind_eq_some_iff.mp hF
    refine v_calV1 dX0_needs_10 vl_X0_341 q1369 (rc_C_allNeeds e_v22) (ct_C_allNeeds e_v22) rfl rfl (Nat.le_trans (Nat.le_of_ble_eq_true rfl) hfr) (Nat.le_trans (Nat.le_of_ble_eq_true rfl) hlo) (Nat.le_of_ble_eq_true rfl) ?_
    refine v_goto (tgt := 17) dX0_needs_13 (by decide) ?_
    cases hF
    exact v_iret dX0_needs_17 rfl rfl rfl rfl
def C_needs (N : Nat) (h : Hp) (a0 : Nat) (a1 : Int32) : Option Int32 := (ob h a0 [0]).bind fun _ => C_needs_b N h a0 a1
theorem rc_C_needs {N : Nat} {h : Hp}  {r : Int32} {a0 : Nat} {a1 : Int32} (hF : C_needs N h a0 a1 = some r) : RC h a0 [0] := by
  obtain ⟨o, ho, -⟩ := Option.bind_eq_some_iff.mp hF
  exact ⟨o, ho⟩
theorem ct_C_needs {l : Launch} {G : GT} {N : Nat} {h : Hp} {r : Int32} {a0 : Nat} {a1 : Int32} (hF : C_needs N h a0 a1 = some r) : Ct l G yX0_needs (ws_ yX0_needs cX0_needs 2 (Option.some Jvm.ClassFile.FieldType.int)) 2 46 [.ref a0, .int a1] h (some (.int r)) h :=
  ct_of (by decide) (Nat.le_of_ble_eq_true rfl) (w_C_needs_b (Nat.le_refl _) (Nat.le_refl _) (Option.bind_eq_some_iff.mp hF).choose_spec.2)
def C_all_b (h : Hp) (a0 : Nat) : Option Int32 :=
  (C_nBooks h a0).bind fun v21 =>
  some (((1 : Int32) <<< (v21 &&& 31)) - (1 : Int32))
theorem w_C_all_b {l : Launch} {G : GT} {fr lo : Nat} {h0 : Hp} {h : Hp} {r : Int32} (hfr : 1 ≤ fr) (hlo : 20 ≤ lo) {a0 : Nat} (hF : C_all_b h a0 = some r) : V l G cX0_all RX0 "all" 1 (Option.some Jvm.ClassFile.FieldType.int) fr lo h0 h (QM G (some (.int r)) h0 h) 0 [(0, .ref a0)] [] h := by
  unfold C_all_b at hF
  refine v_iconst dX0_all_0 (v := 1) (by decide) ?_
  refine v_aload_n dX0_all_1 rfl 0 rfl ?_
  obtain ⟨v21, e_v21, hF⟩ := Option.bind_eq_some_iff.mp hF
  refine v_calV1 dX0_all_2 vl_X0_125 q482 (rc_C_nBooks e_v21) (ct_C_nBooks e_v21) rfl rfl (Nat.le_trans (Nat.le_of_ble_eq_true rfl) hfr) (Nat.le_trans (Nat.le_of_ble_eq_true rfl) hlo) (Nat.le_of_ble_eq_true rfl) ?_
  refine v_ishl dX0_all_5 ?_
  refine v_iconst dX0_all_6 (v := 1) (by decide) ?_
  refine v_isub dX0_all_7 ?_
  cases hF
  exact v_iret dX0_all_8 rfl rfl rfl rfl
def C_all (h : Hp) (a0 : Nat) : Option Int32 := (ob h a0 [0]).bind fun _ => C_all_b h a0
theorem rc_C_all {h : Hp}  {r : Int32} {a0 : Nat} (hF : C_all h a0 = some r) : RC h a0 [0] := by
  obtain ⟨o, ho, -⟩ := Option.bind_eq_some_iff.mp hF
  exact ⟨o, ho⟩
theorem ct_C_all {l : Launch} {G : GT} {h : Hp} {r : Int32} {a0 : Nat} (hF : C_all h a0 = some r) : Ct l G yX0_all (ws_ yX0_all cX0_all 1 (Option.some Jvm.ClassFile.FieldType.int)) 1 20 [.ref a0] h (some (.int r)) h :=
  ct_of (by decide) (Nat.le_of_ble_eq_true rfl) (w_C_all_b (Nat.le_refl _) (Nat.le_refl _) (Option.bind_eq_some_iff.mp hF).choose_spec.2)
def C_within_J44 (N : Nat) (h : Hp) (c19 : Nat → Int32 → Int32 → Int32 → Option Int32) (v36 : Nat) (v37 : Int32) (v38 : Int32) (v39 : Int32) (v40 : Int32) : Option Int32 :=
  c19 v36 (v40 ||| v39) v37 (v38 + (1 : Int32))
theorem w_C_within_J44 {l : Launch} {G : GT} {fr lo : Nat} {h0 : Hp} {N : Nat} {h : Hp} {r : Int32} (hfr : 2 ≤ fr) (hlo : 43 ≤ lo) {c19 : Nat → Int32 → Int32 → Int32 → Option Int32} (hc19 : ∀ (v27 : Nat) (v28 : Int32) (v29 : Int32) (v30 : Int32), c19 v27 v28 v29 v30 = some r → V l G cX0_within RX0 "within" 4 (Option.some Jvm.ClassFile.FieldType.int) fr lo h0 h (QM G (some (.int r)) h0 h) 19 [(0, .ref v27), (1, .int v28), (2, .int v29), (3, .int v30)] [] h) {v36 : Nat} {v37 : Int32} {v38 : Int32} {v39 : Int32} {v40 : Int32} (hF : C_within_J44 N h c19 v36 v37 v38 v39 v40 = some r) : V l G cX0_within RX0 "within" 4 (Option.some Jvm.ClassFile.FieldType.int) fr lo h0 h (QM G (some (.int r)) h0 h) 44 [(0, .ref v36), (2, .int v37), (3, .int v38)] [.int v39, .int v40] h := by
  unfold C_within_J44 at hF
  refine v_ior dX0_within_44 ?_
  refine v_istore_n dX0_within_45 rfl (Nat.le_of_ble_eq_true rfl) (L' := [(1, .int (v40 ||| v39)), (0, .ref v36), (2, .int v37), (3, .int v38)]) rfl ?_
  refine v_iinc dX0_within_46 3 rfl (v := v38 + (1 : Int32)) (by rfl) (Nat.le_of_ble_eq_true rfl) (L' := [(3, .int (v38 + (1 : Int32))), (1, .int (v40 ||| v39)), (0, .ref v36), (2, .int v37)]) rfl ?_
  refine v_goto (tgt := 19) dX0_within_49 (by decide) ?_
  exact v_sub [2, 1, 3, 0] rfl (hc19 _ _ _ _ hF)
def C_within_L19 (N : Nat) (h : Hp) (x19 : Nat → Int32 → Int32 → Option Int32) : Nat → Nat → Int32 → Int32 → Int32 → Option Int32
  | 0, _, _, _, _ => none
  | n41 + 1, v27, v28, v29, v30 =>
    (C_nBooks h v27).bind fun v34 =>
    if v34 ≤ v30 then
      x19 v27 v28 v29
    else
      (C_isOpen h v27 v30 v28).bind fun v35 =>
      C_within_J44 N h (C_within_L19 N h x19 n41) v27 v29 v30 (if v35 = 0 then (0 : Int32) else ((1 : Int32) <<< (v30 &&& 31))) v28
theorem w_C_within_L19 {l : Launch} {G : GT} {fr lo : Nat} {h0 : Hp} {N : Nat} {h : Hp} {r : Int32} (hfr : 2 ≤ fr) (hlo : 43 ≤ lo) {x19 : Nat → Int32 → Int32 → Option Int32} (hx19 : ∀ (v31 : Nat) (v32 : Int32) (v33 : Int32), x19 v31 v32 v33 = some r → V l G cX0_within RX0 "within" 4 (Option.some Jvm.ClassFile.FieldType.int) fr lo h0 h (QM G (some (.int r)) h0 h) 52 [(0, .ref v31), (1, .int v32), (2, .int v33)] [] h) : ∀ (n : Nat) (v27 : Nat) (v28 : Int32) (v29 : Int32) (v30 : Int32), C_within_L19 N h x19 n v27 v28 v29 v30 = some r → V l G cX0_within RX0 "within" 4 (Option.some Jvm.ClassFile.FieldType.int) fr lo h0 h (QM G (some (.int r)) h0 h) 19 [(0, .ref v27), (1, .int v28), (2, .int v29), (3, .int v30)] [] h := by
  intro n
  induction n with
  | zero =>
    intro v27 v28 v29 v30 hF
    cases (show (none : Option Int32) = some r from hF)
  | succ n hc19 =>
    intro v27 v28 v29 v30 hF
    rw [C_within_L19] at hF
    refine v_iload_n dX0_within_19 rfl 3 rfl ?_
    refine v_aload_n dX0_within_20 rfl 0 rfl ?_
    obtain ⟨v34, e_v34, hF⟩ := Option.bind_eq_some_iff.mp hF
    refine v_calV1 dX0_within_21 vl_X0_125 q482 (rc_C_nBooks e_v34) (ct_C_nBooks e_v34) rfl rfl (Nat.le_trans (Nat.le_of_ble_eq_true rfl) hfr) (Nat.le_trans (Nat.le_of_ble_eq_true rfl) hlo) (Nat.le_of_ble_eq_true rfl) ?_
    refine v_icmp_ge (tgt := 52) dX0_within_24 (by decide) hF (fun hF => ?_) (fun hF => ?_)
    · exact v_sub [0, 1, 2] rfl (hx19 _ _ _ hF)
    · refine v_iload_n dX0_within_27 rfl 1 rfl ?_
      refine v_aload_n dX0_within_28 rfl 0 rfl ?_
      refine v_iload_n dX0_within_29 rfl 3 rfl ?_
      refine v_iload_n dX0_within_30 rfl 1 rfl ?_
      obtain ⟨v35, e_v35, hF⟩ := Option.bind_eq_some_iff.mp hF
      refine v_calV1 dX0_within_31 vl_X0_179 q520 (rc_C_isOpen e_v35) (ct_C_isOpen e_v35) rfl rfl (Nat.le_trans (Nat.le_of_ble_eq_true rfl) hfr) (Nat.le_trans (Nat.le_of_ble_eq_true rfl) hlo) (Nat.le_of_ble_eq_true rfl) ?_
      refine v_tern (c := v35 = 0) (x := (0 : Int32)) (y := ((1 : Int32) <<< (v30 &&& 31))) (pcj := 44) (st := [.int v28]) ?_ (fun kt kf => v_if_eq0 (tgt := 43) dX0_within_34 (by decide) kt kf) (fun K => ?_) (fun K => ?_)
      · exact v_sub [0, 2, 3] rfl (w_C_within_J44 hfr hlo hc19 hF)
      · refine v_iconst dX0_within_43 (v := 0) (by decide) ?_
        exact K
      · refine v_iconst dX0_within_37 (v := 1) (by decide) ?_
        refine v_iload_n dX0_within_38 rfl 3 rfl ?_
        refine v_ishl dX0_within_39 ?_
        refine v_goto (tgt := 44) dX0_within_40 (by decide) ?_
        exact K
def C_within_L10 (N : Nat) (h : Hp) (x10 : Int32 → Option Int32) : Nat → Nat → Int32 → Int32 → Option Int32
  | 0, _, _, _ => none
  | n45 + 1, v23, v24, v25 =>
    if v25 = v24 then
      x10 v24
    else
      C_within_L19 N h (fun v42 v43 v44 =>
        (C_within_L10 N h x10 n45) v42 v43 v44) N v23 v24 v24 (0 : Int32)
theorem w_C_within_L10 {l : Launch} {G : GT} {fr lo : Nat} {h0 : Hp} {N : Nat} {h : Hp} {r : Int32} (hfr : 2 ≤ fr) (hlo : 43 ≤ lo) {x10 : Int32 → Option Int32} (hx10 : ∀ (v26 : Int32), x10 v26 = some r → V l G cX0_within RX0 "within" 4 (Option.some Jvm.ClassFile.FieldType.int) fr lo h0 h (QM G (some (.int r)) h0 h) 55 [(1, .int v26)] [] h) : ∀ (n : Nat) (v23 : Nat) (v24 : Int32) (v25 : Int32), C_within_L10 N h x10 n v23 v24 v25 = some r → V l G cX0_within RX0 "within" 4 (Option.some Jvm.ClassFile.FieldType.int) fr lo h0 h (QM G (some (.int r)) h0 h) 10 [(0, .ref v23), (1, .int v24), (2, .int v25)] [] h := by
  intro n
  induction n with
  | zero =>
    intro v23 v24 v25 hF
    cases (show (none : Option Int32) = some r from hF)
  | succ n hc10 =>
    intro v23 v24 v25 hF
    rw [C_within_L10] at hF
    refine v_iload_n dX0_within_10 rfl 2 rfl ?_
    refine v_iload_n dX0_within_11 rfl 1 rfl ?_
    refine v_icmp_eq (tgt := 55) dX0_within_12 (by decide) hF (fun hF => ?_) (fun hF => ?_)
    · exact v_sub [1] rfl (hx10 _ hF)
    · refine v_iload_n dX0_within_15 rfl 1 rfl ?_
      refine v_istore_n dX0_within_16 rfl (Nat.le_of_ble_eq_true rfl) (L' := [(2, .int v24), (0, .ref v23), (1, .int v24)]) rfl ?_
      refine v_iconst dX0_within_17 (v := 0) (by decide) ?_
      refine v_istore_n dX0_within_18 rfl (Nat.le_of_ble_eq_true rfl) (L' := [(3, .int (0 : Int32)), (2, .int v24), (0, .ref v23), (1, .int v24)]) rfl ?_
      refine v_sub [2, 3, 1, 0] rfl (w_C_within_L19 hfr hlo ?_ N _ _ _ _ hF)
      intro v42 v43 v44 hF
      refine v_goto (tgt := 10) dX0_within_52 (by decide) ?_
      exact v_sub [0, 1, 2] rfl (hc10 _ _ _ hF)
def C_within_b (N : Nat) (h : Hp) (a0 : Nat) : Option Int32 :=
  (C_books h a0).bind fun v21 =>
  (gi h v21 [2] 1).bind fun v22 =>
  C_within_L10 N h (fun v46 =>
    some v46) N a0 v22 (-1 : Int32)
theorem w_C_within_b {l : Launch} {G : GT} {fr lo : Nat} {h0 : Hp} {N : Nat} {h : Hp} {r : Int32} (hfr : 2 ≤ fr) (hlo : 43 ≤ lo) {a0 : Nat} (hF : C_within_b N h a0 = some r) : V l G cX0_within RX0 "within" 4 (Option.some Jvm.ClassFile.FieldType.int) fr lo h0 h (QM G (some (.int r)) h0 h) 0 [(0, .ref a0)] [] h := by
  unfold C_within_b at hF
  refine v_aload_n dX0_within_0 rfl 0 rfl ?_
  obtain ⟨v21, e_v21, hF⟩ := Option.bind_eq_some_iff.mp hF
  refine v_calV1 dX0_within_1 vl_X0_135 q486 (rc_C_books e_v21) (ct_C_books e_v21) rfl rfl (Nat.le_trans (Nat.le_of_ble_eq_true rfl) hfr) (Nat.le_trans (Nat.le_of_ble_eq_true rfl) hlo) (Nat.le_of_ble_eq_true rfl) ?_
  refine v_geti dX0_within_4 fl_X0_138 hF (fun v22 hF => ?_)
  refine v_istore_n dX0_within_7 rfl (Nat.le_of_ble_eq_true rfl) (L' := [(1, .int v22), (0, .ref a0)]) rfl ?_
  refine v_iconst dX0_within_8 (v := -1) (by decide) ?_
  refine v_istore_n dX0_within_9 rfl (Nat.le_of_ble_eq_true rfl) (L' := [(2, .int (-1 : Int32)), (1, .int v22), (0, .ref a0)]) rfl ?_
  refine v_sub [2, 1, 0] rfl (w_C_within_L10 hfr hlo ?_ N _ _ _ hF)
  intro v46 hF
  refine v_iload_n dX0_within_55 rfl 0 rfl ?_
  cases hF
  exact v_iret dX0_within_56 rfl rfl rfl rfl
def C_within (N : Nat) (h : Hp) (a0 : Nat) : Option Int32 := (ob h a0 [0]).bind fun _ => C_within_b N h a0
theorem rc_C_within {N : Nat} {h : Hp}  {r : Int32} {a0 : Nat} (hF : C_within N h a0 = some r) : RC h a0 [0] := by
  obtain ⟨o, ho, -⟩ := Option.bind_eq_some_iff.mp hF
  exact ⟨o, ho⟩
theorem ct_C_within {l : Launch} {G : GT} {N : Nat} {h : Hp} {r : Int32} {a0 : Nat} (hF : C_within N h a0 = some r) : Ct l G yX0_within (ws_ yX0_within cX0_within 4 (Option.some Jvm.ClassFile.FieldType.int)) 2 43 [.ref a0] h (some (.int r)) h :=
  ct_of (by decide) (Nat.le_of_ble_eq_true rfl) (w_C_within_b (Nat.le_refl _) (Nat.le_refl _) (Option.bind_eq_some_iff.mp hF).choose_spec.2)
theorem vl_X0_344 : ∀ ci ∈ [0], VL RX0 344 ci yX0_all 0 := by
  intro ci h
  simp only [List.mem_cons, List.not_mem_nil, or_false] at h
  subst h; exact ⟨RX0, TX0, 31, rfl, q137, ⟨by decide, by decide⟩, by decide +kernel, q1376, Or.inl ⟨q1374, qs35⟩⟩
theorem vl_X0_347 : ∀ ci ∈ [0], VL RX0 347 ci yX0_within 0 := by
  intro ci h
  simp only [List.mem_cons, List.not_mem_nil, or_false] at h
  subst h; exact ⟨RX0, TX0, 31, rfl, q137, ⟨by decide, by decide⟩, by decide +kernel, q1380, Or.inl ⟨q1378, qs36⟩⟩
def C_never_b (N : Nat) (h : Hp) (a0 : Nat) : Option Int32 :=
  (C_all h a0).bind fun v21 =>
  (C_within N h a0).bind fun v22 =>
  some (v21 &&& (v22 ^^^ (-1 : Int32)))
theorem w_C_never_b {l : Launch} {G : GT} {fr lo : Nat} {h0 : Hp} {N : Nat} {h : Hp} {r : Int32} (hfr : 3 ≤ fr) (hlo : 66 ≤ lo) {a0 : Nat} (hF : C_never_b N h a0 = some r) : V l G cX0_never RX0 "never" 1 (Option.some Jvm.ClassFile.FieldType.int) fr lo h0 h (QM G (some (.int r)) h0 h) 0 [(0, .ref a0)] [] h := by
  unfold C_never_b at hF
  refine v_aload_n dX0_never_0 rfl 0 rfl ?_
  obtain ⟨v21, e_v21, hF⟩ := Option.bind_eq_some_iff.mp hF
  refine v_calV1 dX0_never_1 vl_X0_344 q1377 (rc_C_all e_v21) (ct_C_all e_v21) rfl rfl (Nat.le_trans (Nat.le_of_ble_eq_true rfl) hfr) (Nat.le_trans (Nat.le_of_ble_eq_true rfl) hlo) (Nat.le_of_ble_eq_true rfl) ?_
  refine v_aload_n dX0_never_4 rfl 0 rfl ?_
  obtain ⟨v22, e_v22, hF⟩ := Option.bind_eq_some_iff.mp hF
  refine v_calV1 dX0_never_5 vl_X0_347 q1381 (rc_C_within e_v22) (ct_C_within e_v22) rfl rfl (Nat.le_trans (Nat.le_of_ble_eq_true rfl) hfr) (Nat.le_trans (Nat.le_of_ble_eq_true rfl) hlo) (Nat.le_of_ble_eq_true rfl) ?_
  refine v_iconst dX0_never_8 (v := -1) (by decide) ?_
  refine v_ixor dX0_never_9 ?_
  refine v_iand dX0_never_10 ?_
  cases hF
  exact v_iret dX0_never_11 rfl rfl rfl rfl
def C_never (N : Nat) (h : Hp) (a0 : Nat) : Option Int32 := (ob h a0 [0]).bind fun _ => C_never_b N h a0
theorem rc_C_never {N : Nat} {h : Hp}  {r : Int32} {a0 : Nat} (hF : C_never N h a0 = some r) : RC h a0 [0] := by
  obtain ⟨o, ho, -⟩ := Option.bind_eq_some_iff.mp hF
  exact ⟨o, ho⟩
theorem ct_C_never {l : Launch} {G : GT} {N : Nat} {h : Hp} {r : Int32} {a0 : Nat} (hF : C_never N h a0 = some r) : Ct l G yX0_never (ws_ yX0_never cX0_never 1 (Option.some Jvm.ClassFile.FieldType.int)) 3 66 [.ref a0] h (some (.int r)) h :=
  ct_of (by decide) (Nat.le_of_ble_eq_true rfl) (w_C_never_b (Nat.le_refl _) (Nat.le_refl _) (Option.bind_eq_some_iff.mp hF).choose_spec.2)
def C_firstOpen_J19 (N : Nat) (h : Hp) (c2 : Nat → Int32 → Int32 → Int32 → Option Int32) (v27 : Nat) (v28 : Int32) (v29 : Int32) (v30 : Int32) : Option Int32 :=
  c2 v27 v28 v29 (v30 + (1 : Int32))
theorem w_C_firstOpen_J19 {l : Launch} {G : GT} {fr lo : Nat} {h0 : Hp} {N : Nat} {h : Hp} {r : Int32} (hfr : 2 ≤ fr) (hlo : 43 ≤ lo) {c2 : Nat → Int32 → Int32 → Int32 → Option Int32} (hc2 : ∀ (v21 : Nat) (v22 : Int32) (v23 : Int32) (v24 : Int32), c2 v21 v22 v23 v24 = some r → V l G cX0_firstOpen RX0 "firstOpen" 4 (Option.some Jvm.ClassFile.FieldType.int) fr lo h0 h (QM G (some (.int r)) h0 h) 2 [(0, .ref v21), (1, .int v22), (2, .int v23), (3, .int v24)] [] h) {v27 : Nat} {v28 : Int32} {v29 : Int32} {v30 : Int32} (hF : C_firstOpen_J19 N h c2 v27 v28 v29 v30 = some r) : V l G cX0_firstOpen RX0 "firstOpen" 4 (Option.some Jvm.ClassFile.FieldType.int) fr lo h0 h (QM G (some (.int r)) h0 h) 19 [(0, .ref v27), (1, .int v28), (2, .int v29), (3, .int v30)] [] h := by
  unfold C_firstOpen_J19 at hF
  refine v_iinc dX0_firstOpen_19 3 rfl (v := v30 + (1 : Int32)) (by rfl) (Nat.le_of_ble_eq_true rfl) (L' := [(3, .int (v30 + (1 : Int32))), (0, .ref v27), (1, .int v28), (2, .int v29)]) rfl ?_
  refine v_goto (tgt := 2) dX0_firstOpen_22 (by decide) ?_
  exact v_sub [1, 2, 3, 0] rfl (hc2 _ _ _ _ hF)
def C_firstOpen_L2 (N : Nat) (h : Hp) (x2 : Int32 → Option Int32) : Nat → Nat → Int32 → Int32 → Int32 → Option Int32
  | 0, _, _, _, _ => none
  | n32 + 1, v21, v22, v23, v24 =>
    (C_has v22 v24).bind fun v26 =>
    if v26 = 0 then
      C_firstOpen_J19 N h (C_firstOpen_L2 N h x2 n32) v21 v22 v23 v24
    else
      (C_isOpen h v21 v24 v23).bind fun v31 =>
      if v31 = 0 then
        C_firstOpen_J19 N h (C_firstOpen_L2 N h x2 n32) v21 v22 v23 v24
      else
        x2 v24
theorem w_C_firstOpen_L2 {l : Launch} {G : GT} {fr lo : Nat} {h0 : Hp} {N : Nat} {h : Hp} {r : Int32} (hfr : 2 ≤ fr) (hlo : 43 ≤ lo) {x2 : Int32 → Option Int32} (hx2 : ∀ (v25 : Int32), x2 v25 = some r → V l G cX0_firstOpen RX0 "firstOpen" 4 (Option.some Jvm.ClassFile.FieldType.int) fr lo h0 h (QM G (some (.int r)) h0 h) 25 [(3, .int v25)] [] h) : ∀ (n : Nat) (v21 : Nat) (v22 : Int32) (v23 : Int32) (v24 : Int32), C_firstOpen_L2 N h x2 n v21 v22 v23 v24 = some r → V l G cX0_firstOpen RX0 "firstOpen" 4 (Option.some Jvm.ClassFile.FieldType.int) fr lo h0 h (QM G (some (.int r)) h0 h) 2 [(0, .ref v21), (1, .int v22), (2, .int v23), (3, .int v24)] [] h := by
  intro n
  induction n with
  | zero =>
    intro v21 v22 v23 v24 hF
    cases (show (none : Option Int32) = some r from hF)
  | succ n hc2 =>
    intro v21 v22 v23 v24 hF
    rw [C_firstOpen_L2] at hF
    refine v_iload_n dX0_firstOpen_2 rfl 1 rfl ?_
    refine v_iload_n dX0_firstOpen_3 rfl 3 rfl ?_
    obtain ⟨v26, e_v26, hF⟩ := Option.bind_eq_some_iff.mp hF
    refine v_calS1 dX0_firstOpen_4 sl_X0_141 q516 (ct_C_has e_v26) rfl rfl (Nat.le_trans (Nat.le_of_ble_eq_true rfl) hfr) (Nat.le_trans (Nat.le_of_ble_eq_true rfl) hlo) (Nat.le_of_ble_eq_true rfl) ?_
    refine v_if_eq (tgt := 19) dX0_firstOpen_7 (by decide) hF (fun hF => ?_) (fun hF => ?_)
    · exact v_sub [0, 1, 2, 3] rfl (w_C_firstOpen_J19 hfr hlo hc2 hF)
    · refine v_aload_n dX0_firstOpen_10 rfl 0 rfl ?_
      refine v_iload_n dX0_firstOpen_11 rfl 3 rfl ?_
      refine v_iload_n dX0_firstOpen_12 rfl 2 rfl ?_
      obtain ⟨v31, e_v31, hF⟩ := Option.bind_eq_some_iff.mp hF
      refine v_calV1 dX0_firstOpen_13 vl_X0_179 q520 (rc_C_isOpen e_v31) (ct_C_isOpen e_v31) rfl rfl (Nat.le_trans (Nat.le_of_ble_eq_true rfl) hfr) (Nat.le_trans (Nat.le_of_ble_eq_true rfl) hlo) (Nat.le_of_ble_eq_true rfl) ?_
      refine v_if_ne (tgt := 25) dX0_firstOpen_16 (by decide) hF (fun hF => ?_) (fun hF => ?_)
      · exact v_sub [3] rfl (hx2 _ hF)
      · exact v_sub [0, 1, 2, 3] rfl (w_C_firstOpen_J19 hfr hlo hc2 hF)
def C_firstOpen_b (N : Nat) (h : Hp) (a0 : Nat) (a1 : Int32) (a2 : Int32) : Option Int32 :=
  C_firstOpen_L2 N h (fun v33 =>
    some v33) N a0 a1 a2 (0 : Int32)
theorem w_C_firstOpen_b {l : Launch} {G : GT} {fr lo : Nat} {h0 : Hp} {N : Nat} {h : Hp} {r : Int32} (hfr : 2 ≤ fr) (hlo : 43 ≤ lo) {a0 : Nat} {a1 : Int32} {a2 : Int32} (hF : C_firstOpen_b N h a0 a1 a2 = some r) : V l G cX0_firstOpen RX0 "firstOpen" 4 (Option.some Jvm.ClassFile.FieldType.int) fr lo h0 h (QM G (some (.int r)) h0 h) 0 [(0, .ref a0), (1, .int a1), (2, .int a2)] [] h := by
  unfold C_firstOpen_b at hF
  refine v_iconst dX0_firstOpen_0 (v := 0) (by decide) ?_
  refine v_istore_n dX0_firstOpen_1 rfl (Nat.le_of_ble_eq_true rfl) (L' := [(3, .int (0 : Int32)), (0, .ref a0), (1, .int a1), (2, .int a2)]) rfl ?_
  refine v_sub [1, 2, 3, 0] rfl (w_C_firstOpen_L2 hfr hlo ?_ N _ _ _ _ hF)
  intro v33 hF
  refine v_iload_n dX0_firstOpen_25 rfl 0 rfl ?_
  cases hF
  exact v_iret dX0_firstOpen_26 rfl rfl rfl rfl
def C_firstOpen (N : Nat) (h : Hp) (a0 : Nat) (a1 : Int32) (a2 : Int32) : Option Int32 := (ob h a0 [0]).bind fun _ => C_firstOpen_b N h a0 a1 a2
theorem rc_C_firstOpen {N : Nat} {h : Hp}  {r : Int32} {a0 : Nat} {a1 : Int32} {a2 : Int32} (hF : C_firstOpen N h a0 a1 a2 = some r) : RC h a0 [0] := by
  obtain ⟨o, ho, -⟩ := Option.bind_eq_some_iff.mp hF
  exact ⟨o, ho⟩
theorem ct_C_firstOpen {l : Launch} {G : GT} {N : Nat} {h : Hp} {r : Int32} {a0 : Nat} {a1 : Int32} {a2 : Int32} (hF : C_firstOpen N h a0 a1 a2 = some r) : Ct l G yX0_firstOpen (ws_ yX0_firstOpen cX0_firstOpen 4 (Option.some Jvm.ClassFile.FieldType.int)) 2 43 [.ref a0, .int a1, .int a2] h (some (.int r)) h :=
  ct_of (by decide) (Nat.le_of_ble_eq_true rfl) (w_C_firstOpen_b (Nat.le_refl _) (Nat.le_refl _) (Option.bind_eq_some_iff.mp hF).choose_spec.2)
theorem fl_X0_79 : FL RX0 79 [0] 17 := by
  intro ci h
  simp only [List.mem_cons, List.not_mem_nil, or_false] at h
  subst h; exact ⟨RX0, _, TX0, 31, rfl, in_X0, by decide, Or.inl q374, Or.inl rfl⟩
def C_layOrders_J89 (N : Nat) (c35 : Nat → Int32 → Int32 → Int32 → Hp → Option Hp) (v56 : Nat) (v57 : Int32) (v58 : Int32) (v59 : Int32) (v60 : Int32) (v61 : Int32) (v62 : Int32) (v63 : Nat) (h64 : Hp) : Option Hp :=
  (sI h64 v63 0 v62 (v61 + v60)).bind fun h65 =>
  c35 v56 v57 v58 (v59 + (1 : Int32)) h65
theorem w_C_layOrders_J89 {l : Launch} {G : GT} {fr lo : Nat} {h0 : Hp} {N : Nat} {r : Hp} (hfr : 2 ≤ fr) (hlo : 43 ≤ lo) {c35 : Nat → Int32 → Int32 → Int32 → Hp → Option Hp} (hc35 : ∀ (v35 : Nat) (v36 : Int32) (v37 : Int32) (v38 : Int32) (h39 : Hp), c35 v35 v36 v37 v38 h39 = some r → V l G cX0_layOrders RX0 "layOrders" 4 (Option.none : Option Jvm.ClassFile.FieldType) fr lo h0 r (QM G none h0 r) 35 [(0, .ref v35), (1, .int v36), (2, .int v37), (3, .int v38)] [] h39) {v56 : Nat} {v57 : Int32} {v58 : Int32} {v59 : Int32} {v60 : Int32} {v61 : Int32} {v62 : Int32} {v63 : Nat} {h64 : Hp} (hF : C_layOrders_J89 N c35 v56 v57 v58 v59 v60 v61 v62 v63 h64 = some r) : V l G cX0_layOrders RX0 "layOrders" 4 (Option.none : Option Jvm.ClassFile.FieldType) fr lo h0 r (QM G none h0 r) 89 [(0, .ref v56), (1, .int v57), (2, .int v58), (3, .int v59)] [.int v60, .int v61, .int v62, .ref v63] h64 := by
  unfold C_layOrders_J89 at hF
  refine v_iadd dX0_layOrders_89 ?_
  refine v_iast dX0_layOrders_90 hF (fun h65 hF => ?_)
  refine v_iinc dX0_layOrders_91 3 rfl (v := v59 + (1 : Int32)) (by rfl) (Nat.le_of_ble_eq_true rfl) (L' := [(3, .int (v59 + (1 : Int32))), (0, .ref v56), (1, .int v57), (2, .int v58)]) rfl ?_
  refine v_goto (tgt := 35) dX0_layOrders_94 (by decide) ?_
  exact v_sub [1, 2, 3, 0] rfl (hc35 _ _ _ _ _ hF)
def C_layOrders_J88 (N : Nat) (c35 : Nat → Int32 → Int32 → Int32 → Hp → Option Hp) (v48 : Nat) (v49 : Int32) (v50 : Int32) (v51 : Int32) (v52 : Int32) (v53 : Int32) (v54 : Nat) (h55 : Hp) : Option Hp :=
  C_layOrders_J89 N c35 v48 v49 v50 v51 (0 : Int32) v52 v53 v54 h55
theorem w_C_layOrders_J88 {l : Launch} {G : GT} {fr lo : Nat} {h0 : Hp} {N : Nat} {r : Hp} (hfr : 2 ≤ fr) (hlo : 43 ≤ lo) {c35 : Nat → Int32 → Int32 → Int32 → Hp → Option Hp} (hc35 : ∀ (v35 : Nat) (v36 : Int32) (v37 : Int32) (v38 : Int32) (h39 : Hp), c35 v35 v36 v37 v38 h39 = some r → V l G cX0_layOrders RX0 "layOrders" 4 (Option.none : Option Jvm.ClassFile.FieldType) fr lo h0 r (QM G none h0 r) 35 [(0, .ref v35), (1, .int v36), (2, .int v37), (3, .int v38)] [] h39) {v48 : Nat} {v49 : Int32} {v50 : Int32} {v51 : Int32} {v52 : Int32} {v53 : Int32} {v54 : Nat} {h55 : Hp} (hF : C_layOrders_J88 N c35 v48 v49 v50 v51 v52 v53 v54 h55 = some r) : V l G cX0_layOrders RX0 "layOrders" 4 (Option.none : Option Jvm.ClassFile.FieldType) fr lo h0 r (QM G none h0 r) 88 [(0, .ref v48), (1, .int v49), (2, .int v50), (3, .int v51)] [.int v52, .int v53, .ref v54] h55 := by
  unfold C_layOrders_J88 at hF
  refine v_iconst dX0_layOrders_88 (v := 0) (by decide) ?_
  exact v_sub [0, 1, 2, 3] rfl (w_C_layOrders_J89 hfr hlo hc35 hF)
def C_layOrders_L35 (N : Nat) (x35 : Nat → Int32 → Int32 → Hp → Option Hp) : Nat → Nat → Int32 → Int32 → Int32 → Hp → Option Hp
  | 0, _, _, _, _, _ => none
  | n71 + 1, v35, v36, v37, v38, h39 =>
    (C_nBooks h39 v35).bind fun v44 =>
    if v44 ≤ v38 then
      x35 v35 v36 v37 h39
    else
      (gr h39 v35 [0] 17).bind fun v45 =>
      (aI h39 v45 0 v37).bind fun v46 =>
      (C_has v36 v38).bind fun v47 =>
      if v47 = 0 then
        C_layOrders_J88 N (C_layOrders_L35 N x35 n71) v35 v36 v37 v38 v46 v37 v45 h39
      else
        (C_books h39 v35).bind fun v66 =>
        (gi h39 v66 [2] 1).bind fun v67 =>
        (C_isOpen h39 v35 v38 (v67 ||| v37)).bind fun v68 =>
        if v68 = 0 then
          C_layOrders_J88 N (C_layOrders_L35 N x35 n71) v35 v36 v37 v38 v46 v37 v45 h39
        else
          (gr h39 v35 [0] 17).bind fun v69 =>
          (aI h39 v69 0 (v37 ||| ((1 : Int32) <<< (v38 &&& 31)))).bind fun v70 =>
          C_layOrders_J89 N (C_layOrders_L35 N x35 n71) v35 v36 v37 v38 v70 v46 v37 v45 h39
theorem w_C_layOrders_L35 {l : Launch} {G : GT} {fr lo : Nat} {h0 : Hp} {N : Nat} {r : Hp} (hfr : 2 ≤ fr) (hlo : 43 ≤ lo) {x35 : Nat → Int32 → Int32 → Hp → Option Hp} (hx35 : ∀ (v40 : Nat) (v41 : Int32) (v42 : Int32) (h43 : Hp), x35 v40 v41 v42 h43 = some r → V l G cX0_layOrders RX0 "layOrders" 4 (Option.none : Option Jvm.ClassFile.FieldType) fr lo h0 r (QM G none h0 r) 97 [(0, .ref v40), (1, .int v41), (2, .int v42)] [] h43) : ∀ (n : Nat) (v35 : Nat) (v36 : Int32) (v37 : Int32) (v38 : Int32) (h39 : Hp), C_layOrders_L35 N x35 n v35 v36 v37 v38 h39 = some r → V l G cX0_layOrders RX0 "layOrders" 4 (Option.none : Option Jvm.ClassFile.FieldType) fr lo h0 r (QM G none h0 r) 35 [(0, .ref v35), (1, .int v36), (2, .int v37), (3, .int v38)] [] h39 := by
  intro n
  induction n with
  | zero =>
    intro v35 v36 v37 v38 h39 hF
    cases (show (none : Option Hp) = some r from hF)
  | succ n hc35 =>
    intro v35 v36 v37 v38 h39 hF
    rw [C_layOrders_L35] at hF
    refine v_iload_n dX0_layOrders_35 rfl 3 rfl ?_
    refine v_aload_n dX0_layOrders_36 rfl 0 rfl ?_
    obtain ⟨v44, e_v44, hF⟩ := Option.bind_eq_some_iff.mp hF
    refine v_calV1 dX0_layOrders_37 vl_X0_125 q482 (rc_C_nBooks e_v44) (ct_C_nBooks e_v44) rfl rfl (Nat.le_trans (Nat.le_of_ble_eq_true rfl) hfr) (Nat.le_trans (Nat.le_of_ble_eq_true rfl) hlo) (Nat.le_of_ble_eq_true rfl) ?_
    refine v_icmp_ge (tgt := 97) dX0_layOrders_40 (by decide) hF (fun hF => ?_) (fun hF => ?_)
    · exact v_sub [0, 1, 2] rfl (hx35 _ _ _ _ hF)
    · refine v_aload_n dX0_layOrders_43 rfl 0 rfl ?_
      refine v_getr dX0_layOrders_44 fl_X0_79 hF (fun v45 hF => ?_)
      refine v_iload_n dX0_layOrders_47 rfl 2 rfl ?_
      refine v_dup2 dX0_layOrders_48 rfl rfl ?_
      refine v_iald dX0_layOrders_49 hF (fun v46 hF => ?_)
      refine v_iload_n dX0_layOrders_50 rfl 1 rfl ?_
      refine v_iload_n dX0_layOrders_51 rfl 3 rfl ?_
      obtain ⟨v47, e_v47, hF⟩ := Option.bind_eq_some_iff.mp hF
      refine v_calS1 dX0_layOrders_52 sl_X0_141 q516 (ct_C_has e_v47) rfl rfl (Nat.le_trans (Nat.le_of_ble_eq_true rfl) hfr) (Nat.le_trans (Nat.le_of_ble_eq_true rfl) hlo) (Nat.le_of_ble_eq_true rfl) ?_
      refine v_if_eq (tgt := 88) dX0_layOrders_55 (by decide) hF (fun hF => ?_) (fun hF => ?_)
      · exact v_sub [0, 1, 2, 3] rfl (w_C_layOrders_J88 hfr hlo hc35 hF)
      · refine v_aload_n dX0_layOrders_58 rfl 0 rfl ?_
        refine v_iload_n dX0_layOrders_59 rfl 3 rfl ?_
        refine v_aload_n dX0_layOrders_60 rfl 0 rfl ?_
        obtain ⟨v66, e_v66, hF⟩ := Option.bind_eq_some_iff.mp hF
        refine v_calV1 dX0_layOrders_61 vl_X0_135 q486 (rc_C_books e_v66) (ct_C_books e_v66) rfl rfl (Nat.le_trans (Nat.le_of_ble_eq_true rfl) hfr) (Nat.le_trans (Nat.le_of_ble_eq_true rfl) hlo) (Nat.le_of_ble_eq_true rfl) ?_
        refine v_geti dX0_layOrders_64 fl_X0_138 hF (fun v67 hF => ?_)
        refine v_iload_n dX0_layOrders_67 rfl 2 rfl ?_
        refine v_ior dX0_layOrders_68 ?_
        obtain ⟨v68, e_v68, hF⟩ := Option.bind_eq_some_iff.mp hF
        refine v_calV1 dX0_layOrders_69 vl_X0_179 q520 (rc_C_isOpen e_v68) (ct_C_isOpen e_v68) rfl rfl (Nat.le_trans (Nat.le_of_ble_eq_true rfl) hfr) (Nat.le_trans (Nat.le_of_ble_eq_true rfl) hlo) (Nat.le_of_ble_eq_true rfl) ?_
        refine v_if_eq (tgt := 88) dX0_layOrders_72 (by decide) hF (fun hF => ?_) (fun hF => ?_)
        · exact v_sub [0, 1, 2, 3] rfl (w_C_layOrders_J88 hfr hlo hc35 hF)
        · refine v_aload_n dX0_layOrders_75 rfl 0 rfl ?_
          refine v_getr dX0_layOrders_76 fl_X0_79 hF (fun v69 hF => ?_)
          refine v_iload_n dX0_layOrders_79 rfl 2 rfl ?_
          refine v_iconst dX0_layOrders_80 (v := 1) (by decide) ?_
          refine v_iload_n dX0_layOrders_81 rfl 3 rfl ?_
          refine v_ishl dX0_layOrders_82 ?_
          refine v_ior dX0_layOrders_83 ?_
          refine v_iald dX0_layOrders_84 hF (fun v70 hF => ?_)
          refine v_goto (tgt := 89) dX0_layOrders_85 (by decide) ?_
          exact v_sub [0, 1, 2, 3] rfl (w_C_layOrders_J89 hfr hlo hc35 hF)
def C_layOrders_J97 (N : Nat) (c2 : Nat → Int32 → Int32 → Hp → Option Hp) (v76 : Nat) (v77 : Int32) (v78 : Int32) (h79 : Hp) : Option Hp :=
  c2 v76 v77 (v78 + (-1 : Int32)) h79
theorem w_C_layOrders_J97 {l : Launch} {G : GT} {fr lo : Nat} {h0 : Hp} {N : Nat} {r : Hp} (hfr : 2 ≤ fr) (hlo : 43 ≤ lo) {c2 : Nat → Int32 → Int32 → Hp → Option Hp} (hc2 : ∀ (v21 : Nat) (v22 : Int32) (v23 : Int32) (h24 : Hp), c2 v21 v22 v23 h24 = some r → V l G cX0_layOrders RX0 "layOrders" 4 (Option.none : Option Jvm.ClassFile.FieldType) fr lo h0 r (QM G none h0 r) 2 [(0, .ref v21), (1, .int v22), (2, .int v23)] [] h24) {v76 : Nat} {v77 : Int32} {v78 : Int32} {h79 : Hp} (hF : C_layOrders_J97 N c2 v76 v77 v78 h79 = some r) : V l G cX0_layOrders RX0 "layOrders" 4 (Option.none : Option Jvm.ClassFile.FieldType) fr lo h0 r (QM G none h0 r) 97 [(0, .ref v76), (1, .int v77), (2, .int v78)] [] h79 := by
  unfold C_layOrders_J97 at hF
  refine v_iinc dX0_layOrders_97 2 rfl (v := v78 + (-1 : Int32)) (by rfl) (Nat.le_of_ble_eq_true rfl) (L' := [(2, .int (v78 + (-1 : Int32))), (0, .ref v76), (1, .int v77)]) rfl ?_
  refine v_goto (tgt := 2) dX0_layOrders_100 (by decide) ?_
  exact v_sub [1, 2, 0] rfl (hc2 _ _ _ _ hF)
def C_layOrders_J32 (N : Nat) (c2 : Nat → Int32 → Int32 → Hp → Option Hp) (v27 : Nat) (v28 : Int32) (v29 : Int32) (v30 : Int32) (v31 : Int32) (v32 : Nat) (h33 : Hp) : Option Hp :=
  (sI h33 v32 0 v31 v30).bind fun h34 =>
  C_layOrders_L35 N (fun v72 v73 v74 h75 =>
    C_layOrders_J97 N c2 v72 v73 v74 h75) N v27 v28 v29 (0 : Int32) h34
theorem w_C_layOrders_J32 {l : Launch} {G : GT} {fr lo : Nat} {h0 : Hp} {N : Nat} {r : Hp} (hfr : 2 ≤ fr) (hlo : 43 ≤ lo) {c2 : Nat → Int32 → Int32 → Hp → Option Hp} (hc2 : ∀ (v21 : Nat) (v22 : Int32) (v23 : Int32) (h24 : Hp), c2 v21 v22 v23 h24 = some r → V l G cX0_layOrders RX0 "layOrders" 4 (Option.none : Option Jvm.ClassFile.FieldType) fr lo h0 r (QM G none h0 r) 2 [(0, .ref v21), (1, .int v22), (2, .int v23)] [] h24) {v27 : Nat} {v28 : Int32} {v29 : Int32} {v30 : Int32} {v31 : Int32} {v32 : Nat} {h33 : Hp} (hF : C_layOrders_J32 N c2 v27 v28 v29 v30 v31 v32 h33 = some r) : V l G cX0_layOrders RX0 "layOrders" 4 (Option.none : Option Jvm.ClassFile.FieldType) fr lo h0 r (QM G none h0 r) 32 [(0, .ref v27), (1, .int v28), (2, .int v29)] [.int v30, .int v31, .ref v32] h33 := by
  unfold C_layOrders_J32 at hF
  refine v_iast dX0_layOrders_32 hF (fun h34 hF => ?_)
  refine v_iconst dX0_layOrders_33 (v := 0) (by decide) ?_
  refine v_istore_n dX0_layOrders_34 rfl (Nat.le_of_ble_eq_true rfl) (L' := [(3, .int (0 : Int32)), (0, .ref v27), (1, .int v28), (2, .int v29)]) rfl ?_
  refine v_sub [1, 2, 3, 0] rfl (w_C_layOrders_L35 hfr hlo ?_ N _ _ _ _ _ hF)
  intro v72 v73 v74 h75 hF
  exact v_sub [0, 1, 2] rfl (w_C_layOrders_J97 hfr hlo hc2 hF)
def C_layOrders_L2 (N : Nat) (x2 : Hp → Option Hp) : Nat → Nat → Int32 → Int32 → Hp → Option Hp
  | 0, _, _, _, _ => none
  | n80 + 1, v21, v22, v23, h24 =>
    if v23 < 0 then
      x2 h24
    else
      if (v23 &&& (v22 ^^^ (-1 : Int32))) = 0 then
        (gr h24 v21 [0] 17).bind fun v26 =>
        C_layOrders_J32 N (C_layOrders_L2 N x2 n80) v21 v22 v23 (if v23 = v22 then (1 : Int32) else (0 : Int32)) v23 v26 h24
      else
        C_layOrders_J97 N (C_layOrders_L2 N x2 n80) v21 v22 v23 h24
theorem w_C_layOrders_L2 {l : Launch} {G : GT} {fr lo : Nat} {h0 : Hp} {N : Nat} {r : Hp} (hfr : 2 ≤ fr) (hlo : 43 ≤ lo) {x2 : Hp → Option Hp} (hx2 : ∀ (h25 : Hp), x2 h25 = some r → V l G cX0_layOrders RX0 "layOrders" 4 (Option.none : Option Jvm.ClassFile.FieldType) fr lo h0 r (QM G none h0 r) 103 [] [] h25) : ∀ (n : Nat) (v21 : Nat) (v22 : Int32) (v23 : Int32) (h24 : Hp), C_layOrders_L2 N x2 n v21 v22 v23 h24 = some r → V l G cX0_layOrders RX0 "layOrders" 4 (Option.none : Option Jvm.ClassFile.FieldType) fr lo h0 r (QM G none h0 r) 2 [(0, .ref v21), (1, .int v22), (2, .int v23)] [] h24 := by
  intro n
  induction n with
  | zero =>
    intro v21 v22 v23 h24 hF
    cases (show (none : Option Hp) = some r from hF)
  | succ n hc2 =>
    intro v21 v22 v23 h24 hF
    rw [C_layOrders_L2] at hF
    refine v_iload_n dX0_layOrders_2 rfl 2 rfl ?_
    refine v_if_lt (tgt := 103) dX0_layOrders_3 (by decide) hF (fun hF => ?_) (fun hF => ?_)
    · exact v_sub [] rfl (hx2 _ hF)
    · refine v_iload_n dX0_layOrders_6 rfl 2 rfl ?_
      refine v_iload_n dX0_layOrders_7 rfl 1 rfl ?_
      refine v_iconst dX0_layOrders_8 (v := -1) (by decide) ?_
      refine v_ixor dX0_layOrders_9 ?_
      refine v_iand dX0_layOrders_10 ?_
      refine v_if_eq (tgt := 17) dX0_layOrders_11 (by decide) hF (fun hF => ?_) (fun hF => ?_)
      · refine v_aload_n dX0_layOrders_17 rfl 0 rfl ?_
        refine v_getr dX0_layOrders_18 fl_X0_79 hF (fun v26 hF => ?_)
        refine v_iload_n dX0_layOrders_21 rfl 2 rfl ?_
        refine v_iload_n dX0_layOrders_22 rfl 2 rfl ?_
        refine v_iload_n dX0_layOrders_23 rfl 1 rfl ?_
        refine v_tern (c := v23 = v22) (x := (1 : Int32)) (y := (0 : Int32)) (pcj := 32) (st := [.int v23, .ref v26]) ?_ (fun kt kf => v_icmp_ne0 (tgt := 31) dX0_layOrders_24 (by decide) kt kf) (fun K => ?_) (fun K => ?_)
        · exact v_sub [0, 1, 2] rfl (w_C_layOrders_J32 hfr hlo hc2 hF)
        · refine v_iconst dX0_layOrders_27 (v := 1) (by decide) ?_
          refine v_goto (tgt := 32) dX0_layOrders_28 (by decide) ?_
          exact K
        · refine v_iconst dX0_layOrders_31 (v := 0) (by decide) ?_
          exact K
      · refine v_goto (tgt := 97) dX0_layOrders_14 (by decide) ?_
        exact v_sub [0, 1, 2] rfl (w_C_layOrders_J97 hfr hlo hc2 hF)
def C_layOrders_b (N : Nat) (a0 : Nat) (a1 : Int32) (h : Hp) : Option Hp :=
  C_layOrders_L2 N (fun h81 =>
    some h81) N a0 a1 a1 h
theorem w_C_layOrders_b {l : Launch} {G : GT} {fr lo : Nat} {h0 : Hp} {N : Nat} {r : Hp} (hfr : 2 ≤ fr) (hlo : 43 ≤ lo) {a0 : Nat} {a1 : Int32} {h : Hp} (hF : C_layOrders_b N a0 a1 h = some r) : V l G cX0_layOrders RX0 "layOrders" 4 (Option.none : Option Jvm.ClassFile.FieldType) fr lo h0 r (QM G none h0 r) 0 [(0, .ref a0), (1, .int a1)] [] h := by
  unfold C_layOrders_b at hF
  refine v_iload_n dX0_layOrders_0 rfl 1 rfl ?_
  refine v_istore_n dX0_layOrders_1 rfl (Nat.le_of_ble_eq_true rfl) (L' := [(2, .int a1), (0, .ref a0), (1, .int a1)]) rfl ?_
  refine v_sub [1, 2, 0] rfl (w_C_layOrders_L2 hfr hlo ?_ N _ _ _ _ hF)
  intro h81 hF
  cases hF
  exact v_vret dX0_layOrders_103 rfl rfl rfl
def C_layOrders (N : Nat) (a0 : Nat) (a1 : Int32) (h : Hp) : Option Hp := (ob h a0 [0]).bind fun _ => C_layOrders_b N a0 a1 h
theorem rc_C_layOrders {N : Nat}  {r : Hp} {a0 : Nat} {a1 : Int32} {h : Hp} (hF : C_layOrders N a0 a1 h = some r) : RC h a0 [0] := by
  obtain ⟨o, ho, -⟩ := Option.bind_eq_some_iff.mp hF
  exact ⟨o, ho⟩
theorem ct_C_layOrders {l : Launch} {G : GT} {N : Nat} {r : Hp} {a0 : Nat} {a1 : Int32} {h : Hp} (hF : C_layOrders N a0 a1 h = some r) : Ct l G yX0_layOrders (ws_ yX0_layOrders cX0_layOrders 4 (Option.none : Option Jvm.ClassFile.FieldType)) 2 43 [.ref a0, .int a1] h none r :=
  ct_of (by decide) (Nat.le_of_ble_eq_true rfl) (w_C_layOrders_b (Nat.le_refl _) (Nat.le_refl _) (Option.bind_eq_some_iff.mp hF).choose_spec.2)
def C_left_b (N : Nat) (h : Hp) (a0 : Nat) : Option Int32 :=
  (C_within N h a0).bind fun v21 =>
  (C_books h a0).bind fun v22 =>
  (gi h v22 [2] 1).bind fun v23 =>
  some (v21 &&& (v23 ^^^ (-1 : Int32)))
theorem w_C_left_b {l : Launch} {G : GT} {fr lo : Nat} {h0 : Hp} {N : Nat} {h : Hp} {r : Int32} (hfr : 3 ≤ fr) (hlo : 66 ≤ lo) {a0 : Nat} (hF : C_left_b N h a0 = some r) : V l G cX0_left RX0 "left" 1 (Option.some Jvm.ClassFile.FieldType.int) fr lo h0 h (QM G (some (.int r)) h0 h) 0 [(0, .ref a0)] [] h := by
  unfold C_left_b at hF
  refine v_aload_n dX0_left_0 rfl 0 rfl ?_
  obtain ⟨v21, e_v21, hF⟩ := Option.bind_eq_some_iff.mp hF
  refine v_calV1 dX0_left_1 vl_X0_347 q1381 (rc_C_within e_v21) (ct_C_within e_v21) rfl rfl (Nat.le_trans (Nat.le_of_ble_eq_true rfl) hfr) (Nat.le_trans (Nat.le_of_ble_eq_true rfl) hlo) (Nat.le_of_ble_eq_true rfl) ?_
  refine v_aload_n dX0_left_4 rfl 0 rfl ?_
  obtain ⟨v22, e_v22, hF⟩ := Option.bind_eq_some_iff.mp hF
  refine v_calV1 dX0_left_5 vl_X0_135 q486 (rc_C_books e_v22) (ct_C_books e_v22) rfl rfl (Nat.le_trans (Nat.le_of_ble_eq_true rfl) hfr) (Nat.le_trans (Nat.le_of_ble_eq_true rfl) hlo) (Nat.le_of_ble_eq_true rfl) ?_
  refine v_geti dX0_left_8 fl_X0_138 hF (fun v23 hF => ?_)
  refine v_iconst dX0_left_11 (v := -1) (by decide) ?_
  refine v_ixor dX0_left_12 ?_
  refine v_iand dX0_left_13 ?_
  cases hF
  exact v_iret dX0_left_14 rfl rfl rfl rfl
def C_left (N : Nat) (h : Hp) (a0 : Nat) : Option Int32 := (ob h a0 [0]).bind fun _ => C_left_b N h a0
theorem rc_C_left {N : Nat} {h : Hp}  {r : Int32} {a0 : Nat} (hF : C_left N h a0 = some r) : RC h a0 [0] := by
  obtain ⟨o, ho, -⟩ := Option.bind_eq_some_iff.mp hF
  exact ⟨o, ho⟩
theorem ct_C_left {l : Launch} {G : GT} {N : Nat} {h : Hp} {r : Int32} {a0 : Nat} (hF : C_left N h a0 = some r) : Ct l G yX0_left (ws_ yX0_left cX0_left 1 (Option.some Jvm.ClassFile.FieldType.int)) 3 66 [.ref a0] h (some (.int r)) h :=
  ct_of (by decide) (Nat.le_of_ble_eq_true rfl) (w_C_left_b (Nat.le_refl _) (Nat.le_refl _) (Option.bind_eq_some_iff.mp hF).choose_spec.2)
theorem vl_X0_350 : ∀ ci ∈ [0], VL RX0 350 ci yX0_left 0 := by
  intro ci h
  simp only [List.mem_cons, List.not_mem_nil, or_false] at h
  subst h; exact ⟨RX0, TX0, 31, rfl, q137, ⟨by decide, by decide⟩, by decide +kernel, q1388, Or.inl ⟨q1386, qs37⟩⟩
theorem vl_X0_353 : ∀ ci ∈ [0], VL RX0 353 ci yX0_layOrders 1 := by
  intro ci h
  simp only [List.mem_cons, List.not_mem_nil, or_false] at h
  subst h; exact ⟨RX0, TX0, 31, rfl, q137, ⟨by decide, by decide⟩, by decide +kernel, q1392, Or.inl ⟨q1390, qs38⟩⟩
theorem vl_X0_356 : ∀ ci ∈ [0], VL RX0 356 ci yX0_firstOpen 2 := by
  intro ci h
  simp only [List.mem_cons, List.not_mem_nil, or_false] at h
  subst h; exact ⟨RX0, TX0, 31, rfl, q137, ⟨by decide, by decide⟩, by decide +kernel, q1396, Or.inl ⟨q1394, qs39⟩⟩
def C_rows_L37 (N : Nat) (x37 : Int32 → Hp → Option (Int32 × Hp)) : Nat → Nat → Int32 → Int32 → Int32 → Int32 → Int32 → Hp → Option (Int32 × Hp)
  | 0, _, _, _, _, _, _, _ => none
  | n36 + 1, v23, v24, v25, v26, v27, v28, h29 =>
    if v24 < v28 then
      x37 v27 h29
    else
      if v26 = v25 then
        some ((-1 : Int32), h29)
      else
        (C_books h29 v23).bind fun v32 =>
        (gi h29 v32 [2] 1).bind fun v33 =>
        (C_firstOpen N h29 v23 (v25 &&& (v26 ^^^ (-1 : Int32))) (v33 ||| v26)).bind fun v34 =>
        (some (v26 ||| ((1 : Int32) <<< (v34 &&& 31)))).bind fun (v35 : Int32) =>
        (C_rows_L37 N x37 n36) v23 v24 v25 v35 v34 (v28 + (1 : Int32)) h29
theorem w_C_rows_L37 {l : Launch} {G : GT} {fr lo : Nat} {h0 : Hp} {N : Nat} {r : (Int32 × Hp)} (hfr : 4 ≤ fr) (hlo : 86 ≤ lo) {x37 : Int32 → Hp → Option (Int32 × Hp)} (hx37 : ∀ (v30 : Int32) (h31 : Hp), x37 v30 h31 = some r → V l G cX0_rows RX0 "rows" 6 (Option.some Jvm.ClassFile.FieldType.int) fr lo h0 r.2 (QM G (some (.int r.1)) h0 r.2) 83 [(4, .int v30)] [] h31) : ∀ (n : Nat) (v23 : Nat) (v24 : Int32) (v25 : Int32) (v26 : Int32) (v27 : Int32) (v28 : Int32) (h29 : Hp), C_rows_L37 N x37 n v23 v24 v25 v26 v27 v28 h29 = some r → V l G cX0_rows RX0 "rows" 6 (Option.some Jvm.ClassFile.FieldType.int) fr lo h0 r.2 (QM G (some (.int r.1)) h0 r.2) 37 [(0, .ref v23), (1, .int v24), (2, .int v25), (3, .int v26), (4, .int v27), (5, .int v28)] [] h29 := by
  intro n
  induction n with
  | zero =>
    intro v23 v24 v25 v26 v27 v28 h29 hF
    cases (show (none : Option (Int32 × Hp)) = some r from hF)
  | succ n hc37 =>
    intro v23 v24 v25 v26 v27 v28 h29 hF
    rw [C_rows_L37] at hF
    refine v_iload dX0_rows_37 5 rfl ?_
    refine v_iload_n dX0_rows_39 rfl 1 rfl ?_
    refine v_icmp_gt (tgt := 83) dX0_rows_40 (by decide) hF (fun hF => ?_) (fun hF => ?_)
    · exact v_sub [4] rfl (hx37 _ _ hF)
    · refine v_iload_n dX0_rows_43 rfl 3 rfl ?_
      refine v_iload_n dX0_rows_44 rfl 2 rfl ?_
      refine v_icmp_ne (tgt := 50) dX0_rows_45 (by decide) hF (fun hF => ?_) (fun hF => ?_)
      · refine v_aload_n dX0_rows_50 rfl 0 rfl ?_
        refine v_iload_n dX0_rows_51 rfl 2 rfl ?_
        refine v_iload_n dX0_rows_52 rfl 3 rfl ?_
        refine v_iconst dX0_rows_53 (v := -1) (by decide) ?_
        refine v_ixor dX0_rows_54 ?_
        refine v_iand dX0_rows_55 ?_
        refine v_aload_n dX0_rows_56 rfl 0 rfl ?_
        obtain ⟨v32, e_v32, hF⟩ := Option.bind_eq_some_iff.mp hF
        refine v_calV1 dX0_rows_57 vl_X0_135 q486 (rc_C_books e_v32) (ct_C_books e_v32) rfl rfl (Nat.le_trans (Nat.le_of_ble_eq_true rfl) hfr) (Nat.le_trans (Nat.le_of_ble_eq_true rfl) hlo) (Nat.le_of_ble_eq_true rfl) ?_
        refine v_geti dX0_rows_60 fl_X0_138 hF (fun v33 hF => ?_)
        refine v_iload_n dX0_rows_63 rfl 3 rfl ?_
        refine v_ior dX0_rows_64 ?_
        obtain ⟨v34, e_v34, hF⟩ := Option.bind_eq_some_iff.mp hF
        refine v_calV1 dX0_rows_65 vl_X0_356 q1397 (rc_C_firstOpen e_v34) (ct_C_firstOpen e_v34) rfl rfl (Nat.le_trans (Nat.le_of_ble_eq_true rfl) hfr) (Nat.le_trans (Nat.le_of_ble_eq_true rfl) hlo) (Nat.le_of_ble_eq_true rfl) ?_
        refine v_istore dX0_rows_68 (Nat.le_of_ble_eq_true rfl) (L' := [(4, .int v34), (0, .ref v23), (1, .int v24), (2, .int v25), (3, .int v26), (5, .int v28)]) rfl ?_
        refine v_iload_n dX0_rows_70 rfl 4 rfl ?_
        refine v_iconst dX0_rows_71 (v := 1) (by decide) ?_
        refine v_iload dX0_rows_72 0 rfl ?_
        refine v_ishl dX0_rows_74 ?_
        refine v_ior dX0_rows_75 ?_
        refine v_leti hF (fun v35 hF => ?_)
        refine v_istore_n dX0_rows_76 rfl (Nat.le_of_ble_eq_true rfl) (L' := [(3, .int v35), (4, .int v34), (0, .ref v23), (1, .int v24), (2, .int v25), (5, .int v28)]) rfl ?_
        refine v_iinc dX0_rows_77 5 rfl (v := v28 + (1 : Int32)) (by rfl) (Nat.le_of_ble_eq_true rfl) (L' := [(5, .int (v28 + (1 : Int32))), (3, .int v35), (4, .int v34), (0, .ref v23), (1, .int v24), (2, .int v25)]) rfl ?_
        refine v_goto (tgt := 37) dX0_rows_80 (by decide) ?_
        exact v_sub [3, 4, 5, 1, 2, 0] rfl (hc37 _ _ _ _ _ _ _ hF)
      · refine v_iconst dX0_rows_48 (v := -1) (by decide) ?_
        cases hF
        exact v_iret dX0_rows_49 rfl rfl rfl rfl
def C_rows_b (N : Nat) (a0 : Nat) (a1 : Int32) (h : Hp) : Option (Int32 × Hp) :=
  if (-1 : Int32) ≤ a1 then
    (C_left N h a0).bind fun v21 =>
    (C_layOrders N a0 v21 h).bind fun h22 =>
    if a1 = (-1 : Int32) then
      (gr h22 a0 [0] 17).bind fun v39 =>
      (aI h22 v39 0 (0 : Int32)).bind fun v40 =>
      some (v40, h22)
    else
      C_rows_L37 N (fun v37 h38 =>
        some (v37, h38)) N a0 a1 v21 (0 : Int32) (-1 : Int32) (0 : Int32) h22
  else
    some ((-1 : Int32), h)
theorem w_C_rows_b {l : Launch} {G : GT} {fr lo : Nat} {h0 : Hp} {N : Nat} {r : (Int32 × Hp)} (hfr : 4 ≤ fr) (hlo : 86 ≤ lo) {a0 : Nat} {a1 : Int32} {h : Hp} (hF : C_rows_b N a0 a1 h = some r) : V l G cX0_rows RX0 "rows" 6 (Option.some Jvm.ClassFile.FieldType.int) fr lo h0 r.2 (QM G (some (.int r.1)) h0 r.2) 0 [(0, .ref a0), (1, .int a1)] [] h := by
  unfold C_rows_b at hF
  refine v_iload_n dX0_rows_0 rfl 1 rfl ?_
  refine v_iconst dX0_rows_1 (v := -1) (by decide) ?_
  refine v_icmp_ge (tgt := 7) dX0_rows_2 (by decide) hF (fun hF => ?_) (fun hF => ?_)
  · refine v_aload_n dX0_rows_7 rfl 0 rfl ?_
    obtain ⟨v21, e_v21, hF⟩ := Option.bind_eq_some_iff.mp hF
    refine v_calV1 dX0_rows_8 vl_X0_350 q1389 (rc_C_left e_v21) (ct_C_left e_v21) rfl rfl (Nat.le_trans (Nat.le_of_ble_eq_true rfl) hfr) (Nat.le_trans (Nat.le_of_ble_eq_true rfl) hlo) (Nat.le_of_ble_eq_true rfl) ?_
    refine v_istore_n dX0_rows_11 rfl (Nat.le_of_ble_eq_true rfl) (L' := [(2, .int v21), (0, .ref a0), (1, .int a1)]) rfl ?_
    refine v_iconst dX0_rows_12 (v := 0) (by decide) ?_
    refine v_istore_n dX0_rows_13 rfl (Nat.le_of_ble_eq_true rfl) (L' := [(3, .int (0 : Int32)), (2, .int v21), (0, .ref a0), (1, .int a1)]) rfl ?_
    refine v_iconst dX0_rows_14 (v := -1) (by decide) ?_
    refine v_istore dX0_rows_15 (Nat.le_of_ble_eq_true rfl) (L' := [(4, .int (-1 : Int32)), (3, .int (0 : Int32)), (2, .int v21), (0, .ref a0), (1, .int a1)]) rfl ?_
    refine v_aload_n dX0_rows_17 rfl 3 rfl ?_
    refine v_iload_n dX0_rows_18 rfl 2 rfl ?_
    obtain ⟨h22, e_h22, hF⟩ := Option.bind_eq_some_iff.mp hF
    refine v_calV0 dX0_rows_19 vl_X0_353 q1393 (rc_C_layOrders e_h22) (ct_C_layOrders e_h22) rfl rfl (Nat.le_trans (Nat.le_of_ble_eq_true rfl) hfr) (Nat.le_trans (Nat.le_of_ble_eq_true rfl) hlo) (Nat.le_of_ble_eq_true rfl) ?_
    refine v_iload_n dX0_rows_22 rfl 4 rfl ?_
    refine v_iconst dX0_rows_23 (v := -1) (by decide) ?_
    refine v_icmp_ne (tgt := 34) dX0_rows_24 (by decide) hF (fun hF => ?_) (fun hF => ?_)
    · refine v_iconst dX0_rows_34 (v := 0) (by decide) ?_
      refine v_istore dX0_rows_35 (Nat.le_of_ble_eq_true rfl) (L' := [(5, .int (0 : Int32)), (4, .int (-1 : Int32)), (3, .int (0 : Int32)), (2, .int v21), (0, .ref a0), (1, .int a1)]) rfl ?_
      refine v_sub [4, 5, 3, 2, 1, 0] rfl (w_C_rows_L37 hfr hlo ?_ N _ _ _ _ _ _ _ hF)
      intro v37 h38 hF
      refine v_iload dX0_rows_83 0 rfl ?_
      cases hF
      exact v_iret dX0_rows_85 rfl rfl rfl rfl
    · refine v_aload_n dX0_rows_27 rfl 3 rfl ?_
      refine v_getr dX0_rows_28 fl_X0_79 hF (fun v39 hF => ?_)
      refine v_iconst dX0_rows_31 (v := 0) (by decide) ?_
      refine v_iald dX0_rows_32 hF (fun v40 hF => ?_)
      cases hF
      exact v_iret dX0_rows_33 rfl rfl rfl rfl
  · refine v_iconst dX0_rows_5 (v := -1) (by decide) ?_
    cases hF
    exact v_iret dX0_rows_6 rfl rfl rfl rfl
def C_rows (N : Nat) (a0 : Nat) (a1 : Int32) (h : Hp) : Option (Int32 × Hp) := (ob h a0 [0]).bind fun _ => C_rows_b N a0 a1 h
theorem rc_C_rows {N : Nat}  {r : (Int32 × Hp)} {a0 : Nat} {a1 : Int32} {h : Hp} (hF : C_rows N a0 a1 h = some r) : RC h a0 [0] := by
  obtain ⟨o, ho, -⟩ := Option.bind_eq_some_iff.mp hF
  exact ⟨o, ho⟩
theorem ct_C_rows {l : Launch} {G : GT} {N : Nat} {r : (Int32 × Hp)} {a0 : Nat} {a1 : Int32} {h : Hp} (hF : C_rows N a0 a1 h = some r) : Ct l G yX0_rows (ws_ yX0_rows cX0_rows 6 (Option.some Jvm.ClassFile.FieldType.int)) 4 86 [.ref a0, .int a1] h (some (.int r.1)) r.2 :=
  ct_of (by decide) (Nat.le_of_ble_eq_true rfl) (w_C_rows_b (Nat.le_refl _) (Nat.le_refl _) (Option.bind_eq_some_iff.mp hF).choose_spec.2)
def C_leadsTo_J71 (N : Nat) (h : Hp) (c28 : Nat → Int32 → Int32 → Int32 → Option Int32) (v37 : Nat) (v38 : Int32) (v39 : Int32) (v40 : Int32) (v41 : Int32) : Option Int32 :=
  c28 v37 (v41 ||| v40) v38 (v39 + (1 : Int32))
theorem w_C_leadsTo_J71 {l : Launch} {G : GT} {fr lo : Nat} {h0 : Hp} {N : Nat} {h : Hp} {r : Int32} (hfr : 2 ≤ fr) (hlo : 42 ≤ lo) {c28 : Nat → Int32 → Int32 → Int32 → Option Int32} (hc28 : ∀ (v28 : Nat) (v29 : Int32) (v30 : Int32) (v31 : Int32), c28 v28 v29 v30 v31 = some r → V l G cX0_leadsTo RX0 "leadsTo" 5 (Option.some Jvm.ClassFile.FieldType.int) fr lo h0 h (QM G (some (.int r)) h0 h) 28 [(0, .ref v28), (2, .int v29), (3, .int v30), (4, .int v31)] [] h) {v37 : Nat} {v38 : Int32} {v39 : Int32} {v40 : Int32} {v41 : Int32} (hF : C_leadsTo_J71 N h c28 v37 v38 v39 v40 v41 = some r) : V l G cX0_leadsTo RX0 "leadsTo" 5 (Option.some Jvm.ClassFile.FieldType.int) fr lo h0 h (QM G (some (.int r)) h0 h) 71 [(0, .ref v37), (3, .int v38), (4, .int v39)] [.int v40, .int v41] h := by
  unfold C_leadsTo_J71 at hF
  refine v_ior dX0_leadsTo_71 ?_
  refine v_istore_n dX0_leadsTo_72 rfl (Nat.le_of_ble_eq_true rfl) (L' := [(2, .int (v41 ||| v40)), (0, .ref v37), (3, .int v38), (4, .int v39)]) rfl ?_
  refine v_iinc dX0_leadsTo_73 3 rfl (v := v39 + (1 : Int32)) (by rfl) (Nat.le_of_ble_eq_true rfl) (L' := [(4, .int (v39 + (1 : Int32))), (2, .int (v41 ||| v40)), (0, .ref v37), (3, .int v38)]) rfl ?_
  refine v_goto (tgt := 28) dX0_leadsTo_76 (by decide) ?_
  exact v_sub [2, 1, 3, 0] rfl (hc28 _ _ _ _ hF)
def C_leadsTo_L28 (N : Nat) (h : Hp) (x28 : Nat → Int32 → Int32 → Option Int32) : Nat → Nat → Int32 → Int32 → Int32 → Option Int32
  | 0, _, _, _, _ => none
  | n47 + 1, v28, v29, v30, v31 =>
    (C_nBooks h v28).bind fun v35 =>
    if v35 ≤ v31 then
      x28 v28 v29 v30
    else
      (C_has v29 v31).bind fun v36 =>
      if v36 = 0 then
        C_leadsTo_J71 N h (C_leadsTo_L28 N h x28 n47) v28 v30 v31 (0 : Int32) v29
      else
        (gr h v28 [0] 0).bind fun v42 =>
        (gr h v42 [1] 3).bind fun v43 =>
        (aI h v43 0 v31).bind fun v44 =>
        (C_books h v28).bind fun v45 =>
        (gi h v45 [2] 1).bind fun v46 =>
        C_leadsTo_J71 N h (C_leadsTo_L28 N h x28 n47) v28 v30 v31 (v44 &&& (v46 ^^^ (-1 : Int32))) v29
theorem w_C_leadsTo_L28 {l : Launch} {G : GT} {fr lo : Nat} {h0 : Hp} {N : Nat} {h : Hp} {r : Int32} (hfr : 2 ≤ fr) (hlo : 42 ≤ lo) {x28 : Nat → Int32 → Int32 → Option Int32} (hx28 : ∀ (v32 : Nat) (v33 : Int32) (v34 : Int32), x28 v32 v33 v34 = some r → V l G cX0_leadsTo RX0 "leadsTo" 5 (Option.some Jvm.ClassFile.FieldType.int) fr lo h0 h (QM G (some (.int r)) h0 h) 79 [(0, .ref v32), (2, .int v33), (3, .int v34)] [] h) : ∀ (n : Nat) (v28 : Nat) (v29 : Int32) (v30 : Int32) (v31 : Int32), C_leadsTo_L28 N h x28 n v28 v29 v30 v31 = some r → V l G cX0_leadsTo RX0 "leadsTo" 5 (Option.some Jvm.ClassFile.FieldType.int) fr lo h0 h (QM G (some (.int r)) h0 h) 28 [(0, .ref v28), (2, .int v29), (3, .int v30), (4, .int v31)] [] h := by
  intro n
  induction n with
  | zero =>
    intro v28 v29 v30 v31 hF
    cases (show (none : Option Int32) = some r from hF)
  | succ n hc28 =>
    intro v28 v29 v30 v31 hF
    rw [C_leadsTo_L28] at hF
    refine v_iload dX0_leadsTo_28 3 rfl ?_
    refine v_aload_n dX0_leadsTo_30 rfl 0 rfl ?_
    obtain ⟨v35, e_v35, hF⟩ := Option.bind_eq_some_iff.mp hF
    refine v_calV1 dX0_leadsTo_31 vl_X0_125 q482 (rc_C_nBooks e_v35) (ct_C_nBooks e_v35) rfl rfl (Nat.le_trans (Nat.le_of_ble_eq_true rfl) hfr) (Nat.le_trans (Nat.le_of_ble_eq_true rfl) hlo) (Nat.le_of_ble_eq_true rfl) ?_
    refine v_icmp_ge (tgt := 79) dX0_leadsTo_34 (by decide) hF (fun hF => ?_) (fun hF => ?_)
    · exact v_sub [0, 1, 2] rfl (hx28 _ _ _ hF)
    · refine v_iload_n dX0_leadsTo_37 rfl 1 rfl ?_
      refine v_iload_n dX0_leadsTo_38 rfl 1 rfl ?_
      refine v_iload dX0_leadsTo_39 3 rfl ?_
      obtain ⟨v36, e_v36, hF⟩ := Option.bind_eq_some_iff.mp hF
      refine v_calS1 dX0_leadsTo_41 sl_X0_141 q516 (ct_C_has e_v36) rfl rfl (Nat.le_trans (Nat.le_of_ble_eq_true rfl) hfr) (Nat.le_trans (Nat.le_of_ble_eq_true rfl) hlo) (Nat.le_of_ble_eq_true rfl) ?_
      refine v_if_eq (tgt := 70) dX0_leadsTo_44 (by decide) hF (fun hF => ?_) (fun hF => ?_)
      · refine v_iconst dX0_leadsTo_70 (v := 0) (by decide) ?_
        exact v_sub [0, 2, 3] rfl (w_C_leadsTo_J71 hfr hlo hc28 hF)
      · refine v_aload_n dX0_leadsTo_47 rfl 0 rfl ?_
        refine v_getr dX0_leadsTo_48 fl_X0_10 hF (fun v42 hF => ?_)
        refine v_getr dX0_leadsTo_51 fl_X0_145 hF (fun v43 hF => ?_)
        refine v_iload dX0_leadsTo_54 3 rfl ?_
        refine v_iald dX0_leadsTo_56 hF (fun v44 hF => ?_)
        refine v_aload_n dX0_leadsTo_57 rfl 0 rfl ?_
        obtain ⟨v45, e_v45, hF⟩ := Option.bind_eq_some_iff.mp hF
        refine v_calV1 dX0_leadsTo_58 vl_X0_135 q486 (rc_C_books e_v45) (ct_C_books e_v45) rfl rfl (Nat.le_trans (Nat.le_of_ble_eq_true rfl) hfr) (Nat.le_trans (Nat.le_of_ble_eq_true rfl) hlo) (Nat.le_of_ble_eq_true rfl) ?_
        refine v_geti dX0_leadsTo_61 fl_X0_138 hF (fun v46 hF => ?_)
        refine v_iconst dX0_leadsTo_64 (v := -1) (by decide) ?_
        refine v_ixor dX0_leadsTo_65 ?_
        refine v_iand dX0_leadsTo_66 ?_
        refine v_goto (tgt := 71) dX0_leadsTo_67 (by decide) ?_
        exact v_sub [0, 2, 3] rfl (w_C_leadsTo_J71 hfr hlo hc28 hF)
def C_leadsTo_L18 (N : Nat) (h : Hp) (x18 : Int32 → Option Int32) : Nat → Nat → Int32 → Int32 → Option Int32
  | 0, _, _, _ => none
  | n51 + 1, v24, v25, v26 =>
    if v26 = v25 then
      x18 v25
    else
      C_leadsTo_L28 N h (fun v48 v49 v50 =>
        (C_leadsTo_L18 N h x18 n51) v48 v49 v50) N v24 v25 v25 (0 : Int32)
theorem w_C_leadsTo_L18 {l : Launch} {G : GT} {fr lo : Nat} {h0 : Hp} {N : Nat} {h : Hp} {r : Int32} (hfr : 2 ≤ fr) (hlo : 42 ≤ lo) {x18 : Int32 → Option Int32} (hx18 : ∀ (v27 : Int32), x18 v27 = some r → V l G cX0_leadsTo RX0 "leadsTo" 5 (Option.some Jvm.ClassFile.FieldType.int) fr lo h0 h (QM G (some (.int r)) h0 h) 82 [(2, .int v27)] [] h) : ∀ (n : Nat) (v24 : Nat) (v25 : Int32) (v26 : Int32), C_leadsTo_L18 N h x18 n v24 v25 v26 = some r → V l G cX0_leadsTo RX0 "leadsTo" 5 (Option.some Jvm.ClassFile.FieldType.int) fr lo h0 h (QM G (some (.int r)) h0 h) 18 [(0, .ref v24), (2, .int v25), (3, .int v26)] [] h := by
  intro n
  induction n with
  | zero =>
    intro v24 v25 v26 hF
    cases (show (none : Option Int32) = some r from hF)
  | succ n hc18 =>
    intro v24 v25 v26 hF
    rw [C_leadsTo_L18] at hF
    refine v_iload_n dX0_leadsTo_18 rfl 2 rfl ?_
    refine v_iload_n dX0_leadsTo_19 rfl 1 rfl ?_
    refine v_icmp_eq (tgt := 82) dX0_leadsTo_20 (by decide) hF (fun hF => ?_) (fun hF => ?_)
    · exact v_sub [1] rfl (hx18 _ hF)
    · refine v_iload_n dX0_leadsTo_23 rfl 1 rfl ?_
      refine v_istore_n dX0_leadsTo_24 rfl (Nat.le_of_ble_eq_true rfl) (L' := [(3, .int v25), (0, .ref v24), (2, .int v25)]) rfl ?_
      refine v_iconst dX0_leadsTo_25 (v := 0) (by decide) ?_
      refine v_istore dX0_leadsTo_26 (Nat.le_of_ble_eq_true rfl) (L' := [(4, .int (0 : Int32)), (3, .int v25), (0, .ref v24), (2, .int v25)]) rfl ?_
      refine v_sub [2, 3, 1, 0] rfl (w_C_leadsTo_L28 hfr hlo ?_ N _ _ _ _ hF)
      intro v48 v49 v50 hF
      refine v_goto (tgt := 18) dX0_leadsTo_79 (by decide) ?_
      exact v_sub [0, 1, 2] rfl (hc18 _ _ _ hF)
def C_leadsTo_J15 (N : Nat) (h : Hp) (v22 : Nat) (v23 : Int32) : Option Int32 :=
  C_leadsTo_L18 N h (fun v52 =>
    some v52) N v22 v23 (-1 : Int32)
theorem w_C_leadsTo_J15 {l : Launch} {G : GT} {fr lo : Nat} {h0 : Hp} {N : Nat} {h : Hp} {r : Int32} (hfr : 2 ≤ fr) (hlo : 42 ≤ lo)   {v22 : Nat} {v23 : Int32} (hF : C_leadsTo_J15 N h v22 v23 = some r) : V l G cX0_leadsTo RX0 "leadsTo" 5 (Option.some Jvm.ClassFile.FieldType.int) fr lo h0 h (QM G (some (.int r)) h0 h) 15 [(0, .ref v22)] [.int v23] h := by
  unfold C_leadsTo_J15 at hF
  refine v_istore_n dX0_leadsTo_15 rfl (Nat.le_of_ble_eq_true rfl) (L' := [(2, .int v23), (0, .ref v22)]) rfl ?_
  refine v_iconst dX0_leadsTo_16 (v := -1) (by decide) ?_
  refine v_istore_n dX0_leadsTo_17 rfl (Nat.le_of_ble_eq_true rfl) (L' := [(3, .int (-1 : Int32)), (2, .int v23), (0, .ref v22)]) rfl ?_
  refine v_sub [2, 1, 0] rfl (w_C_leadsTo_L18 hfr hlo ?_ N _ _ _ hF)
  intro v52 hF
  refine v_iload_n dX0_leadsTo_82 rfl 0 rfl ?_
  cases hF
  exact v_iret dX0_leadsTo_83 rfl rfl rfl rfl
def C_leadsTo_b (N : Nat) (h : Hp) (a0 : Nat) (a1 : Int32) : Option Int32 :=
  (C_isRead h a0 a1).bind fun v21 =>
  C_leadsTo_J15 N h a0 (if v21 = 0 then ((1 : Int32) <<< (a1 &&& 31)) else (0 : Int32))
theorem w_C_leadsTo_b {l : Launch} {G : GT} {fr lo : Nat} {h0 : Hp} {N : Nat} {h : Hp} {r : Int32} (hfr : 2 ≤ fr) (hlo : 42 ≤ lo) {a0 : Nat} {a1 : Int32} (hF : C_leadsTo_b N h a0 a1 = some r) : V l G cX0_leadsTo RX0 "leadsTo" 5 (Option.some Jvm.ClassFile.FieldType.int) fr lo h0 h (QM G (some (.int r)) h0 h) 0 [(0, .ref a0), (1, .int a1)] [] h := by
  unfold C_leadsTo_b at hF
  refine v_aload_n dX0_leadsTo_0 rfl 0 rfl ?_
  refine v_iload_n dX0_leadsTo_1 rfl 1 rfl ?_
  obtain ⟨v21, e_v21, hF⟩ := Option.bind_eq_some_iff.mp hF
  refine v_calV1 dX0_leadsTo_2 vl_X0_176 q513 (rc_C_isRead e_v21) (ct_C_isRead e_v21) rfl rfl (Nat.le_trans (Nat.le_of_ble_eq_true rfl) hfr) (Nat.le_trans (Nat.le_of_ble_eq_true rfl) hlo) (Nat.le_of_ble_eq_true rfl) ?_
  refine v_tern (c := v21 = 0) (x := ((1 : Int32) <<< (a1 &&& 31))) (y := (0 : Int32)) (pcj := 15) (st := []) ?_ (fun kt kf => v_if_eq0 (tgt := 12) dX0_leadsTo_5 (by decide) kt kf) (fun K => ?_) (fun K => ?_)
  · exact v_sub [0] rfl (w_C_leadsTo_J15 hfr hlo hF)
  · refine v_iconst dX0_leadsTo_12 (v := 1) (by decide) ?_
    refine v_iload_n dX0_leadsTo_13 rfl 1 rfl ?_
    refine v_ishl dX0_leadsTo_14 ?_
    exact K
  · refine v_iconst dX0_leadsTo_8 (v := 0) (by decide) ?_
    refine v_goto (tgt := 15) dX0_leadsTo_9 (by decide) ?_
    exact K
def C_leadsTo (N : Nat) (h : Hp) (a0 : Nat) (a1 : Int32) : Option Int32 := (ob h a0 [0]).bind fun _ => C_leadsTo_b N h a0 a1
theorem rc_C_leadsTo {N : Nat} {h : Hp}  {r : Int32} {a0 : Nat} {a1 : Int32} (hF : C_leadsTo N h a0 a1 = some r) : RC h a0 [0] := by
  obtain ⟨o, ho, -⟩ := Option.bind_eq_some_iff.mp hF
  exact ⟨o, ho⟩
theorem ct_C_leadsTo {l : Launch} {G : GT} {N : Nat} {h : Hp} {r : Int32} {a0 : Nat} {a1 : Int32} (hF : C_leadsTo N h a0 a1 = some r) : Ct l G yX0_leadsTo (ws_ yX0_leadsTo cX0_leadsTo 5 (Option.some Jvm.ClassFile.FieldType.int)) 2 42 [.ref a0, .int a1] h (some (.int r)) h :=
  ct_of (by decide) (Nat.le_of_ble_eq_true rfl) (w_C_leadsTo_b (Nat.le_refl _) (Nat.le_refl _) (Option.bind_eq_some_iff.mp hF).choose_spec.2)
theorem vl_X0_359 : ∀ ci ∈ [0], VL RX0 359 ci yX0_leadsTo 1 := by
  intro ci h
  simp only [List.mem_cons, List.not_mem_nil, or_false] at h
  subst h; exact ⟨RX0, TX0, 31, rfl, q137, ⟨by decide, by decide⟩, by decide +kernel, q1404, Or.inl ⟨q1402, qs40⟩⟩
def C_to_L51 (N : Nat) (h : Hp) (x51 : Int32 → Option Int32) : Nat → Nat → Int32 → Int32 → Int32 → Int32 → Int32 → Option Int32
  | 0, _, _, _, _, _, _ => none
  | n36 + 1, v25, v26, v27, v28, v29, v30 =>
    if v26 < v30 then
      x51 v29
    else
      if v28 = v27 then
        some (-1 : Int32)
      else
        (C_books h v25).bind fun v32 =>
        (gi h v32 [2] 1).bind fun v33 =>
        (C_firstOpen N h v25 (v27 &&& (v28 ^^^ (-1 : Int32))) (v33 ||| v28)).bind fun v34 =>
        (some (v28 ||| ((1 : Int32) <<< (v34 &&& 31)))).bind fun (v35 : Int32) =>
        (C_to_L51 N h x51 n36) v25 v26 v27 v35 v34 (v30 + (1 : Int32))
theorem w_C_to_L51 {l : Launch} {G : GT} {fr lo : Nat} {h0 : Hp} {N : Nat} {h : Hp} {r : Int32} (hfr : 3 ≤ fr) (hlo : 66 ≤ lo) {x51 : Int32 → Option Int32} (hx51 : ∀ (v31 : Int32), x51 v31 = some r → V l G cX0_to RX0 "to" 7 (Option.some Jvm.ClassFile.FieldType.int) fr lo h0 h (QM G (some (.int r)) h0 h) 102 [(5, .int v31)] [] h) : ∀ (n : Nat) (v25 : Nat) (v26 : Int32) (v27 : Int32) (v28 : Int32) (v29 : Int32) (v30 : Int32), C_to_L51 N h x51 n v25 v26 v27 v28 v29 v30 = some r → V l G cX0_to RX0 "to" 7 (Option.some Jvm.ClassFile.FieldType.int) fr lo h0 h (QM G (some (.int r)) h0 h) 51 [(0, .ref v25), (2, .int v26), (3, .int v27), (4, .int v28), (5, .int v29), (6, .int v30)] [] h := by
  intro n
  induction n with
  | zero =>
    intro v25 v26 v27 v28 v29 v30 hF
    cases (show (none : Option Int32) = some r from hF)
  | succ n hc51 =>
    intro v25 v26 v27 v28 v29 v30 hF
    rw [C_to_L51] at hF
    refine v_iload dX0_to_51 5 rfl ?_
    refine v_iload_n dX0_to_53 rfl 1 rfl ?_
    refine v_icmp_gt (tgt := 102) dX0_to_54 (by decide) hF (fun hF => ?_) (fun hF => ?_)
    · exact v_sub [4] rfl (hx51 _ hF)
    · refine v_iload dX0_to_57 3 rfl ?_
      refine v_iload_n dX0_to_59 rfl 2 rfl ?_
      refine v_icmp_ne (tgt := 65) dX0_to_60 (by decide) hF (fun hF => ?_) (fun hF => ?_)
      · refine v_aload_n dX0_to_65 rfl 0 rfl ?_
        refine v_iload_n dX0_to_66 rfl 2 rfl ?_
        refine v_iload dX0_to_67 3 rfl ?_
        refine v_iconst dX0_to_69 (v := -1) (by decide) ?_
        refine v_ixor dX0_to_70 ?_
        refine v_iand dX0_to_71 ?_
        refine v_aload_n dX0_to_72 rfl 0 rfl ?_
        obtain ⟨v32, e_v32, hF⟩ := Option.bind_eq_some_iff.mp hF
        refine v_calV1 dX0_to_73 vl_X0_135 q486 (rc_C_books e_v32) (ct_C_books e_v32) rfl rfl (Nat.le_trans (Nat.le_of_ble_eq_true rfl) hfr) (Nat.le_trans (Nat.le_of_ble_eq_true rfl) hlo) (Nat.le_of_ble_eq_true rfl) ?_
        refine v_geti dX0_to_76 fl_X0_138 hF (fun v33 hF => ?_)
        refine v_iload dX0_to_79 3 rfl ?_
        refine v_ior dX0_to_81 ?_
        obtain ⟨v34, e_v34, hF⟩ := Option.bind_eq_some_iff.mp hF
        refine v_calV1 dX0_to_82 vl_X0_356 q1397 (rc_C_firstOpen e_v34) (ct_C_firstOpen e_v34) rfl rfl (Nat.le_trans (Nat.le_of_ble_eq_true rfl) hfr) (Nat.le_trans (Nat.le_of_ble_eq_true rfl) hlo) (Nat.le_of_ble_eq_true rfl) ?_
        refine v_istore dX0_to_85 (Nat.le_of_ble_eq_true rfl) (L' := [(5, .int v34), (0, .ref v25), (2, .int v26), (3, .int v27), (4, .int v28), (6, .int v30)]) rfl ?_
        refine v_iload dX0_to_87 4 rfl ?_
        refine v_iconst dX0_to_89 (v := 1) (by decide) ?_
        refine v_iload dX0_to_90 0 rfl ?_
        refine v_ishl dX0_to_92 ?_
        refine v_ior dX0_to_93 ?_
        refine v_leti hF (fun v35 hF => ?_)
        refine v_istore dX0_to_94 (Nat.le_of_ble_eq_true rfl) (L' := [(4, .int v35), (5, .int v34), (0, .ref v25), (2, .int v26), (3, .int v27), (6, .int v30)]) rfl ?_
        refine v_iinc dX0_to_96 5 rfl (v := v30 + (1 : Int32)) (by rfl) (Nat.le_of_ble_eq_true rfl) (L' := [(6, .int (v30 + (1 : Int32))), (4, .int v35), (5, .int v34), (0, .ref v25), (2, .int v26), (3, .int v27)]) rfl ?_
        refine v_goto (tgt := 51) dX0_to_99 (by decide) ?_
        exact v_sub [3, 4, 5, 1, 2, 0] rfl (hc51 _ _ _ _ _ _ hF)
      · refine v_iconst dX0_to_63 (v := -1) (by decide) ?_
        cases hF
        exact v_iret dX0_to_64 rfl rfl rfl rfl
def C_to_b (N : Nat) (h : Hp) (a0 : Nat) (a1 : Int32) (a2 : Int32) : Option Int32 :=
  (C_isBook h a0 a1).bind fun v21 =>
  if v21 = 0 then
    some (-1 : Int32)
  else
    if a2 < (-1 : Int32) then
      some (-1 : Int32)
    else
      (C_within N h a0).bind fun v22 =>
      (C_has v22 a1).bind fun v23 =>
      if v23 = 0 then
        some (-1 : Int32)
      else
        (C_leadsTo N h a0 a1).bind fun v24 =>
        if a2 = (-1 : Int32) then
          (J4_bitCount v24).bind fun v38 =>
          some v38
        else
          C_to_L51 N h (fun v37 =>
            some v37) N a0 a2 v24 (0 : Int32) (-1 : Int32) (0 : Int32)
theorem w_C_to_b {l : Launch} {G : GT} {fr lo : Nat} {h0 : Hp} {N : Nat} {h : Hp} {r : Int32} (hfr : 3 ≤ fr) (hlo : 66 ≤ lo) {a0 : Nat} {a1 : Int32} {a2 : Int32} (hF : C_to_b N h a0 a1 a2 = some r) : V l G cX0_to RX0 "to" 7 (Option.some Jvm.ClassFile.FieldType.int) fr lo h0 h (QM G (some (.int r)) h0 h) 0 [(0, .ref a0), (1, .int a1), (2, .int a2)] [] h := by
  unfold C_to_b at hF
  refine v_aload_n dX0_to_0 rfl 0 rfl ?_
  refine v_iload_n dX0_to_1 rfl 1 rfl ?_
  obtain ⟨v21, e_v21, hF⟩ := Option.bind_eq_some_iff.mp hF
  refine v_calV1 dX0_to_2 vl_X0_172 q505 (rc_C_isBook e_v21) (ct_C_isBook e_v21) rfl rfl (Nat.le_trans (Nat.le_of_ble_eq_true rfl) hfr) (Nat.le_trans (Nat.le_of_ble_eq_true rfl) hlo) (Nat.le_of_ble_eq_true rfl) ?_
  refine v_if_eq (tgt := 24) dX0_to_5 (by decide) hF (fun hF => ?_) (fun hF => ?_)
  · refine v_iconst dX0_to_24 (v := -1) (by decide) ?_
    cases hF
    exact v_iret dX0_to_25 rfl rfl rfl rfl
  · refine v_iload_n dX0_to_8 rfl 2 rfl ?_
    refine v_iconst dX0_to_9 (v := -1) (by decide) ?_
    refine v_icmp_lt (tgt := 24) dX0_to_10 (by decide) hF (fun hF => ?_) (fun hF => ?_)
    · refine v_iconst dX0_to_24 (v := -1) (by decide) ?_
      cases hF
      exact v_iret dX0_to_25 rfl rfl rfl rfl
    · refine v_aload_n dX0_to_13 rfl 0 rfl ?_
      obtain ⟨v22, e_v22, hF⟩ := Option.bind_eq_some_iff.mp hF
      refine v_calV1 dX0_to_14 vl_X0_347 q1381 (rc_C_within e_v22) (ct_C_within e_v22) rfl rfl (Nat.le_trans (Nat.le_of_ble_eq_true rfl) hfr) (Nat.le_trans (Nat.le_of_ble_eq_true rfl) hlo) (Nat.le_of_ble_eq_true rfl) ?_
      refine v_iload_n dX0_to_17 rfl 1 rfl ?_
      obtain ⟨v23, e_v23, hF⟩ := Option.bind_eq_some_iff.mp hF
      refine v_calS1 dX0_to_18 sl_X0_141 q516 (ct_C_has e_v23) rfl rfl (Nat.le_trans (Nat.le_of_ble_eq_true rfl) hfr) (Nat.le_trans (Nat.le_of_ble_eq_true rfl) hlo) (Nat.le_of_ble_eq_true rfl) ?_
      refine v_if_ne (tgt := 26) dX0_to_21 (by decide) hF (fun hF => ?_) (fun hF => ?_)
      · refine v_aload_n dX0_to_26 rfl 0 rfl ?_
        refine v_iload_n dX0_to_27 rfl 1 rfl ?_
        obtain ⟨v24, e_v24, hF⟩ := Option.bind_eq_some_iff.mp hF
        refine v_calV1 dX0_to_28 vl_X0_359 q1405 (rc_C_leadsTo e_v24) (ct_C_leadsTo e_v24) rfl rfl (Nat.le_trans (Nat.le_of_ble_eq_true rfl) hfr) (Nat.le_trans (Nat.le_of_ble_eq_true rfl) hlo) (Nat.le_of_ble_eq_true rfl) ?_
        refine v_istore_n dX0_to_31 rfl (Nat.le_of_ble_eq_true rfl) (L' := [(3, .int v24), (0, .ref a0), (1, .int a1), (2, .int a2)]) rfl ?_
        refine v_iconst dX0_to_32 (v := 0) (by decide) ?_
        refine v_istore dX0_to_33 (Nat.le_of_ble_eq_true rfl) (L' := [(4, .int (0 : Int32)), (3, .int v24), (0, .ref a0), (1, .int a1), (2, .int a2)]) rfl ?_
        refine v_iconst dX0_to_35 (v := -1) (by decide) ?_
        refine v_istore dX0_to_36 (Nat.le_of_ble_eq_true rfl) (L' := [(5, .int (-1 : Int32)), (4, .int (0 : Int32)), (3, .int v24), (0, .ref a0), (1, .int a1), (2, .int a2)]) rfl ?_
        refine v_iload_n dX0_to_38 rfl 5 rfl ?_
        refine v_iconst dX0_to_39 (v := -1) (by decide) ?_
        refine v_icmp_ne (tgt := 48) dX0_to_40 (by decide) hF (fun hF => ?_) (fun hF => ?_)
        · refine v_iconst dX0_to_48 (v := 0) (by decide) ?_
          refine v_istore dX0_to_49 (Nat.le_of_ble_eq_true rfl) (L' := [(6, .int (0 : Int32)), (5, .int (-1 : Int32)), (4, .int (0 : Int32)), (3, .int v24), (0, .ref a0), (1, .int a1), (2, .int a2)]) rfl ?_
          refine v_sub [4, 6, 3, 2, 1, 0] rfl (w_C_to_L51 hfr hlo ?_ N _ _ _ _ _ _ hF)
          intro v37 hF
          refine v_iload dX0_to_102 0 rfl ?_
          cases hF
          exact v_iret dX0_to_104 rfl rfl rfl rfl
        · refine v_iload_n dX0_to_43 rfl 2 rfl ?_
          obtain ⟨v38, e_v38, hF⟩ := Option.bind_eq_some_iff.mp hF
          refine v_calS1 dX0_to_44 sl_X0_277 q532 (ct_J4_bitCount e_v38) rfl rfl (Nat.le_trans (Nat.le_of_ble_eq_true rfl) hfr) (Nat.le_trans (Nat.le_of_ble_eq_true rfl) hlo) (Nat.le_of_ble_eq_true rfl) ?_
          cases hF
          exact v_iret dX0_to_47 rfl rfl rfl rfl
      · refine v_iconst dX0_to_24 (v := -1) (by decide) ?_
        cases hF
        exact v_iret dX0_to_25 rfl rfl rfl rfl
def C_to (N : Nat) (h : Hp) (a0 : Nat) (a1 : Int32) (a2 : Int32) : Option Int32 := (ob h a0 [0]).bind fun _ => C_to_b N h a0 a1 a2
theorem rc_C_to {N : Nat} {h : Hp}  {r : Int32} {a0 : Nat} {a1 : Int32} {a2 : Int32} (hF : C_to N h a0 a1 a2 = some r) : RC h a0 [0] := by
  obtain ⟨o, ho, -⟩ := Option.bind_eq_some_iff.mp hF
  exact ⟨o, ho⟩
theorem ct_C_to {l : Launch} {G : GT} {N : Nat} {h : Hp} {r : Int32} {a0 : Nat} {a1 : Int32} {a2 : Int32} (hF : C_to N h a0 a1 a2 = some r) : Ct l G yX0_to (ws_ yX0_to cX0_to 7 (Option.some Jvm.ClassFile.FieldType.int)) 3 66 [.ref a0, .int a1, .int a2] h (some (.int r)) h :=
  ct_of (by decide) (Nat.le_of_ble_eq_true rfl) (w_C_to_b (Nat.le_refl _) (Nat.le_refl _) (Option.bind_eq_some_iff.mp hF).choose_spec.2)
theorem vl_X0_362 : ∀ ci ∈ [0], VL RX0 362 ci yX0_deepOf 1 := by
  intro ci h
  simp only [List.mem_cons, List.not_mem_nil, or_false] at h
  subst h; exact ⟨RX0, TX0, 31, rfl, q137, ⟨by decide, by decide⟩, by decide +kernel, q1412, Or.inl ⟨q1410, qs41⟩⟩
def C_deepOf_o_J41 (N : Nat) (f : Nat → Int32 → Option Int32) (h : Hp) (c4 : Nat → Int32 → Int32 → Int32 → Option Int32) (v31 : Nat) (v32 : Int32) (v33 : Int32) (v34 : Int32) : Option Int32 :=
  c4 v31 v32 v34 (v33 + (1 : Int32))
theorem w_C_deepOf_o_J41 {l : Launch} {G : GT} {fr lo : Nat} {h0 : Hp} {N : Nat} {f : Nat → Int32 → Option Int32} {h : Hp} {r : Int32} {frf lof : Nat} (hbf : 1 ≤ frf) (hbl : 30 ≤ lof) (hfr : frf + 1 ≤ fr) (hlo : lof + 23 ≤ lo) (hf : ∀ (a0 : Nat) (a1 : Int32) (r : Int32), f a0 a1 = some r → RC h a0 [0] ∧ Ct l G yX0_deepOf (ws_ yX0_deepOf cX0_deepOf 4 (Option.some Jvm.ClassFile.FieldType.int)) frf lof [.ref a0, .int a1] h (some (.int r)) h) {c4 : Nat → Int32 → Int32 → Int32 → Option Int32} (hc4 : ∀ (v21 : Nat) (v22 : Int32) (v23 : Int32) (v24 : Int32), c4 v21 v22 v23 v24 = some r → V l G cX0_deepOf RX0 "deepOf" 4 (Option.some Jvm.ClassFile.FieldType.int) fr lo h0 h (QM G (some (.int r)) h0 h) 4 [(0, .ref v21), (1, .int v22), (2, .int v23), (3, .int v24)] [] h) {v31 : Nat} {v32 : Int32} {v33 : Int32} {v34 : Int32} (hF : C_deepOf_o_J41 N f h c4 v31 v32 v33 v34 = some r) : V l G cX0_deepOf RX0 "deepOf" 4 (Option.some Jvm.ClassFile.FieldType.int) fr lo h0 h (QM G (some (.int r)) h0 h) 41 [(0, .ref v31), (1, .int v32), (3, .int v33)] [.int v34] h := by
  unfold C_deepOf_o_J41 at hF
  refine v_istore_n dX0_deepOf_41 rfl (Nat.le_of_ble_eq_true rfl) (L' := [(2, .int v34), (0, .ref v31), (1, .int v32), (3, .int v33)]) rfl ?_
  refine v_iinc dX0_deepOf_42 3 rfl (v := v33 + (1 : Int32)) (by rfl) (Nat.le_of_ble_eq_true rfl) (L' := [(3, .int (v33 + (1 : Int32))), (2, .int v34), (0, .ref v31), (1, .int v32)]) rfl ?_
  refine v_goto (tgt := 4) dX0_deepOf_45 (by decide) ?_
  exact v_sub [2, 3, 1, 0] rfl (hc4 _ _ _ _ hF)
def C_deepOf_o_L4 (N : Nat) (f : Nat → Int32 → Option Int32) (h : Hp) (x4 : Int32 → Option Int32) : Nat → Nat → Int32 → Int32 → Int32 → Option Int32
  | 0, _, _, _, _ => none
  | n37 + 1, v21, v22, v23, v24 =>
    (C_nBooks h v21).bind fun v26 =>
    if v26 ≤ v24 then
      x4 v23
    else
      (gr h v21 [0] 0).bind fun v27 =>
      (gr h v27 [1] 3).bind fun v28 =>
      (aI h v28 0 v22).bind fun v29 =>
      (C_has v29 v24).bind fun v30 =>
      if v30 = 0 then
        C_deepOf_o_J41 N f h (C_deepOf_o_L4 N f h x4 n37) v21 v22 v24 v23
      else
        (f v21 v24).bind fun v35 =>
        (some (if v23 < v35 then v35 else v23)).bind fun (v36 : Int32) =>
        C_deepOf_o_J41 N f h (C_deepOf_o_L4 N f h x4 n37) v21 v22 v24 v36
theorem w_C_deepOf_o_L4 {l : Launch} {G : GT} {fr lo : Nat} {h0 : Hp} {N : Nat} {f : Nat → Int32 → Option Int32} {h : Hp} {r : Int32} {frf lof : Nat} (hbf : 1 ≤ frf) (hbl : 30 ≤ lof) (hfr : frf + 1 ≤ fr) (hlo : lof + 23 ≤ lo) (hf : ∀ (a0 : Nat) (a1 : Int32) (r : Int32), f a0 a1 = some r → RC h a0 [0] ∧ Ct l G yX0_deepOf (ws_ yX0_deepOf cX0_deepOf 4 (Option.some Jvm.ClassFile.FieldType.int)) frf lof [.ref a0, .int a1] h (some (.int r)) h) {x4 : Int32 → Option Int32} (hx4 : ∀ (v25 : Int32), x4 v25 = some r → V l G cX0_deepOf RX0 "deepOf" 4 (Option.some Jvm.ClassFile.FieldType.int) fr lo h0 h (QM G (some (.int r)) h0 h) 48 [(2, .int v25)] [] h) : ∀ (n : Nat) (v21 : Nat) (v22 : Int32) (v23 : Int32) (v24 : Int32), C_deepOf_o_L4 N f h x4 n v21 v22 v23 v24 = some r → V l G cX0_deepOf RX0 "deepOf" 4 (Option.some Jvm.ClassFile.FieldType.int) fr lo h0 h (QM G (some (.int r)) h0 h) 4 [(0, .ref v21), (1, .int v22), (2, .int v23), (3, .int v24)] [] h := by
  intro n
  induction n with
  | zero =>
    intro v21 v22 v23 v24 hF
    cases (show (none : Option Int32) = some r from hF)
  | succ n hc4 =>
    intro v21 v22 v23 v24 hF
    rw [C_deepOf_o_L4] at hF
    refine v_iload_n dX0_deepOf_4 rfl 3 rfl ?_
    refine v_aload_n dX0_deepOf_5 rfl 0 rfl ?_
    obtain ⟨v26, e_v26, hF⟩ := Option.bind_eq_some_iff.mp hF
    refine v_calV1 dX0_deepOf_6 vl_X0_125 q482 (rc_C_nBooks e_v26) (ct_C_nBooks e_v26) rfl rfl (by omega) (by omega) (Nat.le_of_ble_eq_true rfl) ?_
    refine v_icmp_ge (tgt := 48) dX0_deepOf_9 (by decide) hF (fun hF => ?_) (fun hF => ?_)
    · exact v_sub [2] rfl (hx4 _ hF)
    · refine v_aload_n dX0_deepOf_12 rfl 0 rfl ?_
      refine v_getr dX0_deepOf_13 fl_X0_10 hF (fun v27 hF => ?_)
      refine v_getr dX0_deepOf_16 fl_X0_145 hF (fun v28 hF => ?_)
      refine v_iload_n dX0_deepOf_19 rfl 1 rfl ?_
      refine v_iald dX0_deepOf_20 hF (fun v29 hF => ?_)
      refine v_iload_n dX0_deepOf_21 rfl 3 rfl ?_
      obtain ⟨v30, e_v30, hF⟩ := Option.bind_eq_some_iff.mp hF
      refine v_calS1 dX0_deepOf_22 sl_X0_141 q516 (ct_C_has e_v30) rfl rfl (by omega) (by omega) (Nat.le_of_ble_eq_true rfl) ?_
      refine v_if_eq (tgt := 40) dX0_deepOf_25 (by decide) hF (fun hF => ?_) (fun hF => ?_)
      · refine v_iload_n dX0_deepOf_40 rfl 2 rfl ?_
        exact v_sub [0, 1, 3] rfl (w_C_deepOf_o_J41 hbf hbl hfr hlo hf hc4 hF)
      · refine v_iload_n dX0_deepOf_28 rfl 2 rfl ?_
        refine v_aload_n dX0_deepOf_29 rfl 0 rfl ?_
        refine v_iload_n dX0_deepOf_30 rfl 3 rfl ?_
        obtain ⟨v35, e_v35, hF⟩ := Option.bind_eq_some_iff.mp hF
        refine v_calV1 dX0_deepOf_31 vl_X0_362 q1413 (hf _ _ _ e_v35).1 ((hf _ _ _ e_v35).2) rfl rfl (by omega) (by omega) (Nat.le_of_ble_eq_true rfl) ?_
        refine v_mmax dX0_deepOf_34 q1356 (by omega) (by omega) (Nat.le_of_ble_eq_true rfl) ?_
        refine v_leti hF (fun v36 hF => ?_)
        refine v_goto (tgt := 41) dX0_deepOf_37 (by decide) ?_
        exact v_sub [0, 1, 3] rfl (w_C_deepOf_o_J41 hbf hbl hfr hlo hf hc4 hF)
def C_deepOf_o_b (N : Nat) (f : Nat → Int32 → Option Int32) (h : Hp) (a0 : Nat) (a1 : Int32) : Option Int32 :=
  C_deepOf_o_L4 N f h (fun v38 =>
    some (v38 + (1 : Int32))) N a0 a1 (0 : Int32) (0 : Int32)
theorem w_C_deepOf_o_b {l : Launch} {G : GT} {fr lo : Nat} {h0 : Hp} {N : Nat} {f : Nat → Int32 → Option Int32} {h : Hp} {r : Int32} {frf lof : Nat} (hbf : 1 ≤ frf) (hbl : 30 ≤ lof) (hfr : frf + 1 ≤ fr) (hlo : lof + 23 ≤ lo) (hf : ∀ (a0 : Nat) (a1 : Int32) (r : Int32), f a0 a1 = some r → RC h a0 [0] ∧ Ct l G yX0_deepOf (ws_ yX0_deepOf cX0_deepOf 4 (Option.some Jvm.ClassFile.FieldType.int)) frf lof [.ref a0, .int a1] h (some (.int r)) h) {a0 : Nat} {a1 : Int32} (hF : C_deepOf_o_b N f h a0 a1 = some r) : V l G cX0_deepOf RX0 "deepOf" 4 (Option.some Jvm.ClassFile.FieldType.int) fr lo h0 h (QM G (some (.int r)) h0 h) 0 [(0, .ref a0), (1, .int a1)] [] h := by
  unfold C_deepOf_o_b at hF
  refine v_iconst dX0_deepOf_0 (v := 0) (by decide) ?_
  refine v_istore_n dX0_deepOf_1 rfl (Nat.le_of_ble_eq_true rfl) (L' := [(2, .int (0 : Int32)), (0, .ref a0), (1, .int a1)]) rfl ?_
  refine v_iconst dX0_deepOf_2 (v := 0) (by decide) ?_
  refine v_istore_n dX0_deepOf_3 rfl (Nat.le_of_ble_eq_true rfl) (L' := [(3, .int (0 : Int32)), (2, .int (0 : Int32)), (0, .ref a0), (1, .int a1)]) rfl ?_
  refine v_sub [2, 3, 1, 0] rfl (w_C_deepOf_o_L4 hbf hbl hfr hlo hf ?_ N _ _ _ _ hF)
  intro v38 hF
  refine v_iload_n dX0_deepOf_48 rfl 0 rfl ?_
  refine v_iconst dX0_deepOf_49 (v := 1) (by decide) ?_
  refine v_iadd dX0_deepOf_50 ?_
  cases hF
  exact v_iret dX0_deepOf_51 rfl rfl rfl rfl
def C_deepOf_o (N : Nat) (f : Nat → Int32 → Option Int32) (h : Hp) (a0 : Nat) (a1 : Int32) : Option Int32 := (ob h a0 [0]).bind fun _ => C_deepOf_o_b N f h a0 a1
theorem rc_C_deepOf_o {N : Nat} {h : Hp}  {f : Nat → Int32 → Option Int32} {r : Int32} {a0 : Nat} {a1 : Int32} (hF : C_deepOf_o N f h a0 a1 = some r) : RC h a0 [0] := by
  obtain ⟨o, ho, -⟩ := Option.bind_eq_some_iff.mp hF
  exact ⟨o, ho⟩
theorem ct_C_deepOf_o {l : Launch} {G : GT} {N : Nat} {h : Hp} {f : Nat → Int32 → Option Int32} {frf lof : Nat} (hbf : 1 ≤ frf) (hbl : 30 ≤ lof) (hf : ∀ (a0 : Nat) (a1 : Int32) (r : Int32), f a0 a1 = some r → RC h a0 [0] ∧ Ct l G yX0_deepOf (ws_ yX0_deepOf cX0_deepOf 4 (Option.some Jvm.ClassFile.FieldType.int)) frf lof [.ref a0, .int a1] h (some (.int r)) h) {r : Int32} {a0 : Nat} {a1 : Int32} (hF : C_deepOf_o N f h a0 a1 = some r) : Ct l G yX0_deepOf (ws_ yX0_deepOf cX0_deepOf 4 (Option.some Jvm.ClassFile.FieldType.int)) (frf + 1) (lof + 23) [.ref a0, .int a1] h (some (.int r)) h :=
  ct_of (by decide) (Nat.le_of_ble_eq_true rfl) (w_C_deepOf_o_b hbf hbl (Nat.le_refl _) (Nat.le_refl _) hf (Option.bind_eq_some_iff.mp hF).choose_spec.2)
def C_deepOf (N : Nat) (h : Hp) : Nat → Nat → Int32 → Option Int32
  | 0, _, _ => none
  | d + 1, a0, a1 => C_deepOf_o N (C_deepOf N h d) h a0 a1
theorem rcd_C_deepOf {N : Nat} {h : Hp} : ∀ (d : Nat) {r : Int32} {a0 : Nat} {a1 : Int32} (hF : C_deepOf N h d a0 a1 = some r), RC h a0 [0] := by
  intro d r a0 a1 hF
  cases d with
  | zero => cases (show (none : Option Int32) = some r from hF)
  | succ d => exact rc_C_deepOf_o hF
theorem ctd_C_deepOf {l : Launch} {G : GT} {N : Nat} {h : Hp} : ∀ (d : Nat) {r : Int32} {a0 : Nat} {a1 : Int32} (hF : C_deepOf N h d a0 a1 = some r), Ct l G yX0_deepOf (ws_ yX0_deepOf cX0_deepOf 4 (Option.some Jvm.ClassFile.FieldType.int)) (1 + 1 * d) (30 + 23 * d) [.ref a0, .int a1] h (some (.int r)) h := by
  intro d
  induction d with
  | zero => intro r a0 a1 hF; cases (show (none : Option Int32) = some r from hF)
  | succ d ih =>
    intro r a0 a1 hF
    rw [show 1 + 1 * (d + 1) = (1 + 1 * d) + 1 by omega, show 30 + 23 * (d + 1) = (30 + 23 * d) + 23 by omega]
    exact ct_C_deepOf_o (frf := 1 + 1 * d) (lof := 30 + 23 * d) (by omega) (by omega) (fun _ _ _ z => ⟨rcd_C_deepOf d z, ih z⟩) hF
def C_deep_J52 (N : Nat) (h : Hp) (c22 : Nat → Int32 → Int32 → Int32 → Option Int32) (v32 : Nat) (v33 : Int32) (v34 : Int32) (v35 : Int32) : Option Int32 :=
  c22 v32 v33 v34 (v35 + (1 : Int32))
theorem w_C_deep_J52 {l : Launch} {G : GT} {fr lo : Nat} {h0 : Hp} {N : Nat} {h : Hp} {r : Int32} (hfr : 18 ≤ fr) (hlo : 421 ≤ lo) {c22 : Nat → Int32 → Int32 → Int32 → Option Int32} (hc22 : ∀ (v24 : Nat) (v25 : Int32) (v26 : Int32) (v27 : Int32), c22 v24 v25 v26 v27 = some r → V l G cX0_deep RX0 "deep" 4 (Option.some Jvm.ClassFile.FieldType.int) fr lo h0 h (QM G (some (.int r)) h0 h) 22 [(0, .ref v24), (1, .int v25), (2, .int v26), (3, .int v27)] [] h) {v32 : Nat} {v33 : Int32} {v34 : Int32} {v35 : Int32} (hF : C_deep_J52 N h c22 v32 v33 v34 v35 = some r) : V l G cX0_deep RX0 "deep" 4 (Option.some Jvm.ClassFile.FieldType.int) fr lo h0 h (QM G (some (.int r)) h0 h) 52 [(0, .ref v32), (1, .int v33), (2, .int v34), (3, .int v35)] [] h := by
  unfold C_deep_J52 at hF
  refine v_iinc dX0_deep_52 3 rfl (v := v35 + (1 : Int32)) (by rfl) (Nat.le_of_ble_eq_true rfl) (L' := [(3, .int (v35 + (1 : Int32))), (0, .ref v32), (1, .int v33), (2, .int v34)]) rfl ?_
  refine v_goto (tgt := 22) dX0_deep_55 (by decide) ?_
  exact v_sub [1, 2, 3, 0] rfl (hc22 _ _ _ _ hF)
def C_deep_L22 (N : Nat) (h : Hp) (x22 : Nat → Int32 → Option Int32) : Nat → Nat → Int32 → Int32 → Int32 → Option Int32
  | 0, _, _, _, _ => none
  | n38 + 1, v24, v25, v26, v27 =>
    (C_nBooks h v24).bind fun v30 =>
    if v30 ≤ v27 then
      x22 v24 v25
    else
      (C_has v26 v27).bind fun v31 =>
      if v31 = 0 then
        C_deep_J52 N h (C_deep_L22 N h x22 n38) v24 v25 v26 v27
      else
        (C_allNeeds N h v24 v27).bind fun v36 =>
        (C_has v36 v27).bind fun v37 =>
        if v37 = 0 then
          C_deep_J52 N h (C_deep_L22 N h x22 n38) v24 v25 v26 v27
        else
          some (-1 : Int32)
theorem w_C_deep_L22 {l : Launch} {G : GT} {fr lo : Nat} {h0 : Hp} {N : Nat} {h : Hp} {r : Int32} (hfr : 18 ≤ fr) (hlo : 421 ≤ lo) {x22 : Nat → Int32 → Option Int32} (hx22 : ∀ (v28 : Nat) (v29 : Int32), x22 v28 v29 = some r → V l G cX0_deep RX0 "deep" 4 (Option.some Jvm.ClassFile.FieldType.int) fr lo h0 h (QM G (some (.int r)) h0 h) 58 [(0, .ref v28), (1, .int v29)] [] h) : ∀ (n : Nat) (v24 : Nat) (v25 : Int32) (v26 : Int32) (v27 : Int32), C_deep_L22 N h x22 n v24 v25 v26 v27 = some r → V l G cX0_deep RX0 "deep" 4 (Option.some Jvm.ClassFile.FieldType.int) fr lo h0 h (QM G (some (.int r)) h0 h) 22 [(0, .ref v24), (1, .int v25), (2, .int v26), (3, .int v27)] [] h := by
  intro n
  induction n with
  | zero =>
    intro v24 v25 v26 v27 hF
    cases (show (none : Option Int32) = some r from hF)
  | succ n hc22 =>
    intro v24 v25 v26 v27 hF
    rw [C_deep_L22] at hF
    refine v_iload_n dX0_deep_22 rfl 3 rfl ?_
    refine v_aload_n dX0_deep_23 rfl 0 rfl ?_
    obtain ⟨v30, e_v30, hF⟩ := Option.bind_eq_some_iff.mp hF
    refine v_calV1 dX0_deep_24 vl_X0_125 q482 (rc_C_nBooks e_v30) (ct_C_nBooks e_v30) rfl rfl (Nat.le_trans (Nat.le_of_ble_eq_true rfl) hfr) (Nat.le_trans (Nat.le_of_ble_eq_true rfl) hlo) (Nat.le_of_ble_eq_true rfl) ?_
    refine v_icmp_ge (tgt := 58) dX0_deep_27 (by decide) hF (fun hF => ?_) (fun hF => ?_)
    · exact v_sub [0, 1] rfl (hx22 _ _ hF)
    · refine v_iload_n dX0_deep_30 rfl 2 rfl ?_
      refine v_iload_n dX0_deep_31 rfl 3 rfl ?_
      obtain ⟨v31, e_v31, hF⟩ := Option.bind_eq_some_iff.mp hF
      refine v_calS1 dX0_deep_32 sl_X0_141 q516 (ct_C_has e_v31) rfl rfl (Nat.le_trans (Nat.le_of_ble_eq_true rfl) hfr) (Nat.le_trans (Nat.le_of_ble_eq_true rfl) hlo) (Nat.le_of_ble_eq_true rfl) ?_
      refine v_if_eq (tgt := 52) dX0_deep_35 (by decide) hF (fun hF => ?_) (fun hF => ?_)
      · exact v_sub [0, 1, 2, 3] rfl (w_C_deep_J52 hfr hlo hc22 hF)
      · refine v_aload_n dX0_deep_38 rfl 0 rfl ?_
        refine v_iload_n dX0_deep_39 rfl 3 rfl ?_
        obtain ⟨v36, e_v36, hF⟩ := Option.bind_eq_some_iff.mp hF
        refine v_calV1 dX0_deep_40 vl_X0_341 q1369 (rc_C_allNeeds e_v36) (ct_C_allNeeds e_v36) rfl rfl (Nat.le_trans (Nat.le_of_ble_eq_true rfl) hfr) (Nat.le_trans (Nat.le_of_ble_eq_true rfl) hlo) (Nat.le_of_ble_eq_true rfl) ?_
        refine v_iload_n dX0_deep_43 rfl 3 rfl ?_
        obtain ⟨v37, e_v37, hF⟩ := Option.bind_eq_some_iff.mp hF
        refine v_calS1 dX0_deep_44 sl_X0_141 q516 (ct_C_has e_v37) rfl rfl (Nat.le_trans (Nat.le_of_ble_eq_true rfl) hfr) (Nat.le_trans (Nat.le_of_ble_eq_true rfl) hlo) (Nat.le_of_ble_eq_true rfl) ?_
        refine v_if_eq (tgt := 52) dX0_deep_47 (by decide) hF (fun hF => ?_) (fun hF => ?_)
        · exact v_sub [0, 1, 2, 3] rfl (w_C_deep_J52 hfr hlo hc22 hF)
        · refine v_iconst dX0_deep_50 (v := -1) (by decide) ?_
          cases hF
          exact v_iret dX0_deep_51 rfl rfl rfl rfl
def C_deep_b (N : Nat) (h : Hp) (a0 : Nat) (a1 : Int32) : Option Int32 :=
  (C_isBook h a0 a1).bind fun v21 =>
  if v21 = 0 then
    some (-1 : Int32)
  else
    (C_allNeeds N h a0 a1).bind fun v22 =>
    (some (v22 ||| ((1 : Int32) <<< (a1 &&& 31)))).bind fun (v23 : Int32) =>
    C_deep_L22 N h (fun v39 v40 =>
      (C_deepOf N h 16 v39 v40).bind fun v41 =>
      some v41) N a0 a1 v23 (0 : Int32)
theorem w_C_deep_b {l : Launch} {G : GT} {fr lo : Nat} {h0 : Hp} {N : Nat} {h : Hp} {r : Int32} (hfr : 18 ≤ fr) (hlo : 421 ≤ lo) {a0 : Nat} {a1 : Int32} (hF : C_deep_b N h a0 a1 = some r) : V l G cX0_deep RX0 "deep" 4 (Option.some Jvm.ClassFile.FieldType.int) fr lo h0 h (QM G (some (.int r)) h0 h) 0 [(0, .ref a0), (1, .int a1)] [] h := by
  unfold C_deep_b at hF
  refine v_aload_n dX0_deep_0 rfl 0 rfl ?_
  refine v_iload_n dX0_deep_1 rfl 1 rfl ?_
  obtain ⟨v21, e_v21, hF⟩ := Option.bind_eq_some_iff.mp hF
  refine v_calV1 dX0_deep_2 vl_X0_172 q505 (rc_C_isBook e_v21) (ct_C_isBook e_v21) rfl rfl (Nat.le_trans (Nat.le_of_ble_eq_true rfl) hfr) (Nat.le_trans (Nat.le_of_ble_eq_true rfl) hlo) (Nat.le_of_ble_eq_true rfl) ?_
  refine v_if_ne (tgt := 10) dX0_deep_5 (by decide) hF (fun hF => ?_) (fun hF => ?_)
  · refine v_aload_n dX0_deep_10 rfl 0 rfl ?_
    refine v_iload_n dX0_deep_11 rfl 1 rfl ?_
    obtain ⟨v22, e_v22, hF⟩ := Option.bind_eq_some_iff.mp hF
    refine v_calV1 dX0_deep_12 vl_X0_341 q1369 (rc_C_allNeeds e_v22) (ct_C_allNeeds e_v22) rfl rfl (Nat.le_trans (Nat.le_of_ble_eq_true rfl) hfr) (Nat.le_trans (Nat.le_of_ble_eq_true rfl) hlo) (Nat.le_of_ble_eq_true rfl) ?_
    refine v_iconst dX0_deep_15 (v := 1) (by decide) ?_
    refine v_iload_n dX0_deep_16 rfl 1 rfl ?_
    refine v_ishl dX0_deep_17 ?_
    refine v_ior dX0_deep_18 ?_
    refine v_leti hF (fun v23 hF => ?_)
    refine v_istore_n dX0_deep_19 rfl (Nat.le_of_ble_eq_true rfl) (L' := [(2, .int v23), (0, .ref a0), (1, .int a1)]) rfl ?_
    refine v_iconst dX0_deep_20 (v := 0) (by decide) ?_
    refine v_istore_n dX0_deep_21 rfl (Nat.le_of_ble_eq_true rfl) (L' := [(3, .int (0 : Int32)), (2, .int v23), (0, .ref a0), (1, .int a1)]) rfl ?_
    refine v_sub [2, 3, 1, 0] rfl (w_C_deep_L22 hfr hlo ?_ N _ _ _ _ hF)
    intro v39 v40 hF
    refine v_aload_n dX0_deep_58 rfl 0 rfl ?_
    refine v_iload_n dX0_deep_59 rfl 1 rfl ?_
    obtain ⟨v41, e_v41, hF⟩ := Option.bind_eq_some_iff.mp hF
    refine v_calV1 dX0_deep_60 vl_X0_362 q1413 (rcd_C_deepOf 16 e_v41) (ctd_C_deepOf 16 e_v41) rfl rfl (Nat.le_trans (Nat.le_of_ble_eq_true rfl) hfr) (Nat.le_trans (Nat.le_of_ble_eq_true rfl) hlo) (Nat.le_of_ble_eq_true rfl) ?_
    cases hF
    exact v_iret dX0_deep_63 rfl rfl rfl rfl
  · refine v_iconst dX0_deep_8 (v := -1) (by decide) ?_
    cases hF
    exact v_iret dX0_deep_9 rfl rfl rfl rfl
def C_deep (N : Nat) (h : Hp) (a0 : Nat) (a1 : Int32) : Option Int32 := (ob h a0 [0]).bind fun _ => C_deep_b N h a0 a1
theorem rc_C_deep {N : Nat} {h : Hp}  {r : Int32} {a0 : Nat} {a1 : Int32} (hF : C_deep N h a0 a1 = some r) : RC h a0 [0] := by
  obtain ⟨o, ho, -⟩ := Option.bind_eq_some_iff.mp hF
  exact ⟨o, ho⟩
theorem ct_C_deep {l : Launch} {G : GT} {N : Nat} {h : Hp} {r : Int32} {a0 : Nat} {a1 : Int32} (hF : C_deep N h a0 a1 = some r) : Ct l G yX0_deep (ws_ yX0_deep cX0_deep 4 (Option.some Jvm.ClassFile.FieldType.int)) 18 421 [.ref a0, .int a1] h (some (.int r)) h :=
  ct_of (by decide) (Nat.le_of_ble_eq_true rfl) (w_C_deep_b (Nat.le_refl _) (Nat.le_refl _) (Option.bind_eq_some_iff.mp hF).choose_spec.2)
theorem vl_X0_365 : ∀ ci ∈ [0], VL RX0 365 ci yX0_readBy 2 := by
  intro ci h
  simp only [List.mem_cons, List.not_mem_nil, or_false] at h
  subst h; exact ⟨RX0, TX0, 31, rfl, q137, ⟨by decide, by decide⟩, by decide +kernel, q1420, Or.inl ⟨q1418, qs42⟩⟩
def C_readBy_o_J48 (N : Nat) (f : Nat → Int32 → Int32 → Option Int32) (h : Hp) (c5 : Nat → Int32 → Int32 → Int32 → Int32 → Option Int32) (v34 : Nat) (v35 : Int32) (v36 : Int32) (v37 : Int32) (v38 : Int32) : Option Int32 :=
  c5 v34 v35 v36 v38 (v37 + (1 : Int32))
theorem w_C_readBy_o_J48 {l : Launch} {G : GT} {fr lo : Nat} {h0 : Hp} {N : Nat} {f : Nat → Int32 → Int32 → Option Int32} {h : Hp} {r : Int32} {frf lof : Nat} (hbf : 1 ≤ frf) (hbl : 30 ≤ lof) (hfr : frf + 1 ≤ fr) (hlo : lof + 24 ≤ lo) (hf : ∀ (a0 : Nat) (a1 : Int32) (a2 : Int32) (r : Int32), f a0 a1 a2 = some r → RC h a0 [0] ∧ Ct l G yX0_readBy (ws_ yX0_readBy cX0_readBy 5 (Option.some Jvm.ClassFile.FieldType.int)) frf lof [.ref a0, .int a1, .int a2] h (some (.int r)) h) {c5 : Nat → Int32 → Int32 → Int32 → Int32 → Option Int32} (hc5 : ∀ (v21 : Nat) (v22 : Int32) (v23 : Int32) (v24 : Int32) (v25 : Int32), c5 v21 v22 v23 v24 v25 = some r → V l G cX0_readBy RX0 "readBy" 5 (Option.some Jvm.ClassFile.FieldType.int) fr lo h0 h (QM G (some (.int r)) h0 h) 5 [(0, .ref v21), (1, .int v22), (2, .int v23), (3, .int v24), (4, .int v25)] [] h) {v34 : Nat} {v35 : Int32} {v36 : Int32} {v37 : Int32} {v38 : Int32} (hF : C_readBy_o_J48 N f h c5 v34 v35 v36 v37 v38 = some r) : V l G cX0_readBy RX0 "readBy" 5 (Option.some Jvm.ClassFile.FieldType.int) fr lo h0 h (QM G (some (.int r)) h0 h) 48 [(0, .ref v34), (1, .int v35), (2, .int v36), (4, .int v37)] [.int v38] h := by
  unfold C_readBy_o_J48 at hF
  refine v_istore_n dX0_readBy_48 rfl (Nat.le_of_ble_eq_true rfl) (L' := [(3, .int v38), (0, .ref v34), (1, .int v35), (2, .int v36), (4, .int v37)]) rfl ?_
  refine v_iinc dX0_readBy_49 4 rfl (v := v37 + (1 : Int32)) (by rfl) (Nat.le_of_ble_eq_true rfl) (L' := [(4, .int (v37 + (1 : Int32))), (3, .int v38), (0, .ref v34), (1, .int v35), (2, .int v36)]) rfl ?_
  refine v_goto (tgt := 5) dX0_readBy_52 (by decide) ?_
  exact v_sub [2, 3, 4, 1, 0] rfl (hc5 _ _ _ _ _ hF)
def C_readBy_o_L5 (N : Nat) (f : Nat → Int32 → Int32 → Option Int32) (h : Hp) (x5 : Nat → Int32 → Int32 → Option Int32) : Nat → Nat → Int32 → Int32 → Int32 → Int32 → Option Int32
  | 0, _, _, _, _, _ => none
  | n41 + 1, v21, v22, v23, v24, v25 =>
    (C_nBooks h v21).bind fun v29 =>
    if v29 ≤ v25 then
      x5 v21 v22 v24
    else
      (gr h v21 [0] 0).bind fun v30 =>
      (gr h v30 [1] 3).bind fun v31 =>
      (aI h v31 0 v22).bind fun v32 =>
      (C_has (v32 &&& v23) v25).bind fun v33 =>
      if v33 = 0 then
        C_readBy_o_J48 N f h (C_readBy_o_L5 N f h x5 n41) v21 v22 v23 v25 v24
      else
        (f v21 v25 v23).bind fun v39 =>
        (some (if v24 < v39 then v39 else v24)).bind fun (v40 : Int32) =>
        C_readBy_o_J48 N f h (C_readBy_o_L5 N f h x5 n41) v21 v22 v23 v25 v40
theorem w_C_readBy_o_L5 {l : Launch} {G : GT} {fr lo : Nat} {h0 : Hp} {N : Nat} {f : Nat → Int32 → Int32 → Option Int32} {h : Hp} {r : Int32} {frf lof : Nat} (hbf : 1 ≤ frf) (hbl : 30 ≤ lof) (hfr : frf + 1 ≤ fr) (hlo : lof + 24 ≤ lo) (hf : ∀ (a0 : Nat) (a1 : Int32) (a2 : Int32) (r : Int32), f a0 a1 a2 = some r → RC h a0 [0] ∧ Ct l G yX0_readBy (ws_ yX0_readBy cX0_readBy 5 (Option.some Jvm.ClassFile.FieldType.int)) frf lof [.ref a0, .int a1, .int a2] h (some (.int r)) h) {x5 : Nat → Int32 → Int32 → Option Int32} (hx5 : ∀ (v26 : Nat) (v27 : Int32) (v28 : Int32), x5 v26 v27 v28 = some r → V l G cX0_readBy RX0 "readBy" 5 (Option.some Jvm.ClassFile.FieldType.int) fr lo h0 h (QM G (some (.int r)) h0 h) 55 [(0, .ref v26), (1, .int v27), (3, .int v28)] [] h) : ∀ (n : Nat) (v21 : Nat) (v22 : Int32) (v23 : Int32) (v24 : Int32) (v25 : Int32), C_readBy_o_L5 N f h x5 n v21 v22 v23 v24 v25 = some r → V l G cX0_readBy RX0 "readBy" 5 (Option.some Jvm.ClassFile.FieldType.int) fr lo h0 h (QM G (some (.int r)) h0 h) 5 [(0, .ref v21), (1, .int v22), (2, .int v23), (3, .int v24), (4, .int v25)] [] h := by
  intro n
  induction n with
  | zero =>
    intro v21 v22 v23 v24 v25 hF
    cases (show (none : Option Int32) = some r from hF)
  | succ n hc5 =>
    intro v21 v22 v23 v24 v25 hF
    rw [C_readBy_o_L5] at hF
    refine v_iload dX0_readBy_5 4 rfl ?_
    refine v_aload_n dX0_readBy_7 rfl 0 rfl ?_
    obtain ⟨v29, e_v29, hF⟩ := Option.bind_eq_some_iff.mp hF
    refine v_calV1 dX0_readBy_8 vl_X0_125 q482 (rc_C_nBooks e_v29) (ct_C_nBooks e_v29) rfl rfl (by omega) (by omega) (Nat.le_of_ble_eq_true rfl) ?_
    refine v_icmp_ge (tgt := 55) dX0_readBy_11 (by decide) hF (fun hF => ?_) (fun hF => ?_)
    · exact v_sub [0, 1, 3] rfl (hx5 _ _ _ hF)
    · refine v_aload_n dX0_readBy_14 rfl 0 rfl ?_
      refine v_getr dX0_readBy_15 fl_X0_10 hF (fun v30 hF => ?_)
      refine v_getr dX0_readBy_18 fl_X0_145 hF (fun v31 hF => ?_)
      refine v_iload_n dX0_readBy_21 rfl 1 rfl ?_
      refine v_iald dX0_readBy_22 hF (fun v32 hF => ?_)
      refine v_iload_n dX0_readBy_23 rfl 2 rfl ?_
      refine v_iand dX0_readBy_24 ?_
      refine v_iload dX0_readBy_25 4 rfl ?_
      obtain ⟨v33, e_v33, hF⟩ := Option.bind_eq_some_iff.mp hF
      refine v_calS1 dX0_readBy_27 sl_X0_141 q516 (ct_C_has e_v33) rfl rfl (by omega) (by omega) (Nat.le_of_ble_eq_true rfl) ?_
      refine v_if_eq (tgt := 47) dX0_readBy_30 (by decide) hF (fun hF => ?_) (fun hF => ?_)
      · refine v_iload_n dX0_readBy_47 rfl 3 rfl ?_
        exact v_sub [0, 1, 2, 4] rfl (w_C_readBy_o_J48 hbf hbl hfr hlo hf hc5 hF)
      · refine v_iload_n dX0_readBy_33 rfl 3 rfl ?_
        refine v_aload_n dX0_readBy_34 rfl 0 rfl ?_
        refine v_iload dX0_readBy_35 4 rfl ?_
        refine v_iload_n dX0_readBy_37 rfl 2 rfl ?_
        obtain ⟨v39, e_v39, hF⟩ := Option.bind_eq_some_iff.mp hF
        refine v_calV1 dX0_readBy_38 vl_X0_365 q1421 (hf _ _ _ _ e_v39).1 ((hf _ _ _ _ e_v39).2) rfl rfl (by omega) (by omega) (Nat.le_of_ble_eq_true rfl) ?_
        refine v_mmax dX0_readBy_41 q1356 (by omega) (by omega) (Nat.le_of_ble_eq_true rfl) ?_
        refine v_leti hF (fun v40 hF => ?_)
        refine v_goto (tgt := 48) dX0_readBy_44 (by decide) ?_
        exact v_sub [0, 1, 2, 4] rfl (w_C_readBy_o_J48 hbf hbl hfr hlo hf hc5 hF)
def C_readBy_o_b (N : Nat) (f : Nat → Int32 → Int32 → Option Int32) (h : Hp) (a0 : Nat) (a1 : Int32) (a2 : Int32) : Option Int32 :=
  C_readBy_o_L5 N f h (fun v42 v43 v44 =>
    (gr h v42 [0] 0).bind fun v45 =>
    (gr h v45 [1] 1).bind fun v46 =>
    (aI h v46 0 v43).bind fun v47 =>
    some (v44 + v47)) N a0 a1 a2 (0 : Int32) (0 : Int32)
theorem w_C_readBy_o_b {l : Launch} {G : GT} {fr lo : Nat} {h0 : Hp} {N : Nat} {f : Nat → Int32 → Int32 → Option Int32} {h : Hp} {r : Int32} {frf lof : Nat} (hbf : 1 ≤ frf) (hbl : 30 ≤ lof) (hfr : frf + 1 ≤ fr) (hlo : lof + 24 ≤ lo) (hf : ∀ (a0 : Nat) (a1 : Int32) (a2 : Int32) (r : Int32), f a0 a1 a2 = some r → RC h a0 [0] ∧ Ct l G yX0_readBy (ws_ yX0_readBy cX0_readBy 5 (Option.some Jvm.ClassFile.FieldType.int)) frf lof [.ref a0, .int a1, .int a2] h (some (.int r)) h) {a0 : Nat} {a1 : Int32} {a2 : Int32} (hF : C_readBy_o_b N f h a0 a1 a2 = some r) : V l G cX0_readBy RX0 "readBy" 5 (Option.some Jvm.ClassFile.FieldType.int) fr lo h0 h (QM G (some (.int r)) h0 h) 0 [(0, .ref a0), (1, .int a1), (2, .int a2)] [] h := by
  unfold C_readBy_o_b at hF
  refine v_iconst dX0_readBy_0 (v := 0) (by decide) ?_
  refine v_istore_n dX0_readBy_1 rfl (Nat.le_of_ble_eq_true rfl) (L' := [(3, .int (0 : Int32)), (0, .ref a0), (1, .int a1), (2, .int a2)]) rfl ?_
  refine v_iconst dX0_readBy_2 (v := 0) (by decide) ?_
  refine v_istore dX0_readBy_3 (Nat.le_of_ble_eq_true rfl) (L' := [(4, .int (0 : Int32)), (3, .int (0 : Int32)), (0, .ref a0), (1, .int a1), (2, .int a2)]) rfl ?_
  refine v_sub [2, 3, 4, 1, 0] rfl (w_C_readBy_o_L5 hbf hbl hfr hlo hf ?_ N _ _ _ _ _ hF)
  intro v42 v43 v44 hF
  refine v_iload_n dX0_readBy_55 rfl 2 rfl ?_
  refine v_aload_n dX0_readBy_56 rfl 0 rfl ?_
  refine v_getr dX0_readBy_57 fl_X0_10 hF (fun v45 hF => ?_)
  refine v_getr dX0_readBy_60 fl_X0_159 hF (fun v46 hF => ?_)
  refine v_iload_n dX0_readBy_63 rfl 1 rfl ?_
  refine v_iald dX0_readBy_64 hF (fun v47 hF => ?_)
  refine v_iadd dX0_readBy_65 ?_
  cases hF
  exact v_iret dX0_readBy_66 rfl rfl rfl rfl
def C_readBy_o (N : Nat) (f : Nat → Int32 → Int32 → Option Int32) (h : Hp) (a0 : Nat) (a1 : Int32) (a2 : Int32) : Option Int32 := (ob h a0 [0]).bind fun _ => C_readBy_o_b N f h a0 a1 a2
theorem rc_C_readBy_o {N : Nat} {h : Hp}  {f : Nat → Int32 → Int32 → Option Int32} {r : Int32} {a0 : Nat} {a1 : Int32} {a2 : Int32} (hF : C_readBy_o N f h a0 a1 a2 = some r) : RC h a0 [0] := by
  obtain ⟨o, ho, -⟩ := Option.bind_eq_some_iff.mp hF
  exact ⟨o, ho⟩
theorem ct_C_readBy_o {l : Launch} {G : GT} {N : Nat} {h : Hp} {f : Nat → Int32 → Int32 → Option Int32} {frf lof : Nat} (hbf : 1 ≤ frf) (hbl : 30 ≤ lof) (hf : ∀ (a0 : Nat) (a1 : Int32) (a2 : Int32) (r : Int32), f a0 a1 a2 = some r → RC h a0 [0] ∧ Ct l G yX0_readBy (ws_ yX0_readBy cX0_readBy 5 (Option.some Jvm.ClassFile.FieldType.int)) frf lof [.ref a0, .int a1, .int a2] h (some (.int r)) h) {r : Int32} {a0 : Nat} {a1 : Int32} {a2 : Int32} (hF : C_readBy_o N f h a0 a1 a2 = some r) : Ct l G yX0_readBy (ws_ yX0_readBy cX0_readBy 5 (Option.some Jvm.ClassFile.FieldType.int)) (frf + 1) (lof + 24) [.ref a0, .int a1, .int a2] h (some (.int r)) h :=
  ct_of (by decide) (Nat.le_of_ble_eq_true rfl) (w_C_readBy_o_b hbf hbl (Nat.le_refl _) (Nat.le_refl _) hf (Option.bind_eq_some_iff.mp hF).choose_spec.2)
def C_readBy (N : Nat) (h : Hp) : Nat → Nat → Int32 → Int32 → Option Int32
  | 0, _, _, _ => none
  | d + 1, a0, a1, a2 => C_readBy_o N (C_readBy N h d) h a0 a1 a2
theorem rcd_C_readBy {N : Nat} {h : Hp} : ∀ (d : Nat) {r : Int32} {a0 : Nat} {a1 : Int32} {a2 : Int32} (hF : C_readBy N h d a0 a1 a2 = some r), RC h a0 [0] := by
  intro d r a0 a1 a2 hF
  cases d with
  | zero => cases (show (none : Option Int32) = some r from hF)
  | succ d => exact rc_C_readBy_o hF
theorem ctd_C_readBy {l : Launch} {G : GT} {N : Nat} {h : Hp} : ∀ (d : Nat) {r : Int32} {a0 : Nat} {a1 : Int32} {a2 : Int32} (hF : C_readBy N h d a0 a1 a2 = some r), Ct l G yX0_readBy (ws_ yX0_readBy cX0_readBy 5 (Option.some Jvm.ClassFile.FieldType.int)) (1 + 1 * d) (30 + 24 * d) [.ref a0, .int a1, .int a2] h (some (.int r)) h := by
  intro d
  induction d with
  | zero => intro r a0 a1 a2 hF; cases (show (none : Option Int32) = some r from hF)
  | succ d ih =>
    intro r a0 a1 a2 hF
    rw [show 1 + 1 * (d + 1) = (1 + 1 * d) + 1 by omega, show 30 + 24 * (d + 1) = (30 + 24 * d) + 24 by omega]
    exact ct_C_readBy_o (frf := 1 + 1 * d) (lof := 30 + 24 * d) (by omega) (by omega) (fun _ _ _ _ z => ⟨rcd_C_readBy d z, ih z⟩) hF
def C_atOnce_J39 (N : Nat) (h : Hp) (c9 : Nat → Int32 → Int32 → Int32 → Option Int32) (v29 : Nat) (v30 : Int32) (v31 : Int32) (v32 : Int32) : Option Int32 :=
  c9 v29 v30 v32 (v31 + (1 : Int32))
theorem w_C_atOnce_J39 {l : Launch} {G : GT} {fr lo : Nat} {h0 : Hp} {N : Nat} {h : Hp} {r : Int32} (hfr : 18 ≤ fr) (hlo : 438 ≤ lo) {c9 : Nat → Int32 → Int32 → Int32 → Option Int32} (hc9 : ∀ (v22 : Nat) (v23 : Int32) (v24 : Int32) (v25 : Int32), c9 v22 v23 v24 v25 = some r → V l G cX0_atOnce RX0 "atOnce" 4 (Option.some Jvm.ClassFile.FieldType.int) fr lo h0 h (QM G (some (.int r)) h0 h) 9 [(0, .ref v22), (1, .int v23), (2, .int v24), (3, .int v25)] [] h) {v29 : Nat} {v30 : Int32} {v31 : Int32} {v32 : Int32} (hF : C_atOnce_J39 N h c9 v29 v30 v31 v32 = some r) : V l G cX0_atOnce RX0 "atOnce" 4 (Option.some Jvm.ClassFile.FieldType.int) fr lo h0 h (QM G (some (.int r)) h0 h) 39 [(0, .ref v29), (1, .int v30), (3, .int v31)] [.int v32] h := by
  unfold C_atOnce_J39 at hF
  refine v_istore_n dX0_atOnce_39 rfl (Nat.le_of_ble_eq_true rfl) (L' := [(2, .int v32), (0, .ref v29), (1, .int v30), (3, .int v31)]) rfl ?_
  refine v_iinc dX0_atOnce_40 3 rfl (v := v31 + (1 : Int32)) (by rfl) (Nat.le_of_ble_eq_true rfl) (L' := [(3, .int (v31 + (1 : Int32))), (2, .int v32), (0, .ref v29), (1, .int v30)]) rfl ?_
  refine v_goto (tgt := 9) dX0_atOnce_43 (by decide) ?_
  exact v_sub [2, 3, 1, 0] rfl (hc9 _ _ _ _ hF)
def C_atOnce_L9 (N : Nat) (h : Hp) (x9 : Int32 → Option Int32) : Nat → Nat → Int32 → Int32 → Int32 → Option Int32
  | 0, _, _, _, _ => none
  | n35 + 1, v22, v23, v24, v25 =>
    (C_nBooks h v22).bind fun v27 =>
    if v27 ≤ v25 then
      x9 v24
    else
      (C_has v23 v25).bind fun v28 =>
      if v28 = 0 then
        C_atOnce_J39 N h (C_atOnce_L9 N h x9 n35) v22 v23 v25 v24
      else
        (C_readBy N h 16 v22 v25 v23).bind fun v33 =>
        (some (if v24 < v33 then v33 else v24)).bind fun (v34 : Int32) =>
        C_atOnce_J39 N h (C_atOnce_L9 N h x9 n35) v22 v23 v25 v34
theorem w_C_atOnce_L9 {l : Launch} {G : GT} {fr lo : Nat} {h0 : Hp} {N : Nat} {h : Hp} {r : Int32} (hfr : 18 ≤ fr) (hlo : 438 ≤ lo) {x9 : Int32 → Option Int32} (hx9 : ∀ (v26 : Int32), x9 v26 = some r → V l G cX0_atOnce RX0 "atOnce" 4 (Option.some Jvm.ClassFile.FieldType.int) fr lo h0 h (QM G (some (.int r)) h0 h) 46 [(2, .int v26)] [] h) : ∀ (n : Nat) (v22 : Nat) (v23 : Int32) (v24 : Int32) (v25 : Int32), C_atOnce_L9 N h x9 n v22 v23 v24 v25 = some r → V l G cX0_atOnce RX0 "atOnce" 4 (Option.some Jvm.ClassFile.FieldType.int) fr lo h0 h (QM G (some (.int r)) h0 h) 9 [(0, .ref v22), (1, .int v23), (2, .int v24), (3, .int v25)] [] h := by
  intro n
  induction n with
  | zero =>
    intro v22 v23 v24 v25 hF
    cases (show (none : Option Int32) = some r from hF)
  | succ n hc9 =>
    intro v22 v23 v24 v25 hF
    rw [C_atOnce_L9] at hF
    refine v_iload_n dX0_atOnce_9 rfl 3 rfl ?_
    refine v_aload_n dX0_atOnce_10 rfl 0 rfl ?_
    obtain ⟨v27, e_v27, hF⟩ := Option.bind_eq_some_iff.mp hF
    refine v_calV1 dX0_atOnce_11 vl_X0_125 q482 (rc_C_nBooks e_v27) (ct_C_nBooks e_v27) rfl rfl (Nat.le_trans (Nat.le_of_ble_eq_true rfl) hfr) (Nat.le_trans (Nat.le_of_ble_eq_true rfl) hlo) (Nat.le_of_ble_eq_true rfl) ?_
    refine v_icmp_ge (tgt := 46) dX0_atOnce_14 (by decide) hF (fun hF => ?_) (fun hF => ?_)
    · exact v_sub [2] rfl (hx9 _ hF)
    · refine v_iload_n dX0_atOnce_17 rfl 1 rfl ?_
      refine v_iload_n dX0_atOnce_18 rfl 3 rfl ?_
      obtain ⟨v28, e_v28, hF⟩ := Option.bind_eq_some_iff.mp hF
      refine v_calS1 dX0_atOnce_19 sl_X0_141 q516 (ct_C_has e_v28) rfl rfl (Nat.le_trans (Nat.le_of_ble_eq_true rfl) hfr) (Nat.le_trans (Nat.le_of_ble_eq_true rfl) hlo) (Nat.le_of_ble_eq_true rfl) ?_
      refine v_if_eq (tgt := 38) dX0_atOnce_22 (by decide) hF (fun hF => ?_) (fun hF => ?_)
      · refine v_iload_n dX0_atOnce_38 rfl 2 rfl ?_
        exact v_sub [0, 1, 3] rfl (w_C_atOnce_J39 hfr hlo hc9 hF)
      · refine v_iload_n dX0_atOnce_25 rfl 2 rfl ?_
        refine v_aload_n dX0_atOnce_26 rfl 0 rfl ?_
        refine v_iload_n dX0_atOnce_27 rfl 3 rfl ?_
        refine v_iload_n dX0_atOnce_28 rfl 1 rfl ?_
        obtain ⟨v33, e_v33, hF⟩ := Option.bind_eq_some_iff.mp hF
        refine v_calV1 dX0_atOnce_29 vl_X0_365 q1421 (rcd_C_readBy 16 e_v33) (ctd_C_readBy 16 e_v33) rfl rfl (Nat.le_trans (Nat.le_of_ble_eq_true rfl) hfr) (Nat.le_trans (Nat.le_of_ble_eq_true rfl) hlo) (Nat.le_of_ble_eq_true rfl) ?_
        refine v_mmax dX0_atOnce_32 q1356 (by omega) (by omega) (Nat.le_of_ble_eq_true rfl) ?_
        refine v_leti hF (fun v34 hF => ?_)
        refine v_goto (tgt := 39) dX0_atOnce_35 (by decide) ?_
        exact v_sub [0, 1, 3] rfl (w_C_atOnce_J39 hfr hlo hc9 hF)
def C_atOnce_b (N : Nat) (h : Hp) (a0 : Nat) : Option Int32 :=
  (C_left N h a0).bind fun v21 =>
  C_atOnce_L9 N h (fun v36 =>
    some v36) N a0 v21 (0 : Int32) (0 : Int32)
theorem w_C_atOnce_b {l : Launch} {G : GT} {fr lo : Nat} {h0 : Hp} {N : Nat} {h : Hp} {r : Int32} (hfr : 18 ≤ fr) (hlo : 438 ≤ lo) {a0 : Nat} (hF : C_atOnce_b N h a0 = some r) : V l G cX0_atOnce RX0 "atOnce" 4 (Option.some Jvm.ClassFile.FieldType.int) fr lo h0 h (QM G (some (.int r)) h0 h) 0 [(0, .ref a0)] [] h := by
  unfold C_atOnce_b at hF
  refine v_aload_n dX0_atOnce_0 rfl 0 rfl ?_
  obtain ⟨v21, e_v21, hF⟩ := Option.bind_eq_some_iff.mp hF
  refine v_calV1 dX0_atOnce_1 vl_X0_350 q1389 (rc_C_left e_v21) (ct_C_left e_v21) rfl rfl (Nat.le_trans (Nat.le_of_ble_eq_true rfl) hfr) (Nat.le_trans (Nat.le_of_ble_eq_true rfl) hlo) (Nat.le_of_ble_eq_true rfl) ?_
  refine v_istore_n dX0_atOnce_4 rfl (Nat.le_of_ble_eq_true rfl) (L' := [(1, .int v21), (0, .ref a0)]) rfl ?_
  refine v_iconst dX0_atOnce_5 (v := 0) (by decide) ?_
  refine v_istore_n dX0_atOnce_6 rfl (Nat.le_of_ble_eq_true rfl) (L' := [(2, .int (0 : Int32)), (1, .int v21), (0, .ref a0)]) rfl ?_
  refine v_iconst dX0_atOnce_7 (v := 0) (by decide) ?_
  refine v_istore_n dX0_atOnce_8 rfl (Nat.le_of_ble_eq_true rfl) (L' := [(3, .int (0 : Int32)), (2, .int (0 : Int32)), (1, .int v21), (0, .ref a0)]) rfl ?_
  refine v_sub [3, 2, 1, 0] rfl (w_C_atOnce_L9 hfr hlo ?_ N _ _ _ _ hF)
  intro v36 hF
  refine v_iload_n dX0_atOnce_46 rfl 0 rfl ?_
  cases hF
  exact v_iret dX0_atOnce_47 rfl rfl rfl rfl
def C_atOnce (N : Nat) (h : Hp) (a0 : Nat) : Option Int32 := (ob h a0 [0]).bind fun _ => C_atOnce_b N h a0
theorem rc_C_atOnce {N : Nat} {h : Hp}  {r : Int32} {a0 : Nat} (hF : C_atOnce N h a0 = some r) : RC h a0 [0] := by
  obtain ⟨o, ho, -⟩ := Option.bind_eq_some_iff.mp hF
  exact ⟨o, ho⟩
theorem ct_C_atOnce {l : Launch} {G : GT} {N : Nat} {h : Hp} {r : Int32} {a0 : Nat} (hF : C_atOnce N h a0 = some r) : Ct l G yX0_atOnce (ws_ yX0_atOnce cX0_atOnce 4 (Option.some Jvm.ClassFile.FieldType.int)) 18 438 [.ref a0] h (some (.int r)) h :=
  ct_of (by decide) (Nat.le_of_ble_eq_true rfl) (w_C_atOnce_b (Nat.le_refl _) (Nat.le_refl _) (Option.bind_eq_some_iff.mp hF).choose_spec.2)
def C_key_J98 (N : Nat) (h : Hp) (c52 : Nat → Int32 → Int32 → Int32 → Int32 → Int32 → Int32 → Int32 → Option Int32) (v58 : Nat) (v59 : Int32) (v60 : Int32) (v61 : Int32) (v62 : Int32) (v63 : Int32) (v64 : Int32) (v65 : Int32) (v66 : Int32) : Option Int32 :=
  c52 v58 v59 v60 v61 v62 v63 (v66 + v65) (v64 + (1 : Int32))
theorem w_C_key_J98 {l : Launch} {G : GT} {fr lo : Nat} {h0 : Hp} {N : Nat} {h : Hp} {r : Int32} (hfr : 4 ≤ fr) (hlo : 86 ≤ lo) {c52 : Nat → Int32 → Int32 → Int32 → Int32 → Int32 → Int32 → Int32 → Option Int32} (hc52 : ∀ (v34 : Nat) (v35 : Int32) (v36 : Int32) (v37 : Int32) (v38 : Int32) (v39 : Int32) (v40 : Int32) (v41 : Int32), c52 v34 v35 v36 v37 v38 v39 v40 v41 = some r → V l G cX0_key RX0 "key" 8 (Option.some Jvm.ClassFile.FieldType.int) fr lo h0 h (QM G (some (.int r)) h0 h) 52 [(0, .ref v34), (1, .int v35), (2, .int v36), (3, .int v37), (4, .int v38), (5, .int v39), (6, .int v40), (7, .int v41)] [] h) {v58 : Nat} {v59 : Int32} {v60 : Int32} {v61 : Int32} {v62 : Int32} {v63 : Int32} {v64 : Int32} {v65 : Int32} {v66 : Int32} (hF : C_key_J98 N h c52 v58 v59 v60 v61 v62 v63 v64 v65 v66 = some r) : V l G cX0_key RX0 "key" 8 (Option.some Jvm.ClassFile.FieldType.int) fr lo h0 h (QM G (some (.int r)) h0 h) 98 [(0, .ref v58), (1, .int v59), (2, .int v60), (3, .int v61), (4, .int v62), (5, .int v63), (7, .int v64)] [.int v65, .int v66] h := by
  unfold C_key_J98 at hF
  refine v_iadd dX0_key_98 ?_
  refine v_istore dX0_key_99 (Nat.le_of_ble_eq_true rfl) (L' := [(6, .int (v66 + v65)), (0, .ref v58), (1, .int v59), (2, .int v60), (3, .int v61), (4, .int v62), (5, .int v63), (7, .int v64)]) rfl ?_
  refine v_iinc dX0_key_101 7 rfl (v := v64 + (1 : Int32)) (by rfl) (Nat.le_of_ble_eq_true rfl) (L' := [(7, .int (v64 + (1 : Int32))), (6, .int (v66 + v65)), (0, .ref v58), (1, .int v59), (2, .int v60), (3, .int v61), (4, .int v62), (5, .int v63)]) rfl ?_
  refine v_goto (tgt := 52) dX0_key_104 (by decide) ?_
  exact v_sub [2, 3, 4, 5, 6, 7, 1, 0] rfl (hc52 _ _ _ _ _ _ _ _ hF)
def C_key_J97 (N : Nat) (h : Hp) (c52 : Nat → Int32 → Int32 → Int32 → Int32 → Int32 → Int32 → Int32 → Option Int32) (v50 : Nat) (v51 : Int32) (v52 : Int32) (v53 : Int32) (v54 : Int32) (v55 : Int32) (v56 : Int32) (v57 : Int32) : Option Int32 :=
  C_key_J98 N h c52 v50 v51 v52 v53 v54 v55 v56 (0 : Int32) v57
theorem w_C_key_J97 {l : Launch} {G : GT} {fr lo : Nat} {h0 : Hp} {N : Nat} {h : Hp} {r : Int32} (hfr : 4 ≤ fr) (hlo : 86 ≤ lo) {c52 : Nat → Int32 → Int32 → Int32 → Int32 → Int32 → Int32 → Int32 → Option Int32} (hc52 : ∀ (v34 : Nat) (v35 : Int32) (v36 : Int32) (v37 : Int32) (v38 : Int32) (v39 : Int32) (v40 : Int32) (v41 : Int32), c52 v34 v35 v36 v37 v38 v39 v40 v41 = some r → V l G cX0_key RX0 "key" 8 (Option.some Jvm.ClassFile.FieldType.int) fr lo h0 h (QM G (some (.int r)) h0 h) 52 [(0, .ref v34), (1, .int v35), (2, .int v36), (3, .int v37), (4, .int v38), (5, .int v39), (6, .int v40), (7, .int v41)] [] h) {v50 : Nat} {v51 : Int32} {v52 : Int32} {v53 : Int32} {v54 : Int32} {v55 : Int32} {v56 : Int32} {v57 : Int32} (hF : C_key_J97 N h c52 v50 v51 v52 v53 v54 v55 v56 v57 = some r) : V l G cX0_key RX0 "key" 8 (Option.some Jvm.ClassFile.FieldType.int) fr lo h0 h (QM G (some (.int r)) h0 h) 97 [(0, .ref v50), (1, .int v51), (2, .int v52), (3, .int v53), (4, .int v54), (5, .int v55), (7, .int v56)] [.int v57] h := by
  unfold C_key_J97 at hF
  refine v_iconst dX0_key_97 (v := 0) (by decide) ?_
  exact v_sub [0, 1, 2, 3, 4, 5, 6] rfl (w_C_key_J98 hfr hlo hc52 hF)
def C_key_L52 (N : Nat) (h : Hp) (x52 : Nat → Int32 → Int32 → Int32 → Int32 → Int32 → Int32 → Option Int32) : Nat → Nat → Int32 → Int32 → Int32 → Int32 → Int32 → Int32 → Int32 → Option Int32
  | 0, _, _, _, _, _, _, _, _ => none
  | n70 + 1, v34, v35, v36, v37, v38, v39, v40, v41 =>
    (C_nBooks h v34).bind fun v49 =>
    if v49 ≤ v41 then
      x52 v34 v35 v36 v37 v38 v39 v40
    else
      if v41 = v39 then
        C_key_J97 N h (C_key_L52 N h x52 n70) v34 v35 v36 v37 v38 v39 v41 v40
      else
        (C_has v36 v41).bind fun v67 =>
        if v67 = 0 then
          C_key_J97 N h (C_key_L52 N h x52 n70) v34 v35 v36 v37 v38 v39 v41 v40
        else
          (C_allNeeds N h v34 v41).bind fun v68 =>
          (C_has v68 v39).bind fun v69 =>
          if v69 = 0 then
            C_key_J97 N h (C_key_L52 N h x52 n70) v34 v35 v36 v37 v38 v39 v41 v40
          else
            C_key_J98 N h (C_key_L52 N h x52 n70) v34 v35 v36 v37 v38 v39 v41 (1 : Int32) v40
theorem w_C_key_L52 {l : Launch} {G : GT} {fr lo : Nat} {h0 : Hp} {N : Nat} {h : Hp} {r : Int32} (hfr : 4 ≤ fr) (hlo : 86 ≤ lo) {x52 : Nat → Int32 → Int32 → Int32 → Int32 → Int32 → Int32 → Option Int32} (hx52 : ∀ (v42 : Nat) (v43 : Int32) (v44 : Int32) (v45 : Int32) (v46 : Int32) (v47 : Int32) (v48 : Int32), x52 v42 v43 v44 v45 v46 v47 v48 = some r → V l G cX0_key RX0 "key" 8 (Option.some Jvm.ClassFile.FieldType.int) fr lo h0 h (QM G (some (.int r)) h0 h) 107 [(0, .ref v42), (1, .int v43), (2, .int v44), (3, .int v45), (4, .int v46), (5, .int v47), (6, .int v48)] [] h) : ∀ (n : Nat) (v34 : Nat) (v35 : Int32) (v36 : Int32) (v37 : Int32) (v38 : Int32) (v39 : Int32) (v40 : Int32) (v41 : Int32), C_key_L52 N h x52 n v34 v35 v36 v37 v38 v39 v40 v41 = some r → V l G cX0_key RX0 "key" 8 (Option.some Jvm.ClassFile.FieldType.int) fr lo h0 h (QM G (some (.int r)) h0 h) 52 [(0, .ref v34), (1, .int v35), (2, .int v36), (3, .int v37), (4, .int v38), (5, .int v39), (6, .int v40), (7, .int v41)] [] h := by
  intro n
  induction n with
  | zero =>
    intro v34 v35 v36 v37 v38 v39 v40 v41 hF
    cases (show (none : Option Int32) = some r from hF)
  | succ n hc52 =>
    intro v34 v35 v36 v37 v38 v39 v40 v41 hF
    rw [C_key_L52] at hF
    refine v_iload dX0_key_52 7 rfl ?_
    refine v_aload_n dX0_key_54 rfl 0 rfl ?_
    obtain ⟨v49, e_v49, hF⟩ := Option.bind_eq_some_iff.mp hF
    refine v_calV1 dX0_key_55 vl_X0_125 q482 (rc_C_nBooks e_v49) (ct_C_nBooks e_v49) rfl rfl (Nat.le_trans (Nat.le_of_ble_eq_true rfl) hfr) (Nat.le_trans (Nat.le_of_ble_eq_true rfl) hlo) (Nat.le_of_ble_eq_true rfl) ?_
    refine v_icmp_ge (tgt := 107) dX0_key_58 (by decide) hF (fun hF => ?_) (fun hF => ?_)
    · exact v_sub [0, 1, 2, 3, 4, 5, 6] rfl (hx52 _ _ _ _ _ _ _ hF)
    · refine v_iload dX0_key_61 6 rfl ?_
      refine v_iload dX0_key_63 7 rfl ?_
      refine v_iload dX0_key_65 5 rfl ?_
      refine v_icmp_eq (tgt := 97) dX0_key_67 (by decide) hF (fun hF => ?_) (fun hF => ?_)
      · exact v_sub [0, 1, 2, 3, 4, 5, 7] rfl (w_C_key_J97 hfr hlo hc52 hF)
      · refine v_iload_n dX0_key_70 rfl 2 rfl ?_
        refine v_iload dX0_key_71 7 rfl ?_
        obtain ⟨v67, e_v67, hF⟩ := Option.bind_eq_some_iff.mp hF
        refine v_calS1 dX0_key_73 sl_X0_141 q516 (ct_C_has e_v67) rfl rfl (Nat.le_trans (Nat.le_of_ble_eq_true rfl) hfr) (Nat.le_trans (Nat.le_of_ble_eq_true rfl) hlo) (Nat.le_of_ble_eq_true rfl) ?_
        refine v_if_eq (tgt := 97) dX0_key_76 (by decide) hF (fun hF => ?_) (fun hF => ?_)
        · exact v_sub [0, 1, 2, 3, 4, 5, 7] rfl (w_C_key_J97 hfr hlo hc52 hF)
        · refine v_aload_n dX0_key_79 rfl 0 rfl ?_
          refine v_iload dX0_key_80 7 rfl ?_
          obtain ⟨v68, e_v68, hF⟩ := Option.bind_eq_some_iff.mp hF
          refine v_calV1 dX0_key_82 vl_X0_341 q1369 (rc_C_allNeeds e_v68) (ct_C_allNeeds e_v68) rfl rfl (Nat.le_trans (Nat.le_of_ble_eq_true rfl) hfr) (Nat.le_trans (Nat.le_of_ble_eq_true rfl) hlo) (Nat.le_of_ble_eq_true rfl) ?_
          refine v_iload dX0_key_85 5 rfl ?_
          obtain ⟨v69, e_v69, hF⟩ := Option.bind_eq_some_iff.mp hF
          refine v_calS1 dX0_key_87 sl_X0_141 q516 (ct_C_has e_v69) rfl rfl (Nat.le_trans (Nat.le_of_ble_eq_true rfl) hfr) (Nat.le_trans (Nat.le_of_ble_eq_true rfl) hlo) (Nat.le_of_ble_eq_true rfl) ?_
          refine v_if_eq (tgt := 97) dX0_key_90 (by decide) hF (fun hF => ?_) (fun hF => ?_)
          · exact v_sub [0, 1, 2, 3, 4, 5, 7] rfl (w_C_key_J97 hfr hlo hc52 hF)
          · refine v_iconst dX0_key_93 (v := 1) (by decide) ?_
            refine v_goto (tgt := 98) dX0_key_94 (by decide) ?_
            exact v_sub [0, 1, 2, 3, 4, 5, 7] rfl (w_C_key_J98 hfr hlo hc52 hF)
def C_key_J129 (N : Nat) (h : Hp) (c25 : Nat → Int32 → Int32 → Int32 → Int32 → Int32 → Option Int32) (v86 : Nat) (v87 : Int32) (v88 : Int32) (v89 : Int32) (v90 : Int32) (v91 : Int32) : Option Int32 :=
  c25 v86 v87 v88 v89 v90 (v91 + (1 : Int32))
theorem w_C_key_J129 {l : Launch} {G : GT} {fr lo : Nat} {h0 : Hp} {N : Nat} {h : Hp} {r : Int32} (hfr : 4 ≤ fr) (hlo : 86 ≤ lo) {c25 : Nat → Int32 → Int32 → Int32 → Int32 → Int32 → Option Int32} (hc25 : ∀ (v23 : Nat) (v24 : Int32) (v25 : Int32) (v26 : Int32) (v27 : Int32) (v28 : Int32), c25 v23 v24 v25 v26 v27 v28 = some r → V l G cX0_key RX0 "key" 8 (Option.some Jvm.ClassFile.FieldType.int) fr lo h0 h (QM G (some (.int r)) h0 h) 25 [(0, .ref v23), (1, .int v24), (2, .int v25), (3, .int v26), (4, .int v27), (5, .int v28)] [] h) {v86 : Nat} {v87 : Int32} {v88 : Int32} {v89 : Int32} {v90 : Int32} {v91 : Int32} (hF : C_key_J129 N h c25 v86 v87 v88 v89 v90 v91 = some r) : V l G cX0_key RX0 "key" 8 (Option.some Jvm.ClassFile.FieldType.int) fr lo h0 h (QM G (some (.int r)) h0 h) 129 [(0, .ref v86), (1, .int v87), (2, .int v88), (3, .int v89), (4, .int v90), (5, .int v91)] [] h := by
  unfold C_key_J129 at hF
  refine v_iinc dX0_key_129 5 rfl (v := v91 + (1 : Int32)) (by rfl) (Nat.le_of_ble_eq_true rfl) (L' := [(5, .int (v91 + (1 : Int32))), (0, .ref v86), (1, .int v87), (2, .int v88), (3, .int v89), (4, .int v90)]) rfl ?_
  refine v_goto (tgt := 25) dX0_key_132 (by decide) ?_
  exact v_sub [1, 2, 3, 4, 5, 0] rfl (hc25 _ _ _ _ _ _ hF)
def C_key_J120 (N : Nat) (h : Hp) (c25 : Nat → Int32 → Int32 → Int32 → Int32 → Int32 → Option Int32) (v78 : Nat) (v79 : Int32) (v80 : Int32) (v81 : Int32) (v82 : Int32) (v83 : Int32) (v84 : Int32) : Option Int32 :=
  (some (if v81 < v83 then v83 else v81)).bind fun (v85 : Int32) =>
  C_key_J129 N h c25 v78 v79 v80 v85 v84 v82
theorem w_C_key_J120 {l : Launch} {G : GT} {fr lo : Nat} {h0 : Hp} {N : Nat} {h : Hp} {r : Int32} (hfr : 4 ≤ fr) (hlo : 86 ≤ lo) {c25 : Nat → Int32 → Int32 → Int32 → Int32 → Int32 → Option Int32} (hc25 : ∀ (v23 : Nat) (v24 : Int32) (v25 : Int32) (v26 : Int32) (v27 : Int32) (v28 : Int32), c25 v23 v24 v25 v26 v27 v28 = some r → V l G cX0_key RX0 "key" 8 (Option.some Jvm.ClassFile.FieldType.int) fr lo h0 h (QM G (some (.int r)) h0 h) 25 [(0, .ref v23), (1, .int v24), (2, .int v25), (3, .int v26), (4, .int v27), (5, .int v28)] [] h) {v78 : Nat} {v79 : Int32} {v80 : Int32} {v81 : Int32} {v82 : Int32} {v83 : Int32} {v84 : Int32} (hF : C_key_J120 N h c25 v78 v79 v80 v81 v82 v83 v84 = some r) : V l G cX0_key RX0 "key" 8 (Option.some Jvm.ClassFile.FieldType.int) fr lo h0 h (QM G (some (.int r)) h0 h) 120 [(0, .ref v78), (1, .int v79), (2, .int v80), (3, .int v81), (5, .int v82), (6, .int v83)] [.int v84] h := by
  unfold C_key_J120 at hF
  refine v_istore dX0_key_120 (Nat.le_of_ble_eq_true rfl) (L' := [(4, .int v84), (0, .ref v78), (1, .int v79), (2, .int v80), (3, .int v81), (5, .int v82), (6, .int v83)]) rfl ?_
  refine v_iload_n dX0_key_122 rfl 4 rfl ?_
  refine v_iload dX0_key_123 6 rfl ?_
  refine v_mmax dX0_key_125 q1356 (by omega) (by omega) (Nat.le_of_ble_eq_true rfl) ?_
  refine v_leti hF (fun v85 hF => ?_)
  refine v_istore_n dX0_key_128 rfl (Nat.le_of_ble_eq_true rfl) (L' := [(3, .int v85), (4, .int v84), (0, .ref v78), (1, .int v79), (2, .int v80), (5, .int v82), (6, .int v83)]) rfl ?_
  exact v_sub [2, 3, 4, 0, 1, 5] rfl (w_C_key_J129 hfr hlo hc25 hF)
def C_key_L25 (N : Nat) (h : Hp) (x25 : Int32 → Int32 → Int32 → Option Int32) : Nat → Nat → Int32 → Int32 → Int32 → Int32 → Int32 → Option Int32
  | 0, _, _, _, _, _, _ => none
  | n92 + 1, v23, v24, v25, v26, v27, v28 =>
    (C_nBooks h v23).bind fun v32 =>
    if v32 ≤ v28 then
      x25 v24 v26 v27
    else
      (C_has v25 v28).bind fun v33 =>
      if v33 = 0 then
        C_key_J129 N h (C_key_L25 N h x25 n92) v23 v24 v25 v26 v27 v28
      else
        C_key_L52 N h (fun v71 v72 v73 v74 v75 v76 v77 =>
          C_key_J120 N h (C_key_L25 N h x25 n92) v71 v72 v73 v74 v76 v77 (if v77 ≤ v74 then v75 else v76)) N v23 v24 v25 v26 v27 v28 (0 : Int32) (0 : Int32)
theorem w_C_key_L25 {l : Launch} {G : GT} {fr lo : Nat} {h0 : Hp} {N : Nat} {h : Hp} {r : Int32} (hfr : 4 ≤ fr) (hlo : 86 ≤ lo) {x25 : Int32 → Int32 → Int32 → Option Int32} (hx25 : ∀ (v29 : Int32) (v30 : Int32) (v31 : Int32), x25 v29 v30 v31 = some r → V l G cX0_key RX0 "key" 8 (Option.some Jvm.ClassFile.FieldType.int) fr lo h0 h (QM G (some (.int r)) h0 h) 135 [(1, .int v29), (3, .int v30), (4, .int v31)] [] h) : ∀ (n : Nat) (v23 : Nat) (v24 : Int32) (v25 : Int32) (v26 : Int32) (v27 : Int32) (v28 : Int32), C_key_L25 N h x25 n v23 v24 v25 v26 v27 v28 = some r → V l G cX0_key RX0 "key" 8 (Option.some Jvm.ClassFile.FieldType.int) fr lo h0 h (QM G (some (.int r)) h0 h) 25 [(0, .ref v23), (1, .int v24), (2, .int v25), (3, .int v26), (4, .int v27), (5, .int v28)] [] h := by
  intro n
  induction n with
  | zero =>
    intro v23 v24 v25 v26 v27 v28 hF
    cases (show (none : Option Int32) = some r from hF)
  | succ n hc25 =>
    intro v23 v24 v25 v26 v27 v28 hF
    rw [C_key_L25] at hF
    refine v_iload dX0_key_25 5 rfl ?_
    refine v_aload_n dX0_key_27 rfl 0 rfl ?_
    obtain ⟨v32, e_v32, hF⟩ := Option.bind_eq_some_iff.mp hF
    refine v_calV1 dX0_key_28 vl_X0_125 q482 (rc_C_nBooks e_v32) (ct_C_nBooks e_v32) rfl rfl (Nat.le_trans (Nat.le_of_ble_eq_true rfl) hfr) (Nat.le_trans (Nat.le_of_ble_eq_true rfl) hlo) (Nat.le_of_ble_eq_true rfl) ?_
    refine v_icmp_ge (tgt := 135) dX0_key_31 (by decide) hF (fun hF => ?_) (fun hF => ?_)
    · exact v_sub [1, 3, 4] rfl (hx25 _ _ _ hF)
    · refine v_iload_n dX0_key_34 rfl 2 rfl ?_
      refine v_iload dX0_key_35 5 rfl ?_
      obtain ⟨v33, e_v33, hF⟩ := Option.bind_eq_some_iff.mp hF
      refine v_calS1 dX0_key_37 sl_X0_141 q516 (ct_C_has e_v33) rfl rfl (Nat.le_trans (Nat.le_of_ble_eq_true rfl) hfr) (Nat.le_trans (Nat.le_of_ble_eq_true rfl) hlo) (Nat.le_of_ble_eq_true rfl) ?_
      refine v_if_ne (tgt := 46) dX0_key_40 (by decide) hF (fun hF => ?_) (fun hF => ?_)
      · refine v_iconst dX0_key_46 (v := 0) (by decide) ?_
        refine v_istore dX0_key_47 (Nat.le_of_ble_eq_true rfl) (L' := [(6, .int (0 : Int32)), (0, .ref v23), (1, .int v24), (2, .int v25), (3, .int v26), (4, .int v27), (5, .int v28)]) rfl ?_
        refine v_iconst dX0_key_49 (v := 0) (by decide) ?_
        refine v_istore dX0_key_50 (Nat.le_of_ble_eq_true rfl) (L' := [(7, .int (0 : Int32)), (6, .int (0 : Int32)), (0, .ref v23), (1, .int v24), (2, .int v25), (3, .int v26), (4, .int v27), (5, .int v28)]) rfl ?_
        refine v_sub [2, 3, 4, 5, 6, 7, 1, 0] rfl (w_C_key_L52 hfr hlo ?_ N _ _ _ _ _ _ _ _ hF)
        intro v71 v72 v73 v74 v75 v76 v77 hF
        refine v_iload dX0_key_107 6 rfl ?_
        refine v_iload_n dX0_key_109 rfl 3 rfl ?_
        refine v_tern (c := v77 ≤ v74) (x := v75) (y := v76) (pcj := 120) (st := []) ?_ (fun kt kf => v_icmp_le0 (tgt := 118) dX0_key_110 (by decide) kt kf) (fun K => ?_) (fun K => ?_)
        · exact v_sub [0, 1, 2, 3, 5, 6] rfl (w_C_key_J120 hfr hlo hc25 hF)
        · refine v_iload dX0_key_118 4 rfl ?_
          exact K
        · refine v_iload dX0_key_113 5 rfl ?_
          refine v_goto (tgt := 120) dX0_key_115 (by decide) ?_
          exact K
      · refine v_goto (tgt := 129) dX0_key_43 (by decide) ?_
        exact v_sub [0, 1, 2, 3, 4, 5] rfl (w_C_key_J129 hfr hlo hc25 hF)
def C_key_b (N : Nat) (h : Hp) (a0 : Nat) (a1 : Int32) : Option Int32 :=
  (C_in a1.toInt64 (0 : Int64) (1 : Int64)).bind fun v21 =>
  if v21 = 0 then
    some (-1 : Int32)
  else
    (C_left N h a0).bind fun v22 =>
    C_key_L25 N h (fun v93 v94 v95 =>
      if v95 = (-1 : Int32) then
        some v95
      else
        if v93 = 0 then
          some v95
        else
          some v94) N a0 a1 v22 (-1 : Int32) (-1 : Int32) (0 : Int32)
theorem w_C_key_b {l : Launch} {G : GT} {fr lo : Nat} {h0 : Hp} {N : Nat} {h : Hp} {r : Int32} (hfr : 4 ≤ fr) (hlo : 86 ≤ lo) {a0 : Nat} {a1 : Int32} (hF : C_key_b N h a0 a1 = some r) : V l G cX0_key RX0 "key" 8 (Option.some Jvm.ClassFile.FieldType.int) fr lo h0 h (QM G (some (.int r)) h0 h) 0 [(0, .ref a0), (1, .int a1)] [] h := by
  unfold C_key_b at hF
  refine v_iload_n dX0_key_0 rfl 1 rfl ?_
  refine v_i2l dX0_key_1 ?_
  refine v_lconst dX0_key_2 (v := 0) (by decide) ?_
  refine v_lconst dX0_key_3 (v := 1) (by decide) ?_
  obtain ⟨v21, e_v21, hF⟩ := Option.bind_eq_some_iff.mp hF
  refine v_calS1 dX0_key_4 sl_X0_128 q468 (ct_C_in e_v21) rfl rfl (Nat.le_trans (Nat.le_of_ble_eq_true rfl) hfr) (Nat.le_trans (Nat.le_of_ble_eq_true rfl) hlo) (Nat.le_of_ble_eq_true rfl) ?_
  refine v_if_ne (tgt := 12) dX0_key_7 (by decide) hF (fun hF => ?_) (fun hF => ?_)
  · refine v_aload_n dX0_key_12 rfl 0 rfl ?_
    obtain ⟨v22, e_v22, hF⟩ := Option.bind_eq_some_iff.mp hF
    refine v_calV1 dX0_key_13 vl_X0_350 q1389 (rc_C_left e_v22) (ct_C_left e_v22) rfl rfl (Nat.le_trans (Nat.le_of_ble_eq_true rfl) hfr) (Nat.le_trans (Nat.le_of_ble_eq_true rfl) hlo) (Nat.le_of_ble_eq_true rfl) ?_
    refine v_istore_n dX0_key_16 rfl (Nat.le_of_ble_eq_true rfl) (L' := [(2, .int v22), (0, .ref a0), (1, .int a1)]) rfl ?_
    refine v_iconst dX0_key_17 (v := -1) (by decide) ?_
    refine v_istore_n dX0_key_18 rfl (Nat.le_of_ble_eq_true rfl) (L' := [(3, .int (-1 : Int32)), (2, .int v22), (0, .ref a0), (1, .int a1)]) rfl ?_
    refine v_iconst dX0_key_19 (v := -1) (by decide) ?_
    refine v_istore dX0_key_20 (Nat.le_of_ble_eq_true rfl) (L' := [(4, .int (-1 : Int32)), (3, .int (-1 : Int32)), (2, .int v22), (0, .ref a0), (1, .int a1)]) rfl ?_
    refine v_iconst dX0_key_22 (v := 0) (by decide) ?_
    refine v_istore dX0_key_23 (Nat.le_of_ble_eq_true rfl) (L' := [(5, .int (0 : Int32)), (4, .int (-1 : Int32)), (3, .int (-1 : Int32)), (2, .int v22), (0, .ref a0), (1, .int a1)]) rfl ?_
    refine v_sub [4, 5, 3, 2, 1, 0] rfl (w_C_key_L25 hfr hlo ?_ N _ _ _ _ _ _ hF)
    intro v93 v94 v95 hF
    refine v_iload dX0_key_135 2 rfl ?_
    refine v_iconst dX0_key_137 (v := -1) (by decide) ?_
    refine v_icmp_eq (tgt := 145) dX0_key_138 (by decide) hF (fun hF => ?_) (fun hF => ?_)
    · refine v_iload dX0_key_145 2 rfl ?_
      refine v_goto (tgt := 151) dX0_key_147 (by decide) ?_
      cases hF
      exact v_iret dX0_key_151 rfl rfl rfl rfl
    · refine v_iload_n dX0_key_141 rfl 0 rfl ?_
      refine v_if_ne (tgt := 150) dX0_key_142 (by decide) hF (fun hF => ?_) (fun hF => ?_)
      · refine v_iload_n dX0_key_150 rfl 1 rfl ?_
        cases hF
        exact v_iret dX0_key_151 rfl rfl rfl rfl
      · refine v_iload dX0_key_145 2 rfl ?_
        refine v_goto (tgt := 151) dX0_key_147 (by decide) ?_
        cases hF
        exact v_iret dX0_key_151 rfl rfl rfl rfl
  · refine v_iconst dX0_key_10 (v := -1) (by decide) ?_
    cases hF
    exact v_iret dX0_key_11 rfl rfl rfl rfl
def C_key (N : Nat) (h : Hp) (a0 : Nat) (a1 : Int32) : Option Int32 := (ob h a0 [0]).bind fun _ => C_key_b N h a0 a1
theorem rc_C_key {N : Nat} {h : Hp}  {r : Int32} {a0 : Nat} {a1 : Int32} (hF : C_key N h a0 a1 = some r) : RC h a0 [0] := by
  obtain ⟨o, ho, -⟩ := Option.bind_eq_some_iff.mp hF
  exact ⟨o, ho⟩
theorem ct_C_key {l : Launch} {G : GT} {N : Nat} {h : Hp} {r : Int32} {a0 : Nat} {a1 : Int32} (hF : C_key N h a0 a1 = some r) : Ct l G yX0_key (ws_ yX0_key cX0_key 8 (Option.some Jvm.ClassFile.FieldType.int)) 4 86 [.ref a0, .int a1] h (some (.int r)) h :=
  ct_of (by decide) (Nat.le_of_ble_eq_true rfl) (w_C_key_b (Nat.le_refl _) (Nat.le_refl _) (Option.bind_eq_some_iff.mp hF).choose_spec.2)
