/-! printed by tools/gen.py -/
set_option maxRecDepth 100000
set_option linter.unusedVariables false
theorem vl_X7_73 : ∀ ci ∈ [7, 18], VL RX7 73 ci yX7_isWord 1 := by
  intro ci h
  simp only [List.mem_cons, List.not_mem_nil, or_false] at h
  rcases h with rfl | rfl
  · exact ⟨RX8, TX8, 11, rfl, q158, ⟨by decide, by decide⟩, by decide +kernel, q881, Or.inl ⟨q880, q883⟩⟩
  · exact ⟨RX21, TX21, 10, rfl, q158, ⟨by decide, by decide⟩, by decide +kernel, q881, Or.inl ⟨q880, q884⟩⟩
theorem vl_X7_25 : ∀ ci ∈ [7, 18], VL RX7 25 ci yX7_next 0 := by
  intro ci h
  simp only [List.mem_cons, List.not_mem_nil, or_false] at h
  rcases h with rfl | rfl
  · exact ⟨RX8, TX8, 11, rfl, q158, ⟨by decide, by decide⟩, by decide +kernel, q827, Or.inl ⟨q826, q829⟩⟩
  · exact ⟨RX21, TX21, 10, rfl, q158, ⟨by decide, by decide⟩, by decide +kernel, q827, Or.inl ⟨q826, q830⟩⟩
def X7_accept_b (N : Nat) (a0 : Nat) (a1 : Nat) (h : Hp) : Option (Int32 × Hp) :=
  bd2 (X7_isWord N a0 a1 h) fun v22 h21 =>
  if v22 = 0 then
    (rz v22).bind fun v23 => some (v23, h21)
  else
    (X7_next N a0 h21).bind fun h24 =>
    (rz v22).bind fun v25 => some (v25, h24)
theorem w_X7_accept_b {l : Launch} {G : GT} {fr lo : Nat} {h0 : Hp} {N : Nat} {r : (Int32 × Hp)} (hfr : 5 ≤ fr) (hlo : 107 ≤ lo) {a0 : Nat} {a1 : Nat} {h : Hp} (hF : X7_accept_b N a0 a1 h = some r) : V l G cX7_accept RX7 "accept" 3 (Option.some Jvm.ClassFile.FieldType.boolean) fr lo h0 r.2 (QM G (some (.int r.1)) h0 r.2) 0 [(0, .ref a0), (1, .ref a1)] [] h := by
  unfold X7_accept_b at hF
  refine v_aload_n dX7_accept_0 rfl 0 rfl ?_
  refine v_aload_n dX7_accept_1 rfl 1 rfl ?_
  obtain ⟨v22, h21, e_v22, hF⟩ := bd2_spec hF
  refine v_calV1 dX7_accept_2 vl_X7_73 q885 (rc_X7_isWord e_v22) (ct_X7_isWord e_v22) rfl rfl (Nat.le_trans (Nat.le_of_ble_eq_true rfl) hfr) (Nat.le_trans (Nat.le_of_ble_eq_true rfl) hlo) (Nat.le_of_ble_eq_true rfl) ?_
  refine v_istore_n dX7_accept_5 rfl (Nat.le_of_ble_eq_true rfl) (L' := [(2, .int v22), (0, .ref a0), (1, .ref a1)]) rfl ?_
  refine v_iload_n dX7_accept_6 rfl 0 rfl ?_
  refine v_if_eq (tgt := 14) dX7_accept_7 (by decide) hF (fun hF => ?_) (fun hF => ?_)
  · refine v_iload_n dX7_accept_14 rfl 0 rfl ?_
    refine v_zchk hF (fun v23 hz hF => ?_)
    cases hF
    exact v_iret dX7_accept_15 rfl (nar_z hz) rfl rfl
  · refine v_aload_n dX7_accept_10 rfl 1 rfl ?_
    obtain ⟨h24, e_h24, hF⟩ := Option.bind_eq_some_iff.mp hF
    refine v_calV0 dX7_accept_11 vl_X7_25 q831 (rc_X7_next e_h24) (ct_X7_next e_h24) rfl rfl (Nat.le_trans (Nat.le_of_ble_eq_true rfl) hfr) (Nat.le_trans (Nat.le_of_ble_eq_true rfl) hlo) (Nat.le_of_ble_eq_true rfl) ?_
    refine v_iload_n dX7_accept_14 rfl 0 rfl ?_
    refine v_zchk hF (fun v25 hz hF => ?_)
    cases hF
    exact v_iret dX7_accept_15 rfl (nar_z hz) rfl rfl
def X7_accept (N : Nat) (a0 : Nat) (a1 : Nat) (h : Hp) : Option (Int32 × Hp) := (ob h a0 [7, 18]).bind fun _ => X7_accept_b N a0 a1 h
theorem rc_X7_accept {N : Nat}  {r : (Int32 × Hp)} {a0 : Nat} {a1 : Nat} {h : Hp} (hF : X7_accept N a0 a1 h = some r) : RC h a0 [7, 18] := by
  obtain ⟨o, ho, -⟩ := Option.bind_eq_some_iff.mp hF
  exact ⟨o, ho⟩
theorem ct_X7_accept {l : Launch} {G : GT} {N : Nat} {r : (Int32 × Hp)} {a0 : Nat} {a1 : Nat} {h : Hp} (hF : X7_accept N a0 a1 h = some r) : Ct l G yX7_accept (ws_ yX7_accept cX7_accept 3 (Option.some Jvm.ClassFile.FieldType.boolean)) 5 107 [.ref a0, .ref a1] h (some (.int r.1)) r.2 :=
  ct_of (by decide) (Nat.le_of_ble_eq_true rfl) (w_X7_accept_b (Nat.le_refl _) (Nat.le_refl _) (Option.bind_eq_some_iff.mp hF).choose_spec.2)
theorem il_X9_1 : IL RX9 1 yJ8_init_2 4 := ⟨q152, ⟨by decide, by decide⟩, by decide +kernel, q857, rfl, Or.inl q856⟩
theorem pl_X9_7 : PL RX9 7 [8] 6 (.int) true := by
  intro ci h
  simp only [List.mem_cons, List.not_mem_nil, or_false] at h
  subst h; exact ⟨RX9, _, TX9, 7, tyX9, rfl, in_X9, by decide, Or.inl q862, Or.inl rfl, tyX9_ok, rfl, by decide +kernel, rfl, fun _ => rfl⟩
def X9_init_b (a0 : Nat) (a1 : Int32) (h : Hp) : Option Hp :=
  (J8_init_2 a0 none none (0 : Int32) (0 : Int32) h).bind fun h21 =>
  (po h21 a0 [8] 6 (.int a1)).bind fun h22 =>
  some h22
theorem w_X9_init_b {l : Launch} {G : GT} {fr lo : Nat} {h0 : Hp} {r : Hp} (hfr : 3 ≤ fr) (hlo : 68 ≤ lo) {a0 : Nat} {a1 : Int32} {h : Hp} (hF : X9_init_b a0 a1 h = some r) : V l G cX9_init RX9 "<init>" 2 (Option.none : Option Jvm.ClassFile.FieldType) fr lo h0 r (QM G none h0 r) 0 [(0, .ref a0), (1, .int a1)] [] h := by
  unfold X9_init_b at hF
  refine v_aload_n dX9_init_0 rfl 0 rfl ?_
  refine v_null dX9_init_1 ?_
  refine v_null dX9_init_2 ?_
  refine v_iconst dX9_init_3 (v := 0) (by decide) ?_
  refine v_iconst dX9_init_4 (v := 0) (by decide) ?_
  obtain ⟨h21, e_h21, hF⟩ := Option.bind_eq_some_iff.mp hF
  refine v_calI dX9_init_5 il_X9_1 q858 (ct_J8_init_2 e_h21) rfl rfl (Nat.le_trans (Nat.le_of_ble_eq_true rfl) hfr) (Nat.le_trans (Nat.le_of_ble_eq_true rfl) hlo) (Nat.le_of_ble_eq_true rfl) ?_
  refine v_aload_n dX9_init_8 rfl 0 rfl ?_
  refine v_iload_n dX9_init_9 rfl 1 rfl ?_
  refine v_put dX9_init_10 pl_X9_7 (fun _ => rfl) rfl rfl hF (fun h22 hF => ?_)
  cases hF
  exact v_vret dX9_init_13 rfl rfl rfl
def X9_init (a0 : Nat) (a1 : Int32) (h : Hp) : Option Hp := (ob h a0 [8]).bind fun _ => X9_init_b a0 a1 h
theorem rc_X9_init  {r : Hp} {a0 : Nat} {a1 : Int32} {h : Hp} (hF : X9_init a0 a1 h = some r) : RC h a0 [8] := by
  obtain ⟨o, ho, -⟩ := Option.bind_eq_some_iff.mp hF
  exact ⟨o, ho⟩
theorem ct_X9_init {l : Launch} {G : GT} {r : Hp} {a0 : Nat} {a1 : Int32} {h : Hp} (hF : X9_init a0 a1 h = some r) : Ct l G yX9_init (ws_ yX9_init cX9_init 2 (Option.none : Option Jvm.ClassFile.FieldType)) 3 68 [.ref a0, .int a1] h none r :=
  ct_of (by decide) (Nat.le_of_ble_eq_true rfl) (w_X9_init_b (Nat.le_refl _) (Nat.le_refl _) (Option.bind_eq_some_iff.mp hF).choose_spec.2)
theorem nl_X7_76 : NL RX7 76 8 7 [.null, .null, .null, .null, .null, .int 0, .int 0] := ⟨RX9, TX9, tyX9, rfl, in_X9, tyX9_ok, q844, q845, q160, by decide +kernel⟩
theorem il_X7_78 : IL RX7 78 yX9_init 1 := ⟨q160, ⟨by decide, by decide⟩, by decide +kernel, q854, rfl, Or.inl q853⟩
def X7_must_b (a0 : Nat) (a1 : Int32) (h : Hp) : Option ((Nat ⊕ Unit) × Hp) :=
  if a1 = 0 then
    bd2 (nwo h 8 7 [.null, .null, .null, .null, .null, .int 0, .int 0]) fun a21 h22 =>
    (gi h22 a0 [7, 18] 0).bind fun v23 =>
    (X9_init a21 v23 h22).bind fun h24 =>
    (ob h24 a21 [8]).bind fun _ => some (.inl a21, h24)
  else
    some (.inr (), h)
theorem w_X7_must_b {l : Launch} {G : GT} {fr lo : Nat} {h0 : Hp} {r : ((Nat ⊕ Unit) × Hp)} (hfr : 4 ≤ fr) (hlo : 89 ≤ lo) {a0 : Nat} {a1 : Int32} {h : Hp} (hF : X7_must_b a0 a1 h = some r) : V l G cX7_must RX7 "must" 2 (Option.none : Option Jvm.ClassFile.FieldType) fr lo h0 r.2 (QX G [] (rsV r.1) h0 r.2) 0 [(0, .ref a0), (1, .int a1)] [] h := by
  unfold X7_must_b at hF
  refine v_iload_n dX7_must_0 rfl 1 rfl ?_
  refine v_if_ne (tgt := 16) dX7_must_1 (by decide) hF (fun hF => ?_) (fun hF => ?_)
  · cases hF
    exact v_toX (v_vret dX7_must_16 rfl rfl rfl)
  · refine v_new dX7_must_4 nl_X7_76 hF (fun a21 h22 hF => ?_)
    refine v_dup dX7_must_7 rfl ?_
    refine v_aload_n dX7_must_8 rfl 0 rfl ?_
    refine v_geti dX7_must_9 fl_X7_42 hF (fun v23 hF => ?_)
    obtain ⟨h24, e_h24, hF⟩ := Option.bind_eq_some_iff.mp hF
    refine v_calI dX7_must_12 il_X7_78 q855 (ct_X9_init e_h24) rfl rfl (Nat.le_trans (Nat.le_of_ble_eq_true rfl) hfr) (Nat.le_trans (Nat.le_of_ble_eq_true rfl) hlo) (Nat.le_of_ble_eq_true rfl) ?_
    obtain ⟨o9, w9, hF⟩ := Option.bind_eq_some_iff.mp hF
    cases hF
    exact v_athrow dX7_must_15 w9 tb0 rfl
def X7_must (a0 : Nat) (a1 : Int32) (h : Hp) : Option ((Nat ⊕ Unit) × Hp) := (ob h a0 [7, 18]).bind fun _ => X7_must_b a0 a1 h
theorem rc_X7_must  {r : ((Nat ⊕ Unit) × Hp)} {a0 : Nat} {a1 : Int32} {h : Hp} (hF : X7_must a0 a1 h = some r) : RC h a0 [7, 18] := by
  obtain ⟨o, ho, -⟩ := Option.bind_eq_some_iff.mp hF
  exact ⟨o, ho⟩
theorem ct_X7_must {l : Launch} {G : GT} {r : ((Nat ⊕ Unit) × Hp)} {a0 : Nat} {a1 : Int32} {h : Hp} (hF : X7_must a0 a1 h = some r) : CtX l G yX7_must (ws_ yX7_must cX7_must 2 (Option.none : Option Jvm.ClassFile.FieldType)) 4 89 [.ref a0, .int a1] h (rsV r.1) r.2 :=
  ctX_of (by decide) (Nat.le_of_ble_eq_true rfl) (w_X7_must_b (Nat.le_refl _) (Nat.le_refl _) (Option.bind_eq_some_iff.mp hF).choose_spec.2)
def X10_init_b (a0 : Nat) (h : Hp) : Option Hp :=
  some h
theorem w_X10_init_b {l : Launch} {G : GT} {fr lo : Nat} {h0 : Hp} {r : Hp} (hfr : 1 ≤ fr) (hlo : 20 ≤ lo) {a0 : Nat} {h : Hp} (hF : X10_init_b a0 h = some r) : V l G cX10_init RX10 "<init>" 1 (Option.none : Option Jvm.ClassFile.FieldType) fr lo h0 r (QM G none h0 r) 0 [(0, .ref a0)] [] h := by
  unfold X10_init_b at hF
  refine v_aload_n dX10_init_0 rfl 0 rfl ?_
  refine v_objInit dX10_init_1 q990 q184 q185 (by omega) (by omega) (Nat.le_of_ble_eq_true rfl) ?_
  cases hF
  exact v_vret dX10_init_4 rfl rfl rfl
def X10_init (a0 : Nat) (h : Hp) : Option Hp := (ob h a0 [9, 10, 11, 12]).bind fun _ => X10_init_b a0 h
theorem rc_X10_init  {r : Hp} {a0 : Nat} {h : Hp} (hF : X10_init a0 h = some r) : RC h a0 [9, 10, 11, 12] := by
  obtain ⟨o, ho, -⟩ := Option.bind_eq_some_iff.mp hF
  exact ⟨o, ho⟩
theorem ct_X10_init {l : Launch} {G : GT} {r : Hp} {a0 : Nat} {h : Hp} (hF : X10_init a0 h = some r) : Ct l G yX10_init (ws_ yX10_init cX10_init 1 (Option.none : Option Jvm.ClassFile.FieldType)) 1 20 [.ref a0] h none r :=
  ct_of (by decide) (Nat.le_of_ble_eq_true rfl) (w_X10_init_b (Nat.le_refl _) (Nat.le_refl _) (Option.bind_eq_some_iff.mp hF).choose_spec.2)
theorem il_X14_1 : IL RX14 1 yX10_init 0 := ⟨q163, ⟨by decide, by decide⟩, by decide +kernel, q988, rfl, Or.inr ⟨_, q1043⟩⟩
theorem pl_X14_7 : PL RX14 7 [12] 0 (.object "LeekReadings$Sum") true := by
  intro ci h
  simp only [List.mem_cons, List.not_mem_nil, or_false] at h
  subst h; exact ⟨RX14, _, TX14, 3, tyX14, rfl, in_X14, by decide, Or.inl q1044, Or.inl rfl, tyX14_ok, rfl, by decide +kernel, rfl, fun _ => rfl⟩
theorem pl_X14_13 : PL RX14 13 [12] 2 (.int) true := by
  intro ci h
  simp only [List.mem_cons, List.not_mem_nil, or_false] at h
  subst h; exact ⟨RX14, _, TX14, 3, tyX14, rfl, in_X14, by decide, Or.inl q1046, Or.inl rfl, tyX14_ok, rfl, by decide +kernel, rfl, fun _ => rfl⟩
theorem pl_X14_17 : PL RX14 17 [12] 1 (.object "LeekReadings$Sum") true := by
  intro ci h
  simp only [List.mem_cons, List.not_mem_nil, or_false] at h
  subst h; exact ⟨RX14, _, TX14, 3, tyX14, rfl, in_X14, by decide, Or.inl q1045, Or.inl rfl, tyX14_ok, rfl, by decide +kernel, rfl, fun _ => rfl⟩
def X14_init_b (a0 : Nat) (a1 : Nat) (a2 : Int32) (a3 : Nat) (h : Hp) : Option Hp :=
  (X10_init a0 h).bind fun h21 =>
  (po h21 a0 [12] 0 (.ref a1)).bind fun h22 =>
  (po h22 a0 [12] 2 (.int a2)).bind fun h23 =>
  (po h23 a0 [12] 1 (.ref a3)).bind fun h24 =>
  some h24
theorem w_X14_init_b {l : Launch} {G : GT} {fr lo : Nat} {h0 : Hp} {r : Hp} (hfr : 2 ≤ fr) (hlo : 40 ≤ lo) {a0 : Nat} {a1 : Nat} {a2 : Int32} {a3 : Nat} {h : Hp} (hF : X14_init_b a0 a1 a2 a3 h = some r) : V l G cX14_init RX14 "<init>" 4 (Option.none : Option Jvm.ClassFile.FieldType) fr lo h0 r (QM G none h0 r) 0 [(0, .ref a0), (1, .ref a1), (2, .int a2), (3, .ref a3)] [] h := by
  unfold X14_init_b at hF
  refine v_aload_n dX14_init_0 rfl 0 rfl ?_
  obtain ⟨h21, e_h21, hF⟩ := Option.bind_eq_some_iff.mp hF
  refine v_calI dX14_init_1 il_X14_1 q989 (ct_X10_init e_h21) rfl rfl (Nat.le_trans (Nat.le_of_ble_eq_true rfl) hfr) (Nat.le_trans (Nat.le_of_ble_eq_true rfl) hlo) (Nat.le_of_ble_eq_true rfl) ?_
  refine v_aload_n dX14_init_4 rfl 0 rfl ?_
  refine v_aload_n dX14_init_5 rfl 1 rfl ?_
  refine v_put dX14_init_6 pl_X14_7 (fun _ => rfl) rfl rfl hF (fun h22 hF => ?_)
  refine v_aload_n dX14_init_9 rfl 0 rfl ?_
  refine v_iload_n dX14_init_10 rfl 2 rfl ?_
  refine v_put dX14_init_11 pl_X14_13 (fun _ => rfl) rfl rfl hF (fun h23 hF => ?_)
  refine v_aload_n dX14_init_14 rfl 0 rfl ?_
  refine v_aload_n dX14_init_15 rfl 3 rfl ?_
  refine v_put dX14_init_16 pl_X14_17 (fun _ => rfl) rfl rfl hF (fun h24 hF => ?_)
  cases hF
  exact v_vret dX14_init_19 rfl rfl rfl
def X14_init (a0 : Nat) (a1 : Nat) (a2 : Int32) (a3 : Nat) (h : Hp) : Option Hp := (ob h a0 [12]).bind fun _ => X14_init_b a0 a1 a2 a3 h
theorem rc_X14_init  {r : Hp} {a0 : Nat} {a1 : Nat} {a2 : Int32} {a3 : Nat} {h : Hp} (hF : X14_init a0 a1 a2 a3 h = some r) : RC h a0 [12] := by
  obtain ⟨o, ho, -⟩ := Option.bind_eq_some_iff.mp hF
  exact ⟨o, ho⟩
theorem ct_X14_init {l : Launch} {G : GT} {r : Hp} {a0 : Nat} {a1 : Nat} {a2 : Int32} {a3 : Nat} {h : Hp} (hF : X14_init a0 a1 a2 a3 h = some r) : Ct l G yX14_init (ws_ yX14_init cX14_init 4 (Option.none : Option Jvm.ClassFile.FieldType)) 2 40 [.ref a0, .ref a1, .int a2, .ref a3] h none r :=
  ct_of (by decide) (Nat.le_of_ble_eq_true rfl) (w_X14_init_b (Nat.le_refl _) (Nat.le_refl _) (Option.bind_eq_some_iff.mp hF).choose_spec.2)
theorem il_X11_1 : IL RX11 1 yX10_init 0 := ⟨q163, ⟨by decide, by decide⟩, by decide +kernel, q988, rfl, Or.inr ⟨_, q987⟩⟩
theorem pl_X11_7 : PL RX11 7 [9] 0 (.int) true := by
  intro ci h
  simp only [List.mem_cons, List.not_mem_nil, or_false] at h
  subst h; exact ⟨RX11, _, TX11, 1, tyX11, rfl, in_X11, by decide, Or.inl q991, Or.inl rfl, tyX11_ok, rfl, by decide +kernel, rfl, fun _ => rfl⟩
def X11_init_b (a0 : Nat) (a1 : Int32) (h : Hp) : Option Hp :=
  (X10_init a0 h).bind fun h21 =>
  (po h21 a0 [9] 0 (.int a1)).bind fun h22 =>
  some h22
theorem w_X11_init_b {l : Launch} {G : GT} {fr lo : Nat} {h0 : Hp} {r : Hp} (hfr : 2 ≤ fr) (hlo : 40 ≤ lo) {a0 : Nat} {a1 : Int32} {h : Hp} (hF : X11_init_b a0 a1 h = some r) : V l G cX11_init RX11 "<init>" 2 (Option.none : Option Jvm.ClassFile.FieldType) fr lo h0 r (QM G none h0 r) 0 [(0, .ref a0), (1, .int a1)] [] h := by
  unfold X11_init_b at hF
  refine v_aload_n dX11_init_0 rfl 0 rfl ?_
  obtain ⟨h21, e_h21, hF⟩ := Option.bind_eq_some_iff.mp hF
  refine v_calI dX11_init_1 il_X11_1 q989 (ct_X10_init e_h21) rfl rfl (Nat.le_trans (Nat.le_of_ble_eq_true rfl) hfr) (Nat.le_trans (Nat.le_of_ble_eq_true rfl) hlo) (Nat.le_of_ble_eq_true rfl) ?_
  refine v_aload_n dX11_init_4 rfl 0 rfl ?_
  refine v_iload_n dX11_init_5 rfl 1 rfl ?_
  refine v_put dX11_init_6 pl_X11_7 (fun _ => rfl) rfl rfl hF (fun h22 hF => ?_)
  cases hF
  exact v_vret dX11_init_9 rfl rfl rfl
def X11_init (a0 : Nat) (a1 : Int32) (h : Hp) : Option Hp := (ob h a0 [9]).bind fun _ => X11_init_b a0 a1 h
theorem rc_X11_init  {r : Hp} {a0 : Nat} {a1 : Int32} {h : Hp} (hF : X11_init a0 a1 h = some r) : RC h a0 [9] := by
  obtain ⟨o, ho, -⟩ := Option.bind_eq_some_iff.mp hF
  exact ⟨o, ho⟩
theorem ct_X11_init {l : Launch} {G : GT} {r : Hp} {a0 : Nat} {a1 : Int32} {h : Hp} (hF : X11_init a0 a1 h = some r) : Ct l G yX11_init (ws_ yX11_init cX11_init 2 (Option.none : Option Jvm.ClassFile.FieldType)) 2 40 [.ref a0, .int a1] h none r :=
  ct_of (by decide) (Nat.le_of_ble_eq_true rfl) (w_X11_init_b (Nat.le_refl _) (Nat.le_refl _) (Option.bind_eq_some_iff.mp hF).choose_spec.2)
theorem il_X12_1 : IL RX12 1 yX10_init 0 := ⟨q163, ⟨by decide, by decide⟩, by decide +kernel, q988, rfl, Or.inr ⟨_, q1007⟩⟩
theorem pl_X12_7 : PL RX12 7 [10] 0 (.int) true := by
  intro ci h
  simp only [List.mem_cons, List.not_mem_nil, or_false] at h
  subst h; exact ⟨RX12, _, TX12, 1, tyX12, rfl, in_X12, by decide, Or.inl q1008, Or.inl rfl, tyX12_ok, rfl, by decide +kernel, rfl, fun _ => rfl⟩
def X12_init_b (a0 : Nat) (a1 : Int32) (h : Hp) : Option Hp :=
  (X10_init a0 h).bind fun h21 =>
  (po h21 a0 [10] 0 (.int a1)).bind fun h22 =>
  some h22
theorem w_X12_init_b {l : Launch} {G : GT} {fr lo : Nat} {h0 : Hp} {r : Hp} (hfr : 2 ≤ fr) (hlo : 40 ≤ lo) {a0 : Nat} {a1 : Int32} {h : Hp} (hF : X12_init_b a0 a1 h = some r) : V l G cX12_init RX12 "<init>" 2 (Option.none : Option Jvm.ClassFile.FieldType) fr lo h0 r (QM G none h0 r) 0 [(0, .ref a0), (1, .int a1)] [] h := by
  unfold X12_init_b at hF
  refine v_aload_n dX12_init_0 rfl 0 rfl ?_
  obtain ⟨h21, e_h21, hF⟩ := Option.bind_eq_some_iff.mp hF
  refine v_calI dX12_init_1 il_X12_1 q989 (ct_X10_init e_h21) rfl rfl (Nat.le_trans (Nat.le_of_ble_eq_true rfl) hfr) (Nat.le_trans (Nat.le_of_ble_eq_true rfl) hlo) (Nat.le_of_ble_eq_true rfl) ?_
  refine v_aload_n dX12_init_4 rfl 0 rfl ?_
  refine v_iload_n dX12_init_5 rfl 1 rfl ?_
  refine v_put dX12_init_6 pl_X12_7 (fun _ => rfl) rfl rfl hF (fun h22 hF => ?_)
  cases hF
  exact v_vret dX12_init_9 rfl rfl rfl
def X12_init (a0 : Nat) (a1 : Int32) (h : Hp) : Option Hp := (ob h a0 [10]).bind fun _ => X12_init_b a0 a1 h
theorem rc_X12_init  {r : Hp} {a0 : Nat} {a1 : Int32} {h : Hp} (hF : X12_init a0 a1 h = some r) : RC h a0 [10] := by
  obtain ⟨o, ho, -⟩ := Option.bind_eq_some_iff.mp hF
  exact ⟨o, ho⟩
theorem ct_X12_init {l : Launch} {G : GT} {r : Hp} {a0 : Nat} {a1 : Int32} {h : Hp} (hF : X12_init a0 a1 h = some r) : Ct l G yX12_init (ws_ yX12_init cX12_init 2 (Option.none : Option Jvm.ClassFile.FieldType)) 2 40 [.ref a0, .int a1] h none r :=
  ct_of (by decide) (Nat.le_of_ble_eq_true rfl) (w_X12_init_b (Nat.le_refl _) (Nat.le_refl _) (Option.bind_eq_some_iff.mp hF).choose_spec.2)
theorem il_X13_9 : IL RX13 9 yX10_init 0 := ⟨q163, ⟨by decide, by decide⟩, by decide +kernel, q988, rfl, Or.inr ⟨_, q1021⟩⟩
theorem pl_X13_15 : PL RX13 15 [11] 0 (.int) true := by
  intro ci h
  simp only [List.mem_cons, List.not_mem_nil, or_false] at h
  subst h; exact ⟨RX13, _, TX13, 3, tyX13, rfl, in_X13, by decide, Or.inl q1022, Or.inl rfl, tyX13_ok, rfl, by decide +kernel, rfl, fun _ => rfl⟩
theorem pl_X13_19 : PL RX13 19 [11] 1 (.int) true := by
  intro ci h
  simp only [List.mem_cons, List.not_mem_nil, or_false] at h
  subst h; exact ⟨RX13, _, TX13, 3, tyX13, rfl, in_X13, by decide, Or.inl q1023, Or.inl rfl, tyX13_ok, rfl, by decide +kernel, rfl, fun _ => rfl⟩
theorem pl_X13_3 : PL RX13 3 [11] 2 (.object "LeekReadings") true := by
  intro ci h
  simp only [List.mem_cons, List.not_mem_nil, or_false] at h
  subst h; exact ⟨RX13, _, TX13, 3, tyX13, rfl, in_X13, by decide, Or.inl q1024, Or.inl rfl, tyX13_ok, rfl, by decide +kernel, rfl, fun _ => rfl⟩
def X13_init_b (a0 : Nat) (a1 : Nat) (a2 : Int32) (a3 : Int32) (h : Hp) : Option Hp :=
  (po h a0 [11] 2 (.ref a1)).bind fun h21 =>
  (X10_init a0 h21).bind fun h22 =>
  (po h22 a0 [11] 0 (.int a2)).bind fun h23 =>
  (po h23 a0 [11] 1 (.int a3)).bind fun h24 =>
  some h24
theorem w_X13_init_b {l : Launch} {G : GT} {fr lo : Nat} {h0 : Hp} {r : Hp} (hfr : 2 ≤ fr) (hlo : 40 ≤ lo) {a0 : Nat} {a1 : Nat} {a2 : Int32} {a3 : Int32} {h : Hp} (hF : X13_init_b a0 a1 a2 a3 h = some r) : V l G cX13_init RX13 "<init>" 4 (Option.none : Option Jvm.ClassFile.FieldType) fr lo h0 r (QM G none h0 r) 0 [(0, .ref a0), (1, .ref a1), (2, .int a2), (3, .int a3)] [] h := by
  unfold X13_init_b at hF
  refine v_aload_n dX13_init_0 rfl 0 rfl ?_
  refine v_aload_n dX13_init_1 rfl 1 rfl ?_
  refine v_put dX13_init_2 pl_X13_3 (fun _ => rfl) rfl rfl hF (fun h21 hF => ?_)
  refine v_aload_n dX13_init_5 rfl 0 rfl ?_
  obtain ⟨h22, e_h22, hF⟩ := Option.bind_eq_some_iff.mp hF
  refine v_calI dX13_init_6 il_X13_9 q989 (ct_X10_init e_h22) rfl rfl (Nat.le_trans (Nat.le_of_ble_eq_true rfl) hfr) (Nat.le_trans (Nat.le_of_ble_eq_true rfl) hlo) (Nat.le_of_ble_eq_true rfl) ?_
  refine v_aload_n dX13_init_9 rfl 0 rfl ?_
  refine v_iload_n dX13_init_10 rfl 2 rfl ?_
  refine v_put dX13_init_11 pl_X13_15 (fun _ => rfl) rfl rfl hF (fun h23 hF => ?_)
  refine v_aload_n dX13_init_14 rfl 0 rfl ?_
  refine v_iload_n dX13_init_15 rfl 3 rfl ?_
  refine v_put dX13_init_16 pl_X13_19 (fun _ => rfl) rfl rfl hF (fun h24 hF => ?_)
  cases hF
  exact v_vret dX13_init_19 rfl rfl rfl
def X13_init (a0 : Nat) (a1 : Nat) (a2 : Int32) (a3 : Int32) (h : Hp) : Option Hp := (ob h a0 [11]).bind fun _ => X13_init_b a0 a1 a2 a3 h
theorem rc_X13_init  {r : Hp} {a0 : Nat} {a1 : Nat} {a2 : Int32} {a3 : Int32} {h : Hp} (hF : X13_init a0 a1 a2 a3 h = some r) : RC h a0 [11] := by
  obtain ⟨o, ho, -⟩ := Option.bind_eq_some_iff.mp hF
  exact ⟨o, ho⟩
theorem ct_X13_init {l : Launch} {G : GT} {r : Hp} {a0 : Nat} {a1 : Nat} {a2 : Int32} {a3 : Int32} {h : Hp} (hF : X13_init a0 a1 a2 a3 h = some r) : Ct l G yX13_init (ws_ yX13_init cX13_init 4 (Option.none : Option Jvm.ClassFile.FieldType)) 2 40 [.ref a0, .ref a1, .int a2, .int a3] h none r :=
  ct_of (by decide) (Nat.le_of_ble_eq_true rfl) (w_X13_init_b (Nat.le_refl _) (Nat.le_refl _) (Option.bind_eq_some_iff.mp hF).choose_spec.2)
theorem vl_X7_28 : ∀ ci ∈ [7, 18], VL RX7 28 ci yX7_must 1 := by
  intro ci h
  simp only [List.mem_cons, List.not_mem_nil, or_false] at h
  rcases h with rfl | rfl
  · exact ⟨RX8, TX8, 11, rfl, q158, ⟨by decide, by decide⟩, by decide +kernel, q839, Or.inl ⟨q838, q841⟩⟩
  · exact ⟨RX21, TX21, 10, rfl, q158, ⟨by decide, by decide⟩, by decide +kernel, q839, Or.inl ⟨q838, q842⟩⟩
def X7_number_L48 (N : Nat) (x48 : Nat → Int32 → Int32 → Hp → Option ((Nat ⊕ Int32) × Hp)) : Nat → Nat → Int32 → Int32 → Int32 → Hp → Option ((Nat ⊕ Int32) × Hp)
  | 0, _, _, _, _, _ => none
  | n49 + 1, v35, v36, v37, v38, h39 =>
    (gi h39 v35 [7, 18] 1).bind fun v44 =>
    if v44 ≤ v38 then
      x48 v35 v36 v37 h39
    else
      if v36 < v37 then
        x48 v35 v36 v37 h39
      else
        (gr h39 v35 [7, 18] 7).bind fun v45 =>
        (gr h39 v45 [0] 14).bind fun v46 =>
        (aI h39 v46 1 v38).bind fun v47 =>
        (some ((((10 : Int32) * v37) + v47) - (48 : Int32))).bind fun (v48 : Int32) =>
        (X7_number_L48 N x48 n49) v35 v36 v48 (v38 + (1 : Int32)) h39
theorem w_X7_number_L48 {l : Launch} {G : GT} {fr lo : Nat} {h0 : Hp} {N : Nat} {r : ((Nat ⊕ Int32) × Hp)} (hfr : 5 ≤ fr) (hlo : 110 ≤ lo) {x48 : Nat → Int32 → Int32 → Hp → Option ((Nat ⊕ Int32) × Hp)} (hx48 : ∀ (v40 : Nat) (v41 : Int32) (v42 : Int32) (h43 : Hp), x48 v40 v41 v42 h43 = some r → V l G cX7_number RX7 "number" 4 (Option.some Jvm.ClassFile.FieldType.int) fr lo h0 r.2 (QX G [] (rsI r.1) h0 r.2) 85 [(0, .ref v40), (1, .int v41), (2, .int v42)] [] h43) : ∀ (n : Nat) (v35 : Nat) (v36 : Int32) (v37 : Int32) (v38 : Int32) (h39 : Hp), X7_number_L48 N x48 n v35 v36 v37 v38 h39 = some r → V l G cX7_number RX7 "number" 4 (Option.some Jvm.ClassFile.FieldType.int) fr lo h0 r.2 (QX G [] (rsI r.1) h0 r.2) 48 [(0, .ref v35), (1, .int v36), (2, .int v37), (3, .int v38)] [] h39 := by
  intro n
  induction n with
  | zero =>
    intro v35 v36 v37 v38 h39 hF
    cases (show (none : Option ((Nat ⊕ Int32) × Hp)) = some r from hF)
  | succ n hc48 =>
    intro v35 v36 v37 v38 h39 hF
    rw [X7_number_L48] at hF
    refine v_iload_n dX7_number_48 rfl 3 rfl ?_
    refine v_aload_n dX7_number_49 rfl 0 rfl ?_
    refine v_geti dX7_number_50 fl_X7_49 hF (fun v44 hF => ?_)
    refine v_icmp_ge (tgt := 85) dX7_number_53 (by decide) hF (fun hF => ?_) (fun hF => ?_)
    · exact v_sub [0, 1, 2] rfl (hx48 _ _ _ _ hF)
    · refine v_iload_n dX7_number_56 rfl 2 rfl ?_
      refine v_iload_n dX7_number_57 rfl 1 rfl ?_
      refine v_icmp_gt (tgt := 85) dX7_number_58 (by decide) hF (fun hF => ?_) (fun hF => ?_)
      · exact v_sub [0, 1, 2] rfl (hx48 _ _ _ _ hF)
      · refine v_bipush dX7_number_61 (v := 10) (by decide) ?_
        refine v_iload_n dX7_number_63 rfl 2 rfl ?_
        refine v_imul dX7_number_64 ?_
        refine v_aload_n dX7_number_65 rfl 0 rfl ?_
        refine v_getr dX7_number_66 fl_X7_3 hF (fun v45 hF => ?_)
        refine v_getr dX7_number_69 fl_X7_52 hF (fun v46 hF => ?_)
        refine v_iload_n dX7_number_72 rfl 3 rfl ?_
        refine v_bald dX7_number_73 hF (fun v47 hF => ?_)
        refine v_iadd dX7_number_74 ?_
        refine v_bipush dX7_number_75 (v := 48) (by decide) ?_
        refine v_isub dX7_number_77 ?_
        refine v_leti hF (fun v48 hF => ?_)
        refine v_istore_n dX7_number_78 rfl (Nat.le_of_ble_eq_true rfl) (L' := [(2, .int v48), (0, .ref v35), (1, .int v36), (3, .int v38)]) rfl ?_
        refine v_iinc dX7_number_79 3 rfl (v := v38 + (1 : Int32)) (by rfl) (Nat.le_of_ble_eq_true rfl) (L' := [(3, .int (v38 + (1 : Int32))), (2, .int v48), (0, .ref v35), (1, .int v36)]) rfl ?_
        refine v_goto (tgt := 48) dX7_number_82 (by decide) ?_
        exact v_sub [2, 3, 1, 0] rfl (hc48 _ _ _ _ _ hF)
def X7_number_J96 (N : Nat) (v58 : Nat) (v59 : Int32) (v60 : Int32) (v61 : Nat) (h62 : Hp) : Option ((Nat ⊕ Int32) × Hp) :=
  bdx (X7_must v61 v60 h62) fun u_h63 h63 =>
  (X7_next N v58 h63).bind fun h64 =>
  some (.inr v59, h64)
theorem w_X7_number_J96 {l : Launch} {G : GT} {fr lo : Nat} {h0 : Hp} {N : Nat} {r : ((Nat ⊕ Int32) × Hp)} (hfr : 5 ≤ fr) (hlo : 110 ≤ lo)   {v58 : Nat} {v59 : Int32} {v60 : Int32} {v61 : Nat} {h62 : Hp} (hF : X7_number_J96 N v58 v59 v60 v61 h62 = some r) : V l G cX7_number RX7 "number" 4 (Option.some Jvm.ClassFile.FieldType.int) fr lo h0 r.2 (QX G [] (rsI r.1) h0 r.2) 96 [(0, .ref v58), (2, .int v59)] [.int v60, .ref v61] h62 := by
  unfold X7_number_J96 at hF
  rcases bdx_spec hF with ⟨q9, h9, o9, e_h63, w9, e9⟩ | ⟨u_h63, h63, e_h63, hF⟩
  · subst e9
    exact v_calVXt dX7_number_96 vl_X7_28 q843 (rc_X7_must e_h63) (ct_X7_must e_h63) rfl rfl (Nat.le_trans (Nat.le_of_ble_eq_true rfl) hfr) (Nat.le_trans (Nat.le_of_ble_eq_true rfl) hlo) (Nat.le_of_ble_eq_true rfl) (x_out w9 tb0 rfl)
  · refine v_calVXn0 dX7_number_96 vl_X7_28 q843 (rc_X7_must e_h63) (ct_X7_must e_h63) rfl rfl (Nat.le_trans (Nat.le_of_ble_eq_true rfl) hfr) (Nat.le_trans (Nat.le_of_ble_eq_true rfl) hlo) (Nat.le_of_ble_eq_true rfl) ?_
    refine v_aload_n dX7_number_99 rfl 0 rfl ?_
    obtain ⟨h64, e_h64, hF⟩ := Option.bind_eq_some_iff.mp hF
    refine v_calV0 dX7_number_100 vl_X7_25 q831 (rc_X7_next e_h64) (ct_X7_next e_h64) rfl rfl (Nat.le_trans (Nat.le_of_ble_eq_true rfl) hfr) (Nat.le_trans (Nat.le_of_ble_eq_true rfl) hlo) (Nat.le_of_ble_eq_true rfl) ?_
    refine v_iload_n dX7_number_103 rfl 1 rfl ?_
    cases hF
    exact v_toX (v_iret dX7_number_104 rfl rfl rfl rfl)
def X7_number_J85 (N : Nat) (v54 : Nat) (v55 : Int32) (v56 : Int32) (h57 : Hp) : Option ((Nat ⊕ Int32) × Hp) :=
  X7_number_J96 N v54 v56 (if v55 < v56 then (0 : Int32) else (1 : Int32)) v54 h57
theorem w_X7_number_J85 {l : Launch} {G : GT} {fr lo : Nat} {h0 : Hp} {N : Nat} {r : ((Nat ⊕ Int32) × Hp)} (hfr : 5 ≤ fr) (hlo : 110 ≤ lo)   {v54 : Nat} {v55 : Int32} {v56 : Int32} {h57 : Hp} (hF : X7_number_J85 N v54 v55 v56 h57 = some r) : V l G cX7_number RX7 "number" 4 (Option.some Jvm.ClassFile.FieldType.int) fr lo h0 r.2 (QX G [] (rsI r.1) h0 r.2) 85 [(0, .ref v54), (1, .int v55), (2, .int v56)] [] h57 := by
  unfold X7_number_J85 at hF
  refine v_aload_n dX7_number_85 rfl 0 rfl ?_
  refine v_iload_n dX7_number_86 rfl 2 rfl ?_
  refine v_iload_n dX7_number_87 rfl 1 rfl ?_
  refine v_tern (c := v55 < v56) (x := (0 : Int32)) (y := (1 : Int32)) (pcj := 96) (st := [.ref v54]) ?_ (fun kt kf => v_icmp_gt0 (tgt := 95) dX7_number_88 (by decide) kt kf) (fun K => ?_) (fun K => ?_)
  · exact v_sub [0, 2] rfl (w_X7_number_J96 hfr hlo hF)
  · refine v_iconst dX7_number_95 (v := 0) (by decide) ?_
    exact K
  · refine v_iconst dX7_number_91 (v := 1) (by decide) ?_
    refine v_goto (tgt := 96) dX7_number_92 (by decide) ?_
    exact K
def X7_number_J38 (N : Nat) (v28 : Nat) (v29 : Int32) (v30 : Int32) (v31 : Nat) (h32 : Hp) : Option ((Nat ⊕ Int32) × Hp) :=
  bdx (X7_must v31 v30 h32) fun u_h33 h33 =>
  (gi h33 v28 [7, 18] 0).bind fun v34 =>
  X7_number_L48 N (fun v50 v51 v52 h53 =>
    X7_number_J85 N v50 v51 v52 h53) N v28 v29 (0 : Int32) v34 h33
theorem w_X7_number_J38 {l : Launch} {G : GT} {fr lo : Nat} {h0 : Hp} {N : Nat} {r : ((Nat ⊕ Int32) × Hp)} (hfr : 5 ≤ fr) (hlo : 110 ≤ lo)   {v28 : Nat} {v29 : Int32} {v30 : Int32} {v31 : Nat} {h32 : Hp} (hF : X7_number_J38 N v28 v29 v30 v31 h32 = some r) : V l G cX7_number RX7 "number" 4 (Option.some Jvm.ClassFile.FieldType.int) fr lo h0 r.2 (QX G [] (rsI r.1) h0 r.2) 38 [(0, .ref v28), (1, .int v29)] [.int v30, .ref v31] h32 := by
  unfold X7_number_J38 at hF
  rcases bdx_spec hF with ⟨q9, h9, o9, e_h33, w9, e9⟩ | ⟨u_h33, h33, e_h33, hF⟩
  · subst e9
    exact v_calVXt dX7_number_38 vl_X7_28 q843 (rc_X7_must e_h33) (ct_X7_must e_h33) rfl rfl (Nat.le_trans (Nat.le_of_ble_eq_true rfl) hfr) (Nat.le_trans (Nat.le_of_ble_eq_true rfl) hlo) (Nat.le_of_ble_eq_true rfl) (x_out w9 tb0 rfl)
  · refine v_calVXn0 dX7_number_38 vl_X7_28 q843 (rc_X7_must e_h33) (ct_X7_must e_h33) rfl rfl (Nat.le_trans (Nat.le_of_ble_eq_true rfl) hfr) (Nat.le_trans (Nat.le_of_ble_eq_true rfl) hlo) (Nat.le_of_ble_eq_true rfl) ?_
    refine v_iconst dX7_number_41 (v := 0) (by decide) ?_
    refine v_istore_n dX7_number_42 rfl (Nat.le_of_ble_eq_true rfl) (L' := [(2, .int (0 : Int32)), (0, .ref v28), (1, .int v29)]) rfl ?_
    refine v_aload_n dX7_number_43 rfl 1 rfl ?_
    refine v_geti dX7_number_44 fl_X7_42 hF (fun v34 hF => ?_)
    refine v_istore_n dX7_number_47 rfl (Nat.le_of_ble_eq_true rfl) (L' := [(3, .int v34), (2, .int (0 : Int32)), (0, .ref v28), (1, .int v29)]) rfl ?_
    refine v_sub [2, 3, 1, 0] rfl (w_X7_number_L48 hfr hlo ?_ N _ _ _ _ _ hF)
    intro v50 v51 v52 h53 hF
    exact v_sub [0, 1, 2] rfl (w_X7_number_J85 hfr hlo hF)
def X7_number_J37 (N : Nat) (v24 : Nat) (v25 : Int32) (v26 : Nat) (h27 : Hp) : Option ((Nat ⊕ Int32) × Hp) :=
  X7_number_J38 N v24 v25 (0 : Int32) v26 h27
theorem w_X7_number_J37 {l : Launch} {G : GT} {fr lo : Nat} {h0 : Hp} {N : Nat} {r : ((Nat ⊕ Int32) × Hp)} (hfr : 5 ≤ fr) (hlo : 110 ≤ lo)   {v24 : Nat} {v25 : Int32} {v26 : Nat} {h27 : Hp} (hF : X7_number_J37 N v24 v25 v26 h27 = some r) : V l G cX7_number RX7 "number" 4 (Option.some Jvm.ClassFile.FieldType.int) fr lo h0 r.2 (QX G [] (rsI r.1) h0 r.2) 37 [(0, .ref v24), (1, .int v25)] [.ref v26] h27 := by
  unfold X7_number_J37 at hF
  refine v_iconst dX7_number_37 (v := 0) (by decide) ?_
  exact v_sub [0, 1] rfl (w_X7_number_J38 hfr hlo hF)
def X7_number_b (N : Nat) (a0 : Nat) (a1 : Int32) (h : Hp) : Option ((Nat ⊕ Int32) × Hp) :=
  (gi h a0 [7, 18] 0).bind fun v21 =>
  (gr h a0 [7, 18] 7).bind fun v22 =>
  (gi h v22 [0] 15).bind fun v23 =>
  if v23 ≤ v21 then
    X7_number_J37 N a0 a1 a0 h
  else
    (gr h a0 [7, 18] 7).bind fun v65 =>
    (gr h v65 [0] 14).bind fun v66 =>
    (gi h a0 [7, 18] 0).bind fun v67 =>
    (aI h v66 1 v67).bind fun v68 =>
    (C_isDigit v68).bind fun v69 =>
    if v69 = 0 then
      X7_number_J37 N a0 a1 a0 h
    else
      X7_number_J38 N a0 a1 (1 : Int32) a0 h
theorem w_X7_number_b {l : Launch} {G : GT} {fr lo : Nat} {h0 : Hp} {N : Nat} {r : ((Nat ⊕ Int32) × Hp)} (hfr : 5 ≤ fr) (hlo : 110 ≤ lo) {a0 : Nat} {a1 : Int32} {h : Hp} (hF : X7_number_b N a0 a1 h = some r) : V l G cX7_number RX7 "number" 4 (Option.some Jvm.ClassFile.FieldType.int) fr lo h0 r.2 (QX G [] (rsI r.1) h0 r.2) 0 [(0, .ref a0), (1, .int a1)] [] h := by
  unfold X7_number_b at hF
  refine v_aload_n dX7_number_0 rfl 0 rfl ?_
  refine v_aload_n dX7_number_1 rfl 0 rfl ?_
  refine v_geti dX7_number_2 fl_X7_42 hF (fun v21 hF => ?_)
  refine v_aload_n dX7_number_5 rfl 0 rfl ?_
  refine v_getr dX7_number_6 fl_X7_3 hF (fun v22 hF => ?_)
  refine v_geti dX7_number_9 fl_X7_46 hF (fun v23 hF => ?_)
  refine v_icmp_ge (tgt := 37) dX7_number_12 (by decide) hF (fun hF => ?_) (fun hF => ?_)
  · exact v_sub [0, 1] rfl (w_X7_number_J37 hfr hlo hF)
  · refine v_aload_n dX7_number_15 rfl 0 rfl ?_
    refine v_getr dX7_number_16 fl_X7_3 hF (fun v65 hF => ?_)
    refine v_getr dX7_number_19 fl_X7_52 hF (fun v66 hF => ?_)
    refine v_aload_n dX7_number_22 rfl 0 rfl ?_
    refine v_geti dX7_number_23 fl_X7_42 hF (fun v67 hF => ?_)
    refine v_bald dX7_number_26 hF (fun v68 hF => ?_)
    obtain ⟨v69, e_v69, hF⟩ := Option.bind_eq_some_iff.mp hF
    refine v_calS1 dX7_number_27 sl_X7_60 q837 (ct_C_isDigit e_v69) rfl rfl (Nat.le_trans (Nat.le_of_ble_eq_true rfl) hfr) (Nat.le_trans (Nat.le_of_ble_eq_true rfl) hlo) (Nat.le_of_ble_eq_true rfl) ?_
    refine v_if_eq (tgt := 37) dX7_number_30 (by decide) hF (fun hF => ?_) (fun hF => ?_)
    · exact v_sub [0, 1] rfl (w_X7_number_J37 hfr hlo hF)
    · refine v_iconst dX7_number_33 (v := 1) (by decide) ?_
      refine v_goto (tgt := 38) dX7_number_34 (by decide) ?_
      exact v_sub [0, 1] rfl (w_X7_number_J38 hfr hlo hF)
def X7_number (N : Nat) (a0 : Nat) (a1 : Int32) (h : Hp) : Option ((Nat ⊕ Int32) × Hp) := (ob h a0 [7, 18]).bind fun _ => X7_number_b N a0 a1 h
theorem rc_X7_number {N : Nat}  {r : ((Nat ⊕ Int32) × Hp)} {a0 : Nat} {a1 : Int32} {h : Hp} (hF : X7_number N a0 a1 h = some r) : RC h a0 [7, 18] := by
  obtain ⟨o, ho, -⟩ := Option.bind_eq_some_iff.mp hF
  exact ⟨o, ho⟩
theorem ct_X7_number {l : Launch} {G : GT} {N : Nat} {r : ((Nat ⊕ Int32) × Hp)} {a0 : Nat} {a1 : Int32} {h : Hp} (hF : X7_number N a0 a1 h = some r) : CtX l G yX7_number (ws_ yX7_number cX7_number 4 (Option.some Jvm.ClassFile.FieldType.int)) 5 110 [.ref a0, .int a1] h (rsI r.1) r.2 :=
  ctX_of (by decide) (Nat.le_of_ble_eq_true rfl) (w_X7_number_b (Nat.le_refl _) (Nat.le_refl _) (Option.bind_eq_some_iff.mp hF).choose_spec.2)
theorem nl_X21_65 : NL RX21 65 11 3 [.int 0, .int 0, .null] := ⟨RX13, TX13, tyX13, rfl, in_X13, tyX13_ok, q1012, q1013, q166, by decide +kernel⟩
theorem vl_X21_67 : ∀ ci ∈ [18], VL RX21 67 ci yX7_number 1 := by
  intro ci h
  simp only [List.mem_cons, List.not_mem_nil, or_false] at h
  subst h; exact ⟨RX21, TX21, 10, rfl, q158, ⟨by decide, by decide⟩, by decide +kernel, q979, Or.inr (Or.inr (Or.inl ⟨⟨"LeekReadings$OrderReader", "number", "(I)I"⟩, "LeekReadings$Reader", q1014, q1015, q1017, ⟨by decide, by decide⟩, by decide +kernel, Or.inl rfl⟩))⟩
theorem il_X21_71 : IL RX21 71 yX13_init 3 := ⟨q166, ⟨by decide, by decide⟩, by decide +kernel, q1019, rfl, Or.inl q1018⟩
theorem fl_X21_3 : FL RX21 3 [18] 9 := by
  intro ci h
  simp only [List.mem_cons, List.not_mem_nil, or_false] at h
  subst h; exact ⟨RX21, _, TX21, 10, rfl, in_X21, by decide, Or.inl q1498, Or.inl rfl⟩
theorem nl_X21_60 : NL RX21 60 10 1 [.int 0] := ⟨RX12, TX12, tyX12, rfl, in_X12, tyX12_ok, q1002, q1003, q165, by decide +kernel⟩
theorem il_X21_62 : IL RX21 62 yX12_init 1 := ⟨q165, ⟨by decide, by decide⟩, by decide +kernel, q1005, rfl, Or.inl q1004⟩
def X21_behindWord_J37 (N : Nat) (v24 : Int32) (v25 : Nat) (v26 : Int32) (v27 : Nat) (v28 : Nat) (v29 : Nat) (h30 : Hp) : Option ((Nat ⊕ Nat) × Hp) :=
  (ob h30 v25 [18]).bind fun _ =>
  bdx (X7_number N v25 v24 h30) fun v32 h31 =>
  (X13_init v28 v27 v26 v32 h31).bind fun h34 =>
  some (.inr v29, h34)
theorem w_X21_behindWord_J37 {l : Launch} {G : GT} {fr lo : Nat} {h0 : Hp} {N : Nat} {r : ((Nat ⊕ Nat) × Hp)} (hfr : 6 ≤ fr) (hlo : 133 ≤ lo)   {v24 : Int32} {v25 : Nat} {v26 : Int32} {v27 : Nat} {v28 : Nat} {v29 : Nat} {h30 : Hp} (hF : X21_behindWord_J37 N v24 v25 v26 v27 v28 v29 h30 = some r) : V l G cX21_behindWord RX21 "behindWord" 2 (Option.some (Jvm.ClassFile.FieldType.object "LeekReadings$Sum")) fr lo h0 r.2 (QX G [] (rsA r.1) h0 r.2) 37 [] [.int v24, .ref v25, .int v26, .ref v27, .ref v28, .ref v29] h30 := by
  unfold X21_behindWord_J37 at hF
  obtain ⟨o33, q_o33, hF⟩ := Option.bind_eq_some_iff.mp hF
  rcases bdx_spec hF with ⟨q9, h9, o9, e_h31, w9, e9⟩ | ⟨v32, h31, e_h31, hF⟩
  · subst e9
    exact v_calVXt dX21_behindWord_37 vl_X21_67 q983 ⟨o33, q_o33⟩ (ct_X7_number e_h31) rfl rfl (Nat.le_trans (Nat.le_of_ble_eq_true rfl) hfr) (Nat.le_trans (Nat.le_of_ble_eq_true rfl) hlo) (Nat.le_of_ble_eq_true rfl) (x_out w9 tb0 rfl)
  · refine v_calVXn1 dX21_behindWord_37 vl_X21_67 q983 ⟨o33, q_o33⟩ (ct_X7_number e_h31) rfl rfl (Nat.le_trans (Nat.le_of_ble_eq_true rfl) hfr) (Nat.le_trans (Nat.le_of_ble_eq_true rfl) hlo) (Nat.le_of_ble_eq_true rfl) ?_
    obtain ⟨h34, e_h34, hF⟩ := Option.bind_eq_some_iff.mp hF
    refine v_calI dX21_behindWord_40 il_X21_71 q1020 (ct_X13_init e_h34) rfl rfl (Nat.le_trans (Nat.le_of_ble_eq_true rfl) hfr) (Nat.le_trans (Nat.le_of_ble_eq_true rfl) hlo) (Nat.le_of_ble_eq_true rfl) ?_
    cases hF
    exact v_toX (v_aret (x := some _) dX21_behindWord_43 rfl (Or.inl ⟨_, rfl⟩) rfl rfl)
def X21_behindWord_b (N : Nat) (a0 : Nat) (a1 : Int32) (h : Hp) : Option ((Nat ⊕ Nat) × Hp) :=
  if (5 : Int32) ≤ a1 then
    bd2 (nwo h 11 3 [.int 0, .int 0, .null]) fun a21 h22 =>
    (gr h22 a0 [18] 9).bind fun v23 =>
    X21_behindWord_J37 N (if a1 = (5 : Int32) then (3 : Int32) else (7 : Int32)) a0 a1 v23 a21 a21 h22
  else
    bd2 (nwo h 10 1 [.int 0]) fun a35 h36 =>
    (X12_init a35 a1 h36).bind fun h37 =>
    some (.inr a35, h37)
theorem w_X21_behindWord_b {l : Launch} {G : GT} {fr lo : Nat} {h0 : Hp} {N : Nat} {r : ((Nat ⊕ Nat) × Hp)} (hfr : 6 ≤ fr) (hlo : 133 ≤ lo) {a0 : Nat} {a1 : Int32} {h : Hp} (hF : X21_behindWord_b N a0 a1 h = some r) : V l G cX21_behindWord RX21 "behindWord" 2 (Option.some (Jvm.ClassFile.FieldType.object "LeekReadings$Sum")) fr lo h0 r.2 (QX G [] (rsA r.1) h0 r.2) 0 [(0, .ref a0), (1, .int a1)] [] h := by
  unfold X21_behindWord_b at hF
  refine v_iload_n dX21_behindWord_0 rfl 1 rfl ?_
  refine v_iconst dX21_behindWord_1 (v := 5) (by decide) ?_
  refine v_icmp_ge (tgt := 16) dX21_behindWord_2 (by decide) hF (fun hF => ?_) (fun hF => ?_)
  · refine v_new dX21_behindWord_16 nl_X21_65 hF (fun a21 h22 hF => ?_)
    refine v_dup dX21_behindWord_19 rfl ?_
    refine v_aload_n dX21_behindWord_20 rfl 0 rfl ?_
    refine v_getr dX21_behindWord_21 fl_X21_3 hF (fun v23 hF => ?_)
    refine v_iload_n dX21_behindWord_24 rfl 1 rfl ?_
    refine v_aload_n dX21_behindWord_25 rfl 0 rfl ?_
    refine v_iload_n dX21_behindWord_26 rfl 1 rfl ?_
    refine v_iconst dX21_behindWord_27 (v := 5) (by decide) ?_
    refine v_tern (c := a1 = (5 : Int32)) (x := (3 : Int32)) (y := (7 : Int32)) (pcj := 37) (st := [.ref a0, .int a1, .ref v23, .ref a21, .ref a21]) ?_ (fun kt kf => v_icmp_ne0 (tgt := 35) dX21_behindWord_28 (by decide) kt kf) (fun K => ?_) (fun K => ?_)
    · exact v_sub [] rfl (w_X21_behindWord_J37 hfr hlo hF)
    · refine v_iconst dX21_behindWord_31 (v := 3) (by decide) ?_
      refine v_goto (tgt := 37) dX21_behindWord_32 (by decide) ?_
      exact K
    · refine v_bipush dX21_behindWord_35 (v := 7) (by decide) ?_
      exact K
  · refine v_new dX21_behindWord_5 nl_X21_60 hF (fun a35 h36 hF => ?_)
    refine v_dup dX21_behindWord_8 rfl ?_
    refine v_iload_n dX21_behindWord_9 rfl 1 rfl ?_
    obtain ⟨h37, e_h37, hF⟩ := Option.bind_eq_some_iff.mp hF
    refine v_calI dX21_behindWord_10 il_X21_62 q1006 (ct_X12_init e_h37) rfl rfl (Nat.le_trans (Nat.le_of_ble_eq_true rfl) hfr) (Nat.le_trans (Nat.le_of_ble_eq_true rfl) hlo) (Nat.le_of_ble_eq_true rfl) ?_
    refine v_goto (tgt := 43) dX21_behindWord_13 (by decide) ?_
    cases hF
    exact v_toX (v_aret (x := some _) dX21_behindWord_43 rfl (Or.inl ⟨_, rfl⟩) rfl rfl)
def X21_behindWord (N : Nat) (a0 : Nat) (a1 : Int32) (h : Hp) : Option ((Nat ⊕ Nat) × Hp) := (ob h a0 [18]).bind fun _ => X21_behindWord_b N a0 a1 h
theorem rc_X21_behindWord {N : Nat}  {r : ((Nat ⊕ Nat) × Hp)} {a0 : Nat} {a1 : Int32} {h : Hp} (hF : X21_behindWord N a0 a1 h = some r) : RC h a0 [18] := by
  obtain ⟨o, ho, -⟩ := Option.bind_eq_some_iff.mp hF
  exact ⟨o, ho⟩
theorem ct_X21_behindWord {l : Launch} {G : GT} {N : Nat} {r : ((Nat ⊕ Nat) × Hp)} {a0 : Nat} {a1 : Int32} {h : Hp} (hF : X21_behindWord N a0 a1 h = some r) : CtX l G yX21_behindWord (ws_ yX21_behindWord cX21_behindWord 2 (Option.some (Jvm.ClassFile.FieldType.object "LeekReadings$Sum"))) 6 133 [.ref a0, .int a1] h (rsA r.1) r.2 :=
  ctX_of (by decide) (Nat.le_of_ble_eq_true rfl) (w_X21_behindWord_b (Nat.le_refl _) (Nat.le_refl _) (Option.bind_eq_some_iff.mp hF).choose_spec.2)
theorem nl_X7_195 : NL RX7 195 10 1 [.int 0] := ⟨RX12, TX12, tyX12, rfl, in_X12, tyX12_ok, q1033, q1003, q165, by decide +kernel⟩
theorem il_X7_197 : IL RX7 197 yX12_init 1 := ⟨q165, ⟨by decide, by decide⟩, by decide +kernel, q1005, rfl, Or.inl q1034⟩
def X7_behindWord_b (a0 : Nat) (a1 : Int32) (h : Hp) : Option ((Nat ⊕ Nat) × Hp) :=
  bd2 (nwo h 10 1 [.int 0]) fun a21 h22 =>
  (X12_init a21 a1 h22).bind fun h23 =>
  some (.inr a21, h23)
theorem w_X7_behindWord_b {l : Launch} {G : GT} {fr lo : Nat} {h0 : Hp} {r : ((Nat ⊕ Nat) × Hp)} (hfr : 3 ≤ fr) (hlo : 61 ≤ lo) {a0 : Nat} {a1 : Int32} {h : Hp} (hF : X7_behindWord_b a0 a1 h = some r) : V l G cX7_behindWord RX7 "behindWord" 2 (Option.some (Jvm.ClassFile.FieldType.object "LeekReadings$Sum")) fr lo h0 r.2 (QX G [] (rsA r.1) h0 r.2) 0 [(0, .ref a0), (1, .int a1)] [] h := by
  unfold X7_behindWord_b at hF
  refine v_new dX7_behindWord_0 nl_X7_195 hF (fun a21 h22 hF => ?_)
  refine v_dup dX7_behindWord_3 rfl ?_
  refine v_iload_n dX7_behindWord_4 rfl 1 rfl ?_
  obtain ⟨h23, e_h23, hF⟩ := Option.bind_eq_some_iff.mp hF
  refine v_calI dX7_behindWord_5 il_X7_197 q1006 (ct_X12_init e_h23) rfl rfl (Nat.le_trans (Nat.le_of_ble_eq_true rfl) hfr) (Nat.le_trans (Nat.le_of_ble_eq_true rfl) hlo) (Nat.le_of_ble_eq_true rfl) ?_
  cases hF
  exact v_toX (v_aret (x := some _) dX7_behindWord_8 rfl (Or.inl ⟨_, rfl⟩) rfl rfl)
def X7_behindWord (a0 : Nat) (a1 : Int32) (h : Hp) : Option ((Nat ⊕ Nat) × Hp) := (ob h a0 [7, 18]).bind fun _ => X7_behindWord_b a0 a1 h
theorem rc_X7_behindWord  {r : ((Nat ⊕ Nat) × Hp)} {a0 : Nat} {a1 : Int32} {h : Hp} (hF : X7_behindWord a0 a1 h = some r) : RC h a0 [7, 18] := by
  obtain ⟨o, ho, -⟩ := Option.bind_eq_some_iff.mp hF
  exact ⟨o, ho⟩
theorem ct_X7_behindWord {l : Launch} {G : GT} {r : ((Nat ⊕ Nat) × Hp)} {a0 : Nat} {a1 : Int32} {h : Hp} (hF : X7_behindWord a0 a1 h = some r) : CtX l G yX7_behindWord (ws_ yX7_behindWord cX7_behindWord 2 (Option.some (Jvm.ClassFile.FieldType.object "LeekReadings$Sum"))) 3 61 [.ref a0, .int a1] h (rsA r.1) r.2 :=
  ctX_of (by decide) (Nat.le_of_ble_eq_true rfl) (w_X7_behindWord_b (Nat.le_refl _) (Nat.le_refl _) (Option.bind_eq_some_iff.mp hF).choose_spec.2)
def D_bw (N : Nat) (a0 : Nat) (a1 : Int32) (h : Hp) : Option ((Nat ⊕ Nat) × Hp) := (ob h a0 [7, 18]).bind fun o => if o.1 = 7 then X7_behindWord a0 a1 h else X21_behindWord N a0 a1 h
theorem dd_bw {N : Nat} {a0 : Nat} {a1 : Int32} {h : Hp} {r : (Nat ⊕ Nat) × Hp} (e : D_bw N a0 a1 h = some r) : (RC h a0 [7] ∧ X7_behindWord a0 a1 h = some r) ∨ (RC h a0 [18] ∧ X21_behindWord N a0 a1 h = some r) := by
  obtain ⟨o, ho, e⟩ := Option.bind_eq_some_iff.mp e
  obtain ⟨g1, g2⟩ := ob_spec ho
  by_cases hc : o.1 = 7
  · rw [if_pos hc] at e
    exact Or.inl ⟨⟨o, by unfold ob; rw [g1]; simp [hc]⟩, e⟩
  · rw [if_neg hc] at e
    have hm := g2
    simp only [List.mem_cons, List.not_mem_nil, or_false] at hm
    have hc : o.1 = 18 := by omega
    exact Or.inr ⟨⟨o, by unfold ob; rw [g1]; simp [hc]⟩, e⟩
theorem vl_X7_38 : ∀ ci ∈ [7, 18], VL RX7 38 ci yX7_accept 1 := by
  intro ci h
  simp only [List.mem_cons, List.not_mem_nil, or_false] at h
  rcases h with rfl | rfl
  · exact ⟨RX8, TX8, 11, rfl, q158, ⟨by decide, by decide⟩, by decide +kernel, q966, Or.inl ⟨q965, q968⟩⟩
  · exact ⟨RX21, TX21, 10, rfl, q158, ⟨by decide, by decide⟩, by decide +kernel, q966, Or.inl ⟨q965, q969⟩⟩
theorem pl_X7_113 : PL RX7 113 [7, 18] 3 (.int) false := by
  intro ci h
  simp only [List.mem_cons, List.not_mem_nil, or_false] at h
  rcases h with rfl | rfl
  · exact ⟨RX8, _, TX8, 11, tyX8, rfl, in_X8, by decide, Or.inl q788, Or.inl rfl, tyX8_ok, rfl, by decide +kernel, rfl, fun z => by cases z⟩
  · exact ⟨RX21, _, TX21, 10, tyX21, rfl, in_X21, by decide, Or.inl q788, Or.inl rfl, tyX21_ok, rfl, by decide +kernel, rfl, fun z => by cases z⟩
theorem fl_X7_113 : FL RX7 113 [7, 18] 3 := by
  intro ci h
  simp only [List.mem_cons, List.not_mem_nil, or_false] at h
  rcases h with rfl | rfl
  · exact ⟨RX8, _, TX8, 11, rfl, in_X8, by decide, Or.inl q788, Or.inl rfl⟩
  · exact ⟨RX21, _, TX21, 10, rfl, in_X21, by decide, Or.inl q788, Or.inl rfl⟩
def X7_close_b (N : Nat) (a0 : Nat) (a1 : Nat) (h : Hp) : Option ((Nat ⊕ Unit) × Hp) :=
  bd2 (X7_accept N a0 a1 h) fun v22 h21 =>
  bdx (X7_must a0 v22 h21) fun u_h23 h23 =>
  (gi h23 a0 [7, 18] 3).bind fun v24 =>
  (po h23 a0 [7, 18] 3 (.int (v24 - (1 : Int32)))).bind fun h25 =>
  some (.inr (), h25)
theorem w_X7_close_b {l : Launch} {G : GT} {fr lo : Nat} {h0 : Hp} {N : Nat} {r : ((Nat ⊕ Unit) × Hp)} (hfr : 6 ≤ fr) (hlo : 129 ≤ lo) {a0 : Nat} {a1 : Nat} {h : Hp} (hF : X7_close_b N a0 a1 h = some r) : V l G cX7_close RX7 "close" 2 (Option.none : Option Jvm.ClassFile.FieldType) fr lo h0 r.2 (QX G [] (rsV r.1) h0 r.2) 0 [(0, .ref a0), (1, .ref a1)] [] h := by
  unfold X7_close_b at hF
  refine v_aload_n dX7_close_0 rfl 0 rfl ?_
  refine v_aload_n dX7_close_1 rfl 0 rfl ?_
  refine v_aload_n dX7_close_2 rfl 1 rfl ?_
  obtain ⟨v22, h21, e_v22, hF⟩ := bd2_spec hF
  refine v_calV1 dX7_close_3 vl_X7_38 q970 (rc_X7_accept e_v22) (ct_X7_accept e_v22) rfl rfl (Nat.le_trans (Nat.le_of_ble_eq_true rfl) hfr) (Nat.le_trans (Nat.le_of_ble_eq_true rfl) hlo) (Nat.le_of_ble_eq_true rfl) ?_
  rcases bdx_spec hF with ⟨q9, h9, o9, e_h23, w9, e9⟩ | ⟨u_h23, h23, e_h23, hF⟩
  · subst e9
    exact v_calVXt dX7_close_6 vl_X7_28 q843 (rc_X7_must e_h23) (ct_X7_must e_h23) rfl rfl (Nat.le_trans (Nat.le_of_ble_eq_true rfl) hfr) (Nat.le_trans (Nat.le_of_ble_eq_true rfl) hlo) (Nat.le_of_ble_eq_true rfl) (x_out w9 tb0 rfl)
  · refine v_calVXn0 dX7_close_6 vl_X7_28 q843 (rc_X7_must e_h23) (ct_X7_must e_h23) rfl rfl (Nat.le_trans (Nat.le_of_ble_eq_true rfl) hfr) (Nat.le_trans (Nat.le_of_ble_eq_true rfl) hlo) (Nat.le_of_ble_eq_true rfl) ?_
    refine v_aload_n dX7_close_9 rfl 0 rfl ?_
    refine v_dup dX7_close_10 rfl ?_
    refine v_geti dX7_close_11 fl_X7_113 hF (fun v24 hF => ?_)
    refine v_iconst dX7_close_14 (v := 1) (by decide) ?_
    refine v_isub dX7_close_15 ?_
    refine v_put dX7_close_16 pl_X7_113 (fun z => by cases z) rfl rfl hF (fun h25 hF => ?_)
    cases hF
    exact v_toX (v_vret dX7_close_19 rfl rfl rfl)
def X7_close (N : Nat) (a0 : Nat) (a1 : Nat) (h : Hp) : Option ((Nat ⊕ Unit) × Hp) := (ob h a0 [7, 18]).bind fun _ => X7_close_b N a0 a1 h
theorem rc_X7_close {N : Nat}  {r : ((Nat ⊕ Unit) × Hp)} {a0 : Nat} {a1 : Nat} {h : Hp} (hF : X7_close N a0 a1 h = some r) : RC h a0 [7, 18] := by
  obtain ⟨o, ho, -⟩ := Option.bind_eq_some_iff.mp hF
  exact ⟨o, ho⟩
theorem ct_X7_close {l : Launch} {G : GT} {N : Nat} {r : ((Nat ⊕ Unit) × Hp)} {a0 : Nat} {a1 : Nat} {h : Hp} (hF : X7_close N a0 a1 h = some r) : CtX l G yX7_close (ws_ yX7_close cX7_close 2 (Option.none : Option Jvm.ClassFile.FieldType)) 6 129 [.ref a0, .ref a1] h (rsV r.1) r.2 :=
  ctX_of (by decide) (Nat.le_of_ble_eq_true rfl) (w_X7_close_b (Nat.le_refl _) (Nat.le_refl _) (Option.bind_eq_some_iff.mp hF).choose_spec.2)
theorem pl_X7_116 : PL RX7 116 [7, 18] 2 (.int) false := by
  intro ci h
  simp only [List.mem_cons, List.not_mem_nil, or_false] at h
  rcases h with rfl | rfl
  · exact ⟨RX8, _, TX8, 11, tyX8, rfl, in_X8, by decide, Or.inl q787, Or.inl rfl, tyX8_ok, rfl, by decide +kernel, rfl, fun z => by cases z⟩
  · exact ⟨RX21, _, TX21, 10, tyX21, rfl, in_X21, by decide, Or.inl q787, Or.inl rfl, tyX21_ok, rfl, by decide +kernel, rfl, fun z => by cases z⟩
theorem fl_X7_116 : FL RX7 116 [7, 18] 2 := by
  intro ci h
  simp only [List.mem_cons, List.not_mem_nil, or_false] at h
  rcases h with rfl | rfl
  · exact ⟨RX8, _, TX8, 11, rfl, in_X8, by decide, Or.inl q787, Or.inl rfl⟩
  · exact ⟨RX21, _, TX21, 10, rfl, in_X21, by decide, Or.inl q787, Or.inl rfl⟩
def X7_leaf_J15 (v22 : Nat) (v23 : Int32) (v24 : Nat) (h25 : Hp) : Option ((Nat ⊕ Unit) × Hp) :=
  bdx (X7_must v24 v23 h25) fun u_h26 h26 =>
  (gi h26 v22 [7, 18] 2).bind fun v27 =>
  (po h26 v22 [7, 18] 2 (.int (v27 + (1 : Int32)))).bind fun h28 =>
  some (.inr (), h28)
theorem w_X7_leaf_J15 {l : Launch} {G : GT} {fr lo : Nat} {h0 : Hp} {r : ((Nat ⊕ Unit) × Hp)} (hfr : 5 ≤ fr) (hlo : 110 ≤ lo)   {v22 : Nat} {v23 : Int32} {v24 : Nat} {h25 : Hp} (hF : X7_leaf_J15 v22 v23 v24 h25 = some r) : V l G cX7_leaf RX7 "leaf" 1 (Option.none : Option Jvm.ClassFile.FieldType) fr lo h0 r.2 (QX G [] (rsV r.1) h0 r.2) 15 [(0, .ref v22)] [.int v23, .ref v24] h25 := by
  unfold X7_leaf_J15 at hF
  rcases bdx_spec hF with ⟨q9, h9, o9, e_h26, w9, e9⟩ | ⟨u_h26, h26, e_h26, hF⟩
  · subst e9
    exact v_calVXt dX7_leaf_15 vl_X7_28 q843 (rc_X7_must e_h26) (ct_X7_must e_h26) rfl rfl (Nat.le_trans (Nat.le_of_ble_eq_true rfl) hfr) (Nat.le_trans (Nat.le_of_ble_eq_true rfl) hlo) (Nat.le_of_ble_eq_true rfl) (x_out w9 tb0 rfl)
  · refine v_calVXn0 dX7_leaf_15 vl_X7_28 q843 (rc_X7_must e_h26) (ct_X7_must e_h26) rfl rfl (Nat.le_trans (Nat.le_of_ble_eq_true rfl) hfr) (Nat.le_trans (Nat.le_of_ble_eq_true rfl) hlo) (Nat.le_of_ble_eq_true rfl) ?_
    refine v_aload_n dX7_leaf_18 rfl 0 rfl ?_
    refine v_dup dX7_leaf_19 rfl ?_
    refine v_geti dX7_leaf_20 fl_X7_116 hF (fun v27 hF => ?_)
    refine v_iconst dX7_leaf_23 (v := 1) (by decide) ?_
    refine v_iadd dX7_leaf_24 ?_
    refine v_put dX7_leaf_25 pl_X7_116 (fun z => by cases z) rfl rfl hF (fun h28 hF => ?_)
    cases hF
    exact v_toX (v_vret dX7_leaf_28 rfl rfl rfl)
def X7_leaf_b (a0 : Nat) (h : Hp) : Option ((Nat ⊕ Unit) × Hp) :=
  (gi h a0 [7, 18] 2).bind fun v21 =>
  X7_leaf_J15 a0 (if (50 : Int32) ≤ v21 then (0 : Int32) else (1 : Int32)) a0 h
theorem w_X7_leaf_b {l : Launch} {G : GT} {fr lo : Nat} {h0 : Hp} {r : ((Nat ⊕ Unit) × Hp)} (hfr : 5 ≤ fr) (hlo : 110 ≤ lo) {a0 : Nat} {h : Hp} (hF : X7_leaf_b a0 h = some r) : V l G cX7_leaf RX7 "leaf" 1 (Option.none : Option Jvm.ClassFile.FieldType) fr lo h0 r.2 (QX G [] (rsV r.1) h0 r.2) 0 [(0, .ref a0)] [] h := by
  unfold X7_leaf_b at hF
  refine v_aload_n dX7_leaf_0 rfl 0 rfl ?_
  refine v_aload_n dX7_leaf_1 rfl 0 rfl ?_
  refine v_geti dX7_leaf_2 fl_X7_116 hF (fun v21 hF => ?_)
  refine v_bipush dX7_leaf_5 (v := 50) (by decide) ?_
  refine v_tern (c := (50 : Int32) ≤ v21) (x := (0 : Int32)) (y := (1 : Int32)) (pcj := 15) (st := [.ref a0]) ?_ (fun kt kf => v_icmp_ge0 (tgt := 14) dX7_leaf_7 (by decide) kt kf) (fun K => ?_) (fun K => ?_)
  · exact v_sub [0] rfl (w_X7_leaf_J15 hfr hlo hF)
  · refine v_iconst dX7_leaf_14 (v := 0) (by decide) ?_
    exact K
  · refine v_iconst dX7_leaf_10 (v := 1) (by decide) ?_
    refine v_goto (tgt := 15) dX7_leaf_11 (by decide) ?_
    exact K
def X7_leaf (a0 : Nat) (h : Hp) : Option ((Nat ⊕ Unit) × Hp) := (ob h a0 [7, 18]).bind fun _ => X7_leaf_b a0 h
theorem rc_X7_leaf  {r : ((Nat ⊕ Unit) × Hp)} {a0 : Nat} {h : Hp} (hF : X7_leaf a0 h = some r) : RC h a0 [7, 18] := by
  obtain ⟨o, ho, -⟩ := Option.bind_eq_some_iff.mp hF
  exact ⟨o, ho⟩
theorem ct_X7_leaf {l : Launch} {G : GT} {r : ((Nat ⊕ Unit) × Hp)} {a0 : Nat} {h : Hp} (hF : X7_leaf a0 h = some r) : CtX l G yX7_leaf (ws_ yX7_leaf cX7_leaf 1 (Option.none : Option Jvm.ClassFile.FieldType)) 5 110 [.ref a0] h (rsV r.1) r.2 :=
  ctX_of (by decide) (Nat.le_of_ble_eq_true rfl) (w_X7_leaf_b (Nat.le_refl _) (Nat.le_refl _) (Option.bind_eq_some_iff.mp hF).choose_spec.2)
def X7_open_J15 (N : Nat) (v22 : Nat) (v23 : Int32) (v24 : Nat) (h25 : Hp) : Option ((Nat ⊕ Unit) × Hp) :=
  bdx (X7_must v24 v23 h25) fun u_h26 h26 =>
  (gi h26 v22 [7, 18] 3).bind fun v27 =>
  (po h26 v22 [7, 18] 3 (.int (v27 + (1 : Int32)))).bind fun h28 =>
  (X7_next N v22 h28).bind fun h29 =>
  some (.inr (), h29)
theorem w_X7_open_J15 {l : Launch} {G : GT} {fr lo : Nat} {h0 : Hp} {N : Nat} {r : ((Nat ⊕ Unit) × Hp)} (hfr : 5 ≤ fr) (hlo : 110 ≤ lo)   {v22 : Nat} {v23 : Int32} {v24 : Nat} {h25 : Hp} (hF : X7_open_J15 N v22 v23 v24 h25 = some r) : V l G cX7_open RX7 "open" 1 (Option.none : Option Jvm.ClassFile.FieldType) fr lo h0 r.2 (QX G [] (rsV r.1) h0 r.2) 15 [(0, .ref v22)] [.int v23, .ref v24] h25 := by
  unfold X7_open_J15 at hF
  rcases bdx_spec hF with ⟨q9, h9, o9, e_h26, w9, e9⟩ | ⟨u_h26, h26, e_h26, hF⟩
  · subst e9
    exact v_calVXt dX7_open_15 vl_X7_28 q843 (rc_X7_must e_h26) (ct_X7_must e_h26) rfl rfl (Nat.le_trans (Nat.le_of_ble_eq_true rfl) hfr) (Nat.le_trans (Nat.le_of_ble_eq_true rfl) hlo) (Nat.le_of_ble_eq_true rfl) (x_out w9 tb0 rfl)
  · refine v_calVXn0 dX7_open_15 vl_X7_28 q843 (rc_X7_must e_h26) (ct_X7_must e_h26) rfl rfl (Nat.le_trans (Nat.le_of_ble_eq_true rfl) hfr) (Nat.le_trans (Nat.le_of_ble_eq_true rfl) hlo) (Nat.le_of_ble_eq_true rfl) ?_
    refine v_aload_n dX7_open_18 rfl 0 rfl ?_
    refine v_dup dX7_open_19 rfl ?_
    refine v_geti dX7_open_20 fl_X7_113 hF (fun v27 hF => ?_)
    refine v_iconst dX7_open_23 (v := 1) (by decide) ?_
    refine v_iadd dX7_open_24 ?_
    refine v_put dX7_open_25 pl_X7_113 (fun z => by cases z) rfl rfl hF (fun h28 hF => ?_)
    refine v_aload_n dX7_open_28 rfl 0 rfl ?_
    obtain ⟨h29, e_h29, hF⟩ := Option.bind_eq_some_iff.mp hF
    refine v_calV0 dX7_open_29 vl_X7_25 q831 (rc_X7_next e_h29) (ct_X7_next e_h29) rfl rfl (Nat.le_trans (Nat.le_of_ble_eq_true rfl) hfr) (Nat.le_trans (Nat.le_of_ble_eq_true rfl) hlo) (Nat.le_of_ble_eq_true rfl) ?_
    cases hF
    exact v_toX (v_vret dX7_open_32 rfl rfl rfl)
def X7_open_b (N : Nat) (a0 : Nat) (h : Hp) : Option ((Nat ⊕ Unit) × Hp) :=
  (gi h a0 [7, 18] 3).bind fun v21 =>
  X7_open_J15 N a0 (if (8 : Int32) ≤ v21 then (0 : Int32) else (1 : Int32)) a0 h
theorem w_X7_open_b {l : Launch} {G : GT} {fr lo : Nat} {h0 : Hp} {N : Nat} {r : ((Nat ⊕ Unit) × Hp)} (hfr : 5 ≤ fr) (hlo : 110 ≤ lo) {a0 : Nat} {h : Hp} (hF : X7_open_b N a0 h = some r) : V l G cX7_open RX7 "open" 1 (Option.none : Option Jvm.ClassFile.FieldType) fr lo h0 r.2 (QX G [] (rsV r.1) h0 r.2) 0 [(0, .ref a0)] [] h := by
  unfold X7_open_b at hF
  refine v_aload_n dX7_open_0 rfl 0 rfl ?_
  refine v_aload_n dX7_open_1 rfl 0 rfl ?_
  refine v_geti dX7_open_2 fl_X7_113 hF (fun v21 hF => ?_)
  refine v_bipush dX7_open_5 (v := 8) (by decide) ?_
  refine v_tern (c := (8 : Int32) ≤ v21) (x := (0 : Int32)) (y := (1 : Int32)) (pcj := 15) (st := [.ref a0]) ?_ (fun kt kf => v_icmp_ge0 (tgt := 14) dX7_open_7 (by decide) kt kf) (fun K => ?_) (fun K => ?_)
  · exact v_sub [0] rfl (w_X7_open_J15 hfr hlo hF)
  · refine v_iconst dX7_open_14 (v := 0) (by decide) ?_
    exact K
  · refine v_iconst dX7_open_10 (v := 1) (by decide) ?_
    refine v_goto (tgt := 15) dX7_open_11 (by decide) ?_
    exact K
def X7_open (N : Nat) (a0 : Nat) (h : Hp) : Option ((Nat ⊕ Unit) × Hp) := (ob h a0 [7, 18]).bind fun _ => X7_open_b N a0 h
theorem rc_X7_open {N : Nat}  {r : ((Nat ⊕ Unit) × Hp)} {a0 : Nat} {h : Hp} (hF : X7_open N a0 h = some r) : RC h a0 [7, 18] := by
  obtain ⟨o, ho, -⟩ := Option.bind_eq_some_iff.mp hF
  exact ⟨o, ho⟩
theorem ct_X7_open {l : Launch} {G : GT} {N : Nat} {r : ((Nat ⊕ Unit) × Hp)} {a0 : Nat} {h : Hp} (hF : X7_open N a0 h = some r) : CtX l G yX7_open (ws_ yX7_open cX7_open 1 (Option.none : Option Jvm.ClassFile.FieldType)) 5 110 [.ref a0] h (rsV r.1) r.2 :=
  ctX_of (by decide) (Nat.le_of_ble_eq_true rfl) (w_X7_open_b (Nat.le_refl _) (Nat.le_refl _) (Option.bind_eq_some_iff.mp hF).choose_spec.2)
def X7_which_L2 (N : Nat) (x2 : Hp → Option (Int32 × Hp)) : Nat → Nat → Nat → Int32 → Hp → Option (Int32 × Hp)
  | 0, _, _, _, _ => none
  | n30 + 1, v21, v22, v23, h24 =>
    (alen h24 v22 8).bind fun v26 =>
    if v26 ≤ v23 then
      x2 h24
    else
      (aR h24 v22 8 v23).bind fun v27 =>
      bd2 (X7_isWord N v21 v27 h24) fun v29 h28 =>
      if v29 = 0 then
        (X7_which_L2 N x2 n30) v21 v22 (v23 + (1 : Int32)) h28
      else
        some (v23, h28)
theorem w_X7_which_L2 {l : Launch} {G : GT} {fr lo : Nat} {h0 : Hp} {N : Nat} {r : (Int32 × Hp)} (hfr : 5 ≤ fr) (hlo : 107 ≤ lo) {x2 : Hp → Option (Int32 × Hp)} (hx2 : ∀ (h25 : Hp), x2 h25 = some r → V l G cX7_which RX7 "which" 3 (Option.some Jvm.ClassFile.FieldType.int) fr lo h0 r.2 (QM G (some (.int r.1)) h0 r.2) 26 [] [] h25) : ∀ (n : Nat) (v21 : Nat) (v22 : Nat) (v23 : Int32) (h24 : Hp), X7_which_L2 N x2 n v21 v22 v23 h24 = some r → V l G cX7_which RX7 "which" 3 (Option.some Jvm.ClassFile.FieldType.int) fr lo h0 r.2 (QM G (some (.int r.1)) h0 r.2) 2 [(0, .ref v21), (1, .ref v22), (2, .int v23)] [] h24 := by
  intro n
  induction n with
  | zero =>
    intro v21 v22 v23 h24 hF
    cases (show (none : Option (Int32 × Hp)) = some r from hF)
  | succ n hc2 =>
    intro v21 v22 v23 h24 hF
    rw [X7_which_L2] at hF
    refine v_iload_n dX7_which_2 rfl 2 rfl ?_
    refine v_aload_n dX7_which_3 rfl 1 rfl ?_
    refine v_alen (k := 8) rfl dX7_which_4 hF (fun v26 hF => ?_)
    refine v_icmp_ge (tgt := 26) dX7_which_5 (by decide) hF (fun hF => ?_) (fun hF => ?_)
    · exact v_sub [] rfl (hx2 _ hF)
    · refine v_aload_n dX7_which_8 rfl 0 rfl ?_
      refine v_aload_n dX7_which_9 rfl 1 rfl ?_
      refine v_iload_n dX7_which_10 rfl 2 rfl ?_
      refine v_aaldr rfl rfl dX7_which_11 hF (fun v27 hF => ?_)
      obtain ⟨v29, h28, e_v29, hF⟩ := bd2_spec hF
      refine v_calV1 dX7_which_12 vl_X7_73 q885 (rc_X7_isWord e_v29) (ct_X7_isWord e_v29) rfl rfl (Nat.le_trans (Nat.le_of_ble_eq_true rfl) hfr) (Nat.le_trans (Nat.le_of_ble_eq_true rfl) hlo) (Nat.le_of_ble_eq_true rfl) ?_
      refine v_if_eq (tgt := 20) dX7_which_15 (by decide) hF (fun hF => ?_) (fun hF => ?_)
      · refine v_iinc dX7_which_20 2 rfl (v := v23 + (1 : Int32)) (by rfl) (Nat.le_of_ble_eq_true rfl) (L' := [(2, .int (v23 + (1 : Int32))), (0, .ref v21), (1, .ref v22)]) rfl ?_
        refine v_goto (tgt := 2) dX7_which_23 (by decide) ?_
        exact v_sub [1, 2, 0] rfl (hc2 _ _ _ _ hF)
      · refine v_iload_n dX7_which_18 rfl 2 rfl ?_
        cases hF
        exact v_iret dX7_which_19 rfl rfl rfl rfl
def X7_which_b (N : Nat) (a0 : Nat) (a1 : Nat) (h : Hp) : Option (Int32 × Hp) :=
  X7_which_L2 N (fun h31 =>
    some ((-1 : Int32), h31)) N a0 a1 (0 : Int32) h
theorem w_X7_which_b {l : Launch} {G : GT} {fr lo : Nat} {h0 : Hp} {N : Nat} {r : (Int32 × Hp)} (hfr : 5 ≤ fr) (hlo : 107 ≤ lo) {a0 : Nat} {a1 : Nat} {h : Hp} (hF : X7_which_b N a0 a1 h = some r) : V l G cX7_which RX7 "which" 3 (Option.some Jvm.ClassFile.FieldType.int) fr lo h0 r.2 (QM G (some (.int r.1)) h0 r.2) 0 [(0, .ref a0), (1, .ref a1)] [] h := by
  unfold X7_which_b at hF
  refine v_iconst dX7_which_0 (v := 0) (by decide) ?_
  refine v_istore_n dX7_which_1 rfl (Nat.le_of_ble_eq_true rfl) (L' := [(2, .int (0 : Int32)), (0, .ref a0), (1, .ref a1)]) rfl ?_
  refine v_sub [1, 2, 0] rfl (w_X7_which_L2 hfr hlo ?_ N _ _ _ _ hF)
  intro h31 hF
  refine v_iconst dX7_which_26 (v := -1) (by decide) ?_
  cases hF
  exact v_iret dX7_which_27 rfl rfl rfl rfl
def X7_which (N : Nat) (a0 : Nat) (a1 : Nat) (h : Hp) : Option (Int32 × Hp) := (ob h a0 [7, 18]).bind fun _ => X7_which_b N a0 a1 h
theorem rc_X7_which {N : Nat}  {r : (Int32 × Hp)} {a0 : Nat} {a1 : Nat} {h : Hp} (hF : X7_which N a0 a1 h = some r) : RC h a0 [7, 18] := by
  obtain ⟨o, ho, -⟩ := Option.bind_eq_some_iff.mp hF
  exact ⟨o, ho⟩
theorem ct_X7_which {l : Launch} {G : GT} {N : Nat} {r : (Int32 × Hp)} {a0 : Nat} {a1 : Nat} {h : Hp} (hF : X7_which N a0 a1 h = some r) : Ct l G yX7_which (ws_ yX7_which cX7_which 3 (Option.some Jvm.ClassFile.FieldType.int)) 5 107 [.ref a0, .ref a1] h (some (.int r.1)) r.2 :=
  ct_of (by decide) (Nat.le_of_ble_eq_true rfl) (w_X7_which_b (Nat.le_refl _) (Nat.le_refl _) (Option.bind_eq_some_iff.mp hF).choose_spec.2)
theorem st_X7_173 : (RX7, 173, "[", 36) ∈ strTab := List.mem_of_getElem? (i := 40) rfl
theorem vl_X7_177 : ∀ ci ∈ [7, 18], VL RX7 177 ci yX7_which 1 := by
  intro ci h
  simp only [List.mem_cons, List.not_mem_nil, or_false] at h
  rcases h with rfl | rfl
  · exact ⟨RX8, TX8, 11, rfl, q158, ⟨by decide, by decide⟩, by decide +kernel, q878, Or.inl ⟨q971, q2369⟩⟩
  · exact ⟨RX21, TX21, 10, rfl, q158, ⟨by decide, by decide⟩, by decide +kernel, q878, Or.inl ⟨q971, q2370⟩⟩
theorem vl_X7_181 : ∀ ci ∈ [7, 18], VL RX7 181 ci yX7_leaf 0 := by
  intro ci h
  simp only [List.mem_cons, List.not_mem_nil, or_false] at h
  rcases h with rfl | rfl
  · exact ⟨RX8, TX8, 11, rfl, q158, ⟨by decide, by decide⟩, by decide +kernel, q974, Or.inr (Or.inr (Or.inr ⟨q972, q973, ⟨"LeekReadings$Reader", "next", "()V"⟩, rfl, q829⟩))⟩
  · exact ⟨RX21, TX21, 10, rfl, q158, ⟨by decide, by decide⟩, by decide +kernel, q974, Or.inr (Or.inr (Or.inr ⟨q972, q973, ⟨"LeekReadings$Reader", "next", "()V"⟩, rfl, q830⟩))⟩
theorem vl_X7_191_7 : ∀ ci ∈ [7], VL RX7 191 ci yX7_behindWord 1 := by
  intro ci h
  simp only [List.mem_cons, List.not_mem_nil, or_false] at h
  subst h; exact ⟨RX8, TX8, 11, rfl, q158, ⟨by decide, by decide⟩, by decide +kernel, q996, Or.inl ⟨q995, q998⟩⟩
theorem vl_X7_191_18 : ∀ ci ∈ [18], VL RX7 191 ci yX21_behindWord 1 := by
  intro ci h
  simp only [List.mem_cons, List.not_mem_nil, or_false] at h
  subst h; exact ⟨RX21, TX21, 10, rfl, q176, ⟨by decide, by decide⟩, by decide +kernel, q1000, Or.inr (Or.inr (Or.inl ⟨⟨"LeekReadings$Reader", "behindWord", "(I)LLeekReadings$Sum;"⟩, "LeekReadings$Reader", q995, q997, q999, ⟨by decide, by decide⟩, by decide +kernel, Or.inr (Or.inl ⟨_, _, _, q1032, q996⟩)⟩))⟩
theorem nl_X7_184 : NL RX7 184 9 1 [.int 0] := ⟨RX11, TX11, tyX11, rfl, in_X11, tyX11_ok, q976, q977, q164, by decide +kernel⟩
theorem vl_X7_186 : ∀ ci ∈ [7, 18], VL RX7 186 ci yX7_number 1 := by
  intro ci h
  simp only [List.mem_cons, List.not_mem_nil, or_false] at h
  rcases h with rfl | rfl
  · exact ⟨RX8, TX8, 11, rfl, q158, ⟨by decide, by decide⟩, by decide +kernel, q979, Or.inl ⟨q978, q981⟩⟩
  · exact ⟨RX21, TX21, 10, rfl, q158, ⟨by decide, by decide⟩, by decide +kernel, q979, Or.inl ⟨q978, q982⟩⟩
theorem il_X7_190 : IL RX7 190 yX11_init 1 := ⟨q164, ⟨by decide, by decide⟩, by decide +kernel, q985, rfl, Or.inl q984⟩
theorem fl_X7_21 : FL RX7 21 [7, 18] 6 := by
  intro ci h
  simp only [List.mem_cons, List.not_mem_nil, or_false] at h
  rcases h with rfl | rfl
  · exact ⟨RX8, _, TX8, 11, rfl, in_X8, by decide, Or.inl q791, Or.inl rfl⟩
  · exact ⟨RX21, _, TX21, 10, rfl, in_X21, by decide, Or.inl q791, Or.inl rfl⟩
theorem vl_X7_123 : ∀ ci ∈ [7, 18], VL RX7 123 ci yX7_open 0 := by
  intro ci h
  simp only [List.mem_cons, List.not_mem_nil, or_false] at h
  rcases h with rfl | rfl
  · exact ⟨RX8, TX8, 11, rfl, q158, ⟨by decide, by decide⟩, by decide +kernel, q957, Or.inr (Or.inr (Or.inr ⟨q955, q956, ⟨"LeekReadings$Reader", "next", "()V"⟩, rfl, q829⟩))⟩
  · exact ⟨RX21, TX21, 10, rfl, q158, ⟨by decide, by decide⟩, by decide +kernel, q957, Or.inr (Or.inr (Or.inr ⟨q955, q956, ⟨"LeekReadings$Reader", "next", "()V"⟩, rfl, q830⟩))⟩
theorem vl_X7_135 : ∀ ci ∈ [7, 18], VL RX7 135 ci yX7_sum 0 := by
  intro ci h
  simp only [List.mem_cons, List.not_mem_nil, or_false] at h
  rcases h with rfl | rfl
  · exact ⟨RX8, TX8, 11, rfl, q158, ⟨by decide, by decide⟩, by decide +kernel, q944, Or.inl ⟨q959, q2365⟩⟩
  · exact ⟨RX21, TX21, 10, rfl, q158, ⟨by decide, by decide⟩, by decide +kernel, q944, Or.inl ⟨q959, q2366⟩⟩
theorem st_X7_175 : (RX7, 175, "]", 37) ∈ strTab := List.mem_of_getElem? (i := 41) rfl
theorem vl_X7_131 : ∀ ci ∈ [7, 18], VL RX7 131 ci yX7_close 1 := by
  intro ci h
  simp only [List.mem_cons, List.not_mem_nil, or_false] at h
  rcases h with rfl | rfl
  · exact ⟨RX8, TX8, 11, rfl, q158, ⟨by decide, by decide⟩, by decide +kernel, q963, Or.inr (Or.inr (Or.inr ⟨q961, q962, ⟨"LeekReadings$Reader", "next", "()V"⟩, rfl, q829⟩))⟩
  · exact ⟨RX21, TX21, 10, rfl, q158, ⟨by decide, by decide⟩, by decide +kernel, q963, Or.inr (Or.inr (Or.inr ⟨q961, q962, ⟨"LeekReadings$Reader", "next", "()V"⟩, rfl, q830⟩))⟩
def X7_part_J78 (N : Nat) (f : Nat → Hp → Option ((Nat ⊕ Nat) × Hp)) (v30 : Nat) (v31 : Int32) (v32 : Int32) (v33 : Nat) (h34 : Hp) : Option ((Nat ⊕ Nat) × Hp) :=
  bdx (X7_must v33 v32 h34) fun u_h35 h35 =>
  if v31 = (-1 : Int32) then
    bdx (X7_leaf v30 h35) fun u_h40 h40 =>
    bd2 (nwo h40 9 1 [.int 0]) fun a41 h42 =>
    bdx (X7_number N v30 (1000 : Int32) h42) fun v44 h43 =>
    (X11_init a41 v44 h43).bind fun h45 =>
    some (.inr a41, h45)
  else
    bdx (X7_leaf v30 h35) fun u_h36 h36 =>
    (X7_next N v30 h36).bind fun h37 =>
    bdx (D_bw N v30 v31 h37) fun v39 h38 =>
    some (.inr v39, h38)
theorem w_X7_part_J78 {l : Launch} {G : GT} {fr lo : Nat} {h0 : Hp} {N : Nat} {f : Nat → Hp → Option ((Nat ⊕ Nat) × Hp)} {r : ((Nat ⊕ Nat) × Hp)} {frf lof : Nat} (hbf : 7 ≤ frf) (hbl : 154 ≤ lof) (hfr : frf + 1 ≤ fr) (hlo : lof + 22 ≤ lo) (hf : ∀ (a0 : Nat) (h : Hp) (r : ((Nat ⊕ Nat) × Hp)), f a0 h = some r → RC h a0 [7, 18] ∧ CtX l G yX7_sum (ws_ yX7_sum cX7_sum 3 (Option.some (Jvm.ClassFile.FieldType.object "LeekReadings$Sum"))) frf lof [.ref a0] h (rsA r.1) r.2)   {v30 : Nat} {v31 : Int32} {v32 : Int32} {v33 : Nat} {h34 : Hp} (hF : X7_part_J78 N f v30 v31 v32 v33 h34 = some r) : V l G cX7_part RX7 "part" 2 (Option.some (Jvm.ClassFile.FieldType.object "LeekReadings$Sum")) fr lo h0 r.2 (QX G [] (rsA r.1) h0 r.2) 78 [(0, .ref v30), (1, .int v31)] [.int v32, .ref v33] h34 := by
  unfold X7_part_J78 at hF
  rcases bdx_spec hF with ⟨q9, h9, o9, e_h35, w9, e9⟩ | ⟨u_h35, h35, e_h35, hF⟩
  · subst e9
    exact v_calVXt dX7_part_78 vl_X7_28 q843 (rc_X7_must e_h35) (ct_X7_must e_h35) rfl rfl (by omega) (by omega) (Nat.le_of_ble_eq_true rfl) (x_out w9 tb0 rfl)
  · refine v_calVXn0 dX7_part_78 vl_X7_28 q843 (rc_X7_must e_h35) (ct_X7_must e_h35) rfl rfl (by omega) (by omega) (Nat.le_of_ble_eq_true rfl) ?_
    refine v_iload_n dX7_part_81 rfl 1 rfl ?_
    refine v_iconst dX7_part_82 (v := -1) (by decide) ?_
    refine v_icmp_ne (tgt := 105) dX7_part_83 (by decide) hF (fun hF => ?_) (fun hF => ?_)
    · refine v_aload_n dX7_part_105 rfl 0 rfl ?_
      rcases bdx_spec hF with ⟨q9, h9, o9, e_h36, w9, e9⟩ | ⟨u_h36, h36, e_h36, hF⟩
      · subst e9
        exact v_calVXt dX7_part_106 vl_X7_181 q975 (rc_X7_leaf e_h36) (ct_X7_leaf e_h36) rfl rfl (by omega) (by omega) (Nat.le_of_ble_eq_true rfl) (x_out w9 tb0 rfl)
      · refine v_calVXn0 dX7_part_106 vl_X7_181 q975 (rc_X7_leaf e_h36) (ct_X7_leaf e_h36) rfl rfl (by omega) (by omega) (Nat.le_of_ble_eq_true rfl) ?_
        refine v_aload_n dX7_part_109 rfl 0 rfl ?_
        obtain ⟨h37, e_h37, hF⟩ := Option.bind_eq_some_iff.mp hF
        refine v_calV0 dX7_part_110 vl_X7_25 q831 (rc_X7_next e_h37) (ct_X7_next e_h37) rfl rfl (by omega) (by omega) (Nat.le_of_ble_eq_true rfl) ?_
        refine v_aload_n dX7_part_113 rfl 0 rfl ?_
        refine v_iload_n dX7_part_114 rfl 1 rfl ?_
        rcases bdx_spec hF with ⟨q9, h9, o9, e_h38, w9, e9⟩ | ⟨v39, h38, e_h38, hF⟩
        · subst e9
          rcases dd_bw e_h38 with ⟨rc9, e8⟩ | ⟨rc9, e8⟩
          · exact v_calVXt dX7_part_115 vl_X7_191_7 q1032 rc9 (ct_X7_behindWord e8) rfl rfl (by omega) (by omega) (Nat.le_of_ble_eq_true rfl) (x_out w9 tb0 rfl)
          · exact v_calVXt dX7_part_115 vl_X7_191_18 q1001 rc9 (ct_X21_behindWord e8) rfl rfl (by omega) (by omega) (Nat.le_of_ble_eq_true rfl) (x_out w9 tb0 rfl)
        · refine v_dispK (P := V l G cX7_part RX7 "part" 2 (Option.some (Jvm.ClassFile.FieldType.object "LeekReadings$Sum")) fr lo h0 r.2 (QX G [] (rsA r.1) h0 r.2) 118 [(0, .ref v30), (1, .int v31)] [.ref v39] h38) ?_ (fun K9 => ?_)
          · cases hF
            exact v_toX (v_aret (x := some _) dX7_part_118 rfl (Or.inl ⟨_, rfl⟩) rfl rfl)
          · rcases dd_bw e_h38 with ⟨rc9, e8⟩ | ⟨rc9, e8⟩
            · exact v_calVXn1 dX7_part_115 vl_X7_191_7 q1032 rc9 (ct_X7_behindWord e8) rfl rfl (by omega) (by omega) (Nat.le_of_ble_eq_true rfl) K9
            · exact v_calVXn1 dX7_part_115 vl_X7_191_18 q1001 rc9 (ct_X21_behindWord e8) rfl rfl (by omega) (by omega) (Nat.le_of_ble_eq_true rfl) K9
    · refine v_aload_n dX7_part_86 rfl 0 rfl ?_
      rcases bdx_spec hF with ⟨q9, h9, o9, e_h40, w9, e9⟩ | ⟨u_h40, h40, e_h40, hF⟩
      · subst e9
        exact v_calVXt dX7_part_87 vl_X7_181 q975 (rc_X7_leaf e_h40) (ct_X7_leaf e_h40) rfl rfl (by omega) (by omega) (Nat.le_of_ble_eq_true rfl) (x_out w9 tb0 rfl)
      · refine v_calVXn0 dX7_part_87 vl_X7_181 q975 (rc_X7_leaf e_h40) (ct_X7_leaf e_h40) rfl rfl (by omega) (by omega) (Nat.le_of_ble_eq_true rfl) ?_
        refine v_new dX7_part_90 nl_X7_184 hF (fun a41 h42 hF => ?_)
        refine v_dup dX7_part_93 rfl ?_
        refine v_aload_n dX7_part_94 rfl 0 rfl ?_
        refine v_sipush dX7_part_95 (v := 1000) (by decide) ?_
        rcases bdx_spec hF with ⟨q9, h9, o9, e_h43, w9, e9⟩ | ⟨v44, h43, e_h43, hF⟩
        · subst e9
          exact v_calVXt dX7_part_98 vl_X7_186 q983 (rc_X7_number e_h43) (ct_X7_number e_h43) rfl rfl (by omega) (by omega) (Nat.le_of_ble_eq_true rfl) (x_out w9 tb0 rfl)
        · refine v_calVXn1 dX7_part_98 vl_X7_186 q983 (rc_X7_number e_h43) (ct_X7_number e_h43) rfl rfl (by omega) (by omega) (Nat.le_of_ble_eq_true rfl) ?_
          obtain ⟨h45, e_h45, hF⟩ := Option.bind_eq_some_iff.mp hF
          refine v_calI dX7_part_101 il_X7_190 q986 (ct_X11_init e_h45) rfl rfl (by omega) (by omega) (Nat.le_of_ble_eq_true rfl) ?_
          cases hF
          exact v_toX (v_aret (x := some _) dX7_part_104 rfl (Or.inl ⟨_, rfl⟩) rfl rfl)
def X7_part_J73 (N : Nat) (f : Nat → Hp → Option ((Nat ⊕ Nat) × Hp)) (v26 : Nat) (v27 : Int32) (v28 : Nat) (h29 : Hp) : Option ((Nat ⊕ Nat) × Hp) :=
  X7_part_J78 N f v26 v27 (1 : Int32) v28 h29
theorem w_X7_part_J73 {l : Launch} {G : GT} {fr lo : Nat} {h0 : Hp} {N : Nat} {f : Nat → Hp → Option ((Nat ⊕ Nat) × Hp)} {r : ((Nat ⊕ Nat) × Hp)} {frf lof : Nat} (hbf : 7 ≤ frf) (hbl : 154 ≤ lof) (hfr : frf + 1 ≤ fr) (hlo : lof + 22 ≤ lo) (hf : ∀ (a0 : Nat) (h : Hp) (r : ((Nat ⊕ Nat) × Hp)), f a0 h = some r → RC h a0 [7, 18] ∧ CtX l G yX7_sum (ws_ yX7_sum cX7_sum 3 (Option.some (Jvm.ClassFile.FieldType.object "LeekReadings$Sum"))) frf lof [.ref a0] h (rsA r.1) r.2)   {v26 : Nat} {v27 : Int32} {v28 : Nat} {h29 : Hp} (hF : X7_part_J73 N f v26 v27 v28 h29 = some r) : V l G cX7_part RX7 "part" 2 (Option.some (Jvm.ClassFile.FieldType.object "LeekReadings$Sum")) fr lo h0 r.2 (QX G [] (rsA r.1) h0 r.2) 73 [(0, .ref v26), (1, .int v27)] [.ref v28] h29 := by
  unfold X7_part_J73 at hF
  refine v_iconst dX7_part_73 (v := 1) (by decide) ?_
  refine v_goto (tgt := 78) dX7_part_74 (by decide) ?_
  exact v_sub [0, 1] rfl (w_X7_part_J78 hbf hbl hfr hlo hf hF)
def X7_part_J77 (N : Nat) (f : Nat → Hp → Option ((Nat ⊕ Nat) × Hp)) (v49 : Nat) (v50 : Int32) (v51 : Nat) (h52 : Hp) : Option ((Nat ⊕ Nat) × Hp) :=
  X7_part_J78 N f v49 v50 (0 : Int32) v51 h52
theorem w_X7_part_J77 {l : Launch} {G : GT} {fr lo : Nat} {h0 : Hp} {N : Nat} {f : Nat → Hp → Option ((Nat ⊕ Nat) × Hp)} {r : ((Nat ⊕ Nat) × Hp)} {frf lof : Nat} (hbf : 7 ≤ frf) (hbl : 154 ≤ lof) (hfr : frf + 1 ≤ fr) (hlo : lof + 22 ≤ lo) (hf : ∀ (a0 : Nat) (h : Hp) (r : ((Nat ⊕ Nat) × Hp)), f a0 h = some r → RC h a0 [7, 18] ∧ CtX l G yX7_sum (ws_ yX7_sum cX7_sum 3 (Option.some (Jvm.ClassFile.FieldType.object "LeekReadings$Sum"))) frf lof [.ref a0] h (rsA r.1) r.2)   {v49 : Nat} {v50 : Int32} {v51 : Nat} {h52 : Hp} (hF : X7_part_J77 N f v49 v50 v51 h52 = some r) : V l G cX7_part RX7 "part" 2 (Option.some (Jvm.ClassFile.FieldType.object "LeekReadings$Sum")) fr lo h0 r.2 (QX G [] (rsA r.1) h0 r.2) 77 [(0, .ref v49), (1, .int v50)] [.ref v51] h52 := by
  unfold X7_part_J77 at hF
  refine v_iconst dX7_part_77 (v := 0) (by decide) ?_
  exact v_sub [0, 1] rfl (w_X7_part_J78 hbf hbl hfr hlo hf hF)
def X7_part_b (N : Nat) (f : Nat → Hp → Option ((Nat ⊕ Nat) × Hp)) (a0 : Nat) (h : Hp) : Option ((Nat ⊕ Nat) × Hp) :=
  bd2 (X7_isWord N a0 (h.2.2.1 36) h) fun v22 h21 =>
  if v22 = 0 then
    (gr h21 a0 [7, 18] 6).bind fun v23 =>
    bd2 (X7_which N a0 v23 h21) fun v25 h24 =>
    if v25 = (-1 : Int32) then
      (gi h24 a0 [7, 18] 0).bind fun v46 =>
      (gr h24 a0 [7, 18] 7).bind fun v47 =>
      (gi h24 v47 [0] 15).bind fun v48 =>
      if v48 ≤ v46 then
        X7_part_J77 N f a0 v25 a0 h24
      else
        (gr h24 a0 [7, 18] 7).bind fun v53 =>
        (gr h24 v53 [0] 14).bind fun v54 =>
        (gi h24 a0 [7, 18] 0).bind fun v55 =>
        (aI h24 v54 1 v55).bind fun v56 =>
        (C_isDigit v56).bind fun v57 =>
        if v57 = 0 then
          X7_part_J77 N f a0 v25 a0 h24
        else
          X7_part_J73 N f a0 v25 a0 h24
    else
      X7_part_J73 N f a0 v25 a0 h24
  else
    bdx (X7_open N a0 h21) fun u_h58 h58 =>
    bdx (f a0 h58) fun v60 h59 =>
    bdx (X7_close N a0 (h59.2.2.1 37) h59) fun u_h61 h61 =>
    some (.inr v60, h61)
theorem w_X7_part_b {l : Launch} {G : GT} {fr lo : Nat} {h0 : Hp} {N : Nat} {f : Nat → Hp → Option ((Nat ⊕ Nat) × Hp)} {r : ((Nat ⊕ Nat) × Hp)} {frf lof : Nat} (hbf : 7 ≤ frf) (hbl : 154 ≤ lof) (hfr : frf + 1 ≤ fr) (hlo : lof + 22 ≤ lo) (hf : ∀ (a0 : Nat) (h : Hp) (r : ((Nat ⊕ Nat) × Hp)), f a0 h = some r → RC h a0 [7, 18] ∧ CtX l G yX7_sum (ws_ yX7_sum cX7_sum 3 (Option.some (Jvm.ClassFile.FieldType.object "LeekReadings$Sum"))) frf lof [.ref a0] h (rsA r.1) r.2) {a0 : Nat} {h : Hp} (hF : X7_part_b N f a0 h = some r) : V l G cX7_part RX7 "part" 2 (Option.some (Jvm.ClassFile.FieldType.object "LeekReadings$Sum")) fr lo h0 r.2 (QX G [] (rsA r.1) h0 r.2) 0 [(0, .ref a0)] [] h := by
  unfold X7_part_b at hF
  refine v_aload_n dX7_part_0 rfl 0 rfl ?_
  refine v_ldcS dX7_part_1 st_X7_173 ?_
  obtain ⟨v22, h21, e_v22, hF⟩ := bd2_spec hF
  refine v_calV1 dX7_part_3 vl_X7_73 q885 (rc_X7_isWord e_v22) (ct_X7_isWord e_v22) rfl rfl (by omega) (by omega) (Nat.le_of_ble_eq_true rfl) ?_
  refine v_if_eq (tgt := 26) dX7_part_6 (by decide) hF (fun hF => ?_) (fun hF => ?_)
  · refine v_aload_n dX7_part_26 rfl 0 rfl ?_
    refine v_aload_n dX7_part_27 rfl 0 rfl ?_
    refine v_getr dX7_part_28 fl_X7_21 hF (fun v23 hF => ?_)
    obtain ⟨v25, h24, e_v25, hF⟩ := bd2_spec hF
    refine v_calV1 dX7_part_31 vl_X7_177 q879 (rc_X7_which e_v25) (ct_X7_which e_v25) rfl rfl (by omega) (by omega) (Nat.le_of_ble_eq_true rfl) ?_
    refine v_istore_n dX7_part_34 rfl (Nat.le_of_ble_eq_true rfl) (L' := [(1, .int v25), (0, .ref a0)]) rfl ?_
    refine v_aload_n dX7_part_35 rfl 1 rfl ?_
    refine v_iload_n dX7_part_36 rfl 0 rfl ?_
    refine v_iconst dX7_part_37 (v := -1) (by decide) ?_
    refine v_icmp_ne (tgt := 73) dX7_part_38 (by decide) hF (fun hF => ?_) (fun hF => ?_)
    · exact v_sub [1, 0] rfl (w_X7_part_J73 hbf hbl hfr hlo hf hF)
    · refine v_aload_n dX7_part_41 rfl 1 rfl ?_
      refine v_geti dX7_part_42 fl_X7_42 hF (fun v46 hF => ?_)
      refine v_aload_n dX7_part_45 rfl 1 rfl ?_
      refine v_getr dX7_part_46 fl_X7_3 hF (fun v47 hF => ?_)
      refine v_geti dX7_part_49 fl_X7_46 hF (fun v48 hF => ?_)
      refine v_icmp_ge (tgt := 77) dX7_part_52 (by decide) hF (fun hF => ?_) (fun hF => ?_)
      · exact v_sub [1, 0] rfl (w_X7_part_J77 hbf hbl hfr hlo hf hF)
      · refine v_aload_n dX7_part_55 rfl 1 rfl ?_
        refine v_getr dX7_part_56 fl_X7_3 hF (fun v53 hF => ?_)
        refine v_getr dX7_part_59 fl_X7_52 hF (fun v54 hF => ?_)
        refine v_aload_n dX7_part_62 rfl 1 rfl ?_
        refine v_geti dX7_part_63 fl_X7_42 hF (fun v55 hF => ?_)
        refine v_bald dX7_part_66 hF (fun v56 hF => ?_)
        obtain ⟨v57, e_v57, hF⟩ := Option.bind_eq_some_iff.mp hF
        refine v_calS1 dX7_part_67 sl_X7_60 q837 (ct_C_isDigit e_v57) rfl rfl (by omega) (by omega) (Nat.le_of_ble_eq_true rfl) ?_
        refine v_if_eq (tgt := 77) dX7_part_70 (by decide) hF (fun hF => ?_) (fun hF => ?_)
        · exact v_sub [1, 0] rfl (w_X7_part_J77 hbf hbl hfr hlo hf hF)
        · exact v_sub [1, 0] rfl (w_X7_part_J73 hbf hbl hfr hlo hf hF)
  · refine v_aload_n dX7_part_9 rfl 0 rfl ?_
    rcases bdx_spec hF with ⟨q9, h9, o9, e_h58, w9, e9⟩ | ⟨u_h58, h58, e_h58, hF⟩
    · subst e9
      exact v_calVXt dX7_part_10 vl_X7_123 q958 (rc_X7_open e_h58) (ct_X7_open e_h58) rfl rfl (by omega) (by omega) (Nat.le_of_ble_eq_true rfl) (x_out w9 tb0 rfl)
    · refine v_calVXn0 dX7_part_10 vl_X7_123 q958 (rc_X7_open e_h58) (ct_X7_open e_h58) rfl rfl (by omega) (by omega) (Nat.le_of_ble_eq_true rfl) ?_
      refine v_aload_n dX7_part_13 rfl 0 rfl ?_
      rcases bdx_spec hF with ⟨q9, h9, o9, e_h59, w9, e9⟩ | ⟨v60, h59, e_h59, hF⟩
      · subst e9
        exact v_calVXt dX7_part_14 vl_X7_135 q945 (hf _ _ _ e_h59).1 ((hf _ _ _ e_h59).2) rfl rfl (by omega) (by omega) (Nat.le_of_ble_eq_true rfl) (x_out w9 tb0 rfl)
      · refine v_calVXn1 dX7_part_14 vl_X7_135 q945 (hf _ _ _ e_h59).1 ((hf _ _ _ e_h59).2) rfl rfl (by omega) (by omega) (Nat.le_of_ble_eq_true rfl) ?_
        refine v_astore_n dX7_part_17 rfl (Nat.le_of_ble_eq_true rfl) (L' := [(1, .ref v60), (0, .ref a0)]) rfl ?_
        refine v_aload_n dX7_part_18 rfl 1 rfl ?_
        refine v_ldcS dX7_part_19 st_X7_175 ?_
        rcases bdx_spec hF with ⟨q9, h9, o9, e_h61, w9, e9⟩ | ⟨u_h61, h61, e_h61, hF⟩
        · subst e9
          exact v_calVXt dX7_part_21 vl_X7_131 q964 (rc_X7_close e_h61) (ct_X7_close e_h61) rfl rfl (by omega) (by omega) (Nat.le_of_ble_eq_true rfl) (x_out w9 tb0 rfl)
        · refine v_calVXn0 dX7_part_21 vl_X7_131 q964 (rc_X7_close e_h61) (ct_X7_close e_h61) rfl rfl (by omega) (by omega) (Nat.le_of_ble_eq_true rfl) ?_
          refine v_aload_n dX7_part_24 rfl 0 rfl ?_
          cases hF
          exact v_toX (v_aret (x := some _) dX7_part_25 rfl (Or.inl ⟨_, rfl⟩) rfl rfl)
def X7_part (N : Nat) (f : Nat → Hp → Option ((Nat ⊕ Nat) × Hp)) (a0 : Nat) (h : Hp) : Option ((Nat ⊕ Nat) × Hp) := (ob h a0 [7, 18]).bind fun _ => X7_part_b N f a0 h
theorem rc_X7_part {N : Nat}  {f : Nat → Hp → Option ((Nat ⊕ Nat) × Hp)} {r : ((Nat ⊕ Nat) × Hp)} {a0 : Nat} {h : Hp} (hF : X7_part N f a0 h = some r) : RC h a0 [7, 18] := by
  obtain ⟨o, ho, -⟩ := Option.bind_eq_some_iff.mp hF
  exact ⟨o, ho⟩
theorem ct_X7_part {l : Launch} {G : GT} {N : Nat} {f : Nat → Hp → Option ((Nat ⊕ Nat) × Hp)} {frf lof : Nat} (hbf : 7 ≤ frf) (hbl : 154 ≤ lof) (hf : ∀ (a0 : Nat) (h : Hp) (r : ((Nat ⊕ Nat) × Hp)), f a0 h = some r → RC h a0 [7, 18] ∧ CtX l G yX7_sum (ws_ yX7_sum cX7_sum 3 (Option.some (Jvm.ClassFile.FieldType.object "LeekReadings$Sum"))) frf lof [.ref a0] h (rsA r.1) r.2) {r : ((Nat ⊕ Nat) × Hp)} {a0 : Nat} {h : Hp} (hF : X7_part N f a0 h = some r) : CtX l G yX7_part (ws_ yX7_part cX7_part 2 (Option.some (Jvm.ClassFile.FieldType.object "LeekReadings$Sum"))) (frf + 1) (lof + 22) [.ref a0] h (rsA r.1) r.2 :=
  ctX_of (by decide) (Nat.le_of_ble_eq_true rfl) (w_X7_part_b hbf hbl (Nat.le_refl _) (Nat.le_refl _) hf (Option.bind_eq_some_iff.mp hF).choose_spec.2)
theorem vl_X7_164 : ∀ ci ∈ [7, 18], VL RX7 164 ci yX7_part 0 := by
  intro ci h
  simp only [List.mem_cons, List.not_mem_nil, or_false] at h
  rcases h with rfl | rfl
  · exact ⟨RX8, TX8, 11, rfl, q158, ⟨by decide, by decide⟩, by decide +kernel, q952, Or.inr (Or.inr (Or.inr ⟨q950, q951, ⟨"LeekReadings$Reader", "next", "()V"⟩, rfl, q829⟩))⟩
  · exact ⟨RX21, TX21, 10, rfl, q158, ⟨by decide, by decide⟩, by decide +kernel, q952, Or.inr (Or.inr (Or.inr ⟨q950, q951, ⟨"LeekReadings$Reader", "next", "()V"⟩, rfl, q830⟩))⟩
theorem st_X7_167 : (RX7, 167, "*", 33) ∈ strTab := List.mem_of_getElem? (i := 37) rfl
theorem nl_X7_161 : NL RX7 161 12 3 [.null, .null, .int 0] := ⟨RX14, TX14, tyX14, rfl, in_X14, tyX14_ok, q1038, q1039, q167, by decide +kernel⟩
theorem il_X7_163 : IL RX7 163 yX14_init 3 := ⟨q167, ⟨by decide, by decide⟩, by decide +kernel, q1041, rfl, Or.inl q1040⟩
theorem st_X7_169 : (RX7, 169, "/", 34) ∈ strTab := List.mem_of_getElem? (i := 38) rfl
theorem st_X7_171 : (RX7, 171, "%", 35) ∈ strTab := List.mem_of_getElem? (i := 39) rfl
def X7_term_J32 (N : Nat) (f : Nat → Hp → Option ((Nat ⊕ Nat) × Hp)) (c5 : Nat → Nat → Hp → Option ((Nat ⊕ Nat) × Hp)) (v30 : Nat) (v31 : Nat) (h32 : Hp) : Option ((Nat ⊕ Nat) × Hp) :=
  (gr h32 v30 [7, 18] 7).bind fun v33 =>
  (gr h32 v33 [0] 14).bind fun v34 =>
  (gi h32 v30 [7, 18] 0).bind fun v35 =>
  (aI h32 v34 1 v35).bind fun v36 =>
  (X7_next N v30 h32).bind fun h37 =>
  bd2 (nwo h37 12 3 [.null, .null, .int 0]) fun a38 h39 =>
  bdx (X7_part N f v30 h39) fun v41 h40 =>
  (X14_init a38 v31 v36 v41 h40).bind fun h42 =>
  c5 v30 a38 h42
theorem w_X7_term_J32 {l : Launch} {G : GT} {fr lo : Nat} {h0 : Hp} {N : Nat} {f : Nat → Hp → Option ((Nat ⊕ Nat) × Hp)} {r : ((Nat ⊕ Nat) × Hp)} {frf lof : Nat} (hbf : 7 ≤ frf) (hbl : 154 ≤ lof) (hfr : frf + 2 ≤ fr) (hlo : lof + 43 ≤ lo) (hf : ∀ (a0 : Nat) (h : Hp) (r : ((Nat ⊕ Nat) × Hp)), f a0 h = some r → RC h a0 [7, 18] ∧ CtX l G yX7_sum (ws_ yX7_sum cX7_sum 3 (Option.some (Jvm.ClassFile.FieldType.object "LeekReadings$Sum"))) frf lof [.ref a0] h (rsA r.1) r.2) {c5 : Nat → Nat → Hp → Option ((Nat ⊕ Nat) × Hp)} (hc5 : ∀ (v23 : Nat) (v24 : Nat) (h25 : Hp), c5 v23 v24 h25 = some r → V l G cX7_term RX7 "term" 3 (Option.some (Jvm.ClassFile.FieldType.object "LeekReadings$Sum")) fr lo h0 r.2 (QX G [] (rsA r.1) h0 r.2) 5 [(0, .ref v23), (1, .ref v24)] [] h25) {v30 : Nat} {v31 : Nat} {h32 : Hp} (hF : X7_term_J32 N f c5 v30 v31 h32 = some r) : V l G cX7_term RX7 "term" 3 (Option.some (Jvm.ClassFile.FieldType.object "LeekReadings$Sum")) fr lo h0 r.2 (QX G [] (rsA r.1) h0 r.2) 32 [(0, .ref v30), (1, .ref v31)] [] h32 := by
  unfold X7_term_J32 at hF
  refine v_aload_n dX7_term_32 rfl 0 rfl ?_
  refine v_getr dX7_term_33 fl_X7_3 hF (fun v33 hF => ?_)
  refine v_getr dX7_term_36 fl_X7_52 hF (fun v34 hF => ?_)
  refine v_aload_n dX7_term_39 rfl 0 rfl ?_
  refine v_geti dX7_term_40 fl_X7_42 hF (fun v35 hF => ?_)
  refine v_bald dX7_term_43 hF (fun v36 hF => ?_)
  refine v_istore_n dX7_term_44 rfl (Nat.le_of_ble_eq_true rfl) (L' := [(2, .int v36), (0, .ref v30), (1, .ref v31)]) rfl ?_
  refine v_aload_n dX7_term_45 rfl 1 rfl ?_
  obtain ⟨h37, e_h37, hF⟩ := Option.bind_eq_some_iff.mp hF
  refine v_calV0 dX7_term_46 vl_X7_25 q831 (rc_X7_next e_h37) (ct_X7_next e_h37) rfl rfl (by omega) (by omega) (Nat.le_of_ble_eq_true rfl) ?_
  refine v_new dX7_term_49 nl_X7_161 hF (fun a38 h39 hF => ?_)
  refine v_dup dX7_term_52 rfl ?_
  refine v_aload_n dX7_term_53 rfl 2 rfl ?_
  refine v_iload_n dX7_term_54 rfl 0 rfl ?_
  refine v_aload_n dX7_term_55 rfl 1 rfl ?_
  rcases bdx_spec hF with ⟨q9, h9, o9, e_h40, w9, e9⟩ | ⟨v41, h40, e_h40, hF⟩
  · subst e9
    exact v_calVXt dX7_term_56 vl_X7_164 q953 (rc_X7_part e_h40) (ct_X7_part (by omega) (by omega) hf e_h40) rfl rfl (by omega) (by omega) (Nat.le_of_ble_eq_true rfl) (x_out w9 tb0 rfl)
  · refine v_calVXn1 dX7_term_56 vl_X7_164 q953 (rc_X7_part e_h40) (ct_X7_part (by omega) (by omega) hf e_h40) rfl rfl (by omega) (by omega) (Nat.le_of_ble_eq_true rfl) ?_
    obtain ⟨h42, e_h42, hF⟩ := Option.bind_eq_some_iff.mp hF
    refine v_calI dX7_term_59 il_X7_163 q1042 (ct_X14_init e_h42) rfl rfl (by omega) (by omega) (Nat.le_of_ble_eq_true rfl) ?_
    refine v_astore_n dX7_term_62 rfl (Nat.le_of_ble_eq_true rfl) (L' := [(1, .ref a38), (2, .int v36), (0, .ref v30)]) rfl ?_
    refine v_goto (tgt := 5) dX7_term_63 (by decide) ?_
    exact v_sub [2, 0] rfl (hc5 _ _ _ hF)
def X7_term_L5 (N : Nat) (f : Nat → Hp → Option ((Nat ⊕ Nat) × Hp)) (x5 : Nat → Hp → Option ((Nat ⊕ Nat) × Hp)) : Nat → Nat → Nat → Hp → Option ((Nat ⊕ Nat) × Hp)
  | 0, _, _, _ => none
  | n47 + 1, v23, v24, h25 =>
    bd2 (X7_isWord N v23 (h25.2.2.1 33) h25) fun v29 h28 =>
    if v29 = 0 then
      bd2 (X7_isWord N v23 (h28.2.2.1 34) h28) fun v44 h43 =>
      if v44 = 0 then
        bd2 (X7_isWord N v23 (h43.2.2.1 35) h43) fun v46 h45 =>
        if v46 = 0 then
          x5 v24 h45
        else
          X7_term_J32 N f (X7_term_L5 N f x5 n47) v23 v24 h45
      else
        X7_term_J32 N f (X7_term_L5 N f x5 n47) v23 v24 h43
    else
      X7_term_J32 N f (X7_term_L5 N f x5 n47) v23 v24 h28
theorem w_X7_term_L5 {l : Launch} {G : GT} {fr lo : Nat} {h0 : Hp} {N : Nat} {f : Nat → Hp → Option ((Nat ⊕ Nat) × Hp)} {r : ((Nat ⊕ Nat) × Hp)} {frf lof : Nat} (hbf : 7 ≤ frf) (hbl : 154 ≤ lof) (hfr : frf + 2 ≤ fr) (hlo : lof + 43 ≤ lo) (hf : ∀ (a0 : Nat) (h : Hp) (r : ((Nat ⊕ Nat) × Hp)), f a0 h = some r → RC h a0 [7, 18] ∧ CtX l G yX7_sum (ws_ yX7_sum cX7_sum 3 (Option.some (Jvm.ClassFile.FieldType.object "LeekReadings$Sum"))) frf lof [.ref a0] h (rsA r.1) r.2) {x5 : Nat → Hp → Option ((Nat ⊕ Nat) × Hp)} (hx5 : ∀ (v26 : Nat) (h27 : Hp), x5 v26 h27 = some r → V l G cX7_term RX7 "term" 3 (Option.some (Jvm.ClassFile.FieldType.object "LeekReadings$Sum")) fr lo h0 r.2 (QX G [] (rsA r.1) h0 r.2) 66 [(1, .ref v26)] [] h27) : ∀ (n : Nat) (v23 : Nat) (v24 : Nat) (h25 : Hp), X7_term_L5 N f x5 n v23 v24 h25 = some r → V l G cX7_term RX7 "term" 3 (Option.some (Jvm.ClassFile.FieldType.object "LeekReadings$Sum")) fr lo h0 r.2 (QX G [] (rsA r.1) h0 r.2) 5 [(0, .ref v23), (1, .ref v24)] [] h25 := by
  intro n
  induction n with
  | zero =>
    intro v23 v24 h25 hF
    cases (show (none : Option ((Nat ⊕ Nat) × Hp)) = some r from hF)
  | succ n hc5 =>
    intro v23 v24 h25 hF
    rw [X7_term_L5] at hF
    refine v_aload_n dX7_term_5 rfl 0 rfl ?_
    refine v_ldcS dX7_term_6 st_X7_167 ?_
    obtain ⟨v29, h28, e_v29, hF⟩ := bd2_spec hF
    refine v_calV1 dX7_term_8 vl_X7_73 q885 (rc_X7_isWord e_v29) (ct_X7_isWord e_v29) rfl rfl (by omega) (by omega) (Nat.le_of_ble_eq_true rfl) ?_
    refine v_if_ne (tgt := 32) dX7_term_11 (by decide) hF (fun hF => ?_) (fun hF => ?_)
    · exact v_sub [0, 1] rfl (w_X7_term_J32 hbf hbl hfr hlo hf hc5 hF)
    · refine v_aload_n dX7_term_14 rfl 0 rfl ?_
      refine v_ldcS dX7_term_15 st_X7_169 ?_
      obtain ⟨v44, h43, e_v44, hF⟩ := bd2_spec hF
      refine v_calV1 dX7_term_17 vl_X7_73 q885 (rc_X7_isWord e_v44) (ct_X7_isWord e_v44) rfl rfl (by omega) (by omega) (Nat.le_of_ble_eq_true rfl) ?_
      refine v_if_ne (tgt := 32) dX7_term_20 (by decide) hF (fun hF => ?_) (fun hF => ?_)
      · exact v_sub [0, 1] rfl (w_X7_term_J32 hbf hbl hfr hlo hf hc5 hF)
      · refine v_aload_n dX7_term_23 rfl 0 rfl ?_
        refine v_ldcS dX7_term_24 st_X7_171 ?_
        obtain ⟨v46, h45, e_v46, hF⟩ := bd2_spec hF
        refine v_calV1 dX7_term_26 vl_X7_73 q885 (rc_X7_isWord e_v46) (ct_X7_isWord e_v46) rfl rfl (by omega) (by omega) (Nat.le_of_ble_eq_true rfl) ?_
        refine v_if_eq (tgt := 66) dX7_term_29 (by decide) hF (fun hF => ?_) (fun hF => ?_)
        · exact v_sub [1] rfl (hx5 _ _ hF)
        · exact v_sub [0, 1] rfl (w_X7_term_J32 hbf hbl hfr hlo hf hc5 hF)
def X7_term_b (N : Nat) (f : Nat → Hp → Option ((Nat ⊕ Nat) × Hp)) (a0 : Nat) (h : Hp) : Option ((Nat ⊕ Nat) × Hp) :=
  bdx (X7_part N f a0 h) fun v22 h21 =>
  X7_term_L5 N f (fun v48 h49 =>
    some (.inr v48, h49)) N a0 v22 h21
theorem w_X7_term_b {l : Launch} {G : GT} {fr lo : Nat} {h0 : Hp} {N : Nat} {f : Nat → Hp → Option ((Nat ⊕ Nat) × Hp)} {r : ((Nat ⊕ Nat) × Hp)} {frf lof : Nat} (hbf : 7 ≤ frf) (hbl : 154 ≤ lof) (hfr : frf + 2 ≤ fr) (hlo : lof + 43 ≤ lo) (hf : ∀ (a0 : Nat) (h : Hp) (r : ((Nat ⊕ Nat) × Hp)), f a0 h = some r → RC h a0 [7, 18] ∧ CtX l G yX7_sum (ws_ yX7_sum cX7_sum 3 (Option.some (Jvm.ClassFile.FieldType.object "LeekReadings$Sum"))) frf lof [.ref a0] h (rsA r.1) r.2) {a0 : Nat} {h : Hp} (hF : X7_term_b N f a0 h = some r) : V l G cX7_term RX7 "term" 3 (Option.some (Jvm.ClassFile.FieldType.object "LeekReadings$Sum")) fr lo h0 r.2 (QX G [] (rsA r.1) h0 r.2) 0 [(0, .ref a0)] [] h := by
  unfold X7_term_b at hF
  refine v_aload_n dX7_term_0 rfl 0 rfl ?_
  rcases bdx_spec hF with ⟨q9, h9, o9, e_h21, w9, e9⟩ | ⟨v22, h21, e_h21, hF⟩
  · subst e9
    exact v_calVXt dX7_term_1 vl_X7_164 q953 (rc_X7_part e_h21) (ct_X7_part (by omega) (by omega) hf e_h21) rfl rfl (by omega) (by omega) (Nat.le_of_ble_eq_true rfl) (x_out w9 tb0 rfl)
  · refine v_calVXn1 dX7_term_1 vl_X7_164 q953 (rc_X7_part e_h21) (ct_X7_part (by omega) (by omega) hf e_h21) rfl rfl (by omega) (by omega) (Nat.le_of_ble_eq_true rfl) ?_
    refine v_astore_n dX7_term_4 rfl (Nat.le_of_ble_eq_true rfl) (L' := [(1, .ref v22), (0, .ref a0)]) rfl ?_
    refine v_sub [1, 0] rfl (w_X7_term_L5 hbf hbl hfr hlo hf ?_ N _ _ _ hF)
    intro v48 h49 hF
    refine v_aload_n dX7_term_66 rfl 0 rfl ?_
    cases hF
    exact v_toX (v_aret (x := some _) dX7_term_67 rfl (Or.inl ⟨_, rfl⟩) rfl rfl)
def X7_term (N : Nat) (f : Nat → Hp → Option ((Nat ⊕ Nat) × Hp)) (a0 : Nat) (h : Hp) : Option ((Nat ⊕ Nat) × Hp) := (ob h a0 [7, 18]).bind fun _ => X7_term_b N f a0 h
theorem rc_X7_term {N : Nat}  {f : Nat → Hp → Option ((Nat ⊕ Nat) × Hp)} {r : ((Nat ⊕ Nat) × Hp)} {a0 : Nat} {h : Hp} (hF : X7_term N f a0 h = some r) : RC h a0 [7, 18] := by
  obtain ⟨o, ho, -⟩ := Option.bind_eq_some_iff.mp hF
  exact ⟨o, ho⟩
theorem ct_X7_term {l : Launch} {G : GT} {N : Nat} {f : Nat → Hp → Option ((Nat ⊕ Nat) × Hp)} {frf lof : Nat} (hbf : 7 ≤ frf) (hbl : 154 ≤ lof) (hf : ∀ (a0 : Nat) (h : Hp) (r : ((Nat ⊕ Nat) × Hp)), f a0 h = some r → RC h a0 [7, 18] ∧ CtX l G yX7_sum (ws_ yX7_sum cX7_sum 3 (Option.some (Jvm.ClassFile.FieldType.object "LeekReadings$Sum"))) frf lof [.ref a0] h (rsA r.1) r.2) {r : ((Nat ⊕ Nat) × Hp)} {a0 : Nat} {h : Hp} (hF : X7_term N f a0 h = some r) : CtX l G yX7_term (ws_ yX7_term cX7_term 3 (Option.some (Jvm.ClassFile.FieldType.object "LeekReadings$Sum"))) (frf + 2) (lof + 43) [.ref a0] h (rsA r.1) r.2 :=
  ctX_of (by decide) (Nat.le_of_ble_eq_true rfl) (w_X7_term_b hbf hbl (Nat.le_refl _) (Nat.le_refl _) hf (Option.bind_eq_some_iff.mp hF).choose_spec.2)
theorem vl_X7_154 : ∀ ci ∈ [7, 18], VL RX7 154 ci yX7_term 0 := by
  intro ci h
  simp only [List.mem_cons, List.not_mem_nil, or_false] at h
  rcases h with rfl | rfl
  · exact ⟨RX8, TX8, 11, rfl, q158, ⟨by decide, by decide⟩, by decide +kernel, q948, Or.inr (Or.inr (Or.inr ⟨q946, q947, ⟨"LeekReadings$Reader", "next", "()V"⟩, rfl, q829⟩))⟩
  · exact ⟨RX21, TX21, 10, rfl, q158, ⟨by decide, by decide⟩, by decide +kernel, q948, Or.inr (Or.inr (Or.inr ⟨q946, q947, ⟨"LeekReadings$Reader", "next", "()V"⟩, rfl, q830⟩))⟩
theorem st_X7_157 : (RX7, 157, "+", 31) ∈ strTab := List.mem_of_getElem? (i := 35) rfl
theorem st_X7_159 : (RX7, 159, "-", 32) ∈ strTab := List.mem_of_getElem? (i := 36) rfl
def X7_sum_o_J23 (N : Nat) (f : Nat → Hp → Option ((Nat ⊕ Nat) × Hp)) (c5 : Nat → Nat → Hp → Option ((Nat ⊕ Nat) × Hp)) (v30 : Nat) (v31 : Nat) (h32 : Hp) : Option ((Nat ⊕ Nat) × Hp) :=
  (gr h32 v30 [7, 18] 7).bind fun v33 =>
  (gr h32 v33 [0] 14).bind fun v34 =>
  (gi h32 v30 [7, 18] 0).bind fun v35 =>
  (aI h32 v34 1 v35).bind fun v36 =>
  (X7_next N v30 h32).bind fun h37 =>
  bd2 (nwo h37 12 3 [.null, .null, .int 0]) fun a38 h39 =>
  bdx (X7_term N f v30 h39) fun v41 h40 =>
  (X14_init a38 v31 v36 v41 h40).bind fun h42 =>
  c5 v30 a38 h42
theorem w_X7_sum_o_J23 {l : Launch} {G : GT} {fr lo : Nat} {h0 : Hp} {N : Nat} {f : Nat → Hp → Option ((Nat ⊕ Nat) × Hp)} {r : ((Nat ⊕ Nat) × Hp)} {frf lof : Nat} (hbf : 7 ≤ frf) (hbl : 154 ≤ lof) (hfr : frf + 3 ≤ fr) (hlo : lof + 65 ≤ lo) (hf : ∀ (a0 : Nat) (h : Hp) (r : ((Nat ⊕ Nat) × Hp)), f a0 h = some r → RC h a0 [7, 18] ∧ CtX l G yX7_sum (ws_ yX7_sum cX7_sum 3 (Option.some (Jvm.ClassFile.FieldType.object "LeekReadings$Sum"))) frf lof [.ref a0] h (rsA r.1) r.2) {c5 : Nat → Nat → Hp → Option ((Nat ⊕ Nat) × Hp)} (hc5 : ∀ (v23 : Nat) (v24 : Nat) (h25 : Hp), c5 v23 v24 h25 = some r → V l G cX7_sum RX7 "sum" 3 (Option.some (Jvm.ClassFile.FieldType.object "LeekReadings$Sum")) fr lo h0 r.2 (QX G [] (rsA r.1) h0 r.2) 5 [(0, .ref v23), (1, .ref v24)] [] h25) {v30 : Nat} {v31 : Nat} {h32 : Hp} (hF : X7_sum_o_J23 N f c5 v30 v31 h32 = some r) : V l G cX7_sum RX7 "sum" 3 (Option.some (Jvm.ClassFile.FieldType.object "LeekReadings$Sum")) fr lo h0 r.2 (QX G [] (rsA r.1) h0 r.2) 23 [(0, .ref v30), (1, .ref v31)] [] h32 := by
  unfold X7_sum_o_J23 at hF
  refine v_aload_n dX7_sum_23 rfl 0 rfl ?_
  refine v_getr dX7_sum_24 fl_X7_3 hF (fun v33 hF => ?_)
  refine v_getr dX7_sum_27 fl_X7_52 hF (fun v34 hF => ?_)
  refine v_aload_n dX7_sum_30 rfl 0 rfl ?_
  refine v_geti dX7_sum_31 fl_X7_42 hF (fun v35 hF => ?_)
  refine v_bald dX7_sum_34 hF (fun v36 hF => ?_)
  refine v_istore_n dX7_sum_35 rfl (Nat.le_of_ble_eq_true rfl) (L' := [(2, .int v36), (0, .ref v30), (1, .ref v31)]) rfl ?_
  refine v_aload_n dX7_sum_36 rfl 1 rfl ?_
  obtain ⟨h37, e_h37, hF⟩ := Option.bind_eq_some_iff.mp hF
  refine v_calV0 dX7_sum_37 vl_X7_25 q831 (rc_X7_next e_h37) (ct_X7_next e_h37) rfl rfl (by omega) (by omega) (Nat.le_of_ble_eq_true rfl) ?_
  refine v_new dX7_sum_40 nl_X7_161 hF (fun a38 h39 hF => ?_)
  refine v_dup dX7_sum_43 rfl ?_
  refine v_aload_n dX7_sum_44 rfl 2 rfl ?_
  refine v_iload_n dX7_sum_45 rfl 0 rfl ?_
  refine v_aload_n dX7_sum_46 rfl 1 rfl ?_
  rcases bdx_spec hF with ⟨q9, h9, o9, e_h40, w9, e9⟩ | ⟨v41, h40, e_h40, hF⟩
  · subst e9
    exact v_calVXt dX7_sum_47 vl_X7_154 q949 (rc_X7_term e_h40) (ct_X7_term (by omega) (by omega) hf e_h40) rfl rfl (by omega) (by omega) (Nat.le_of_ble_eq_true rfl) (x_out w9 tb0 rfl)
  · refine v_calVXn1 dX7_sum_47 vl_X7_154 q949 (rc_X7_term e_h40) (ct_X7_term (by omega) (by omega) hf e_h40) rfl rfl (by omega) (by omega) (Nat.le_of_ble_eq_true rfl) ?_
    obtain ⟨h42, e_h42, hF⟩ := Option.bind_eq_some_iff.mp hF
    refine v_calI dX7_sum_50 il_X7_163 q1042 (ct_X14_init e_h42) rfl rfl (by omega) (by omega) (Nat.le_of_ble_eq_true rfl) ?_
    refine v_astore_n dX7_sum_53 rfl (Nat.le_of_ble_eq_true rfl) (L' := [(1, .ref a38), (2, .int v36), (0, .ref v30)]) rfl ?_
    refine v_goto (tgt := 5) dX7_sum_54 (by decide) ?_
    exact v_sub [2, 0] rfl (hc5 _ _ _ hF)
def X7_sum_o_L5 (N : Nat) (f : Nat → Hp → Option ((Nat ⊕ Nat) × Hp)) (x5 : Nat → Hp → Option ((Nat ⊕ Nat) × Hp)) : Nat → Nat → Nat → Hp → Option ((Nat ⊕ Nat) × Hp)
  | 0, _, _, _ => none
  | n45 + 1, v23, v24, h25 =>
    bd2 (X7_isWord N v23 (h25.2.2.1 31) h25) fun v29 h28 =>
    if v29 = 0 then
      bd2 (X7_isWord N v23 (h28.2.2.1 32) h28) fun v44 h43 =>
      if v44 = 0 then
        x5 v24 h43
      else
        X7_sum_o_J23 N f (X7_sum_o_L5 N f x5 n45) v23 v24 h43
    else
      X7_sum_o_J23 N f (X7_sum_o_L5 N f x5 n45) v23 v24 h28
theorem w_X7_sum_o_L5 {l : Launch} {G : GT} {fr lo : Nat} {h0 : Hp} {N : Nat} {f : Nat → Hp → Option ((Nat ⊕ Nat) × Hp)} {r : ((Nat ⊕ Nat) × Hp)} {frf lof : Nat} (hbf : 7 ≤ frf) (hbl : 154 ≤ lof) (hfr : frf + 3 ≤ fr) (hlo : lof + 65 ≤ lo) (hf : ∀ (a0 : Nat) (h : Hp) (r : ((Nat ⊕ Nat) × Hp)), f a0 h = some r → RC h a0 [7, 18] ∧ CtX l G yX7_sum (ws_ yX7_sum cX7_sum 3 (Option.some (Jvm.ClassFile.FieldType.object "LeekReadings$Sum"))) frf lof [.ref a0] h (rsA r.1) r.2) {x5 : Nat → Hp → Option ((Nat ⊕ Nat) × Hp)} (hx5 : ∀ (v26 : Nat) (h27 : Hp), x5 v26 h27 = some r → V l G cX7_sum RX7 "sum" 3 (Option.some (Jvm.ClassFile.FieldType.object "LeekReadings$Sum")) fr lo h0 r.2 (QX G [] (rsA r.1) h0 r.2) 57 [(1, .ref v26)] [] h27) : ∀ (n : Nat) (v23 : Nat) (v24 : Nat) (h25 : Hp), X7_sum_o_L5 N f x5 n v23 v24 h25 = some r → V l G cX7_sum RX7 "sum" 3 (Option.some (Jvm.ClassFile.FieldType.object "LeekReadings$Sum")) fr lo h0 r.2 (QX G [] (rsA r.1) h0 r.2) 5 [(0, .ref v23), (1, .ref v24)] [] h25 := by
  intro n
  induction n with
  | zero =>
    intro v23 v24 h25 hF
    cases (show (none : Option ((Nat ⊕ Nat) × Hp)) = some r from hF)
  | succ n hc5 =>
    intro v23 v24 h25 hF
    rw [X7_sum_o_L5] at hF
    refine v_aload_n dX7_sum_5 rfl 0 rfl ?_
    refine v_ldcS dX7_sum_6 st_X7_157 ?_
    obtain ⟨v29, h28, e_v29, hF⟩ := bd2_spec hF
    refine v_calV1 dX7_sum_8 vl_X7_73 q885 (rc_X7_isWord e_v29) (ct_X7_isWord e_v29) rfl rfl (by omega) (by omega) (Nat.le_of_ble_eq_true rfl) ?_
    refine v_if_ne (tgt := 23) dX7_sum_11 (by decide) hF (fun hF => ?_) (fun hF => ?_)
    · exact v_sub [0, 1] rfl (w_X7_sum_o_J23 hbf hbl hfr hlo hf hc5 hF)
    · refine v_aload_n dX7_sum_14 rfl 0 rfl ?_
      refine v_ldcS dX7_sum_15 st_X7_159 ?_
      obtain ⟨v44, h43, e_v44, hF⟩ := bd2_spec hF
      refine v_calV1 dX7_sum_17 vl_X7_73 q885 (rc_X7_isWord e_v44) (ct_X7_isWord e_v44) rfl rfl (by omega) (by omega) (Nat.le_of_ble_eq_true rfl) ?_
      refine v_if_eq (tgt := 57) dX7_sum_20 (by decide) hF (fun hF => ?_) (fun hF => ?_)
      · exact v_sub [1] rfl (hx5 _ _ hF)
      · exact v_sub [0, 1] rfl (w_X7_sum_o_J23 hbf hbl hfr hlo hf hc5 hF)
def X7_sum_o_b (N : Nat) (f : Nat → Hp → Option ((Nat ⊕ Nat) × Hp)) (a0 : Nat) (h : Hp) : Option ((Nat ⊕ Nat) × Hp) :=
  bdx (X7_term N f a0 h) fun v22 h21 =>
  X7_sum_o_L5 N f (fun v46 h47 =>
    some (.inr v46, h47)) N a0 v22 h21
theorem w_X7_sum_o_b {l : Launch} {G : GT} {fr lo : Nat} {h0 : Hp} {N : Nat} {f : Nat → Hp → Option ((Nat ⊕ Nat) × Hp)} {r : ((Nat ⊕ Nat) × Hp)} {frf lof : Nat} (hbf : 7 ≤ frf) (hbl : 154 ≤ lof) (hfr : frf + 3 ≤ fr) (hlo : lof + 65 ≤ lo) (hf : ∀ (a0 : Nat) (h : Hp) (r : ((Nat ⊕ Nat) × Hp)), f a0 h = some r → RC h a0 [7, 18] ∧ CtX l G yX7_sum (ws_ yX7_sum cX7_sum 3 (Option.some (Jvm.ClassFile.FieldType.object "LeekReadings$Sum"))) frf lof [.ref a0] h (rsA r.1) r.2) {a0 : Nat} {h : Hp} (hF : X7_sum_o_b N f a0 h = some r) : V l G cX7_sum RX7 "sum" 3 (Option.some (Jvm.ClassFile.FieldType.object "LeekReadings$Sum")) fr lo h0 r.2 (QX G [] (rsA r.1) h0 r.2) 0 [(0, .ref a0)] [] h := by
  unfold X7_sum_o_b at hF
  refine v_aload_n dX7_sum_0 rfl 0 rfl ?_
  rcases bdx_spec hF with ⟨q9, h9, o9, e_h21, w9, e9⟩ | ⟨v22, h21, e_h21, hF⟩
  · subst e9
    exact v_calVXt dX7_sum_1 vl_X7_154 q949 (rc_X7_term e_h21) (ct_X7_term (by omega) (by omega) hf e_h21) rfl rfl (by omega) (by omega) (Nat.le_of_ble_eq_true rfl) (x_out w9 tb0 rfl)
  · refine v_calVXn1 dX7_sum_1 vl_X7_154 q949 (rc_X7_term e_h21) (ct_X7_term (by omega) (by omega) hf e_h21) rfl rfl (by omega) (by omega) (Nat.le_of_ble_eq_true rfl) ?_
    refine v_astore_n dX7_sum_4 rfl (Nat.le_of_ble_eq_true rfl) (L' := [(1, .ref v22), (0, .ref a0)]) rfl ?_
    refine v_sub [1, 0] rfl (w_X7_sum_o_L5 hbf hbl hfr hlo hf ?_ N _ _ _ hF)
    intro v46 h47 hF
    refine v_aload_n dX7_sum_57 rfl 0 rfl ?_
    cases hF
    exact v_toX (v_aret (x := some _) dX7_sum_58 rfl (Or.inl ⟨_, rfl⟩) rfl rfl)
def X7_sum_o (N : Nat) (f : Nat → Hp → Option ((Nat ⊕ Nat) × Hp)) (a0 : Nat) (h : Hp) : Option ((Nat ⊕ Nat) × Hp) := (ob h a0 [7, 18]).bind fun _ => X7_sum_o_b N f a0 h
theorem rc_X7_sum_o {N : Nat}  {f : Nat → Hp → Option ((Nat ⊕ Nat) × Hp)} {r : ((Nat ⊕ Nat) × Hp)} {a0 : Nat} {h : Hp} (hF : X7_sum_o N f a0 h = some r) : RC h a0 [7, 18] := by
  obtain ⟨o, ho, -⟩ := Option.bind_eq_some_iff.mp hF
  exact ⟨o, ho⟩
theorem ct_X7_sum_o {l : Launch} {G : GT} {N : Nat} {f : Nat → Hp → Option ((Nat ⊕ Nat) × Hp)} {frf lof : Nat} (hbf : 7 ≤ frf) (hbl : 154 ≤ lof) (hf : ∀ (a0 : Nat) (h : Hp) (r : ((Nat ⊕ Nat) × Hp)), f a0 h = some r → RC h a0 [7, 18] ∧ CtX l G yX7_sum (ws_ yX7_sum cX7_sum 3 (Option.some (Jvm.ClassFile.FieldType.object "LeekReadings$Sum"))) frf lof [.ref a0] h (rsA r.1) r.2) {r : ((Nat ⊕ Nat) × Hp)} {a0 : Nat} {h : Hp} (hF : X7_sum_o N f a0 h = some r) : CtX l G yX7_sum (ws_ yX7_sum cX7_sum 3 (Option.some (Jvm.ClassFile.FieldType.object "LeekReadings$Sum"))) (frf + 3) (lof + 65) [.ref a0] h (rsA r.1) r.2 :=
  ctX_of (by decide) (Nat.le_of_ble_eq_true rfl) (w_X7_sum_o_b hbf hbl (Nat.le_refl _) (Nat.le_refl _) hf (Option.bind_eq_some_iff.mp hF).choose_spec.2)
def X7_sum (N : Nat) : Nat → Nat → Hp → Option ((Nat ⊕ Nat) × Hp)
  | 0, _, _ => none
  | d + 1, a0, h => X7_sum_o N (X7_sum N d) a0 h
theorem rcd_X7_sum {N : Nat} : ∀ (d : Nat) {r : ((Nat ⊕ Nat) × Hp)} {a0 : Nat} {h : Hp} (hF : X7_sum N d a0 h = some r), RC h a0 [7, 18] := by
  intro d r a0 h hF
  cases d with
  | zero => cases (show (none : Option ((Nat ⊕ Nat) × Hp)) = some r from hF)
  | succ d => exact rc_X7_sum_o hF
theorem ctd_X7_sum {l : Launch} {G : GT} {N : Nat} : ∀ (d : Nat) {r : ((Nat ⊕ Nat) × Hp)} {a0 : Nat} {h : Hp} (hF : X7_sum N d a0 h = some r), CtX l G yX7_sum (ws_ yX7_sum cX7_sum 3 (Option.some (Jvm.ClassFile.FieldType.object "LeekReadings$Sum"))) (7 + 3 * d) (154 + 65 * d) [.ref a0] h (rsA r.1) r.2 := by
  intro d
  induction d with
  | zero => intro r a0 h hF; cases (show (none : Option ((Nat ⊕ Nat) × Hp)) = some r from hF)
  | succ d ih =>
    intro r a0 h hF
    rw [show 7 + 3 * (d + 1) = (7 + 3 * d) + 3 by omega, show 154 + 65 * (d + 1) = (154 + 65 * d) + 65 by omega]
    exact ct_X7_sum_o (frf := 7 + 3 * d) (lof := 154 + 65 * d) (by omega) (by omega) (fun _ _ _ z => ⟨rcd_X7_sum d z, ih z⟩) hF
theorem st_X21_74 : (RX21, 74, "pass", 17) ∈ strTab := List.mem_of_getElem? (i := 20) rfl
theorem vl_X21_76 : ∀ ci ∈ [18], VL RX21 76 ci yX7_accept 1 := by
  intro ci h
  simp only [List.mem_cons, List.not_mem_nil, or_false] at h
  subst h; exact ⟨RX21, TX21, 10, rfl, q158, ⟨by decide, by decide⟩, by decide +kernel, q966, Or.inr (Or.inr (Or.inl ⟨⟨"LeekReadings$OrderReader", "accept", "(Ljava/lang/String;)Z"⟩, "LeekReadings$Reader", q1164, q1165, q1166, ⟨by decide, by decide⟩, by decide +kernel, Or.inl rfl⟩))⟩
theorem st_X21_83 : (RX21, 83, "read", 18) ∈ strTab := List.mem_of_getElem? (i := 21) rfl
theorem st_X21_89 : (RX21, 89, "lose", 19) ∈ strTab := List.mem_of_getElem? (i := 22) rfl
theorem st_X21_91 : (RX21, 91, "cut", 20) ∈ strTab := List.mem_of_getElem? (i := 23) rfl
theorem vl_X21_93 : ∀ ci ∈ [18], VL RX21 93 ci yX7_must 1 := by
  intro ci h
  simp only [List.mem_cons, List.not_mem_nil, or_false] at h
  subst h; exact ⟨RX21, TX21, 10, rfl, q158, ⟨by decide, by decide⟩, by decide +kernel, q839, Or.inr (Or.inr (Or.inl ⟨⟨"LeekReadings$OrderReader", "must", "(Z)V"⟩, "LeekReadings$Reader", q1201, q1202, q1203, ⟨by decide, by decide⟩, by decide +kernel, Or.inl rfl⟩))⟩
theorem nl_X21_31 : NL RX21 31 17 6 [.int 0, .null, .null, .int 0, .int 0, .null] := ⟨RX20, TX20, tyX20, rfl, in_X20, tyX20_ok, q1167, q1168, q173, by decide +kernel⟩
theorem vl_X21_85 : ∀ ci ∈ [18], VL RX21 85 ci yX7_sum 0 := by
  intro ci h
  simp only [List.mem_cons, List.not_mem_nil, or_false] at h
  subst h; exact ⟨RX21, TX21, 10, rfl, q158, ⟨by decide, by decide⟩, by decide +kernel, q944, Or.inr (Or.inr (Or.inl ⟨⟨"LeekReadings$OrderReader", "sum", "()LLeekReadings$Sum;"⟩, "LeekReadings$Reader", q1196, q1197, q1198, ⟨by decide, by decide⟩, by decide +kernel, Or.inl rfl⟩))⟩
theorem il_X21_80 : IL RX21 80 yX20_init 3 := ⟨q173, ⟨by decide, by decide⟩, by decide +kernel, q1170, rfl, Or.inl q1169⟩
def X21_act_b (N : Nat) (a0 : Nat) (h : Hp) : Option ((Nat ⊕ Nat) × Hp) :=
  (ob h a0 [18]).bind fun _ =>
  bd2 (X7_accept N a0 (h.2.2.1 17) h) fun v22 h21 =>
  if v22 = 0 then
    (ob h21 a0 [18]).bind fun _ =>
    bd2 (X7_accept N a0 (h21.2.2.1 18) h21) fun v25 h24 =>
    if v25 = 0 then
      (ob h24 a0 [18]).bind fun _ =>
      bd2 (X7_accept N a0 (h24.2.2.1 19) h24) fun v28 h27 =>
      if v28 = 0 then
        (ob h27 a0 [18]).bind fun _ =>
        bd2 (X7_accept N a0 (h27.2.2.1 20) h27) fun v31 h30 =>
        (ob h30 a0 [18]).bind fun _ =>
        bdx (X7_must a0 v31 h30) fun u_h33 h33 =>
        bd2 (nwo h33 17 6 [.int 0, .null, .null, .int 0, .int 0, .null]) fun a35 h36 =>
        (gr h36 a0 [18] 9).bind fun v37 =>
        (ob h36 a0 [18]).bind fun _ =>
        bdx (X7_sum N 16 a0 h36) fun v39 h38 =>
        (X20_init a35 v37 (2 : Int32) (some v39) h38).bind fun h41 =>
        some (.inr a35, h41)
      else
        bd2 (nwo h27 17 6 [.int 0, .null, .null, .int 0, .int 0, .null]) fun a42 h43 =>
        (gr h43 a0 [18] 9).bind fun v44 =>
        (ob h43 a0 [18]).bind fun _ =>
        bdx (X7_sum N 16 a0 h43) fun v46 h45 =>
        (X20_init a42 v44 (1 : Int32) (some v46) h45).bind fun h48 =>
        some (.inr a42, h48)
    else
      bd2 (nwo h24 17 6 [.int 0, .null, .null, .int 0, .int 0, .null]) fun a49 h50 =>
      (gr h50 a0 [18] 9).bind fun v51 =>
      (ob h50 a0 [18]).bind fun _ =>
      bdx (X7_sum N 16 a0 h50) fun v53 h52 =>
      (X20_init a49 v51 (0 : Int32) (some v53) h52).bind fun h55 =>
      some (.inr a49, h55)
  else
    bd2 (nwo h21 17 6 [.int 0, .null, .null, .int 0, .int 0, .null]) fun a56 h57 =>
    (gr h57 a0 [18] 9).bind fun v58 =>
    (X20_init a56 v58 (3 : Int32) none h57).bind fun h59 =>
    some (.inr a56, h59)
theorem w_X21_act_b {l : Launch} {G : GT} {fr lo : Nat} {h0 : Hp} {N : Nat} {r : ((Nat ⊕ Nat) × Hp)} (hfr : 56 ≤ fr) (hlo : 1216 ≤ lo) {a0 : Nat} {h : Hp} (hF : X21_act_b N a0 h = some r) : V l G cX21_act RX21 "act" 1 (Option.some (Jvm.ClassFile.FieldType.object "LeekReadings$Act")) fr lo h0 r.2 (QX G [] (rsA r.1) h0 r.2) 0 [(0, .ref a0)] [] h := by
  unfold X21_act_b at hF
  refine v_aload_n dX21_act_0 rfl 0 rfl ?_
  refine v_ldcS dX21_act_1 st_X21_74 ?_
  obtain ⟨o23, q_o23, hF⟩ := Option.bind_eq_some_iff.mp hF
  obtain ⟨v22, h21, e_v22, hF⟩ := bd2_spec hF
  refine v_calV1 dX21_act_3 vl_X21_76 q970 ⟨o23, q_o23⟩ (ct_X7_accept e_v22) rfl rfl (Nat.le_trans (Nat.le_of_ble_eq_true rfl) hfr) (Nat.le_trans (Nat.le_of_ble_eq_true rfl) hlo) (Nat.le_of_ble_eq_true rfl) ?_
  refine v_if_eq (tgt := 23) dX21_act_6 (by decide) hF (fun hF => ?_) (fun hF => ?_)
  · refine v_aload_n dX21_act_23 rfl 0 rfl ?_
    refine v_ldcS dX21_act_24 st_X21_83 ?_
    obtain ⟨o26, q_o26, hF⟩ := Option.bind_eq_some_iff.mp hF
    obtain ⟨v25, h24, e_v25, hF⟩ := bd2_spec hF
    refine v_calV1 dX21_act_26 vl_X21_76 q970 ⟨o26, q_o26⟩ (ct_X7_accept e_v25) rfl rfl (Nat.le_trans (Nat.le_of_ble_eq_true rfl) hfr) (Nat.le_trans (Nat.le_of_ble_eq_true rfl) hlo) (Nat.le_of_ble_eq_true rfl) ?_
    refine v_if_eq (tgt := 49) dX21_act_29 (by decide) hF (fun hF => ?_) (fun hF => ?_)
    · refine v_aload_n dX21_act_49 rfl 0 rfl ?_
      refine v_ldcS dX21_act_50 st_X21_89 ?_
      obtain ⟨o29, q_o29, hF⟩ := Option.bind_eq_some_iff.mp hF
      obtain ⟨v28, h27, e_v28, hF⟩ := bd2_spec hF
      refine v_calV1 dX21_act_52 vl_X21_76 q970 ⟨o29, q_o29⟩ (ct_X7_accept e_v28) rfl rfl (Nat.le_trans (Nat.le_of_ble_eq_true rfl) hfr) (Nat.le_trans (Nat.le_of_ble_eq_true rfl) hlo) (Nat.le_of_ble_eq_true rfl) ?_
      refine v_if_eq (tgt := 75) dX21_act_55 (by decide) hF (fun hF => ?_) (fun hF => ?_)
      · refine v_aload_n dX21_act_75 rfl 0 rfl ?_
        refine v_aload_n dX21_act_76 rfl 0 rfl ?_
        refine v_ldcS dX21_act_77 st_X21_91 ?_
        obtain ⟨o32, q_o32, hF⟩ := Option.bind_eq_some_iff.mp hF
        obtain ⟨v31, h30, e_v31, hF⟩ := bd2_spec hF
        refine v_calV1 dX21_act_79 vl_X21_76 q970 ⟨o32, q_o32⟩ (ct_X7_accept e_v31) rfl rfl (Nat.le_trans (Nat.le_of_ble_eq_true rfl) hfr) (Nat.le_trans (Nat.le_of_ble_eq_true rfl) hlo) (Nat.le_of_ble_eq_true rfl) ?_
        obtain ⟨o34, q_o34, hF⟩ := Option.bind_eq_some_iff.mp hF
        rcases bdx_spec hF with ⟨q9, h9, o9, e_h33, w9, e9⟩ | ⟨u_h33, h33, e_h33, hF⟩
        · subst e9
          exact v_calVXt dX21_act_82 vl_X21_93 q843 ⟨o34, q_o34⟩ (ct_X7_must e_h33) rfl rfl (Nat.le_trans (Nat.le_of_ble_eq_true rfl) hfr) (Nat.le_trans (Nat.le_of_ble_eq_true rfl) hlo) (Nat.le_of_ble_eq_true rfl) (x_out w9 tb0 rfl)
        · refine v_calVXn0 dX21_act_82 vl_X21_93 q843 ⟨o34, q_o34⟩ (ct_X7_must e_h33) rfl rfl (Nat.le_trans (Nat.le_of_ble_eq_true rfl) hfr) (Nat.le_trans (Nat.le_of_ble_eq_true rfl) hlo) (Nat.le_of_ble_eq_true rfl) ?_
          refine v_new dX21_act_85 nl_X21_31 hF (fun a35 h36 hF => ?_)
          refine v_dup dX21_act_88 rfl ?_
          refine v_aload_n dX21_act_89 rfl 0 rfl ?_
          refine v_getr dX21_act_90 fl_X21_3 hF (fun v37 hF => ?_)
          refine v_iconst dX21_act_93 (v := 2) (by decide) ?_
          refine v_aload_n dX21_act_94 rfl 0 rfl ?_
          obtain ⟨o40, q_o40, hF⟩ := Option.bind_eq_some_iff.mp hF
          rcases bdx_spec hF with ⟨q9, h9, o9, e_h38, w9, e9⟩ | ⟨v39, h38, e_h38, hF⟩
          · subst e9
            exact v_calVXt dX21_act_95 vl_X21_85 q945 ⟨o40, q_o40⟩ (ctd_X7_sum 16 e_h38) rfl rfl (Nat.le_trans (Nat.le_of_ble_eq_true rfl) hfr) (Nat.le_trans (Nat.le_of_ble_eq_true rfl) hlo) (Nat.le_of_ble_eq_true rfl) (x_out w9 tb0 rfl)
          · refine v_calVXn1 dX21_act_95 vl_X21_85 q945 ⟨o40, q_o40⟩ (ctd_X7_sum 16 e_h38) rfl rfl (Nat.le_trans (Nat.le_of_ble_eq_true rfl) hfr) (Nat.le_trans (Nat.le_of_ble_eq_true rfl) hlo) (Nat.le_of_ble_eq_true rfl) ?_
            obtain ⟨h41, e_h41, hF⟩ := Option.bind_eq_some_iff.mp hF
            refine v_calI dX21_act_98 il_X21_80 q1171 (ct_X20_init e_h41) rfl rfl (Nat.le_trans (Nat.le_of_ble_eq_true rfl) hfr) (Nat.le_trans (Nat.le_of_ble_eq_true rfl) hlo) (Nat.le_of_ble_eq_true rfl) ?_
            cases hF
            exact v_toX (v_aret (x := some _) dX21_act_101 rfl (Or.inl ⟨_, rfl⟩) rfl rfl)
      · refine v_new dX21_act_58 nl_X21_31 hF (fun a42 h43 hF => ?_)
        refine v_dup dX21_act_61 rfl ?_
        refine v_aload_n dX21_act_62 rfl 0 rfl ?_
        refine v_getr dX21_act_63 fl_X21_3 hF (fun v44 hF => ?_)
        refine v_iconst dX21_act_66 (v := 1) (by decide) ?_
        refine v_aload_n dX21_act_67 rfl 0 rfl ?_
        obtain ⟨o47, q_o47, hF⟩ := Option.bind_eq_some_iff.mp hF
        rcases bdx_spec hF with ⟨q9, h9, o9, e_h45, w9, e9⟩ | ⟨v46, h45, e_h45, hF⟩
        · subst e9
          exact v_calVXt dX21_act_68 vl_X21_85 q945 ⟨o47, q_o47⟩ (ctd_X7_sum 16 e_h45) rfl rfl (Nat.le_trans (Nat.le_of_ble_eq_true rfl) hfr) (Nat.le_trans (Nat.le_of_ble_eq_true rfl) hlo) (Nat.le_of_ble_eq_true rfl) (x_out w9 tb0 rfl)
        · refine v_calVXn1 dX21_act_68 vl_X21_85 q945 ⟨o47, q_o47⟩ (ctd_X7_sum 16 e_h45) rfl rfl (Nat.le_trans (Nat.le_of_ble_eq_true rfl) hfr) (Nat.le_trans (Nat.le_of_ble_eq_true rfl) hlo) (Nat.le_of_ble_eq_true rfl) ?_
          obtain ⟨h48, e_h48, hF⟩ := Option.bind_eq_some_iff.mp hF
          refine v_calI dX21_act_71 il_X21_80 q1171 (ct_X20_init e_h48) rfl rfl (Nat.le_trans (Nat.le_of_ble_eq_true rfl) hfr) (Nat.le_trans (Nat.le_of_ble_eq_true rfl) hlo) (Nat.le_of_ble_eq_true rfl) ?_
          cases hF
          exact v_toX (v_aret (x := some _) dX21_act_74 rfl (Or.inl ⟨_, rfl⟩) rfl rfl)
    · refine v_new dX21_act_32 nl_X21_31 hF (fun a49 h50 hF => ?_)
      refine v_dup dX21_act_35 rfl ?_
      refine v_aload_n dX21_act_36 rfl 0 rfl ?_
      refine v_getr dX21_act_37 fl_X21_3 hF (fun v51 hF => ?_)
      refine v_iconst dX21_act_40 (v := 0) (by decide) ?_
      refine v_aload_n dX21_act_41 rfl 0 rfl ?_
      obtain ⟨o54, q_o54, hF⟩ := Option.bind_eq_some_iff.mp hF
      rcases bdx_spec hF with ⟨q9, h9, o9, e_h52, w9, e9⟩ | ⟨v53, h52, e_h52, hF⟩
      · subst e9
        exact v_calVXt dX21_act_42 vl_X21_85 q945 ⟨o54, q_o54⟩ (ctd_X7_sum 16 e_h52) rfl rfl (Nat.le_trans (Nat.le_of_ble_eq_true rfl) hfr) (Nat.le_trans (Nat.le_of_ble_eq_true rfl) hlo) (Nat.le_of_ble_eq_true rfl) (x_out w9 tb0 rfl)
      · refine v_calVXn1 dX21_act_42 vl_X21_85 q945 ⟨o54, q_o54⟩ (ctd_X7_sum 16 e_h52) rfl rfl (Nat.le_trans (Nat.le_of_ble_eq_true rfl) hfr) (Nat.le_trans (Nat.le_of_ble_eq_true rfl) hlo) (Nat.le_of_ble_eq_true rfl) ?_
        obtain ⟨h55, e_h55, hF⟩ := Option.bind_eq_some_iff.mp hF
        refine v_calI dX21_act_45 il_X21_80 q1171 (ct_X20_init e_h55) rfl rfl (Nat.le_trans (Nat.le_of_ble_eq_true rfl) hfr) (Nat.le_trans (Nat.le_of_ble_eq_true rfl) hlo) (Nat.le_of_ble_eq_true rfl) ?_
        cases hF
        exact v_toX (v_aret (x := some _) dX21_act_48 rfl (Or.inl ⟨_, rfl⟩) rfl rfl)
  · refine v_new dX21_act_9 nl_X21_31 hF (fun a56 h57 hF => ?_)
    refine v_dup dX21_act_12 rfl ?_
    refine v_aload_n dX21_act_13 rfl 0 rfl ?_
    refine v_getr dX21_act_14 fl_X21_3 hF (fun v58 hF => ?_)
    refine v_iconst dX21_act_17 (v := 3) (by decide) ?_
    refine v_null dX21_act_18 ?_
    obtain ⟨h59, e_h59, hF⟩ := Option.bind_eq_some_iff.mp hF
    refine v_calI dX21_act_19 il_X21_80 q1171 (ct_X20_init e_h59) rfl rfl (Nat.le_trans (Nat.le_of_ble_eq_true rfl) hfr) (Nat.le_trans (Nat.le_of_ble_eq_true rfl) hlo) (Nat.le_of_ble_eq_true rfl) ?_
    cases hF
    exact v_toX (v_aret (x := some _) dX21_act_22 rfl (Or.inl ⟨_, rfl⟩) rfl rfl)
def X21_act (N : Nat) (a0 : Nat) (h : Hp) : Option ((Nat ⊕ Nat) × Hp) := (ob h a0 [18]).bind fun _ => X21_act_b N a0 h
theorem rc_X21_act {N : Nat}  {r : ((Nat ⊕ Nat) × Hp)} {a0 : Nat} {h : Hp} (hF : X21_act N a0 h = some r) : RC h a0 [18] := by
  obtain ⟨o, ho, -⟩ := Option.bind_eq_some_iff.mp hF
  exact ⟨o, ho⟩
theorem ct_X21_act {l : Launch} {G : GT} {N : Nat} {r : ((Nat ⊕ Nat) × Hp)} {a0 : Nat} {h : Hp} (hF : X21_act N a0 h = some r) : CtX l G yX21_act (ws_ yX21_act cX21_act 1 (Option.some (Jvm.ClassFile.FieldType.object "LeekReadings$Act"))) 56 1216 [.ref a0] h (rsA r.1) r.2 :=
  ctX_of (by decide) (Nat.le_of_ble_eq_true rfl) (w_X21_act_b (Nat.le_refl _) (Nat.le_refl _) (Option.bind_eq_some_iff.mp hF).choose_spec.2)
theorem fl_X21_54 : FL RX21 54 [0] 14 := by
  intro ci h
  simp only [List.mem_cons, List.not_mem_nil, or_false] at h
  subst h; exact ⟨RX0, _, TX0, 31, rfl, in_X0, by decide, Or.inr ⟨_, q368⟩, Or.inl rfl⟩
theorem fl_X21_51 : FL RX21 51 [7, 18] 1 := by
  intro ci h
  simp only [List.mem_cons, List.not_mem_nil, or_false] at h
  rcases h with rfl | rfl
  · exact ⟨RX8, _, TX8, 11, rfl, in_X8, by decide, Or.inl q784, Or.inr q785⟩
  · exact ⟨RX21, _, TX21, 10, rfl, in_X21, by decide, Or.inl q784, Or.inr q785⟩
theorem fl_X21_47 : FL RX21 47 [7, 18] 0 := by
  intro ci h
  simp only [List.mem_cons, List.not_mem_nil, or_false] at h
  rcases h with rfl | rfl
  · exact ⟨RX8, _, TX8, 11, rfl, in_X8, by decide, Or.inl q782, Or.inr q783⟩
  · exact ⟨RX21, _, TX21, 10, rfl, in_X21, by decide, Or.inl q782, Or.inr q783⟩
def X21_isNought_J50 (N : Nat) (h : Hp) (c22 : Nat → Int32 → Int32 → Option Int32) (v34 : Nat) (v35 : Int32) (v36 : Int32) (v37 : Int32) : Option Int32 :=
  c22 v34 (v37 &&& v36) (v35 + (1 : Int32))
theorem w_X21_isNought_J50 {l : Launch} {G : GT} {fr lo : Nat} {h0 : Hp} {N : Nat} {h : Hp} {r : Int32} (hfr : 0 ≤ fr) (hlo : 0 ≤ lo) {c22 : Nat → Int32 → Int32 → Option Int32} (hc22 : ∀ (v26 : Nat) (v27 : Int32) (v28 : Int32), c22 v26 v27 v28 = some r → V l G cX21_isNought RX21 "isNought" 3 (Option.some Jvm.ClassFile.FieldType.boolean) fr lo h0 h (QM G (some (.int r)) h0 h) 22 [(0, .ref v26), (1, .int v27), (2, .int v28)] [] h) {v34 : Nat} {v35 : Int32} {v36 : Int32} {v37 : Int32} (hF : X21_isNought_J50 N h c22 v34 v35 v36 v37 = some r) : V l G cX21_isNought RX21 "isNought" 3 (Option.some Jvm.ClassFile.FieldType.boolean) fr lo h0 h (QM G (some (.int r)) h0 h) 50 [(0, .ref v34), (2, .int v35)] [.int v36, .int v37] h := by
  unfold X21_isNought_J50 at hF
  refine v_iand dX21_isNought_50 ?_
  refine v_istore_n dX21_isNought_51 rfl (Nat.le_of_ble_eq_true rfl) (L' := [(1, .int (v37 &&& v36)), (0, .ref v34), (2, .int v35)]) rfl ?_
  refine v_iinc dX21_isNought_52 2 rfl (v := v35 + (1 : Int32)) (by rfl) (Nat.le_of_ble_eq_true rfl) (L' := [(2, .int (v35 + (1 : Int32))), (1, .int (v37 &&& v36)), (0, .ref v34)]) rfl ?_
  refine v_goto (tgt := 22) dX21_isNought_55 (by decide) ?_
  exact v_sub [2, 1, 0] rfl (hc22 _ _ _ hF)
def X21_isNought_L22 (N : Nat) (h : Hp) (x22 : Int32 → Option Int32) : Nat → Nat → Int32 → Int32 → Option Int32
  | 0, _, _, _ => none
  | n38 + 1, v26, v27, v28 =>
    (gi h v26 [7, 18] 1).bind fun v30 =>
    if v30 ≤ v28 then
      x22 v27
    else
      (gr h v26 [18] 9).bind fun v31 =>
      (gr h v31 [0] 14).bind fun v32 =>
      (aI h v32 1 v28).bind fun v33 =>
      X21_isNought_J50 N h (X21_isNought_L22 N h x22 n38) v26 v28 (if v33 = (48 : Int32) then (1 : Int32) else (0 : Int32)) v27
theorem w_X21_isNought_L22 {l : Launch} {G : GT} {fr lo : Nat} {h0 : Hp} {N : Nat} {h : Hp} {r : Int32} (hfr : 0 ≤ fr) (hlo : 0 ≤ lo) {x22 : Int32 → Option Int32} (hx22 : ∀ (v29 : Int32), x22 v29 = some r → V l G cX21_isNought RX21 "isNought" 3 (Option.some Jvm.ClassFile.FieldType.boolean) fr lo h0 h (QM G (some (.int r)) h0 h) 58 [(1, .int v29)] [] h) : ∀ (n : Nat) (v26 : Nat) (v27 : Int32) (v28 : Int32), X21_isNought_L22 N h x22 n v26 v27 v28 = some r → V l G cX21_isNought RX21 "isNought" 3 (Option.some Jvm.ClassFile.FieldType.boolean) fr lo h0 h (QM G (some (.int r)) h0 h) 22 [(0, .ref v26), (1, .int v27), (2, .int v28)] [] h := by
  intro n
  induction n with
  | zero =>
    intro v26 v27 v28 hF
    cases (show (none : Option Int32) = some r from hF)
  | succ n hc22 =>
    intro v26 v27 v28 hF
    rw [X21_isNought_L22] at hF
    refine v_iload_n dX21_isNought_22 rfl 2 rfl ?_
    refine v_aload_n dX21_isNought_23 rfl 0 rfl ?_
    refine v_geti dX21_isNought_24 fl_X21_51 hF (fun v30 hF => ?_)
    refine v_icmp_ge (tgt := 58) dX21_isNought_27 (by decide) hF (fun hF => ?_) (fun hF => ?_)
    · exact v_sub [1] rfl (hx22 _ hF)
    · refine v_iload_n dX21_isNought_30 rfl 1 rfl ?_
      refine v_aload_n dX21_isNought_31 rfl 0 rfl ?_
      refine v_getr dX21_isNought_32 fl_X21_3 hF (fun v31 hF => ?_)
      refine v_getr dX21_isNought_35 fl_X21_54 hF (fun v32 hF => ?_)
      refine v_iload_n dX21_isNought_38 rfl 2 rfl ?_
      refine v_bald dX21_isNought_39 hF (fun v33 hF => ?_)
      refine v_bipush dX21_isNought_40 (v := 48) (by decide) ?_
      refine v_tern (c := v33 = (48 : Int32)) (x := (1 : Int32)) (y := (0 : Int32)) (pcj := 50) (st := [.int v27]) ?_ (fun kt kf => v_icmp_ne0 (tgt := 49) dX21_isNought_42 (by decide) kt kf) (fun K => ?_) (fun K => ?_)
      · exact v_sub [0, 2] rfl (w_X21_isNought_J50 hfr hlo hc22 hF)
      · refine v_iconst dX21_isNought_45 (v := 1) (by decide) ?_
        refine v_goto (tgt := 50) dX21_isNought_46 (by decide) ?_
        exact K
      · refine v_iconst dX21_isNought_49 (v := 0) (by decide) ?_
        exact K
def X21_isNought_J16 (N : Nat) (h : Hp) (v23 : Nat) (v24 : Int32) : Option Int32 :=
  (gi h v23 [7, 18] 0).bind fun v25 =>
  X21_isNought_L22 N h (fun v39 =>
    (rz v39).bind fun v40 => some v40) N v23 v24 v25
theorem w_X21_isNought_J16 {l : Launch} {G : GT} {fr lo : Nat} {h0 : Hp} {N : Nat} {h : Hp} {r : Int32} (hfr : 0 ≤ fr) (hlo : 0 ≤ lo)   {v23 : Nat} {v24 : Int32} (hF : X21_isNought_J16 N h v23 v24 = some r) : V l G cX21_isNought RX21 "isNought" 3 (Option.some Jvm.ClassFile.FieldType.boolean) fr lo h0 h (QM G (some (.int r)) h0 h) 16 [(0, .ref v23)] [.int v24] h := by
  unfold X21_isNought_J16 at hF
  refine v_istore_n dX21_isNought_16 rfl (Nat.le_of_ble_eq_true rfl) (L' := [(1, .int v24), (0, .ref v23)]) rfl ?_
  refine v_aload_n dX21_isNought_17 rfl 1 rfl ?_
  refine v_geti dX21_isNought_18 fl_X21_47 hF (fun v25 hF => ?_)
  refine v_istore_n dX21_isNought_21 rfl (Nat.le_of_ble_eq_true rfl) (L' := [(2, .int v25), (1, .int v24), (0, .ref v23)]) rfl ?_
  refine v_sub [2, 1, 0] rfl (w_X21_isNought_L22 hfr hlo ?_ N _ _ _ hF)
  intro v39 hF
  refine v_iload_n dX21_isNought_58 rfl 0 rfl ?_
  refine v_zchk hF (fun v40 hz hF => ?_)
  cases hF
  exact v_iret dX21_isNought_59 rfl (nar_z hz) rfl rfl
def X21_isNought_b (N : Nat) (h : Hp) (a0 : Nat) : Option Int32 :=
  (gi h a0 [7, 18] 0).bind fun v21 =>
  (gi h a0 [7, 18] 1).bind fun v22 =>
  X21_isNought_J16 N h a0 (if v22 ≤ v21 then (0 : Int32) else (1 : Int32))
theorem w_X21_isNought_b {l : Launch} {G : GT} {fr lo : Nat} {h0 : Hp} {N : Nat} {h : Hp} {r : Int32} (hfr : 0 ≤ fr) (hlo : 0 ≤ lo) {a0 : Nat} (hF : X21_isNought_b N h a0 = some r) : V l G cX21_isNought RX21 "isNought" 3 (Option.some Jvm.ClassFile.FieldType.boolean) fr lo h0 h (QM G (some (.int r)) h0 h) 0 [(0, .ref a0)] [] h := by
  unfold X21_isNought_b at hF
  refine v_aload_n dX21_isNought_0 rfl 0 rfl ?_
  refine v_geti dX21_isNought_1 fl_X21_47 hF (fun v21 hF => ?_)
  refine v_aload_n dX21_isNought_4 rfl 0 rfl ?_
  refine v_geti dX21_isNought_5 fl_X21_51 hF (fun v22 hF => ?_)
  refine v_tern (c := v22 ≤ v21) (x := (0 : Int32)) (y := (1 : Int32)) (pcj := 16) (st := []) ?_ (fun kt kf => v_icmp_ge0 (tgt := 15) dX21_isNought_8 (by decide) kt kf) (fun K => ?_) (fun K => ?_)
  · exact v_sub [0] rfl (w_X21_isNought_J16 hfr hlo hF)
  · refine v_iconst dX21_isNought_15 (v := 0) (by decide) ?_
    exact K
  · refine v_iconst dX21_isNought_11 (v := 1) (by decide) ?_
    refine v_goto (tgt := 16) dX21_isNought_12 (by decide) ?_
    exact K
def X21_isNought (N : Nat) (h : Hp) (a0 : Nat) : Option Int32 := (ob h a0 [18]).bind fun _ => X21_isNought_b N h a0
theorem rc_X21_isNought {N : Nat} {h : Hp}  {r : Int32} {a0 : Nat} (hF : X21_isNought N h a0 = some r) : RC h a0 [18] := by
  obtain ⟨o, ho, -⟩ := Option.bind_eq_some_iff.mp hF
  exact ⟨o, ho⟩
theorem ct_X21_isNought {l : Launch} {G : GT} {N : Nat} {h : Hp} {r : Int32} {a0 : Nat} (hF : X21_isNought N h a0 = some r) : Ct l G yX21_isNought (ws_ yX21_isNought cX21_isNought 3 (Option.some Jvm.ClassFile.FieldType.boolean)) 0 0 [.ref a0] h (some (.int r)) h :=
  ct_of (by decide) (Nat.le_of_ble_eq_true rfl) (w_X21_isNought_b (Nat.le_refl _) (Nat.le_refl _) (Option.bind_eq_some_iff.mp hF).choose_spec.2)
theorem al_9 : AL "LeekReadings$Test" [14, 15, 16] := by
  intro ci h
  simp only [List.mem_cons, List.not_mem_nil, or_false] at h
  rcases h with rfl | rfl | rfl
  · exact ⟨(RX17, TX17, 3), rfl, Or.inr q2405⟩
  · exact ⟨(RX18, TX18, 1), rfl, Or.inr q2406⟩
  · exact ⟨(RX19, TX19, 2), rfl, Or.inr q2407⟩
theorem pl_X7_80 : PL RX7 80 [7, 18] 4 (.int) false := by
  intro ci h
  simp only [List.mem_cons, List.not_mem_nil, or_false] at h
  rcases h with rfl | rfl
  · exact ⟨RX8, _, TX8, 11, tyX8, rfl, in_X8, by decide, Or.inl q789, Or.inl rfl, tyX8_ok, rfl, by decide +kernel, rfl, fun z => by cases z⟩
  · exact ⟨RX21, _, TX21, 10, tyX21, rfl, in_X21, by decide, Or.inl q789, Or.inl rfl, tyX21_ok, rfl, by decide +kernel, rfl, fun z => by cases z⟩
theorem fl_X7_80 : FL RX7 80 [7, 18] 4 := by
  intro ci h
  simp only [List.mem_cons, List.not_mem_nil, or_false] at h
  rcases h with rfl | rfl
  · exact ⟨RX8, _, TX8, 11, rfl, in_X8, by decide, Or.inl q789, Or.inl rfl⟩
  · exact ⟨RX21, _, TX21, 10, rfl, in_X21, by decide, Or.inl q789, Or.inl rfl⟩
theorem fl_X7_17 : FL RX7 17 [7, 18] 5 := by
  intro ci h
  simp only [List.mem_cons, List.not_mem_nil, or_false] at h
  rcases h with rfl | rfl
  · exact ⟨RX8, _, TX8, 11, rfl, in_X8, by decide, Or.inl q790, Or.inl rfl⟩
  · exact ⟨RX21, _, TX21, 10, rfl, in_X21, by decide, Or.inl q790, Or.inl rfl⟩
def X7_add_b (a0 : Nat) (a1 : Nat) (h : Hp) : Option Hp :=
  (gr h a0 [7, 18] 5).bind fun v21 =>
  (gi h a0 [7, 18] 4).bind fun v22 =>
  (sR h v21 9 [14, 15, 16] v22 a1).bind fun h23 =>
  (gi h23 a0 [7, 18] 4).bind fun v24 =>
  (po h23 a0 [7, 18] 4 (.int (v24 + (1 : Int32)))).bind fun h25 =>
  some h25
theorem w_X7_add_b {l : Launch} {G : GT} {fr lo : Nat} {h0 : Hp} {r : Hp} (hfr : 0 ≤ fr) (hlo : 0 ≤ lo) {a0 : Nat} {a1 : Nat} {h : Hp} (hF : X7_add_b a0 a1 h = some r) : V l G cX7_add RX7 "add" 2 (Option.none : Option Jvm.ClassFile.FieldType) fr lo h0 r (QM G none h0 r) 0 [(0, .ref a0), (1, .ref a1)] [] h := by
  unfold X7_add_b at hF
  refine v_aload_n dX7_add_0 rfl 0 rfl ?_
  refine v_getr dX7_add_1 fl_X7_17 hF (fun v21 hF => ?_)
  refine v_aload_n dX7_add_4 rfl 0 rfl ?_
  refine v_geti dX7_add_5 fl_X7_80 hF (fun v22 hF => ?_)
  refine v_aload_n dX7_add_8 rfl 1 rfl ?_
  refine v_aast rfl al_9 dX7_add_9 hF (fun h23 hF => ?_)
  refine v_aload_n dX7_add_10 rfl 0 rfl ?_
  refine v_dup dX7_add_11 rfl ?_
  refine v_geti dX7_add_12 fl_X7_80 hF (fun v24 hF => ?_)
  refine v_iconst dX7_add_15 (v := 1) (by decide) ?_
  refine v_iadd dX7_add_16 ?_
  refine v_put dX7_add_17 pl_X7_80 (fun z => by cases z) rfl rfl hF (fun h25 hF => ?_)
  cases hF
  exact v_vret dX7_add_20 rfl rfl rfl
def X7_add (a0 : Nat) (a1 : Nat) (h : Hp) : Option Hp := (ob h a0 [7, 18]).bind fun _ => X7_add_b a0 a1 h
theorem rc_X7_add  {r : Hp} {a0 : Nat} {a1 : Nat} {h : Hp} (hF : X7_add a0 a1 h = some r) : RC h a0 [7, 18] := by
  obtain ⟨o, ho, -⟩ := Option.bind_eq_some_iff.mp hF
  exact ⟨o, ho⟩
theorem ct_X7_add {l : Launch} {G : GT} {r : Hp} {a0 : Nat} {a1 : Nat} {h : Hp} (hF : X7_add a0 a1 h = some r) : Ct l G yX7_add (ws_ yX7_add cX7_add 2 (Option.none : Option Jvm.ClassFile.FieldType)) 0 0 [.ref a0, .ref a1] h none r :=
  ct_of (by decide) (Nat.le_of_ble_eq_true rfl) (w_X7_add_b (Nat.le_refl _) (Nat.le_refl _) (Option.bind_eq_some_iff.mp hF).choose_spec.2)
def X16_init_b (a0 : Nat) (h : Hp) : Option Hp :=
  some h
theorem w_X16_init_b {l : Launch} {G : GT} {fr lo : Nat} {h0 : Hp} {r : Hp} (hfr : 1 ≤ fr) (hlo : 20 ≤ lo) {a0 : Nat} {h : Hp} (hF : X16_init_b a0 h = some r) : V l G cX16_init RX16 "<init>" 1 (Option.none : Option Jvm.ClassFile.FieldType) fr lo h0 r (QM G none h0 r) 0 [(0, .ref a0)] [] h := by
  unfold X16_init_b at hF
  refine v_aload_n dX16_init_0 rfl 0 rfl ?_
  refine v_objInit dX16_init_1 q1091 q184 q185 (by omega) (by omega) (Nat.le_of_ble_eq_true rfl) ?_
  cases hF
  exact v_vret dX16_init_4 rfl rfl rfl
def X16_init (a0 : Nat) (h : Hp) : Option Hp := (ob h a0 [14, 15, 16]).bind fun _ => X16_init_b a0 h
theorem rc_X16_init  {r : Hp} {a0 : Nat} {h : Hp} (hF : X16_init a0 h = some r) : RC h a0 [14, 15, 16] := by
  obtain ⟨o, ho, -⟩ := Option.bind_eq_some_iff.mp hF
  exact ⟨o, ho⟩
theorem ct_X16_init {l : Launch} {G : GT} {r : Hp} {a0 : Nat} {h : Hp} (hF : X16_init a0 h = some r) : Ct l G yX16_init (ws_ yX16_init cX16_init 1 (Option.none : Option Jvm.ClassFile.FieldType)) 1 20 [.ref a0] h none r :=
  ct_of (by decide) (Nat.le_of_ble_eq_true rfl) (w_X16_init_b (Nat.le_refl _) (Nat.le_refl _) (Option.bind_eq_some_iff.mp hF).choose_spec.2)
theorem il_X19_1 : IL RX19 1 yX16_init 0 := ⟨q169, ⟨by decide, by decide⟩, by decide +kernel, q1089, rfl, Or.inr ⟨_, q1127⟩⟩
theorem pl_X19_7 : PL RX19 7 [16] 0 (.boolean) true := by
  intro ci h
  simp only [List.mem_cons, List.not_mem_nil, or_false] at h
  subst h; exact ⟨RX19, _, TX19, 2, tyX19, rfl, in_X19, by decide, Or.inl q1128, Or.inl rfl, tyX19_ok, rfl, by decide +kernel, rfl, fun _ => rfl⟩
theorem pl_X19_13 : PL RX19 13 [16] 1 (.array (.object "LeekReadings$Test")) true := by
  intro ci h
  simp only [List.mem_cons, List.not_mem_nil, or_false] at h
  subst h; exact ⟨RX19, _, TX19, 2, tyX19, rfl, in_X19, by decide, Or.inl q1129, Or.inl rfl, tyX19_ok, rfl, by decide +kernel, rfl, fun _ => rfl⟩
def X19_init_b (a0 : Nat) (a1 : Int32) (a2 : Nat) (h : Hp) : Option Hp :=
  (X16_init a0 h).bind fun h21 =>
  (pz h21 a0 [16] 0 a1).bind fun h22 =>
  (po h22 a0 [16] 1 (.ref a2)).bind fun h23 =>
  some h23
theorem w_X19_init_b {l : Launch} {G : GT} {fr lo : Nat} {h0 : Hp} {r : Hp} (hfr : 2 ≤ fr) (hlo : 40 ≤ lo) {a0 : Nat} {a1 : Int32} {a2 : Nat} {h : Hp} (hF : X19_init_b a0 a1 a2 h = some r) : V l G cX19_init RX19 "<init>" 3 (Option.none : Option Jvm.ClassFile.FieldType) fr lo h0 r (QM G none h0 r) 0 [(0, .ref a0), (1, .int a1), (2, .ref a2)] [] h := by
  unfold X19_init_b at hF
  refine v_aload_n dX19_init_0 rfl 0 rfl ?_
  obtain ⟨h21, e_h21, hF⟩ := Option.bind_eq_some_iff.mp hF
  refine v_calI dX19_init_1 il_X19_1 q1090 (ct_X16_init e_h21) rfl rfl (Nat.le_trans (Nat.le_of_ble_eq_true rfl) hfr) (Nat.le_trans (Nat.le_of_ble_eq_true rfl) hlo) (Nat.le_of_ble_eq_true rfl) ?_
  refine v_aload_n dX19_init_4 rfl 0 rfl ?_
  refine v_iload_n dX19_init_5 rfl 1 rfl ?_
  refine v_putz dX19_init_6 pl_X19_7 (fun _ => rfl) hF (fun h22 hF => ?_)
  refine v_aload_n dX19_init_9 rfl 0 rfl ?_
  refine v_aload_n dX19_init_10 rfl 2 rfl ?_
  refine v_put dX19_init_11 pl_X19_13 (fun _ => rfl) rfl rfl hF (fun h23 hF => ?_)
  cases hF
  exact v_vret dX19_init_14 rfl rfl rfl
def X19_init (a0 : Nat) (a1 : Int32) (a2 : Nat) (h : Hp) : Option Hp := (ob h a0 [16]).bind fun _ => X19_init_b a0 a1 a2 h
theorem rc_X19_init  {r : Hp} {a0 : Nat} {a1 : Int32} {a2 : Nat} {h : Hp} (hF : X19_init a0 a1 a2 h = some r) : RC h a0 [16] := by
  obtain ⟨o, ho, -⟩ := Option.bind_eq_some_iff.mp hF
  exact ⟨o, ho⟩
theorem ct_X19_init {l : Launch} {G : GT} {r : Hp} {a0 : Nat} {a1 : Int32} {a2 : Nat} {h : Hp} (hF : X19_init a0 a1 a2 h = some r) : Ct l G yX19_init (ws_ yX19_init cX19_init 3 (Option.none : Option Jvm.ClassFile.FieldType)) 2 40 [.ref a0, .int a1, .ref a2] h none r :=
  ct_of (by decide) (Nat.le_of_ble_eq_true rfl) (w_X19_init_b (Nat.le_refl _) (Nat.le_refl _) (Option.bind_eq_some_iff.mp hF).choose_spec.2)
theorem ac_X7_102 : ACL RX7 102 := ⟨q1121, q735, q734, q157⟩
theorem nl_X7_108 : NL RX7 108 16 2 [.int 0, .null] := ⟨RX19, TX19, tyX19, rfl, in_X19, tyX19_ok, q1122, q1123, q172, by decide +kernel⟩
theorem il_X7_110 : IL RX7 110 yX19_init 2 := ⟨q172, ⟨by decide, by decide⟩, by decide +kernel, q1125, rfl, Or.inl q1124⟩
theorem kla_9 : KL "LeekReadings$Test" [14, 15, 16] := by
  intro ci h
  simp only [List.mem_cons, List.not_mem_nil, or_false] at h
  rcases h with rfl | rfl | rfl
  · exact ⟨(RX17, TX17, 3), rfl, Or.inr q2405⟩
  · exact ⟨(RX18, TX18, 1), rfl, Or.inr q2406⟩
  · exact ⟨(RX19, TX19, 2), rfl, Or.inr q2407⟩
def X7_joined_b (a0 : Nat) (a1 : Int32) (a2 : Int32) (h : Hp) : Option (Nat × Hp) :=
  (gr h a0 [7, 18] 5).bind fun v21 =>
  (aR h v21 9 a2).bind fun v22 =>
  (gi h a0 [7, 18] 4).bind fun v23 =>
  if (v23 - a2) ≤ (1 : Int32) then
    (po h a0 [7, 18] 4 (.int a2)).bind fun h24 =>
    some (v22, h24)
  else
    (gi h a0 [7, 18] 4).bind fun v25 =>
    bd2 (na h 9 (v25 - a2) (.inr (.inr (.inr (.inr (fun _ => none)))))) fun a26 h27 =>
    (gr h27 a0 [7, 18] 5).bind fun v28 =>
    (alen h27 a26 9).bind fun v29 =>
    (cpQ h27 9 [14, 15, 16] v28 a2 a26 (0 : Int32) v29).bind fun h30 =>
    bd2 (nwo h30 16 2 [.int 0, .null]) fun a31 h32 =>
    (X19_init a31 a1 a26 h32).bind fun h33 =>
    (po h33 a0 [7, 18] 4 (.int a2)).bind fun h34 =>
    some (a31, h34)
theorem w_X7_joined_b {l : Launch} {G : GT} {fr lo : Nat} {h0 : Hp} {r : (Nat × Hp)} (hfr : 3 ≤ fr) (hlo : 62 ≤ lo) {a0 : Nat} {a1 : Int32} {a2 : Int32} {h : Hp} (hF : X7_joined_b a0 a1 a2 h = some r) : V l G cX7_joined RX7 "joined" 5 (Option.some (Jvm.ClassFile.FieldType.object "LeekReadings$Test")) fr lo h0 r.2 (QM G (some (.ref r.1)) h0 r.2) 0 [(0, .ref a0), (1, .int a1), (2, .int a2)] [] h := by
  unfold X7_joined_b at hF
  refine v_aload_n dX7_joined_0 rfl 0 rfl ?_
  refine v_getr dX7_joined_1 fl_X7_17 hF (fun v21 hF => ?_)
  refine v_iload_n dX7_joined_4 rfl 2 rfl ?_
  refine v_aaldr rfl rfl dX7_joined_5 hF (fun v22 hF => ?_)
  refine v_astore_n dX7_joined_6 rfl (Nat.le_of_ble_eq_true rfl) (L' := [(3, .ref v22), (0, .ref a0), (1, .int a1), (2, .int a2)]) rfl ?_
  refine v_aload_n dX7_joined_7 rfl 1 rfl ?_
  refine v_geti dX7_joined_8 fl_X7_80 hF (fun v23 hF => ?_)
  refine v_iload_n dX7_joined_11 rfl 3 rfl ?_
  refine v_isub dX7_joined_12 ?_
  refine v_iconst dX7_joined_13 (v := 1) (by decide) ?_
  refine v_icmp_le (tgt := 53) dX7_joined_14 (by decide) hF (fun hF => ?_) (fun hF => ?_)
  · refine v_aload_n dX7_joined_53 rfl 1 rfl ?_
    refine v_iload_n dX7_joined_54 rfl 3 rfl ?_
    refine v_put dX7_joined_55 pl_X7_80 (fun z => by cases z) rfl rfl hF (fun h24 hF => ?_)
    refine v_aload_n dX7_joined_58 rfl 0 rfl ?_
    cases hF
    exact v_aret (x := some _) dX7_joined_59 rfl (Or.inl ⟨_, rfl⟩) rfl rfl
  · refine v_aload_n dX7_joined_17 rfl 1 rfl ?_
    refine v_geti dX7_joined_18 fl_X7_80 hF (fun v25 hF => ?_)
    refine v_iload_n dX7_joined_21 rfl 3 rfl ?_
    refine v_isub dX7_joined_22 ?_
    refine v_anew dX7_joined_23 rfl q772 q773 hF (fun a26 h27 hF => ?_)
    refine v_astore dX7_joined_26 (Nat.le_of_ble_eq_true rfl) (L' := [(4, .ref a26), (3, .ref v22), (0, .ref a0), (1, .int a1), (2, .int a2)]) rfl ?_
    refine v_aload_n dX7_joined_28 rfl 2 rfl ?_
    refine v_getr dX7_joined_29 fl_X7_17 hF (fun v28 hF => ?_)
    refine v_iload_n dX7_joined_32 rfl 4 rfl ?_
    refine v_aload dX7_joined_33 0 rfl ?_
    refine v_iconst dX7_joined_35 (v := 0) (by decide) ?_
    refine v_aload dX7_joined_36 0 rfl ?_
    refine v_alen (k := 9) rfl dX7_joined_38 hF (fun v29 hF => ?_)
    refine v_cpQ dX7_joined_39 ac_X7_102 (k := 9) rfl kla_9 (by omega) (by have : lwAC ≤ 60 := Nat.le_of_ble_eq_true rfl; omega) (Nat.le_of_ble_eq_true rfl) hF (fun h30 hF => ?_)
    refine v_new dX7_joined_42 nl_X7_108 hF (fun a31 h32 hF => ?_)
    refine v_dup dX7_joined_45 rfl ?_
    refine v_iload_n dX7_joined_46 rfl 3 rfl ?_
    refine v_aload dX7_joined_47 0 rfl ?_
    obtain ⟨h33, e_h33, hF⟩ := Option.bind_eq_some_iff.mp hF
    refine v_calI dX7_joined_49 il_X7_110 q1126 (ct_X19_init e_h33) rfl rfl (Nat.le_trans (Nat.le_of_ble_eq_true rfl) hfr) (Nat.le_trans (Nat.le_of_ble_eq_true rfl) hlo) (Nat.le_of_ble_eq_true rfl) ?_
    refine v_astore_n dX7_joined_52 rfl (Nat.le_of_ble_eq_true rfl) (L' := [(3, .ref a31), (4, .ref a26), (0, .ref a0), (1, .int a1), (2, .int a2)]) rfl ?_
    refine v_aload_n dX7_joined_53 rfl 2 rfl ?_
    refine v_iload_n dX7_joined_54 rfl 4 rfl ?_
    refine v_put dX7_joined_55 pl_X7_80 (fun z => by cases z) rfl rfl hF (fun h34 hF => ?_)
    refine v_aload_n dX7_joined_58 rfl 0 rfl ?_
    cases hF
    exact v_aret (x := some _) dX7_joined_59 rfl (Or.inl ⟨_, rfl⟩) rfl rfl
def X7_joined (a0 : Nat) (a1 : Int32) (a2 : Int32) (h : Hp) : Option (Nat × Hp) := (ob h a0 [7, 18]).bind fun _ => X7_joined_b a0 a1 a2 h
theorem rc_X7_joined  {r : (Nat × Hp)} {a0 : Nat} {a1 : Int32} {a2 : Int32} {h : Hp} (hF : X7_joined a0 a1 a2 h = some r) : RC h a0 [7, 18] := by
  obtain ⟨o, ho, -⟩ := Option.bind_eq_some_iff.mp hF
  exact ⟨o, ho⟩
theorem ct_X7_joined {l : Launch} {G : GT} {r : (Nat × Hp)} {a0 : Nat} {a1 : Int32} {a2 : Int32} {h : Hp} (hF : X7_joined a0 a1 a2 h = some r) : Ct l G yX7_joined (ws_ yX7_joined cX7_joined 5 (Option.some (Jvm.ClassFile.FieldType.object "LeekReadings$Test"))) 3 62 [.ref a0, .int a1, .int a2] h (some (.ref r.1)) r.2 :=
  ct_of (by decide) (Nat.le_of_ble_eq_true rfl) (w_X7_joined_b (Nat.le_refl _) (Nat.le_refl _) (Option.bind_eq_some_iff.mp hF).choose_spec.2)
theorem il_X17_1 : IL RX17 1 yX16_init 0 := ⟨q169, ⟨by decide, by decide⟩, by decide +kernel, q1089, rfl, Or.inr ⟨_, q1088⟩⟩
theorem pl_X17_7 : PL RX17 7 [14] 0 (.object "LeekReadings$Sum") true := by
  intro ci h
  simp only [List.mem_cons, List.not_mem_nil, or_false] at h
  subst h; exact ⟨RX17, _, TX17, 3, tyX17, rfl, in_X17, by decide, Or.inl q1092, Or.inl rfl, tyX17_ok, rfl, by decide +kernel, rfl, fun _ => rfl⟩
theorem pl_X17_13 : PL RX17 13 [14] 2 (.int) true := by
  intro ci h
  simp only [List.mem_cons, List.not_mem_nil, or_false] at h
  subst h; exact ⟨RX17, _, TX17, 3, tyX17, rfl, in_X17, by decide, Or.inl q1094, Or.inl rfl, tyX17_ok, rfl, by decide +kernel, rfl, fun _ => rfl⟩
theorem pl_X17_17 : PL RX17 17 [14] 1 (.object "LeekReadings$Sum") true := by
  intro ci h
  simp only [List.mem_cons, List.not_mem_nil, or_false] at h
  subst h; exact ⟨RX17, _, TX17, 3, tyX17, rfl, in_X17, by decide, Or.inl q1093, Or.inl rfl, tyX17_ok, rfl, by decide +kernel, rfl, fun _ => rfl⟩
def X17_init_b (a0 : Nat) (a1 : Nat) (a2 : Int32) (a3 : Nat) (h : Hp) : Option Hp :=
  (X16_init a0 h).bind fun h21 =>
  (po h21 a0 [14] 0 (.ref a1)).bind fun h22 =>
  (po h22 a0 [14] 2 (.int a2)).bind fun h23 =>
  (po h23 a0 [14] 1 (.ref a3)).bind fun h24 =>
  some h24
theorem w_X17_init_b {l : Launch} {G : GT} {fr lo : Nat} {h0 : Hp} {r : Hp} (hfr : 2 ≤ fr) (hlo : 40 ≤ lo) {a0 : Nat} {a1 : Nat} {a2 : Int32} {a3 : Nat} {h : Hp} (hF : X17_init_b a0 a1 a2 a3 h = some r) : V l G cX17_init RX17 "<init>" 4 (Option.none : Option Jvm.ClassFile.FieldType) fr lo h0 r (QM G none h0 r) 0 [(0, .ref a0), (1, .ref a1), (2, .int a2), (3, .ref a3)] [] h := by
  unfold X17_init_b at hF
  refine v_aload_n dX17_init_0 rfl 0 rfl ?_
  obtain ⟨h21, e_h21, hF⟩ := Option.bind_eq_some_iff.mp hF
  refine v_calI dX17_init_1 il_X17_1 q1090 (ct_X16_init e_h21) rfl rfl (Nat.le_trans (Nat.le_of_ble_eq_true rfl) hfr) (Nat.le_trans (Nat.le_of_ble_eq_true rfl) hlo) (Nat.le_of_ble_eq_true rfl) ?_
  refine v_aload_n dX17_init_4 rfl 0 rfl ?_
  refine v_aload_n dX17_init_5 rfl 1 rfl ?_
  refine v_put dX17_init_6 pl_X17_7 (fun _ => rfl) rfl rfl hF (fun h22 hF => ?_)
  refine v_aload_n dX17_init_9 rfl 0 rfl ?_
  refine v_iload_n dX17_init_10 rfl 2 rfl ?_
  refine v_put dX17_init_11 pl_X17_13 (fun _ => rfl) rfl rfl hF (fun h23 hF => ?_)
  refine v_aload_n dX17_init_14 rfl 0 rfl ?_
  refine v_aload_n dX17_init_15 rfl 3 rfl ?_
  refine v_put dX17_init_16 pl_X17_17 (fun _ => rfl) rfl rfl hF (fun h24 hF => ?_)
  cases hF
  exact v_vret dX17_init_19 rfl rfl rfl
def X17_init (a0 : Nat) (a1 : Nat) (a2 : Int32) (a3 : Nat) (h : Hp) : Option Hp := (ob h a0 [14]).bind fun _ => X17_init_b a0 a1 a2 a3 h
theorem rc_X17_init  {r : Hp} {a0 : Nat} {a1 : Nat} {a2 : Int32} {a3 : Nat} {h : Hp} (hF : X17_init a0 a1 a2 a3 h = some r) : RC h a0 [14] := by
  obtain ⟨o, ho, -⟩ := Option.bind_eq_some_iff.mp hF
  exact ⟨o, ho⟩
theorem ct_X17_init {l : Launch} {G : GT} {r : Hp} {a0 : Nat} {a1 : Nat} {a2 : Int32} {a3 : Nat} {h : Hp} (hF : X17_init a0 a1 a2 a3 h = some r) : Ct l G yX17_init (ws_ yX17_init cX17_init 4 (Option.none : Option Jvm.ClassFile.FieldType)) 2 40 [.ref a0, .ref a1, .int a2, .ref a3] h none r :=
  ct_of (by decide) (Nat.le_of_ble_eq_true rfl) (w_X17_init_b (Nat.le_refl _) (Nat.le_refl _) (Option.bind_eq_some_iff.mp hF).choose_spec.2)
theorem il_X18_1 : IL RX18 1 yX16_init 0 := ⟨q169, ⟨by decide, by decide⟩, by decide +kernel, q1089, rfl, Or.inr ⟨_, q1107⟩⟩
theorem pl_X18_7 : PL RX18 7 [15] 0 (.object "LeekReadings$Test") true := by
  intro ci h
  simp only [List.mem_cons, List.not_mem_nil, or_false] at h
  subst h; exact ⟨RX18, _, TX18, 1, tyX18, rfl, in_X18, by decide, Or.inl q1108, Or.inl rfl, tyX18_ok, rfl, by decide +kernel, rfl, fun _ => rfl⟩
def X18_init_b (a0 : Nat) (a1 : Nat) (h : Hp) : Option Hp :=
  (X16_init a0 h).bind fun h21 =>
  (po h21 a0 [15] 0 (.ref a1)).bind fun h22 =>
  some h22
theorem w_X18_init_b {l : Launch} {G : GT} {fr lo : Nat} {h0 : Hp} {r : Hp} (hfr : 2 ≤ fr) (hlo : 40 ≤ lo) {a0 : Nat} {a1 : Nat} {h : Hp} (hF : X18_init_b a0 a1 h = some r) : V l G cX18_init RX18 "<init>" 2 (Option.none : Option Jvm.ClassFile.FieldType) fr lo h0 r (QM G none h0 r) 0 [(0, .ref a0), (1, .ref a1)] [] h := by
  unfold X18_init_b at hF
  refine v_aload_n dX18_init_0 rfl 0 rfl ?_
  obtain ⟨h21, e_h21, hF⟩ := Option.bind_eq_some_iff.mp hF
  refine v_calI dX18_init_1 il_X18_1 q1090 (ct_X16_init e_h21) rfl rfl (Nat.le_trans (Nat.le_of_ble_eq_true rfl) hfr) (Nat.le_trans (Nat.le_of_ble_eq_true rfl) hlo) (Nat.le_of_ble_eq_true rfl) ?_
  refine v_aload_n dX18_init_4 rfl 0 rfl ?_
  refine v_aload_n dX18_init_5 rfl 1 rfl ?_
  refine v_put dX18_init_6 pl_X18_7 (fun _ => rfl) rfl rfl hF (fun h22 hF => ?_)
  cases hF
  exact v_vret dX18_init_9 rfl rfl rfl
def X18_init (a0 : Nat) (a1 : Nat) (h : Hp) : Option Hp := (ob h a0 [15]).bind fun _ => X18_init_b a0 a1 h
theorem rc_X18_init  {r : Hp} {a0 : Nat} {a1 : Nat} {h : Hp} (hF : X18_init a0 a1 h = some r) : RC h a0 [15] := by
  obtain ⟨o, ho, -⟩ := Option.bind_eq_some_iff.mp hF
  exact ⟨o, ho⟩
theorem ct_X18_init {l : Launch} {G : GT} {r : Hp} {a0 : Nat} {a1 : Nat} {h : Hp} (hF : X18_init a0 a1 h = some r) : Ct l G yX18_init (ws_ yX18_init cX18_init 2 (Option.none : Option Jvm.ClassFile.FieldType)) 2 40 [.ref a0, .ref a1] h none r :=
  ct_of (by decide) (Nat.le_of_ble_eq_true rfl) (w_X18_init_b (Nat.le_refl _) (Nat.le_refl _) (Option.bind_eq_some_iff.mp hF).choose_spec.2)
theorem st_X7_119 : (RX7, 119, "not", 25) ∈ strTab := List.mem_of_getElem? (i := 29) rfl
theorem st_X7_121 : (RX7, 121, "(", 26) ∈ strTab := List.mem_of_getElem? (i := 30) rfl
theorem st_X7_139 : (RX7, 139, "<", 28) ∈ strTab := List.mem_of_getElem? (i := 32) rfl
theorem nl_X7_145 : NL RX7 145 14 3 [.null, .null, .int 0] := ⟨RX17, TX17, tyX17, rfl, in_X17, tyX17_ok, q1083, q1084, q170, by decide +kernel⟩
theorem il_X7_147 : IL RX7 147 yX17_init 3 := ⟨q170, ⟨by decide, by decide⟩, by decide +kernel, q1086, rfl, Or.inl q1085⟩
theorem nl_X7_150 : NL RX7 150 15 1 [.null] := ⟨RX18, TX18, tyX18, rfl, in_X18, tyX18_ok, q1102, q1103, q171, by decide +kernel⟩
theorem il_X7_152 : IL RX7 152 yX18_init 1 := ⟨q171, ⟨by decide, by decide⟩, by decide +kernel, q1105, rfl, Or.inl q1104⟩
theorem st_X7_141 : (RX7, 141, ">", 29) ∈ strTab := List.mem_of_getElem? (i := 33) rfl
theorem st_X7_143 : (RX7, 143, "=", 30) ∈ strTab := List.mem_of_getElem? (i := 34) rfl
theorem vl_X7_126 : ∀ ci ∈ [7, 18], VL RX7 126 ci yX7_test 0 := by
  intro ci h
  simp only [List.mem_cons, List.not_mem_nil, or_false] at h
  rcases h with rfl | rfl
  · exact ⟨RX8, TX8, 11, rfl, q158, ⟨by decide, by decide⟩, by decide +kernel, q1066, Or.inl ⟨q1078, q2375⟩⟩
  · exact ⟨RX21, TX21, 10, rfl, q158, ⟨by decide, by decide⟩, by decide +kernel, q1066, Or.inl ⟨q1078, q2376⟩⟩
theorem st_X7_129 : (RX7, 129, ")", 27) ∈ strTab := List.mem_of_getElem? (i := 31) rfl
def X7_plain_J20 (N : Nat) (f : Nat → Hp → Option ((Nat ⊕ Nat) × Hp)) (c2 : Nat → Int32 → Hp → Option ((Nat ⊕ Nat) × Hp)) (v29 : Nat) (v30 : Int32) (h31 : Hp) : Option ((Nat ⊕ Nat) × Hp) :=
  c2 v29 v30 h31
theorem w_X7_plain_J20 {l : Launch} {G : GT} {fr lo : Nat} {h0 : Hp} {N : Nat} {f : Nat → Hp → Option ((Nat ⊕ Nat) × Hp)} {r : ((Nat ⊕ Nat) × Hp)} {frf lof : Nat} (hbf : 56 ≤ frf) (hbl : 1216 ≤ lof) (hfr : frf + 1 ≤ fr) (hlo : lof + 21 ≤ lo) (hf : ∀ (a0 : Nat) (h : Hp) (r : ((Nat ⊕ Nat) × Hp)), f a0 h = some r → RC h a0 [7, 18] ∧ CtX l G yX7_test (ws_ yX7_test cX7_test 2 (Option.some (Jvm.ClassFile.FieldType.object "LeekReadings$Test"))) frf lof [.ref a0] h (rsA r.1) r.2) {c2 : Nat → Int32 → Hp → Option ((Nat ⊕ Nat) × Hp)} (hc2 : ∀ (v21 : Nat) (v22 : Int32) (h23 : Hp), c2 v21 v22 h23 = some r → V l G cX7_plain RX7 "plain" 5 (Option.some (Jvm.ClassFile.FieldType.object "LeekReadings$Test")) fr lo h0 r.2 (QX G [] (rsA r.1) h0 r.2) 2 [(0, .ref v21), (1, .int v22)] [] h23) {v29 : Nat} {v30 : Int32} {h31 : Hp} (hF : X7_plain_J20 N f c2 v29 v30 h31 = some r) : V l G cX7_plain RX7 "plain" 5 (Option.some (Jvm.ClassFile.FieldType.object "LeekReadings$Test")) fr lo h0 r.2 (QX G [] (rsA r.1) h0 r.2) 20 [(0, .ref v29)] [.int v30] h31 := by
  unfold X7_plain_J20 at hF
  refine v_istore_n dX7_plain_20 rfl (Nat.le_of_ble_eq_true rfl) (L' := [(1, .int v30), (0, .ref v29)]) rfl ?_
  refine v_goto (tgt := 2) dX7_plain_21 (by decide) ?_
  exact v_sub [1, 0] rfl (hc2 _ _ _ hF)
def X7_plain_L2 (N : Nat) (f : Nat → Hp → Option ((Nat ⊕ Nat) × Hp)) (x2 : Nat → Int32 → Hp → Option ((Nat ⊕ Nat) × Hp)) : Nat → Nat → Int32 → Hp → Option ((Nat ⊕ Nat) × Hp)
  | 0, _, _, _ => none
  | n32 + 1, v21, v22, h23 =>
    bd2 (X7_accept N v21 (h23.2.2.1 25) h23) fun v28 h27 =>
    if v28 = 0 then
      x2 v21 v22 h27
    else
      X7_plain_J20 N f (X7_plain_L2 N f x2 n32) v21 (if v22 = 0 then (1 : Int32) else (0 : Int32)) h27
theorem w_X7_plain_L2 {l : Launch} {G : GT} {fr lo : Nat} {h0 : Hp} {N : Nat} {f : Nat → Hp → Option ((Nat ⊕ Nat) × Hp)} {r : ((Nat ⊕ Nat) × Hp)} {frf lof : Nat} (hbf : 56 ≤ frf) (hbl : 1216 ≤ lof) (hfr : frf + 1 ≤ fr) (hlo : lof + 21 ≤ lo) (hf : ∀ (a0 : Nat) (h : Hp) (r : ((Nat ⊕ Nat) × Hp)), f a0 h = some r → RC h a0 [7, 18] ∧ CtX l G yX7_test (ws_ yX7_test cX7_test 2 (Option.some (Jvm.ClassFile.FieldType.object "LeekReadings$Test"))) frf lof [.ref a0] h (rsA r.1) r.2) {x2 : Nat → Int32 → Hp → Option ((Nat ⊕ Nat) × Hp)} (hx2 : ∀ (v24 : Nat) (v25 : Int32) (h26 : Hp), x2 v24 v25 h26 = some r → V l G cX7_plain RX7 "plain" 5 (Option.some (Jvm.ClassFile.FieldType.object "LeekReadings$Test")) fr lo h0 r.2 (QX G [] (rsA r.1) h0 r.2) 24 [(0, .ref v24), (1, .int v25)] [] h26) : ∀ (n : Nat) (v21 : Nat) (v22 : Int32) (h23 : Hp), X7_plain_L2 N f x2 n v21 v22 h23 = some r → V l G cX7_plain RX7 "plain" 5 (Option.some (Jvm.ClassFile.FieldType.object "LeekReadings$Test")) fr lo h0 r.2 (QX G [] (rsA r.1) h0 r.2) 2 [(0, .ref v21), (1, .int v22)] [] h23 := by
  intro n
  induction n with
  | zero =>
    intro v21 v22 h23 hF
    cases (show (none : Option ((Nat ⊕ Nat) × Hp)) = some r from hF)
  | succ n hc2 =>
    intro v21 v22 h23 hF
    rw [X7_plain_L2] at hF
    refine v_aload_n dX7_plain_2 rfl 0 rfl ?_
    refine v_ldcS dX7_plain_3 st_X7_119 ?_
    obtain ⟨v28, h27, e_v28, hF⟩ := bd2_spec hF
    refine v_calV1 dX7_plain_5 vl_X7_38 q970 (rc_X7_accept e_v28) (ct_X7_accept e_v28) rfl rfl (by omega) (by omega) (Nat.le_of_ble_eq_true rfl) ?_
    refine v_if_eq (tgt := 24) dX7_plain_8 (by decide) hF (fun hF => ?_) (fun hF => ?_)
    · exact v_sub [0, 1] rfl (hx2 _ _ _ hF)
    · refine v_iload_n dX7_plain_11 rfl 1 rfl ?_
      refine v_tern (c := v22 = 0) (x := (1 : Int32)) (y := (0 : Int32)) (pcj := 20) (st := []) ?_ (fun kt kf => v_if_ne0 (tgt := 19) dX7_plain_12 (by decide) kt kf) (fun K => ?_) (fun K => ?_)
      · exact v_sub [0] rfl (w_X7_plain_J20 hbf hbl hfr hlo hf hc2 hF)
      · refine v_iconst dX7_plain_15 (v := 1) (by decide) ?_
        refine v_goto (tgt := 20) dX7_plain_16 (by decide) ?_
        exact K
      · refine v_iconst dX7_plain_19 (v := 0) (by decide) ?_
        exact K
def X7_plain_J125 (N : Nat) (f : Nat → Hp → Option ((Nat ⊕ Nat) × Hp)) (v64 : Int32) (v65 : Nat) (h66 : Hp) : Option ((Nat ⊕ Nat) × Hp) :=
  if v64 = 0 then
    some (.inr v65, h66)
  else
    bd2 (nwo h66 15 1 [.null]) fun a67 h68 =>
    (X18_init a67 v65 h68).bind fun h69 =>
    some (.inr a67, h69)
theorem w_X7_plain_J125 {l : Launch} {G : GT} {fr lo : Nat} {h0 : Hp} {N : Nat} {f : Nat → Hp → Option ((Nat ⊕ Nat) × Hp)} {r : ((Nat ⊕ Nat) × Hp)} {frf lof : Nat} (hbf : 56 ≤ frf) (hbl : 1216 ≤ lof) (hfr : frf + 1 ≤ fr) (hlo : lof + 21 ≤ lo) (hf : ∀ (a0 : Nat) (h : Hp) (r : ((Nat ⊕ Nat) × Hp)), f a0 h = some r → RC h a0 [7, 18] ∧ CtX l G yX7_test (ws_ yX7_test cX7_test 2 (Option.some (Jvm.ClassFile.FieldType.object "LeekReadings$Test"))) frf lof [.ref a0] h (rsA r.1) r.2)   {v64 : Int32} {v65 : Nat} {h66 : Hp} (hF : X7_plain_J125 N f v64 v65 h66 = some r) : V l G cX7_plain RX7 "plain" 5 (Option.some (Jvm.ClassFile.FieldType.object "LeekReadings$Test")) fr lo h0 r.2 (QX G [] (rsA r.1) h0 r.2) 125 [(1, .int v64), (2, .ref v65)] [] h66 := by
  unfold X7_plain_J125 at hF
  refine v_iload_n dX7_plain_125 rfl 0 rfl ?_
  refine v_if_eq (tgt := 140) dX7_plain_126 (by decide) hF (fun hF => ?_) (fun hF => ?_)
  · refine v_aload_n dX7_plain_140 rfl 1 rfl ?_
    cases hF
    exact v_toX (v_aret (x := some _) dX7_plain_141 rfl (Or.inl ⟨_, rfl⟩) rfl rfl)
  · refine v_new dX7_plain_129 nl_X7_150 hF (fun a67 h68 hF => ?_)
    refine v_dup dX7_plain_132 rfl ?_
    refine v_aload_n dX7_plain_133 rfl 1 rfl ?_
    obtain ⟨h69, e_h69, hF⟩ := Option.bind_eq_some_iff.mp hF
    refine v_calI dX7_plain_134 il_X7_152 q1106 (ct_X18_init e_h69) rfl rfl (by omega) (by omega) (Nat.le_of_ble_eq_true rfl) ?_
    refine v_goto (tgt := 141) dX7_plain_137 (by decide) ?_
    cases hF
    exact v_toX (v_aret (x := some _) dX7_plain_141 rfl (Or.inl ⟨_, rfl⟩) rfl rfl)
def X7_plain_J89 (N : Nat) (f : Nat → Hp → Option ((Nat ⊕ Nat) × Hp)) (v47 : Nat) (v48 : Int32) (v49 : Nat) (v50 : Int32) (v51 : Nat) (h52 : Hp) : Option ((Nat ⊕ Nat) × Hp) :=
  bdx (X7_must v51 v50 h52) fun u_h53 h53 =>
  (gr h53 v47 [7, 18] 7).bind fun v54 =>
  (gr h53 v54 [0] 14).bind fun v55 =>
  (gi h53 v47 [7, 18] 0).bind fun v56 =>
  (aI h53 v55 1 v56).bind fun v57 =>
  (X7_next N v47 h53).bind fun h58 =>
  bd2 (nwo h58 14 3 [.null, .null, .int 0]) fun a59 h60 =>
  bdx (X7_sum N 16 v47 h60) fun v62 h61 =>
  (X17_init a59 v49 v57 v62 h61).bind fun h63 =>
  X7_plain_J125 N f v48 a59 h63
theorem w_X7_plain_J89 {l : Launch} {G : GT} {fr lo : Nat} {h0 : Hp} {N : Nat} {f : Nat → Hp → Option ((Nat ⊕ Nat) × Hp)} {r : ((Nat ⊕ Nat) × Hp)} {frf lof : Nat} (hbf : 56 ≤ frf) (hbl : 1216 ≤ lof) (hfr : frf + 1 ≤ fr) (hlo : lof + 21 ≤ lo) (hf : ∀ (a0 : Nat) (h : Hp) (r : ((Nat ⊕ Nat) × Hp)), f a0 h = some r → RC h a0 [7, 18] ∧ CtX l G yX7_test (ws_ yX7_test cX7_test 2 (Option.some (Jvm.ClassFile.FieldType.object "LeekReadings$Test"))) frf lof [.ref a0] h (rsA r.1) r.2)   {v47 : Nat} {v48 : Int32} {v49 : Nat} {v50 : Int32} {v51 : Nat} {h52 : Hp} (hF : X7_plain_J89 N f v47 v48 v49 v50 v51 h52 = some r) : V l G cX7_plain RX7 "plain" 5 (Option.some (Jvm.ClassFile.FieldType.object "LeekReadings$Test")) fr lo h0 r.2 (QX G [] (rsA r.1) h0 r.2) 89 [(0, .ref v47), (1, .int v48), (3, .ref v49)] [.int v50, .ref v51] h52 := by
  unfold X7_plain_J89 at hF
  rcases bdx_spec hF with ⟨q9, h9, o9, e_h53, w9, e9⟩ | ⟨u_h53, h53, e_h53, hF⟩
  · subst e9
    exact v_calVXt dX7_plain_89 vl_X7_28 q843 (rc_X7_must e_h53) (ct_X7_must e_h53) rfl rfl (by omega) (by omega) (Nat.le_of_ble_eq_true rfl) (x_out w9 tb0 rfl)
  · refine v_calVXn0 dX7_plain_89 vl_X7_28 q843 (rc_X7_must e_h53) (ct_X7_must e_h53) rfl rfl (by omega) (by omega) (Nat.le_of_ble_eq_true rfl) ?_
    refine v_aload_n dX7_plain_92 rfl 0 rfl ?_
    refine v_getr dX7_plain_93 fl_X7_3 hF (fun v54 hF => ?_)
    refine v_getr dX7_plain_96 fl_X7_52 hF (fun v55 hF => ?_)
    refine v_aload_n dX7_plain_99 rfl 0 rfl ?_
    refine v_geti dX7_plain_100 fl_X7_42 hF (fun v56 hF => ?_)
    refine v_bald dX7_plain_103 hF (fun v57 hF => ?_)
    refine v_istore dX7_plain_104 (Nat.le_of_ble_eq_true rfl) (L' := [(4, .int v57), (0, .ref v47), (1, .int v48), (3, .ref v49)]) rfl ?_
    refine v_aload_n dX7_plain_106 rfl 1 rfl ?_
    obtain ⟨h58, e_h58, hF⟩ := Option.bind_eq_some_iff.mp hF
    refine v_calV0 dX7_plain_107 vl_X7_25 q831 (rc_X7_next e_h58) (ct_X7_next e_h58) rfl rfl (by omega) (by omega) (Nat.le_of_ble_eq_true rfl) ?_
    refine v_new dX7_plain_110 nl_X7_145 hF (fun a59 h60 hF => ?_)
    refine v_dup dX7_plain_113 rfl ?_
    refine v_aload_n dX7_plain_114 rfl 3 rfl ?_
    refine v_iload dX7_plain_115 0 rfl ?_
    refine v_aload_n dX7_plain_117 rfl 1 rfl ?_
    rcases bdx_spec hF with ⟨q9, h9, o9, e_h61, w9, e9⟩ | ⟨v62, h61, e_h61, hF⟩
    · subst e9
      exact v_calVXt dX7_plain_118 vl_X7_135 q945 (rcd_X7_sum 16 e_h61) (ctd_X7_sum 16 e_h61) rfl rfl (by omega) (by omega) (Nat.le_of_ble_eq_true rfl) (x_out w9 tb0 rfl)
    · refine v_calVXn1 dX7_plain_118 vl_X7_135 q945 (rcd_X7_sum 16 e_h61) (ctd_X7_sum 16 e_h61) rfl rfl (by omega) (by omega) (Nat.le_of_ble_eq_true rfl) ?_
      obtain ⟨h63, e_h63, hF⟩ := Option.bind_eq_some_iff.mp hF
      refine v_calI dX7_plain_121 il_X7_147 q1087 (ct_X17_init e_h63) rfl rfl (by omega) (by omega) (Nat.le_of_ble_eq_true rfl) ?_
      refine v_astore_n dX7_plain_124 rfl (Nat.le_of_ble_eq_true rfl) (L' := [(2, .ref a59), (4, .int v57), (0, .ref v47), (1, .int v48), (3, .ref v49)]) rfl ?_
      exact v_sub [3, 0] rfl (w_X7_plain_J125 hbf hbl hfr hlo hf hF)
def X7_plain_J84 (N : Nat) (f : Nat → Hp → Option ((Nat ⊕ Nat) × Hp)) (v42 : Nat) (v43 : Int32) (v44 : Nat) (v45 : Nat) (h46 : Hp) : Option ((Nat ⊕ Nat) × Hp) :=
  X7_plain_J89 N f v42 v43 v44 (1 : Int32) v45 h46
theorem w_X7_plain_J84 {l : Launch} {G : GT} {fr lo : Nat} {h0 : Hp} {N : Nat} {f : Nat → Hp → Option ((Nat ⊕ Nat) × Hp)} {r : ((Nat ⊕ Nat) × Hp)} {frf lof : Nat} (hbf : 56 ≤ frf) (hbl : 1216 ≤ lof) (hfr : frf + 1 ≤ fr) (hlo : lof + 21 ≤ lo) (hf : ∀ (a0 : Nat) (h : Hp) (r : ((Nat ⊕ Nat) × Hp)), f a0 h = some r → RC h a0 [7, 18] ∧ CtX l G yX7_test (ws_ yX7_test cX7_test 2 (Option.some (Jvm.ClassFile.FieldType.object "LeekReadings$Test"))) frf lof [.ref a0] h (rsA r.1) r.2)   {v42 : Nat} {v43 : Int32} {v44 : Nat} {v45 : Nat} {h46 : Hp} (hF : X7_plain_J84 N f v42 v43 v44 v45 h46 = some r) : V l G cX7_plain RX7 "plain" 5 (Option.some (Jvm.ClassFile.FieldType.object "LeekReadings$Test")) fr lo h0 r.2 (QX G [] (rsA r.1) h0 r.2) 84 [(0, .ref v42), (1, .int v43), (3, .ref v44)] [.ref v45] h46 := by
  unfold X7_plain_J84 at hF
  refine v_iconst dX7_plain_84 (v := 1) (by decide) ?_
  refine v_goto (tgt := 89) dX7_plain_85 (by decide) ?_
  exact v_sub [0, 1, 2] rfl (w_X7_plain_J89 hbf hbl hfr hlo hf hF)
def X7_plain_b (N : Nat) (f : Nat → Hp → Option ((Nat ⊕ Nat) × Hp)) (a0 : Nat) (h : Hp) : Option ((Nat ⊕ Nat) × Hp) :=
  X7_plain_L2 N f (fun v33 v34 h35 =>
    bd2 (X7_isWord N v33 (h35.2.2.1 26) h35) fun v37 h36 =>
    if v37 = 0 then
      bdx (X7_sum N 16 v33 h36) fun v39 h38 =>
      bd2 (X7_isWord N v33 (h38.2.2.1 28) h38) fun v41 h40 =>
      if v41 = 0 then
        bd2 (X7_isWord N v33 (h40.2.2.1 29) h40) fun v71 h70 =>
        if v71 = 0 then
          bd2 (X7_isWord N v33 (h70.2.2.1 30) h70) fun v73 h72 =>
          if v73 = 0 then
            X7_plain_J89 N f v33 v34 v39 (0 : Int32) v33 h72
          else
            X7_plain_J84 N f v33 v34 v39 v33 h72
        else
          X7_plain_J84 N f v33 v34 v39 v33 h70
      else
        X7_plain_J84 N f v33 v34 v39 v33 h40
    else
      bdx (X7_open N v33 h36) fun u_h74 h74 =>
      bdx (f v33 h74) fun v76 h75 =>
      bdx (X7_close N v33 (h75.2.2.1 27) h75) fun u_h77 h77 =>
      X7_plain_J125 N f v34 v76 h77) N a0 (0 : Int32) h
theorem w_X7_plain_b {l : Launch} {G : GT} {fr lo : Nat} {h0 : Hp} {N : Nat} {f : Nat → Hp → Option ((Nat ⊕ Nat) × Hp)} {r : ((Nat ⊕ Nat) × Hp)} {frf lof : Nat} (hbf : 56 ≤ frf) (hbl : 1216 ≤ lof) (hfr : frf + 1 ≤ fr) (hlo : lof + 21 ≤ lo) (hf : ∀ (a0 : Nat) (h : Hp) (r : ((Nat ⊕ Nat) × Hp)), f a0 h = some r → RC h a0 [7, 18] ∧ CtX l G yX7_test (ws_ yX7_test cX7_test 2 (Option.some (Jvm.ClassFile.FieldType.object "LeekReadings$Test"))) frf lof [.ref a0] h (rsA r.1) r.2) {a0 : Nat} {h : Hp} (hF : X7_plain_b N f a0 h = some r) : V l G cX7_plain RX7 "plain" 5 (Option.some (Jvm.ClassFile.FieldType.object "LeekReadings$Test")) fr lo h0 r.2 (QX G [] (rsA r.1) h0 r.2) 0 [(0, .ref a0)] [] h := by
  unfold X7_plain_b at hF
  refine v_iconst dX7_plain_0 (v := 0) (by decide) ?_
  refine v_istore_n dX7_plain_1 rfl (Nat.le_of_ble_eq_true rfl) (L' := [(1, .int (0 : Int32)), (0, .ref a0)]) rfl ?_
  refine v_sub [1, 0] rfl (w_X7_plain_L2 hbf hbl hfr hlo hf ?_ N _ _ _ hF)
  intro v33 v34 h35 hF
  refine v_aload_n dX7_plain_24 rfl 0 rfl ?_
  refine v_ldcS dX7_plain_25 st_X7_121 ?_
  obtain ⟨v37, h36, e_v37, hF⟩ := bd2_spec hF
  refine v_calV1 dX7_plain_27 vl_X7_73 q885 (rc_X7_isWord e_v37) (ct_X7_isWord e_v37) rfl rfl (by omega) (by omega) (Nat.le_of_ble_eq_true rfl) ?_
  refine v_if_eq (tgt := 51) dX7_plain_30 (by decide) hF (fun hF => ?_) (fun hF => ?_)
  · refine v_aload_n dX7_plain_51 rfl 0 rfl ?_
    rcases bdx_spec hF with ⟨q9, h9, o9, e_h38, w9, e9⟩ | ⟨v39, h38, e_h38, hF⟩
    · subst e9
      exact v_calVXt dX7_plain_52 vl_X7_135 q945 (rcd_X7_sum 16 e_h38) (ctd_X7_sum 16 e_h38) rfl rfl (by omega) (by omega) (Nat.le_of_ble_eq_true rfl) (x_out w9 tb0 rfl)
    · refine v_calVXn1 dX7_plain_52 vl_X7_135 q945 (rcd_X7_sum 16 e_h38) (ctd_X7_sum 16 e_h38) rfl rfl (by omega) (by omega) (Nat.le_of_ble_eq_true rfl) ?_
      refine v_astore_n dX7_plain_55 rfl (Nat.le_of_ble_eq_true rfl) (L' := [(3, .ref v39), (0, .ref v33), (1, .int v34)]) rfl ?_
      refine v_aload_n dX7_plain_56 rfl 1 rfl ?_
      refine v_aload_n dX7_plain_57 rfl 1 rfl ?_
      refine v_ldcS dX7_plain_58 st_X7_139 ?_
      obtain ⟨v41, h40, e_v41, hF⟩ := bd2_spec hF
      refine v_calV1 dX7_plain_60 vl_X7_73 q885 (rc_X7_isWord e_v41) (ct_X7_isWord e_v41) rfl rfl (by omega) (by omega) (Nat.le_of_ble_eq_true rfl) ?_
      refine v_if_ne (tgt := 84) dX7_plain_63 (by decide) hF (fun hF => ?_) (fun hF => ?_)
      · exact v_sub [1, 2, 0] rfl (w_X7_plain_J84 hbf hbl hfr hlo hf hF)
      · refine v_aload_n dX7_plain_66 rfl 1 rfl ?_
        refine v_ldcS dX7_plain_67 st_X7_141 ?_
        obtain ⟨v71, h70, e_v71, hF⟩ := bd2_spec hF
        refine v_calV1 dX7_plain_69 vl_X7_73 q885 (rc_X7_isWord e_v71) (ct_X7_isWord e_v71) rfl rfl (by omega) (by omega) (Nat.le_of_ble_eq_true rfl) ?_
        refine v_if_ne (tgt := 84) dX7_plain_72 (by decide) hF (fun hF => ?_) (fun hF => ?_)
        · exact v_sub [1, 2, 0] rfl (w_X7_plain_J84 hbf hbl hfr hlo hf hF)
        · refine v_aload_n dX7_plain_75 rfl 1 rfl ?_
          refine v_ldcS dX7_plain_76 st_X7_143 ?_
          obtain ⟨v73, h72, e_v73, hF⟩ := bd2_spec hF
          refine v_calV1 dX7_plain_78 vl_X7_73 q885 (rc_X7_isWord e_v73) (ct_X7_isWord e_v73) rfl rfl (by omega) (by omega) (Nat.le_of_ble_eq_true rfl) ?_
          refine v_if_eq (tgt := 88) dX7_plain_81 (by decide) hF (fun hF => ?_) (fun hF => ?_)
          · refine v_iconst dX7_plain_88 (v := 0) (by decide) ?_
            exact v_sub [1, 2, 0] rfl (w_X7_plain_J89 hbf hbl hfr hlo hf hF)
          · exact v_sub [1, 2, 0] rfl (w_X7_plain_J84 hbf hbl hfr hlo hf hF)
  · refine v_aload_n dX7_plain_33 rfl 0 rfl ?_
    rcases bdx_spec hF with ⟨q9, h9, o9, e_h74, w9, e9⟩ | ⟨u_h74, h74, e_h74, hF⟩
    · subst e9
      exact v_calVXt dX7_plain_34 vl_X7_123 q958 (rc_X7_open e_h74) (ct_X7_open e_h74) rfl rfl (by omega) (by omega) (Nat.le_of_ble_eq_true rfl) (x_out w9 tb0 rfl)
    · refine v_calVXn0 dX7_plain_34 vl_X7_123 q958 (rc_X7_open e_h74) (ct_X7_open e_h74) rfl rfl (by omega) (by omega) (Nat.le_of_ble_eq_true rfl) ?_
      refine v_aload_n dX7_plain_37 rfl 0 rfl ?_
      rcases bdx_spec hF with ⟨q9, h9, o9, e_h75, w9, e9⟩ | ⟨v76, h75, e_h75, hF⟩
      · subst e9
        exact v_calVXt dX7_plain_38 vl_X7_126 q1067 (hf _ _ _ e_h75).1 ((hf _ _ _ e_h75).2) rfl rfl (by omega) (by omega) (Nat.le_of_ble_eq_true rfl) (x_out w9 tb0 rfl)
      · refine v_calVXn1 dX7_plain_38 vl_X7_126 q1067 (hf _ _ _ e_h75).1 ((hf _ _ _ e_h75).2) rfl rfl (by omega) (by omega) (Nat.le_of_ble_eq_true rfl) ?_
        refine v_astore_n dX7_plain_41 rfl (Nat.le_of_ble_eq_true rfl) (L' := [(2, .ref v76), (0, .ref v33), (1, .int v34)]) rfl ?_
        refine v_aload_n dX7_plain_42 rfl 1 rfl ?_
        refine v_ldcS dX7_plain_43 st_X7_129 ?_
        rcases bdx_spec hF with ⟨q9, h9, o9, e_h77, w9, e9⟩ | ⟨u_h77, h77, e_h77, hF⟩
        · subst e9
          exact v_calVXt dX7_plain_45 vl_X7_131 q964 (rc_X7_close e_h77) (ct_X7_close e_h77) rfl rfl (by omega) (by omega) (Nat.le_of_ble_eq_true rfl) (x_out w9 tb0 rfl)
        · refine v_calVXn0 dX7_plain_45 vl_X7_131 q964 (rc_X7_close e_h77) (ct_X7_close e_h77) rfl rfl (by omega) (by omega) (Nat.le_of_ble_eq_true rfl) ?_
          refine v_goto (tgt := 125) dX7_plain_48 (by decide) ?_
          exact v_sub [2, 0] rfl (w_X7_plain_J125 hbf hbl hfr hlo hf hF)
def X7_plain (N : Nat) (f : Nat → Hp → Option ((Nat ⊕ Nat) × Hp)) (a0 : Nat) (h : Hp) : Option ((Nat ⊕ Nat) × Hp) := (ob h a0 [7, 18]).bind fun _ => X7_plain_b N f a0 h
theorem rc_X7_plain {N : Nat}  {f : Nat → Hp → Option ((Nat ⊕ Nat) × Hp)} {r : ((Nat ⊕ Nat) × Hp)} {a0 : Nat} {h : Hp} (hF : X7_plain N f a0 h = some r) : RC h a0 [7, 18] := by
  obtain ⟨o, ho, -⟩ := Option.bind_eq_some_iff.mp hF
  exact ⟨o, ho⟩
theorem ct_X7_plain {l : Launch} {G : GT} {N : Nat} {f : Nat → Hp → Option ((Nat ⊕ Nat) × Hp)} {frf lof : Nat} (hbf : 56 ≤ frf) (hbl : 1216 ≤ lof) (hf : ∀ (a0 : Nat) (h : Hp) (r : ((Nat ⊕ Nat) × Hp)), f a0 h = some r → RC h a0 [7, 18] ∧ CtX l G yX7_test (ws_ yX7_test cX7_test 2 (Option.some (Jvm.ClassFile.FieldType.object "LeekReadings$Test"))) frf lof [.ref a0] h (rsA r.1) r.2) {r : ((Nat ⊕ Nat) × Hp)} {a0 : Nat} {h : Hp} (hF : X7_plain N f a0 h = some r) : CtX l G yX7_plain (ws_ yX7_plain cX7_plain 5 (Option.some (Jvm.ClassFile.FieldType.object "LeekReadings$Test"))) (frf + 1) (lof + 21) [.ref a0] h (rsA r.1) r.2 :=
  ctX_of (by decide) (Nat.le_of_ble_eq_true rfl) (w_X7_plain_b hbf hbl (Nat.le_refl _) (Nat.le_refl _) hf (Option.bind_eq_some_iff.mp hF).choose_spec.2)
theorem vl_X7_97 : ∀ ci ∈ [7, 18], VL RX7 97 ci yX7_plain 0 := by
  intro ci h
  simp only [List.mem_cons, List.not_mem_nil, or_false] at h
  rcases h with rfl | rfl
  · exact ⟨RX8, TX8, 11, rfl, q158, ⟨by decide, by decide⟩, by decide +kernel, q1074, Or.inr (Or.inr (Or.inr ⟨q1072, q1073, ⟨"LeekReadings$Reader", "next", "()V"⟩, rfl, q829⟩))⟩
  · exact ⟨RX21, TX21, 10, rfl, q158, ⟨by decide, by decide⟩, by decide +kernel, q1074, Or.inr (Or.inr (Or.inr ⟨q1072, q1073, ⟨"LeekReadings$Reader", "next", "()V"⟩, rfl, q830⟩))⟩
theorem vl_X7_87 : ∀ ci ∈ [7, 18], VL RX7 87 ci yX7_add 1 := by
  intro ci h
  simp only [List.mem_cons, List.not_mem_nil, or_false] at h
  rcases h with rfl | rfl
  · exact ⟨RX8, TX8, 11, rfl, q158, ⟨by decide, by decide⟩, by decide +kernel, q1114, Or.inr (Or.inr (Or.inr ⟨q1112, q1113, ⟨"LeekReadings$Reader", "next", "()V"⟩, rfl, q829⟩))⟩
  · exact ⟨RX21, TX21, 10, rfl, q158, ⟨by decide, by decide⟩, by decide +kernel, q1114, Or.inr (Or.inr (Or.inr ⟨q1112, q1113, ⟨"LeekReadings$Reader", "next", "()V"⟩, rfl, q830⟩))⟩
theorem st_X7_100 : (RX7, 100, "and", 24) ∈ strTab := List.mem_of_getElem? (i := 28) rfl
theorem vl_X7_93 : ∀ ci ∈ [7, 18], VL RX7 93 ci yX7_joined 2 := by
  intro ci h
  simp only [List.mem_cons, List.not_mem_nil, or_false] at h
  rcases h with rfl | rfl
  · exact ⟨RX8, TX8, 11, rfl, q158, ⟨by decide, by decide⟩, by decide +kernel, q1119, Or.inr (Or.inr (Or.inr ⟨q1117, q1118, ⟨"LeekReadings$Reader", "next", "()V"⟩, rfl, q829⟩))⟩
  · exact ⟨RX21, TX21, 10, rfl, q158, ⟨by decide, by decide⟩, by decide +kernel, q1119, Or.inr (Or.inr (Or.inr ⟨q1117, q1118, ⟨"LeekReadings$Reader", "next", "()V"⟩, rfl, q830⟩))⟩
def X7_both_L13 (N : Nat) (f : Nat → Hp → Option ((Nat ⊕ Nat) × Hp)) (x13 : Nat → Int32 → Hp → Option ((Nat ⊕ Nat) × Hp)) : Nat → Nat → Int32 → Hp → Option ((Nat ⊕ Nat) × Hp)
  | 0, _, _, _ => none
  | n36 + 1, v25, v26, h27 =>
    bd2 (X7_accept N v25 (h27.2.2.1 24) h27) fun v32 h31 =>
    if v32 = 0 then
      x13 v25 v26 h31
    else
      bdx (X7_plain N f v25 h31) fun v34 h33 =>
      (X7_add v25 v34 h33).bind fun h35 =>
      (X7_both_L13 N f x13 n36) v25 v26 h35
theorem w_X7_both_L13 {l : Launch} {G : GT} {fr lo : Nat} {h0 : Hp} {N : Nat} {f : Nat → Hp → Option ((Nat ⊕ Nat) × Hp)} {r : ((Nat ⊕ Nat) × Hp)} {frf lof : Nat} (hbf : 56 ≤ frf) (hbl : 1216 ≤ lof) (hfr : frf + 2 ≤ fr) (hlo : lof + 45 ≤ lo) (hf : ∀ (a0 : Nat) (h : Hp) (r : ((Nat ⊕ Nat) × Hp)), f a0 h = some r → RC h a0 [7, 18] ∧ CtX l G yX7_test (ws_ yX7_test cX7_test 2 (Option.some (Jvm.ClassFile.FieldType.object "LeekReadings$Test"))) frf lof [.ref a0] h (rsA r.1) r.2) {x13 : Nat → Int32 → Hp → Option ((Nat ⊕ Nat) × Hp)} (hx13 : ∀ (v28 : Nat) (v29 : Int32) (h30 : Hp), x13 v28 v29 h30 = some r → V l G cX7_both RX7 "both" 2 (Option.some (Jvm.ClassFile.FieldType.object "LeekReadings$Test")) fr lo h0 r.2 (QX G [] (rsA r.1) h0 r.2) 33 [(0, .ref v28), (1, .int v29)] [] h30) : ∀ (n : Nat) (v25 : Nat) (v26 : Int32) (h27 : Hp), X7_both_L13 N f x13 n v25 v26 h27 = some r → V l G cX7_both RX7 "both" 2 (Option.some (Jvm.ClassFile.FieldType.object "LeekReadings$Test")) fr lo h0 r.2 (QX G [] (rsA r.1) h0 r.2) 13 [(0, .ref v25), (1, .int v26)] [] h27 := by
  intro n
  induction n with
  | zero =>
    intro v25 v26 h27 hF
    cases (show (none : Option ((Nat ⊕ Nat) × Hp)) = some r from hF)
  | succ n hc13 =>
    intro v25 v26 h27 hF
    rw [X7_both_L13] at hF
    refine v_aload_n dX7_both_13 rfl 0 rfl ?_
    refine v_ldcS dX7_both_14 st_X7_100 ?_
    obtain ⟨v32, h31, e_v32, hF⟩ := bd2_spec hF
    refine v_calV1 dX7_both_16 vl_X7_38 q970 (rc_X7_accept e_v32) (ct_X7_accept e_v32) rfl rfl (by omega) (by omega) (Nat.le_of_ble_eq_true rfl) ?_
    refine v_if_eq (tgt := 33) dX7_both_19 (by decide) hF (fun hF => ?_) (fun hF => ?_)
    · exact v_sub [0, 1] rfl (hx13 _ _ _ hF)
    · refine v_aload_n dX7_both_22 rfl 0 rfl ?_
      refine v_aload_n dX7_both_23 rfl 0 rfl ?_
      rcases bdx_spec hF with ⟨q9, h9, o9, e_h33, w9, e9⟩ | ⟨v34, h33, e_h33, hF⟩
      · subst e9
        exact v_calVXt dX7_both_24 vl_X7_97 q1075 (rc_X7_plain e_h33) (ct_X7_plain (by omega) (by omega) hf e_h33) rfl rfl (by omega) (by omega) (Nat.le_of_ble_eq_true rfl) (x_out w9 tb0 rfl)
      · refine v_calVXn1 dX7_both_24 vl_X7_97 q1075 (rc_X7_plain e_h33) (ct_X7_plain (by omega) (by omega) hf e_h33) rfl rfl (by omega) (by omega) (Nat.le_of_ble_eq_true rfl) ?_
        obtain ⟨h35, e_h35, hF⟩ := Option.bind_eq_some_iff.mp hF
        refine v_calV0 dX7_both_27 vl_X7_87 q1115 (rc_X7_add e_h35) (ct_X7_add e_h35) rfl rfl (by omega) (by omega) (Nat.le_of_ble_eq_true rfl) ?_
        refine v_goto (tgt := 13) dX7_both_30 (by decide) ?_
        exact v_sub [0, 1] rfl (hc13 _ _ _ hF)
def X7_both_b (N : Nat) (f : Nat → Hp → Option ((Nat ⊕ Nat) × Hp)) (a0 : Nat) (h : Hp) : Option ((Nat ⊕ Nat) × Hp) :=
  (gi h a0 [7, 18] 4).bind fun v21 =>
  bdx (X7_plain N f a0 h) fun v23 h22 =>
  (X7_add a0 v23 h22).bind fun h24 =>
  X7_both_L13 N f (fun v37 v38 h39 =>
    bd2 (X7_joined v37 (1 : Int32) v38 h39) fun v41 h40 =>
    some (.inr v41, h40)) N a0 v21 h24
theorem w_X7_both_b {l : Launch} {G : GT} {fr lo : Nat} {h0 : Hp} {N : Nat} {f : Nat → Hp → Option ((Nat ⊕ Nat) × Hp)} {r : ((Nat ⊕ Nat) × Hp)} {frf lof : Nat} (hbf : 56 ≤ frf) (hbl : 1216 ≤ lof) (hfr : frf + 2 ≤ fr) (hlo : lof + 45 ≤ lo) (hf : ∀ (a0 : Nat) (h : Hp) (r : ((Nat ⊕ Nat) × Hp)), f a0 h = some r → RC h a0 [7, 18] ∧ CtX l G yX7_test (ws_ yX7_test cX7_test 2 (Option.some (Jvm.ClassFile.FieldType.object "LeekReadings$Test"))) frf lof [.ref a0] h (rsA r.1) r.2) {a0 : Nat} {h : Hp} (hF : X7_both_b N f a0 h = some r) : V l G cX7_both RX7 "both" 2 (Option.some (Jvm.ClassFile.FieldType.object "LeekReadings$Test")) fr lo h0 r.2 (QX G [] (rsA r.1) h0 r.2) 0 [(0, .ref a0)] [] h := by
  unfold X7_both_b at hF
  refine v_aload_n dX7_both_0 rfl 0 rfl ?_
  refine v_geti dX7_both_1 fl_X7_80 hF (fun v21 hF => ?_)
  refine v_istore_n dX7_both_4 rfl (Nat.le_of_ble_eq_true rfl) (L' := [(1, .int v21), (0, .ref a0)]) rfl ?_
  refine v_aload_n dX7_both_5 rfl 1 rfl ?_
  refine v_aload_n dX7_both_6 rfl 1 rfl ?_
  rcases bdx_spec hF with ⟨q9, h9, o9, e_h22, w9, e9⟩ | ⟨v23, h22, e_h22, hF⟩
  · subst e9
    exact v_calVXt dX7_both_7 vl_X7_97 q1075 (rc_X7_plain e_h22) (ct_X7_plain (by omega) (by omega) hf e_h22) rfl rfl (by omega) (by omega) (Nat.le_of_ble_eq_true rfl) (x_out w9 tb0 rfl)
  · refine v_calVXn1 dX7_both_7 vl_X7_97 q1075 (rc_X7_plain e_h22) (ct_X7_plain (by omega) (by omega) hf e_h22) rfl rfl (by omega) (by omega) (Nat.le_of_ble_eq_true rfl) ?_
    obtain ⟨h24, e_h24, hF⟩ := Option.bind_eq_some_iff.mp hF
    refine v_calV0 dX7_both_10 vl_X7_87 q1115 (rc_X7_add e_h24) (ct_X7_add e_h24) rfl rfl (by omega) (by omega) (Nat.le_of_ble_eq_true rfl) ?_
    refine v_sub [1, 0] rfl (w_X7_both_L13 hbf hbl hfr hlo hf ?_ N _ _ _ hF)
    intro v37 v38 h39 hF
    refine v_aload_n dX7_both_33 rfl 0 rfl ?_
    refine v_iconst dX7_both_34 (v := 1) (by decide) ?_
    refine v_iload_n dX7_both_35 rfl 1 rfl ?_
    obtain ⟨v41, h40, e_v41, hF⟩ := bd2_spec hF
    refine v_calV1 dX7_both_36 vl_X7_93 q1120 (rc_X7_joined e_v41) (ct_X7_joined e_v41) rfl rfl (by omega) (by omega) (Nat.le_of_ble_eq_true rfl) ?_
    cases hF
    exact v_toX (v_aret (x := some _) dX7_both_39 rfl (Or.inl ⟨_, rfl⟩) rfl rfl)
def X7_both (N : Nat) (f : Nat → Hp → Option ((Nat ⊕ Nat) × Hp)) (a0 : Nat) (h : Hp) : Option ((Nat ⊕ Nat) × Hp) := (ob h a0 [7, 18]).bind fun _ => X7_both_b N f a0 h
theorem rc_X7_both {N : Nat}  {f : Nat → Hp → Option ((Nat ⊕ Nat) × Hp)} {r : ((Nat ⊕ Nat) × Hp)} {a0 : Nat} {h : Hp} (hF : X7_both N f a0 h = some r) : RC h a0 [7, 18] := by
  obtain ⟨o, ho, -⟩ := Option.bind_eq_some_iff.mp hF
  exact ⟨o, ho⟩
theorem ct_X7_both {l : Launch} {G : GT} {N : Nat} {f : Nat → Hp → Option ((Nat ⊕ Nat) × Hp)} {frf lof : Nat} (hbf : 56 ≤ frf) (hbl : 1216 ≤ lof) (hf : ∀ (a0 : Nat) (h : Hp) (r : ((Nat ⊕ Nat) × Hp)), f a0 h = some r → RC h a0 [7, 18] ∧ CtX l G yX7_test (ws_ yX7_test cX7_test 2 (Option.some (Jvm.ClassFile.FieldType.object "LeekReadings$Test"))) frf lof [.ref a0] h (rsA r.1) r.2) {r : ((Nat ⊕ Nat) × Hp)} {a0 : Nat} {h : Hp} (hF : X7_both N f a0 h = some r) : CtX l G yX7_both (ws_ yX7_both cX7_both 2 (Option.some (Jvm.ClassFile.FieldType.object "LeekReadings$Test"))) (frf + 2) (lof + 45) [.ref a0] h (rsA r.1) r.2 :=
  ctX_of (by decide) (Nat.le_of_ble_eq_true rfl) (w_X7_both_b hbf hbl (Nat.le_refl _) (Nat.le_refl _) hf (Option.bind_eq_some_iff.mp hF).choose_spec.2)
theorem vl_X7_83 : ∀ ci ∈ [7, 18], VL RX7 83 ci yX7_both 0 := by
  intro ci h
  simp only [List.mem_cons, List.not_mem_nil, or_false] at h
  rcases h with rfl | rfl
  · exact ⟨RX8, TX8, 11, rfl, q158, ⟨by decide, by decide⟩, by decide +kernel, q1070, Or.inr (Or.inr (Or.inr ⟨q1068, q1069, ⟨"LeekReadings$Reader", "next", "()V"⟩, rfl, q829⟩))⟩
  · exact ⟨RX21, TX21, 10, rfl, q158, ⟨by decide, by decide⟩, by decide +kernel, q1070, Or.inr (Or.inr (Or.inr ⟨q1068, q1069, ⟨"LeekReadings$Reader", "next", "()V"⟩, rfl, q830⟩))⟩
theorem st_X7_91 : (RX7, 91, "or", 23) ∈ strTab := List.mem_of_getElem? (i := 27) rfl
def X7_test_o_L13 (N : Nat) (f : Nat → Hp → Option ((Nat ⊕ Nat) × Hp)) (x13 : Nat → Int32 → Hp → Option ((Nat ⊕ Nat) × Hp)) : Nat → Nat → Int32 → Hp → Option ((Nat ⊕ Nat) × Hp)
  | 0, _, _, _ => none
  | n36 + 1, v25, v26, h27 =>
    bd2 (X7_accept N v25 (h27.2.2.1 23) h27) fun v32 h31 =>
    if v32 = 0 then
      x13 v25 v26 h31
    else
      bdx (X7_both N f v25 h31) fun v34 h33 =>
      (X7_add v25 v34 h33).bind fun h35 =>
      (X7_test_o_L13 N f x13 n36) v25 v26 h35
theorem w_X7_test_o_L13 {l : Launch} {G : GT} {fr lo : Nat} {h0 : Hp} {N : Nat} {f : Nat → Hp → Option ((Nat ⊕ Nat) × Hp)} {r : ((Nat ⊕ Nat) × Hp)} {frf lof : Nat} (hbf : 56 ≤ frf) (hbl : 1216 ≤ lof) (hfr : frf + 3 ≤ fr) (hlo : lof + 66 ≤ lo) (hf : ∀ (a0 : Nat) (h : Hp) (r : ((Nat ⊕ Nat) × Hp)), f a0 h = some r → RC h a0 [7, 18] ∧ CtX l G yX7_test (ws_ yX7_test cX7_test 2 (Option.some (Jvm.ClassFile.FieldType.object "LeekReadings$Test"))) frf lof [.ref a0] h (rsA r.1) r.2) {x13 : Nat → Int32 → Hp → Option ((Nat ⊕ Nat) × Hp)} (hx13 : ∀ (v28 : Nat) (v29 : Int32) (h30 : Hp), x13 v28 v29 h30 = some r → V l G cX7_test RX7 "test" 2 (Option.some (Jvm.ClassFile.FieldType.object "LeekReadings$Test")) fr lo h0 r.2 (QX G [] (rsA r.1) h0 r.2) 33 [(0, .ref v28), (1, .int v29)] [] h30) : ∀ (n : Nat) (v25 : Nat) (v26 : Int32) (h27 : Hp), X7_test_o_L13 N f x13 n v25 v26 h27 = some r → V l G cX7_test RX7 "test" 2 (Option.some (Jvm.ClassFile.FieldType.object "LeekReadings$Test")) fr lo h0 r.2 (QX G [] (rsA r.1) h0 r.2) 13 [(0, .ref v25), (1, .int v26)] [] h27 := by
  intro n
  induction n with
  | zero =>
    intro v25 v26 h27 hF
    cases (show (none : Option ((Nat ⊕ Nat) × Hp)) = some r from hF)
  | succ n hc13 =>
    intro v25 v26 h27 hF
    rw [X7_test_o_L13] at hF
    refine v_aload_n dX7_test_13 rfl 0 rfl ?_
    refine v_ldcS dX7_test_14 st_X7_91 ?_
    obtain ⟨v32, h31, e_v32, hF⟩ := bd2_spec hF
    refine v_calV1 dX7_test_16 vl_X7_38 q970 (rc_X7_accept e_v32) (ct_X7_accept e_v32) rfl rfl (by omega) (by omega) (Nat.le_of_ble_eq_true rfl) ?_
    refine v_if_eq (tgt := 33) dX7_test_19 (by decide) hF (fun hF => ?_) (fun hF => ?_)
    · exact v_sub [0, 1] rfl (hx13 _ _ _ hF)
    · refine v_aload_n dX7_test_22 rfl 0 rfl ?_
      refine v_aload_n dX7_test_23 rfl 0 rfl ?_
      rcases bdx_spec hF with ⟨q9, h9, o9, e_h33, w9, e9⟩ | ⟨v34, h33, e_h33, hF⟩
      · subst e9
        exact v_calVXt dX7_test_24 vl_X7_83 q1071 (rc_X7_both e_h33) (ct_X7_both (by omega) (by omega) hf e_h33) rfl rfl (by omega) (by omega) (Nat.le_of_ble_eq_true rfl) (x_out w9 tb0 rfl)
      · refine v_calVXn1 dX7_test_24 vl_X7_83 q1071 (rc_X7_both e_h33) (ct_X7_both (by omega) (by omega) hf e_h33) rfl rfl (by omega) (by omega) (Nat.le_of_ble_eq_true rfl) ?_
        obtain ⟨h35, e_h35, hF⟩ := Option.bind_eq_some_iff.mp hF
        refine v_calV0 dX7_test_27 vl_X7_87 q1115 (rc_X7_add e_h35) (ct_X7_add e_h35) rfl rfl (by omega) (by omega) (Nat.le_of_ble_eq_true rfl) ?_
        refine v_goto (tgt := 13) dX7_test_30 (by decide) ?_
        exact v_sub [0, 1] rfl (hc13 _ _ _ hF)
def X7_test_o_b (N : Nat) (f : Nat → Hp → Option ((Nat ⊕ Nat) × Hp)) (a0 : Nat) (h : Hp) : Option ((Nat ⊕ Nat) × Hp) :=
  (gi h a0 [7, 18] 4).bind fun v21 =>
  bdx (X7_both N f a0 h) fun v23 h22 =>
  (X7_add a0 v23 h22).bind fun h24 =>
  X7_test_o_L13 N f (fun v37 v38 h39 =>
    bd2 (X7_joined v37 (0 : Int32) v38 h39) fun v41 h40 =>
    some (.inr v41, h40)) N a0 v21 h24
theorem w_X7_test_o_b {l : Launch} {G : GT} {fr lo : Nat} {h0 : Hp} {N : Nat} {f : Nat → Hp → Option ((Nat ⊕ Nat) × Hp)} {r : ((Nat ⊕ Nat) × Hp)} {frf lof : Nat} (hbf : 56 ≤ frf) (hbl : 1216 ≤ lof) (hfr : frf + 3 ≤ fr) (hlo : lof + 66 ≤ lo) (hf : ∀ (a0 : Nat) (h : Hp) (r : ((Nat ⊕ Nat) × Hp)), f a0 h = some r → RC h a0 [7, 18] ∧ CtX l G yX7_test (ws_ yX7_test cX7_test 2 (Option.some (Jvm.ClassFile.FieldType.object "LeekReadings$Test"))) frf lof [.ref a0] h (rsA r.1) r.2) {a0 : Nat} {h : Hp} (hF : X7_test_o_b N f a0 h = some r) : V l G cX7_test RX7 "test" 2 (Option.some (Jvm.ClassFile.FieldType.object "LeekReadings$Test")) fr lo h0 r.2 (QX G [] (rsA r.1) h0 r.2) 0 [(0, .ref a0)] [] h := by
  unfold X7_test_o_b at hF
  refine v_aload_n dX7_test_0 rfl 0 rfl ?_
  refine v_geti dX7_test_1 fl_X7_80 hF (fun v21 hF => ?_)
  refine v_istore_n dX7_test_4 rfl (Nat.le_of_ble_eq_true rfl) (L' := [(1, .int v21), (0, .ref a0)]) rfl ?_
  refine v_aload_n dX7_test_5 rfl 1 rfl ?_
  refine v_aload_n dX7_test_6 rfl 1 rfl ?_
  rcases bdx_spec hF with ⟨q9, h9, o9, e_h22, w9, e9⟩ | ⟨v23, h22, e_h22, hF⟩
  · subst e9
    exact v_calVXt dX7_test_7 vl_X7_83 q1071 (rc_X7_both e_h22) (ct_X7_both (by omega) (by omega) hf e_h22) rfl rfl (by omega) (by omega) (Nat.le_of_ble_eq_true rfl) (x_out w9 tb0 rfl)
  · refine v_calVXn1 dX7_test_7 vl_X7_83 q1071 (rc_X7_both e_h22) (ct_X7_both (by omega) (by omega) hf e_h22) rfl rfl (by omega) (by omega) (Nat.le_of_ble_eq_true rfl) ?_
    obtain ⟨h24, e_h24, hF⟩ := Option.bind_eq_some_iff.mp hF
    refine v_calV0 dX7_test_10 vl_X7_87 q1115 (rc_X7_add e_h24) (ct_X7_add e_h24) rfl rfl (by omega) (by omega) (Nat.le_of_ble_eq_true rfl) ?_
    refine v_sub [1, 0] rfl (w_X7_test_o_L13 hbf hbl hfr hlo hf ?_ N _ _ _ hF)
    intro v37 v38 h39 hF
    refine v_aload_n dX7_test_33 rfl 0 rfl ?_
    refine v_iconst dX7_test_34 (v := 0) (by decide) ?_
    refine v_iload_n dX7_test_35 rfl 1 rfl ?_
    obtain ⟨v41, h40, e_v41, hF⟩ := bd2_spec hF
    refine v_calV1 dX7_test_36 vl_X7_93 q1120 (rc_X7_joined e_v41) (ct_X7_joined e_v41) rfl rfl (by omega) (by omega) (Nat.le_of_ble_eq_true rfl) ?_
    cases hF
    exact v_toX (v_aret (x := some _) dX7_test_39 rfl (Or.inl ⟨_, rfl⟩) rfl rfl)
def X7_test_o (N : Nat) (f : Nat → Hp → Option ((Nat ⊕ Nat) × Hp)) (a0 : Nat) (h : Hp) : Option ((Nat ⊕ Nat) × Hp) := (ob h a0 [7, 18]).bind fun _ => X7_test_o_b N f a0 h
theorem rc_X7_test_o {N : Nat}  {f : Nat → Hp → Option ((Nat ⊕ Nat) × Hp)} {r : ((Nat ⊕ Nat) × Hp)} {a0 : Nat} {h : Hp} (hF : X7_test_o N f a0 h = some r) : RC h a0 [7, 18] := by
  obtain ⟨o, ho, -⟩ := Option.bind_eq_some_iff.mp hF
  exact ⟨o, ho⟩
theorem ct_X7_test_o {l : Launch} {G : GT} {N : Nat} {f : Nat → Hp → Option ((Nat ⊕ Nat) × Hp)} {frf lof : Nat} (hbf : 56 ≤ frf) (hbl : 1216 ≤ lof) (hf : ∀ (a0 : Nat) (h : Hp) (r : ((Nat ⊕ Nat) × Hp)), f a0 h = some r → RC h a0 [7, 18] ∧ CtX l G yX7_test (ws_ yX7_test cX7_test 2 (Option.some (Jvm.ClassFile.FieldType.object "LeekReadings$Test"))) frf lof [.ref a0] h (rsA r.1) r.2) {r : ((Nat ⊕ Nat) × Hp)} {a0 : Nat} {h : Hp} (hF : X7_test_o N f a0 h = some r) : CtX l G yX7_test (ws_ yX7_test cX7_test 2 (Option.some (Jvm.ClassFile.FieldType.object "LeekReadings$Test"))) (frf + 3) (lof + 66) [.ref a0] h (rsA r.1) r.2 :=
  ctX_of (by decide) (Nat.le_of_ble_eq_true rfl) (w_X7_test_o_b hbf hbl (Nat.le_refl _) (Nat.le_refl _) hf (Option.bind_eq_some_iff.mp hF).choose_spec.2)
def X7_test (N : Nat) : Nat → Nat → Hp → Option ((Nat ⊕ Nat) × Hp)
  | 0, _, _ => none
  | d + 1, a0, h => X7_test_o N (X7_test N d) a0 h
theorem rcd_X7_test {N : Nat} : ∀ (d : Nat) {r : ((Nat ⊕ Nat) × Hp)} {a0 : Nat} {h : Hp} (hF : X7_test N d a0 h = some r), RC h a0 [7, 18] := by
  intro d r a0 h hF
  cases d with
  | zero => cases (show (none : Option ((Nat ⊕ Nat) × Hp)) = some r from hF)
  | succ d => exact rc_X7_test_o hF
theorem ctd_X7_test {l : Launch} {G : GT} {N : Nat} : ∀ (d : Nat) {r : ((Nat ⊕ Nat) × Hp)} {a0 : Nat} {h : Hp} (hF : X7_test N d a0 h = some r), CtX l G yX7_test (ws_ yX7_test cX7_test 2 (Option.some (Jvm.ClassFile.FieldType.object "LeekReadings$Test"))) (56 + 3 * d) (1216 + 66 * d) [.ref a0] h (rsA r.1) r.2 := by
  intro d
  induction d with
  | zero => intro r a0 h hF; cases (show (none : Option ((Nat ⊕ Nat) × Hp)) = some r from hF)
  | succ d ih =>
    intro r a0 h hF
    rw [show 56 + 3 * (d + 1) = (56 + 3 * d) + 3 by omega, show 1216 + 66 * (d + 1) = (1216 + 66 * d) + 66 by omega]
    exact ct_X7_test_o (frf := 56 + 3 * d) (lof := 1216 + 66 * d) (by omega) (by omega) (fun _ _ _ z => ⟨rcd_X7_test d z, ih z⟩) hF
theorem vl_X21_97 : ∀ ci ∈ [18], VL RX21 97 ci yX21_act 0 := by
  intro ci h
  simp only [List.mem_cons, List.not_mem_nil, or_false] at h
  subst h; exact ⟨RX21, TX21, 10, rfl, q176, ⟨by decide, by decide⟩, by decide +kernel, q1160, Or.inl ⟨q1158, qs19⟩⟩
theorem st_X21_101 : (RX21, 101, "times", 21) ∈ strTab := List.mem_of_getElem? (i := 24) rfl
theorem st_X21_109 : (RX21, 109, "if", 12) ∈ strTab := List.mem_of_getElem? (i := 25) rfl
theorem pl_X21_115 : PL RX21 115 [17] 2 (.object "LeekReadings$Test") false := by
  intro ci h
  simp only [List.mem_cons, List.not_mem_nil, or_false] at h
  subst h; exact ⟨RX20, _, TX20, 6, tyX20, rfl, in_X20, by decide, Or.inr ⟨rfl, _, q1176⟩, Or.inl rfl, tyX20_ok, rfl, by decide +kernel, rfl, fun z => by cases z⟩
theorem al_10 : AL "LeekReadings$Act" [17] := by
  intro ci h
  simp only [List.mem_cons, List.not_mem_nil, or_false] at h
  subst h; exact ⟨(RX20, TX20, 6), rfl, Or.inl rfl⟩
theorem fl_X21_33 : FL RX21 33 [18] 8 := by
  intro ci h
  simp only [List.mem_cons, List.not_mem_nil, or_false] at h
  subst h; exact ⟨RX21, _, TX21, 10, rfl, in_X21, by decide, Or.inl q1497, Or.inl rfl⟩
theorem vl_X21_111 : ∀ ci ∈ [18], VL RX21 111 ci yX7_test 0 := by
  intro ci h
  simp only [List.mem_cons, List.not_mem_nil, or_false] at h
  subst h; exact ⟨RX21, TX21, 10, rfl, q158, ⟨by decide, by decide⟩, by decide +kernel, q1066, Or.inr (Or.inr (Or.inl ⟨⟨"LeekReadings$OrderReader", "test", "()LLeekReadings$Test;"⟩, "LeekReadings$Reader", q1210, q1211, q1212, ⟨by decide, by decide⟩, by decide +kernel, Or.inl rfl⟩))⟩
theorem vl_X21_103 : ∀ ci ∈ [18], VL RX21 103 ci yX21_isNought 0 := by
  intro ci h
  simp only [List.mem_cons, List.not_mem_nil, or_false] at h
  subst h; exact ⟨RX21, TX21, 10, rfl, q176, ⟨by decide, by decide⟩, by decide +kernel, q1207, Or.inl ⟨q1205, qs20⟩⟩
theorem pl_X21_107 : PL RX21 107 [17] 3 (.int) false := by
  intro ci h
  simp only [List.mem_cons, List.not_mem_nil, or_false] at h
  subst h; exact ⟨RX20, _, TX20, 6, tyX20, rfl, in_X20, by decide, Or.inr ⟨rfl, _, q1178⟩, Or.inl rfl, tyX20_ok, rfl, by decide +kernel, rfl, fun z => by cases z⟩
def X21_read_J40 (N : Nat) (v26 : Nat) (v27 : Int32) (v28 : Nat) (h29 : Hp) : Option ((Nat ⊕ Unit) × Hp) :=
  (ob h29 v26 [18]).bind fun _ =>
  bd2 (X7_accept N v26 (h29.2.2.1 12) h29) fun v31 h30 =>
  if v31 = 0 then
    (po h30 v28 [17] 2 (va_rf none)).bind fun h33 =>
    (gr h33 v26 [18] 8).bind fun v34 =>
    (sR h33 v34 10 [17] v27 v28).bind fun h35 =>
    some (.inr (), h35)
  else
    (ob h30 v26 [18]).bind fun _ =>
    bdx (X7_test N 16 v26 h30) fun v37 h36 =>
    (po h36 v28 [17] 2 (.ref v37)).bind fun h39 =>
    (gr h39 v26 [18] 8).bind fun v40 =>
    (sR h39 v40 10 [17] v27 v28).bind fun h41 =>
    some (.inr (), h41)
theorem w_X21_read_J40 {l : Launch} {G : GT} {fr lo : Nat} {h0 : Hp} {N : Nat} {r : ((Nat ⊕ Unit) × Hp)} (hfr : 105 ≤ fr) (hlo : 2293 ≤ lo)   {v26 : Nat} {v27 : Int32} {v28 : Nat} {h29 : Hp} (hF : X21_read_J40 N v26 v27 v28 h29 = some r) : V l G cX21_read RX21 "read" 3 (Option.none : Option Jvm.ClassFile.FieldType) fr lo h0 r.2 (QX G [] (rsV r.1) h0 r.2) 40 [(0, .ref v26), (1, .int v27), (2, .ref v28)] [] h29 := by
  unfold X21_read_J40 at hF
  refine v_aload_n dX21_read_40 rfl 2 rfl ?_
  refine v_aload_n dX21_read_41 rfl 0 rfl ?_
  refine v_ldcS dX21_read_42 st_X21_109 ?_
  obtain ⟨o32, q_o32, hF⟩ := Option.bind_eq_some_iff.mp hF
  obtain ⟨v31, h30, e_v31, hF⟩ := bd2_spec hF
  refine v_calV1 dX21_read_44 vl_X21_76 q970 ⟨o32, q_o32⟩ (ct_X7_accept e_v31) rfl rfl (Nat.le_trans (Nat.le_of_ble_eq_true rfl) hfr) (Nat.le_trans (Nat.le_of_ble_eq_true rfl) hlo) (Nat.le_of_ble_eq_true rfl) ?_
  refine v_if_eq (tgt := 57) dX21_read_47 (by decide) hF (fun hF => ?_) (fun hF => ?_)
  · refine v_null dX21_read_57 ?_
    refine v_put dX21_read_58 pl_X21_115 (fun z => by cases z) (nar_q _) (fit_q _) hF (fun h33 hF => ?_)
    refine v_aload_n dX21_read_61 rfl 0 rfl ?_
    refine v_getr dX21_read_62 fl_X21_33 hF (fun v34 hF => ?_)
    refine v_iload_n dX21_read_65 rfl 1 rfl ?_
    refine v_aload_n dX21_read_66 rfl 2 rfl ?_
    refine v_aast rfl al_10 dX21_read_67 hF (fun h35 hF => ?_)
    cases hF
    exact v_toX (v_vret dX21_read_68 rfl rfl rfl)
  · refine v_aload_n dX21_read_50 rfl 0 rfl ?_
    obtain ⟨o38, q_o38, hF⟩ := Option.bind_eq_some_iff.mp hF
    rcases bdx_spec hF with ⟨q9, h9, o9, e_h36, w9, e9⟩ | ⟨v37, h36, e_h36, hF⟩
    · subst e9
      exact v_calVXt dX21_read_51 vl_X21_111 q1067 ⟨o38, q_o38⟩ (ctd_X7_test 16 e_h36) rfl rfl (Nat.le_trans (Nat.le_of_ble_eq_true rfl) hfr) (Nat.le_trans (Nat.le_of_ble_eq_true rfl) hlo) (Nat.le_of_ble_eq_true rfl) (x_out w9 tb0 rfl)
    · refine v_calVXn1 dX21_read_51 vl_X21_111 q1067 ⟨o38, q_o38⟩ (ctd_X7_test 16 e_h36) rfl rfl (Nat.le_trans (Nat.le_of_ble_eq_true rfl) hfr) (Nat.le_trans (Nat.le_of_ble_eq_true rfl) hlo) (Nat.le_of_ble_eq_true rfl) ?_
      refine v_goto (tgt := 58) dX21_read_54 (by decide) ?_
      refine v_put dX21_read_58 pl_X21_115 (fun z => by cases z) rfl rfl hF (fun h39 hF => ?_)
      refine v_aload_n dX21_read_61 rfl 0 rfl ?_
      refine v_getr dX21_read_62 fl_X21_33 hF (fun v40 hF => ?_)
      refine v_iload_n dX21_read_65 rfl 1 rfl ?_
      refine v_aload_n dX21_read_66 rfl 2 rfl ?_
      refine v_aast rfl al_10 dX21_read_67 hF (fun h41 hF => ?_)
      cases hF
      exact v_toX (v_vret dX21_read_68 rfl rfl rfl)
def X21_read_J27 (N : Nat) (v43 : Nat) (v44 : Int32) (v45 : Nat) (v46 : Int32) (v47 : Nat) (h48 : Hp) : Option ((Nat ⊕ Unit) × Hp) :=
  (ob h48 v47 [18]).bind fun _ =>
  bdx (X7_must v47 v46 h48) fun u_h49 h49 =>
  (ob h49 v43 [18]).bind fun _ =>
  bdx (X7_number N v43 (20 : Int32) h49) fun v52 h51 =>
  (po h51 v45 [17] 3 (.int v52)).bind fun h54 =>
  X21_read_J40 N v43 v44 v45 h54
theorem w_X21_read_J27 {l : Launch} {G : GT} {fr lo : Nat} {h0 : Hp} {N : Nat} {r : ((Nat ⊕ Unit) × Hp)} (hfr : 105 ≤ fr) (hlo : 2293 ≤ lo)   {v43 : Nat} {v44 : Int32} {v45 : Nat} {v46 : Int32} {v47 : Nat} {h48 : Hp} (hF : X21_read_J27 N v43 v44 v45 v46 v47 h48 = some r) : V l G cX21_read RX21 "read" 3 (Option.none : Option Jvm.ClassFile.FieldType) fr lo h0 r.2 (QX G [] (rsV r.1) h0 r.2) 27 [(0, .ref v43), (1, .int v44), (2, .ref v45)] [.int v46, .ref v47] h48 := by
  unfold X21_read_J27 at hF
  obtain ⟨o50, q_o50, hF⟩ := Option.bind_eq_some_iff.mp hF
  rcases bdx_spec hF with ⟨q9, h9, o9, e_h49, w9, e9⟩ | ⟨u_h49, h49, e_h49, hF⟩
  · subst e9
    exact v_calVXt dX21_read_27 vl_X21_93 q843 ⟨o50, q_o50⟩ (ct_X7_must e_h49) rfl rfl (Nat.le_trans (Nat.le_of_ble_eq_true rfl) hfr) (Nat.le_trans (Nat.le_of_ble_eq_true rfl) hlo) (Nat.le_of_ble_eq_true rfl) (x_out w9 tb0 rfl)
  · refine v_calVXn0 dX21_read_27 vl_X21_93 q843 ⟨o50, q_o50⟩ (ct_X7_must e_h49) rfl rfl (Nat.le_trans (Nat.le_of_ble_eq_true rfl) hfr) (Nat.le_trans (Nat.le_of_ble_eq_true rfl) hlo) (Nat.le_of_ble_eq_true rfl) ?_
    refine v_aload_n dX21_read_30 rfl 2 rfl ?_
    refine v_aload_n dX21_read_31 rfl 0 rfl ?_
    refine v_bipush dX21_read_32 (v := 20) (by decide) ?_
    obtain ⟨o53, q_o53, hF⟩ := Option.bind_eq_some_iff.mp hF
    rcases bdx_spec hF with ⟨q9, h9, o9, e_h51, w9, e9⟩ | ⟨v52, h51, e_h51, hF⟩
    · subst e9
      exact v_calVXt dX21_read_34 vl_X21_67 q983 ⟨o53, q_o53⟩ (ct_X7_number e_h51) rfl rfl (Nat.le_trans (Nat.le_of_ble_eq_true rfl) hfr) (Nat.le_trans (Nat.le_of_ble_eq_true rfl) hlo) (Nat.le_of_ble_eq_true rfl) (x_out w9 tb0 rfl)
    · refine v_calVXn1 dX21_read_34 vl_X21_67 q983 ⟨o53, q_o53⟩ (ct_X7_number e_h51) rfl rfl (Nat.le_trans (Nat.le_of_ble_eq_true rfl) hfr) (Nat.le_trans (Nat.le_of_ble_eq_true rfl) hlo) (Nat.le_of_ble_eq_true rfl) ?_
      refine v_put dX21_read_37 pl_X21_107 (fun z => by cases z) rfl rfl hF (fun h54 hF => ?_)
      exact v_sub [0, 1, 2] rfl (w_X21_read_J40 hfr hlo hF)
def X21_read_b (N : Nat) (a0 : Nat) (a1 : Int32) (h : Hp) : Option ((Nat ⊕ Unit) × Hp) :=
  bdx (X21_act N a0 h) fun v22 h21 =>
  (ob h21 a0 [18]).bind fun _ =>
  bd2 (X7_accept N a0 (h21.2.2.1 21) h21) fun v24 h23 =>
  if v24 = 0 then
    X21_read_J40 N a0 a1 v22 h23
  else
    (X21_isNought N h23 a0).bind fun v42 =>
    X21_read_J27 N a0 a1 v22 (if v42 = 0 then (1 : Int32) else (0 : Int32)) a0 h23
theorem w_X21_read_b {l : Launch} {G : GT} {fr lo : Nat} {h0 : Hp} {N : Nat} {r : ((Nat ⊕ Unit) × Hp)} (hfr : 105 ≤ fr) (hlo : 2293 ≤ lo) {a0 : Nat} {a1 : Int32} {h : Hp} (hF : X21_read_b N a0 a1 h = some r) : V l G cX21_read RX21 "read" 3 (Option.none : Option Jvm.ClassFile.FieldType) fr lo h0 r.2 (QX G [] (rsV r.1) h0 r.2) 0 [(0, .ref a0), (1, .int a1)] [] h := by
  unfold X21_read_b at hF
  refine v_aload_n dX21_read_0 rfl 0 rfl ?_
  rcases bdx_spec hF with ⟨q9, h9, o9, e_h21, w9, e9⟩ | ⟨v22, h21, e_h21, hF⟩
  · subst e9
    exact v_calVXt dX21_read_1 vl_X21_97 q1162 (rc_X21_act e_h21) (ct_X21_act e_h21) rfl rfl (Nat.le_trans (Nat.le_of_ble_eq_true rfl) hfr) (Nat.le_trans (Nat.le_of_ble_eq_true rfl) hlo) (Nat.le_of_ble_eq_true rfl) (x_out w9 tb0 rfl)
  · refine v_calVXn1 dX21_read_1 vl_X21_97 q1162 (rc_X21_act e_h21) (ct_X21_act e_h21) rfl rfl (Nat.le_trans (Nat.le_of_ble_eq_true rfl) hfr) (Nat.le_trans (Nat.le_of_ble_eq_true rfl) hlo) (Nat.le_of_ble_eq_true rfl) ?_
    refine v_astore_n dX21_read_4 rfl (Nat.le_of_ble_eq_true rfl) (L' := [(2, .ref v22), (0, .ref a0), (1, .int a1)]) rfl ?_
    refine v_aload_n dX21_read_5 rfl 1 rfl ?_
    refine v_ldcS dX21_read_6 st_X21_101 ?_
    obtain ⟨o25, q_o25, hF⟩ := Option.bind_eq_some_iff.mp hF
    obtain ⟨v24, h23, e_v24, hF⟩ := bd2_spec hF
    refine v_calV1 dX21_read_8 vl_X21_76 q970 ⟨o25, q_o25⟩ (ct_X7_accept e_v24) rfl rfl (Nat.le_trans (Nat.le_of_ble_eq_true rfl) hfr) (Nat.le_trans (Nat.le_of_ble_eq_true rfl) hlo) (Nat.le_of_ble_eq_true rfl) ?_
    refine v_if_eq (tgt := 40) dX21_read_11 (by decide) hF (fun hF => ?_) (fun hF => ?_)
    · exact v_sub [1, 2, 0] rfl (w_X21_read_J40 hfr hlo hF)
    · refine v_aload_n dX21_read_14 rfl 1 rfl ?_
      refine v_aload_n dX21_read_15 rfl 1 rfl ?_
      obtain ⟨v42, e_v42, hF⟩ := Option.bind_eq_some_iff.mp hF
      refine v_calV1 dX21_read_16 vl_X21_103 q1208 (rc_X21_isNought e_v42) (ct_X21_isNought e_v42) rfl rfl (Nat.le_trans (Nat.le_of_ble_eq_true rfl) hfr) (Nat.le_trans (Nat.le_of_ble_eq_true rfl) hlo) (Nat.le_of_ble_eq_true rfl) ?_
      refine v_tern (c := v42 = 0) (x := (1 : Int32)) (y := (0 : Int32)) (pcj := 27) (st := [.ref a0]) ?_ (fun kt kf => v_if_ne0 (tgt := 26) dX21_read_19 (by decide) kt kf) (fun K => ?_) (fun K => ?_)
      · exact v_sub [1, 2, 0] rfl (w_X21_read_J27 hfr hlo hF)
      · refine v_iconst dX21_read_22 (v := 1) (by decide) ?_
        refine v_goto (tgt := 27) dX21_read_23 (by decide) ?_
        exact K
      · refine v_iconst dX21_read_26 (v := 0) (by decide) ?_
        exact K
def X21_read (N : Nat) (a0 : Nat) (a1 : Int32) (h : Hp) : Option ((Nat ⊕ Unit) × Hp) := (ob h a0 [18]).bind fun _ => X21_read_b N a0 a1 h
theorem rc_X21_read {N : Nat}  {r : ((Nat ⊕ Unit) × Hp)} {a0 : Nat} {a1 : Int32} {h : Hp} (hF : X21_read N a0 a1 h = some r) : RC h a0 [18] := by
  obtain ⟨o, ho, -⟩ := Option.bind_eq_some_iff.mp hF
  exact ⟨o, ho⟩
theorem ct_X21_read {l : Launch} {G : GT} {N : Nat} {r : ((Nat ⊕ Unit) × Hp)} {a0 : Nat} {a1 : Int32} {h : Hp} (hF : X21_read N a0 a1 h = some r) : CtX l G yX21_read (ws_ yX21_read cX21_read 3 (Option.none : Option Jvm.ClassFile.FieldType)) 105 2293 [.ref a0, .int a1] h (rsV r.1) r.2 :=
  ctX_of (by decide) (Nat.le_of_ble_eq_true rfl) (w_X21_read_b (Nat.le_refl _) (Nat.le_refl _) (Option.bind_eq_some_iff.mp hF).choose_spec.2)
theorem pl_X15_7 : PL RX15 7 [13] 0 (.int) true := by
  intro ci h
  simp only [List.mem_cons, List.not_mem_nil, or_false] at h
  subst h; exact ⟨RX15, _, TX15, 4, tyX15, rfl, in_X15, by decide, Or.inl q1140, Or.inl rfl, tyX15_ok, rfl, by decide +kernel, rfl, fun _ => rfl⟩
theorem pl_X15_13 : PL RX15 13 [13] 1 (.object "LeekReadings$Sum") true := by
  intro ci h
  simp only [List.mem_cons, List.not_mem_nil, or_false] at h
  subst h; exact ⟨RX15, _, TX15, 4, tyX15, rfl, in_X15, by decide, Or.inl q1142, Or.inl rfl, tyX15_ok, rfl, by decide +kernel, rfl, fun _ => rfl⟩
theorem pl_X15_17 : PL RX15 17 [13] 2 (.object "LeekReadings$Test") true := by
  intro ci h
  simp only [List.mem_cons, List.not_mem_nil, or_false] at h
  subst h; exact ⟨RX15, _, TX15, 4, tyX15, rfl, in_X15, by decide, Or.inl q1143, Or.inl rfl, tyX15_ok, rfl, by decide +kernel, rfl, fun _ => rfl⟩
def X15_init_b (a0 : Nat) (a1 : Int32) (a2 : Option Nat) (a3 : Option Nat) (h : Hp) : Option Hp :=
  (po h a0 [13] 0 (.int a1)).bind fun h21 =>
  (po h21 a0 [13] 1 (va_rf a2)).bind fun h22 =>
  (po h22 a0 [13] 2 (va_rf a3)).bind fun h23 =>
  some h23
theorem w_X15_init_b {l : Launch} {G : GT} {fr lo : Nat} {h0 : Hp} {r : Hp} (hfr : 1 ≤ fr) (hlo : 20 ≤ lo) {a0 : Nat} {a1 : Int32} {a2 : Option Nat} {a3 : Option Nat} {h : Hp} (hF : X15_init_b a0 a1 a2 a3 h = some r) : V l G cX15_init RX15 "<init>" 4 (Option.none : Option Jvm.ClassFile.FieldType) fr lo h0 r (QM G none h0 r) 0 [(0, .ref a0), (1, .int a1), (2, va_rf a2), (3, va_rf a3)] [] h := by
  unfold X15_init_b at hF
  refine v_aload_n dX15_init_0 rfl 0 rfl ?_
  refine v_objInit dX15_init_1 q1139 q184 q185 (by omega) (by omega) (Nat.le_of_ble_eq_true rfl) ?_
  refine v_aload_n dX15_init_4 rfl 0 rfl ?_
  refine v_iload_n dX15_init_5 rfl 1 rfl ?_
  refine v_put dX15_init_6 pl_X15_7 (fun _ => rfl) rfl rfl hF (fun h21 hF => ?_)
  refine v_aload_n dX15_init_9 rfl 0 rfl ?_
  refine v_aloadq_n dX15_init_10 rfl 2 rfl ?_
  refine v_put dX15_init_11 pl_X15_13 (fun _ => rfl) (nar_q _) (fit_q _) hF (fun h22 hF => ?_)
  refine v_aload_n dX15_init_14 rfl 0 rfl ?_
  refine v_aloadq_n dX15_init_15 rfl 3 rfl ?_
  refine v_put dX15_init_16 pl_X15_17 (fun _ => rfl) (nar_q _) (fit_q _) hF (fun h23 hF => ?_)
  cases hF
  exact v_vret dX15_init_19 rfl rfl rfl
def X15_init (a0 : Nat) (a1 : Int32) (a2 : Option Nat) (a3 : Option Nat) (h : Hp) : Option Hp := (ob h a0 [13]).bind fun _ => X15_init_b a0 a1 a2 a3 h
theorem rc_X15_init  {r : Hp} {a0 : Nat} {a1 : Int32} {a2 : Option Nat} {a3 : Option Nat} {h : Hp} (hF : X15_init a0 a1 a2 a3 h = some r) : RC h a0 [13] := by
  obtain ⟨o, ho, -⟩ := Option.bind_eq_some_iff.mp hF
  exact ⟨o, ho⟩
theorem ct_X15_init {l : Launch} {G : GT} {r : Hp} {a0 : Nat} {a1 : Int32} {a2 : Option Nat} {a3 : Option Nat} {h : Hp} (hF : X15_init a0 a1 a2 a3 h = some r) : Ct l G yX15_init (ws_ yX15_init cX15_init 4 (Option.none : Option Jvm.ClassFile.FieldType)) 1 20 [.ref a0, .int a1, va_rf a2, va_rf a3] h none r := by
  cases a2 <;> cases a3 <;> exact ct_of (by decide) (Nat.le_of_ble_eq_true rfl) (w_X15_init_b (Nat.le_refl _) (Nat.le_refl _) (Option.bind_eq_some_iff.mp hF).choose_spec.2)
theorem vl_X8_66 : ∀ ci ∈ [7], VL RX8 66 ci yX7_which 1 := by
  intro ci h
  simp only [List.mem_cons, List.not_mem_nil, or_false] at h
  subst h; exact ⟨RX8, TX8, 11, rfl, q158, ⟨by decide, by decide⟩, by decide +kernel, q878, Or.inr (Or.inr (Or.inl ⟨⟨"LeekReadings$LawReader", "which", "([Ljava/lang/String;)I"⟩, "LeekReadings$Reader", q874, q875, q877, ⟨by decide, by decide⟩, by decide +kernel, Or.inl rfl⟩))⟩
theorem vl_X8_70 : ∀ ci ∈ [7], VL RX8 70 ci yX7_must 1 := by
  intro ci h
  simp only [List.mem_cons, List.not_mem_nil, or_false] at h
  subst h; exact ⟨RX8, TX8, 11, rfl, q158, ⟨by decide, by decide⟩, by decide +kernel, q839, Or.inr (Or.inr (Or.inl ⟨⟨"LeekReadings$LawReader", "must", "(Z)V"⟩, "LeekReadings$Reader", q932, q933, q935, ⟨by decide, by decide⟩, by decide +kernel, Or.inl rfl⟩))⟩
theorem vl_X8_74 : ∀ ci ∈ [7], VL RX8 74 ci yX7_next 0 := by
  intro ci h
  simp only [List.mem_cons, List.not_mem_nil, or_false] at h
  subst h; exact ⟨RX8, TX8, 11, rfl, q158, ⟨by decide, by decide⟩, by decide +kernel, q827, Or.inr (Or.inr (Or.inl ⟨⟨"LeekReadings$LawReader", "next", "()V"⟩, "LeekReadings$Reader", q936, q937, q939, ⟨by decide, by decide⟩, by decide +kernel, Or.inl rfl⟩))⟩
theorem nl_X8_35 : NL RX8 35 13 4 [.int 0, .null, .null, .long 0] := ⟨RX15, TX15, tyX15, rfl, in_X15, tyX15_ok, q774, q1056, q168, by decide +kernel⟩
theorem st_X8_82 : (RX8, 82, "if", 12) ∈ strTab := List.mem_of_getElem? (i := 12) rfl
theorem vl_X8_84 : ∀ ci ∈ [7], VL RX8 84 ci yX7_accept 1 := by
  intro ci h
  simp only [List.mem_cons, List.not_mem_nil, or_false] at h
  subst h; exact ⟨RX8, TX8, 11, rfl, q158, ⟨by decide, by decide⟩, by decide +kernel, q966, Or.inr (Or.inr (Or.inl ⟨⟨"LeekReadings$LawReader", "accept", "(Ljava/lang/String;)Z"⟩, "LeekReadings$Reader", q1058, q1059, q1061, ⟨by decide, by decide⟩, by decide +kernel, Or.inl rfl⟩))⟩
theorem il_X8_92 : IL RX8 92 yX15_init 3 := ⟨q168, ⟨by decide, by decide⟩, by decide +kernel, q1137, rfl, Or.inl q1136⟩
theorem al_7 : AL "LeekReadings$Clause" [13] := by
  intro ci h
  simp only [List.mem_cons, List.not_mem_nil, or_false] at h
  subst h; exact ⟨(RX15, TX15, 4), rfl, Or.inl rfl⟩
theorem vl_X8_88 : ∀ ci ∈ [7], VL RX8 88 ci yX7_test 0 := by
  intro ci h
  simp only [List.mem_cons, List.not_mem_nil, or_false] at h
  subst h; exact ⟨RX8, TX8, 11, rfl, q158, ⟨by decide, by decide⟩, by decide +kernel, q1066, Or.inr (Or.inr (Or.inl ⟨⟨"LeekReadings$LawReader", "test", "()LLeekReadings$Test;"⟩, "LeekReadings$Reader", q1062, q1063, q1065, ⟨by decide, by decide⟩, by decide +kernel, Or.inl rfl⟩))⟩
theorem fl_X8_37 : FL RX8 37 [7] 8 := by
  intro ci h
  simp only [List.mem_cons, List.not_mem_nil, or_false] at h
  subst h; exact ⟨RX8, _, TX8, 11, rfl, in_X8, by decide, Or.inl q778, Or.inl rfl⟩
theorem vl_X8_78 : ∀ ci ∈ [7], VL RX8 78 ci yX7_sum 0 := by
  intro ci h
  simp only [List.mem_cons, List.not_mem_nil, or_false] at h
  subst h; exact ⟨RX8, TX8, 11, rfl, q158, ⟨by decide, by decide⟩, by decide +kernel, q944, Or.inr (Or.inr (Or.inl ⟨⟨"LeekReadings$LawReader", "sum", "()LLeekReadings$Sum;"⟩, "LeekReadings$Reader", q940, q941, q943, ⟨by decide, by decide⟩, by decide +kernel, Or.inl rfl⟩))⟩
theorem fl_X8_47 : FL RX8 47 [7] 9 := by
  intro ci h
  simp only [List.mem_cons, List.not_mem_nil, or_false] at h
  subst h; exact ⟨RX8, _, TX8, 11, rfl, in_X8, by decide, Or.inl q779, Or.inl rfl⟩
def X8_read_2_J69 (N : Nat) (v46 : Option Nat) (v47 : Option Nat) (v48 : Int32) (v49 : Nat) (v50 : Nat) (v51 : Int32) (v52 : Nat) (h53 : Hp) : Option ((Nat ⊕ Unit) × Hp) :=
  (X15_init v49 v48 v47 v46 h53).bind fun h54 =>
  (sR h54 v52 7 [13] v51 v50).bind fun h55 =>
  some (.inr (), h55)
theorem w_X8_read_2_J69 {l : Launch} {G : GT} {fr lo : Nat} {h0 : Hp} {N : Nat} {r : ((Nat ⊕ Unit) × Hp)} (hfr : 105 ≤ fr) (hlo : 2293 ≤ lo)   {v46 : Option Nat} {v47 : Option Nat} {v48 : Int32} {v49 : Nat} {v50 : Nat} {v51 : Int32} {v52 : Nat} {h53 : Hp} (hF : X8_read_2_J69 N v46 v47 v48 v49 v50 v51 v52 h53 = some r) : V l G cX8_read_2 RX8 "read" 4 (Option.none : Option Jvm.ClassFile.FieldType) fr lo h0 r.2 (QX G [] (rsV r.1) h0 r.2) 69 [] [va_rf v46, va_rf v47, .int v48, .ref v49, .ref v50, .int v51, .ref v52] h53 := by
  unfold X8_read_2_J69 at hF
  obtain ⟨h54, e_h54, hF⟩ := Option.bind_eq_some_iff.mp hF
  refine v_calI dX8_read_2_69 il_X8_92 q1138 (ct_X15_init e_h54) rfl rfl (Nat.le_trans (Nat.le_of_ble_eq_true rfl) hfr) (Nat.le_trans (Nat.le_of_ble_eq_true rfl) hlo) (Nat.le_of_ble_eq_true rfl) ?_
  refine v_aast rfl al_7 dX8_read_2_72 hF (fun h55 hF => ?_)
  cases hF
  exact v_toX (v_vret dX8_read_2_73 rfl rfl rfl)
def X8_read_2_J40 (N : Nat) (v35 : Nat) (v36 : Int32) (v37 : Int32) (v38 : Option Nat) (h39 : Hp) : Option ((Nat ⊕ Unit) × Hp) :=
  (gr h39 v35 [7] 8).bind fun v40 =>
  bd2 (nwo h39 13 4 [.int 0, .null, .null, .long 0]) fun a41 h42 =>
  (ob h42 v35 [7]).bind fun _ =>
  bd2 (X7_accept N v35 (h42.2.2.1 12) h42) fun v44 h43 =>
  if v44 = 0 then
    X8_read_2_J69 N none v38 v37 a41 a41 v36 v40 h43
  else
    (ob h43 v35 [7]).bind fun _ =>
    bdx (X7_test N 16 v35 h43) fun v57 h56 =>
    X8_read_2_J69 N (some v57) v38 v37 a41 a41 v36 v40 h56
theorem w_X8_read_2_J40 {l : Launch} {G : GT} {fr lo : Nat} {h0 : Hp} {N : Nat} {r : ((Nat ⊕ Unit) × Hp)} (hfr : 105 ≤ fr) (hlo : 2293 ≤ lo)   {v35 : Nat} {v36 : Int32} {v37 : Int32} {v38 : Option Nat} {h39 : Hp} (hF : X8_read_2_J40 N v35 v36 v37 v38 h39 = some r) : V l G cX8_read_2 RX8 "read" 4 (Option.none : Option Jvm.ClassFile.FieldType) fr lo h0 r.2 (QX G [] (rsV r.1) h0 r.2) 40 [(0, .ref v35), (1, .int v36), (2, .int v37)] [va_rf v38] h39 := by
  unfold X8_read_2_J40 at hF
  refine v_astoreq_n dX8_read_2_40 rfl (Nat.le_of_ble_eq_true rfl) (L' := [(3, va_rf v38), (0, .ref v35), (1, .int v36), (2, .int v37)]) rfl ?_
  refine v_aload_n dX8_read_2_41 rfl 1 rfl ?_
  refine v_getr dX8_read_2_42 fl_X8_37 hF (fun v40 hF => ?_)
  refine v_iload_n dX8_read_2_45 rfl 2 rfl ?_
  refine v_new dX8_read_2_46 nl_X8_35 hF (fun a41 h42 hF => ?_)
  refine v_dup dX8_read_2_49 rfl ?_
  refine v_iload_n dX8_read_2_50 rfl 3 rfl ?_
  refine v_aloadq_n dX8_read_2_51 rfl 0 rfl ?_
  refine v_aload_n dX8_read_2_52 rfl 1 rfl ?_
  refine v_ldcS dX8_read_2_53 st_X8_82 ?_
  obtain ⟨o45, q_o45, hF⟩ := Option.bind_eq_some_iff.mp hF
  obtain ⟨v44, h43, e_v44, hF⟩ := bd2_spec hF
  refine v_calV1 dX8_read_2_55 vl_X8_84 q970 ⟨o45, q_o45⟩ (ct_X7_accept e_v44) rfl rfl (Nat.le_trans (Nat.le_of_ble_eq_true rfl) hfr) (Nat.le_trans (Nat.le_of_ble_eq_true rfl) hlo) (by cases v38 <;> exact Nat.le_of_ble_eq_true rfl) ?_
  refine v_if_eq (tgt := 68) dX8_read_2_58 (by decide) hF (fun hF => ?_) (fun hF => ?_)
  · refine v_null dX8_read_2_68 ?_
    exact v_sub [] rfl (w_X8_read_2_J69 hfr hlo hF)
  · refine v_aload_n dX8_read_2_61 rfl 1 rfl ?_
    obtain ⟨o58, q_o58, hF⟩ := Option.bind_eq_some_iff.mp hF
    rcases bdx_spec hF with ⟨q9, h9, o9, e_h56, w9, e9⟩ | ⟨v57, h56, e_h56, hF⟩
    · subst e9
      exact v_calVXt dX8_read_2_62 vl_X8_88 q1067 ⟨o58, q_o58⟩ (ctd_X7_test 16 e_h56) rfl rfl (Nat.le_trans (Nat.le_of_ble_eq_true rfl) hfr) (Nat.le_trans (Nat.le_of_ble_eq_true rfl) hlo) (by cases v38 <;> exact Nat.le_of_ble_eq_true rfl) (x_out w9 tb0 rfl)
    · refine v_calVXn1 dX8_read_2_62 vl_X8_88 q1067 ⟨o58, q_o58⟩ (ctd_X7_test 16 e_h56) rfl rfl (Nat.le_trans (Nat.le_of_ble_eq_true rfl) hfr) (Nat.le_trans (Nat.le_of_ble_eq_true rfl) hlo) (by cases v38 <;> exact Nat.le_of_ble_eq_true rfl) ?_
      refine v_goto (tgt := 69) dX8_read_2_65 (by decide) ?_
      exact v_sub [] rfl (w_X8_read_2_J69 hfr hlo hF)
def X8_read_2_J20 (N : Nat) (v25 : Nat) (v26 : Int32) (v27 : Int32) (v28 : Int32) (v29 : Nat) (h30 : Hp) : Option ((Nat ⊕ Unit) × Hp) :=
  (ob h30 v29 [7]).bind fun _ =>
  bdx (X7_must v29 v28 h30) fun u_h31 h31 =>
  (ob h31 v25 [7]).bind fun _ =>
  (X7_next N v25 h31).bind fun h33 =>
  if (2 : Int32) ≤ v27 then
    X8_read_2_J40 N v25 v26 v27 none h33
  else
    (ob h33 v25 [7]).bind fun _ =>
    bdx (X7_sum N 16 v25 h33) fun v60 h59 =>
    X8_read_2_J40 N v25 v26 v27 (some v60) h59
theorem w_X8_read_2_J20 {l : Launch} {G : GT} {fr lo : Nat} {h0 : Hp} {N : Nat} {r : ((Nat ⊕ Unit) × Hp)} (hfr : 105 ≤ fr) (hlo : 2293 ≤ lo)   {v25 : Nat} {v26 : Int32} {v27 : Int32} {v28 : Int32} {v29 : Nat} {h30 : Hp} (hF : X8_read_2_J20 N v25 v26 v27 v28 v29 h30 = some r) : V l G cX8_read_2 RX8 "read" 4 (Option.none : Option Jvm.ClassFile.FieldType) fr lo h0 r.2 (QX G [] (rsV r.1) h0 r.2) 20 [(0, .ref v25), (1, .int v26), (2, .int v27)] [.int v28, .ref v29] h30 := by
  unfold X8_read_2_J20 at hF
  obtain ⟨o32, q_o32, hF⟩ := Option.bind_eq_some_iff.mp hF
  rcases bdx_spec hF with ⟨q9, h9, o9, e_h31, w9, e9⟩ | ⟨u_h31, h31, e_h31, hF⟩
  · subst e9
    exact v_calVXt dX8_read_2_20 vl_X8_70 q843 ⟨o32, q_o32⟩ (ct_X7_must e_h31) rfl rfl (Nat.le_trans (Nat.le_of_ble_eq_true rfl) hfr) (Nat.le_trans (Nat.le_of_ble_eq_true rfl) hlo) (Nat.le_of_ble_eq_true rfl) (x_out w9 tb0 rfl)
  · refine v_calVXn0 dX8_read_2_20 vl_X8_70 q843 ⟨o32, q_o32⟩ (ct_X7_must e_h31) rfl rfl (Nat.le_trans (Nat.le_of_ble_eq_true rfl) hfr) (Nat.le_trans (Nat.le_of_ble_eq_true rfl) hlo) (Nat.le_of_ble_eq_true rfl) ?_
    refine v_aload_n dX8_read_2_23 rfl 0 rfl ?_
    obtain ⟨o34, q_o34, hF⟩ := Option.bind_eq_some_iff.mp hF
    obtain ⟨h33, e_h33, hF⟩ := Option.bind_eq_some_iff.mp hF
    refine v_calV0 dX8_read_2_24 vl_X8_74 q831 ⟨o34, q_o34⟩ (ct_X7_next e_h33) rfl rfl (Nat.le_trans (Nat.le_of_ble_eq_true rfl) hfr) (Nat.le_trans (Nat.le_of_ble_eq_true rfl) hlo) (Nat.le_of_ble_eq_true rfl) ?_
    refine v_iload_n dX8_read_2_27 rfl 2 rfl ?_
    refine v_iconst dX8_read_2_28 (v := 2) (by decide) ?_
    refine v_icmp_ge (tgt := 39) dX8_read_2_29 (by decide) hF (fun hF => ?_) (fun hF => ?_)
    · refine v_null dX8_read_2_39 ?_
      exact v_sub [0, 1, 2] rfl (w_X8_read_2_J40 hfr hlo hF)
    · refine v_aload_n dX8_read_2_32 rfl 0 rfl ?_
      obtain ⟨o61, q_o61, hF⟩ := Option.bind_eq_some_iff.mp hF
      rcases bdx_spec hF with ⟨q9, h9, o9, e_h59, w9, e9⟩ | ⟨v60, h59, e_h59, hF⟩
      · subst e9
        exact v_calVXt dX8_read_2_33 vl_X8_78 q945 ⟨o61, q_o61⟩ (ctd_X7_sum 16 e_h59) rfl rfl (Nat.le_trans (Nat.le_of_ble_eq_true rfl) hfr) (Nat.le_trans (Nat.le_of_ble_eq_true rfl) hlo) (Nat.le_of_ble_eq_true rfl) (x_out w9 tb0 rfl)
      · refine v_calVXn1 dX8_read_2_33 vl_X8_78 q945 ⟨o61, q_o61⟩ (ctd_X7_sum 16 e_h59) rfl rfl (Nat.le_trans (Nat.le_of_ble_eq_true rfl) hfr) (Nat.le_trans (Nat.le_of_ble_eq_true rfl) hlo) (Nat.le_of_ble_eq_true rfl) ?_
        refine v_goto (tgt := 40) dX8_read_2_36 (by decide) ?_
        exact v_sub [0, 1, 2] rfl (w_X8_read_2_J40 hfr hlo hF)
def X8_read_2_b (N : Nat) (a0 : Nat) (a1 : Int32) (h : Hp) : Option ((Nat ⊕ Unit) × Hp) :=
  (gr h a0 [7] 9).bind fun v21 =>
  (ob h a0 [7]).bind fun _ =>
  bd2 (X7_which N a0 v21 h) fun v23 h22 =>
  X8_read_2_J20 N a0 a1 v23 (if v23 = (-1 : Int32) then (0 : Int32) else (1 : Int32)) a0 h22
theorem w_X8_read_2_b {l : Launch} {G : GT} {fr lo : Nat} {h0 : Hp} {N : Nat} {r : ((Nat ⊕ Unit) × Hp)} (hfr : 105 ≤ fr) (hlo : 2293 ≤ lo) {a0 : Nat} {a1 : Int32} {h : Hp} (hF : X8_read_2_b N a0 a1 h = some r) : V l G cX8_read_2 RX8 "read" 4 (Option.none : Option Jvm.ClassFile.FieldType) fr lo h0 r.2 (QX G [] (rsV r.1) h0 r.2) 0 [(0, .ref a0), (1, .int a1)] [] h := by
  unfold X8_read_2_b at hF
  refine v_aload_n dX8_read_2_0 rfl 0 rfl ?_
  refine v_aload_n dX8_read_2_1 rfl 0 rfl ?_
  refine v_getr dX8_read_2_2 fl_X8_47 hF (fun v21 hF => ?_)
  obtain ⟨o24, q_o24, hF⟩ := Option.bind_eq_some_iff.mp hF
  obtain ⟨v23, h22, e_v23, hF⟩ := bd2_spec hF
  refine v_calV1 dX8_read_2_5 vl_X8_66 q879 ⟨o24, q_o24⟩ (ct_X7_which e_v23) rfl rfl (Nat.le_trans (Nat.le_of_ble_eq_true rfl) hfr) (Nat.le_trans (Nat.le_of_ble_eq_true rfl) hlo) (Nat.le_of_ble_eq_true rfl) ?_
  refine v_istore_n dX8_read_2_8 rfl (Nat.le_of_ble_eq_true rfl) (L' := [(2, .int v23), (0, .ref a0), (1, .int a1)]) rfl ?_
  refine v_aload_n dX8_read_2_9 rfl 1 rfl ?_
  refine v_iload_n dX8_read_2_10 rfl 0 rfl ?_
  refine v_iconst dX8_read_2_11 (v := -1) (by decide) ?_
  refine v_tern (c := v23 = (-1 : Int32)) (x := (0 : Int32)) (y := (1 : Int32)) (pcj := 20) (st := [.ref a0]) ?_ (fun kt kf => v_icmp_eq0 (tgt := 19) dX8_read_2_12 (by decide) kt kf) (fun K => ?_) (fun K => ?_)
  · exact v_sub [1, 2, 0] rfl (w_X8_read_2_J20 hfr hlo hF)
  · refine v_iconst dX8_read_2_19 (v := 0) (by decide) ?_
    exact K
  · refine v_iconst dX8_read_2_15 (v := 1) (by decide) ?_
    refine v_goto (tgt := 20) dX8_read_2_16 (by decide) ?_
    exact K
def X8_read_2 (N : Nat) (a0 : Nat) (a1 : Int32) (h : Hp) : Option ((Nat ⊕ Unit) × Hp) := (ob h a0 [7]).bind fun _ => X8_read_2_b N a0 a1 h
theorem rc_X8_read_2 {N : Nat}  {r : ((Nat ⊕ Unit) × Hp)} {a0 : Nat} {a1 : Int32} {h : Hp} (hF : X8_read_2 N a0 a1 h = some r) : RC h a0 [7] := by
  obtain ⟨o, ho, -⟩ := Option.bind_eq_some_iff.mp hF
  exact ⟨o, ho⟩
theorem ct_X8_read_2 {l : Launch} {G : GT} {N : Nat} {r : ((Nat ⊕ Unit) × Hp)} {a0 : Nat} {a1 : Int32} {h : Hp} (hF : X8_read_2 N a0 a1 h = some r) : CtX l G yX8_read_2 (ws_ yX8_read_2 cX8_read_2 4 (Option.none : Option Jvm.ClassFile.FieldType)) 105 2293 [.ref a0, .int a1] h (rsV r.1) r.2 :=
  ctX_of (by decide) (Nat.le_of_ble_eq_true rfl) (w_X8_read_2_b (Nat.le_refl _) (Nat.le_refl _) (Option.bind_eq_some_iff.mp hF).choose_spec.2)
def D_rd (N : Nat) (a0 : Nat) (a1 : Int32) (h : Hp) : Option ((Nat ⊕ Unit) × Hp) := (ob h a0 [7, 18]).bind fun o => if o.1 = 7 then X8_read_2 N a0 a1 h else X21_read N a0 a1 h
theorem dd_rd {N : Nat} {a0 : Nat} {a1 : Int32} {h : Hp} {r : (Nat ⊕ Unit) × Hp} (e : D_rd N a0 a1 h = some r) : (RC h a0 [7] ∧ X8_read_2 N a0 a1 h = some r) ∨ (RC h a0 [18] ∧ X21_read N a0 a1 h = some r) := by
  obtain ⟨o, ho, e⟩ := Option.bind_eq_some_iff.mp e
  obtain ⟨g1, g2⟩ := ob_spec ho
  by_cases hc : o.1 = 7
  · rw [if_pos hc] at e
    exact Or.inl ⟨⟨o, by unfold ob; rw [g1]; simp [hc]⟩, e⟩
  · rw [if_neg hc] at e
    have hm := g2
    simp only [List.mem_cons, List.not_mem_nil, or_false] at hm
    have hc : o.1 = 18 := by omega
    exact Or.inr ⟨⟨o, by unfold ob; rw [g1]; simp [hc]⟩, e⟩
theorem vl_X7_32_7 : ∀ ci ∈ [7], VL RX7 32 ci yX8_read_2 1 := by
  intro ci h
  simp only [List.mem_cons, List.not_mem_nil, or_false] at h
  subst h; exact ⟨RX8, TX8, 11, rfl, q159, ⟨by decide, by decide⟩, by decide +kernel, q872, Or.inr (Or.inr (Or.inl ⟨⟨"LeekReadings$Reader", "read", "(I)V"⟩, "LeekReadings$Reader", q868, q870, q871, ⟨by decide, by decide⟩, by decide +kernel, Or.inr (Or.inr q869)⟩))⟩
theorem vl_X7_32_18 : ∀ ci ∈ [18], VL RX7 32 ci yX21_read 1 := by
  intro ci h
  simp only [List.mem_cons, List.not_mem_nil, or_false] at h
  subst h; exact ⟨RX21, TX21, 10, rfl, q176, ⟨by decide, by decide⟩, by decide +kernel, q1156, Or.inr (Or.inr (Or.inl ⟨⟨"LeekReadings$Reader", "read", "(I)V"⟩, "LeekReadings$Reader", q868, q870, q1155, ⟨by decide, by decide⟩, by decide +kernel, Or.inr (Or.inr q869)⟩))⟩
theorem st_X7_36 : (RX7, 36, ";", 22) ∈ strTab := List.mem_of_getElem? (i := 26) rfl
def X7_readAll_J18 (N : Nat) (c6 : Nat → Int32 → Hp → Option ((Nat ⊕ Int32) × Hp)) (x6 : Nat → Int32 → Hp → Option ((Nat ⊕ Int32) × Hp)) (v28 : Nat) (v29 : Int32) (v30 : Int32) (v31 : Nat) (h32 : Hp) : Option ((Nat ⊕ Int32) × Hp) :=
  bdx (X7_must v31 v30 h32) fun u_h33 h33 =>
  bdx (D_rd N v28 v29 h33) fun u_h34 h34 =>
  bd2 (X7_accept N v28 (h34.2.2.1 22) h34) fun v36 h35 =>
  if v36 = 0 then
    x6 v28 (v29 + (1 : Int32)) h35
  else
    c6 v28 (v29 + (1 : Int32)) h35
theorem w_X7_readAll_J18 {l : Launch} {G : GT} {fr lo : Nat} {h0 : Hp} {N : Nat} {r : ((Nat ⊕ Int32) × Hp)} (hfr : 106 ≤ fr) (hlo : 2316 ≤ lo) {c6 : Nat → Int32 → Hp → Option ((Nat ⊕ Int32) × Hp)} {x6 : Nat → Int32 → Hp → Option ((Nat ⊕ Int32) × Hp)} (hc6 : ∀ (v22 : Nat) (v23 : Int32) (h24 : Hp), c6 v22 v23 h24 = some r → V l G cX7_readAll RX7 "readAll" 2 (Option.some Jvm.ClassFile.FieldType.int) fr lo h0 r.2 (QX G [] (rsI r.1) h0 r.2) 6 [(0, .ref v22), (1, .int v23)] [] h24) (hx6 : ∀ (v25 : Nat) (v26 : Int32) (h27 : Hp), x6 v25 v26 h27 = some r → V l G cX7_readAll RX7 "readAll" 2 (Option.some Jvm.ClassFile.FieldType.int) fr lo h0 r.2 (QX G [] (rsI r.1) h0 r.2) 38 [(0, .ref v25), (1, .int v26)] [] h27) {v28 : Nat} {v29 : Int32} {v30 : Int32} {v31 : Nat} {h32 : Hp} (hF : X7_readAll_J18 N c6 x6 v28 v29 v30 v31 h32 = some r) : V l G cX7_readAll RX7 "readAll" 2 (Option.some Jvm.ClassFile.FieldType.int) fr lo h0 r.2 (QX G [] (rsI r.1) h0 r.2) 18 [(0, .ref v28), (1, .int v29)] [.int v30, .ref v31] h32 := by
  unfold X7_readAll_J18 at hF
  rcases bdx_spec hF with ⟨q9, h9, o9, e_h33, w9, e9⟩ | ⟨u_h33, h33, e_h33, hF⟩
  · subst e9
    exact v_calVXt dX7_readAll_18 vl_X7_28 q843 (rc_X7_must e_h33) (ct_X7_must e_h33) rfl rfl (Nat.le_trans (Nat.le_of_ble_eq_true rfl) hfr) (Nat.le_trans (Nat.le_of_ble_eq_true rfl) hlo) (Nat.le_of_ble_eq_true rfl) (x_out w9 tb0 rfl)
  · refine v_calVXn0 dX7_readAll_18 vl_X7_28 q843 (rc_X7_must e_h33) (ct_X7_must e_h33) rfl rfl (Nat.le_trans (Nat.le_of_ble_eq_true rfl) hfr) (Nat.le_trans (Nat.le_of_ble_eq_true rfl) hlo) (Nat.le_of_ble_eq_true rfl) ?_
    refine v_aload_n dX7_readAll_21 rfl 0 rfl ?_
    refine v_iload_n dX7_readAll_22 rfl 1 rfl ?_
    rcases bdx_spec hF with ⟨q9, h9, o9, e_h34, w9, e9⟩ | ⟨u_h34, h34, e_h34, hF⟩
    · subst e9
      rcases dd_rd e_h34 with ⟨rc9, e8⟩ | ⟨rc9, e8⟩
      · exact v_calVXt dX7_readAll_23 vl_X7_32_7 q873 rc9 (ct_X8_read_2 e8) rfl rfl (Nat.le_trans (Nat.le_of_ble_eq_true rfl) hfr) (Nat.le_trans (Nat.le_of_ble_eq_true rfl) hlo) (Nat.le_of_ble_eq_true rfl) (x_out w9 tb0 rfl)
      · exact v_calVXt dX7_readAll_23 vl_X7_32_18 q1157 rc9 (ct_X21_read e8) rfl rfl (Nat.le_trans (Nat.le_of_ble_eq_true rfl) hfr) (Nat.le_trans (Nat.le_of_ble_eq_true rfl) hlo) (Nat.le_of_ble_eq_true rfl) (x_out w9 tb0 rfl)
    · refine v_dispK (P := V l G cX7_readAll RX7 "readAll" 2 (Option.some Jvm.ClassFile.FieldType.int) fr lo h0 r.2 (QX G [] (rsI r.1) h0 r.2) 26 [(0, .ref v28), (1, .int v29)] [] h34) ?_ (fun K9 => ?_)
      · refine v_iinc dX7_readAll_26 1 rfl (v := v29 + (1 : Int32)) (by rfl) (Nat.le_of_ble_eq_true rfl) (L' := [(1, .int (v29 + (1 : Int32))), (0, .ref v28)]) rfl ?_
        refine v_aload_n dX7_readAll_29 rfl 1 rfl ?_
        refine v_ldcS dX7_readAll_30 st_X7_36 ?_
        obtain ⟨v36, h35, e_v36, hF⟩ := bd2_spec hF
        refine v_calV1 dX7_readAll_32 vl_X7_38 q970 (rc_X7_accept e_v36) (ct_X7_accept e_v36) rfl rfl (Nat.le_trans (Nat.le_of_ble_eq_true rfl) hfr) (Nat.le_trans (Nat.le_of_ble_eq_true rfl) hlo) (Nat.le_of_ble_eq_true rfl) ?_
        refine v_if_ne (tgt := 6) dX7_readAll_35 (by decide) hF (fun hF => ?_) (fun hF => ?_)
        · exact v_sub [1, 0] rfl (hc6 _ _ _ hF)
        · exact v_sub [1, 0] rfl (hx6 _ _ _ hF)
      · rcases dd_rd e_h34 with ⟨rc9, e8⟩ | ⟨rc9, e8⟩
        · exact v_calVXn0 dX7_readAll_23 vl_X7_32_7 q873 rc9 (ct_X8_read_2 e8) rfl rfl (Nat.le_trans (Nat.le_of_ble_eq_true rfl) hfr) (Nat.le_trans (Nat.le_of_ble_eq_true rfl) hlo) (Nat.le_of_ble_eq_true rfl) K9
        · exact v_calVXn0 dX7_readAll_23 vl_X7_32_18 q1157 rc9 (ct_X21_read e8) rfl rfl (Nat.le_trans (Nat.le_of_ble_eq_true rfl) hfr) (Nat.le_trans (Nat.le_of_ble_eq_true rfl) hlo) (Nat.le_of_ble_eq_true rfl) K9
def X7_readAll_L6 (N : Nat) (x6 : Nat → Int32 → Hp → Option ((Nat ⊕ Int32) × Hp)) : Nat → Nat → Int32 → Hp → Option ((Nat ⊕ Int32) × Hp)
  | 0, _, _, _ => none
  | n37 + 1, v22, v23, h24 =>
    X7_readAll_J18 N (X7_readAll_L6 N x6 n37) x6 v22 v23 (if (12 : Int32) ≤ v23 then (0 : Int32) else (1 : Int32)) v22 h24
theorem w_X7_readAll_L6 {l : Launch} {G : GT} {fr lo : Nat} {h0 : Hp} {N : Nat} {r : ((Nat ⊕ Int32) × Hp)} (hfr : 106 ≤ fr) (hlo : 2316 ≤ lo) {x6 : Nat → Int32 → Hp → Option ((Nat ⊕ Int32) × Hp)} (hx6 : ∀ (v25 : Nat) (v26 : Int32) (h27 : Hp), x6 v25 v26 h27 = some r → V l G cX7_readAll RX7 "readAll" 2 (Option.some Jvm.ClassFile.FieldType.int) fr lo h0 r.2 (QX G [] (rsI r.1) h0 r.2) 38 [(0, .ref v25), (1, .int v26)] [] h27) : ∀ (n : Nat) (v22 : Nat) (v23 : Int32) (h24 : Hp), X7_readAll_L6 N x6 n v22 v23 h24 = some r → V l G cX7_readAll RX7 "readAll" 2 (Option.some Jvm.ClassFile.FieldType.int) fr lo h0 r.2 (QX G [] (rsI r.1) h0 r.2) 6 [(0, .ref v22), (1, .int v23)] [] h24 := by
  intro n
  induction n with
  | zero =>
    intro v22 v23 h24 hF
    cases (show (none : Option ((Nat ⊕ Int32) × Hp)) = some r from hF)
  | succ n hc6 =>
    intro v22 v23 h24 hF
    rw [X7_readAll_L6] at hF
    refine v_aload_n dX7_readAll_6 rfl 0 rfl ?_
    refine v_iload_n dX7_readAll_7 rfl 1 rfl ?_
    refine v_bipush dX7_readAll_8 (v := 12) (by decide) ?_
    refine v_tern (c := (12 : Int32) ≤ v23) (x := (0 : Int32)) (y := (1 : Int32)) (pcj := 18) (st := [.ref v22]) ?_ (fun kt kf => v_icmp_ge0 (tgt := 17) dX7_readAll_10 (by decide) kt kf) (fun K => ?_) (fun K => ?_)
    · exact v_sub [0, 1] rfl (w_X7_readAll_J18 hfr hlo hc6 hx6 hF)
    · refine v_iconst dX7_readAll_17 (v := 0) (by decide) ?_
      exact K
    · refine v_iconst dX7_readAll_13 (v := 1) (by decide) ?_
      refine v_goto (tgt := 18) dX7_readAll_14 (by decide) ?_
      exact K
def X7_readAll_J58 (N : Nat) (v44 : Int32) (v45 : Int32) (v46 : Nat) (h47 : Hp) : Option ((Nat ⊕ Int32) × Hp) :=
  bdx (X7_must v46 v45 h47) fun u_h48 h48 =>
  some (.inr v44, h48)
theorem w_X7_readAll_J58 {l : Launch} {G : GT} {fr lo : Nat} {h0 : Hp} {N : Nat} {r : ((Nat ⊕ Int32) × Hp)} (hfr : 106 ≤ fr) (hlo : 2316 ≤ lo)   {v44 : Int32} {v45 : Int32} {v46 : Nat} {h47 : Hp} (hF : X7_readAll_J58 N v44 v45 v46 h47 = some r) : V l G cX7_readAll RX7 "readAll" 2 (Option.some Jvm.ClassFile.FieldType.int) fr lo h0 r.2 (QX G [] (rsI r.1) h0 r.2) 58 [(1, .int v44)] [.int v45, .ref v46] h47 := by
  unfold X7_readAll_J58 at hF
  rcases bdx_spec hF with ⟨q9, h9, o9, e_h48, w9, e9⟩ | ⟨u_h48, h48, e_h48, hF⟩
  · subst e9
    exact v_calVXt dX7_readAll_58 vl_X7_28 q843 (rc_X7_must e_h48) (ct_X7_must e_h48) rfl rfl (Nat.le_trans (Nat.le_of_ble_eq_true rfl) hfr) (Nat.le_trans (Nat.le_of_ble_eq_true rfl) hlo) (Nat.le_of_ble_eq_true rfl) (x_out w9 tb0 rfl)
  · refine v_calVXn0 dX7_readAll_58 vl_X7_28 q843 (rc_X7_must e_h48) (ct_X7_must e_h48) rfl rfl (Nat.le_trans (Nat.le_of_ble_eq_true rfl) hfr) (Nat.le_trans (Nat.le_of_ble_eq_true rfl) hlo) (Nat.le_of_ble_eq_true rfl) ?_
    refine v_iload_n dX7_readAll_61 rfl 0 rfl ?_
    cases hF
    exact v_toX (v_iret dX7_readAll_62 rfl rfl rfl rfl)
def X7_readAll_b (N : Nat) (a0 : Nat) (h : Hp) : Option ((Nat ⊕ Int32) × Hp) :=
  (X7_next N a0 h).bind fun h21 =>
  X7_readAll_L6 N (fun v38 v39 h40 =>
    (gi h40 v38 [7, 18] 0).bind fun v41 =>
    (gr h40 v38 [7, 18] 7).bind fun v42 =>
    (gi h40 v42 [0] 15).bind fun v43 =>
    X7_readAll_J58 N v39 (if v41 = v43 then (1 : Int32) else (0 : Int32)) v38 h40) N a0 (0 : Int32) h21
theorem w_X7_readAll_b {l : Launch} {G : GT} {fr lo : Nat} {h0 : Hp} {N : Nat} {r : ((Nat ⊕ Int32) × Hp)} (hfr : 106 ≤ fr) (hlo : 2316 ≤ lo) {a0 : Nat} {h : Hp} (hF : X7_readAll_b N a0 h = some r) : V l G cX7_readAll RX7 "readAll" 2 (Option.some Jvm.ClassFile.FieldType.int) fr lo h0 r.2 (QX G [] (rsI r.1) h0 r.2) 0 [(0, .ref a0)] [] h := by
  unfold X7_readAll_b at hF
  refine v_iconst dX7_readAll_0 (v := 0) (by decide) ?_
  refine v_istore_n dX7_readAll_1 rfl (Nat.le_of_ble_eq_true rfl) (L' := [(1, .int (0 : Int32)), (0, .ref a0)]) rfl ?_
  refine v_aload_n dX7_readAll_2 rfl 1 rfl ?_
  obtain ⟨h21, e_h21, hF⟩ := Option.bind_eq_some_iff.mp hF
  refine v_calV0 dX7_readAll_3 vl_X7_25 q831 (rc_X7_next e_h21) (ct_X7_next e_h21) rfl rfl (Nat.le_trans (Nat.le_of_ble_eq_true rfl) hfr) (Nat.le_trans (Nat.le_of_ble_eq_true rfl) hlo) (Nat.le_of_ble_eq_true rfl) ?_
  refine v_sub [1, 0] rfl (w_X7_readAll_L6 hfr hlo ?_ N _ _ _ hF)
  intro v38 v39 h40 hF
  refine v_aload_n dX7_readAll_38 rfl 0 rfl ?_
  refine v_aload_n dX7_readAll_39 rfl 0 rfl ?_
  refine v_geti dX7_readAll_40 fl_X7_42 hF (fun v41 hF => ?_)
  refine v_aload_n dX7_readAll_43 rfl 0 rfl ?_
  refine v_getr dX7_readAll_44 fl_X7_3 hF (fun v42 hF => ?_)
  refine v_geti dX7_readAll_47 fl_X7_46 hF (fun v43 hF => ?_)
  refine v_tern (c := v41 = v43) (x := (1 : Int32)) (y := (0 : Int32)) (pcj := 58) (st := [.ref v38]) ?_ (fun kt kf => v_icmp_ne0 (tgt := 57) dX7_readAll_50 (by decide) kt kf) (fun K => ?_) (fun K => ?_)
  · exact v_sub [1] rfl (w_X7_readAll_J58 hfr hlo hF)
  · refine v_iconst dX7_readAll_53 (v := 1) (by decide) ?_
    refine v_goto (tgt := 58) dX7_readAll_54 (by decide) ?_
    exact K
  · refine v_iconst dX7_readAll_57 (v := 0) (by decide) ?_
    exact K
def X7_readAll (N : Nat) (a0 : Nat) (h : Hp) : Option ((Nat ⊕ Int32) × Hp) := (ob h a0 [7, 18]).bind fun _ => X7_readAll_b N a0 h
theorem rc_X7_readAll {N : Nat}  {r : ((Nat ⊕ Int32) × Hp)} {a0 : Nat} {h : Hp} (hF : X7_readAll N a0 h = some r) : RC h a0 [7, 18] := by
  obtain ⟨o, ho, -⟩ := Option.bind_eq_some_iff.mp hF
  exact ⟨o, ho⟩
theorem ct_X7_readAll {l : Launch} {G : GT} {N : Nat} {r : ((Nat ⊕ Int32) × Hp)} {a0 : Nat} {h : Hp} (hF : X7_readAll N a0 h = some r) : CtX l G yX7_readAll (ws_ yX7_readAll cX7_readAll 2 (Option.some Jvm.ClassFile.FieldType.int)) 106 2316 [.ref a0] h (rsI r.1) r.2 :=
  ctX_of (by decide) (Nat.le_of_ble_eq_true rfl) (w_X7_readAll_b (Nat.le_refl _) (Nat.le_refl _) (Option.bind_eq_some_iff.mp hF).choose_spec.2)
theorem vl_X8_51 : ∀ ci ∈ [7], VL RX8 51 ci yX7_readAll 0 := by
  intro ci h
  simp only [List.mem_cons, List.not_mem_nil, or_false] at h
  subst h; exact ⟨RX8, TX8, 11, rfl, q158, ⟨by decide, by decide⟩, by decide +kernel, q824, Or.inr (Or.inr (Or.inl ⟨⟨"LeekReadings$LawReader", "readAll", "()I"⟩, "LeekReadings$Reader", q820, q821, q823, ⟨by decide, by decide⟩, by decide +kernel, Or.inl rfl⟩))⟩
theorem ac_X8_55 : ACL RX8 55 := ⟨q1214, q735, q734, q157⟩
theorem nl_X8_61 : NL RX8 61 5 1 [.null] := ⟨RX5, TX5, tyX5, rfl, in_X5, tyX5_ok, q1215, q342, q145, by decide +kernel⟩
theorem il_X8_63 : IL RX8 63 yX5_init 1 := ⟨q145, ⟨by decide, by decide⟩, by decide +kernel, q346, rfl, Or.inl q1216⟩
theorem kla_7 : KL "LeekReadings$Clause" [13] := by
  intro ci h
  simp only [List.mem_cons, List.not_mem_nil, or_false] at h
  subst h; exact ⟨(RX15, TX15, 4), rfl, Or.inl rfl⟩
def X8_read_b (N : Nat) (a0 : Nat) (h : Hp) : Option ((Nat ⊕ Nat) × Hp) :=
  (ob h a0 [7]).bind fun _ =>
  bdx (X7_readAll N a0 h) fun v22 h21 =>
  bd2 (na h21 7 v22 (.inr (.inr (.inr (.inr (fun _ => none)))))) fun a24 h25 =>
  (gr h25 a0 [7] 8).bind fun v26 =>
  (alen h25 a24 7).bind fun v27 =>
  (cpQ h25 7 [13] v26 (0 : Int32) a24 (0 : Int32) v27).bind fun h28 =>
  bd2 (nwo h28 5 1 [.null]) fun a29 h30 =>
  (X5_init a29 a24 h30).bind fun h31 =>
  some (.inr a29, h31)
theorem w_X8_read_b {l : Launch} {G : GT} {fr lo : Nat} {h0 : Hp} {N : Nat} {r : ((Nat ⊕ Nat) × Hp)} (hfr : 107 ≤ fr) (hlo : 2337 ≤ lo) {a0 : Nat} {h : Hp} (hF : X8_read_b N a0 h = some r) : V l G cX8_read RX8 "read" 2 (Option.some (Jvm.ClassFile.FieldType.object "LeekReadings$Text")) fr lo h0 r.2 (QX G [] (rsA r.1) h0 r.2) 0 [(0, .ref a0)] [] h := by
  unfold X8_read_b at hF
  refine v_aload_n dX8_read_0 rfl 0 rfl ?_
  obtain ⟨o23, q_o23, hF⟩ := Option.bind_eq_some_iff.mp hF
  rcases bdx_spec hF with ⟨q9, h9, o9, e_h21, w9, e9⟩ | ⟨v22, h21, e_h21, hF⟩
  · subst e9
    exact v_calVXt dX8_read_1 vl_X8_51 q825 ⟨o23, q_o23⟩ (ct_X7_readAll e_h21) rfl rfl (Nat.le_trans (Nat.le_of_ble_eq_true rfl) hfr) (Nat.le_trans (Nat.le_of_ble_eq_true rfl) hlo) (Nat.le_of_ble_eq_true rfl) (x_out w9 tb0 rfl)
  · refine v_calVXn1 dX8_read_1 vl_X8_51 q825 ⟨o23, q_o23⟩ (ct_X7_readAll e_h21) rfl rfl (Nat.le_trans (Nat.le_of_ble_eq_true rfl) hfr) (Nat.le_trans (Nat.le_of_ble_eq_true rfl) hlo) (Nat.le_of_ble_eq_true rfl) ?_
    refine v_anew dX8_read_4 rfl q774 q344 hF (fun a24 h25 hF => ?_)
    refine v_astore_n dX8_read_7 rfl (Nat.le_of_ble_eq_true rfl) (L' := [(1, .ref a24), (0, .ref a0)]) rfl ?_
    refine v_aload_n dX8_read_8 rfl 1 rfl ?_
    refine v_getr dX8_read_9 fl_X8_37 hF (fun v26 hF => ?_)
    refine v_iconst dX8_read_12 (v := 0) (by decide) ?_
    refine v_aload_n dX8_read_13 rfl 0 rfl ?_
    refine v_iconst dX8_read_14 (v := 0) (by decide) ?_
    refine v_aload_n dX8_read_15 rfl 0 rfl ?_
    refine v_alen (k := 7) rfl dX8_read_16 hF (fun v27 hF => ?_)
    refine v_cpQ dX8_read_17 ac_X8_55 (k := 7) rfl kla_7 (by omega) (by have : lwAC ≤ 60 := Nat.le_of_ble_eq_true rfl; omega) (Nat.le_of_ble_eq_true rfl) hF (fun h28 hF => ?_)
    refine v_new dX8_read_20 nl_X8_61 hF (fun a29 h30 hF => ?_)
    refine v_dup dX8_read_23 rfl ?_
    refine v_aload_n dX8_read_24 rfl 0 rfl ?_
    obtain ⟨h31, e_h31, hF⟩ := Option.bind_eq_some_iff.mp hF
    refine v_calI dX8_read_25 il_X8_63 q347 (ct_X5_init e_h31) rfl rfl (Nat.le_trans (Nat.le_of_ble_eq_true rfl) hfr) (Nat.le_trans (Nat.le_of_ble_eq_true rfl) hlo) (Nat.le_of_ble_eq_true rfl) ?_
    cases hF
    exact v_toX (v_aret (x := some _) dX8_read_28 rfl (Or.inl ⟨_, rfl⟩) rfl rfl)
def X8_read (N : Nat) (a0 : Nat) (h : Hp) : Option ((Nat ⊕ Nat) × Hp) := (ob h a0 [7]).bind fun _ => X8_read_b N a0 h
theorem rc_X8_read {N : Nat}  {r : ((Nat ⊕ Nat) × Hp)} {a0 : Nat} {h : Hp} (hF : X8_read N a0 h = some r) : RC h a0 [7] := by
  obtain ⟨o, ho, -⟩ := Option.bind_eq_some_iff.mp hF
  exact ⟨o, ho⟩
theorem ct_X8_read {l : Launch} {G : GT} {N : Nat} {r : ((Nat ⊕ Nat) × Hp)} {a0 : Nat} {h : Hp} (hF : X8_read N a0 h = some r) : CtX l G yX8_read (ws_ yX8_read cX8_read 2 (Option.some (Jvm.ClassFile.FieldType.object "LeekReadings$Text"))) 107 2337 [.ref a0] h (rsA r.1) r.2 :=
  ctX_of (by decide) (Nat.le_of_ble_eq_true rfl) (w_X8_read_b (Nat.le_refl _) (Nat.le_refl _) (Option.bind_eq_some_iff.mp hF).choose_spec.2)
theorem vl_X0_238 : ∀ ci ∈ [20], VL RX0 238 ci yJ2_size 0 := by
  intro ci h
  simp only [List.mem_cons, List.not_mem_nil, or_false] at h
  subst h; exact ⟨RJ2, TJ2, 3, rfl, q141, ⟨by decide, by decide⟩, by decide +kernel, q749, Or.inl ⟨q748, q750⟩⟩
theorem nl_X0_243 : NL RX0 243 7 11 [.int 0, .int 0, .int 0, .int 0, .int 0, .null, .null, .null, .null, .null, .null] := ⟨RX8, TX8, tyX8, rfl, in_X8, tyX8_ok, q752, q753, q159, by decide +kernel⟩
theorem il_X0_245 : IL RX0 245 yX8_init 1 := ⟨q159, ⟨by decide, by decide⟩, by decide +kernel, q755, rfl, Or.inl q754⟩
theorem vl_X0_248 : ∀ ci ∈ [7], VL RX0 248 ci yX8_read 0 := by
  intro ci h
  simp only [List.mem_cons, List.not_mem_nil, or_false] at h
  subst h; exact ⟨RX8, TX8, 11, rfl, q159, ⟨by decide, by decide⟩, by decide +kernel, q817, Or.inl ⟨q816, q818⟩⟩
theorem vl_X0_252 : ∀ ci ∈ [20], VL RX0 252 ci yJ2_add 1 := by
  intro ci h
  simp only [List.mem_cons, List.not_mem_nil, or_false] at h
  subst h; exact ⟨RJ2, TJ2, 3, rfl, q141, ⟨by decide, by decide⟩, by decide +kernel, q1218, Or.inl ⟨q1217, q1219⟩⟩
theorem fl_X0_258 : FL RX0 258 [8] 6 := by
  intro ci h
  simp only [List.mem_cons, List.not_mem_nil, or_false] at h
  subst h; exact ⟨RX9, _, TX9, 7, rfl, in_X9, by decide, Or.inr ⟨_, q863⟩, Or.inl rfl⟩
def C_law_b (N : Nat) (a0 : Nat) (h : Hp) : Option (Int32 × Hp) :=
  (gr h a0 [0] 0).bind fun v21 =>
  (gr h v21 [1] 0).bind fun v22 =>
  (J2_size h v22).bind fun v23 =>
  if v23 = (6 : Int32) then
    (po h a0 [0] 15 (.int (0 : Int32))).bind fun h47 =>
    bd2 (C_tell a0 (-5 : Int32) h47) fun v49 h48 =>
    some (v49, h48)
  else
    (gr h a0 [0] 0).bind fun v24 =>
    (gr h v24 [1] 0).bind fun v25 =>
    bd2 (nwo h 7 11 [.int 0, .int 0, .int 0, .int 0, .int 0, .null, .null, .null, .null, .null, .null]) fun a26 h27 =>
    (X8_init a26 a0 h27).bind fun h28 =>
    bdc (X8_read N a26 h28) (fun v30 h29 =>
      bd2 (J2_add v25 v30 h29) fun v32 h31 =>
      (po h31 a0 [0] 11 (.int (-1 : Int32))).bind fun h33 =>
      (gr h33 a0 [0] 0).bind fun v34 =>
      (gr h33 v34 [1] 0).bind fun v35 =>
      (J2_size h33 v35).bind fun v36 =>
      bd2 (C_tell a0 (v36 - (1 : Int32)) h33) fun v38 h37 =>
      (po h37 a0 [0] 15 (.int (0 : Int32))).bind fun h39 =>
      some (v38, h39)) fun q40 h41 =>
    (gi h41 q40 [8] 6).bind fun v42 =>
    (po h41 a0 [0] 11 (.int v42)).bind fun h43 =>
    bd2 (C_tell a0 (-6 : Int32) h43) fun v45 h44 =>
    (po h44 a0 [0] 15 (.int (0 : Int32))).bind fun h46 =>
    some (v45, h46)
theorem w_C_law_b {l : Launch} {G : GT} {fr lo : Nat} {h0 : Hp} {N : Nat} {r : (Int32 × Hp)} (hfr : 108 ≤ fr) (hlo : 2358 ≤ lo) {a0 : Nat} {h : Hp} (hF : C_law_b N a0 h = some r) : V l G cX0_law RX0 "law" 4 (Option.some Jvm.ClassFile.FieldType.int) fr lo h0 r.2 (QX G [(27, 71, 78, 256), (27, 71, 101, 0), (78, 94, 101, 0)] (.inr (some (.int r.1))) h0 r.2) 0 [(0, .ref a0)] [] h := by
  unfold C_law_b at hF
  refine v_aload_n dX0_law_0 rfl 0 rfl ?_
  refine v_getr dX0_law_1 fl_X0_10 hF (fun v21 hF => ?_)
  refine v_getr dX0_law_4 fl_X0_234 hF (fun v22 hF => ?_)
  obtain ⟨v23, e_v23, hF⟩ := Option.bind_eq_some_iff.mp hF
  refine v_calV1 dX0_law_7 vl_X0_238 q751 (rc_J2_size e_v23) (ct_J2_size e_v23) rfl rfl (Nat.le_trans (Nat.le_of_ble_eq_true rfl) hfr) (Nat.le_trans (Nat.le_of_ble_eq_true rfl) hlo) (Nat.le_of_ble_eq_true rfl) ?_
  refine v_bipush dX0_law_10 (v := 6) (by decide) ?_
  refine v_icmp_ne (tgt := 27) dX0_law_12 (by decide) hF (fun hF => ?_) (fun hF => ?_)
  · refine v_aload_n dX0_law_27 rfl 0 rfl ?_
    refine v_getr dX0_law_28 fl_X0_10 hF (fun v24 hF => ?_)
    refine v_getr dX0_law_31 fl_X0_234 hF (fun v25 hF => ?_)
    refine v_new dX0_law_34 nl_X0_243 hF (fun a26 h27 hF => ?_)
    refine v_dup dX0_law_37 rfl ?_
    refine v_aload_n dX0_law_38 rfl 0 rfl ?_
    obtain ⟨h28, e_h28, hF⟩ := Option.bind_eq_some_iff.mp hF
    refine v_calI dX0_law_39 il_X0_245 q756 (ct_X8_init e_h28) rfl rfl (Nat.le_trans (Nat.le_of_ble_eq_true rfl) hfr) (Nat.le_trans (Nat.le_of_ble_eq_true rfl) hlo) (Nat.le_of_ble_eq_true rfl) ?_
    rcases bdc_spec hF with ⟨q40, h41, o9, e_h29, w9, hF⟩ | ⟨v30, h29, e_h29, hF⟩
    · refine v_calVXt dX0_law_42 vl_X0_248 q819 (rc_X8_read e_h29) (ct_X8_read e_h29) rfl rfl (Nat.le_trans (Nat.le_of_ble_eq_true rfl) hfr) (Nat.le_trans (Nat.le_of_ble_eq_true rfl) hlo) (Nat.le_of_ble_eq_true rfl) (x_catch [] _ _ w9 rfl (fun z hz => nomatch hz) (by decide) (by decide) q747 ?_)
      refine v_astore_n dX0_law_78 rfl (Nat.le_of_ble_eq_true rfl) (L' := [(1, .ref q40), (0, .ref a0)]) rfl ?_
      refine v_aload_n dX0_law_79 rfl 1 rfl ?_
      refine v_aload_n dX0_law_80 rfl 0 rfl ?_
      refine v_geti dX0_law_81 fl_X0_258 hF (fun v42 hF => ?_)
      refine v_put dX0_law_84 pl_X0_65 (fun z => by cases z) rfl rfl hF (fun h43 hF => ?_)
      refine v_aload_n dX0_law_87 rfl 1 rfl ?_
      refine v_bipush dX0_law_88 (v := -6) (by decide) ?_
      obtain ⟨v45, h44, e_v45, hF⟩ := bd2_spec hF
      refine v_calV1 dX0_law_90 vl_X0_112 q494 (rc_C_tell e_v45) (ct_C_tell e_v45) rfl rfl (Nat.le_trans (Nat.le_of_ble_eq_true rfl) hfr) (Nat.le_trans (Nat.le_of_ble_eq_true rfl) hlo) (Nat.le_of_ble_eq_true rfl) ?_
      refine v_istore_n dX0_law_93 rfl (Nat.le_of_ble_eq_true rfl) (L' := [(2, .int v45), (1, .ref q40), (0, .ref a0)]) rfl ?_
      refine v_aload_n dX0_law_94 rfl 2 rfl ?_
      refine v_iconst dX0_law_95 (v := 0) (by decide) ?_
      refine v_put dX0_law_96 pl_X0_148 (fun z => by cases z) rfl rfl hF (fun h46 hF => ?_)
      refine v_iload_n dX0_law_99 rfl 0 rfl ?_
      cases hF
      exact v_toX (v_iret dX0_law_100 rfl rfl rfl rfl)
    · refine v_calVXn1 dX0_law_42 vl_X0_248 q819 (rc_X8_read e_h29) (ct_X8_read e_h29) rfl rfl (Nat.le_trans (Nat.le_of_ble_eq_true rfl) hfr) (Nat.le_trans (Nat.le_of_ble_eq_true rfl) hlo) (Nat.le_of_ble_eq_true rfl) ?_
      obtain ⟨v32, h31, e_v32, hF⟩ := bd2_spec hF
      refine v_calV1 dX0_law_45 vl_X0_252 q1220 (rc_J2_add e_v32) (ct_J2_add e_v32) rfl rfl (Nat.le_trans (Nat.le_of_ble_eq_true rfl) hfr) (Nat.le_trans (Nat.le_of_ble_eq_true rfl) hlo) (Nat.le_of_ble_eq_true rfl) ?_
      refine v_pop dX0_law_48 rfl ?_
      refine v_aload_n dX0_law_49 rfl 0 rfl ?_
      refine v_iconst dX0_law_50 (v := -1) (by decide) ?_
      refine v_put dX0_law_51 pl_X0_65 (fun z => by cases z) rfl rfl hF (fun h33 hF => ?_)
      refine v_aload_n dX0_law_54 rfl 0 rfl ?_
      refine v_aload_n dX0_law_55 rfl 0 rfl ?_
      refine v_getr dX0_law_56 fl_X0_10 hF (fun v34 hF => ?_)
      refine v_getr dX0_law_59 fl_X0_234 hF (fun v35 hF => ?_)
      obtain ⟨v36, e_v36, hF⟩ := Option.bind_eq_some_iff.mp hF
      refine v_calV1 dX0_law_62 vl_X0_238 q751 (rc_J2_size e_v36) (ct_J2_size e_v36) rfl rfl (Nat.le_trans (Nat.le_of_ble_eq_true rfl) hfr) (Nat.le_trans (Nat.le_of_ble_eq_true rfl) hlo) (Nat.le_of_ble_eq_true rfl) ?_
      refine v_iconst dX0_law_65 (v := 1) (by decide) ?_
      refine v_isub dX0_law_66 ?_
      obtain ⟨v38, h37, e_v38, hF⟩ := bd2_spec hF
      refine v_calV1 dX0_law_67 vl_X0_112 q494 (rc_C_tell e_v38) (ct_C_tell e_v38) rfl rfl (Nat.le_trans (Nat.le_of_ble_eq_true rfl) hfr) (Nat.le_trans (Nat.le_of_ble_eq_true rfl) hlo) (Nat.le_of_ble_eq_true rfl) ?_
      refine v_istore_n dX0_law_70 rfl (Nat.le_of_ble_eq_true rfl) (L' := [(1, .int v38), (0, .ref a0)]) rfl ?_
      refine v_aload_n dX0_law_71 rfl 1 rfl ?_
      refine v_iconst dX0_law_72 (v := 0) (by decide) ?_
      refine v_put dX0_law_73 pl_X0_148 (fun z => by cases z) rfl rfl hF (fun h39 hF => ?_)
      refine v_iload_n dX0_law_76 rfl 0 rfl ?_
      cases hF
      exact v_toX (v_iret dX0_law_77 rfl rfl rfl rfl)
  · refine v_aload_n dX0_law_15 rfl 0 rfl ?_
    refine v_iconst dX0_law_16 (v := 0) (by decide) ?_
    refine v_put dX0_law_17 pl_X0_148 (fun z => by cases z) rfl rfl hF (fun h47 hF => ?_)
    refine v_aload_n dX0_law_20 rfl 0 rfl ?_
    refine v_bipush dX0_law_21 (v := -5) (by decide) ?_
    obtain ⟨v49, h48, e_v49, hF⟩ := bd2_spec hF
    refine v_calV1 dX0_law_23 vl_X0_112 q494 (rc_C_tell e_v49) (ct_C_tell e_v49) rfl rfl (Nat.le_trans (Nat.le_of_ble_eq_true rfl) hfr) (Nat.le_trans (Nat.le_of_ble_eq_true rfl) hlo) (Nat.le_of_ble_eq_true rfl) ?_
    cases hF
    exact v_toX (v_iret dX0_law_26 rfl rfl rfl rfl)
def C_law (N : Nat) (a0 : Nat) (h : Hp) : Option (Int32 × Hp) := (ob h a0 [0]).bind fun _ => C_law_b N a0 h
theorem rc_C_law {N : Nat}  {r : (Int32 × Hp)} {a0 : Nat} {h : Hp} (hF : C_law N a0 h = some r) : RC h a0 [0] := by
  obtain ⟨o, ho, -⟩ := Option.bind_eq_some_iff.mp hF
  exact ⟨o, ho⟩
theorem ct_C_law {l : Launch} {G : GT} {N : Nat} {r : (Int32 × Hp)} {a0 : Nat} {h : Hp} (hF : C_law N a0 h = some r) : Ct l G yX0_law (wsH_ yX0_law cX0_law 4 (Option.some Jvm.ClassFile.FieldType.int) [(27, 71, 78, 256), (27, 71, 101, 0), (78, 94, 101, 0)]) 108 2358 [.ref a0] h (some (.int r.1)) r.2 :=
  ct_ofH (by decide) (Nat.le_of_ble_eq_true rfl) (w_C_law_b (Nat.le_refl _) (Nat.le_refl _) (Option.bind_eq_some_iff.mp hF).choose_spec.2)
