/-! printed by tools/gen.py -/
set_option maxRecDepth 100000
set_option linter.unusedVariables false
def J0_init_b (a0 : Nat) (h : Hp) : Option Hp :=
  some h
theorem w_J0_init_b {l : Launch} {G : GT} {fr lo : Nat} {h0 : Hp} {r : Hp} (hfr : 1 ≤ fr) (hlo : 20 ≤ lo) {a0 : Nat} {h : Hp} (hF : J0_init_b a0 h = some r) : V l G cJ0_init RJ0 "<init>" 1 (Option.none : Option Jvm.ClassFile.FieldType) fr lo h0 r (QM G none h0 r) 0 [(0, .ref a0)] [] h := by
  unfold J0_init_b at hF
  refine v_aload_n dJ0_init_0 rfl 0 rfl ?_
  refine v_objInit dJ0_init_1 q203 q184 q185 (by omega) (by omega) (Nat.le_of_ble_eq_true rfl) ?_
  cases hF
  exact v_vret dJ0_init_4 rfl rfl rfl
def J0_init (a0 : Nat) (h : Hp) : Option Hp := (ob h a0 [20]).bind fun _ => J0_init_b a0 h
theorem rc_J0_init  {r : Hp} {a0 : Nat} {h : Hp} (hF : J0_init a0 h = some r) : RC h a0 [20] := by
  obtain ⟨o, ho, -⟩ := Option.bind_eq_some_iff.mp hF
  exact ⟨o, ho⟩
theorem ct_J0_init {l : Launch} {G : GT} {r : Hp} {a0 : Nat} {h : Hp} (hF : J0_init a0 h = some r) : Ct l G yJ0_init (ws_ yJ0_init cJ0_init 1 (Option.none : Option Jvm.ClassFile.FieldType)) 1 20 [.ref a0] h none r :=
  ct_of (by decide) (Nat.le_of_ble_eq_true rfl) (w_J0_init_b (Nat.le_refl _) (Nat.le_refl _) (Option.bind_eq_some_iff.mp hF).choose_spec.2)
theorem il_J1_1 : IL RJ1 1 yJ0_init 0 := ⟨q139, ⟨by decide, by decide⟩, by decide +kernel, q201, rfl, Or.inl q200⟩
theorem pl_J1_7 : PL RJ1 7 [20] 0 (.int) false := by
  intro ci h
  simp only [List.mem_cons, List.not_mem_nil, or_false] at h
  subst h; exact ⟨RJ2, _, TJ2, 3, tyJ2, rfl, in_J2, by decide, Or.inl q208, Or.inl rfl, tyJ2_ok, rfl, by decide +kernel, rfl, fun z => by cases z⟩
def J1_init_b (a0 : Nat) (h : Hp) : Option Hp :=
  (J0_init a0 h).bind fun h21 =>
  (po h21 a0 [20] 0 (.int (0 : Int32))).bind fun h22 =>
  some h22
theorem w_J1_init_b {l : Launch} {G : GT} {fr lo : Nat} {h0 : Hp} {r : Hp} (hfr : 2 ≤ fr) (hlo : 40 ≤ lo) {a0 : Nat} {h : Hp} (hF : J1_init_b a0 h = some r) : V l G cJ1_init RJ1 "<init>" 1 (Option.none : Option Jvm.ClassFile.FieldType) fr lo h0 r (QM G none h0 r) 0 [(0, .ref a0)] [] h := by
  unfold J1_init_b at hF
  refine v_aload_n dJ1_init_0 rfl 0 rfl ?_
  obtain ⟨h21, e_h21, hF⟩ := Option.bind_eq_some_iff.mp hF
  refine v_calI dJ1_init_1 il_J1_1 q202 (ct_J0_init e_h21) rfl rfl (Nat.le_trans (Nat.le_of_ble_eq_true rfl) hfr) (Nat.le_trans (Nat.le_of_ble_eq_true rfl) hlo) (Nat.le_of_ble_eq_true rfl) ?_
  refine v_aload_n dJ1_init_4 rfl 0 rfl ?_
  refine v_iconst dJ1_init_5 (v := 0) (by decide) ?_
  refine v_put dJ1_init_6 pl_J1_7 (fun z => by cases z) rfl rfl hF (fun h22 hF => ?_)
  cases hF
  exact v_vret dJ1_init_9 rfl rfl rfl
def J1_init (a0 : Nat) (h : Hp) : Option Hp := (ob h a0 [20]).bind fun _ => J1_init_b a0 h
theorem rc_J1_init  {r : Hp} {a0 : Nat} {h : Hp} (hF : J1_init a0 h = some r) : RC h a0 [20] := by
  obtain ⟨o, ho, -⟩ := Option.bind_eq_some_iff.mp hF
  exact ⟨o, ho⟩
theorem ct_J1_init {l : Launch} {G : GT} {r : Hp} {a0 : Nat} {h : Hp} (hF : J1_init a0 h = some r) : Ct l G yJ1_init (ws_ yJ1_init cJ1_init 1 (Option.none : Option Jvm.ClassFile.FieldType)) 2 40 [.ref a0] h none r :=
  ct_of (by decide) (Nat.le_of_ble_eq_true rfl) (w_J1_init_b (Nat.le_refl _) (Nat.le_refl _) (Option.bind_eq_some_iff.mp hF).choose_spec.2)
def J12_coder_b (h : Hp) (a0 : Nat) : Option Int32 :=
  if (1 : Int32) = 0 then
    some (1 : Int32)
  else
    (sC h a0).bind fun _ =>
    some (0 : Int32)
theorem w_J12_coder_b {l : Launch} {G : GT} {fr lo : Nat} {h0 : Hp} {h : Hp} {r : Int32} (hfr : 0 ≤ fr) (hlo : 0 ≤ lo) {a0 : Nat} (hF : J12_coder_b h a0 = some r) : V l G cJ12_coder RJ12 "coder" 1 (Option.some Jvm.ClassFile.FieldType.byte) fr lo h0 h (QM G (some (.int r)) h0 h) 0 [(0, .ref a0)] [] h := by
  unfold J12_coder_b at hF
  refine v_getsC dJ12_coder_0 q894 ?_
  refine v_if_eq (tgt := 13) dJ12_coder_3 (by decide) hF (fun hF => ?_) (fun hF => ?_)
  · refine v_iconst dJ12_coder_13 (v := 1) (by decide) ?_
    cases hF
    exact v_iret dJ12_coder_14 rfl (by decide) rfl rfl
  · refine v_aload_n dJ12_coder_6 rfl 0 rfl ?_
    refine v_sCod dJ12_coder_7 q2424 hF (fun hF => ?_)
    refine v_goto (tgt := 14) dJ12_coder_10 (by decide) ?_
    cases hF
    exact v_iret dJ12_coder_14 rfl (by decide) rfl rfl
def J12_coder (h : Hp) (a0 : Nat) : Option Int32 := (ro h a0 1).bind fun _ => J12_coder_b h a0
theorem rc_J12_coder {h : Hp}  {r : Int32} {a0 : Nat} (hF : J12_coder h a0 = some r) : ∃ x, ro h a0 1 = some x := by
  obtain ⟨o, ho, -⟩ := Option.bind_eq_some_iff.mp hF
  exact ⟨o, ho⟩
theorem ct_J12_coder {l : Launch} {G : GT} {h : Hp} {r : Int32} {a0 : Nat} (hF : J12_coder h a0 = some r) : Ct l G yJ12_coder (ws_ yJ12_coder cJ12_coder 1 (Option.some Jvm.ClassFile.FieldType.byte)) 0 0 [.ref a0] h (some (.int r)) h :=
  ct_of (by decide) (Nat.le_of_ble_eq_true rfl) (w_J12_coder_b (Nat.le_refl _) (Nat.le_refl _) (Option.bind_eq_some_iff.mp hF).choose_spec.2)
theorem vs_J12_335 : VLs RJ12 335 yJ12_coder 0 := ⟨q156, ⟨by decide, by decide⟩, by decide +kernel, q891, q890, q892⟩
def J12_length_b (h : Hp) (a0 : Nat) : Option Int32 :=
  (sV h a0).bind fun v21 =>
  (roL h v21).bind fun v22 =>
  (J12_coder h a0).bind fun v23 =>
  some (v22 >>> (v23 &&& 31))
theorem w_J12_length_b {l : Launch} {G : GT} {fr lo : Nat} {h0 : Hp} {h : Hp} {r : Int32} (hfr : 1 ≤ fr) (hlo : 20 ≤ lo) {a0 : Nat} (hF : J12_length_b h a0 = some r) : V l G cJ12_length RJ12 "length" 1 (Option.some Jvm.ClassFile.FieldType.int) fr lo h0 h (QM G (some (.int r)) h0 h) 0 [(0, .ref a0)] [] h := by
  unfold J12_length_b at hF
  refine v_aload_n dJ12_length_0 rfl 0 rfl ?_
  refine v_sVal dJ12_length_1 q2423 hF (fun v21 hF => ?_)
  refine v_roL dJ12_length_4 hF (fun v22 hF => ?_)
  refine v_aload_n dJ12_length_5 rfl 0 rfl ?_
  obtain ⟨v23, e_v23, hF⟩ := Option.bind_eq_some_iff.mp hF
  refine v_calVs1 dJ12_length_6 vs_J12_335 q893 (rc_J12_coder e_v23) (ct_J12_coder e_v23) rfl rfl (Nat.le_trans (Nat.le_of_ble_eq_true rfl) hfr) (Nat.le_trans (Nat.le_of_ble_eq_true rfl) hlo) (Nat.le_of_ble_eq_true rfl) ?_
  refine v_ishr dJ12_length_9 ?_
  cases hF
  exact v_iret dJ12_length_10 rfl rfl rfl rfl
def J12_length (h : Hp) (a0 : Nat) : Option Int32 := (ro h a0 1).bind fun _ => J12_length_b h a0
theorem rc_J12_length {h : Hp}  {r : Int32} {a0 : Nat} (hF : J12_length h a0 = some r) : ∃ x, ro h a0 1 = some x := by
  obtain ⟨o, ho, -⟩ := Option.bind_eq_some_iff.mp hF
  exact ⟨o, ho⟩
theorem ct_J12_length {l : Launch} {G : GT} {h : Hp} {r : Int32} {a0 : Nat} (hF : J12_length h a0 = some r) : Ct l G yJ12_length (ws_ yJ12_length cJ12_length 1 (Option.some Jvm.ClassFile.FieldType.int)) 1 20 [.ref a0] h (some (.int r)) h :=
  ct_of (by decide) (Nat.le_of_ble_eq_true rfl) (w_J12_length_b (Nat.le_refl _) (Nat.le_refl _) (Option.bind_eq_some_iff.mp hF).choose_spec.2)
def J12_isLatin1_b (h : Hp) (a0 : Nat) : Option Int32 :=
  if (1 : Int32) = 0 then
    some (0 : Int32)
  else
    (sC h a0).bind fun _ =>
    if (0 : Int32) = 0 then
      some (1 : Int32)
    else
      some (0 : Int32)
theorem w_J12_isLatin1_b {l : Launch} {G : GT} {fr lo : Nat} {h0 : Hp} {h : Hp} {r : Int32} (hfr : 0 ≤ fr) (hlo : 0 ≤ lo) {a0 : Nat} (hF : J12_isLatin1_b h a0 = some r) : V l G cJ12_isLatin1 RJ12 "isLatin1" 1 (Option.some Jvm.ClassFile.FieldType.boolean) fr lo h0 h (QM G (some (.int r)) h0 h) 0 [(0, .ref a0)] [] h := by
  unfold J12_isLatin1_b at hF
  refine v_getsC dJ12_isLatin1_0 q894 ?_
  refine v_if_eq (tgt := 17) dJ12_isLatin1_3 (by decide) hF (fun hF => ?_) (fun hF => ?_)
  · refine v_iconst dJ12_isLatin1_17 (v := 0) (by decide) ?_
    cases hF
    exact v_iret dJ12_isLatin1_18 rfl (by decide) rfl rfl
  · refine v_aload_n dJ12_isLatin1_6 rfl 0 rfl ?_
    refine v_sCod dJ12_isLatin1_7 q2424 hF (fun hF => ?_)
    refine v_if_ne (tgt := 17) dJ12_isLatin1_10 (by decide) hF (fun hF => ?_) (fun hF => ?_)
    · refine v_iconst dJ12_isLatin1_17 (v := 0) (by decide) ?_
      cases hF
      exact v_iret dJ12_isLatin1_18 rfl (by decide) rfl rfl
    · refine v_iconst dJ12_isLatin1_13 (v := 1) (by decide) ?_
      refine v_goto (tgt := 18) dJ12_isLatin1_14 (by decide) ?_
      cases hF
      exact v_iret dJ12_isLatin1_18 rfl (by decide) rfl rfl
def J12_isLatin1 (h : Hp) (a0 : Nat) : Option Int32 := (ro h a0 1).bind fun _ => J12_isLatin1_b h a0
theorem rc_J12_isLatin1 {h : Hp}  {r : Int32} {a0 : Nat} (hF : J12_isLatin1 h a0 = some r) : ∃ x, ro h a0 1 = some x := by
  obtain ⟨o, ho, -⟩ := Option.bind_eq_some_iff.mp hF
  exact ⟨o, ho⟩
theorem ct_J12_isLatin1 {l : Launch} {G : GT} {h : Hp} {r : Int32} {a0 : Nat} (hF : J12_isLatin1 h a0 = some r) : Ct l G yJ12_isLatin1 (ws_ yJ12_isLatin1 cJ12_isLatin1 1 (Option.some Jvm.ClassFile.FieldType.boolean)) 0 0 [.ref a0] h (some (.int r)) h :=
  ct_of (by decide) (Nat.le_of_ble_eq_true rfl) (w_J12_isLatin1_b (Nat.le_refl _) (Nat.le_refl _) (Option.bind_eq_some_iff.mp hF).choose_spec.2)
def J6_checkIndex_J9 (v21 : Int32) (v22 : Int32) (v23 : Option Nat) (h24 : Hp) : Option (Int32 × Hp) :=
  none
theorem w_J6_checkIndex_J9 {l : Launch} {G : GT} {fr lo : Nat} {h0 : Hp} {r : (Int32 × Hp)} (hfr : 0 ≤ fr) (hlo : 0 ≤ lo)   {v21 : Int32} {v22 : Int32} {v23 : Option Nat} {h24 : Hp} (hF : J6_checkIndex_J9 v21 v22 v23 h24 = some r) : V l G cJ6_checkIndex RJ6 "checkIndex" 3 (Option.some Jvm.ClassFile.FieldType.int) fr lo h0 r.2 (QM G (some (.int r.1)) h0 r.2) 9 [(0, .int v21), (1, .int v22), (2, va_rf v23)] [] h24 := by
  unfold J6_checkIndex_J9 at hF
  cases hF
def J6_checkIndex (a1 : Int32) (a2 : Int32) (a3 : Option Nat) (h : Hp) : Option (Int32 × Hp) :=
  if a1 < 0 then
    J6_checkIndex_J9 a1 a2 a3 h
  else
    if a1 < a2 then
      some (a1, h)
    else
      J6_checkIndex_J9 a1 a2 a3 h
theorem w_J6_checkIndex {l : Launch} {G : GT} {fr lo : Nat} {h0 : Hp} {r : (Int32 × Hp)} (hfr : 0 ≤ fr) (hlo : 0 ≤ lo) {a1 : Int32} {a2 : Int32} {a3 : Option Nat} {h : Hp} (hF : J6_checkIndex a1 a2 a3 h = some r) : V l G cJ6_checkIndex RJ6 "checkIndex" 3 (Option.some Jvm.ClassFile.FieldType.int) fr lo h0 r.2 (QM G (some (.int r.1)) h0 r.2) 0 [(0, .int a1), (1, .int a2), (2, va_rf a3)] [] h := by
  unfold J6_checkIndex at hF
  refine v_iload_n dJ6_checkIndex_0 rfl 0 rfl ?_
  refine v_if_lt (tgt := 9) dJ6_checkIndex_1 (by decide) hF (fun hF => ?_) (fun hF => ?_)
  · exact v_sub [0, 1, 2] rfl (w_J6_checkIndex_J9 hfr hlo hF)
  · refine v_iload_n dJ6_checkIndex_4 rfl 0 rfl ?_
    refine v_iload_n dJ6_checkIndex_5 rfl 1 rfl ?_
    refine v_icmp_lt (tgt := 16) dJ6_checkIndex_6 (by decide) hF (fun hF => ?_) (fun hF => ?_)
    · refine v_iload_n dJ6_checkIndex_16 rfl 0 rfl ?_
      cases hF
      exact v_iret dJ6_checkIndex_17 rfl rfl rfl rfl
    · exact v_sub [0, 1, 2] rfl (w_J6_checkIndex_J9 hfr hlo hF)
theorem ct_J6_checkIndex {l : Launch} {G : GT} {r : (Int32 × Hp)} {a1 : Int32} {a2 : Int32} {a3 : Option Nat} {h : Hp} (hF : J6_checkIndex a1 a2 a3 h = some r) : Ct l G yJ6_checkIndex (ws_ yJ6_checkIndex cJ6_checkIndex 3 (Option.some Jvm.ClassFile.FieldType.int)) 0 0 [.int a1, .int a2, va_rf a3] h (some (.int r.1)) r.2 := by
  cases a3 <;> exact ct_of (by decide) (Nat.le_of_ble_eq_true rfl) (w_J6_checkIndex (Nat.le_refl _) (Nat.le_refl _) hF)
theorem sl_J12_1059 : SL RJ12 1059 yJ6_checkIndex 3 := ⟨q150, ⟨by decide, by decide⟩, by decide +kernel, q548, Or.inl q912⟩
def J12_checkIndex (a1 : Int32) (a2 : Int32) (h : Hp) : Option Hp :=
  bd2 (J6_checkIndex a1 a2 (gOf (h.2.2.1 102)) h) fun v22 h21 =>
  some h21
theorem w_J12_checkIndex {l : Launch} {G : GT} {fr lo : Nat} {h0 : Hp} {r : Hp} (hfr : 1 ≤ fr) (hlo : 22 ≤ lo) {a1 : Int32} {a2 : Int32} {h : Hp} (hF : J12_checkIndex a1 a2 h = some r) : V l G cJ12_checkIndex RJ12 "checkIndex" 2 (Option.none : Option Jvm.ClassFile.FieldType) fr lo h0 r (QM G none h0 r) 0 [(0, .int a1), (1, .int a2)] [] h := by
  unfold J12_checkIndex at hF
  refine v_iload_n dJ12_checkIndex_0 rfl 0 rfl ?_
  refine v_iload_n dJ12_checkIndex_1 rfl 1 rfl ?_
  refine v_getsF dJ12_checkIndex_2 q910 ?_
  obtain ⟨v22, h21, e_v22, hF⟩ := bd2_spec hF
  refine v_calS1 dJ12_checkIndex_5 sl_J12_1059 q549 (ct_J6_checkIndex e_v22) rfl rfl (Nat.le_trans (Nat.le_of_ble_eq_true rfl) hfr) (Nat.le_trans (Nat.le_of_ble_eq_true rfl) hlo) (Nat.le_of_ble_eq_true rfl) ?_
  refine v_pop dJ12_checkIndex_8 rfl ?_
  cases hF
  exact v_vret dJ12_checkIndex_9 rfl rfl rfl
theorem ct_J12_checkIndex {l : Launch} {G : GT} {r : Hp} {a1 : Int32} {a2 : Int32} {h : Hp} (hF : J12_checkIndex a1 a2 h = some r) : Ct l G yJ12_checkIndex (ws_ yJ12_checkIndex cJ12_checkIndex 2 (Option.none : Option Jvm.ClassFile.FieldType)) 1 22 [.int a1, .int a2] h none r :=
  ct_of (by decide) (Nat.le_of_ble_eq_true rfl) (w_J12_checkIndex (Nat.le_refl _) (Nat.le_refl _) hF)
theorem sl_J13_9 : SL RJ13 9 yJ12_checkIndex 2 := ⟨q156, ⟨by decide, by decide⟩, by decide +kernel, q908, Or.inl q907⟩
def J13_charAt (a1 : Nat) (a2 : Int32) (h : Hp) : Option (Int32 × Hp) :=
  (roL h a1).bind fun v21 =>
  (J12_checkIndex a2 v21 h).bind fun h22 =>
  (roB h22 a1 a2).bind fun v23 =>
  (rc16 (((v23 &&& (255 : Int32)).toUInt32 % 65536).toInt32)).bind fun v24 => some (v24, h22)
theorem w_J13_charAt {l : Launch} {G : GT} {fr lo : Nat} {h0 : Hp} {r : (Int32 × Hp)} (hfr : 2 ≤ fr) (hlo : 43 ≤ lo) {a1 : Nat} {a2 : Int32} {h : Hp} (hF : J13_charAt a1 a2 h = some r) : V l G cJ13_charAt RJ13 "charAt" 2 (Option.some Jvm.ClassFile.FieldType.char) fr lo h0 r.2 (QM G (some (.int r.1)) h0 r.2) 0 [(0, .ref a1), (1, .int a2)] [] h := by
  unfold J13_charAt at hF
  refine v_iload_n dJ13_charAt_0 rfl 1 rfl ?_
  refine v_aload_n dJ13_charAt_1 rfl 0 rfl ?_
  refine v_roL dJ13_charAt_2 hF (fun v21 hF => ?_)
  obtain ⟨h22, e_h22, hF⟩ := Option.bind_eq_some_iff.mp hF
  refine v_calS0 dJ13_charAt_3 sl_J13_9 q909 (ct_J12_checkIndex e_h22) rfl rfl (Nat.le_trans (Nat.le_of_ble_eq_true rfl) hfr) (Nat.le_trans (Nat.le_of_ble_eq_true rfl) hlo) (Nat.le_of_ble_eq_true rfl) ?_
  refine v_aload_n dJ13_charAt_6 rfl 0 rfl ?_
  refine v_iload_n dJ13_charAt_7 rfl 1 rfl ?_
  refine v_roB dJ13_charAt_8 hF (fun v23 hF => ?_)
  refine v_sipush dJ13_charAt_9 (v := 255) (by decide) ?_
  refine v_iand dJ13_charAt_12 ?_
  refine v_i2c dJ13_charAt_13 ?_
  refine v_cchk hF (fun v24 hz hF => ?_)
  cases hF
  exact v_iret dJ13_charAt_14 rfl hz rfl rfl
theorem ct_J13_charAt {l : Launch} {G : GT} {r : (Int32 × Hp)} {a1 : Nat} {a2 : Int32} {h : Hp} (hF : J13_charAt a1 a2 h = some r) : Ct l G yJ13_charAt (ws_ yJ13_charAt cJ13_charAt 2 (Option.some Jvm.ClassFile.FieldType.char)) 2 43 [.ref a1, .int a2] h (some (.int r.1)) r.2 :=
  ct_of (by decide) (Nat.le_of_ble_eq_true rfl) (w_J13_charAt (Nat.le_refl _) (Nat.le_refl _) hF)
theorem vs_J12_492 : VLs RJ12 492 yJ12_isLatin1 0 := ⟨q156, ⟨by decide, by decide⟩, by decide +kernel, q901, q900, q902⟩
theorem sl_J12_495 : SL RJ12 495 yJ13_charAt 2 := ⟨q161, ⟨by decide, by decide⟩, by decide +kernel, q905, Or.inl q904⟩
def J12_charAt_b (a0 : Nat) (a1 : Int32) (h : Hp) : Option (Int32 × Hp) :=
  (J12_isLatin1 h a0).bind fun v21 =>
  if v21 = 0 then
    none
  else
    (sV h a0).bind fun v22 =>
    bd2 (J13_charAt v22 a1 h) fun v24 h23 =>
    (rc16 v24).bind fun v25 => some (v25, h23)
theorem w_J12_charAt_b {l : Launch} {G : GT} {fr lo : Nat} {h0 : Hp} {r : (Int32 × Hp)} (hfr : 3 ≤ fr) (hlo : 64 ≤ lo) {a0 : Nat} {a1 : Int32} {h : Hp} (hF : J12_charAt_b a0 a1 h = some r) : V l G cJ12_charAt RJ12 "charAt" 2 (Option.some Jvm.ClassFile.FieldType.char) fr lo h0 r.2 (QM G (some (.int r.1)) h0 r.2) 0 [(0, .ref a0), (1, .int a1)] [] h := by
  unfold J12_charAt_b at hF
  refine v_aload_n dJ12_charAt_0 rfl 0 rfl ?_
  obtain ⟨v21, e_v21, hF⟩ := Option.bind_eq_some_iff.mp hF
  refine v_calVs1 dJ12_charAt_1 vs_J12_492 q903 (rc_J12_isLatin1 e_v21) (ct_J12_isLatin1 e_v21) rfl rfl (Nat.le_trans (Nat.le_of_ble_eq_true rfl) hfr) (Nat.le_trans (Nat.le_of_ble_eq_true rfl) hlo) (Nat.le_of_ble_eq_true rfl) ?_
  refine v_if_eq (tgt := 16) dJ12_charAt_4 (by decide) hF (fun hF => ?_) (fun hF => ?_)
  · cases hF
  · refine v_aload_n dJ12_charAt_7 rfl 0 rfl ?_
    refine v_sVal dJ12_charAt_8 q2423 hF (fun v22 hF => ?_)
    refine v_iload_n dJ12_charAt_11 rfl 1 rfl ?_
    obtain ⟨v24, h23, e_v24, hF⟩ := bd2_spec hF
    refine v_calS1 dJ12_charAt_12 sl_J12_495 q906 (ct_J13_charAt e_v24) rfl rfl (Nat.le_trans (Nat.le_of_ble_eq_true rfl) hfr) (Nat.le_trans (Nat.le_of_ble_eq_true rfl) hlo) (Nat.le_of_ble_eq_true rfl) ?_
    refine v_cchk hF (fun v25 hz hF => ?_)
    cases hF
    exact v_iret dJ12_charAt_15 rfl hz rfl rfl
def J12_charAt (a0 : Nat) (a1 : Int32) (h : Hp) : Option (Int32 × Hp) := (ro h a0 1).bind fun _ => J12_charAt_b a0 a1 h
theorem rc_J12_charAt  {r : (Int32 × Hp)} {a0 : Nat} {a1 : Int32} {h : Hp} (hF : J12_charAt a0 a1 h = some r) : ∃ x, ro h a0 1 = some x := by
  obtain ⟨o, ho, -⟩ := Option.bind_eq_some_iff.mp hF
  exact ⟨o, ho⟩
theorem ct_J12_charAt {l : Launch} {G : GT} {r : (Int32 × Hp)} {a0 : Nat} {a1 : Int32} {h : Hp} (hF : J12_charAt a0 a1 h = some r) : Ct l G yJ12_charAt (ws_ yJ12_charAt cJ12_charAt 2 (Option.some Jvm.ClassFile.FieldType.char)) 3 64 [.ref a0, .int a1] h (some (.int r.1)) r.2 :=
  ct_of (by decide) (Nat.le_of_ble_eq_true rfl) (w_J12_charAt_b (Nat.le_refl _) (Nat.le_refl _) (Option.bind_eq_some_iff.mp hF).choose_spec.2)
theorem ac_J16_150 : ACL RJ16 150 := ⟨q1279, q735, q734, q157⟩
theorem kla_11 : KL "java/lang/Object" [5] := by
  intro ci h
  simp only [List.mem_cons, List.not_mem_nil, or_false] at h
  subst h; exact ⟨(RX5, TX5, 1), rfl, Or.inr q2390⟩
def J16_copyOf_2_J24 (v23 : Nat) (v24 : Int32) (v25 : Nat) (h26 : Hp) : Option (Nat × Hp) :=
  (alenO h26 v23).bind fun v27 =>
  (some (if v24 < v27 then v24 else v27)).bind fun (v28 : Int32) =>
  (cpO h26 v23 (0 : Int32) v25 (0 : Int32) v28).bind fun h29 =>
  some (v25, h29)
theorem w_J16_copyOf_2_J24 {l : Launch} {G : GT} {fr lo : Nat} {h0 : Hp} {r : (Nat × Hp)} (hfr : 1 ≤ fr) (hlo : 60 ≤ lo)   {v23 : Nat} {v24 : Int32} {v25 : Nat} {h26 : Hp} (hF : J16_copyOf_2_J24 v23 v24 v25 h26 = some r) : V l G cJ16_copyOf_2 RJ16 "copyOf" 4 (Option.some (Jvm.ClassFile.FieldType.array (Jvm.ClassFile.FieldType.object "java/lang/Object"))) fr lo h0 r.2 (QM G (some (.ref r.1)) h0 r.2) 24 [(0, .ref v23), (1, .int v24)] [.ref v25] h26 := by
  unfold J16_copyOf_2_J24 at hF
  refine v_astore_n dJ16_copyOf_2_24 rfl (Nat.le_of_ble_eq_true rfl) (L' := [(3, .ref v25), (0, .ref v23), (1, .int v24)]) rfl ?_
  refine v_aload_n dJ16_copyOf_2_25 rfl 1 rfl ?_
  refine v_iconst dJ16_copyOf_2_26 (v := 0) (by decide) ?_
  refine v_aload_n dJ16_copyOf_2_27 rfl 0 rfl ?_
  refine v_iconst dJ16_copyOf_2_28 (v := 0) (by decide) ?_
  refine v_aload_n dJ16_copyOf_2_29 rfl 1 rfl ?_
  refine v_alenO dJ16_copyOf_2_30 hF (fun v27 hF => ?_)
  refine v_iload_n dJ16_copyOf_2_31 rfl 2 rfl ?_
  refine v_mmin dJ16_copyOf_2_32 q1278 (by omega) (by omega) (Nat.le_of_ble_eq_true rfl) ?_
  refine v_leti hF (fun v28 hF => ?_)
  refine v_cpO dJ16_copyOf_2_35 ac_J16_150 kla_11 (by omega) (by have : lwAC ≤ 60 := Nat.le_of_ble_eq_true rfl; omega) (Nat.le_of_ble_eq_true rfl) hF (fun h29 hF => ?_)
  refine v_aload_n dJ16_copyOf_2_38 rfl 0 rfl ?_
  cases hF
  exact v_aret (x := some _) dJ16_copyOf_2_39 rfl (Or.inr ⟨_, rfl⟩) rfl rfl
def J16_copyOf_2 (a1 : Nat) (a2 : Int32) (a3 : Nat) (h : Hp) : Option (Nat × Hp) :=
  if a3 = (h.2.2.1 101) then
    bd2 (na h 11 a2 (.inr (.inr (.inr (.inr (fun _ => none)))))) fun a21 h22 =>
    J16_copyOf_2_J24 a1 a2 a21 h22
  else
    none
theorem w_J16_copyOf_2 {l : Launch} {G : GT} {fr lo : Nat} {h0 : Hp} {r : (Nat × Hp)} (hfr : 1 ≤ fr) (hlo : 60 ≤ lo) {a1 : Nat} {a2 : Int32} {a3 : Nat} {h : Hp} (hF : J16_copyOf_2 a1 a2 a3 h = some r) : V l G cJ16_copyOf_2 RJ16 "copyOf" 4 (Option.some (Jvm.ClassFile.FieldType.array (Jvm.ClassFile.FieldType.object "java/lang/Object"))) fr lo h0 r.2 (QM G (some (.ref r.1)) h0 r.2) 0 [(0, .ref a1), (1, .int a2), (2, .ref a3)] [] h := by
  unfold J16_copyOf_2 at hF
  refine v_aload_n dJ16_copyOf_2_0 rfl 2 rfl ?_
  refine v_ldcM dJ16_copyOf_2_1 q1275 ?_
  refine v_acmp_ne (tgt := 13) dJ16_copyOf_2_3 (by decide) hF (fun hF => ?_) (fun hF => ?_)
  · cases hF
  · refine v_iload_n dJ16_copyOf_2_6 rfl 1 rfl ?_
    refine v_anew dJ16_copyOf_2_7 rfl q1277 q1276 hF (fun a21 h22 hF => ?_)
    refine v_goto (tgt := 24) dJ16_copyOf_2_10 (by decide) ?_
    exact v_sub [0, 1] rfl (w_J16_copyOf_2_J24 hfr hlo hF)
theorem ct_J16_copyOf_2 {l : Launch} {G : GT} {r : (Nat × Hp)} {a1 : Nat} {a2 : Int32} {a3 : Nat} {h : Hp} (hF : J16_copyOf_2 a1 a2 a3 h = some r) : Ct l G yJ16_copyOf_2 (ws_ yJ16_copyOf_2 cJ16_copyOf_2 4 (Option.some (Jvm.ClassFile.FieldType.array (Jvm.ClassFile.FieldType.object "java/lang/Object")))) 1 60 [.ref a1, .int a2, .ref a3] h (some (.ref r.1)) r.2 :=
  ct_of (by decide) (Nat.le_of_ble_eq_true rfl) (w_J16_copyOf_2 (Nat.le_refl _) (Nat.le_refl _) hF)
theorem sl_J16_300 : SL RJ16 300 yJ16_copyOf_2 3 := ⟨q175, ⟨by decide, by decide⟩, by decide +kernel, q1273, Or.inl q1272⟩
def J16_copyOf (a1 : Nat) (a2 : Int32) (h : Hp) : Option (Nat × Hp) :=
  (alenO h a1).bind fun _ =>
  bd2 (J16_copyOf_2 a1 a2 (h.2.2.1 101) h) fun v22 h21 =>
  some (v22, h21)
theorem w_J16_copyOf {l : Launch} {G : GT} {fr lo : Nat} {h0 : Hp} {r : (Nat × Hp)} (hfr : 2 ≤ fr) (hlo : 83 ≤ lo) {a1 : Nat} {a2 : Int32} {h : Hp} (hF : J16_copyOf a1 a2 h = some r) : V l G cJ16_copyOf RJ16 "copyOf" 2 (Option.some (Jvm.ClassFile.FieldType.array (Jvm.ClassFile.FieldType.object "java/lang/Object"))) fr lo h0 r.2 (QM G (some (.ref r.1)) h0 r.2) 0 [(0, .ref a1), (1, .int a2)] [] h := by
  unfold J16_copyOf at hF
  refine v_aload_n dJ16_copyOf_0 rfl 0 rfl ?_
  refine v_iload_n dJ16_copyOf_1 rfl 1 rfl ?_
  refine v_aload_n dJ16_copyOf_2 rfl 0 rfl ?_
  refine v_getC dJ16_copyOf_3 q1246 (by omega) (by omega) (Nat.le_of_ble_eq_true rfl) hF (fun _ hF => ?_)
  obtain ⟨v22, h21, e_v22, hF⟩ := bd2_spec hF
  refine v_calS1 dJ16_copyOf_6 sl_J16_300 q1274 (ct_J16_copyOf_2 e_v22) rfl rfl (Nat.le_trans (Nat.le_of_ble_eq_true rfl) hfr) (Nat.le_trans (Nat.le_of_ble_eq_true rfl) hlo) (Nat.le_of_ble_eq_true rfl) ?_
  cases hF
  exact v_aret (x := some _) dJ16_copyOf_9 rfl (Or.inr ⟨_, rfl⟩) rfl rfl
theorem ct_J16_copyOf {l : Launch} {G : GT} {r : (Nat × Hp)} {a1 : Nat} {a2 : Int32} {h : Hp} (hF : J16_copyOf a1 a2 h = some r) : Ct l G yJ16_copyOf (ws_ yJ16_copyOf cJ16_copyOf 2 (Option.some (Jvm.ClassFile.FieldType.array (Jvm.ClassFile.FieldType.object "java/lang/Object")))) 2 83 [.ref a1, .int a2] h (some (.ref r.1)) r.2 :=
  ct_of (by decide) (Nat.le_of_ble_eq_true rfl) (w_J16_copyOf (Nat.le_refl _) (Nat.le_refl _) hF)
def J16_fill_L5 (N : Nat) (x5 : Hp → Option Hp) : Nat → Nat → Int32 → Int32 → Int32 → Hp → Option Hp
  | 0, _, _, _, _, _ => none
  | n29 + 1, v22, v23, v24, v25, h26 =>
    if v25 ≤ v24 then
      x5 h26
    else
      (sI h26 v22 0 v24 v23).bind fun h28 =>
      (J16_fill_L5 N x5 n29) v22 v23 (v24 + (1 : Int32)) v25 h28
theorem w_J16_fill_L5 {l : Launch} {G : GT} {fr lo : Nat} {h0 : Hp} {N : Nat} {r : Hp} (hfr : 0 ≤ fr) (hlo : 0 ≤ lo) {x5 : Hp → Option Hp} (hx5 : ∀ (h27 : Hp), x5 h27 = some r → V l G cJ16_fill RJ16 "fill" 4 (Option.none : Option Jvm.ClassFile.FieldType) fr lo h0 r (QM G none h0 r) 20 [] [] h27) : ∀ (n : Nat) (v22 : Nat) (v23 : Int32) (v24 : Int32) (v25 : Int32) (h26 : Hp), J16_fill_L5 N x5 n v22 v23 v24 v25 h26 = some r → V l G cJ16_fill RJ16 "fill" 4 (Option.none : Option Jvm.ClassFile.FieldType) fr lo h0 r (QM G none h0 r) 5 [(0, .ref v22), (1, .int v23), (2, .int v24), (3, .int v25)] [] h26 := by
  intro n
  induction n with
  | zero =>
    intro v22 v23 v24 v25 h26 hF
    cases (show (none : Option Hp) = some r from hF)
  | succ n hc5 =>
    intro v22 v23 v24 v25 h26 hF
    rw [J16_fill_L5] at hF
    refine v_iload_n dJ16_fill_5 rfl 2 rfl ?_
    refine v_iload_n dJ16_fill_6 rfl 3 rfl ?_
    refine v_icmp_ge (tgt := 20) dJ16_fill_7 (by decide) hF (fun hF => ?_) (fun hF => ?_)
    · exact v_sub [] rfl (hx5 _ hF)
    · refine v_aload_n dJ16_fill_10 rfl 0 rfl ?_
      refine v_iload_n dJ16_fill_11 rfl 2 rfl ?_
      refine v_iload_n dJ16_fill_12 rfl 1 rfl ?_
      refine v_iast dJ16_fill_13 hF (fun h28 hF => ?_)
      refine v_iinc dJ16_fill_14 2 rfl (v := v24 + (1 : Int32)) (by rfl) (Nat.le_of_ble_eq_true rfl) (L' := [(2, .int (v24 + (1 : Int32))), (0, .ref v22), (1, .int v23), (3, .int v25)]) rfl ?_
      refine v_goto (tgt := 5) dJ16_fill_17 (by decide) ?_
      exact v_sub [1, 2, 0, 3] rfl (hc5 _ _ _ _ _ hF)
def J16_fill (N : Nat) (a1 : Nat) (a2 : Int32) (h : Hp) : Option Hp :=
  (alen h a1 0).bind fun v21 =>
  J16_fill_L5 N (fun h30 =>
    some h30) N a1 a2 (0 : Int32) v21 h
theorem w_J16_fill {l : Launch} {G : GT} {fr lo : Nat} {h0 : Hp} {N : Nat} {r : Hp} (hfr : 0 ≤ fr) (hlo : 0 ≤ lo) {a1 : Nat} {a2 : Int32} {h : Hp} (hF : J16_fill N a1 a2 h = some r) : V l G cJ16_fill RJ16 "fill" 4 (Option.none : Option Jvm.ClassFile.FieldType) fr lo h0 r (QM G none h0 r) 0 [(0, .ref a1), (1, .int a2)] [] h := by
  unfold J16_fill at hF
  refine v_iconst dJ16_fill_0 (v := 0) (by decide) ?_
  refine v_istore_n dJ16_fill_1 rfl (Nat.le_of_ble_eq_true rfl) (L' := [(2, .int (0 : Int32)), (0, .ref a1), (1, .int a2)]) rfl ?_
  refine v_aload_n dJ16_fill_2 rfl 1 rfl ?_
  refine v_alen (k := 0) rfl dJ16_fill_3 hF (fun v21 hF => ?_)
  refine v_istore_n dJ16_fill_4 rfl (Nat.le_of_ble_eq_true rfl) (L' := [(3, .int v21), (2, .int (0 : Int32)), (0, .ref a1), (1, .int a2)]) rfl ?_
  refine v_sub [2, 3, 1, 0] rfl (w_J16_fill_L5 hfr hlo ?_ N _ _ _ _ _ hF)
  intro h30 hF
  cases hF
  exact v_vret dJ16_fill_20 rfl rfl rfl
theorem ct_J16_fill {l : Launch} {G : GT} {N : Nat} {r : Hp} {a1 : Nat} {a2 : Int32} {h : Hp} (hF : J16_fill N a1 a2 h = some r) : Ct l G yJ16_fill (ws_ yJ16_fill cJ16_fill 4 (Option.none : Option Jvm.ClassFile.FieldType)) 0 0 [.ref a1, .int a2] h none r :=
  ct_of (by decide) (Nat.le_of_ble_eq_true rfl) (w_J16_fill (Nat.le_refl _) (Nat.le_refl _) hF)
theorem il_J2_1 : IL RJ2 1 yJ1_init 0 := ⟨q140, ⟨by decide, by decide⟩, by decide +kernel, q198, rfl, Or.inl q197⟩
theorem pl_J2_9 : PL RJ2 9 [20] 1 (.array (.object "java/lang/Object")) false := by
  intro ci h
  simp only [List.mem_cons, List.not_mem_nil, or_false] at h
  subst h; exact ⟨RJ2, _, TJ2, 3, tyJ2, rfl, in_J2, by decide, Or.inl q206, Or.inl rfl, tyJ2_ok, rfl, by decide +kernel, rfl, fun z => by cases z⟩
def J2_init_b (a0 : Nat) (h : Hp) : Option Hp :=
  (J1_init a0 h).bind fun h21 =>
  (po h21 a0 [20] 1 (.ref (h21.2.2.1 100))).bind fun h22 =>
  some h22
theorem w_J2_init_b {l : Launch} {G : GT} {fr lo : Nat} {h0 : Hp} {r : Hp} (hfr : 3 ≤ fr) (hlo : 60 ≤ lo) {a0 : Nat} {h : Hp} (hF : J2_init_b a0 h = some r) : V l G cJ2_init RJ2 "<init>" 1 (Option.none : Option Jvm.ClassFile.FieldType) fr lo h0 r (QM G none h0 r) 0 [(0, .ref a0)] [] h := by
  unfold J2_init_b at hF
  refine v_aload_n dJ2_init_0 rfl 0 rfl ?_
  obtain ⟨h21, e_h21, hF⟩ := Option.bind_eq_some_iff.mp hF
  refine v_calI dJ2_init_1 il_J2_1 q199 (ct_J1_init e_h21) rfl rfl (Nat.le_trans (Nat.le_of_ble_eq_true rfl) hfr) (Nat.le_trans (Nat.le_of_ble_eq_true rfl) hlo) (Nat.le_of_ble_eq_true rfl) ?_
  refine v_aload_n dJ2_init_4 rfl 0 rfl ?_
  refine v_getsD dJ2_init_5 q204 ?_
  refine v_put dJ2_init_8 pl_J2_9 (fun z => by cases z) rfl rfl hF (fun h22 hF => ?_)
  cases hF
  exact v_vret dJ2_init_11 rfl rfl rfl
def J2_init (a0 : Nat) (h : Hp) : Option Hp := (ob h a0 [20]).bind fun _ => J2_init_b a0 h
theorem rc_J2_init  {r : Hp} {a0 : Nat} {h : Hp} (hF : J2_init a0 h = some r) : RC h a0 [20] := by
  obtain ⟨o, ho, -⟩ := Option.bind_eq_some_iff.mp hF
  exact ⟨o, ho⟩
theorem ct_J2_init {l : Launch} {G : GT} {r : Hp} {a0 : Nat} {h : Hp} (hF : J2_init a0 h = some r) : Ct l G yJ2_init (ws_ yJ2_init cJ2_init 1 (Option.none : Option Jvm.ClassFile.FieldType)) 3 60 [.ref a0] h none r :=
  ct_of (by decide) (Nat.le_of_ble_eq_true rfl) (w_J2_init_b (Nat.le_refl _) (Nat.le_refl _) (Option.bind_eq_some_iff.mp hF).choose_spec.2)
theorem fl_J2_9 : FL RJ2 9 [20] 1 := by
  intro ci h
  simp only [List.mem_cons, List.not_mem_nil, or_false] at h
  subst h; exact ⟨RJ2, _, TJ2, 3, rfl, in_J2, by decide, Or.inl q206, Or.inl rfl⟩
def J2_elementData_b (h : Hp) (a0 : Nat) (a1 : Int32) : Option Nat :=
  (gr h a0 [20] 1).bind fun v21 =>
  (aR h v21 11 a1).bind fun v22 =>
  some v22
theorem w_J2_elementData_b {l : Launch} {G : GT} {fr lo : Nat} {h0 : Hp} {h : Hp} {r : Nat} (hfr : 0 ≤ fr) (hlo : 0 ≤ lo) {a0 : Nat} {a1 : Int32} (hF : J2_elementData_b h a0 a1 = some r) : V l G cJ2_elementData RJ2 "elementData" 2 (Option.some (Jvm.ClassFile.FieldType.object "java/lang/Object")) fr lo h0 h (QM G (some (.ref r)) h0 h) 0 [(0, .ref a0), (1, .int a1)] [] h := by
  unfold J2_elementData_b at hF
  refine v_aload_n dJ2_elementData_0 rfl 0 rfl ?_
  refine v_getr dJ2_elementData_1 fl_J2_9 hF (fun v21 hF => ?_)
  refine v_iload_n dJ2_elementData_4 rfl 1 rfl ?_
  refine v_aaldr rfl rfl dJ2_elementData_5 hF (fun v22 hF => ?_)
  cases hF
  exact v_aret (x := some _) dJ2_elementData_6 rfl (Or.inl ⟨_, rfl⟩) rfl rfl
def J2_elementData (h : Hp) (a0 : Nat) (a1 : Int32) : Option Nat := (ob h a0 [20]).bind fun _ => J2_elementData_b h a0 a1
theorem rc_J2_elementData {h : Hp}  {r : Nat} {a0 : Nat} {a1 : Int32} (hF : J2_elementData h a0 a1 = some r) : RC h a0 [20] := by
  obtain ⟨o, ho, -⟩ := Option.bind_eq_some_iff.mp hF
  exact ⟨o, ho⟩
theorem ct_J2_elementData {l : Launch} {G : GT} {h : Hp} {r : Nat} {a0 : Nat} {a1 : Int32} (hF : J2_elementData h a0 a1 = some r) : Ct l G yJ2_elementData (ws_ yJ2_elementData cJ2_elementData 2 (Option.some (Jvm.ClassFile.FieldType.object "java/lang/Object"))) 0 0 [.ref a0, .int a1] h (some (.ref r)) h :=
  ct_of (by decide) (Nat.le_of_ble_eq_true rfl) (w_J2_elementData_b (Nat.le_refl _) (Nat.le_refl _) (Option.bind_eq_some_iff.mp hF).choose_spec.2)
theorem sl_J5_105 : SL RJ5 105 yJ6_checkIndex 3 := ⟨q150, ⟨by decide, by decide⟩, by decide +kernel, q548, Or.inl q547⟩
def J5_checkIndex (a1 : Int32) (a2 : Int32) (h : Hp) : Option (Int32 × Hp) :=
  bd2 (J6_checkIndex a1 a2 none h) fun v22 h21 =>
  some (v22, h21)
theorem w_J5_checkIndex {l : Launch} {G : GT} {fr lo : Nat} {h0 : Hp} {r : (Int32 × Hp)} (hfr : 1 ≤ fr) (hlo : 22 ≤ lo) {a1 : Int32} {a2 : Int32} {h : Hp} (hF : J5_checkIndex a1 a2 h = some r) : V l G cJ5_checkIndex RJ5 "checkIndex" 2 (Option.some Jvm.ClassFile.FieldType.int) fr lo h0 r.2 (QM G (some (.int r.1)) h0 r.2) 0 [(0, .int a1), (1, .int a2)] [] h := by
  unfold J5_checkIndex at hF
  refine v_iload_n dJ5_checkIndex_0 rfl 0 rfl ?_
  refine v_iload_n dJ5_checkIndex_1 rfl 1 rfl ?_
  refine v_null dJ5_checkIndex_2 ?_
  obtain ⟨v22, h21, e_v22, hF⟩ := bd2_spec hF
  refine v_calS1 dJ5_checkIndex_3 sl_J5_105 q549 (ct_J6_checkIndex e_v22) rfl rfl (Nat.le_trans (Nat.le_of_ble_eq_true rfl) hfr) (Nat.le_trans (Nat.le_of_ble_eq_true rfl) hlo) (Nat.le_of_ble_eq_true rfl) ?_
  cases hF
  exact v_iret dJ5_checkIndex_6 rfl rfl rfl rfl
theorem ct_J5_checkIndex {l : Launch} {G : GT} {r : (Int32 × Hp)} {a1 : Int32} {a2 : Int32} {h : Hp} (hF : J5_checkIndex a1 a2 h = some r) : Ct l G yJ5_checkIndex (ws_ yJ5_checkIndex cJ5_checkIndex 2 (Option.some Jvm.ClassFile.FieldType.int)) 1 22 [.int a1, .int a2] h (some (.int r.1)) r.2 :=
  ct_of (by decide) (Nat.le_of_ble_eq_true rfl) (w_J5_checkIndex (Nat.le_refl _) (Nat.le_refl _) hF)
theorem sl_J2_118 : SL RJ2 118 yJ5_checkIndex 2 := ⟨q149, ⟨by decide, by decide⟩, by decide +kernel, q545, Or.inl q544⟩
theorem vl_J2_123 : ∀ ci ∈ [20], VL RJ2 123 ci yJ2_elementData 1 := by
  intro ci h
  simp only [List.mem_cons, List.not_mem_nil, or_false] at h
  subst h; exact ⟨RJ2, TJ2, 3, rfl, q141, ⟨by decide, by decide⟩, by decide +kernel, q551, Or.inl ⟨q550, q552⟩⟩
theorem fl_J2_48 : FL RJ2 48 [20] 2 := by
  intro ci h
  simp only [List.mem_cons, List.not_mem_nil, or_false] at h
  subst h; exact ⟨RJ2, _, TJ2, 3, rfl, in_J2, by decide, Or.inl q207, Or.inl rfl⟩
def J2_get_b (a0 : Nat) (a1 : Int32) (h : Hp) : Option (Nat × Hp) :=
  (gi h a0 [20] 2).bind fun v21 =>
  bd2 (J5_checkIndex a1 v21 h) fun v23 h22 =>
  (J2_elementData h22 a0 a1).bind fun v24 =>
  some (v24, h22)
theorem w_J2_get_b {l : Launch} {G : GT} {fr lo : Nat} {h0 : Hp} {r : (Nat × Hp)} (hfr : 2 ≤ fr) (hlo : 43 ≤ lo) {a0 : Nat} {a1 : Int32} {h : Hp} (hF : J2_get_b a0 a1 h = some r) : V l G cJ2_get RJ2 "get" 2 (Option.some (Jvm.ClassFile.FieldType.object "java/lang/Object")) fr lo h0 r.2 (QM G (some (.ref r.1)) h0 r.2) 0 [(0, .ref a0), (1, .int a1)] [] h := by
  unfold J2_get_b at hF
  refine v_iload_n dJ2_get_0 rfl 1 rfl ?_
  refine v_aload_n dJ2_get_1 rfl 0 rfl ?_
  refine v_geti dJ2_get_2 fl_J2_48 hF (fun v21 hF => ?_)
  obtain ⟨v23, h22, e_v23, hF⟩ := bd2_spec hF
  refine v_calS1 dJ2_get_5 sl_J2_118 q546 (ct_J5_checkIndex e_v23) rfl rfl (Nat.le_trans (Nat.le_of_ble_eq_true rfl) hfr) (Nat.le_trans (Nat.le_of_ble_eq_true rfl) hlo) (Nat.le_of_ble_eq_true rfl) ?_
  refine v_pop dJ2_get_8 rfl ?_
  refine v_aload_n dJ2_get_9 rfl 0 rfl ?_
  refine v_iload_n dJ2_get_10 rfl 1 rfl ?_
  obtain ⟨v24, e_v24, hF⟩ := Option.bind_eq_some_iff.mp hF
  refine v_calV1 dJ2_get_11 vl_J2_123 q553 (rc_J2_elementData e_v24) (ct_J2_elementData e_v24) rfl rfl (Nat.le_trans (Nat.le_of_ble_eq_true rfl) hfr) (Nat.le_trans (Nat.le_of_ble_eq_true rfl) hlo) (Nat.le_of_ble_eq_true rfl) ?_
  cases hF
  exact v_aret (x := some _) dJ2_get_14 rfl (Or.inl ⟨_, rfl⟩) rfl rfl
def J2_get (a0 : Nat) (a1 : Int32) (h : Hp) : Option (Nat × Hp) := (ob h a0 [20]).bind fun _ => J2_get_b a0 a1 h
theorem rc_J2_get  {r : (Nat × Hp)} {a0 : Nat} {a1 : Int32} {h : Hp} (hF : J2_get a0 a1 h = some r) : RC h a0 [20] := by
  obtain ⟨o, ho, -⟩ := Option.bind_eq_some_iff.mp hF
  exact ⟨o, ho⟩
theorem ct_J2_get {l : Launch} {G : GT} {r : (Nat × Hp)} {a0 : Nat} {a1 : Int32} {h : Hp} (hF : J2_get a0 a1 h = some r) : Ct l G yJ2_get (ws_ yJ2_get cJ2_get 2 (Option.some (Jvm.ClassFile.FieldType.object "java/lang/Object"))) 2 43 [.ref a0, .int a1] h (some (.ref r.1)) r.2 :=
  ct_of (by decide) (Nat.le_of_ble_eq_true rfl) (w_J2_get_b (Nat.le_refl _) (Nat.le_refl _) (Option.bind_eq_some_iff.mp hF).choose_spec.2)
def J2_size_b (h : Hp) (a0 : Nat) : Option Int32 :=
  (gi h a0 [20] 2).bind fun v21 =>
  some v21
theorem w_J2_size_b {l : Launch} {G : GT} {fr lo : Nat} {h0 : Hp} {h : Hp} {r : Int32} (hfr : 0 ≤ fr) (hlo : 0 ≤ lo) {a0 : Nat} (hF : J2_size_b h a0 = some r) : V l G cJ2_size RJ2 "size" 1 (Option.some Jvm.ClassFile.FieldType.int) fr lo h0 h (QM G (some (.int r)) h0 h) 0 [(0, .ref a0)] [] h := by
  unfold J2_size_b at hF
  refine v_aload_n dJ2_size_0 rfl 0 rfl ?_
  refine v_geti dJ2_size_1 fl_J2_48 hF (fun v21 hF => ?_)
  cases hF
  exact v_iret dJ2_size_4 rfl rfl rfl rfl
def J2_size (h : Hp) (a0 : Nat) : Option Int32 := (ob h a0 [20]).bind fun _ => J2_size_b h a0
theorem rc_J2_size {h : Hp}  {r : Int32} {a0 : Nat} (hF : J2_size h a0 = some r) : RC h a0 [20] := by
  obtain ⟨o, ho, -⟩ := Option.bind_eq_some_iff.mp hF
  exact ⟨o, ho⟩
theorem ct_J2_size {l : Launch} {G : GT} {h : Hp} {r : Int32} {a0 : Nat} (hF : J2_size h a0 = some r) : Ct l G yJ2_size (ws_ yJ2_size cJ2_size 1 (Option.some Jvm.ClassFile.FieldType.int)) 0 0 [.ref a0] h (some (.int r)) h :=
  ct_of (by decide) (Nat.le_of_ble_eq_true rfl) (w_J2_size_b (Nat.le_refl _) (Nat.le_refl _) (Option.bind_eq_some_iff.mp hF).choose_spec.2)
def J2_grow_2_J20 (v23 : Nat) (v24 : Int32) (v25 : Int32) (h26 : Hp) : Option (Nat × Hp) :=
  none
theorem w_J2_grow_2_J20 {l : Launch} {G : GT} {fr lo : Nat} {h0 : Hp} {r : (Nat × Hp)} (hfr : 1 ≤ fr) (hlo : 30 ≤ lo)   {v23 : Nat} {v24 : Int32} {v25 : Int32} {h26 : Hp} (hF : J2_grow_2_J20 v23 v24 v25 h26 = some r) : V l G cJ2_grow_2 RJ2 "grow" 4 (Option.some (Jvm.ClassFile.FieldType.array (Jvm.ClassFile.FieldType.object "java/lang/Object"))) fr lo h0 r.2 (QM G (some (.ref r.1)) h0 r.2) 20 [(0, .ref v23), (1, .int v24), (2, .int v25)] [] h26 := by
  unfold J2_grow_2_J20 at hF
  cases hF
def J2_grow_2_b (a0 : Nat) (a1 : Int32) (h : Hp) : Option (Nat × Hp) :=
  (gr h a0 [20] 1).bind fun v21 =>
  (alenO h v21).bind fun v22 =>
  if 0 < v22 then
    J2_grow_2_J20 a0 a1 v22 h
  else
    (gr h a0 [20] 1).bind fun v27 =>
    if v27 = (h.2.2.1 100) then
      (some (if (10 : Int32) < a1 then a1 else (10 : Int32))).bind fun (v28 : Int32) =>
      bd2 (na h 11 v28 (.inr (.inr (.inr (.inr (fun _ => none)))))) fun a29 h30 =>
      (po h30 a0 [20] 1 (.ref a29)).bind fun h31 =>
      some (a29, h31)
    else
      J2_grow_2_J20 a0 a1 v22 h
theorem w_J2_grow_2_b {l : Launch} {G : GT} {fr lo : Nat} {h0 : Hp} {r : (Nat × Hp)} (hfr : 1 ≤ fr) (hlo : 30 ≤ lo) {a0 : Nat} {a1 : Int32} {h : Hp} (hF : J2_grow_2_b a0 a1 h = some r) : V l G cJ2_grow_2 RJ2 "grow" 4 (Option.some (Jvm.ClassFile.FieldType.array (Jvm.ClassFile.FieldType.object "java/lang/Object"))) fr lo h0 r.2 (QM G (some (.ref r.1)) h0 r.2) 0 [(0, .ref a0), (1, .int a1)] [] h := by
  unfold J2_grow_2_b at hF
  refine v_aload_n dJ2_grow_2_0 rfl 0 rfl ?_
  refine v_getr dJ2_grow_2_1 fl_J2_9 hF (fun v21 hF => ?_)
  refine v_alenO dJ2_grow_2_4 hF (fun v22 hF => ?_)
  refine v_istore_n dJ2_grow_2_5 rfl (Nat.le_of_ble_eq_true rfl) (L' := [(2, .int v22), (0, .ref a0), (1, .int a1)]) rfl ?_
  refine v_iload_n dJ2_grow_2_6 rfl 0 rfl ?_
  refine v_if_gt (tgt := 20) dJ2_grow_2_7 (by decide) hF (fun hF => ?_) (fun hF => ?_)
  · exact v_sub [1, 2, 0] rfl (w_J2_grow_2_J20 hfr hlo hF)
  · refine v_aload_n dJ2_grow_2_10 rfl 1 rfl ?_
    refine v_getr dJ2_grow_2_11 fl_J2_9 hF (fun v27 hF => ?_)
    refine v_getsD dJ2_grow_2_14 q204 ?_
    refine v_acmp_eq (tgt := 45) dJ2_grow_2_17 (by decide) hF (fun hF => ?_) (fun hF => ?_)
    · refine v_aload_n dJ2_grow_2_45 rfl 1 rfl ?_
      refine v_bipush dJ2_grow_2_46 (v := 10) (by decide) ?_
      refine v_iload_n dJ2_grow_2_48 rfl 2 rfl ?_
      refine v_mmax dJ2_grow_2_49 q1280 (by omega) (by omega) (Nat.le_of_ble_eq_true rfl) ?_
      refine v_leti hF (fun v28 hF => ?_)
      refine v_anew dJ2_grow_2_52 rfl q1281 q1276 hF (fun a29 h30 hF => ?_)
      refine v_dup_x1 dJ2_grow_2_55 rfl rfl ?_
      refine v_put dJ2_grow_2_56 pl_J2_9 (fun z => by cases z) rfl rfl hF (fun h31 hF => ?_)
      cases hF
      exact v_aret (x := some _) dJ2_grow_2_59 rfl (Or.inr ⟨_, rfl⟩) rfl rfl
    · exact v_sub [1, 2, 0] rfl (w_J2_grow_2_J20 hfr hlo hF)
def J2_grow_2 (a0 : Nat) (a1 : Int32) (h : Hp) : Option (Nat × Hp) := (ob h a0 [20]).bind fun _ => J2_grow_2_b a0 a1 h
theorem rc_J2_grow_2  {r : (Nat × Hp)} {a0 : Nat} {a1 : Int32} {h : Hp} (hF : J2_grow_2 a0 a1 h = some r) : RC h a0 [20] := by
  obtain ⟨o, ho, -⟩ := Option.bind_eq_some_iff.mp hF
  exact ⟨o, ho⟩
theorem ct_J2_grow_2 {l : Launch} {G : GT} {r : (Nat × Hp)} {a0 : Nat} {a1 : Int32} {h : Hp} (hF : J2_grow_2 a0 a1 h = some r) : Ct l G yJ2_grow_2 (ws_ yJ2_grow_2 cJ2_grow_2 4 (Option.some (Jvm.ClassFile.FieldType.array (Jvm.ClassFile.FieldType.object "java/lang/Object")))) 1 30 [.ref a0, .int a1] h (some (.ref r.1)) r.2 :=
  ct_of (by decide) (Nat.le_of_ble_eq_true rfl) (w_J2_grow_2_b (Nat.le_refl _) (Nat.le_refl _) (Option.bind_eq_some_iff.mp hF).choose_spec.2)
theorem vl_J2_69 : ∀ ci ∈ [20], VL RJ2 69 ci yJ2_grow_2 1 := by
  intro ci h
  simp only [List.mem_cons, List.not_mem_nil, or_false] at h
  subst h; exact ⟨RJ2, TJ2, 3, rfl, q141, ⟨by decide, by decide⟩, by decide +kernel, q1231, Or.inl ⟨q1229, qs23⟩⟩
def J2_grow_b (a0 : Nat) (h : Hp) : Option (Nat × Hp) :=
  (gi h a0 [20] 2).bind fun v21 =>
  bd2 (J2_grow_2 a0 (v21 + (1 : Int32)) h) fun v23 h22 =>
  some (v23, h22)
theorem w_J2_grow_b {l : Launch} {G : GT} {fr lo : Nat} {h0 : Hp} {r : (Nat × Hp)} (hfr : 2 ≤ fr) (hlo : 53 ≤ lo) {a0 : Nat} {h : Hp} (hF : J2_grow_b a0 h = some r) : V l G cJ2_grow RJ2 "grow" 1 (Option.some (Jvm.ClassFile.FieldType.array (Jvm.ClassFile.FieldType.object "java/lang/Object"))) fr lo h0 r.2 (QM G (some (.ref r.1)) h0 r.2) 0 [(0, .ref a0)] [] h := by
  unfold J2_grow_b at hF
  refine v_aload_n dJ2_grow_0 rfl 0 rfl ?_
  refine v_aload_n dJ2_grow_1 rfl 0 rfl ?_
  refine v_geti dJ2_grow_2 fl_J2_48 hF (fun v21 hF => ?_)
  refine v_iconst dJ2_grow_5 (v := 1) (by decide) ?_
  refine v_iadd dJ2_grow_6 ?_
  obtain ⟨v23, h22, e_v23, hF⟩ := bd2_spec hF
  refine v_calV1 dJ2_grow_7 vl_J2_69 q1232 (rc_J2_grow_2 e_v23) (ct_J2_grow_2 e_v23) rfl rfl (Nat.le_trans (Nat.le_of_ble_eq_true rfl) hfr) (Nat.le_trans (Nat.le_of_ble_eq_true rfl) hlo) (Nat.le_of_ble_eq_true rfl) ?_
  cases hF
  exact v_aret (x := some _) dJ2_grow_10 rfl (Or.inr ⟨_, rfl⟩) rfl rfl
def J2_grow (a0 : Nat) (h : Hp) : Option (Nat × Hp) := (ob h a0 [20]).bind fun _ => J2_grow_b a0 h
theorem rc_J2_grow  {r : (Nat × Hp)} {a0 : Nat} {h : Hp} (hF : J2_grow a0 h = some r) : RC h a0 [20] := by
  obtain ⟨o, ho, -⟩ := Option.bind_eq_some_iff.mp hF
  exact ⟨o, ho⟩
theorem ct_J2_grow {l : Launch} {G : GT} {r : (Nat × Hp)} {a0 : Nat} {h : Hp} (hF : J2_grow a0 h = some r) : Ct l G yJ2_grow (ws_ yJ2_grow cJ2_grow 1 (Option.some (Jvm.ClassFile.FieldType.array (Jvm.ClassFile.FieldType.object "java/lang/Object")))) 2 53 [.ref a0] h (some (.ref r.1)) r.2 :=
  ct_of (by decide) (Nat.le_of_ble_eq_true rfl) (w_J2_grow_b (Nat.le_refl _) (Nat.le_refl _) (Option.bind_eq_some_iff.mp hF).choose_spec.2)
theorem al_11 : AL "java/lang/Object" [5] := by
  intro ci h
  simp only [List.mem_cons, List.not_mem_nil, or_false] at h
  subst h; exact ⟨(RX5, TX5, 1), rfl, Or.inr q2390⟩
theorem pl_J2_48 : PL RJ2 48 [20] 2 (.int) false := by
  intro ci h
  simp only [List.mem_cons, List.not_mem_nil, or_false] at h
  subst h; exact ⟨RJ2, _, TJ2, 3, tyJ2, rfl, in_J2, by decide, Or.inl q207, Or.inl rfl, tyJ2_ok, rfl, by decide +kernel, rfl, fun z => by cases z⟩
theorem vl_J2_129 : ∀ ci ∈ [20], VL RJ2 129 ci yJ2_grow 0 := by
  intro ci h
  simp only [List.mem_cons, List.not_mem_nil, or_false] at h
  subst h; exact ⟨RJ2, TJ2, 3, rfl, q141, ⟨by decide, by decide⟩, by decide +kernel, q1227, Or.inl ⟨q1225, qs22⟩⟩
def J2_add_2_J11 (v22 : Nat) (v23 : Nat) (v24 : Nat) (v25 : Int32) (h26 : Hp) : Option Hp :=
  (sR h26 v24 11 [5] v25 v23).bind fun h27 =>
  (po h27 v22 [20] 2 (.int (v25 + (1 : Int32)))).bind fun h28 =>
  some h28
theorem w_J2_add_2_J11 {l : Launch} {G : GT} {fr lo : Nat} {h0 : Hp} {r : Hp} (hfr : 3 ≤ fr) (hlo : 73 ≤ lo)   {v22 : Nat} {v23 : Nat} {v24 : Nat} {v25 : Int32} {h26 : Hp} (hF : J2_add_2_J11 v22 v23 v24 v25 h26 = some r) : V l G cJ2_add_2 RJ2 "add" 4 (Option.none : Option Jvm.ClassFile.FieldType) fr lo h0 r (QM G none h0 r) 11 [(0, .ref v22), (1, .ref v23), (2, .ref v24), (3, .int v25)] [] h26 := by
  unfold J2_add_2_J11 at hF
  refine v_aload_n dJ2_add_2_11 rfl 2 rfl ?_
  refine v_iload_n dJ2_add_2_12 rfl 3 rfl ?_
  refine v_aload_n dJ2_add_2_13 rfl 1 rfl ?_
  refine v_aast rfl al_11 dJ2_add_2_14 hF (fun h27 hF => ?_)
  refine v_aload_n dJ2_add_2_15 rfl 0 rfl ?_
  refine v_iload_n dJ2_add_2_16 rfl 3 rfl ?_
  refine v_iconst dJ2_add_2_17 (v := 1) (by decide) ?_
  refine v_iadd dJ2_add_2_18 ?_
  refine v_put dJ2_add_2_19 pl_J2_48 (fun z => by cases z) rfl rfl hF (fun h28 hF => ?_)
  cases hF
  exact v_vret dJ2_add_2_22 rfl rfl rfl
def J2_add_2_b (a0 : Nat) (a1 : Nat) (a2 : Nat) (a3 : Int32) (h : Hp) : Option Hp :=
  (alenO h a2).bind fun v21 =>
  if a3 = v21 then
    bd2 (J2_grow a0 h) fun v30 h29 =>
    J2_add_2_J11 a0 a1 v30 a3 h29
  else
    J2_add_2_J11 a0 a1 a2 a3 h
theorem w_J2_add_2_b {l : Launch} {G : GT} {fr lo : Nat} {h0 : Hp} {r : Hp} (hfr : 3 ≤ fr) (hlo : 73 ≤ lo) {a0 : Nat} {a1 : Nat} {a2 : Nat} {a3 : Int32} {h : Hp} (hF : J2_add_2_b a0 a1 a2 a3 h = some r) : V l G cJ2_add_2 RJ2 "add" 4 (Option.none : Option Jvm.ClassFile.FieldType) fr lo h0 r (QM G none h0 r) 0 [(0, .ref a0), (1, .ref a1), (2, .ref a2), (3, .int a3)] [] h := by
  unfold J2_add_2_b at hF
  refine v_iload_n dJ2_add_2_0 rfl 3 rfl ?_
  refine v_aload_n dJ2_add_2_1 rfl 2 rfl ?_
  refine v_alenO dJ2_add_2_2 hF (fun v21 hF => ?_)
  refine v_icmp_ne (tgt := 11) dJ2_add_2_3 (by decide) hF (fun hF => ?_) (fun hF => ?_)
  · exact v_sub [0, 1, 2, 3] rfl (w_J2_add_2_J11 hfr hlo hF)
  · refine v_aload_n dJ2_add_2_6 rfl 0 rfl ?_
    obtain ⟨v30, h29, e_v30, hF⟩ := bd2_spec hF
    refine v_calV1 dJ2_add_2_7 vl_J2_129 q1228 (rc_J2_grow e_v30) (ct_J2_grow e_v30) rfl rfl (Nat.le_trans (Nat.le_of_ble_eq_true rfl) hfr) (Nat.le_trans (Nat.le_of_ble_eq_true rfl) hlo) (Nat.le_of_ble_eq_true rfl) ?_
    refine v_astore_n dJ2_add_2_10 rfl (Nat.le_of_ble_eq_true rfl) (L' := [(2, .ref v30), (0, .ref a0), (1, .ref a1), (3, .int a3)]) rfl ?_
    exact v_sub [1, 2, 0, 3] rfl (w_J2_add_2_J11 hfr hlo hF)
def J2_add_2 (a0 : Nat) (a1 : Nat) (a2 : Nat) (a3 : Int32) (h : Hp) : Option Hp := (ob h a0 [20]).bind fun _ => J2_add_2_b a0 a1 a2 a3 h
theorem rc_J2_add_2  {r : Hp} {a0 : Nat} {a1 : Nat} {a2 : Nat} {a3 : Int32} {h : Hp} (hF : J2_add_2 a0 a1 a2 a3 h = some r) : RC h a0 [20] := by
  obtain ⟨o, ho, -⟩ := Option.bind_eq_some_iff.mp hF
  exact ⟨o, ho⟩
theorem ct_J2_add_2 {l : Launch} {G : GT} {r : Hp} {a0 : Nat} {a1 : Nat} {a2 : Nat} {a3 : Int32} {h : Hp} (hF : J2_add_2 a0 a1 a2 a3 h = some r) : Ct l G yJ2_add_2 (ws_ yJ2_add_2 cJ2_add_2 4 (Option.none : Option Jvm.ClassFile.FieldType)) 3 73 [.ref a0, .ref a1, .ref a2, .int a3] h none r :=
  ct_of (by decide) (Nat.le_of_ble_eq_true rfl) (w_J2_add_2_b (Nat.le_refl _) (Nat.le_refl _) (Option.bind_eq_some_iff.mp hF).choose_spec.2)
theorem pl_J2_63 : PL RJ2 63 [20] 0 (.int) false := by
  intro ci h
  simp only [List.mem_cons, List.not_mem_nil, or_false] at h
  subst h; exact ⟨RJ2, _, TJ2, 3, tyJ2, rfl, in_J2, by decide, Or.inl q209, Or.inr q210, tyJ2_ok, rfl, by decide +kernel, rfl, fun z => by cases z⟩
theorem vl_J2_131 : ∀ ci ∈ [20], VL RJ2 131 ci yJ2_add_2 3 := by
  intro ci h
  simp only [List.mem_cons, List.not_mem_nil, or_false] at h
  subst h; exact ⟨RJ2, TJ2, 3, rfl, q141, ⟨by decide, by decide⟩, by decide +kernel, q1223, Or.inl ⟨q1221, qs21⟩⟩
theorem fl_J2_63 : FL RJ2 63 [20] 0 := by
  intro ci h
  simp only [List.mem_cons, List.not_mem_nil, or_false] at h
  subst h; exact ⟨RJ2, _, TJ2, 3, rfl, in_J2, by decide, Or.inl q209, Or.inr q210⟩
def J2_add_b (a0 : Nat) (a1 : Nat) (h : Hp) : Option (Int32 × Hp) :=
  (gi h a0 [20] 0).bind fun v21 =>
  (po h a0 [20] 0 (.int (v21 + (1 : Int32)))).bind fun h22 =>
  (gr h22 a0 [20] 1).bind fun v23 =>
  (gi h22 a0 [20] 2).bind fun v24 =>
  (J2_add_2 a0 a1 v23 v24 h22).bind fun h25 =>
  some ((1 : Int32), h25)
theorem w_J2_add_b {l : Launch} {G : GT} {fr lo : Nat} {h0 : Hp} {r : (Int32 × Hp)} (hfr : 4 ≤ fr) (hlo : 96 ≤ lo) {a0 : Nat} {a1 : Nat} {h : Hp} (hF : J2_add_b a0 a1 h = some r) : V l G cJ2_add RJ2 "add" 2 (Option.some Jvm.ClassFile.FieldType.boolean) fr lo h0 r.2 (QM G (some (.int r.1)) h0 r.2) 0 [(0, .ref a0), (1, .ref a1)] [] h := by
  unfold J2_add_b at hF
  refine v_aload_n dJ2_add_0 rfl 0 rfl ?_
  refine v_dup dJ2_add_1 rfl ?_
  refine v_geti dJ2_add_2 fl_J2_63 hF (fun v21 hF => ?_)
  refine v_iconst dJ2_add_5 (v := 1) (by decide) ?_
  refine v_iadd dJ2_add_6 ?_
  refine v_put dJ2_add_7 pl_J2_63 (fun z => by cases z) rfl rfl hF (fun h22 hF => ?_)
  refine v_aload_n dJ2_add_10 rfl 0 rfl ?_
  refine v_aload_n dJ2_add_11 rfl 1 rfl ?_
  refine v_aload_n dJ2_add_12 rfl 0 rfl ?_
  refine v_getr dJ2_add_13 fl_J2_9 hF (fun v23 hF => ?_)
  refine v_aload_n dJ2_add_16 rfl 0 rfl ?_
  refine v_geti dJ2_add_17 fl_J2_48 hF (fun v24 hF => ?_)
  obtain ⟨h25, e_h25, hF⟩ := Option.bind_eq_some_iff.mp hF
  refine v_calV0 dJ2_add_20 vl_J2_131 q1224 (rc_J2_add_2 e_h25) (ct_J2_add_2 e_h25) rfl rfl (Nat.le_trans (Nat.le_of_ble_eq_true rfl) hfr) (Nat.le_trans (Nat.le_of_ble_eq_true rfl) hlo) (Nat.le_of_ble_eq_true rfl) ?_
  refine v_iconst dJ2_add_23 (v := 1) (by decide) ?_
  cases hF
  exact v_iret dJ2_add_24 rfl (by decide) rfl rfl
def J2_add (a0 : Nat) (a1 : Nat) (h : Hp) : Option (Int32 × Hp) := (ob h a0 [20]).bind fun _ => J2_add_b a0 a1 h
theorem rc_J2_add  {r : (Int32 × Hp)} {a0 : Nat} {a1 : Nat} {h : Hp} (hF : J2_add a0 a1 h = some r) : RC h a0 [20] := by
  obtain ⟨o, ho, -⟩ := Option.bind_eq_some_iff.mp hF
  exact ⟨o, ho⟩
theorem ct_J2_add {l : Launch} {G : GT} {r : (Int32 × Hp)} {a0 : Nat} {a1 : Nat} {h : Hp} (hF : J2_add a0 a1 h = some r) : Ct l G yJ2_add (ws_ yJ2_add cJ2_add 2 (Option.some Jvm.ClassFile.FieldType.boolean)) 4 96 [.ref a0, .ref a1] h (some (.int r.1)) r.2 :=
  ct_of (by decide) (Nat.le_of_ble_eq_true rfl) (w_J2_add_b (Nat.le_refl _) (Nat.le_refl _) (Option.bind_eq_some_iff.mp hF).choose_spec.2)
theorem sl_J2_66 : SL RJ2 66 yJ16_copyOf 2 := ⟨q175, ⟨by decide, by decide⟩, by decide +kernel, q1244, Or.inl q1243⟩
def J2_toArray_b (a0 : Nat) (h : Hp) : Option (Nat × Hp) :=
  (gr h a0 [20] 1).bind fun v21 =>
  (gi h a0 [20] 2).bind fun v22 =>
  bd2 (J16_copyOf v21 v22 h) fun v24 h23 =>
  some (v24, h23)
theorem w_J2_toArray_b {l : Launch} {G : GT} {fr lo : Nat} {h0 : Hp} {r : (Nat × Hp)} (hfr : 3 ≤ fr) (hlo : 104 ≤ lo) {a0 : Nat} {h : Hp} (hF : J2_toArray_b a0 h = some r) : V l G cJ2_toArray RJ2 "toArray" 1 (Option.some (Jvm.ClassFile.FieldType.array (Jvm.ClassFile.FieldType.object "java/lang/Object"))) fr lo h0 r.2 (QM G (some (.ref r.1)) h0 r.2) 0 [(0, .ref a0)] [] h := by
  unfold J2_toArray_b at hF
  refine v_aload_n dJ2_toArray_0 rfl 0 rfl ?_
  refine v_getr dJ2_toArray_1 fl_J2_9 hF (fun v21 hF => ?_)
  refine v_aload_n dJ2_toArray_4 rfl 0 rfl ?_
  refine v_geti dJ2_toArray_5 fl_J2_48 hF (fun v22 hF => ?_)
  obtain ⟨v24, h23, e_v24, hF⟩ := bd2_spec hF
  refine v_calS1 dJ2_toArray_8 sl_J2_66 q1245 (ct_J16_copyOf e_v24) rfl rfl (Nat.le_trans (Nat.le_of_ble_eq_true rfl) hfr) (Nat.le_trans (Nat.le_of_ble_eq_true rfl) hlo) (Nat.le_of_ble_eq_true rfl) ?_
  cases hF
  exact v_aret (x := some _) dJ2_toArray_11 rfl (Or.inr ⟨_, rfl⟩) rfl rfl
def J2_toArray (a0 : Nat) (h : Hp) : Option (Nat × Hp) := (ob h a0 [20]).bind fun _ => J2_toArray_b a0 h
theorem rc_J2_toArray  {r : (Nat × Hp)} {a0 : Nat} {h : Hp} (hF : J2_toArray a0 h = some r) : RC h a0 [20] := by
  obtain ⟨o, ho, -⟩ := Option.bind_eq_some_iff.mp hF
  exact ⟨o, ho⟩
theorem ct_J2_toArray {l : Launch} {G : GT} {r : (Nat × Hp)} {a0 : Nat} {h : Hp} (hF : J2_toArray a0 h = some r) : Ct l G yJ2_toArray (ws_ yJ2_toArray cJ2_toArray 1 (Option.some (Jvm.ClassFile.FieldType.array (Jvm.ClassFile.FieldType.object "java/lang/Object")))) 3 104 [.ref a0] h (some (.ref r.1)) r.2 :=
  ct_of (by decide) (Nat.le_of_ble_eq_true rfl) (w_J2_toArray_b (Nat.le_refl _) (Nat.le_refl _) (Option.bind_eq_some_iff.mp hF).choose_spec.2)
theorem ac_J2_112 : ACL RJ2 112 := ⟨q1611, q735, q734, q157⟩
def J2_addAll_J56 (v29 : Nat) (v30 : Nat) (v31 : Int32) (v32 : Nat) (v33 : Int32) (h34 : Hp) : Option (Int32 × Hp) :=
  (cpO h34 v30 (0 : Int32) v32 v33 v31).bind fun h35 =>
  (po h35 v29 [20] 2 (.int (v33 + v31))).bind fun h36 =>
  some ((1 : Int32), h36)
theorem w_J2_addAll_J56 {l : Launch} {G : GT} {fr lo : Nat} {h0 : Hp} {r : (Int32 × Hp)} (hfr : 4 ≤ fr) (hlo : 124 ≤ lo)   {v29 : Nat} {v30 : Nat} {v31 : Int32} {v32 : Nat} {v33 : Int32} {h34 : Hp} (hF : J2_addAll_J56 v29 v30 v31 v32 v33 h34 = some r) : V l G cJ2_addAll RJ2 "addAll" 6 (Option.some Jvm.ClassFile.FieldType.boolean) fr lo h0 r.2 (QM G (some (.int r.1)) h0 r.2) 56 [(0, .ref v29), (2, .ref v30), (3, .int v31), (4, .ref v32), (5, .int v33)] [] h34 := by
  unfold J2_addAll_J56 at hF
  refine v_aload_n dJ2_addAll_56 rfl 1 rfl ?_
  refine v_iconst dJ2_addAll_57 (v := 0) (by decide) ?_
  refine v_aload dJ2_addAll_58 3 rfl ?_
  refine v_iload dJ2_addAll_60 4 rfl ?_
  refine v_iload_n dJ2_addAll_62 rfl 2 rfl ?_
  refine v_cpO dJ2_addAll_63 ac_J2_112 kla_11 (by omega) (by have : lwAC ≤ 60 := Nat.le_of_ble_eq_true rfl; omega) (Nat.le_of_ble_eq_true rfl) hF (fun h35 hF => ?_)
  refine v_aload_n dJ2_addAll_66 rfl 0 rfl ?_
  refine v_iload dJ2_addAll_67 4 rfl ?_
  refine v_iload_n dJ2_addAll_69 rfl 2 rfl ?_
  refine v_iadd dJ2_addAll_70 ?_
  refine v_put dJ2_addAll_71 pl_J2_48 (fun z => by cases z) rfl rfl hF (fun h36 hF => ?_)
  refine v_iconst dJ2_addAll_74 (v := 1) (by decide) ?_
  cases hF
  exact v_iret dJ2_addAll_75 rfl (by decide) rfl rfl
def J2_addAll_b (a0 : Nat) (a1 : Nat) (h : Hp) : Option (Int32 × Hp) :=
  bd2 (J2_toArray a1 h) fun v21 h22 =>
  (gi h22 a0 [20] 0).bind fun v23 =>
  (po h22 a0 [20] 0 (.int (v23 + (1 : Int32)))).bind fun h24 =>
  (alenO h24 v21).bind fun v25 =>
  if v25 = 0 then
    some ((0 : Int32), h24)
  else
    (gr h24 a0 [20] 1).bind fun v26 =>
    (alenO h24 v26).bind fun v27 =>
    (gi h24 a0 [20] 2).bind fun v28 =>
    if v25 ≤ (v27 - v28) then
      J2_addAll_J56 a0 v21 v25 v26 v28 h24
    else
      bd2 (J2_grow_2 a0 (v28 + v25) h24) fun v38 h37 =>
      J2_addAll_J56 a0 v21 v25 v38 v28 h37
theorem w_J2_addAll_b {l : Launch} {G : GT} {fr lo : Nat} {h0 : Hp} {r : (Int32 × Hp)} (hfr : 4 ≤ fr) (hlo : 124 ≤ lo) {a0 : Nat} {a1 : Nat} {h : Hp} (hF : J2_addAll_b a0 a1 h = some r) : V l G cJ2_addAll RJ2 "addAll" 6 (Option.some Jvm.ClassFile.FieldType.boolean) fr lo h0 r.2 (QM G (some (.int r.1)) h0 r.2) 0 [(0, .ref a0), (1, .ref a1)] [] h := by
  unfold J2_addAll_b at hF
  refine v_aload_n dJ2_addAll_0 rfl 1 rfl ?_
  obtain ⟨v21, h22, e_v21, hF⟩ := bd2_spec hF
  refine v_calF dJ2_addAll_1 q1602 q1610 (rc_J2_toArray e_v21) (ct_J2_toArray e_v21) rfl (Nat.le_trans (Nat.le_of_ble_eq_true rfl) hfr) (Nat.le_trans (Nat.le_of_ble_eq_true rfl) hlo) (Nat.le_of_ble_eq_true rfl) ?_
  refine v_astore_n dJ2_addAll_6 rfl (Nat.le_of_ble_eq_true rfl) (L' := [(2, .ref v21), (0, .ref a0), (1, .ref a1)]) rfl ?_
  refine v_aload_n dJ2_addAll_7 rfl 1 rfl ?_
  refine v_dup dJ2_addAll_8 rfl ?_
  refine v_geti dJ2_addAll_9 fl_J2_63 hF (fun v23 hF => ?_)
  refine v_iconst dJ2_addAll_12 (v := 1) (by decide) ?_
  refine v_iadd dJ2_addAll_13 ?_
  refine v_put dJ2_addAll_14 pl_J2_63 (fun z => by cases z) rfl rfl hF (fun h24 hF => ?_)
  refine v_aload_n dJ2_addAll_17 rfl 0 rfl ?_
  refine v_alenO dJ2_addAll_18 hF (fun v25 hF => ?_)
  refine v_istore_n dJ2_addAll_19 rfl (Nat.le_of_ble_eq_true rfl) (L' := [(3, .int v25), (2, .ref v21), (0, .ref a0), (1, .ref a1)]) rfl ?_
  refine v_iload_n dJ2_addAll_20 rfl 0 rfl ?_
  refine v_if_ne (tgt := 26) dJ2_addAll_21 (by decide) hF (fun hF => ?_) (fun hF => ?_)
  · refine v_iload_n dJ2_addAll_26 rfl 0 rfl ?_
    refine v_aload_n dJ2_addAll_27 rfl 2 rfl ?_
    refine v_getr dJ2_addAll_28 fl_J2_9 hF (fun v26 hF => ?_)
    refine v_dup dJ2_addAll_31 rfl ?_
    refine v_astore dJ2_addAll_32 (Nat.le_of_ble_eq_true rfl) (L' := [(4, .ref v26), (3, .int v25), (2, .ref v21), (0, .ref a0), (1, .ref a1)]) rfl ?_
    refine v_alenO dJ2_addAll_34 hF (fun v27 hF => ?_)
    refine v_aload_n dJ2_addAll_35 rfl 3 rfl ?_
    refine v_geti dJ2_addAll_36 fl_J2_48 hF (fun v28 hF => ?_)
    refine v_dup dJ2_addAll_39 rfl ?_
    refine v_istore dJ2_addAll_40 (Nat.le_of_ble_eq_true rfl) (L' := [(5, .int v28), (4, .ref v26), (3, .int v25), (2, .ref v21), (0, .ref a0), (1, .ref a1)]) rfl ?_
    refine v_isub dJ2_addAll_42 ?_
    refine v_icmp_le (tgt := 56) dJ2_addAll_43 (by decide) hF (fun hF => ?_) (fun hF => ?_)
    · exact v_sub [4, 3, 2, 1, 0] rfl (w_J2_addAll_J56 hfr hlo hF)
    · refine v_aload_n dJ2_addAll_46 rfl 4 rfl ?_
      refine v_iload dJ2_addAll_47 0 rfl ?_
      refine v_iload_n dJ2_addAll_49 rfl 2 rfl ?_
      refine v_iadd dJ2_addAll_50 ?_
      obtain ⟨v38, h37, e_v38, hF⟩ := bd2_spec hF
      refine v_calV1 dJ2_addAll_51 vl_J2_69 q1232 (rc_J2_grow_2 e_v38) (ct_J2_grow_2 e_v38) rfl rfl (Nat.le_trans (Nat.le_of_ble_eq_true rfl) hfr) (Nat.le_trans (Nat.le_of_ble_eq_true rfl) hlo) (Nat.le_of_ble_eq_true rfl) ?_
      refine v_astore dJ2_addAll_54 (Nat.le_of_ble_eq_true rfl) (L' := [(4, .ref v38), (5, .int v28), (3, .int v25), (2, .ref v21), (0, .ref a0), (1, .ref a1)]) rfl ?_
      exact v_sub [4, 3, 2, 0, 1] rfl (w_J2_addAll_J56 hfr hlo hF)
  · refine v_iconst dJ2_addAll_24 (v := 0) (by decide) ?_
    cases hF
    exact v_iret dJ2_addAll_25 rfl (by decide) rfl rfl
def J2_addAll (a0 : Nat) (a1 : Nat) (h : Hp) : Option (Int32 × Hp) := (ob h a0 [20]).bind fun _ => J2_addAll_b a0 a1 h
theorem rc_J2_addAll  {r : (Int32 × Hp)} {a0 : Nat} {a1 : Nat} {h : Hp} (hF : J2_addAll a0 a1 h = some r) : RC h a0 [20] := by
  obtain ⟨o, ho, -⟩ := Option.bind_eq_some_iff.mp hF
  exact ⟨o, ho⟩
theorem ct_J2_addAll {l : Launch} {G : GT} {r : (Int32 × Hp)} {a0 : Nat} {a1 : Nat} {h : Hp} (hF : J2_addAll a0 a1 h = some r) : Ct l G yJ2_addAll (ws_ yJ2_addAll cJ2_addAll 6 (Option.some Jvm.ClassFile.FieldType.boolean)) 4 124 [.ref a0, .ref a1] h (some (.int r.1)) r.2 :=
  ct_of (by decide) (Nat.le_of_ble_eq_true rfl) (w_J2_addAll_b (Nat.le_refl _) (Nat.le_refl _) (Option.bind_eq_some_iff.mp hF).choose_spec.2)
def J4_bitCount (a1 : Int32) : Option Int32 :=
  (some (a1 - (((a1.toUInt32 >>> ((1 : Int32).toUInt32 &&& Int32.toUInt32 31)).toInt32) &&& (1431655765 : Int32)))).bind fun (v21 : Int32) =>
  (some ((v21 &&& (858993459 : Int32)) + (((v21.toUInt32 >>> ((2 : Int32).toUInt32 &&& Int32.toUInt32 31)).toInt32) &&& (858993459 : Int32)))).bind fun (v22 : Int32) =>
  (some ((v22 + ((v22.toUInt32 >>> ((4 : Int32).toUInt32 &&& Int32.toUInt32 31)).toInt32)) &&& (252645135 : Int32))).bind fun (v23 : Int32) =>
  (some (v23 + ((v23.toUInt32 >>> ((8 : Int32).toUInt32 &&& Int32.toUInt32 31)).toInt32))).bind fun (v24 : Int32) =>
  (some (v24 + ((v24.toUInt32 >>> ((16 : Int32).toUInt32 &&& Int32.toUInt32 31)).toInt32))).bind fun (v25 : Int32) =>
  some (v25 &&& (63 : Int32))
theorem w_J4_bitCount {l : Launch} {G : GT} {fr lo : Nat} {h0 : Hp} {h : Hp} {r : Int32} (hfr : 0 ≤ fr) (hlo : 0 ≤ lo) {a1 : Int32} (hF : J4_bitCount a1 = some r) : V l G cJ4_bitCount RJ4 "bitCount" 1 (Option.some Jvm.ClassFile.FieldType.int) fr lo h0 h (QM G (some (.int r)) h0 h) 0 [(0, .int a1)] [] h := by
  unfold J4_bitCount at hF
  refine v_iload_n dJ4_bitCount_0 rfl 0 rfl ?_
  refine v_iload_n dJ4_bitCount_1 rfl 0 rfl ?_
  refine v_iconst dJ4_bitCount_2 (v := 1) (by decide) ?_
  refine v_iushr dJ4_bitCount_3 ?_
  refine v_ldcw dJ4_bitCount_4 q533 ?_
  refine v_iand dJ4_bitCount_7 ?_
  refine v_isub dJ4_bitCount_8 ?_
  refine v_leti hF (fun v21 hF => ?_)
  refine v_istore_n dJ4_bitCount_9 rfl (Nat.le_of_ble_eq_true rfl) (L' := [(0, .int v21)]) rfl ?_
  refine v_iload_n dJ4_bitCount_10 rfl 0 rfl ?_
  refine v_ldcw dJ4_bitCount_11 q534 ?_
  refine v_iand dJ4_bitCount_14 ?_
  refine v_iload_n dJ4_bitCount_15 rfl 0 rfl ?_
  refine v_iconst dJ4_bitCount_16 (v := 2) (by decide) ?_
  refine v_iushr dJ4_bitCount_17 ?_
  refine v_ldcw dJ4_bitCount_18 q534 ?_
  refine v_iand dJ4_bitCount_21 ?_
  refine v_iadd dJ4_bitCount_22 ?_
  refine v_leti hF (fun v22 hF => ?_)
  refine v_istore_n dJ4_bitCount_23 rfl (Nat.le_of_ble_eq_true rfl) (L' := [(0, .int v22)]) rfl ?_
  refine v_iload_n dJ4_bitCount_24 rfl 0 rfl ?_
  refine v_iload_n dJ4_bitCount_25 rfl 0 rfl ?_
  refine v_iconst dJ4_bitCount_26 (v := 4) (by decide) ?_
  refine v_iushr dJ4_bitCount_27 ?_
  refine v_iadd dJ4_bitCount_28 ?_
  refine v_ldcw dJ4_bitCount_29 q535 ?_
  refine v_iand dJ4_bitCount_32 ?_
  refine v_leti hF (fun v23 hF => ?_)
  refine v_istore_n dJ4_bitCount_33 rfl (Nat.le_of_ble_eq_true rfl) (L' := [(0, .int v23)]) rfl ?_
  refine v_iload_n dJ4_bitCount_34 rfl 0 rfl ?_
  refine v_iload_n dJ4_bitCount_35 rfl 0 rfl ?_
  refine v_bipush dJ4_bitCount_36 (v := 8) (by decide) ?_
  refine v_iushr dJ4_bitCount_38 ?_
  refine v_iadd dJ4_bitCount_39 ?_
  refine v_leti hF (fun v24 hF => ?_)
  refine v_istore_n dJ4_bitCount_40 rfl (Nat.le_of_ble_eq_true rfl) (L' := [(0, .int v24)]) rfl ?_
  refine v_iload_n dJ4_bitCount_41 rfl 0 rfl ?_
  refine v_iload_n dJ4_bitCount_42 rfl 0 rfl ?_
  refine v_bipush dJ4_bitCount_43 (v := 16) (by decide) ?_
  refine v_iushr dJ4_bitCount_45 ?_
  refine v_iadd dJ4_bitCount_46 ?_
  refine v_leti hF (fun v25 hF => ?_)
  refine v_istore_n dJ4_bitCount_47 rfl (Nat.le_of_ble_eq_true rfl) (L' := [(0, .int v25)]) rfl ?_
  refine v_iload_n dJ4_bitCount_48 rfl 0 rfl ?_
  refine v_bipush dJ4_bitCount_49 (v := 63) (by decide) ?_
  refine v_iand dJ4_bitCount_51 ?_
  cases hF
  exact v_iret dJ4_bitCount_52 rfl rfl rfl rfl
theorem ct_J4_bitCount {l : Launch} {G : GT} {h : Hp} {r : Int32} {a1 : Int32} (hF : J4_bitCount a1 = some r) : Ct l G yJ4_bitCount (ws_ yJ4_bitCount cJ4_bitCount 1 (Option.some Jvm.ClassFile.FieldType.int)) 0 0 [.int a1] h (some (.int r)) h :=
  ct_of (by decide) (Nat.le_of_ble_eq_true rfl) (w_J4_bitCount (Nat.le_refl _) (Nat.le_refl _) hF)
theorem pl_J7_7 : PL RJ7 7 [8] 0 (.object "java/lang/Throwable") false := by
  intro ci h
  simp only [List.mem_cons, List.not_mem_nil, or_false] at h
  subst h; exact ⟨RX9, _, TX9, 7, tyX9, rfl, in_X9, by decide, Or.inl q693, Or.inl rfl, tyX9_ok, rfl, by decide +kernel, rfl, fun z => by cases z⟩
theorem pl_J7_17 : PL RJ7 17 [8] 1 (.array (.object "java/lang/StackTraceElement")) false := by
  intro ci h
  simp only [List.mem_cons, List.not_mem_nil, or_false] at h
  subst h; exact ⟨RX9, _, TX9, 7, tyX9, rfl, in_X9, by decide, Or.inl q694, Or.inl rfl, tyX9_ok, rfl, by decide +kernel, rfl, fun z => by cases z⟩
theorem pl_J7_24 : PL RJ7 24 [8] 2 (.object "java/util/List") false := by
  intro ci h
  simp only [List.mem_cons, List.not_mem_nil, or_false] at h
  subst h; exact ⟨RX9, _, TX9, 7, tyX9, rfl, in_X9, by decide, Or.inl q695, Or.inl rfl, tyX9_ok, rfl, by decide +kernel, rfl, fun z => by cases z⟩
theorem pl_J7_31 : PL RJ7 31 [8] 3 (.object "java/lang/String") false := by
  intro ci h
  simp only [List.mem_cons, List.not_mem_nil, or_false] at h
  subst h; exact ⟨RX9, _, TX9, 7, tyX9, rfl, in_X9, by decide, Or.inl q692, Or.inl rfl, tyX9_ok, rfl, by decide +kernel, rfl, fun z => by cases z⟩
def J7_init_3_J41 (v25 : Nat) (v26 : Option Nat) (v27 : Option Nat) (v28 : Int32) (h29 : Hp) : Option Hp :=
  (po h29 v25 [8] 3 (va_rf v26)).bind fun h30 =>
  (po h30 v25 [8] 0 (va_rf v27)).bind fun h31 =>
  if v28 = 0 then
    (po h31 v25 [8] 2 (va_rf none)).bind fun h32 =>
    some h32
  else
    some h31
theorem w_J7_init_3_J41 {l : Launch} {G : GT} {fr lo : Nat} {h0 : Hp} {r : Hp} (hfr : 1 ≤ fr) (hlo : 20 ≤ lo)   {v25 : Nat} {v26 : Option Nat} {v27 : Option Nat} {v28 : Int32} {h29 : Hp} (hF : J7_init_3_J41 v25 v26 v27 v28 h29 = some r) : V l G cJ7_init_3 RJ7 "<init>" 5 (Option.none : Option Jvm.ClassFile.FieldType) fr lo h0 r (QM G none h0 r) 41 [(0, .ref v25), (1, va_rf v26), (2, va_rf v27), (3, .int v28)] [] h29 := by
  unfold J7_init_3_J41 at hF
  refine v_aload_n dJ7_init_3_41 rfl 0 rfl ?_
  refine v_aloadq_n dJ7_init_3_42 rfl 1 rfl ?_
  refine v_put dJ7_init_3_43 pl_J7_31 (fun z => by cases z) (nar_q _) (fit_q _) hF (fun h30 hF => ?_)
  refine v_aload_n dJ7_init_3_46 rfl 0 rfl ?_
  refine v_aloadq_n dJ7_init_3_47 rfl 2 rfl ?_
  refine v_put dJ7_init_3_48 pl_J7_7 (fun z => by cases z) (nar_q _) (fit_q _) hF (fun h31 hF => ?_)
  refine v_iload_n dJ7_init_3_51 rfl 3 rfl ?_
  refine v_if_ne (tgt := 60) dJ7_init_3_52 (by decide) hF (fun hF => ?_) (fun hF => ?_)
  · cases hF
    exact v_vret dJ7_init_3_60 rfl rfl rfl
  · refine v_aload_n dJ7_init_3_55 rfl 0 rfl ?_
    refine v_null dJ7_init_3_56 ?_
    refine v_put dJ7_init_3_57 pl_J7_24 (fun z => by cases z) (nar_q _) (fit_q _) hF (fun h32 hF => ?_)
    cases hF
    exact v_vret dJ7_init_3_60 rfl rfl rfl
def J7_init_3_b (a0 : Nat) (a1 : Option Nat) (a2 : Option Nat) (a3 : Int32) (a4 : Int32) (h : Hp) : Option Hp :=
  (po h a0 [8] 0 (.ref a0)).bind fun h21 =>
  (po h21 a0 [8] 1 (va_rf (gOf (h21.2.2.1 103)))).bind fun h22 =>
  (po h22 a0 [8] 2 (va_rf (gOf (h22.2.2.1 104)))).bind fun h23 =>
  if a4 = 0 then
    (po h23 a0 [8] 1 (va_rf none)).bind fun h24 =>
    J7_init_3_J41 a0 a1 a2 a3 h24
  else
    none
theorem w_J7_init_3_b {l : Launch} {G : GT} {fr lo : Nat} {h0 : Hp} {r : Hp} (hfr : 1 ≤ fr) (hlo : 20 ≤ lo) {a0 : Nat} {a1 : Option Nat} {a2 : Option Nat} {a3 : Int32} {a4 : Int32} {h : Hp} (hF : J7_init_3_b a0 a1 a2 a3 a4 h = some r) : V l G cJ7_init_3 RJ7 "<init>" 5 (Option.none : Option Jvm.ClassFile.FieldType) fr lo h0 r (QM G none h0 r) 0 [(0, .ref a0), (1, va_rf a1), (2, va_rf a2), (3, .int a3), (4, .int a4)] [] h := by
  unfold J7_init_3_b at hF
  refine v_aload_n dJ7_init_3_0 rfl 0 rfl ?_
  refine v_objInit dJ7_init_3_1 q675 q184 q185 (by omega) (by omega) (Nat.le_of_ble_eq_true rfl) ?_
  refine v_aload_n dJ7_init_3_4 rfl 0 rfl ?_
  refine v_aload_n dJ7_init_3_5 rfl 0 rfl ?_
  refine v_put dJ7_init_3_6 pl_J7_7 (fun z => by cases z) rfl rfl hF (fun h21 hF => ?_)
  refine v_aload_n dJ7_init_3_9 rfl 0 rfl ?_
  refine v_getsU dJ7_init_3_10 q676 ?_
  refine v_put dJ7_init_3_13 pl_J7_17 (fun z => by cases z) (nar_qa _) (fit_qa _) hF (fun h22 hF => ?_)
  refine v_aload_n dJ7_init_3_16 rfl 0 rfl ?_
  refine v_getsS dJ7_init_3_17 q678 ?_
  refine v_put dJ7_init_3_20 pl_J7_24 (fun z => by cases z) (nar_q _) (fit_q _) hF (fun h23 hF => ?_)
  refine v_iload dJ7_init_3_23 4 rfl ?_
  refine v_if_eq (tgt := 36) dJ7_init_3_25 (by decide) hF (fun hF => ?_) (fun hF => ?_)
  · refine v_aload_n dJ7_init_3_36 rfl 0 rfl ?_
    refine v_null dJ7_init_3_37 ?_
    refine v_put dJ7_init_3_38 pl_J7_17 (fun z => by cases z) (nar_qa _) (fit_qa _) hF (fun h24 hF => ?_)
    exact v_sub [0, 1, 2, 3] rfl (w_J7_init_3_J41 hfr hlo hF)
  · refine v_aload_n dJ7_init_3_28 rfl 0 rfl ?_
    cases hF
def J7_init_3 (a0 : Nat) (a1 : Option Nat) (a2 : Option Nat) (a3 : Int32) (a4 : Int32) (h : Hp) : Option Hp := (ob h a0 [8]).bind fun _ => J7_init_3_b a0 a1 a2 a3 a4 h
theorem rc_J7_init_3  {r : Hp} {a0 : Nat} {a1 : Option Nat} {a2 : Option Nat} {a3 : Int32} {a4 : Int32} {h : Hp} (hF : J7_init_3 a0 a1 a2 a3 a4 h = some r) : RC h a0 [8] := by
  obtain ⟨o, ho, -⟩ := Option.bind_eq_some_iff.mp hF
  exact ⟨o, ho⟩
theorem ct_J7_init_3 {l : Launch} {G : GT} {r : Hp} {a0 : Nat} {a1 : Option Nat} {a2 : Option Nat} {a3 : Int32} {a4 : Int32} {h : Hp} (hF : J7_init_3 a0 a1 a2 a3 a4 h = some r) : Ct l G yJ7_init_3 (ws_ yJ7_init_3 cJ7_init_3 5 (Option.none : Option Jvm.ClassFile.FieldType)) 1 20 [.ref a0, va_rf a1, va_rf a2, .int a3, .int a4] h none r := by
  cases a1 <;> cases a2 <;> exact ct_of (by decide) (Nat.le_of_ble_eq_true rfl) (w_J7_init_3_b (Nat.le_refl _) (Nat.le_refl _) (Option.bind_eq_some_iff.mp hF).choose_spec.2)
theorem il_J8_16 : IL RJ8 16 yJ7_init_3 4 := ⟨q151, ⟨by decide, by decide⟩, by decide +kernel, q860, rfl, Or.inl q859⟩
def J8_init_2_b (a0 : Nat) (a1 : Option Nat) (a2 : Option Nat) (a3 : Int32) (a4 : Int32) (h : Hp) : Option Hp :=
  (J7_init_3 a0 a1 a2 a3 a4 h).bind fun h21 =>
  some h21
theorem w_J8_init_2_b {l : Launch} {G : GT} {fr lo : Nat} {h0 : Hp} {r : Hp} (hfr : 2 ≤ fr) (hlo : 44 ≤ lo) {a0 : Nat} {a1 : Option Nat} {a2 : Option Nat} {a3 : Int32} {a4 : Int32} {h : Hp} (hF : J8_init_2_b a0 a1 a2 a3 a4 h = some r) : V l G cJ8_init_2 RJ8 "<init>" 5 (Option.none : Option Jvm.ClassFile.FieldType) fr lo h0 r (QM G none h0 r) 0 [(0, .ref a0), (1, va_rf a1), (2, va_rf a2), (3, .int a3), (4, .int a4)] [] h := by
  unfold J8_init_2_b at hF
  refine v_aload_n dJ8_init_2_0 rfl 0 rfl ?_
  refine v_aloadq_n dJ8_init_2_1 rfl 1 rfl ?_
  refine v_aloadq_n dJ8_init_2_2 rfl 2 rfl ?_
  refine v_iload_n dJ8_init_2_3 rfl 3 rfl ?_
  refine v_iload dJ8_init_2_4 4 rfl ?_
  obtain ⟨h21, e_h21, hF⟩ := Option.bind_eq_some_iff.mp hF
  refine v_calI dJ8_init_2_6 il_J8_16 q861 (ct_J7_init_3 e_h21) rfl rfl (Nat.le_trans (Nat.le_of_ble_eq_true rfl) hfr) (Nat.le_trans (Nat.le_of_ble_eq_true rfl) hlo) (Nat.le_of_ble_eq_true rfl) ?_
  cases hF
  exact v_vret dJ8_init_2_9 rfl rfl rfl
def J8_init_2 (a0 : Nat) (a1 : Option Nat) (a2 : Option Nat) (a3 : Int32) (a4 : Int32) (h : Hp) : Option Hp := (ob h a0 [8]).bind fun _ => J8_init_2_b a0 a1 a2 a3 a4 h
theorem rc_J8_init_2  {r : Hp} {a0 : Nat} {a1 : Option Nat} {a2 : Option Nat} {a3 : Int32} {a4 : Int32} {h : Hp} (hF : J8_init_2 a0 a1 a2 a3 a4 h = some r) : RC h a0 [8] := by
  obtain ⟨o, ho, -⟩ := Option.bind_eq_some_iff.mp hF
  exact ⟨o, ho⟩
theorem ct_J8_init_2 {l : Launch} {G : GT} {r : Hp} {a0 : Nat} {a1 : Option Nat} {a2 : Option Nat} {a3 : Int32} {a4 : Int32} {h : Hp} (hF : J8_init_2 a0 a1 a2 a3 a4 h = some r) : Ct l G yJ8_init_2 (ws_ yJ8_init_2 cJ8_init_2 5 (Option.none : Option Jvm.ClassFile.FieldType)) 2 44 [.ref a0, va_rf a1, va_rf a2, .int a3, .int a4] h none r := by
  cases a1 <;> cases a2 <;> exact ct_of (by decide) (Nat.le_of_ble_eq_true rfl) (w_J8_init_2_b (Nat.le_refl _) (Nat.le_refl _) (Option.bind_eq_some_iff.mp hF).choose_spec.2)
theorem pl_X2_9 : PL RX2 9 [2] 0 (.array (.int)) true := by
  intro ci h
  simp only [List.mem_cons, List.not_mem_nil, or_false] at h
  subst h; exact ⟨RX2, _, TX2, 4, tyX2, rfl, in_X2, by decide, Or.inl q226, Or.inl rfl, tyX2_ok, rfl, by decide +kernel, rfl, fun _ => rfl⟩
def X2_init_b (a0 : Nat) (h : Hp) : Option Hp :=
  bd2 (na h 0 (4 : Int32) (.inl (fun _ => 0))) fun a21 h22 =>
  (po h22 a0 [2] 0 (.ref a21)).bind fun h23 =>
  some h23
theorem w_X2_init_b {l : Launch} {G : GT} {fr lo : Nat} {h0 : Hp} {r : Hp} (hfr : 1 ≤ fr) (hlo : 20 ≤ lo) {a0 : Nat} {h : Hp} (hF : X2_init_b a0 h = some r) : V l G cX2_init RX2 "<init>" 1 (Option.none : Option Jvm.ClassFile.FieldType) fr lo h0 r (QM G none h0 r) 0 [(0, .ref a0)] [] h := by
  unfold X2_init_b at hF
  refine v_aload_n dX2_init_0 rfl 0 rfl ?_
  refine v_objInit dX2_init_1 q225 q184 q185 (by omega) (by omega) (Nat.le_of_ble_eq_true rfl) ?_
  refine v_aload_n dX2_init_4 rfl 0 rfl ?_
  refine v_iconst dX2_init_5 (v := 4) (by decide) ?_
  refine v_newarr dX2_init_6 rfl rfl q247 (fun _ _ h => h) (by decide) (fun _ _ => rfl) hF (fun a21 h22 hF => ?_)
  refine v_put dX2_init_8 pl_X2_9 (fun _ => rfl) rfl rfl hF (fun h23 hF => ?_)
  cases hF
  exact v_vret dX2_init_11 rfl rfl rfl
def X2_init (a0 : Nat) (h : Hp) : Option Hp := (ob h a0 [2]).bind fun _ => X2_init_b a0 h
theorem rc_X2_init  {r : Hp} {a0 : Nat} {h : Hp} (hF : X2_init a0 h = some r) : RC h a0 [2] := by
  obtain ⟨o, ho, -⟩ := Option.bind_eq_some_iff.mp hF
  exact ⟨o, ho⟩
theorem ct_X2_init {l : Launch} {G : GT} {r : Hp} {a0 : Nat} {h : Hp} (hF : X2_init a0 h = some r) : Ct l G yX2_init (ws_ yX2_init cX2_init 1 (Option.none : Option Jvm.ClassFile.FieldType)) 1 20 [.ref a0] h none r :=
  ct_of (by decide) (Nat.le_of_ble_eq_true rfl) (w_X2_init_b (Nat.le_refl _) (Nat.le_refl _) (Option.bind_eq_some_iff.mp hF).choose_spec.2)
theorem nl_X1_9 : NL RX1 9 20 3 [.int 0, .null, .int 0] := ⟨RJ2, TJ2, tyJ2, rfl, in_J2, tyJ2_ok, q192, q193, q141, by decide +kernel⟩
theorem il_X1_11 : IL RX1 11 yJ2_init 0 := ⟨q141, ⟨by decide, by decide⟩, by decide +kernel, q195, rfl, Or.inl q194⟩
theorem pl_X1_12 : PL RX1 12 [1] 0 (.object "java/util/ArrayList") true := by
  intro ci h
  simp only [List.mem_cons, List.not_mem_nil, or_false] at h
  subst h; exact ⟨RX1, _, TX1, 12, tyX1, rfl, in_X1, by decide, Or.inl q248, Or.inl rfl, tyX1_ok, rfl, by decide +kernel, rfl, fun _ => rfl⟩
theorem pl_X1_18 : PL RX1 18 [1] 1 (.array (.int)) true := by
  intro ci h
  simp only [List.mem_cons, List.not_mem_nil, or_false] at h
  subst h; exact ⟨RX1, _, TX1, 12, tyX1, rfl, in_X1, by decide, Or.inl q250, Or.inl rfl, tyX1_ok, rfl, by decide +kernel, rfl, fun _ => rfl⟩
theorem pl_X1_22 : PL RX1 22 [1] 2 (.array (.int)) true := by
  intro ci h
  simp only [List.mem_cons, List.not_mem_nil, or_false] at h
  subst h; exact ⟨RX1, _, TX1, 12, tyX1, rfl, in_X1, by decide, Or.inl q252, Or.inl rfl, tyX1_ok, rfl, by decide +kernel, rfl, fun _ => rfl⟩
theorem pl_X1_25 : PL RX1 25 [1] 3 (.array (.int)) true := by
  intro ci h
  simp only [List.mem_cons, List.not_mem_nil, or_false] at h
  subst h; exact ⟨RX1, _, TX1, 12, tyX1, rfl, in_X1, by decide, Or.inl q254, Or.inl rfl, tyX1_ok, rfl, by decide +kernel, rfl, fun _ => rfl⟩
theorem pl_X1_28 : PL RX1 28 [1] 4 (.array (.int)) true := by
  intro ci h
  simp only [List.mem_cons, List.not_mem_nil, or_false] at h
  subst h; exact ⟨RX1, _, TX1, 12, tyX1, rfl, in_X1, by decide, Or.inl q256, Or.inl rfl, tyX1_ok, rfl, by decide +kernel, rfl, fun _ => rfl⟩
theorem pl_X1_31 : PL RX1 31 [1] 5 (.array (.int)) true := by
  intro ci h
  simp only [List.mem_cons, List.not_mem_nil, or_false] at h
  subst h; exact ⟨RX1, _, TX1, 12, tyX1, rfl, in_X1, by decide, Or.inl q258, Or.inl rfl, tyX1_ok, rfl, by decide +kernel, rfl, fun _ => rfl⟩
theorem pl_X1_36 : PL RX1 36 [1] 6 (.array (.array (.int))) true := by
  intro ci h
  simp only [List.mem_cons, List.not_mem_nil, or_false] at h
  subst h; exact ⟨RX1, _, TX1, 12, tyX1, rfl, in_X1, by decide, Or.inl q260, Or.inl rfl, tyX1_ok, rfl, by decide +kernel, rfl, fun _ => rfl⟩
theorem nl_X1_39 : NL RX1 39 2 4 [.null, .int 0, .int 0, .int 0] := ⟨RX2, TX2, tyX2, rfl, in_X2, tyX2_ok, q220, q221, q142, by decide +kernel⟩
theorem il_X1_41 : IL RX1 41 yX2_init 0 := ⟨q142, ⟨by decide, by decide⟩, by decide +kernel, q223, rfl, Or.inr ⟨_, q222⟩⟩
theorem pl_X1_42 : PL RX1 42 [1] 7 (.object "LeekReadings$Books") true := by
  intro ci h
  simp only [List.mem_cons, List.not_mem_nil, or_false] at h
  subst h; exact ⟨RX1, _, TX1, 12, tyX1, rfl, in_X1, by decide, Or.inl q262, Or.inl rfl, tyX1_ok, rfl, by decide +kernel, rfl, fun _ => rfl⟩
theorem pl_X1_46 : PL RX1 46 [1] 11 (.int) false := by
  intro ci h
  simp only [List.mem_cons, List.not_mem_nil, or_false] at h
  subst h; exact ⟨RX1, _, TX1, 12, tyX1, rfl, in_X1, by decide, Or.inl q270, Or.inl rfl, tyX1_ok, rfl, by decide +kernel, rfl, fun z => by cases z⟩
def X1_init_b (a0 : Nat) (h : Hp) : Option Hp :=
  bd2 (nwo h 20 3 [.int 0, .null, .int 0]) fun a21 h22 =>
  (J2_init a21 h22).bind fun h23 =>
  (po h23 a0 [1] 0 (.ref a21)).bind fun h24 =>
  bd2 (na h24 0 (8 : Int32) (.inl (fun _ => 0))) fun a25 h26 =>
  (po h26 a0 [1] 1 (.ref a25)).bind fun h27 =>
  bd2 (na h27 0 (8 : Int32) (.inl (fun _ => 0))) fun a28 h29 =>
  (po h29 a0 [1] 2 (.ref a28)).bind fun h30 =>
  bd2 (na h30 0 (8 : Int32) (.inl (fun _ => 0))) fun a31 h32 =>
  (po h32 a0 [1] 3 (.ref a31)).bind fun h33 =>
  bd2 (na h33 0 (4 : Int32) (.inl (fun _ => 0))) fun a34 h35 =>
  (po h35 a0 [1] 4 (.ref a34)).bind fun h36 =>
  bd2 (na h36 0 (3 : Int32) (.inl (fun _ => 0))) fun a37 h38 =>
  (sI h38 a37 0 (0 : Int32) (0 : Int32)).bind fun h39 =>
  (sI h39 a37 0 (1 : Int32) (1 : Int32)).bind fun h40 =>
  (sI h40 a37 0 (2 : Int32) (0 : Int32)).bind fun h41 =>
  (po h41 a0 [1] 5 (.ref a37)).bind fun h42 =>
  bd2 (nmu h42) fun a43 h44 =>
  (po h44 a0 [1] 6 (.ref a43)).bind fun h45 =>
  bd2 (nwo h45 2 4 [.null, .int 0, .int 0, .int 0]) fun a46 h47 =>
  (X2_init a46 h47).bind fun h48 =>
  (po h48 a0 [1] 7 (.ref a46)).bind fun h49 =>
  (po h49 a0 [1] 11 (.int (-1 : Int32))).bind fun h50 =>
  some h50
theorem w_X1_init_b {l : Launch} {G : GT} {fr lo : Nat} {h0 : Hp} {r : Hp} (hfr : 4 ≤ fr) (hlo : 80 ≤ lo) {a0 : Nat} {h : Hp} (hF : X1_init_b a0 h = some r) : V l G cX1_init RX1 "<init>" 1 (Option.none : Option Jvm.ClassFile.FieldType) fr lo h0 r (QM G none h0 r) 0 [(0, .ref a0)] [] h := by
  unfold X1_init_b at hF
  refine v_aload_n dX1_init_0 rfl 0 rfl ?_
  refine v_objInit dX1_init_1 q191 q184 q185 (by omega) (by omega) (Nat.le_of_ble_eq_true rfl) ?_
  refine v_aload_n dX1_init_4 rfl 0 rfl ?_
  refine v_new dX1_init_5 nl_X1_9 hF (fun a21 h22 hF => ?_)
  refine v_dup dX1_init_8 rfl ?_
  obtain ⟨h23, e_h23, hF⟩ := Option.bind_eq_some_iff.mp hF
  refine v_calI dX1_init_9 il_X1_11 q196 (ct_J2_init e_h23) rfl rfl (Nat.le_trans (Nat.le_of_ble_eq_true rfl) hfr) (Nat.le_trans (Nat.le_of_ble_eq_true rfl) hlo) (Nat.le_of_ble_eq_true rfl) ?_
  refine v_put dX1_init_12 pl_X1_12 (fun _ => rfl) rfl rfl hF (fun h24 hF => ?_)
  refine v_aload_n dX1_init_15 rfl 0 rfl ?_
  refine v_bipush dX1_init_16 (v := 8) (by decide) ?_
  refine v_newarr dX1_init_18 rfl rfl q247 (fun _ _ h => h) (by decide) (fun _ _ => rfl) hF (fun a25 h26 hF => ?_)
  refine v_put dX1_init_20 pl_X1_18 (fun _ => rfl) rfl rfl hF (fun h27 hF => ?_)
  refine v_aload_n dX1_init_23 rfl 0 rfl ?_
  refine v_bipush dX1_init_24 (v := 8) (by decide) ?_
  refine v_newarr dX1_init_26 rfl rfl q247 (fun _ _ h => h) (by decide) (fun _ _ => rfl) hF (fun a28 h29 hF => ?_)
  refine v_put dX1_init_28 pl_X1_22 (fun _ => rfl) rfl rfl hF (fun h30 hF => ?_)
  refine v_aload_n dX1_init_31 rfl 0 rfl ?_
  refine v_bipush dX1_init_32 (v := 8) (by decide) ?_
  refine v_newarr dX1_init_34 rfl rfl q247 (fun _ _ h => h) (by decide) (fun _ _ => rfl) hF (fun a31 h32 hF => ?_)
  refine v_put dX1_init_36 pl_X1_25 (fun _ => rfl) rfl rfl hF (fun h33 hF => ?_)
  refine v_aload_n dX1_init_39 rfl 0 rfl ?_
  refine v_iconst dX1_init_40 (v := 4) (by decide) ?_
  refine v_newarr dX1_init_41 rfl rfl q247 (fun _ _ h => h) (by decide) (fun _ _ => rfl) hF (fun a34 h35 hF => ?_)
  refine v_put dX1_init_43 pl_X1_28 (fun _ => rfl) rfl rfl hF (fun h36 hF => ?_)
  refine v_aload_n dX1_init_46 rfl 0 rfl ?_
  refine v_iconst dX1_init_47 (v := 3) (by decide) ?_
  refine v_newarr dX1_init_48 rfl rfl q247 (fun _ _ h => h) (by decide) (fun _ _ => rfl) hF (fun a37 h38 hF => ?_)
  refine v_dup dX1_init_50 rfl ?_
  refine v_iconst dX1_init_51 (v := 0) (by decide) ?_
  refine v_iconst dX1_init_52 (v := 0) (by decide) ?_
  refine v_iast dX1_init_53 hF (fun h39 hF => ?_)
  refine v_dup dX1_init_54 rfl ?_
  refine v_iconst dX1_init_55 (v := 1) (by decide) ?_
  refine v_iconst dX1_init_56 (v := 1) (by decide) ?_
  refine v_iast dX1_init_57 hF (fun h40 hF => ?_)
  refine v_dup dX1_init_58 rfl ?_
  refine v_iconst dX1_init_59 (v := 2) (by decide) ?_
  refine v_iconst dX1_init_60 (v := 0) (by decide) ?_
  refine v_iast dX1_init_61 hF (fun h41 hF => ?_)
  refine v_put dX1_init_62 pl_X1_31 (fun _ => rfl) rfl rfl hF (fun h42 hF => ?_)
  refine v_aload_n dX1_init_65 rfl 0 rfl ?_
  refine v_bipush dX1_init_66 (v := 6) (by decide) ?_
  refine v_iconst dX1_init_68 (v := 2) (by decide) ?_
  refine v_multi dX1_init_69 q218 hF (fun a43 h44 hF => ?_)
  refine v_put dX1_init_73 pl_X1_36 (fun _ => rfl) rfl rfl hF (fun h45 hF => ?_)
  refine v_aload_n dX1_init_76 rfl 0 rfl ?_
  refine v_new dX1_init_77 nl_X1_39 hF (fun a46 h47 hF => ?_)
  refine v_dup dX1_init_80 rfl ?_
  obtain ⟨h48, e_h48, hF⟩ := Option.bind_eq_some_iff.mp hF
  refine v_calI dX1_init_81 il_X1_41 q224 (ct_X2_init e_h48) rfl rfl (Nat.le_trans (Nat.le_of_ble_eq_true rfl) hfr) (Nat.le_trans (Nat.le_of_ble_eq_true rfl) hlo) (Nat.le_of_ble_eq_true rfl) ?_
  refine v_put dX1_init_84 pl_X1_42 (fun _ => rfl) rfl rfl hF (fun h49 hF => ?_)
  refine v_aload_n dX1_init_87 rfl 0 rfl ?_
  refine v_iconst dX1_init_88 (v := -1) (by decide) ?_
  refine v_put dX1_init_89 pl_X1_46 (fun z => by cases z) rfl rfl hF (fun h50 hF => ?_)
  cases hF
  exact v_vret dX1_init_92 rfl rfl rfl
def X1_init (a0 : Nat) (h : Hp) : Option Hp := (ob h a0 [1]).bind fun _ => X1_init_b a0 h
theorem rc_X1_init  {r : Hp} {a0 : Nat} {h : Hp} (hF : X1_init a0 h = some r) : RC h a0 [1] := by
  obtain ⟨o, ho, -⟩ := Option.bind_eq_some_iff.mp hF
  exact ⟨o, ho⟩
theorem ct_X1_init {l : Launch} {G : GT} {r : Hp} {a0 : Nat} {h : Hp} (hF : X1_init a0 h = some r) : Ct l G yX1_init (ws_ yX1_init cX1_init 1 (Option.none : Option Jvm.ClassFile.FieldType)) 4 80 [.ref a0] h none r :=
  ct_of (by decide) (Nat.le_of_ble_eq_true rfl) (w_X1_init_b (Nat.le_refl _) (Nat.le_refl _) (Option.bind_eq_some_iff.mp hF).choose_spec.2)
theorem pl_X3_11 : PL RX3 11 [3] 0 (.array (.object "LeekReadings$Books")) true := by
  intro ci h
  simp only [List.mem_cons, List.not_mem_nil, or_false] at h
  subst h; exact ⟨RX3, _, TX3, 2, tyX3, rfl, in_X3, by decide, Or.inl q307, Or.inl rfl, tyX3_ok, rfl, by decide +kernel, rfl, fun _ => rfl⟩
theorem nl_X3_9 : NL RX3 9 2 4 [.null, .int 0, .int 0, .int 0] := ⟨RX2, TX2, tyX2, rfl, in_X2, tyX2_ok, q304, q221, q142, by decide +kernel⟩
theorem il_X3_17 : IL RX3 17 yX2_init 0 := ⟨q142, ⟨by decide, by decide⟩, by decide +kernel, q223, rfl, Or.inr ⟨_, q306⟩⟩
theorem al_6 : AL "LeekReadings$Books" [2] := by
  intro ci h
  simp only [List.mem_cons, List.not_mem_nil, or_false] at h
  subst h; exact ⟨(RX2, TX2, 4), rfl, Or.inl rfl⟩
theorem fl_X3_11 : FL RX3 11 [3] 0 := by
  intro ci h
  simp only [List.mem_cons, List.not_mem_nil, or_false] at h
  subst h; exact ⟨RX3, _, TX3, 2, rfl, in_X3, by decide, Or.inl q307, Or.inl rfl⟩
def X3_init_L15 (N : Nat) (x15 : Hp → Option Hp) : Nat → Nat → Int32 → Hp → Option Hp
  | 0, _, _, _ => none
  | n33 + 1, v24, v25, h26 =>
    if (16 : Int32) ≤ v25 then
      x15 h26
    else
      (gr h26 v24 [3] 0).bind fun v28 =>
      bd2 (nwo h26 2 4 [.null, .int 0, .int 0, .int 0]) fun a29 h30 =>
      (X2_init a29 h30).bind fun h31 =>
      (sR h31 v28 6 [2] v25 a29).bind fun h32 =>
      (X3_init_L15 N x15 n33) v24 (v25 + (1 : Int32)) h32
theorem w_X3_init_L15 {l : Launch} {G : GT} {fr lo : Nat} {h0 : Hp} {N : Nat} {r : Hp} (hfr : 2 ≤ fr) (hlo : 40 ≤ lo) {x15 : Hp → Option Hp} (hx15 : ∀ (h27 : Hp), x15 h27 = some r → V l G cX3_init RX3 "<init>" 2 (Option.none : Option Jvm.ClassFile.FieldType) fr lo h0 r (QM G none h0 r) 40 [] [] h27) : ∀ (n : Nat) (v24 : Nat) (v25 : Int32) (h26 : Hp), X3_init_L15 N x15 n v24 v25 h26 = some r → V l G cX3_init RX3 "<init>" 2 (Option.none : Option Jvm.ClassFile.FieldType) fr lo h0 r (QM G none h0 r) 15 [(0, .ref v24), (1, .int v25)] [] h26 := by
  intro n
  induction n with
  | zero =>
    intro v24 v25 h26 hF
    cases (show (none : Option Hp) = some r from hF)
  | succ n hc15 =>
    intro v24 v25 h26 hF
    rw [X3_init_L15] at hF
    refine v_iload_n dX3_init_15 rfl 1 rfl ?_
    refine v_bipush dX3_init_16 (v := 16) (by decide) ?_
    refine v_icmp_ge (tgt := 40) dX3_init_18 (by decide) hF (fun hF => ?_) (fun hF => ?_)
    · exact v_sub [] rfl (hx15 _ hF)
    · refine v_aload_n dX3_init_21 rfl 0 rfl ?_
      refine v_getr dX3_init_22 fl_X3_11 hF (fun v28 hF => ?_)
      refine v_iload_n dX3_init_25 rfl 1 rfl ?_
      refine v_new dX3_init_26 nl_X3_9 hF (fun a29 h30 hF => ?_)
      refine v_dup dX3_init_29 rfl ?_
      obtain ⟨h31, e_h31, hF⟩ := Option.bind_eq_some_iff.mp hF
      refine v_calI dX3_init_30 il_X3_17 q224 (ct_X2_init e_h31) rfl rfl (Nat.le_trans (Nat.le_of_ble_eq_true rfl) hfr) (Nat.le_trans (Nat.le_of_ble_eq_true rfl) hlo) (Nat.le_of_ble_eq_true rfl) ?_
      refine v_aast rfl al_6 dX3_init_33 hF (fun h32 hF => ?_)
      refine v_iinc dX3_init_34 1 rfl (v := v25 + (1 : Int32)) (by rfl) (Nat.le_of_ble_eq_true rfl) (L' := [(1, .int (v25 + (1 : Int32))), (0, .ref v24)]) rfl ?_
      refine v_goto (tgt := 15) dX3_init_37 (by decide) ?_
      exact v_sub [1, 0] rfl (hc15 _ _ _ hF)
def X3_init_b (N : Nat) (a0 : Nat) (h : Hp) : Option Hp :=
  bd2 (na h 6 (16 : Int32) (.inr (.inr (.inr (.inr (fun _ => none)))))) fun a21 h22 =>
  (po h22 a0 [3] 0 (.ref a21)).bind fun h23 =>
  X3_init_L15 N (fun h34 =>
    some h34) N a0 (0 : Int32) h23
theorem w_X3_init_b {l : Launch} {G : GT} {fr lo : Nat} {h0 : Hp} {N : Nat} {r : Hp} (hfr : 2 ≤ fr) (hlo : 40 ≤ lo) {a0 : Nat} {h : Hp} (hF : X3_init_b N a0 h = some r) : V l G cX3_init RX3 "<init>" 2 (Option.none : Option Jvm.ClassFile.FieldType) fr lo h0 r (QM G none h0 r) 0 [(0, .ref a0)] [] h := by
  unfold X3_init_b at hF
  refine v_aload_n dX3_init_0 rfl 0 rfl ?_
  refine v_objInit dX3_init_1 q303 q184 q185 (by omega) (by omega) (Nat.le_of_ble_eq_true rfl) ?_
  refine v_aload_n dX3_init_4 rfl 0 rfl ?_
  refine v_bipush dX3_init_5 (v := 16) (by decide) ?_
  refine v_anew dX3_init_7 rfl q304 q305 hF (fun a21 h22 hF => ?_)
  refine v_put dX3_init_10 pl_X3_11 (fun _ => rfl) rfl rfl hF (fun h23 hF => ?_)
  refine v_iconst dX3_init_13 (v := 0) (by decide) ?_
  refine v_istore_n dX3_init_14 rfl (Nat.le_of_ble_eq_true rfl) (L' := [(1, .int (0 : Int32)), (0, .ref a0)]) rfl ?_
  refine v_sub [1, 0] rfl (w_X3_init_L15 hfr hlo ?_ N _ _ _ hF)
  intro h34 hF
  cases hF
  exact v_vret dX3_init_40 rfl rfl rfl
def X3_init (N : Nat) (a0 : Nat) (h : Hp) : Option Hp := (ob h a0 [3]).bind fun _ => X3_init_b N a0 h
theorem rc_X3_init {N : Nat}  {r : Hp} {a0 : Nat} {h : Hp} (hF : X3_init N a0 h = some r) : RC h a0 [3] := by
  obtain ⟨o, ho, -⟩ := Option.bind_eq_some_iff.mp hF
  exact ⟨o, ho⟩
theorem ct_X3_init {l : Launch} {G : GT} {N : Nat} {r : Hp} {a0 : Nat} {h : Hp} (hF : X3_init N a0 h = some r) : Ct l G yX3_init (ws_ yX3_init cX3_init 2 (Option.none : Option Jvm.ClassFile.FieldType)) 2 40 [.ref a0] h none r :=
  ct_of (by decide) (Nat.le_of_ble_eq_true rfl) (w_X3_init_b (Nat.le_refl _) (Nat.le_refl _) (Option.bind_eq_some_iff.mp hF).choose_spec.2)
theorem pl_X4_7 : PL RX4 7 [4] 0 (.array (.long)) true := by
  intro ci h
  simp only [List.mem_cons, List.not_mem_nil, or_false] at h
  subst h; exact ⟨RX4, _, TX4, 2, tyX4, rfl, in_X4, by decide, Or.inl q324, Or.inl rfl, tyX4_ok, rfl, by decide +kernel, rfl, fun _ => rfl⟩
def X4_init_b (a0 : Nat) (h : Hp) : Option Hp :=
  bd2 (na h 3 (9 : Int32) (.inr (.inl (fun _ => 0)))) fun a21 h22 =>
  (po h22 a0 [4] 0 (.ref a21)).bind fun h23 =>
  some h23
theorem w_X4_init_b {l : Launch} {G : GT} {fr lo : Nat} {h0 : Hp} {r : Hp} (hfr : 1 ≤ fr) (hlo : 20 ≤ lo) {a0 : Nat} {h : Hp} (hF : X4_init_b a0 h = some r) : V l G cX4_init RX4 "<init>" 1 (Option.none : Option Jvm.ClassFile.FieldType) fr lo h0 r (QM G none h0 r) 0 [(0, .ref a0)] [] h := by
  unfold X4_init_b at hF
  refine v_aload_n dX4_init_0 rfl 0 rfl ?_
  refine v_objInit dX4_init_1 q323 q184 q185 (by omega) (by omega) (Nat.le_of_ble_eq_true rfl) ?_
  refine v_aload_n dX4_init_4 rfl 0 rfl ?_
  refine v_bipush dX4_init_5 (v := 9) (by decide) ?_
  refine v_newarr dX4_init_7 rfl rfl q340 (fun _ _ h => h) (by decide) (fun _ _ => rfl) hF (fun a21 h22 hF => ?_)
  refine v_put dX4_init_9 pl_X4_7 (fun _ => rfl) rfl rfl hF (fun h23 hF => ?_)
  cases hF
  exact v_vret dX4_init_12 rfl rfl rfl
def X4_init (a0 : Nat) (h : Hp) : Option Hp := (ob h a0 [4]).bind fun _ => X4_init_b a0 h
theorem rc_X4_init  {r : Hp} {a0 : Nat} {h : Hp} (hF : X4_init a0 h = some r) : RC h a0 [4] := by
  obtain ⟨o, ho, -⟩ := Option.bind_eq_some_iff.mp hF
  exact ⟨o, ho⟩
theorem ct_X4_init {l : Launch} {G : GT} {r : Hp} {a0 : Nat} {h : Hp} (hF : X4_init a0 h = some r) : Ct l G yX4_init (ws_ yX4_init cX4_init 1 (Option.none : Option Jvm.ClassFile.FieldType)) 1 20 [.ref a0] h none r :=
  ct_of (by decide) (Nat.le_of_ble_eq_true rfl) (w_X4_init_b (Nat.le_refl _) (Nat.le_refl _) (Option.bind_eq_some_iff.mp hF).choose_spec.2)
theorem pl_X5_7 : PL RX5 7 [5] 0 (.array (.object "LeekReadings$Clause")) true := by
  intro ci h
  simp only [List.mem_cons, List.not_mem_nil, or_false] at h
  subst h; exact ⟨RX5, _, TX5, 1, tyX5, rfl, in_X5, by decide, Or.inl q349, Or.inl rfl, tyX5_ok, rfl, by decide +kernel, rfl, fun _ => rfl⟩
def X5_init_b (a0 : Nat) (a1 : Nat) (h : Hp) : Option Hp :=
  (po h a0 [5] 0 (.ref a1)).bind fun h21 =>
  some h21
theorem w_X5_init_b {l : Launch} {G : GT} {fr lo : Nat} {h0 : Hp} {r : Hp} (hfr : 1 ≤ fr) (hlo : 20 ≤ lo) {a0 : Nat} {a1 : Nat} {h : Hp} (hF : X5_init_b a0 a1 h = some r) : V l G cX5_init RX5 "<init>" 2 (Option.none : Option Jvm.ClassFile.FieldType) fr lo h0 r (QM G none h0 r) 0 [(0, .ref a0), (1, .ref a1)] [] h := by
  unfold X5_init_b at hF
  refine v_aload_n dX5_init_0 rfl 0 rfl ?_
  refine v_objInit dX5_init_1 q348 q184 q185 (by omega) (by omega) (Nat.le_of_ble_eq_true rfl) ?_
  refine v_aload_n dX5_init_4 rfl 0 rfl ?_
  refine v_aload_n dX5_init_5 rfl 1 rfl ?_
  refine v_put dX5_init_6 pl_X5_7 (fun _ => rfl) rfl rfl hF (fun h21 hF => ?_)
  cases hF
  exact v_vret dX5_init_9 rfl rfl rfl
def X5_init (a0 : Nat) (a1 : Nat) (h : Hp) : Option Hp := (ob h a0 [5]).bind fun _ => X5_init_b a0 a1 h
theorem rc_X5_init  {r : Hp} {a0 : Nat} {a1 : Nat} {h : Hp} (hF : X5_init a0 a1 h = some r) : RC h a0 [5] := by
  obtain ⟨o, ho, -⟩ := Option.bind_eq_some_iff.mp hF
  exact ⟨o, ho⟩
theorem ct_X5_init {l : Launch} {G : GT} {r : Hp} {a0 : Nat} {a1 : Nat} {h : Hp} (hF : X5_init a0 a1 h = some r) : Ct l G yX5_init (ws_ yX5_init cX5_init 2 (Option.none : Option Jvm.ClassFile.FieldType)) 1 20 [.ref a0, .ref a1] h none r :=
  ct_of (by decide) (Nat.le_of_ble_eq_true rfl) (w_X5_init_b (Nat.le_refl _) (Nat.le_refl _) (Option.bind_eq_some_iff.mp hF).choose_spec.2)
theorem nl_X0_7 : NL RX0 7 1 12 [.null, .null, .null, .null, .null, .null, .null, .null, .int 0, .int 0, .int 0, .int 0] := ⟨RX1, TX1, tyX1, rfl, in_X1, tyX1_ok, q186, q187, q138, by decide +kernel⟩
theorem il_X0_9 : IL RX0 9 yX1_init 0 := ⟨q138, ⟨by decide, by decide⟩, by decide +kernel, q189, rfl, Or.inr ⟨_, q188⟩⟩
theorem pl_X0_10 : PL RX0 10 [0] 0 (.object "LeekReadings$Bed") false := by
  intro ci h
  simp only [List.mem_cons, List.not_mem_nil, or_false] at h
  subst h; exact ⟨RX0, _, TX0, 31, tyX0, rfl, in_X0, by decide, Or.inl q353, Or.inl rfl, tyX0_ok, rfl, by decide +kernel, rfl, fun z => by cases z⟩
theorem pl_X0_16 : PL RX0 16 [0] 1 (.array (.object "LeekReadings$Bed")) true := by
  intro ci h
  simp only [List.mem_cons, List.not_mem_nil, or_false] at h
  subst h; exact ⟨RX0, _, TX0, 31, tyX0, rfl, in_X0, by decide, Or.inl q354, Or.inl rfl, tyX0_ok, rfl, by decide +kernel, rfl, fun _ => rfl⟩
theorem nl_X0_20 : NL RX0 20 3 2 [.null, .int 0] := ⟨RX3, TX3, tyX3, rfl, in_X3, tyX3_ok, q298, q299, q143, by decide +kernel⟩
theorem il_X0_22 : IL RX0 22 yX3_init 0 := ⟨q143, ⟨by decide, by decide⟩, by decide +kernel, q301, rfl, Or.inl q300⟩
theorem pl_X0_23 : PL RX0 23 [0] 2 (.object "LeekReadings$Steps") true := by
  intro ci h
  simp only [List.mem_cons, List.not_mem_nil, or_false] at h
  subst h; exact ⟨RX0, _, TX0, 31, tyX0, rfl, in_X0, by decide, Or.inl q355, Or.inl rfl, tyX0_ok, rfl, by decide +kernel, rfl, fun _ => rfl⟩
theorem pl_X0_27 : PL RX0 27 [0] 3 (.object "LeekReadings$Steps") true := by
  intro ci h
  simp only [List.mem_cons, List.not_mem_nil, or_false] at h
  subst h; exact ⟨RX0, _, TX0, 31, tyX0, rfl, in_X0, by decide, Or.inl q356, Or.inl rfl, tyX0_ok, rfl, by decide +kernel, rfl, fun _ => rfl⟩
theorem nl_X0_30 : NL RX0 30 2 4 [.null, .int 0, .int 0, .int 0] := ⟨RX2, TX2, tyX2, rfl, in_X2, tyX2_ok, q316, q221, q142, by decide +kernel⟩
theorem il_X0_32 : IL RX0 32 yX2_init 0 := ⟨q142, ⟨by decide, by decide⟩, by decide +kernel, q223, rfl, Or.inr ⟨_, q317⟩⟩
theorem pl_X0_33 : PL RX0 33 [0] 4 (.object "LeekReadings$Books") true := by
  intro ci h
  simp only [List.mem_cons, List.not_mem_nil, or_false] at h
  subst h; exact ⟨RX0, _, TX0, 31, tyX0, rfl, in_X0, by decide, Or.inl q357, Or.inl rfl, tyX0_ok, rfl, by decide +kernel, rfl, fun _ => rfl⟩
theorem pl_X0_37 : PL RX0 37 [0] 5 (.object "LeekReadings$Books") true := by
  intro ci h
  simp only [List.mem_cons, List.not_mem_nil, or_false] at h
  subst h; exact ⟨RX0, _, TX0, 31, tyX0, rfl, in_X0, by decide, Or.inl q358, Or.inl rfl, tyX0_ok, rfl, by decide +kernel, rfl, fun _ => rfl⟩
theorem nl_X0_40 : NL RX0 40 4 2 [.null, .int 0] := ⟨RX4, TX4, tyX4, rfl, in_X4, tyX4_ok, q318, q319, q144, by decide +kernel⟩
theorem il_X0_42 : IL RX0 42 yX4_init 0 := ⟨q144, ⟨by decide, by decide⟩, by decide +kernel, q321, rfl, Or.inr ⟨_, q320⟩⟩
theorem pl_X0_43 : PL RX0 43 [0] 6 (.object "LeekReadings$Asked") true := by
  intro ci h
  simp only [List.mem_cons, List.not_mem_nil, or_false] at h
  subst h; exact ⟨RX0, _, TX0, 31, tyX0, rfl, in_X0, by decide, Or.inl q359, Or.inl rfl, tyX0_ok, rfl, by decide +kernel, rfl, fun _ => rfl⟩
theorem pl_X0_47 : PL RX0 47 [0] 7 (.object "LeekReadings$Asked") true := by
  intro ci h
  simp only [List.mem_cons, List.not_mem_nil, or_false] at h
  subst h; exact ⟨RX0, _, TX0, 31, tyX0, rfl, in_X0, by decide, Or.inl q361, Or.inl rfl, tyX0_ok, rfl, by decide +kernel, rfl, fun _ => rfl⟩
theorem nl_X0_50 : NL RX0 50 5 1 [.null] := ⟨RX5, TX5, tyX5, rfl, in_X5, tyX5_ok, q341, q342, q145, by decide +kernel⟩
theorem il_X0_54 : IL RX0 54 yX5_init 1 := ⟨q145, ⟨by decide, by decide⟩, by decide +kernel, q346, rfl, Or.inl q345⟩
theorem pl_X0_57 : PL RX0 57 [0] 8 (.object "LeekReadings$Text") true := by
  intro ci h
  simp only [List.mem_cons, List.not_mem_nil, or_false] at h
  subst h; exact ⟨RX0, _, TX0, 31, tyX0, rfl, in_X0, by decide, Or.inl q362, Or.inl rfl, tyX0_ok, rfl, by decide +kernel, rfl, fun _ => rfl⟩
theorem pl_X0_61 : PL RX0 61 [0] 9 (.array (.int)) true := by
  intro ci h
  simp only [List.mem_cons, List.not_mem_nil, or_false] at h
  subst h; exact ⟨RX0, _, TX0, 31, tyX0, rfl, in_X0, by decide, Or.inl q363, Or.inl rfl, tyX0_ok, rfl, by decide +kernel, rfl, fun _ => rfl⟩
theorem pl_X0_65 : PL RX0 65 [0] 11 (.int) false := by
  intro ci h
  simp only [List.mem_cons, List.not_mem_nil, or_false] at h
  subst h; exact ⟨RX0, _, TX0, 31, tyX0, rfl, in_X0, by decide, Or.inl q365, Or.inl rfl, tyX0_ok, rfl, by decide +kernel, rfl, fun z => by cases z⟩
theorem pl_X0_69 : PL RX0 69 [0] 13 (.int) false := by
  intro ci h
  simp only [List.mem_cons, List.not_mem_nil, or_false] at h
  subst h; exact ⟨RX0, _, TX0, 31, tyX0, rfl, in_X0, by decide, Or.inl q367, Or.inl rfl, tyX0_ok, rfl, by decide +kernel, rfl, fun z => by cases z⟩
theorem pl_X0_72 : PL RX0 72 [0] 14 (.array (.byte)) true := by
  intro ci h
  simp only [List.mem_cons, List.not_mem_nil, or_false] at h
  subst h; exact ⟨RX0, _, TX0, 31, tyX0, rfl, in_X0, by decide, Or.inl q369, Or.inl rfl, tyX0_ok, rfl, by decide +kernel, rfl, fun _ => rfl⟩
theorem pl_X0_76 : PL RX0 76 [0] 16 (.array (.int)) true := by
  intro ci h
  simp only [List.mem_cons, List.not_mem_nil, or_false] at h
  subst h; exact ⟨RX0, _, TX0, 31, tyX0, rfl, in_X0, by decide, Or.inl q373, Or.inl rfl, tyX0_ok, rfl, by decide +kernel, rfl, fun _ => rfl⟩
theorem pl_X0_79 : PL RX0 79 [0] 17 (.array (.int)) true := by
  intro ci h
  simp only [List.mem_cons, List.not_mem_nil, or_false] at h
  subst h; exact ⟨RX0, _, TX0, 31, tyX0, rfl, in_X0, by decide, Or.inl q374, Or.inl rfl, tyX0_ok, rfl, by decide +kernel, rfl, fun _ => rfl⟩
theorem pl_X0_82 : PL RX0 82 [0] 18 (.array (.int)) true := by
  intro ci h
  simp only [List.mem_cons, List.not_mem_nil, or_false] at h
  subst h; exact ⟨RX0, _, TX0, 31, tyX0, rfl, in_X0, by decide, Or.inl q375, Or.inl rfl, tyX0_ok, rfl, by decide +kernel, rfl, fun _ => rfl⟩
theorem pl_X0_85 : PL RX0 85 [0] 19 (.array (.int)) true := by
  intro ci h
  simp only [List.mem_cons, List.not_mem_nil, or_false] at h
  subst h; exact ⟨RX0, _, TX0, 31, tyX0, rfl, in_X0, by decide, Or.inl q376, Or.inl rfl, tyX0_ok, rfl, by decide +kernel, rfl, fun _ => rfl⟩
theorem pl_X0_88 : PL RX0 88 [0] 25 (.array (.int)) true := by
  intro ci h
  simp only [List.mem_cons, List.not_mem_nil, or_false] at h
  subst h; exact ⟨RX0, _, TX0, 31, tyX0, rfl, in_X0, by decide, Or.inl q382, Or.inl rfl, tyX0_ok, rfl, by decide +kernel, rfl, fun _ => rfl⟩
theorem pl_X0_91 : PL RX0 91 [0] 28 (.object "LeekReadings$Books") true := by
  intro ci h
  simp only [List.mem_cons, List.not_mem_nil, or_false] at h
  subst h; exact ⟨RX0, _, TX0, 31, tyX0, rfl, in_X0, by decide, Or.inl q387, Or.inl rfl, tyX0_ok, rfl, by decide +kernel, rfl, fun _ => rfl⟩
theorem pl_X0_94 : PL RX0 94 [0] 29 (.int) false := by
  intro ci h
  simp only [List.mem_cons, List.not_mem_nil, or_false] at h
  subst h; exact ⟨RX0, _, TX0, 31, tyX0, rfl, in_X0, by decide, Or.inl q388, Or.inl rfl, tyX0_ok, rfl, by decide +kernel, rfl, fun z => by cases z⟩
theorem pl_X0_97 : PL RX0 97 [0] 30 (.int) false := by
  intro ci h
  simp only [List.mem_cons, List.not_mem_nil, or_false] at h
  subst h; exact ⟨RX0, _, TX0, 31, tyX0, rfl, in_X0, by decide, Or.inl q389, Or.inl rfl, tyX0_ok, rfl, by decide +kernel, rfl, fun z => by cases z⟩
def C_init_b (N : Nat) (a0 : Nat) (h : Hp) : Option Hp :=
  bd2 (nwo h 1 12 [.null, .null, .null, .null, .null, .null, .null, .null, .int 0, .int 0, .int 0, .int 0]) fun a21 h22 =>
  (X1_init a21 h22).bind fun h23 =>
  (po h23 a0 [0] 0 (.ref a21)).bind fun h24 =>
  bd2 (na h24 5 (2 : Int32) (.inr (.inr (.inr (.inr (fun _ => none)))))) fun a25 h26 =>
  (po h26 a0 [0] 1 (.ref a25)).bind fun h27 =>
  bd2 (nwo h27 3 2 [.null, .int 0]) fun a28 h29 =>
  (X3_init N a28 h29).bind fun h30 =>
  (po h30 a0 [0] 2 (.ref a28)).bind fun h31 =>
  bd2 (nwo h31 3 2 [.null, .int 0]) fun a32 h33 =>
  (X3_init N a32 h33).bind fun h34 =>
  (po h34 a0 [0] 3 (.ref a32)).bind fun h35 =>
  bd2 (nwo h35 2 4 [.null, .int 0, .int 0, .int 0]) fun a36 h37 =>
  (X2_init a36 h37).bind fun h38 =>
  (po h38 a0 [0] 4 (.ref a36)).bind fun h39 =>
  bd2 (nwo h39 2 4 [.null, .int 0, .int 0, .int 0]) fun a40 h41 =>
  (X2_init a40 h41).bind fun h42 =>
  (po h42 a0 [0] 5 (.ref a40)).bind fun h43 =>
  bd2 (nwo h43 4 2 [.null, .int 0]) fun a44 h45 =>
  (X4_init a44 h45).bind fun h46 =>
  (po h46 a0 [0] 6 (.ref a44)).bind fun h47 =>
  bd2 (nwo h47 4 2 [.null, .int 0]) fun a48 h49 =>
  (X4_init a48 h49).bind fun h50 =>
  (po h50 a0 [0] 7 (.ref a48)).bind fun h51 =>
  bd2 (nwo h51 5 1 [.null]) fun a52 h53 =>
  bd2 (na h53 7 (0 : Int32) (.inr (.inr (.inr (.inr (fun _ => none)))))) fun a54 h55 =>
  (X5_init a52 a54 h55).bind fun h56 =>
  (po h56 a0 [0] 8 (.ref a52)).bind fun h57 =>
  bd2 (na h57 0 (7 : Int32) (.inl (fun _ => 0))) fun a58 h59 =>
  (po h59 a0 [0] 9 (.ref a58)).bind fun h60 =>
  (po h60 a0 [0] 11 (.int (-1 : Int32))).bind fun h61 =>
  (po h61 a0 [0] 13 (.int (-1 : Int32))).bind fun h62 =>
  bd2 (na h62 1 (400 : Int32) (.inl (fun _ => 0))) fun a63 h64 =>
  (po h64 a0 [0] 14 (.ref a63)).bind fun h65 =>
  bd2 (na h65 0 (4 : Int32) (.inl (fun _ => 0))) fun a66 h67 =>
  (po h67 a0 [0] 16 (.ref a66)).bind fun h68 =>
  bd2 (na h68 0 (256 : Int32) (.inl (fun _ => 0))) fun a69 h70 =>
  (po h70 a0 [0] 17 (.ref a69)).bind fun h71 =>
  bd2 (na h71 0 (8 : Int32) (.inl (fun _ => 0))) fun a72 h73 =>
  (po h73 a0 [0] 18 (.ref a72)).bind fun h74 =>
  bd2 (na h74 0 (8 : Int32) (.inl (fun _ => 0))) fun a75 h76 =>
  (po h76 a0 [0] 19 (.ref a75)).bind fun h77 =>
  bd2 (na h77 0 (100 : Int32) (.inl (fun _ => 0))) fun a78 h79 =>
  (po h79 a0 [0] 25 (.ref a78)).bind fun h80 =>
  bd2 (nwo h80 2 4 [.null, .int 0, .int 0, .int 0]) fun a81 h82 =>
  (X2_init a81 h82).bind fun h83 =>
  (po h83 a0 [0] 28 (.ref a81)).bind fun h84 =>
  (po h84 a0 [0] 29 (.int (-1 : Int32))).bind fun h85 =>
  (po h85 a0 [0] 30 (.int (-1 : Int32))).bind fun h86 =>
  some h86
theorem w_C_init_b {l : Launch} {G : GT} {fr lo : Nat} {h0 : Hp} {N : Nat} {r : Hp} (hfr : 5 ≤ fr) (hlo : 100 ≤ lo) {a0 : Nat} {h : Hp} (hF : C_init_b N a0 h = some r) : V l G cX0_init RX0 "<init>" 1 (Option.none : Option Jvm.ClassFile.FieldType) fr lo h0 r (QM G none h0 r) 0 [(0, .ref a0)] [] h := by
  unfold C_init_b at hF
  refine v_aload_n dX0_init_0 rfl 0 rfl ?_
  refine v_objInit dX0_init_1 q183 q184 q185 (by omega) (by omega) (Nat.le_of_ble_eq_true rfl) ?_
  refine v_aload_n dX0_init_4 rfl 0 rfl ?_
  refine v_new dX0_init_5 nl_X0_7 hF (fun a21 h22 hF => ?_)
  refine v_dup dX0_init_8 rfl ?_
  obtain ⟨h23, e_h23, hF⟩ := Option.bind_eq_some_iff.mp hF
  refine v_calI dX0_init_9 il_X0_9 q190 (ct_X1_init e_h23) rfl rfl (Nat.le_trans (Nat.le_of_ble_eq_true rfl) hfr) (Nat.le_trans (Nat.le_of_ble_eq_true rfl) hlo) (Nat.le_of_ble_eq_true rfl) ?_
  refine v_put dX0_init_12 pl_X0_10 (fun z => by cases z) rfl rfl hF (fun h24 hF => ?_)
  refine v_aload_n dX0_init_15 rfl 0 rfl ?_
  refine v_iconst dX0_init_16 (v := 2) (by decide) ?_
  refine v_anew dX0_init_17 rfl q186 q297 hF (fun a25 h26 hF => ?_)
  refine v_put dX0_init_20 pl_X0_16 (fun _ => rfl) rfl rfl hF (fun h27 hF => ?_)
  refine v_aload_n dX0_init_23 rfl 0 rfl ?_
  refine v_new dX0_init_24 nl_X0_20 hF (fun a28 h29 hF => ?_)
  refine v_dup dX0_init_27 rfl ?_
  obtain ⟨h30, e_h30, hF⟩ := Option.bind_eq_some_iff.mp hF
  refine v_calI dX0_init_28 il_X0_22 q302 (ct_X3_init e_h30) rfl rfl (Nat.le_trans (Nat.le_of_ble_eq_true rfl) hfr) (Nat.le_trans (Nat.le_of_ble_eq_true rfl) hlo) (Nat.le_of_ble_eq_true rfl) ?_
  refine v_put dX0_init_31 pl_X0_23 (fun _ => rfl) rfl rfl hF (fun h31 hF => ?_)
  refine v_aload_n dX0_init_34 rfl 0 rfl ?_
  refine v_new dX0_init_35 nl_X0_20 hF (fun a32 h33 hF => ?_)
  refine v_dup dX0_init_38 rfl ?_
  obtain ⟨h34, e_h34, hF⟩ := Option.bind_eq_some_iff.mp hF
  refine v_calI dX0_init_39 il_X0_22 q302 (ct_X3_init e_h34) rfl rfl (Nat.le_trans (Nat.le_of_ble_eq_true rfl) hfr) (Nat.le_trans (Nat.le_of_ble_eq_true rfl) hlo) (Nat.le_of_ble_eq_true rfl) ?_
  refine v_put dX0_init_42 pl_X0_27 (fun _ => rfl) rfl rfl hF (fun h35 hF => ?_)
  refine v_aload_n dX0_init_45 rfl 0 rfl ?_
  refine v_new dX0_init_46 nl_X0_30 hF (fun a36 h37 hF => ?_)
  refine v_dup dX0_init_49 rfl ?_
  obtain ⟨h38, e_h38, hF⟩ := Option.bind_eq_some_iff.mp hF
  refine v_calI dX0_init_50 il_X0_32 q224 (ct_X2_init e_h38) rfl rfl (Nat.le_trans (Nat.le_of_ble_eq_true rfl) hfr) (Nat.le_trans (Nat.le_of_ble_eq_true rfl) hlo) (Nat.le_of_ble_eq_true rfl) ?_
  refine v_put dX0_init_53 pl_X0_33 (fun _ => rfl) rfl rfl hF (fun h39 hF => ?_)
  refine v_aload_n dX0_init_56 rfl 0 rfl ?_
  refine v_new dX0_init_57 nl_X0_30 hF (fun a40 h41 hF => ?_)
  refine v_dup dX0_init_60 rfl ?_
  obtain ⟨h42, e_h42, hF⟩ := Option.bind_eq_some_iff.mp hF
  refine v_calI dX0_init_61 il_X0_32 q224 (ct_X2_init e_h42) rfl rfl (Nat.le_trans (Nat.le_of_ble_eq_true rfl) hfr) (Nat.le_trans (Nat.le_of_ble_eq_true rfl) hlo) (Nat.le_of_ble_eq_true rfl) ?_
  refine v_put dX0_init_64 pl_X0_37 (fun _ => rfl) rfl rfl hF (fun h43 hF => ?_)
  refine v_aload_n dX0_init_67 rfl 0 rfl ?_
  refine v_new dX0_init_68 nl_X0_40 hF (fun a44 h45 hF => ?_)
  refine v_dup dX0_init_71 rfl ?_
  obtain ⟨h46, e_h46, hF⟩ := Option.bind_eq_some_iff.mp hF
  refine v_calI dX0_init_72 il_X0_42 q322 (ct_X4_init e_h46) rfl rfl (Nat.le_trans (Nat.le_of_ble_eq_true rfl) hfr) (Nat.le_trans (Nat.le_of_ble_eq_true rfl) hlo) (Nat.le_of_ble_eq_true rfl) ?_
  refine v_put dX0_init_75 pl_X0_43 (fun _ => rfl) rfl rfl hF (fun h47 hF => ?_)
  refine v_aload_n dX0_init_78 rfl 0 rfl ?_
  refine v_new dX0_init_79 nl_X0_40 hF (fun a48 h49 hF => ?_)
  refine v_dup dX0_init_82 rfl ?_
  obtain ⟨h50, e_h50, hF⟩ := Option.bind_eq_some_iff.mp hF
  refine v_calI dX0_init_83 il_X0_42 q322 (ct_X4_init e_h50) rfl rfl (Nat.le_trans (Nat.le_of_ble_eq_true rfl) hfr) (Nat.le_trans (Nat.le_of_ble_eq_true rfl) hlo) (Nat.le_of_ble_eq_true rfl) ?_
  refine v_put dX0_init_86 pl_X0_47 (fun _ => rfl) rfl rfl hF (fun h51 hF => ?_)
  refine v_aload_n dX0_init_89 rfl 0 rfl ?_
  refine v_new dX0_init_90 nl_X0_50 hF (fun a52 h53 hF => ?_)
  refine v_dup dX0_init_93 rfl ?_
  refine v_iconst dX0_init_94 (v := 0) (by decide) ?_
  refine v_anew dX0_init_95 rfl q343 q344 hF (fun a54 h55 hF => ?_)
  obtain ⟨h56, e_h56, hF⟩ := Option.bind_eq_some_iff.mp hF
  refine v_calI dX0_init_98 il_X0_54 q347 (ct_X5_init e_h56) rfl rfl (Nat.le_trans (Nat.le_of_ble_eq_true rfl) hfr) (Nat.le_trans (Nat.le_of_ble_eq_true rfl) hlo) (Nat.le_of_ble_eq_true rfl) ?_
  refine v_put dX0_init_101 pl_X0_57 (fun _ => rfl) rfl rfl hF (fun h57 hF => ?_)
  refine v_aload_n dX0_init_104 rfl 0 rfl ?_
  refine v_bipush dX0_init_105 (v := 7) (by decide) ?_
  refine v_newarr dX0_init_107 rfl rfl q247 (fun _ _ h => h) (by decide) (fun _ _ => rfl) hF (fun a58 h59 hF => ?_)
  refine v_put dX0_init_109 pl_X0_61 (fun _ => rfl) rfl rfl hF (fun h60 hF => ?_)
  refine v_aload_n dX0_init_112 rfl 0 rfl ?_
  refine v_iconst dX0_init_113 (v := -1) (by decide) ?_
  refine v_put dX0_init_114 pl_X0_65 (fun z => by cases z) rfl rfl hF (fun h61 hF => ?_)
  refine v_aload_n dX0_init_117 rfl 0 rfl ?_
  refine v_iconst dX0_init_118 (v := -1) (by decide) ?_
  refine v_put dX0_init_119 pl_X0_69 (fun z => by cases z) rfl rfl hF (fun h62 hF => ?_)
  refine v_aload_n dX0_init_122 rfl 0 rfl ?_
  refine v_sipush dX0_init_123 (v := 400) (by decide) ?_
  refine v_newarr dX0_init_126 rfl rfl q453 (fun _ _ h => h) (by decide) (fun _ _ => rfl) hF (fun a63 h64 hF => ?_)
  refine v_put dX0_init_128 pl_X0_72 (fun _ => rfl) rfl rfl hF (fun h65 hF => ?_)
  refine v_aload_n dX0_init_131 rfl 0 rfl ?_
  refine v_iconst dX0_init_132 (v := 4) (by decide) ?_
  refine v_newarr dX0_init_133 rfl rfl q247 (fun _ _ h => h) (by decide) (fun _ _ => rfl) hF (fun a66 h67 hF => ?_)
  refine v_put dX0_init_135 pl_X0_76 (fun _ => rfl) rfl rfl hF (fun h68 hF => ?_)
  refine v_aload_n dX0_init_138 rfl 0 rfl ?_
  refine v_sipush dX0_init_139 (v := 256) (by decide) ?_
  refine v_newarr dX0_init_142 rfl rfl q247 (fun _ _ h => h) (by decide) (fun _ _ => rfl) hF (fun a69 h70 hF => ?_)
  refine v_put dX0_init_144 pl_X0_79 (fun _ => rfl) rfl rfl hF (fun h71 hF => ?_)
  refine v_aload_n dX0_init_147 rfl 0 rfl ?_
  refine v_bipush dX0_init_148 (v := 8) (by decide) ?_
  refine v_newarr dX0_init_150 rfl rfl q247 (fun _ _ h => h) (by decide) (fun _ _ => rfl) hF (fun a72 h73 hF => ?_)
  refine v_put dX0_init_152 pl_X0_82 (fun _ => rfl) rfl rfl hF (fun h74 hF => ?_)
  refine v_aload_n dX0_init_155 rfl 0 rfl ?_
  refine v_bipush dX0_init_156 (v := 8) (by decide) ?_
  refine v_newarr dX0_init_158 rfl rfl q247 (fun _ _ h => h) (by decide) (fun _ _ => rfl) hF (fun a75 h76 hF => ?_)
  refine v_put dX0_init_160 pl_X0_85 (fun _ => rfl) rfl rfl hF (fun h77 hF => ?_)
  refine v_aload_n dX0_init_163 rfl 0 rfl ?_
  refine v_bipush dX0_init_164 (v := 100) (by decide) ?_
  refine v_newarr dX0_init_166 rfl rfl q247 (fun _ _ h => h) (by decide) (fun _ _ => rfl) hF (fun a78 h79 hF => ?_)
  refine v_put dX0_init_168 pl_X0_88 (fun _ => rfl) rfl rfl hF (fun h80 hF => ?_)
  refine v_aload_n dX0_init_171 rfl 0 rfl ?_
  refine v_new dX0_init_172 nl_X0_30 hF (fun a81 h82 hF => ?_)
  refine v_dup dX0_init_175 rfl ?_
  obtain ⟨h83, e_h83, hF⟩ := Option.bind_eq_some_iff.mp hF
  refine v_calI dX0_init_176 il_X0_32 q224 (ct_X2_init e_h83) rfl rfl (Nat.le_trans (Nat.le_of_ble_eq_true rfl) hfr) (Nat.le_trans (Nat.le_of_ble_eq_true rfl) hlo) (Nat.le_of_ble_eq_true rfl) ?_
  refine v_put dX0_init_179 pl_X0_91 (fun _ => rfl) rfl rfl hF (fun h84 hF => ?_)
  refine v_aload_n dX0_init_182 rfl 0 rfl ?_
  refine v_iconst dX0_init_183 (v := -1) (by decide) ?_
  refine v_put dX0_init_184 pl_X0_94 (fun z => by cases z) rfl rfl hF (fun h85 hF => ?_)
  refine v_aload_n dX0_init_187 rfl 0 rfl ?_
  refine v_iconst dX0_init_188 (v := -1) (by decide) ?_
  refine v_put dX0_init_189 pl_X0_97 (fun z => by cases z) rfl rfl hF (fun h86 hF => ?_)
  cases hF
  exact v_vret dX0_init_192 rfl rfl rfl
def C_init (N : Nat) (a0 : Nat) (h : Hp) : Option Hp := (ob h a0 [0]).bind fun _ => C_init_b N a0 h
theorem rc_C_init {N : Nat}  {r : Hp} {a0 : Nat} {h : Hp} (hF : C_init N a0 h = some r) : RC h a0 [0] := by
  obtain ⟨o, ho, -⟩ := Option.bind_eq_some_iff.mp hF
  exact ⟨o, ho⟩
theorem ct_C_init {l : Launch} {G : GT} {N : Nat} {r : Hp} {a0 : Nat} {h : Hp} (hF : C_init N a0 h = some r) : Ct l G yX0_init (ws_ yX0_init cX0_init 1 (Option.none : Option Jvm.ClassFile.FieldType)) 5 100 [.ref a0] h none r :=
  ct_of (by decide) (Nat.le_of_ble_eq_true rfl) (w_C_init_b (Nat.le_refl _) (Nat.le_refl _) (Option.bind_eq_some_iff.mp hF).choose_spec.2)
theorem pl_X0_148 : PL RX0 148 [0] 15 (.int) false := by
  intro ci h
  simp only [List.mem_cons, List.not_mem_nil, or_false] at h
  subst h; exact ⟨RX0, _, TX0, 31, tyX0, rfl, in_X0, by decide, Or.inl q372, Or.inl rfl, tyX0_ok, rfl, by decide +kernel, rfl, fun z => by cases z⟩
theorem fl_X0_148 : FL RX0 148 [0] 15 := by
  intro ci h
  simp only [List.mem_cons, List.not_mem_nil, or_false] at h
  subst h; exact ⟨RX0, _, TX0, 31, rfl, in_X0, by decide, Or.inl q372, Or.inl rfl⟩
theorem fl_X0_72 : FL RX0 72 [0] 14 := by
  intro ci h
  simp only [List.mem_cons, List.not_mem_nil, or_false] at h
  subst h; exact ⟨RX0, _, TX0, 31, rfl, in_X0, by decide, Or.inl q369, Or.inl rfl⟩
def C_four_L3 (N : Nat) (x3 : Hp → Option Hp) : Nat → Nat → Int32 → Int32 → Hp → Option Hp
  | 0, _, _, _, _ => none
  | n31 + 1, v21, v22, v23, h24 =>
    if v23 < 0 then
      x3 h24
    else
      (gr h24 v21 [0] 14).bind fun v26 =>
      (gi h24 v21 [0] 15).bind fun v27 =>
      (sI h24 v26 1 v27 ((v22 >>> (v23 &&& 31)).toInt8.toInt32)).bind fun h28 =>
      (gi h28 v21 [0] 15).bind fun v29 =>
      (po h28 v21 [0] 15 (.int (v29 + (1 : Int32)))).bind fun h30 =>
      (C_four_L3 N x3 n31) v21 v22 (v23 + (-8 : Int32)) h30
theorem w_C_four_L3 {l : Launch} {G : GT} {fr lo : Nat} {h0 : Hp} {N : Nat} {r : Hp} (hfr : 0 ≤ fr) (hlo : 0 ≤ lo) {x3 : Hp → Option Hp} (hx3 : ∀ (h25 : Hp), x3 h25 = some r → V l G cX0_four RX0 "four" 3 (Option.none : Option Jvm.ClassFile.FieldType) fr lo h0 r (QM G none h0 r) 36 [] [] h25) : ∀ (n : Nat) (v21 : Nat) (v22 : Int32) (v23 : Int32) (h24 : Hp), C_four_L3 N x3 n v21 v22 v23 h24 = some r → V l G cX0_four RX0 "four" 3 (Option.none : Option Jvm.ClassFile.FieldType) fr lo h0 r (QM G none h0 r) 3 [(0, .ref v21), (1, .int v22), (2, .int v23)] [] h24 := by
  intro n
  induction n with
  | zero =>
    intro v21 v22 v23 h24 hF
    cases (show (none : Option Hp) = some r from hF)
  | succ n hc3 =>
    intro v21 v22 v23 h24 hF
    rw [C_four_L3] at hF
    refine v_iload_n dX0_four_3 rfl 2 rfl ?_
    refine v_if_lt (tgt := 36) dX0_four_4 (by decide) hF (fun hF => ?_) (fun hF => ?_)
    · exact v_sub [] rfl (hx3 _ hF)
    · refine v_aload_n dX0_four_7 rfl 0 rfl ?_
      refine v_getr dX0_four_8 fl_X0_72 hF (fun v26 hF => ?_)
      refine v_aload_n dX0_four_11 rfl 0 rfl ?_
      refine v_geti dX0_four_12 fl_X0_148 hF (fun v27 hF => ?_)
      refine v_iload_n dX0_four_15 rfl 1 rfl ?_
      refine v_iload_n dX0_four_16 rfl 2 rfl ?_
      refine v_ishr dX0_four_17 ?_
      refine v_i2b dX0_four_18 ?_
      refine v_bast dX0_four_19 hF (fun h28 hF => ?_)
      refine v_aload_n dX0_four_20 rfl 0 rfl ?_
      refine v_dup dX0_four_21 rfl ?_
      refine v_geti dX0_four_22 fl_X0_148 hF (fun v29 hF => ?_)
      refine v_iconst dX0_four_25 (v := 1) (by decide) ?_
      refine v_iadd dX0_four_26 ?_
      refine v_put dX0_four_27 pl_X0_148 (fun z => by cases z) rfl rfl hF (fun h30 hF => ?_)
      refine v_iinc dX0_four_30 2 rfl (v := v23 + (-8 : Int32)) (by rfl) (Nat.le_of_ble_eq_true rfl) (L' := [(2, .int (v23 + (-8 : Int32))), (0, .ref v21), (1, .int v22)]) rfl ?_
      refine v_goto (tgt := 3) dX0_four_33 (by decide) ?_
      exact v_sub [1, 2, 0] rfl (hc3 _ _ _ _ hF)
def C_four_b (N : Nat) (a0 : Nat) (a1 : Int32) (h : Hp) : Option Hp :=
  C_four_L3 N (fun h32 =>
    some h32) N a0 a1 (24 : Int32) h
theorem w_C_four_b {l : Launch} {G : GT} {fr lo : Nat} {h0 : Hp} {N : Nat} {r : Hp} (hfr : 0 ≤ fr) (hlo : 0 ≤ lo) {a0 : Nat} {a1 : Int32} {h : Hp} (hF : C_four_b N a0 a1 h = some r) : V l G cX0_four RX0 "four" 3 (Option.none : Option Jvm.ClassFile.FieldType) fr lo h0 r (QM G none h0 r) 0 [(0, .ref a0), (1, .int a1)] [] h := by
  unfold C_four_b at hF
  refine v_bipush dX0_four_0 (v := 24) (by decide) ?_
  refine v_istore_n dX0_four_2 rfl (Nat.le_of_ble_eq_true rfl) (L' := [(2, .int (24 : Int32)), (0, .ref a0), (1, .int a1)]) rfl ?_
  refine v_sub [1, 2, 0] rfl (w_C_four_L3 hfr hlo ?_ N _ _ _ _ hF)
  intro h32 hF
  cases hF
  exact v_vret dX0_four_36 rfl rfl rfl
def C_four (N : Nat) (a0 : Nat) (a1 : Int32) (h : Hp) : Option Hp := (ob h a0 [0]).bind fun _ => C_four_b N a0 a1 h
theorem rc_C_four {N : Nat}  {r : Hp} {a0 : Nat} {a1 : Int32} {h : Hp} (hF : C_four N a0 a1 h = some r) : RC h a0 [0] := by
  obtain ⟨o, ho, -⟩ := Option.bind_eq_some_iff.mp hF
  exact ⟨o, ho⟩
theorem ct_C_four {l : Launch} {G : GT} {N : Nat} {r : Hp} {a0 : Nat} {a1 : Int32} {h : Hp} (hF : C_four N a0 a1 h = some r) : Ct l G yX0_four (ws_ yX0_four cX0_four 3 (Option.none : Option Jvm.ClassFile.FieldType)) 0 0 [.ref a0, .int a1] h none r :=
  ct_of (by decide) (Nat.le_of_ble_eq_true rfl) (w_C_four_b (Nat.le_refl _) (Nat.le_refl _) (Option.bind_eq_some_iff.mp hF).choose_spec.2)
theorem vl_X0_151 : ∀ ci ∈ [0], VL RX0 151 ci yX0_four 1 := by
  intro ci h
  simp only [List.mem_cons, List.not_mem_nil, or_false] at h
  subst h; exact ⟨RX0, TX0, 31, rfl, q137, ⟨by decide, by decide⟩, by decide +kernel, q460, Or.inl ⟨q458, qs0⟩⟩
def C_feed_b (N : Nat) (a0 : Nat) (a1 : Int32) (a2 : Int32) (a3 : Int32) (a4 : Int32) (a5 : Int32) (h : Hp) : Option (Int32 × Hp) :=
  (gi h a0 [0] 15).bind fun v21 =>
  if (v21 + (20 : Int32)) ≤ (400 : Int32) then
    (C_four N a0 a1 h).bind fun h22 =>
    (C_four N a0 a2 h22).bind fun h23 =>
    (C_four N a0 a3 h23).bind fun h24 =>
    (C_four N a0 a4 h24).bind fun h25 =>
    (C_four N a0 a5 h25).bind fun h26 =>
    (gi h26 a0 [0] 15).bind fun v27 =>
    some (v27, h26)
  else
    some ((-1 : Int32), h)
theorem w_C_feed_b {l : Launch} {G : GT} {fr lo : Nat} {h0 : Hp} {N : Nat} {r : (Int32 × Hp)} (hfr : 1 ≤ fr) (hlo : 22 ≤ lo) {a0 : Nat} {a1 : Int32} {a2 : Int32} {a3 : Int32} {a4 : Int32} {a5 : Int32} {h : Hp} (hF : C_feed_b N a0 a1 a2 a3 a4 a5 h = some r) : V l G cX0_feed RX0 "feed" 6 (Option.some Jvm.ClassFile.FieldType.int) fr lo h0 r.2 (QM G (some (.int r.1)) h0 r.2) 0 [(0, .ref a0), (1, .int a1), (2, .int a2), (3, .int a3), (4, .int a4), (5, .int a5)] [] h := by
  unfold C_feed_b at hF
  refine v_aload_n dX0_feed_0 rfl 0 rfl ?_
  refine v_geti dX0_feed_1 fl_X0_148 hF (fun v21 hF => ?_)
  refine v_bipush dX0_feed_4 (v := 20) (by decide) ?_
  refine v_iadd dX0_feed_6 ?_
  refine v_sipush dX0_feed_7 (v := 400) (by decide) ?_
  refine v_icmp_le (tgt := 15) dX0_feed_10 (by decide) hF (fun hF => ?_) (fun hF => ?_)
  · refine v_aload_n dX0_feed_15 rfl 0 rfl ?_
    refine v_iload_n dX0_feed_16 rfl 1 rfl ?_
    obtain ⟨h22, e_h22, hF⟩ := Option.bind_eq_some_iff.mp hF
    refine v_calV0 dX0_feed_17 vl_X0_151 q461 (rc_C_four e_h22) (ct_C_four e_h22) rfl rfl (Nat.le_trans (Nat.le_of_ble_eq_true rfl) hfr) (Nat.le_trans (Nat.le_of_ble_eq_true rfl) hlo) (Nat.le_of_ble_eq_true rfl) ?_
    refine v_aload_n dX0_feed_20 rfl 0 rfl ?_
    refine v_iload_n dX0_feed_21 rfl 2 rfl ?_
    obtain ⟨h23, e_h23, hF⟩ := Option.bind_eq_some_iff.mp hF
    refine v_calV0 dX0_feed_22 vl_X0_151 q461 (rc_C_four e_h23) (ct_C_four e_h23) rfl rfl (Nat.le_trans (Nat.le_of_ble_eq_true rfl) hfr) (Nat.le_trans (Nat.le_of_ble_eq_true rfl) hlo) (Nat.le_of_ble_eq_true rfl) ?_
    refine v_aload_n dX0_feed_25 rfl 0 rfl ?_
    refine v_iload_n dX0_feed_26 rfl 3 rfl ?_
    obtain ⟨h24, e_h24, hF⟩ := Option.bind_eq_some_iff.mp hF
    refine v_calV0 dX0_feed_27 vl_X0_151 q461 (rc_C_four e_h24) (ct_C_four e_h24) rfl rfl (Nat.le_trans (Nat.le_of_ble_eq_true rfl) hfr) (Nat.le_trans (Nat.le_of_ble_eq_true rfl) hlo) (Nat.le_of_ble_eq_true rfl) ?_
    refine v_aload_n dX0_feed_30 rfl 0 rfl ?_
    refine v_iload dX0_feed_31 4 rfl ?_
    obtain ⟨h25, e_h25, hF⟩ := Option.bind_eq_some_iff.mp hF
    refine v_calV0 dX0_feed_33 vl_X0_151 q461 (rc_C_four e_h25) (ct_C_four e_h25) rfl rfl (Nat.le_trans (Nat.le_of_ble_eq_true rfl) hfr) (Nat.le_trans (Nat.le_of_ble_eq_true rfl) hlo) (Nat.le_of_ble_eq_true rfl) ?_
    refine v_aload_n dX0_feed_36 rfl 0 rfl ?_
    refine v_iload dX0_feed_37 5 rfl ?_
    obtain ⟨h26, e_h26, hF⟩ := Option.bind_eq_some_iff.mp hF
    refine v_calV0 dX0_feed_39 vl_X0_151 q461 (rc_C_four e_h26) (ct_C_four e_h26) rfl rfl (Nat.le_trans (Nat.le_of_ble_eq_true rfl) hfr) (Nat.le_trans (Nat.le_of_ble_eq_true rfl) hlo) (Nat.le_of_ble_eq_true rfl) ?_
    refine v_aload_n dX0_feed_42 rfl 0 rfl ?_
    refine v_geti dX0_feed_43 fl_X0_148 hF (fun v27 hF => ?_)
    cases hF
    exact v_iret dX0_feed_46 rfl rfl rfl rfl
  · refine v_iconst dX0_feed_13 (v := -1) (by decide) ?_
    cases hF
    exact v_iret dX0_feed_14 rfl rfl rfl rfl
def C_feed (N : Nat) (a0 : Nat) (a1 : Int32) (a2 : Int32) (a3 : Int32) (a4 : Int32) (a5 : Int32) (h : Hp) : Option (Int32 × Hp) := (ob h a0 [0]).bind fun _ => C_feed_b N a0 a1 a2 a3 a4 a5 h
theorem rc_C_feed {N : Nat}  {r : (Int32 × Hp)} {a0 : Nat} {a1 : Int32} {a2 : Int32} {a3 : Int32} {a4 : Int32} {a5 : Int32} {h : Hp} (hF : C_feed N a0 a1 a2 a3 a4 a5 h = some r) : RC h a0 [0] := by
  obtain ⟨o, ho, -⟩ := Option.bind_eq_some_iff.mp hF
  exact ⟨o, ho⟩
theorem ct_C_feed {l : Launch} {G : GT} {N : Nat} {r : (Int32 × Hp)} {a0 : Nat} {a1 : Int32} {a2 : Int32} {a3 : Int32} {a4 : Int32} {a5 : Int32} {h : Hp} (hF : C_feed N a0 a1 a2 a3 a4 a5 h = some r) : Ct l G yX0_feed (ws_ yX0_feed cX0_feed 6 (Option.some Jvm.ClassFile.FieldType.int)) 1 22 [.ref a0, .int a1, .int a2, .int a3, .int a4, .int a5] h (some (.int r.1)) r.2 :=
  ct_of (by decide) (Nat.le_of_ble_eq_true rfl) (w_C_feed_b (Nat.le_refl _) (Nat.le_refl _) (Option.bind_eq_some_iff.mp hF).choose_spec.2)
def C_in (a1 : Int64) (a2 : Int64) (a3 : Int64) : Option Int32 :=
  if (lg_cmp a1 a2) < 0 then
    some (0 : Int32)
  else
    if 0 < (lg_cmp a1 a3) then
      some (0 : Int32)
    else
      some (1 : Int32)
theorem w_C_in {l : Launch} {G : GT} {fr lo : Nat} {h0 : Hp} {h : Hp} {r : Int32} (hfr : 0 ≤ fr) (hlo : 0 ≤ lo) {a1 : Int64} {a2 : Int64} {a3 : Int64} (hF : C_in a1 a2 a3 = some r) : V l G cX0_in RX0 "in" 6 (Option.some Jvm.ClassFile.FieldType.boolean) fr lo h0 h (QM G (some (.int r)) h0 h) 0 [(0, .long a1), (2, .long a2), (4, .long a3)] [] h := by
  unfold C_in at hF
  refine v_lload_n dX0_in_0 rfl 0 rfl ?_
  refine v_lload_n dX0_in_1 rfl 1 rfl ?_
  refine v_lcmp dX0_in_2 ?_
  refine v_if_lt (tgt := 17) dX0_in_3 (by decide) hF (fun hF => ?_) (fun hF => ?_)
  · refine v_iconst dX0_in_17 (v := 0) (by decide) ?_
    cases hF
    exact v_iret dX0_in_18 rfl (by decide) rfl rfl
  · refine v_lload_n dX0_in_6 rfl 0 rfl ?_
    refine v_lload dX0_in_7 2 rfl ?_
    refine v_lcmp dX0_in_9 ?_
    refine v_if_gt (tgt := 17) dX0_in_10 (by decide) hF (fun hF => ?_) (fun hF => ?_)
    · refine v_iconst dX0_in_17 (v := 0) (by decide) ?_
      cases hF
      exact v_iret dX0_in_18 rfl (by decide) rfl rfl
    · refine v_iconst dX0_in_13 (v := 1) (by decide) ?_
      refine v_goto (tgt := 18) dX0_in_14 (by decide) ?_
      cases hF
      exact v_iret dX0_in_18 rfl (by decide) rfl rfl
theorem ct_C_in {l : Launch} {G : GT} {h : Hp} {r : Int32} {a1 : Int64} {a2 : Int64} {a3 : Int64} (hF : C_in a1 a2 a3 = some r) : Ct l G yX0_in (ws_ yX0_in cX0_in 6 (Option.some Jvm.ClassFile.FieldType.boolean)) 0 0 [.long a1, .long a2, .long a3] h (some (.int r)) h :=
  ct_of (by decide) (Nat.le_of_ble_eq_true rfl) (w_C_in (Nat.le_refl _) (Nat.le_refl _) hF)
theorem sl_X0_128 : SL RX0 128 yX0_in 3 := ⟨q137, ⟨by decide, by decide⟩, by decide +kernel, q467, Or.inl q466⟩
def C_end_b (a0 : Nat) (a1 : Int32) (h : Hp) : Option (Int32 × Hp) :=
  (gi h a0 [0] 15).bind fun v21 =>
  (C_in a1.toInt64 (0 : Int64) v21.toInt64).bind fun v22 =>
  if v22 = 0 then
    some ((-1 : Int32), h)
  else
    (po h a0 [0] 15 (.int a1)).bind fun h23 =>
    some (a1, h23)
theorem w_C_end_b {l : Launch} {G : GT} {fr lo : Nat} {h0 : Hp} {r : (Int32 × Hp)} (hfr : 1 ≤ fr) (hlo : 25 ≤ lo) {a0 : Nat} {a1 : Int32} {h : Hp} (hF : C_end_b a0 a1 h = some r) : V l G cX0_end RX0 "end" 2 (Option.some Jvm.ClassFile.FieldType.int) fr lo h0 r.2 (QM G (some (.int r.1)) h0 r.2) 0 [(0, .ref a0), (1, .int a1)] [] h := by
  unfold C_end_b at hF
  refine v_iload_n dX0_end_0 rfl 1 rfl ?_
  refine v_i2l dX0_end_1 ?_
  refine v_lconst dX0_end_2 (v := 0) (by decide) ?_
  refine v_aload_n dX0_end_3 rfl 0 rfl ?_
  refine v_geti dX0_end_4 fl_X0_148 hF (fun v21 hF => ?_)
  refine v_i2l dX0_end_7 ?_
  obtain ⟨v22, e_v22, hF⟩ := Option.bind_eq_some_iff.mp hF
  refine v_calS1 dX0_end_8 sl_X0_128 q468 (ct_C_in e_v22) rfl rfl (Nat.le_trans (Nat.le_of_ble_eq_true rfl) hfr) (Nat.le_trans (Nat.le_of_ble_eq_true rfl) hlo) (Nat.le_of_ble_eq_true rfl) ?_
  refine v_if_ne (tgt := 16) dX0_end_11 (by decide) hF (fun hF => ?_) (fun hF => ?_)
  · refine v_aload_n dX0_end_16 rfl 0 rfl ?_
    refine v_iload_n dX0_end_17 rfl 1 rfl ?_
    refine v_put dX0_end_18 pl_X0_148 (fun z => by cases z) rfl rfl hF (fun h23 hF => ?_)
    refine v_iload_n dX0_end_21 rfl 1 rfl ?_
    cases hF
    exact v_iret dX0_end_22 rfl rfl rfl rfl
  · refine v_iconst dX0_end_14 (v := -1) (by decide) ?_
    cases hF
    exact v_iret dX0_end_15 rfl rfl rfl rfl
def C_end (a0 : Nat) (a1 : Int32) (h : Hp) : Option (Int32 × Hp) := (ob h a0 [0]).bind fun _ => C_end_b a0 a1 h
theorem rc_C_end  {r : (Int32 × Hp)} {a0 : Nat} {a1 : Int32} {h : Hp} (hF : C_end a0 a1 h = some r) : RC h a0 [0] := by
  obtain ⟨o, ho, -⟩ := Option.bind_eq_some_iff.mp hF
  exact ⟨o, ho⟩
theorem ct_C_end {l : Launch} {G : GT} {r : (Int32 × Hp)} {a0 : Nat} {a1 : Int32} {h : Hp} (hF : C_end a0 a1 h = some r) : Ct l G yX0_end (ws_ yX0_end cX0_end 2 (Option.some Jvm.ClassFile.FieldType.int)) 1 25 [.ref a0, .int a1] h (some (.int r.1)) r.2 :=
  ct_of (by decide) (Nat.le_of_ble_eq_true rfl) (w_C_end_b (Nat.le_refl _) (Nat.le_refl _) (Option.bind_eq_some_iff.mp hF).choose_spec.2)
theorem fl_X0_116 : FL RX0 116 [1] 7 := by
  intro ci h
  simp only [List.mem_cons, List.not_mem_nil, or_false] at h
  subst h; exact ⟨RX1, _, TX1, 12, rfl, in_X1, by decide, Or.inr ⟨_, q263⟩, Or.inl rfl⟩
theorem fl_X0_10 : FL RX0 10 [0] 0 := by
  intro ci h
  simp only [List.mem_cons, List.not_mem_nil, or_false] at h
  subst h; exact ⟨RX0, _, TX0, 31, rfl, in_X0, by decide, Or.inl q353, Or.inl rfl⟩
def C_books_b (h : Hp) (a0 : Nat) : Option Nat :=
  (gr h a0 [0] 0).bind fun v21 =>
  (gr h v21 [1] 7).bind fun v22 =>
  some v22
theorem w_C_books_b {l : Launch} {G : GT} {fr lo : Nat} {h0 : Hp} {h : Hp} {r : Nat} (hfr : 0 ≤ fr) (hlo : 0 ≤ lo) {a0 : Nat} (hF : C_books_b h a0 = some r) : V l G cX0_books RX0 "books" 1 (Option.some (Jvm.ClassFile.FieldType.object "LeekReadings$Books")) fr lo h0 h (QM G (some (.ref r)) h0 h) 0 [(0, .ref a0)] [] h := by
  unfold C_books_b at hF
  refine v_aload_n dX0_books_0 rfl 0 rfl ?_
  refine v_getr dX0_books_1 fl_X0_10 hF (fun v21 hF => ?_)
  refine v_getr dX0_books_4 fl_X0_116 hF (fun v22 hF => ?_)
  cases hF
  exact v_aret (x := some _) dX0_books_7 rfl (Or.inl ⟨_, rfl⟩) rfl rfl
def C_books (h : Hp) (a0 : Nat) : Option Nat := (ob h a0 [0]).bind fun _ => C_books_b h a0
theorem rc_C_books {h : Hp}  {r : Nat} {a0 : Nat} (hF : C_books h a0 = some r) : RC h a0 [0] := by
  obtain ⟨o, ho, -⟩ := Option.bind_eq_some_iff.mp hF
  exact ⟨o, ho⟩
theorem ct_C_books {l : Launch} {G : GT} {h : Hp} {r : Nat} {a0 : Nat} (hF : C_books h a0 = some r) : Ct l G yX0_books (ws_ yX0_books cX0_books 1 (Option.some (Jvm.ClassFile.FieldType.object "LeekReadings$Books"))) 0 0 [.ref a0] h (some (.ref r)) h :=
  ct_of (by decide) (Nat.le_of_ble_eq_true rfl) (w_C_books_b (Nat.le_refl _) (Nat.le_refl _) (Option.bind_eq_some_iff.mp hF).choose_spec.2)
theorem fl_X0_119 : FL RX0 119 [1] 8 := by
  intro ci h
  simp only [List.mem_cons, List.not_mem_nil, or_false] at h
  subst h; exact ⟨RX1, _, TX1, 12, rfl, in_X1, by decide, Or.inr ⟨_, q265⟩, Or.inl rfl⟩
def C_nBooks_b (h : Hp) (a0 : Nat) : Option Int32 :=
  (gr h a0 [0] 0).bind fun v21 =>
  (gi h v21 [1] 8).bind fun v22 =>
  some v22
theorem w_C_nBooks_b {l : Launch} {G : GT} {fr lo : Nat} {h0 : Hp} {h : Hp} {r : Int32} (hfr : 0 ≤ fr) (hlo : 0 ≤ lo) {a0 : Nat} (hF : C_nBooks_b h a0 = some r) : V l G cX0_nBooks RX0 "nBooks" 1 (Option.some Jvm.ClassFile.FieldType.int) fr lo h0 h (QM G (some (.int r)) h0 h) 0 [(0, .ref a0)] [] h := by
  unfold C_nBooks_b at hF
  refine v_aload_n dX0_nBooks_0 rfl 0 rfl ?_
  refine v_getr dX0_nBooks_1 fl_X0_10 hF (fun v21 hF => ?_)
  refine v_geti dX0_nBooks_4 fl_X0_119 hF (fun v22 hF => ?_)
  cases hF
  exact v_iret dX0_nBooks_7 rfl rfl rfl rfl
def C_nBooks (h : Hp) (a0 : Nat) : Option Int32 := (ob h a0 [0]).bind fun _ => C_nBooks_b h a0
theorem rc_C_nBooks {h : Hp}  {r : Int32} {a0 : Nat} (hF : C_nBooks h a0 = some r) : RC h a0 [0] := by
  obtain ⟨o, ho, -⟩ := Option.bind_eq_some_iff.mp hF
  exact ⟨o, ho⟩
theorem ct_C_nBooks {l : Launch} {G : GT} {h : Hp} {r : Int32} {a0 : Nat} (hF : C_nBooks h a0 = some r) : Ct l G yX0_nBooks (ws_ yX0_nBooks cX0_nBooks 1 (Option.some Jvm.ClassFile.FieldType.int)) 0 0 [.ref a0] h (some (.int r)) h :=
  ct_of (by decide) (Nat.le_of_ble_eq_true rfl) (w_C_nBooks_b (Nat.le_refl _) (Nat.le_refl _) (Option.bind_eq_some_iff.mp hF).choose_spec.2)
theorem vl_X0_125 : ∀ ci ∈ [0], VL RX0 125 ci yX0_nBooks 0 := by
  intro ci h
  simp only [List.mem_cons, List.not_mem_nil, or_false] at h
  subst h; exact ⟨RX0, TX0, 31, rfl, q137, ⟨by decide, by decide⟩, by decide +kernel, q481, Or.inl ⟨q479, qs2⟩⟩
theorem vl_X0_135 : ∀ ci ∈ [0], VL RX0 135 ci yX0_books 0 := by
  intro ci h
  simp only [List.mem_cons, List.not_mem_nil, or_false] at h
  subst h; exact ⟨RX0, TX0, 31, rfl, q137, ⟨by decide, by decide⟩, by decide +kernel, q485, Or.inl ⟨q483, qs3⟩⟩
theorem pl_X0_138 : PL RX0 138 [2] 1 (.int) false := by
  intro ci h
  simp only [List.mem_cons, List.not_mem_nil, or_false] at h
  subst h; exact ⟨RX2, _, TX2, 4, tyX2, rfl, in_X2, by decide, Or.inr ⟨rfl, _, q231⟩, Or.inl rfl, tyX2_ok, rfl, by decide +kernel, rfl, fun z => by cases z⟩
theorem pl_X0_119 : PL RX0 119 [1] 8 (.int) false := by
  intro ci h
  simp only [List.mem_cons, List.not_mem_nil, or_false] at h
  subst h; exact ⟨RX1, _, TX1, 12, tyX1, rfl, in_X1, by decide, Or.inr ⟨rfl, _, q265⟩, Or.inl rfl, tyX1_ok, rfl, by decide +kernel, rfl, fun z => by cases z⟩
theorem fl_X0_138 : FL RX0 138 [2] 1 := by
  intro ci h
  simp only [List.mem_cons, List.not_mem_nil, or_false] at h
  subst h; exact ⟨RX2, _, TX2, 4, rfl, in_X2, by decide, Or.inr ⟨_, q231⟩, Or.inl rfl⟩
theorem fl_X0_145 : FL RX0 145 [1] 3 := by
  intro ci h
  simp only [List.mem_cons, List.not_mem_nil, or_false] at h
  subst h; exact ⟨RX1, _, TX1, 12, rfl, in_X1, by decide, Or.inr ⟨_, q255⟩, Or.inl rfl⟩
theorem fl_X0_162 : FL RX0 162 [1] 2 := by
  intro ci h
  simp only [List.mem_cons, List.not_mem_nil, or_false] at h
  subst h; exact ⟨RX1, _, TX1, 12, rfl, in_X1, by decide, Or.inr ⟨_, q253⟩, Or.inl rfl⟩
theorem fl_X0_159 : FL RX0 159 [1] 1 := by
  intro ci h
  simp only [List.mem_cons, List.not_mem_nil, or_false] at h
  subst h; exact ⟨RX1, _, TX1, 12, rfl, in_X1, by decide, Or.inr ⟨_, q251⟩, Or.inl rfl⟩
def C_come_b (a0 : Nat) (a1 : Int32) (a2 : Int32) (a3 : Int32) (h : Hp) : Option (Int32 × Hp) :=
  (C_in a1.toInt64 (1 : Int64) (9 : Int64)).bind fun v21 =>
  if v21 = 0 then
    some ((-1 : Int32), h)
  else
    (C_in a2.toInt64 (0 : Int64) (3 : Int64)).bind fun v22 =>
    if v22 = 0 then
      some ((-1 : Int32), h)
    else
      (C_nBooks h a0).bind fun v23 =>
      if (a3 &&& ((((1 : Int32) <<< (v23 &&& 31)) - (1 : Int32)) ^^^ (-1 : Int32))) = 0 then
        (C_nBooks h a0).bind fun v24 =>
        if v24 = (8 : Int32) then
          some ((-5 : Int32), h)
        else
          (gr h a0 [0] 0).bind fun v25 =>
          (gr h v25 [1] 1).bind fun v26 =>
          (sI h v26 0 v24 a1).bind fun h27 =>
          (gr h27 a0 [0] 0).bind fun v28 =>
          (gr h27 v28 [1] 2).bind fun v29 =>
          (sI h27 v29 0 v24 a2).bind fun h30 =>
          (gr h30 a0 [0] 0).bind fun v31 =>
          (gr h30 v31 [1] 3).bind fun v32 =>
          (sI h30 v32 0 v24 a3).bind fun h33 =>
          (C_books h33 a0).bind fun v34 =>
          (gi h33 v34 [2] 1).bind fun v35 =>
          (po h33 v34 [2] 1 (.int (v35 &&& (((1 : Int32) <<< (v24 &&& 31)) ^^^ (-1 : Int32))))).bind fun h36 =>
          (gr h36 a0 [0] 0).bind fun v37 =>
          (gi h36 v37 [1] 8).bind fun v38 =>
          (po h36 v37 [1] 8 (.int (v38 + (1 : Int32)))).bind fun h39 =>
          some (v38, h39)
      else
        some ((-1 : Int32), h)
theorem w_C_come_b {l : Launch} {G : GT} {fr lo : Nat} {h0 : Hp} {r : (Int32 × Hp)} (hfr : 1 ≤ fr) (hlo : 25 ≤ lo) {a0 : Nat} {a1 : Int32} {a2 : Int32} {a3 : Int32} {h : Hp} (hF : C_come_b a0 a1 a2 a3 h = some r) : V l G cX0_come RX0 "come" 5 (Option.some Jvm.ClassFile.FieldType.int) fr lo h0 r.2 (QM G (some (.int r.1)) h0 r.2) 0 [(0, .ref a0), (1, .int a1), (2, .int a2), (3, .int a3)] [] h := by
  unfold C_come_b at hF
  refine v_iload_n dX0_come_0 rfl 1 rfl ?_
  refine v_i2l dX0_come_1 ?_
  refine v_lconst dX0_come_2 (v := 1) (by decide) ?_
  refine v_ldc2 dX0_come_3 q477 ?_
  obtain ⟨v21, e_v21, hF⟩ := Option.bind_eq_some_iff.mp hF
  refine v_calS1 dX0_come_6 sl_X0_128 q468 (ct_C_in e_v21) rfl rfl (Nat.le_trans (Nat.le_of_ble_eq_true rfl) hfr) (Nat.le_trans (Nat.le_of_ble_eq_true rfl) hlo) (Nat.le_of_ble_eq_true rfl) ?_
  refine v_if_eq (tgt := 39) dX0_come_9 (by decide) hF (fun hF => ?_) (fun hF => ?_)
  · refine v_iconst dX0_come_39 (v := -1) (by decide) ?_
    cases hF
    exact v_iret dX0_come_40 rfl rfl rfl rfl
  · refine v_iload_n dX0_come_12 rfl 2 rfl ?_
    refine v_i2l dX0_come_13 ?_
    refine v_lconst dX0_come_14 (v := 0) (by decide) ?_
    refine v_ldc2 dX0_come_15 q478 ?_
    obtain ⟨v22, e_v22, hF⟩ := Option.bind_eq_some_iff.mp hF
    refine v_calS1 dX0_come_18 sl_X0_128 q468 (ct_C_in e_v22) rfl rfl (Nat.le_trans (Nat.le_of_ble_eq_true rfl) hfr) (Nat.le_trans (Nat.le_of_ble_eq_true rfl) hlo) (Nat.le_of_ble_eq_true rfl) ?_
    refine v_if_eq (tgt := 39) dX0_come_21 (by decide) hF (fun hF => ?_) (fun hF => ?_)
    · refine v_iconst dX0_come_39 (v := -1) (by decide) ?_
      cases hF
      exact v_iret dX0_come_40 rfl rfl rfl rfl
    · refine v_iload_n dX0_come_24 rfl 3 rfl ?_
      refine v_iconst dX0_come_25 (v := 1) (by decide) ?_
      refine v_aload_n dX0_come_26 rfl 0 rfl ?_
      obtain ⟨v23, e_v23, hF⟩ := Option.bind_eq_some_iff.mp hF
      refine v_calV1 dX0_come_27 vl_X0_125 q482 (rc_C_nBooks e_v23) (ct_C_nBooks e_v23) rfl rfl (Nat.le_trans (Nat.le_of_ble_eq_true rfl) hfr) (Nat.le_trans (Nat.le_of_ble_eq_true rfl) hlo) (Nat.le_of_ble_eq_true rfl) ?_
      refine v_ishl dX0_come_30 ?_
      refine v_iconst dX0_come_31 (v := 1) (by decide) ?_
      refine v_isub dX0_come_32 ?_
      refine v_iconst dX0_come_33 (v := -1) (by decide) ?_
      refine v_ixor dX0_come_34 ?_
      refine v_iand dX0_come_35 ?_
      refine v_if_eq (tgt := 41) dX0_come_36 (by decide) hF (fun hF => ?_) (fun hF => ?_)
      · refine v_aload_n dX0_come_41 rfl 0 rfl ?_
        obtain ⟨v24, e_v24, hF⟩ := Option.bind_eq_some_iff.mp hF
        refine v_calV1 dX0_come_42 vl_X0_125 q482 (rc_C_nBooks e_v24) (ct_C_nBooks e_v24) rfl rfl (Nat.le_trans (Nat.le_of_ble_eq_true rfl) hfr) (Nat.le_trans (Nat.le_of_ble_eq_true rfl) hlo) (Nat.le_of_ble_eq_true rfl) ?_
        refine v_istore dX0_come_45 (Nat.le_of_ble_eq_true rfl) (L' := [(4, .int v24), (0, .ref a0), (1, .int a1), (2, .int a2), (3, .int a3)]) rfl ?_
        refine v_iload dX0_come_47 0 rfl ?_
        refine v_bipush dX0_come_49 (v := 8) (by decide) ?_
        refine v_icmp_ne (tgt := 57) dX0_come_51 (by decide) hF (fun hF => ?_) (fun hF => ?_)
        · refine v_aload_n dX0_come_57 rfl 1 rfl ?_
          refine v_getr dX0_come_58 fl_X0_10 hF (fun v25 hF => ?_)
          refine v_getr dX0_come_61 fl_X0_159 hF (fun v26 hF => ?_)
          refine v_iload dX0_come_64 0 rfl ?_
          refine v_iload_n dX0_come_66 rfl 2 rfl ?_
          refine v_iast dX0_come_67 hF (fun h27 hF => ?_)
          refine v_aload_n dX0_come_68 rfl 1 rfl ?_
          refine v_getr dX0_come_69 fl_X0_10 hF (fun v28 hF => ?_)
          refine v_getr dX0_come_72 fl_X0_162 hF (fun v29 hF => ?_)
          refine v_iload dX0_come_75 0 rfl ?_
          refine v_iload_n dX0_come_77 rfl 3 rfl ?_
          refine v_iast dX0_come_78 hF (fun h30 hF => ?_)
          refine v_aload_n dX0_come_79 rfl 1 rfl ?_
          refine v_getr dX0_come_80 fl_X0_10 hF (fun v31 hF => ?_)
          refine v_getr dX0_come_83 fl_X0_145 hF (fun v32 hF => ?_)
          refine v_iload dX0_come_86 0 rfl ?_
          refine v_iload_n dX0_come_88 rfl 4 rfl ?_
          refine v_iast dX0_come_89 hF (fun h33 hF => ?_)
          refine v_aload_n dX0_come_90 rfl 1 rfl ?_
          obtain ⟨v34, e_v34, hF⟩ := Option.bind_eq_some_iff.mp hF
          refine v_calV1 dX0_come_91 vl_X0_135 q486 (rc_C_books e_v34) (ct_C_books e_v34) rfl rfl (Nat.le_trans (Nat.le_of_ble_eq_true rfl) hfr) (Nat.le_trans (Nat.le_of_ble_eq_true rfl) hlo) (Nat.le_of_ble_eq_true rfl) ?_
          refine v_dup dX0_come_94 rfl ?_
          refine v_geti dX0_come_95 fl_X0_138 hF (fun v35 hF => ?_)
          refine v_iconst dX0_come_98 (v := 1) (by decide) ?_
          refine v_iload dX0_come_99 0 rfl ?_
          refine v_ishl dX0_come_101 ?_
          refine v_iconst dX0_come_102 (v := -1) (by decide) ?_
          refine v_ixor dX0_come_103 ?_
          refine v_iand dX0_come_104 ?_
          refine v_put dX0_come_105 pl_X0_138 (fun z => by cases z) rfl rfl hF (fun h36 hF => ?_)
          refine v_aload_n dX0_come_108 rfl 1 rfl ?_
          refine v_getr dX0_come_109 fl_X0_10 hF (fun v37 hF => ?_)
          refine v_dup dX0_come_112 rfl ?_
          refine v_geti dX0_come_113 fl_X0_119 hF (fun v38 hF => ?_)
          refine v_dup_x1 dX0_come_116 rfl rfl ?_
          refine v_iconst dX0_come_117 (v := 1) (by decide) ?_
          refine v_iadd dX0_come_118 ?_
          refine v_put dX0_come_119 pl_X0_119 (fun z => by cases z) rfl rfl hF (fun h39 hF => ?_)
          cases hF
          exact v_iret dX0_come_122 rfl rfl rfl rfl
        · refine v_bipush dX0_come_54 (v := -5) (by decide) ?_
          cases hF
          exact v_iret dX0_come_56 rfl rfl rfl rfl
      · refine v_iconst dX0_come_39 (v := -1) (by decide) ?_
        cases hF
        exact v_iret dX0_come_40 rfl rfl rfl rfl
def C_come (a0 : Nat) (a1 : Int32) (a2 : Int32) (a3 : Int32) (h : Hp) : Option (Int32 × Hp) := (ob h a0 [0]).bind fun _ => C_come_b a0 a1 a2 a3 h
theorem rc_C_come  {r : (Int32 × Hp)} {a0 : Nat} {a1 : Int32} {a2 : Int32} {a3 : Int32} {h : Hp} (hF : C_come a0 a1 a2 a3 h = some r) : RC h a0 [0] := by
  obtain ⟨o, ho, -⟩ := Option.bind_eq_some_iff.mp hF
  exact ⟨o, ho⟩
theorem ct_C_come {l : Launch} {G : GT} {r : (Int32 × Hp)} {a0 : Nat} {a1 : Int32} {a2 : Int32} {a3 : Int32} {h : Hp} (hF : C_come a0 a1 a2 a3 h = some r) : Ct l G yX0_come (ws_ yX0_come cX0_come 5 (Option.some Jvm.ClassFile.FieldType.int)) 1 25 [.ref a0, .int a1, .int a2, .int a3] h (some (.int r.1)) r.2 :=
  ct_of (by decide) (Nat.le_of_ble_eq_true rfl) (w_C_come_b (Nat.le_refl _) (Nat.le_refl _) (Option.bind_eq_some_iff.mp hF).choose_spec.2)
theorem pl_X0_106 : PL RX0 106 [0] 10 (.int) false := by
  intro ci h
  simp only [List.mem_cons, List.not_mem_nil, or_false] at h
  subst h; exact ⟨RX0, _, TX0, 31, tyX0, rfl, in_X0, by decide, Or.inl q364, Or.inl rfl, tyX0_ok, rfl, by decide +kernel, rfl, fun z => by cases z⟩
theorem fl_X0_61 : FL RX0 61 [0] 9 := by
  intro ci h
  simp only [List.mem_cons, List.not_mem_nil, or_false] at h
  subst h; exact ⟨RX0, _, TX0, 31, rfl, in_X0, by decide, Or.inl q363, Or.inl rfl⟩
def C_tell_b (a0 : Nat) (a1 : Int32) (h : Hp) : Option (Int32 × Hp) :=
  (some (if (0 : Int32) < a1 then (0 : Int32) else a1)).bind fun (v21 : Int32) =>
  (po h a0 [0] 10 (.int v21)).bind fun h22 =>
  if 0 ≤ a1 then
    some (a1, h22)
  else
    (gr h22 a0 [0] 9).bind fun v23 =>
    (aI h22 v23 0 (-a1)).bind fun v24 =>
    (sI h22 v23 0 (-a1) (v24 + (1 : Int32))).bind fun h25 =>
    some (a1, h25)
theorem w_C_tell_b {l : Launch} {G : GT} {fr lo : Nat} {h0 : Hp} {r : (Int32 × Hp)} (hfr : 1 ≤ fr) (hlo : 30 ≤ lo) {a0 : Nat} {a1 : Int32} {h : Hp} (hF : C_tell_b a0 a1 h = some r) : V l G cX0_tell RX0 "tell" 2 (Option.some Jvm.ClassFile.FieldType.int) fr lo h0 r.2 (QM G (some (.int r.1)) h0 r.2) 0 [(0, .ref a0), (1, .int a1)] [] h := by
  unfold C_tell_b at hF
  refine v_aload_n dX0_tell_0 rfl 0 rfl ?_
  refine v_iload_n dX0_tell_1 rfl 1 rfl ?_
  refine v_iconst dX0_tell_2 (v := 0) (by decide) ?_
  refine v_mmin dX0_tell_3 q495 (by omega) (by omega) (Nat.le_of_ble_eq_true rfl) ?_
  refine v_leti hF (fun v21 hF => ?_)
  refine v_put dX0_tell_6 pl_X0_106 (fun z => by cases z) rfl rfl hF (fun h22 hF => ?_)
  refine v_iload_n dX0_tell_9 rfl 1 rfl ?_
  refine v_if_ge (tgt := 24) dX0_tell_10 (by decide) hF (fun hF => ?_) (fun hF => ?_)
  · refine v_iload_n dX0_tell_24 rfl 1 rfl ?_
    cases hF
    exact v_iret dX0_tell_25 rfl rfl rfl rfl
  · refine v_aload_n dX0_tell_13 rfl 0 rfl ?_
    refine v_getr dX0_tell_14 fl_X0_61 hF (fun v23 hF => ?_)
    refine v_iload_n dX0_tell_17 rfl 1 rfl ?_
    refine v_ineg dX0_tell_18 ?_
    refine v_dup2 dX0_tell_19 rfl rfl ?_
    refine v_iald dX0_tell_20 hF (fun v24 hF => ?_)
    refine v_iconst dX0_tell_21 (v := 1) (by decide) ?_
    refine v_iadd dX0_tell_22 ?_
    refine v_iast dX0_tell_23 hF (fun h25 hF => ?_)
    refine v_iload_n dX0_tell_24 rfl 1 rfl ?_
    cases hF
    exact v_iret dX0_tell_25 rfl rfl rfl rfl
def C_tell (a0 : Nat) (a1 : Int32) (h : Hp) : Option (Int32 × Hp) := (ob h a0 [0]).bind fun _ => C_tell_b a0 a1 h
theorem rc_C_tell  {r : (Int32 × Hp)} {a0 : Nat} {a1 : Int32} {h : Hp} (hF : C_tell a0 a1 h = some r) : RC h a0 [0] := by
  obtain ⟨o, ho, -⟩ := Option.bind_eq_some_iff.mp hF
  exact ⟨o, ho⟩
theorem ct_C_tell {l : Launch} {G : GT} {r : (Int32 × Hp)} {a0 : Nat} {a1 : Int32} {h : Hp} (hF : C_tell a0 a1 h = some r) : Ct l G yX0_tell (ws_ yX0_tell cX0_tell 2 (Option.some Jvm.ClassFile.FieldType.int)) 1 30 [.ref a0, .int a1] h (some (.int r.1)) r.2 :=
  ct_of (by decide) (Nat.le_of_ble_eq_true rfl) (w_C_tell_b (Nat.le_refl _) (Nat.le_refl _) (Option.bind_eq_some_iff.mp hF).choose_spec.2)
theorem vl_X0_112 : ∀ ci ∈ [0], VL RX0 112 ci yX0_tell 1 := by
  intro ci h
  simp only [List.mem_cons, List.not_mem_nil, or_false] at h
  subst h; exact ⟨RX0, TX0, 31, rfl, q137, ⟨by decide, by decide⟩, by decide +kernel, q493, Or.inl ⟨q491, qs5⟩⟩
theorem pl_X0_109 : PL RX0 109 [3] 1 (.int) false := by
  intro ci h
  simp only [List.mem_cons, List.not_mem_nil, or_false] at h
  subst h; exact ⟨RX3, _, TX3, 2, tyX3, rfl, in_X3, by decide, Or.inr ⟨rfl, _, q310⟩, Or.inl rfl, tyX3_ok, rfl, by decide +kernel, rfl, fun z => by cases z⟩
theorem fl_X0_23 : FL RX0 23 [0] 2 := by
  intro ci h
  simp only [List.mem_cons, List.not_mem_nil, or_false] at h
  subst h; exact ⟨RX0, _, TX0, 31, rfl, in_X0, by decide, Or.inl q355, Or.inl rfl⟩
def C_settled_J12 (v21 : Nat) (v22 : Int32) (h23 : Hp) : Option (Int32 × Hp) :=
  bd2 (C_tell v21 v22 h23) fun v25 h24 =>
  some (v25, h24)
theorem w_C_settled_J12 {l : Launch} {G : GT} {fr lo : Nat} {h0 : Hp} {r : (Int32 × Hp)} (hfr : 2 ≤ fr) (hlo : 51 ≤ lo)   {v21 : Nat} {v22 : Int32} {h23 : Hp} (hF : C_settled_J12 v21 v22 h23 = some r) : V l G cX0_settled RX0 "settled" 2 (Option.some Jvm.ClassFile.FieldType.int) fr lo h0 r.2 (QM G (some (.int r.1)) h0 r.2) 12 [(0, .ref v21), (1, .int v22)] [] h23 := by
  unfold C_settled_J12 at hF
  refine v_aload_n dX0_settled_12 rfl 0 rfl ?_
  refine v_iload_n dX0_settled_13 rfl 1 rfl ?_
  obtain ⟨v25, h24, e_v25, hF⟩ := bd2_spec hF
  refine v_calV1 dX0_settled_14 vl_X0_112 q494 (rc_C_tell e_v25) (ct_C_tell e_v25) rfl rfl (Nat.le_trans (Nat.le_of_ble_eq_true rfl) hfr) (Nat.le_trans (Nat.le_of_ble_eq_true rfl) hlo) (Nat.le_of_ble_eq_true rfl) ?_
  cases hF
  exact v_iret dX0_settled_17 rfl rfl rfl rfl
def C_settled_b (a0 : Nat) (a1 : Int32) (h : Hp) : Option (Int32 × Hp) :=
  if a1 < 0 then
    C_settled_J12 a0 a1 h
  else
    (gr h a0 [0] 2).bind fun v26 =>
    (po h v26 [3] 1 (.int (0 : Int32))).bind fun h27 =>
    C_settled_J12 a0 a1 h27
theorem w_C_settled_b {l : Launch} {G : GT} {fr lo : Nat} {h0 : Hp} {r : (Int32 × Hp)} (hfr : 2 ≤ fr) (hlo : 51 ≤ lo) {a0 : Nat} {a1 : Int32} {h : Hp} (hF : C_settled_b a0 a1 h = some r) : V l G cX0_settled RX0 "settled" 2 (Option.some Jvm.ClassFile.FieldType.int) fr lo h0 r.2 (QM G (some (.int r.1)) h0 r.2) 0 [(0, .ref a0), (1, .int a1)] [] h := by
  unfold C_settled_b at hF
  refine v_iload_n dX0_settled_0 rfl 1 rfl ?_
  refine v_if_lt (tgt := 12) dX0_settled_1 (by decide) hF (fun hF => ?_) (fun hF => ?_)
  · exact v_sub [0, 1] rfl (w_C_settled_J12 hfr hlo hF)
  · refine v_aload_n dX0_settled_4 rfl 0 rfl ?_
    refine v_getr dX0_settled_5 fl_X0_23 hF (fun v26 hF => ?_)
    refine v_iconst dX0_settled_8 (v := 0) (by decide) ?_
    refine v_put dX0_settled_9 pl_X0_109 (fun z => by cases z) rfl rfl hF (fun h27 hF => ?_)
    exact v_sub [0, 1] rfl (w_C_settled_J12 hfr hlo hF)
def C_settled (a0 : Nat) (a1 : Int32) (h : Hp) : Option (Int32 × Hp) := (ob h a0 [0]).bind fun _ => C_settled_b a0 a1 h
theorem rc_C_settled  {r : (Int32 × Hp)} {a0 : Nat} {a1 : Int32} {h : Hp} (hF : C_settled a0 a1 h = some r) : RC h a0 [0] := by
  obtain ⟨o, ho, -⟩ := Option.bind_eq_some_iff.mp hF
  exact ⟨o, ho⟩
theorem ct_C_settled {l : Launch} {G : GT} {r : (Int32 × Hp)} {a0 : Nat} {a1 : Int32} {h : Hp} (hF : C_settled a0 a1 h = some r) : Ct l G yX0_settled (ws_ yX0_settled cX0_settled 2 (Option.some Jvm.ClassFile.FieldType.int)) 2 51 [.ref a0, .int a1] h (some (.int r.1)) r.2 :=
  ct_of (by decide) (Nat.le_of_ble_eq_true rfl) (w_C_settled_b (Nat.le_refl _) (Nat.le_refl _) (Option.bind_eq_some_iff.mp hF).choose_spec.2)
theorem vl_X0_165 : ∀ ci ∈ [0], VL RX0 165 ci yX0_come 3 := by
  intro ci h
  simp only [List.mem_cons, List.not_mem_nil, or_false] at h
  subst h; exact ⟨RX0, TX0, 31, rfl, q137, ⟨by decide, by decide⟩, by decide +kernel, q475, Or.inl ⟨q473, qs1⟩⟩
theorem vl_X0_169 : ∀ ci ∈ [0], VL RX0 169 ci yX0_settled 1 := by
  intro ci h
  simp only [List.mem_cons, List.not_mem_nil, or_false] at h
  subst h; exact ⟨RX0, TX0, 31, rfl, q137, ⟨by decide, by decide⟩, by decide +kernel, q489, Or.inl ⟨q487, qs4⟩⟩
def C_book_b (a0 : Nat) (a1 : Int32) (a2 : Int32) (h : Hp) : Option (Int32 × Hp) :=
  bd2 (C_come a0 a1 a2 (0 : Int32) h) fun v22 h21 =>
  bd2 (C_settled a0 v22 h21) fun v24 h23 =>
  some (v24, h23)
theorem w_C_book_b {l : Launch} {G : GT} {fr lo : Nat} {h0 : Hp} {r : (Int32 × Hp)} (hfr : 3 ≤ fr) (hlo : 72 ≤ lo) {a0 : Nat} {a1 : Int32} {a2 : Int32} {h : Hp} (hF : C_book_b a0 a1 a2 h = some r) : V l G cX0_book RX0 "book" 3 (Option.some Jvm.ClassFile.FieldType.int) fr lo h0 r.2 (QM G (some (.int r.1)) h0 r.2) 0 [(0, .ref a0), (1, .int a1), (2, .int a2)] [] h := by
  unfold C_book_b at hF
  refine v_aload_n dX0_book_0 rfl 0 rfl ?_
  refine v_aload_n dX0_book_1 rfl 0 rfl ?_
  refine v_iload_n dX0_book_2 rfl 1 rfl ?_
  refine v_iload_n dX0_book_3 rfl 2 rfl ?_
  refine v_iconst dX0_book_4 (v := 0) (by decide) ?_
  obtain ⟨v22, h21, e_v22, hF⟩ := bd2_spec hF
  refine v_calV1 dX0_book_5 vl_X0_165 q476 (rc_C_come e_v22) (ct_C_come e_v22) rfl rfl (Nat.le_trans (Nat.le_of_ble_eq_true rfl) hfr) (Nat.le_trans (Nat.le_of_ble_eq_true rfl) hlo) (Nat.le_of_ble_eq_true rfl) ?_
  obtain ⟨v24, h23, e_v24, hF⟩ := bd2_spec hF
  refine v_calV1 dX0_book_8 vl_X0_169 q490 (rc_C_settled e_v24) (ct_C_settled e_v24) rfl rfl (Nat.le_trans (Nat.le_of_ble_eq_true rfl) hfr) (Nat.le_trans (Nat.le_of_ble_eq_true rfl) hlo) (Nat.le_of_ble_eq_true rfl) ?_
  cases hF
  exact v_iret dX0_book_11 rfl rfl rfl rfl
def C_book (a0 : Nat) (a1 : Int32) (a2 : Int32) (h : Hp) : Option (Int32 × Hp) := (ob h a0 [0]).bind fun _ => C_book_b a0 a1 a2 h
theorem rc_C_book  {r : (Int32 × Hp)} {a0 : Nat} {a1 : Int32} {a2 : Int32} {h : Hp} (hF : C_book a0 a1 a2 h = some r) : RC h a0 [0] := by
  obtain ⟨o, ho, -⟩ := Option.bind_eq_some_iff.mp hF
  exact ⟨o, ho⟩
theorem ct_C_book {l : Launch} {G : GT} {r : (Int32 × Hp)} {a0 : Nat} {a1 : Int32} {a2 : Int32} {h : Hp} (hF : C_book a0 a1 a2 h = some r) : Ct l G yX0_book (ws_ yX0_book cX0_book 3 (Option.some Jvm.ClassFile.FieldType.int)) 3 72 [.ref a0, .int a1, .int a2] h (some (.int r.1)) r.2 :=
  ct_of (by decide) (Nat.le_of_ble_eq_true rfl) (w_C_book_b (Nat.le_refl _) (Nat.le_refl _) (Option.bind_eq_some_iff.mp hF).choose_spec.2)
def C_isBook_b (h : Hp) (a0 : Nat) (a1 : Int32) : Option Int32 :=
  (C_nBooks h a0).bind fun v21 =>
  (C_in a1.toInt64 (0 : Int64) ((v21 - (1 : Int32)).toInt64)).bind fun v22 =>
  (rz v22).bind fun v23 => some v23
theorem w_C_isBook_b {l : Launch} {G : GT} {fr lo : Nat} {h0 : Hp} {h : Hp} {r : Int32} (hfr : 1 ≤ fr) (hlo : 25 ≤ lo) {a0 : Nat} {a1 : Int32} (hF : C_isBook_b h a0 a1 = some r) : V l G cX0_isBook RX0 "isBook" 2 (Option.some Jvm.ClassFile.FieldType.boolean) fr lo h0 h (QM G (some (.int r)) h0 h) 0 [(0, .ref a0), (1, .int a1)] [] h := by
  unfold C_isBook_b at hF
  refine v_iload_n dX0_isBook_0 rfl 1 rfl ?_
  refine v_i2l dX0_isBook_1 ?_
  refine v_lconst dX0_isBook_2 (v := 0) (by decide) ?_
  refine v_aload_n dX0_isBook_3 rfl 0 rfl ?_
  obtain ⟨v21, e_v21, hF⟩ := Option.bind_eq_some_iff.mp hF
  refine v_calV1 dX0_isBook_4 vl_X0_125 q482 (rc_C_nBooks e_v21) (ct_C_nBooks e_v21) rfl rfl (Nat.le_trans (Nat.le_of_ble_eq_true rfl) hfr) (Nat.le_trans (Nat.le_of_ble_eq_true rfl) hlo) (Nat.le_of_ble_eq_true rfl) ?_
  refine v_iconst dX0_isBook_7 (v := 1) (by decide) ?_
  refine v_isub dX0_isBook_8 ?_
  refine v_i2l dX0_isBook_9 ?_
  obtain ⟨v22, e_v22, hF⟩ := Option.bind_eq_some_iff.mp hF
  refine v_calS1 dX0_isBook_10 sl_X0_128 q468 (ct_C_in e_v22) rfl rfl (Nat.le_trans (Nat.le_of_ble_eq_true rfl) hfr) (Nat.le_trans (Nat.le_of_ble_eq_true rfl) hlo) (Nat.le_of_ble_eq_true rfl) ?_
  refine v_zchk hF (fun v23 hz hF => ?_)
  cases hF
  exact v_iret dX0_isBook_13 rfl (nar_z hz) rfl rfl
def C_isBook (h : Hp) (a0 : Nat) (a1 : Int32) : Option Int32 := (ob h a0 [0]).bind fun _ => C_isBook_b h a0 a1
theorem rc_C_isBook {h : Hp}  {r : Int32} {a0 : Nat} {a1 : Int32} (hF : C_isBook h a0 a1 = some r) : RC h a0 [0] := by
  obtain ⟨o, ho, -⟩ := Option.bind_eq_some_iff.mp hF
  exact ⟨o, ho⟩
theorem ct_C_isBook {l : Launch} {G : GT} {h : Hp} {r : Int32} {a0 : Nat} {a1 : Int32} (hF : C_isBook h a0 a1 = some r) : Ct l G yX0_isBook (ws_ yX0_isBook cX0_isBook 2 (Option.some Jvm.ClassFile.FieldType.boolean)) 1 25 [.ref a0, .int a1] h (some (.int r)) h :=
  ct_of (by decide) (Nat.le_of_ble_eq_true rfl) (w_C_isBook_b (Nat.le_refl _) (Nat.le_refl _) (Option.bind_eq_some_iff.mp hF).choose_spec.2)
theorem vl_X0_172 : ∀ ci ∈ [0], VL RX0 172 ci yX0_isBook 1 := by
  intro ci h
  simp only [List.mem_cons, List.not_mem_nil, or_false] at h
  subst h; exact ⟨RX0, TX0, 31, rfl, q137, ⟨by decide, by decide⟩, by decide +kernel, q504, Or.inl ⟨q502, qs6⟩⟩
def C_need_J15 (v21 : Nat) (h22 : Hp) : Option (Int32 × Hp) :=
  bd2 (C_tell v21 (-1 : Int32) h22) fun v24 h23 =>
  some (v24, h23)
theorem w_C_need_J15 {l : Launch} {G : GT} {fr lo : Nat} {h0 : Hp} {r : (Int32 × Hp)} (hfr : 2 ≤ fr) (hlo : 51 ≤ lo)   {v21 : Nat} {h22 : Hp} (hF : C_need_J15 v21 h22 = some r) : V l G cX0_need RX0 "need" 5 (Option.some Jvm.ClassFile.FieldType.int) fr lo h0 r.2 (QM G (some (.int r.1)) h0 r.2) 15 [(0, .ref v21)] [] h22 := by
  unfold C_need_J15 at hF
  refine v_aload_n dX0_need_15 rfl 0 rfl ?_
  refine v_iconst dX0_need_16 (v := -1) (by decide) ?_
  obtain ⟨v24, h23, e_v24, hF⟩ := bd2_spec hF
  refine v_calV1 dX0_need_17 vl_X0_112 q494 (rc_C_tell e_v24) (ct_C_tell e_v24) rfl rfl (Nat.le_trans (Nat.le_of_ble_eq_true rfl) hfr) (Nat.le_trans (Nat.le_of_ble_eq_true rfl) hlo) (Nat.le_of_ble_eq_true rfl) ?_
  cases hF
  exact v_iret dX0_need_20 rfl rfl rfl rfl
def C_need_J37 (v27 : Nat) (h28 : Hp) : Option (Int32 × Hp) :=
  bd2 (C_tell v27 (-2 : Int32) h28) fun v30 h29 =>
  some (v30, h29)
theorem w_C_need_J37 {l : Launch} {G : GT} {fr lo : Nat} {h0 : Hp} {r : (Int32 × Hp)} (hfr : 2 ≤ fr) (hlo : 51 ≤ lo)   {v27 : Nat} {h28 : Hp} (hF : C_need_J37 v27 h28 = some r) : V l G cX0_need RX0 "need" 5 (Option.some Jvm.ClassFile.FieldType.int) fr lo h0 r.2 (QM G (some (.int r.1)) h0 r.2) 37 [(0, .ref v27)] [] h28 := by
  unfold C_need_J37 at hF
  refine v_aload_n dX0_need_37 rfl 0 rfl ?_
  refine v_bipush dX0_need_38 (v := -2) (by decide) ?_
  obtain ⟨v30, h29, e_v30, hF⟩ := bd2_spec hF
  refine v_calV1 dX0_need_40 vl_X0_112 q494 (rc_C_tell e_v30) (ct_C_tell e_v30) rfl rfl (Nat.le_trans (Nat.le_of_ble_eq_true rfl) hfr) (Nat.le_trans (Nat.le_of_ble_eq_true rfl) hlo) (Nat.le_of_ble_eq_true rfl) ?_
  cases hF
  exact v_iret dX0_need_43 rfl rfl rfl rfl
def C_need_J82 (v39 : Nat) (v40 : Int32) (v41 : Int32) (v42 : Int32) (v43 : Int32) (v44 : Nat) (h45 : Hp) : Option (Int32 × Hp) :=
  (sI h45 v44 0 v43 (v42 ^^^ v41)).bind fun h46 =>
  bd2 (C_tell v39 v40 h46) fun v48 h47 =>
  some (v48, h47)
theorem w_C_need_J82 {l : Launch} {G : GT} {fr lo : Nat} {h0 : Hp} {r : (Int32 × Hp)} (hfr : 2 ≤ fr) (hlo : 51 ≤ lo)   {v39 : Nat} {v40 : Int32} {v41 : Int32} {v42 : Int32} {v43 : Int32} {v44 : Nat} {h45 : Hp} (hF : C_need_J82 v39 v40 v41 v42 v43 v44 h45 = some r) : V l G cX0_need RX0 "need" 5 (Option.some Jvm.ClassFile.FieldType.int) fr lo h0 r.2 (QM G (some (.int r.1)) h0 r.2) 82 [(0, .ref v39), (4, .int v40)] [.int v41, .int v42, .int v43, .ref v44] h45 := by
  unfold C_need_J82 at hF
  refine v_ixor dX0_need_82 ?_
  refine v_iast dX0_need_83 hF (fun h46 hF => ?_)
  refine v_aload_n dX0_need_84 rfl 0 rfl ?_
  refine v_iload dX0_need_85 1 rfl ?_
  obtain ⟨v48, h47, e_v48, hF⟩ := bd2_spec hF
  refine v_calV1 dX0_need_87 vl_X0_112 q494 (rc_C_tell e_v48) (ct_C_tell e_v48) rfl rfl (Nat.le_trans (Nat.le_of_ble_eq_true rfl) hfr) (Nat.le_trans (Nat.le_of_ble_eq_true rfl) hlo) (Nat.le_of_ble_eq_true rfl) ?_
  cases hF
  exact v_iret dX0_need_90 rfl rfl rfl rfl
def C_need_b (a0 : Nat) (a1 : Int32) (a2 : Int32) (a3 : Int32) (h : Hp) : Option (Int32 × Hp) :=
  if a1 = a2 then
    C_need_J15 a0 h
  else
    (C_in a3.toInt64 (0 : Int64) (1 : Int64)).bind fun v25 =>
    if v25 = 0 then
      C_need_J15 a0 h
    else
      (C_isBook h a0 a1).bind fun v26 =>
      if v26 = 0 then
        C_need_J37 a0 h
      else
        (C_isBook h a0 a2).bind fun v31 =>
        if v31 = 0 then
          C_need_J37 a0 h
        else
          (gr h a0 [0] 0).bind fun v32 =>
          (gr h v32 [1] 3).bind fun v33 =>
          (aI h v33 0 a1).bind fun v34 =>
          (some ((v34 >>> (a2 &&& 31)) &&& (1 : Int32))).bind fun (v35 : Int32) =>
          (gr h a0 [0] 0).bind fun v36 =>
          (gr h v36 [1] 3).bind fun v37 =>
          (aI h v37 0 a1).bind fun v38 =>
          C_need_J82 a0 v35 (if v35 = a3 then (0 : Int32) else ((1 : Int32) <<< (a2 &&& 31))) v38 a1 v37 h
theorem w_C_need_b {l : Launch} {G : GT} {fr lo : Nat} {h0 : Hp} {r : (Int32 × Hp)} (hfr : 2 ≤ fr) (hlo : 51 ≤ lo) {a0 : Nat} {a1 : Int32} {a2 : Int32} {a3 : Int32} {h : Hp} (hF : C_need_b a0 a1 a2 a3 h = some r) : V l G cX0_need RX0 "need" 5 (Option.some Jvm.ClassFile.FieldType.int) fr lo h0 r.2 (QM G (some (.int r.1)) h0 r.2) 0 [(0, .ref a0), (1, .int a1), (2, .int a2), (3, .int a3)] [] h := by
  unfold C_need_b at hF
  refine v_iload_n dX0_need_0 rfl 1 rfl ?_
  refine v_iload_n dX0_need_1 rfl 2 rfl ?_
  refine v_icmp_eq (tgt := 15) dX0_need_2 (by decide) hF (fun hF => ?_) (fun hF => ?_)
  · exact v_sub [0] rfl (w_C_need_J15 hfr hlo hF)
  · refine v_iload_n dX0_need_5 rfl 3 rfl ?_
    refine v_i2l dX0_need_6 ?_
    refine v_lconst dX0_need_7 (v := 0) (by decide) ?_
    refine v_lconst dX0_need_8 (v := 1) (by decide) ?_
    obtain ⟨v25, e_v25, hF⟩ := Option.bind_eq_some_iff.mp hF
    refine v_calS1 dX0_need_9 sl_X0_128 q468 (ct_C_in e_v25) rfl rfl (Nat.le_trans (Nat.le_of_ble_eq_true rfl) hfr) (Nat.le_trans (Nat.le_of_ble_eq_true rfl) hlo) (Nat.le_of_ble_eq_true rfl) ?_
    refine v_if_ne (tgt := 21) dX0_need_12 (by decide) hF (fun hF => ?_) (fun hF => ?_)
    · refine v_aload_n dX0_need_21 rfl 0 rfl ?_
      refine v_iload_n dX0_need_22 rfl 1 rfl ?_
      obtain ⟨v26, e_v26, hF⟩ := Option.bind_eq_some_iff.mp hF
      refine v_calV1 dX0_need_23 vl_X0_172 q505 (rc_C_isBook e_v26) (ct_C_isBook e_v26) rfl rfl (Nat.le_trans (Nat.le_of_ble_eq_true rfl) hfr) (Nat.le_trans (Nat.le_of_ble_eq_true rfl) hlo) (Nat.le_of_ble_eq_true rfl) ?_
      refine v_if_eq (tgt := 37) dX0_need_26 (by decide) hF (fun hF => ?_) (fun hF => ?_)
      · exact v_sub [0] rfl (w_C_need_J37 hfr hlo hF)
      · refine v_aload_n dX0_need_29 rfl 0 rfl ?_
        refine v_iload_n dX0_need_30 rfl 2 rfl ?_
        obtain ⟨v31, e_v31, hF⟩ := Option.bind_eq_some_iff.mp hF
        refine v_calV1 dX0_need_31 vl_X0_172 q505 (rc_C_isBook e_v31) (ct_C_isBook e_v31) rfl rfl (Nat.le_trans (Nat.le_of_ble_eq_true rfl) hfr) (Nat.le_trans (Nat.le_of_ble_eq_true rfl) hlo) (Nat.le_of_ble_eq_true rfl) ?_
        refine v_if_ne (tgt := 44) dX0_need_34 (by decide) hF (fun hF => ?_) (fun hF => ?_)
        · refine v_aload_n dX0_need_44 rfl 0 rfl ?_
          refine v_getr dX0_need_45 fl_X0_10 hF (fun v32 hF => ?_)
          refine v_getr dX0_need_48 fl_X0_145 hF (fun v33 hF => ?_)
          refine v_iload_n dX0_need_51 rfl 1 rfl ?_
          refine v_iald dX0_need_52 hF (fun v34 hF => ?_)
          refine v_iload_n dX0_need_53 rfl 2 rfl ?_
          refine v_ishr dX0_need_54 ?_
          refine v_iconst dX0_need_55 (v := 1) (by decide) ?_
          refine v_iand dX0_need_56 ?_
          refine v_leti hF (fun v35 hF => ?_)
          refine v_istore dX0_need_57 (Nat.le_of_ble_eq_true rfl) (L' := [(4, .int v35), (0, .ref a0), (1, .int a1), (2, .int a2), (3, .int a3)]) rfl ?_
          refine v_aload_n dX0_need_59 rfl 1 rfl ?_
          refine v_getr dX0_need_60 fl_X0_10 hF (fun v36 hF => ?_)
          refine v_getr dX0_need_63 fl_X0_145 hF (fun v37 hF => ?_)
          refine v_iload_n dX0_need_66 rfl 2 rfl ?_
          refine v_dup2 dX0_need_67 rfl rfl ?_
          refine v_iald dX0_need_68 hF (fun v38 hF => ?_)
          refine v_iload dX0_need_69 0 rfl ?_
          refine v_iload_n dX0_need_71 rfl 4 rfl ?_
          refine v_tern (c := v35 = a3) (x := (0 : Int32)) (y := ((1 : Int32) <<< (a2 &&& 31))) (pcj := 82) (st := [.int v38, .int a1, .ref v37]) ?_ (fun kt kf => v_icmp_ne0 (tgt := 79) dX0_need_72 (by decide) kt kf) (fun K => ?_) (fun K => ?_)
          · exact v_sub [1, 0] rfl (w_C_need_J82 hfr hlo hF)
          · refine v_iconst dX0_need_75 (v := 0) (by decide) ?_
            refine v_goto (tgt := 82) dX0_need_76 (by decide) ?_
            exact K
          · refine v_iconst dX0_need_79 (v := 1) (by decide) ?_
            refine v_iload_n dX0_need_80 rfl 3 rfl ?_
            refine v_ishl dX0_need_81 ?_
            exact K
        · exact v_sub [0] rfl (w_C_need_J37 hfr hlo hF)
    · exact v_sub [0] rfl (w_C_need_J15 hfr hlo hF)
def C_need (a0 : Nat) (a1 : Int32) (a2 : Int32) (a3 : Int32) (h : Hp) : Option (Int32 × Hp) := (ob h a0 [0]).bind fun _ => C_need_b a0 a1 a2 a3 h
theorem rc_C_need  {r : (Int32 × Hp)} {a0 : Nat} {a1 : Int32} {a2 : Int32} {a3 : Int32} {h : Hp} (hF : C_need a0 a1 a2 a3 h = some r) : RC h a0 [0] := by
  obtain ⟨o, ho, -⟩ := Option.bind_eq_some_iff.mp hF
  exact ⟨o, ho⟩
theorem ct_C_need {l : Launch} {G : GT} {r : (Int32 × Hp)} {a0 : Nat} {a1 : Int32} {a2 : Int32} {a3 : Int32} {h : Hp} (hF : C_need a0 a1 a2 a3 h = some r) : Ct l G yX0_need (ws_ yX0_need cX0_need 5 (Option.some Jvm.ClassFile.FieldType.int)) 2 51 [.ref a0, .int a1, .int a2, .int a3] h (some (.int r.1)) r.2 :=
  ct_of (by decide) (Nat.le_of_ble_eq_true rfl) (w_C_need_b (Nat.le_refl _) (Nat.le_refl _) (Option.bind_eq_some_iff.mp hF).choose_spec.2)
theorem sl_X0_277 : SL RX0 277 yJ4_bitCount 1 := ⟨q148, ⟨by decide, by decide⟩, by decide +kernel, q531, Or.inl q530⟩
theorem fl_X0_207 : FL RX0 207 [1] 5 := by
  intro ci h
  simp only [List.mem_cons, List.not_mem_nil, or_false] at h
  subst h; exact ⟨RX1, _, TX1, 12, rfl, in_X1, by decide, Or.inr ⟨_, q259⟩, Or.inl rfl⟩
theorem fl_X0_271 : FL RX0 271 [4] 0 := by
  intro ci h
  simp only [List.mem_cons, List.not_mem_nil, or_false] at h
  subst h; exact ⟨RX4, _, TX4, 2, rfl, in_X4, by decide, Or.inr ⟨_, q327⟩, Or.inl rfl⟩
theorem fl_X0_43 : FL RX0 43 [0] 6 := by
  intro ci h
  simp only [List.mem_cons, List.not_mem_nil, or_false] at h
  subst h; exact ⟨RX0, _, TX0, 31, rfl, in_X0, by decide, Or.inl q359, Or.inl rfl⟩
theorem fl_X0_204 : FL RX0 204 [2] 2 := by
  intro ci h
  simp only [List.mem_cons, List.not_mem_nil, or_false] at h
  subst h; exact ⟨RX2, _, TX2, 4, rfl, in_X2, by decide, Or.inr ⟨_, q234⟩, Or.inl rfl⟩
theorem fl_X0_188 : FL RX0 188 [2] 0 := by
  intro ci h
  simp only [List.mem_cons, List.not_mem_nil, or_false] at h
  subst h; exact ⟨RX2, _, TX2, 4, rfl, in_X2, by decide, Or.inr ⟨_, q228⟩, Or.inl rfl⟩
theorem fl_X0_185 : FL RX0 185 [1] 4 := by
  intro ci h
  simp only [List.mem_cons, List.not_mem_nil, or_false] at h
  subst h; exact ⟨RX1, _, TX1, 12, rfl, in_X1, by decide, Or.inr ⟨_, q257⟩, Or.inl rfl⟩
def C_about_J141 (v69 : Nat) (v70 : Int64) (v71 : Int32) (v72 : Nat) (h73 : Hp) : Option Hp :=
  (sL h73 v72 3 v71 v70).bind fun h74 =>
  (gr h74 v69 [0] 6).bind fun v75 =>
  (gr h74 v75 [4] 0).bind fun v76 =>
  (C_books h74 v69).bind fun v77 =>
  (gi h74 v77 [2] 1).bind fun v78 =>
  (J4_bitCount v78).bind fun v79 =>
  (sL h74 v76 3 (6 : Int32) v79.toInt64).bind fun h80 =>
  (gr h80 v69 [0] 6).bind fun v81 =>
  (gr h80 v81 [4] 0).bind fun v82 =>
  (C_books h80 v69).bind fun v83 =>
  (gi h80 v83 [2] 2).bind fun v84 =>
  (sL h80 v82 3 (7 : Int32) v84.toInt64).bind fun h85 =>
  (gr h85 v69 [0] 6).bind fun v86 =>
  (gr h85 v86 [4] 0).bind fun v87 =>
  (gr h85 v69 [0] 0).bind fun v88 =>
  (gr h85 v88 [1] 5).bind fun v89 =>
  (aI h85 v89 0 (2 : Int32)).bind fun v90 =>
  (sL h85 v87 3 (8 : Int32) v90.toInt64).bind fun h91 =>
  some h91
theorem w_C_about_J141 {l : Launch} {G : GT} {fr lo : Nat} {h0 : Hp} {r : Hp} (hfr : 1 ≤ fr) (hlo : 20 ≤ lo)   {v69 : Nat} {v70 : Int64} {v71 : Int32} {v72 : Nat} {h73 : Hp} (hF : C_about_J141 v69 v70 v71 v72 h73 = some r) : V l G cX0_about RX0 "about" 3 (Option.none : Option Jvm.ClassFile.FieldType) fr lo h0 r (QM G none h0 r) 141 [(0, .ref v69)] [.long v70, .int v71, .ref v72] h73 := by
  unfold C_about_J141 at hF
  refine v_last dX0_about_141 hF (fun h74 hF => ?_)
  refine v_aload_n dX0_about_142 rfl 0 rfl ?_
  refine v_getr dX0_about_143 fl_X0_43 hF (fun v75 hF => ?_)
  refine v_getr dX0_about_146 fl_X0_271 hF (fun v76 hF => ?_)
  refine v_bipush dX0_about_149 (v := 6) (by decide) ?_
  refine v_aload_n dX0_about_151 rfl 0 rfl ?_
  obtain ⟨v77, e_v77, hF⟩ := Option.bind_eq_some_iff.mp hF
  refine v_calV1 dX0_about_152 vl_X0_135 q486 (rc_C_books e_v77) (ct_C_books e_v77) rfl rfl (Nat.le_trans (Nat.le_of_ble_eq_true rfl) hfr) (Nat.le_trans (Nat.le_of_ble_eq_true rfl) hlo) (Nat.le_of_ble_eq_true rfl) ?_
  refine v_geti dX0_about_155 fl_X0_138 hF (fun v78 hF => ?_)
  obtain ⟨v79, e_v79, hF⟩ := Option.bind_eq_some_iff.mp hF
  refine v_calS1 dX0_about_158 sl_X0_277 q532 (ct_J4_bitCount e_v79) rfl rfl (Nat.le_trans (Nat.le_of_ble_eq_true rfl) hfr) (Nat.le_trans (Nat.le_of_ble_eq_true rfl) hlo) (Nat.le_of_ble_eq_true rfl) ?_
  refine v_i2l dX0_about_161 ?_
  refine v_last dX0_about_162 hF (fun h80 hF => ?_)
  refine v_aload_n dX0_about_163 rfl 0 rfl ?_
  refine v_getr dX0_about_164 fl_X0_43 hF (fun v81 hF => ?_)
  refine v_getr dX0_about_167 fl_X0_271 hF (fun v82 hF => ?_)
  refine v_bipush dX0_about_170 (v := 7) (by decide) ?_
  refine v_aload_n dX0_about_172 rfl 0 rfl ?_
  obtain ⟨v83, e_v83, hF⟩ := Option.bind_eq_some_iff.mp hF
  refine v_calV1 dX0_about_173 vl_X0_135 q486 (rc_C_books e_v83) (ct_C_books e_v83) rfl rfl (Nat.le_trans (Nat.le_of_ble_eq_true rfl) hfr) (Nat.le_trans (Nat.le_of_ble_eq_true rfl) hlo) (Nat.le_of_ble_eq_true rfl) ?_
  refine v_geti dX0_about_176 fl_X0_204 hF (fun v84 hF => ?_)
  refine v_i2l dX0_about_179 ?_
  refine v_last dX0_about_180 hF (fun h85 hF => ?_)
  refine v_aload_n dX0_about_181 rfl 0 rfl ?_
  refine v_getr dX0_about_182 fl_X0_43 hF (fun v86 hF => ?_)
  refine v_getr dX0_about_185 fl_X0_271 hF (fun v87 hF => ?_)
  refine v_bipush dX0_about_188 (v := 8) (by decide) ?_
  refine v_aload_n dX0_about_190 rfl 0 rfl ?_
  refine v_getr dX0_about_191 fl_X0_10 hF (fun v88 hF => ?_)
  refine v_getr dX0_about_194 fl_X0_207 hF (fun v89 hF => ?_)
  refine v_iconst dX0_about_197 (v := 2) (by decide) ?_
  refine v_iald dX0_about_198 hF (fun v90 hF => ?_)
  refine v_i2l dX0_about_199 ?_
  refine v_last dX0_about_200 hF (fun h91 hF => ?_)
  cases hF
  exact v_vret dX0_about_201 rfl rfl rfl
def C_about_J111 (v57 : Nat) (v58 : Int32) (v59 : Int64) (v60 : Int32) (v61 : Nat) (h62 : Hp) : Option Hp :=
  (sL h62 v61 3 v60 v59).bind fun h63 =>
  (gr h63 v57 [0] 6).bind fun v64 =>
  (gr h63 v64 [4] 0).bind fun v65 =>
  if v58 = (-1 : Int32) then
    C_about_J141 v57 (-1 : Int64) (5 : Int32) v65 h63
  else
    (gr h63 v57 [0] 0).bind fun v66 =>
    (gr h63 v66 [1] 2).bind fun v67 =>
    (aI h63 v67 0 v58).bind fun v68 =>
    C_about_J141 v57 v68.toInt64 (5 : Int32) v65 h63
theorem w_C_about_J111 {l : Launch} {G : GT} {fr lo : Nat} {h0 : Hp} {r : Hp} (hfr : 1 ≤ fr) (hlo : 20 ≤ lo)   {v57 : Nat} {v58 : Int32} {v59 : Int64} {v60 : Int32} {v61 : Nat} {h62 : Hp} (hF : C_about_J111 v57 v58 v59 v60 v61 h62 = some r) : V l G cX0_about RX0 "about" 3 (Option.none : Option Jvm.ClassFile.FieldType) fr lo h0 r (QM G none h0 r) 111 [(0, .ref v57), (2, .int v58)] [.long v59, .int v60, .ref v61] h62 := by
  unfold C_about_J111 at hF
  refine v_last dX0_about_111 hF (fun h63 hF => ?_)
  refine v_aload_n dX0_about_112 rfl 0 rfl ?_
  refine v_getr dX0_about_113 fl_X0_43 hF (fun v64 hF => ?_)
  refine v_getr dX0_about_116 fl_X0_271 hF (fun v65 hF => ?_)
  refine v_iconst dX0_about_119 (v := 5) (by decide) ?_
  refine v_iload_n dX0_about_120 rfl 1 rfl ?_
  refine v_iconst dX0_about_121 (v := -1) (by decide) ?_
  refine v_icmp_ne (tgt := 131) dX0_about_122 (by decide) hF (fun hF => ?_) (fun hF => ?_)
  · refine v_aload_n dX0_about_131 rfl 0 rfl ?_
    refine v_getr dX0_about_132 fl_X0_10 hF (fun v66 hF => ?_)
    refine v_getr dX0_about_135 fl_X0_162 hF (fun v67 hF => ?_)
    refine v_iload_n dX0_about_138 rfl 1 rfl ?_
    refine v_iald dX0_about_139 hF (fun v68 hF => ?_)
    refine v_i2l dX0_about_140 ?_
    exact v_sub [0] rfl (w_C_about_J141 hfr hlo hF)
  · refine v_ldc2 dX0_about_125 q529 ?_
    refine v_goto (tgt := 141) dX0_about_128 (by decide) ?_
    exact v_sub [0] rfl (w_C_about_J141 hfr hlo hF)
def C_about_J70 (v42 : Nat) (v43 : Int32) (v44 : Int64) (v45 : Int32) (v46 : Nat) (h47 : Hp) : Option Hp :=
  (sL h47 v46 3 v45 v44).bind fun h48 =>
  (gr h48 v42 [0] 6).bind fun v49 =>
  (gr h48 v49 [4] 0).bind fun v50 =>
  (sL h48 v50 3 (3 : Int32) v43.toInt64).bind fun h51 =>
  (gr h51 v42 [0] 6).bind fun v52 =>
  (gr h51 v52 [4] 0).bind fun v53 =>
  if v43 = (-1 : Int32) then
    C_about_J111 v42 v43 (-1 : Int64) (4 : Int32) v53 h51
  else
    (gr h51 v42 [0] 0).bind fun v54 =>
    (gr h51 v54 [1] 1).bind fun v55 =>
    (aI h51 v55 0 v43).bind fun v56 =>
    C_about_J111 v42 v43 v56.toInt64 (4 : Int32) v53 h51
theorem w_C_about_J70 {l : Launch} {G : GT} {fr lo : Nat} {h0 : Hp} {r : Hp} (hfr : 1 ≤ fr) (hlo : 20 ≤ lo)   {v42 : Nat} {v43 : Int32} {v44 : Int64} {v45 : Int32} {v46 : Nat} {h47 : Hp} (hF : C_about_J70 v42 v43 v44 v45 v46 h47 = some r) : V l G cX0_about RX0 "about" 3 (Option.none : Option Jvm.ClassFile.FieldType) fr lo h0 r (QM G none h0 r) 70 [(0, .ref v42), (2, .int v43)] [.long v44, .int v45, .ref v46] h47 := by
  unfold C_about_J70 at hF
  refine v_last dX0_about_70 hF (fun h48 hF => ?_)
  refine v_aload_n dX0_about_71 rfl 0 rfl ?_
  refine v_getr dX0_about_72 fl_X0_43 hF (fun v49 hF => ?_)
  refine v_getr dX0_about_75 fl_X0_271 hF (fun v50 hF => ?_)
  refine v_iconst dX0_about_78 (v := 3) (by decide) ?_
  refine v_iload_n dX0_about_79 rfl 1 rfl ?_
  refine v_i2l dX0_about_80 ?_
  refine v_last dX0_about_81 hF (fun h51 hF => ?_)
  refine v_aload_n dX0_about_82 rfl 0 rfl ?_
  refine v_getr dX0_about_83 fl_X0_43 hF (fun v52 hF => ?_)
  refine v_getr dX0_about_86 fl_X0_271 hF (fun v53 hF => ?_)
  refine v_iconst dX0_about_89 (v := 4) (by decide) ?_
  refine v_iload_n dX0_about_90 rfl 1 rfl ?_
  refine v_iconst dX0_about_91 (v := -1) (by decide) ?_
  refine v_icmp_ne (tgt := 101) dX0_about_92 (by decide) hF (fun hF => ?_) (fun hF => ?_)
  · refine v_aload_n dX0_about_101 rfl 0 rfl ?_
    refine v_getr dX0_about_102 fl_X0_10 hF (fun v54 hF => ?_)
    refine v_getr dX0_about_105 fl_X0_159 hF (fun v55 hF => ?_)
    refine v_iload_n dX0_about_108 rfl 1 rfl ?_
    refine v_iald dX0_about_109 hF (fun v56 hF => ?_)
    refine v_i2l dX0_about_110 ?_
    exact v_sub [0, 1] rfl (w_C_about_J111 hfr hlo hF)
  · refine v_ldc2 dX0_about_95 q529 ?_
    refine v_goto (tgt := 111) dX0_about_98 (by decide) ?_
    exact v_sub [0, 1] rfl (w_C_about_J111 hfr hlo hF)
def C_about_J40 (v29 : Nat) (v30 : Int32) (v31 : Int32) (v32 : Int64) (v33 : Int32) (v34 : Nat) (h35 : Hp) : Option Hp :=
  (sL h35 v34 3 v33 v32).bind fun h36 =>
  (gr h36 v29 [0] 6).bind fun v37 =>
  (gr h36 v37 [4] 0).bind fun v38 =>
  if v30 = (-1 : Int32) then
    C_about_J70 v29 v31 (-1 : Int64) (2 : Int32) v38 h36
  else
    (C_books h36 v29).bind fun v39 =>
    (gr h36 v39 [2] 0).bind fun v40 =>
    (aI h36 v40 0 v30).bind fun v41 =>
    C_about_J70 v29 v31 v41.toInt64 (2 : Int32) v38 h36
theorem w_C_about_J40 {l : Launch} {G : GT} {fr lo : Nat} {h0 : Hp} {r : Hp} (hfr : 1 ≤ fr) (hlo : 20 ≤ lo)   {v29 : Nat} {v30 : Int32} {v31 : Int32} {v32 : Int64} {v33 : Int32} {v34 : Nat} {h35 : Hp} (hF : C_about_J40 v29 v30 v31 v32 v33 v34 h35 = some r) : V l G cX0_about RX0 "about" 3 (Option.none : Option Jvm.ClassFile.FieldType) fr lo h0 r (QM G none h0 r) 40 [(0, .ref v29), (1, .int v30), (2, .int v31)] [.long v32, .int v33, .ref v34] h35 := by
  unfold C_about_J40 at hF
  refine v_last dX0_about_40 hF (fun h36 hF => ?_)
  refine v_aload_n dX0_about_41 rfl 0 rfl ?_
  refine v_getr dX0_about_42 fl_X0_43 hF (fun v37 hF => ?_)
  refine v_getr dX0_about_45 fl_X0_271 hF (fun v38 hF => ?_)
  refine v_iconst dX0_about_48 (v := 2) (by decide) ?_
  refine v_iload_n dX0_about_49 rfl 1 rfl ?_
  refine v_iconst dX0_about_50 (v := -1) (by decide) ?_
  refine v_icmp_ne (tgt := 60) dX0_about_51 (by decide) hF (fun hF => ?_) (fun hF => ?_)
  · refine v_aload_n dX0_about_60 rfl 0 rfl ?_
    obtain ⟨v39, e_v39, hF⟩ := Option.bind_eq_some_iff.mp hF
    refine v_calV1 dX0_about_61 vl_X0_135 q486 (rc_C_books e_v39) (ct_C_books e_v39) rfl rfl (Nat.le_trans (Nat.le_of_ble_eq_true rfl) hfr) (Nat.le_trans (Nat.le_of_ble_eq_true rfl) hlo) (Nat.le_of_ble_eq_true rfl) ?_
    refine v_getr dX0_about_64 fl_X0_188 hF (fun v40 hF => ?_)
    refine v_iload_n dX0_about_67 rfl 1 rfl ?_
    refine v_iald dX0_about_68 hF (fun v41 hF => ?_)
    refine v_i2l dX0_about_69 ?_
    exact v_sub [0, 2] rfl (w_C_about_J70 hfr hlo hF)
  · refine v_ldc2 dX0_about_54 q529 ?_
    refine v_goto (tgt := 70) dX0_about_57 (by decide) ?_
    exact v_sub [0, 2] rfl (w_C_about_J70 hfr hlo hF)
def C_about_b (a0 : Nat) (a1 : Int32) (a2 : Int32) (h : Hp) : Option Hp :=
  (gr h a0 [0] 6).bind fun v21 =>
  (gr h v21 [4] 0).bind fun v22 =>
  (sL h v22 3 (0 : Int32) a1.toInt64).bind fun h23 =>
  (gr h23 a0 [0] 6).bind fun v24 =>
  (gr h23 v24 [4] 0).bind fun v25 =>
  if a1 = (-1 : Int32) then
    C_about_J40 a0 a1 a2 (-1 : Int64) (1 : Int32) v25 h23
  else
    (gr h23 a0 [0] 0).bind fun v26 =>
    (gr h23 v26 [1] 4).bind fun v27 =>
    (aI h23 v27 0 a1).bind fun v28 =>
    C_about_J40 a0 a1 a2 v28.toInt64 (1 : Int32) v25 h23
theorem w_C_about_b {l : Launch} {G : GT} {fr lo : Nat} {h0 : Hp} {r : Hp} (hfr : 1 ≤ fr) (hlo : 20 ≤ lo) {a0 : Nat} {a1 : Int32} {a2 : Int32} {h : Hp} (hF : C_about_b a0 a1 a2 h = some r) : V l G cX0_about RX0 "about" 3 (Option.none : Option Jvm.ClassFile.FieldType) fr lo h0 r (QM G none h0 r) 0 [(0, .ref a0), (1, .int a1), (2, .int a2)] [] h := by
  unfold C_about_b at hF
  refine v_aload_n dX0_about_0 rfl 0 rfl ?_
  refine v_getr dX0_about_1 fl_X0_43 hF (fun v21 hF => ?_)
  refine v_getr dX0_about_4 fl_X0_271 hF (fun v22 hF => ?_)
  refine v_iconst dX0_about_7 (v := 0) (by decide) ?_
  refine v_iload_n dX0_about_8 rfl 1 rfl ?_
  refine v_i2l dX0_about_9 ?_
  refine v_last dX0_about_10 hF (fun h23 hF => ?_)
  refine v_aload_n dX0_about_11 rfl 0 rfl ?_
  refine v_getr dX0_about_12 fl_X0_43 hF (fun v24 hF => ?_)
  refine v_getr dX0_about_15 fl_X0_271 hF (fun v25 hF => ?_)
  refine v_iconst dX0_about_18 (v := 1) (by decide) ?_
  refine v_iload_n dX0_about_19 rfl 1 rfl ?_
  refine v_iconst dX0_about_20 (v := -1) (by decide) ?_
  refine v_icmp_ne (tgt := 30) dX0_about_21 (by decide) hF (fun hF => ?_) (fun hF => ?_)
  · refine v_aload_n dX0_about_30 rfl 0 rfl ?_
    refine v_getr dX0_about_31 fl_X0_10 hF (fun v26 hF => ?_)
    refine v_getr dX0_about_34 fl_X0_185 hF (fun v27 hF => ?_)
    refine v_iload_n dX0_about_37 rfl 1 rfl ?_
    refine v_iald dX0_about_38 hF (fun v28 hF => ?_)
    refine v_i2l dX0_about_39 ?_
    exact v_sub [0, 1, 2] rfl (w_C_about_J40 hfr hlo hF)
  · refine v_ldc2 dX0_about_24 q529 ?_
    refine v_goto (tgt := 40) dX0_about_27 (by decide) ?_
    exact v_sub [0, 1, 2] rfl (w_C_about_J40 hfr hlo hF)
def C_about (a0 : Nat) (a1 : Int32) (a2 : Int32) (h : Hp) : Option Hp := (ob h a0 [0]).bind fun _ => C_about_b a0 a1 a2 h
theorem rc_C_about  {r : Hp} {a0 : Nat} {a1 : Int32} {a2 : Int32} {h : Hp} (hF : C_about a0 a1 a2 h = some r) : RC h a0 [0] := by
  obtain ⟨o, ho, -⟩ := Option.bind_eq_some_iff.mp hF
  exact ⟨o, ho⟩
theorem ct_C_about {l : Launch} {G : GT} {r : Hp} {a0 : Nat} {a1 : Int32} {a2 : Int32} {h : Hp} (hF : C_about a0 a1 a2 h = some r) : Ct l G yX0_about (ws_ yX0_about cX0_about 3 (Option.none : Option Jvm.ClassFile.FieldType)) 1 20 [.ref a0, .int a1, .int a2] h none r :=
  ct_of (by decide) (Nat.le_of_ble_eq_true rfl) (w_C_about_b (Nat.le_refl _) (Nat.le_refl _) (Option.bind_eq_some_iff.mp hF).choose_spec.2)
theorem vl_X0_267 : ∀ ci ∈ [20], VL RX0 267 ci yJ2_get 1 := by
  intro ci h
  simp only [List.mem_cons, List.not_mem_nil, or_false] at h
  subst h; exact ⟨RJ2, TJ2, 3, rfl, q141, ⟨by decide, by decide⟩, by decide +kernel, q541, Or.inl ⟨q540, q542⟩⟩
theorem kl_X5 : KL "LeekReadings$Text" [5] := by
  intro ci h
  simp only [List.mem_cons, List.not_mem_nil, or_false] at h
  subst h; exact ⟨(RX5, TX5, 1), rfl, Or.inl rfl⟩
theorem fl_X0_264 : FL RX0 264 [1] 11 := by
  intro ci h
  simp only [List.mem_cons, List.not_mem_nil, or_false] at h
  subst h; exact ⟨RX1, _, TX1, 12, rfl, in_X1, by decide, Or.inr ⟨_, q271⟩, Or.inl rfl⟩
theorem fl_X0_234 : FL RX0 234 [1] 0 := by
  intro ci h
  simp only [List.mem_cons, List.not_mem_nil, or_false] at h
  subst h; exact ⟨RX1, _, TX1, 12, rfl, in_X1, by decide, Or.inr ⟨_, q249⟩, Or.inl rfl⟩
theorem fl_X0_57 : FL RX0 57 [0] 8 := by
  intro ci h
  simp only [List.mem_cons, List.not_mem_nil, or_false] at h
  subst h; exact ⟨RX0, _, TX0, 31, rfl, in_X0, by decide, Or.inl q362, Or.inl rfl⟩
def C_law1_b (a0 : Nat) (h : Hp) : Option (Nat × Hp) :=
  (gr h a0 [0] 0).bind fun v21 =>
  (gi h v21 [1] 11).bind fun v22 =>
  if v22 = (-1 : Int32) then
    (gr h a0 [0] 8).bind fun v29 =>
    some (v29, h)
  else
    (gr h a0 [0] 0).bind fun v23 =>
    (gr h v23 [1] 0).bind fun v24 =>
    (gr h a0 [0] 0).bind fun v25 =>
    (gi h v25 [1] 11).bind fun v26 =>
    bd2 (J2_get v24 v26 h) fun v28 h27 =>
    (ob h27 v28 [5]).bind fun _ =>
    some (v28, h27)
theorem w_C_law1_b {l : Launch} {G : GT} {fr lo : Nat} {h0 : Hp} {r : (Nat × Hp)} (hfr : 3 ≤ fr) (hlo : 64 ≤ lo) {a0 : Nat} {h : Hp} (hF : C_law1_b a0 h = some r) : V l G cX0_law1 RX0 "law1" 1 (Option.some (Jvm.ClassFile.FieldType.object "LeekReadings$Text")) fr lo h0 r.2 (QM G (some (.ref r.1)) h0 r.2) 0 [(0, .ref a0)] [] h := by
  unfold C_law1_b at hF
  refine v_aload_n dX0_law1_0 rfl 0 rfl ?_
  refine v_getr dX0_law1_1 fl_X0_10 hF (fun v21 hF => ?_)
  refine v_geti dX0_law1_4 fl_X0_264 hF (fun v22 hF => ?_)
  refine v_iconst dX0_law1_7 (v := -1) (by decide) ?_
  refine v_icmp_ne (tgt := 18) dX0_law1_8 (by decide) hF (fun hF => ?_) (fun hF => ?_)
  · refine v_aload_n dX0_law1_18 rfl 0 rfl ?_
    refine v_getr dX0_law1_19 fl_X0_10 hF (fun v23 hF => ?_)
    refine v_getr dX0_law1_22 fl_X0_234 hF (fun v24 hF => ?_)
    refine v_aload_n dX0_law1_25 rfl 0 rfl ?_
    refine v_getr dX0_law1_26 fl_X0_10 hF (fun v25 hF => ?_)
    refine v_geti dX0_law1_29 fl_X0_264 hF (fun v26 hF => ?_)
    obtain ⟨v28, h27, e_v28, hF⟩ := bd2_spec hF
    refine v_calV1 dX0_law1_32 vl_X0_267 q543 (rc_J2_get e_v28) (ct_J2_get e_v28) rfl rfl (Nat.le_trans (Nat.le_of_ble_eq_true rfl) hfr) (Nat.le_trans (Nat.le_of_ble_eq_true rfl) hlo) (Nat.le_of_ble_eq_true rfl) ?_
    refine v_cast dX0_law1_35 q341 kl_X5 hF (fun _ hF => ?_)
    cases hF
    exact v_aret (x := some _) dX0_law1_38 rfl (Or.inl ⟨_, rfl⟩) rfl rfl
  · refine v_aload_n dX0_law1_11 rfl 0 rfl ?_
    refine v_getr dX0_law1_12 fl_X0_57 hF (fun v29 hF => ?_)
    refine v_goto (tgt := 38) dX0_law1_15 (by decide) ?_
    cases hF
    exact v_aret (x := some _) dX0_law1_38 rfl (Or.inl ⟨_, rfl⟩) rfl rfl
def C_law1 (a0 : Nat) (h : Hp) : Option (Nat × Hp) := (ob h a0 [0]).bind fun _ => C_law1_b a0 h
theorem rc_C_law1  {r : (Nat × Hp)} {a0 : Nat} {h : Hp} (hF : C_law1 a0 h = some r) : RC h a0 [0] := by
  obtain ⟨o, ho, -⟩ := Option.bind_eq_some_iff.mp hF
  exact ⟨o, ho⟩
theorem ct_C_law1 {l : Launch} {G : GT} {r : (Nat × Hp)} {a0 : Nat} {h : Hp} (hF : C_law1 a0 h = some r) : Ct l G yX0_law1 (ws_ yX0_law1 cX0_law1 1 (Option.some (Jvm.ClassFile.FieldType.object "LeekReadings$Text"))) 3 64 [.ref a0] h (some (.ref r.1)) r.2 :=
  ct_of (by decide) (Nat.le_of_ble_eq_true rfl) (w_C_law1_b (Nat.le_refl _) (Nat.le_refl _) (Option.bind_eq_some_iff.mp hF).choose_spec.2)
theorem fl_X11_7 : FL RX11 7 [9] 0 := by
  intro ci h
  simp only [List.mem_cons, List.not_mem_nil, or_false] at h
  subst h; exact ⟨RX11, _, TX11, 1, rfl, in_X11, by decide, Or.inl q991, Or.inl rfl⟩
def X11_of_b (h : Hp) (a0 : Nat) (a1 : Nat) : Option Int64 :=
  (gi h a0 [9] 0).bind fun v21 =>
  some v21.toInt64
theorem w_X11_of_b {l : Launch} {G : GT} {fr lo : Nat} {h0 : Hp} {h : Hp} {r : Int64} (hfr : 0 ≤ fr) (hlo : 0 ≤ lo) {a0 : Nat} {a1 : Nat} (hF : X11_of_b h a0 a1 = some r) : V l G cX11_of RX11 "of" 2 (Option.some Jvm.ClassFile.FieldType.long) fr lo h0 h (QM G (some (.long r)) h0 h) 0 [(0, .ref a0), (1, .ref a1)] [] h := by
  unfold X11_of_b at hF
  refine v_aload_n dX11_of_0 rfl 0 rfl ?_
  refine v_geti dX11_of_1 fl_X11_7 hF (fun v21 hF => ?_)
  refine v_i2l dX11_of_4 ?_
  cases hF
  exact v_lret dX11_of_5 rfl rfl rfl
def X11_of (h : Hp) (a0 : Nat) (a1 : Nat) : Option Int64 := (ob h a0 [9]).bind fun _ => X11_of_b h a0 a1
theorem rc_X11_of {h : Hp}  {r : Int64} {a0 : Nat} {a1 : Nat} (hF : X11_of h a0 a1 = some r) : RC h a0 [9] := by
  obtain ⟨o, ho, -⟩ := Option.bind_eq_some_iff.mp hF
  exact ⟨o, ho⟩
theorem ct_X11_of {l : Launch} {G : GT} {h : Hp} {r : Int64} {a0 : Nat} {a1 : Nat} (hF : X11_of h a0 a1 = some r) : Ct l G yX11_of (ws_ yX11_of cX11_of 2 (Option.some Jvm.ClassFile.FieldType.long)) 0 0 [.ref a0, .ref a1] h (some (.long r)) h :=
  ct_of (by decide) (Nat.le_of_ble_eq_true rfl) (w_X11_of_b (Nat.le_refl _) (Nat.le_refl _) (Option.bind_eq_some_iff.mp hF).choose_spec.2)
theorem fl_X12_7 : FL RX12 7 [10] 0 := by
  intro ci h
  simp only [List.mem_cons, List.not_mem_nil, or_false] at h
  subst h; exact ⟨RX12, _, TX12, 1, rfl, in_X12, by decide, Or.inl q1008, Or.inl rfl⟩
theorem fl_X12_13 : FL RX12 13 [4] 0 := by
  intro ci h
  simp only [List.mem_cons, List.not_mem_nil, or_false] at h
  subst h; exact ⟨RX4, _, TX4, 2, rfl, in_X4, by decide, Or.inr ⟨_, q325⟩, Or.inl rfl⟩
def X12_of_b (h : Hp) (a0 : Nat) (a1 : Nat) : Option Int64 :=
  (gr h a1 [4] 0).bind fun v21 =>
  (gi h a0 [10] 0).bind fun v22 =>
  (aL h v21 3 v22).bind fun v23 =>
  some v23
theorem w_X12_of_b {l : Launch} {G : GT} {fr lo : Nat} {h0 : Hp} {h : Hp} {r : Int64} (hfr : 0 ≤ fr) (hlo : 0 ≤ lo) {a0 : Nat} {a1 : Nat} (hF : X12_of_b h a0 a1 = some r) : V l G cX12_of RX12 "of" 2 (Option.some Jvm.ClassFile.FieldType.long) fr lo h0 h (QM G (some (.long r)) h0 h) 0 [(0, .ref a0), (1, .ref a1)] [] h := by
  unfold X12_of_b at hF
  refine v_aload_n dX12_of_0 rfl 1 rfl ?_
  refine v_getr dX12_of_1 fl_X12_13 hF (fun v21 hF => ?_)
  refine v_aload_n dX12_of_4 rfl 0 rfl ?_
  refine v_geti dX12_of_5 fl_X12_7 hF (fun v22 hF => ?_)
  refine v_lald dX12_of_8 hF (fun v23 hF => ?_)
  cases hF
  exact v_lret dX12_of_9 rfl rfl rfl
def X12_of (h : Hp) (a0 : Nat) (a1 : Nat) : Option Int64 := (ob h a0 [10]).bind fun _ => X12_of_b h a0 a1
theorem rc_X12_of {h : Hp}  {r : Int64} {a0 : Nat} {a1 : Nat} (hF : X12_of h a0 a1 = some r) : RC h a0 [10] := by
  obtain ⟨o, ho, -⟩ := Option.bind_eq_some_iff.mp hF
  exact ⟨o, ho⟩
theorem ct_X12_of {l : Launch} {G : GT} {h : Hp} {r : Int64} {a0 : Nat} {a1 : Nat} (hF : X12_of h a0 a1 = some r) : Ct l G yX12_of (ws_ yX12_of cX12_of 2 (Option.some Jvm.ClassFile.FieldType.long)) 0 0 [.ref a0, .ref a1] h (some (.long r)) h :=
  ct_of (by decide) (Nat.le_of_ble_eq_true rfl) (w_X12_of_b (Nat.le_refl _) (Nat.le_refl _) (Option.bind_eq_some_iff.mp hF).choose_spec.2)
theorem fl_X0_122 : FL RX0 122 [1] 9 := by
  intro ci h
  simp only [List.mem_cons, List.not_mem_nil, or_false] at h
  subst h; exact ⟨RX1, _, TX1, 12, rfl, in_X1, by decide, Or.inr ⟨_, q267⟩, Or.inl rfl⟩
def C_nLeeks_b (h : Hp) (a0 : Nat) : Option Int32 :=
  (gr h a0 [0] 0).bind fun v21 =>
  (gi h v21 [1] 9).bind fun v22 =>
  some v22
theorem w_C_nLeeks_b {l : Launch} {G : GT} {fr lo : Nat} {h0 : Hp} {h : Hp} {r : Int32} (hfr : 0 ≤ fr) (hlo : 0 ≤ lo) {a0 : Nat} (hF : C_nLeeks_b h a0 = some r) : V l G cX0_nLeeks RX0 "nLeeks" 1 (Option.some Jvm.ClassFile.FieldType.int) fr lo h0 h (QM G (some (.int r)) h0 h) 0 [(0, .ref a0)] [] h := by
  unfold C_nLeeks_b at hF
  refine v_aload_n dX0_nLeeks_0 rfl 0 rfl ?_
  refine v_getr dX0_nLeeks_1 fl_X0_10 hF (fun v21 hF => ?_)
  refine v_geti dX0_nLeeks_4 fl_X0_122 hF (fun v22 hF => ?_)
  cases hF
  exact v_iret dX0_nLeeks_7 rfl rfl rfl rfl
def C_nLeeks (h : Hp) (a0 : Nat) : Option Int32 := (ob h a0 [0]).bind fun _ => C_nLeeks_b h a0
theorem rc_C_nLeeks {h : Hp}  {r : Int32} {a0 : Nat} (hF : C_nLeeks h a0 = some r) : RC h a0 [0] := by
  obtain ⟨o, ho, -⟩ := Option.bind_eq_some_iff.mp hF
  exact ⟨o, ho⟩
theorem ct_C_nLeeks {l : Launch} {G : GT} {h : Hp} {r : Int32} {a0 : Nat} (hF : C_nLeeks h a0 = some r) : Ct l G yX0_nLeeks (ws_ yX0_nLeeks cX0_nLeeks 1 (Option.some Jvm.ClassFile.FieldType.int)) 0 0 [.ref a0] h (some (.int r)) h :=
  ct_of (by decide) (Nat.le_of_ble_eq_true rfl) (w_C_nLeeks_b (Nat.le_refl _) (Nat.le_refl _) (Option.bind_eq_some_iff.mp hF).choose_spec.2)
theorem vl_X0_132 : ∀ ci ∈ [0], VL RX0 132 ci yX0_nLeeks 0 := by
  intro ci h
  simp only [List.mem_cons, List.not_mem_nil, or_false] at h
  subst h; exact ⟨RX0, TX0, 31, rfl, q137, ⟨by decide, by decide⟩, by decide +kernel, q586, Or.inl ⟨q584, qs13⟩⟩
def C_isLeek_b (h : Hp) (a0 : Nat) (a1 : Int32) : Option Int32 :=
  (C_nLeeks h a0).bind fun v21 =>
  (C_in a1.toInt64 (0 : Int64) ((v21 - (1 : Int32)).toInt64)).bind fun v22 =>
  (rz v22).bind fun v23 => some v23
theorem w_C_isLeek_b {l : Launch} {G : GT} {fr lo : Nat} {h0 : Hp} {h : Hp} {r : Int32} (hfr : 1 ≤ fr) (hlo : 25 ≤ lo) {a0 : Nat} {a1 : Int32} (hF : C_isLeek_b h a0 a1 = some r) : V l G cX0_isLeek RX0 "isLeek" 2 (Option.some Jvm.ClassFile.FieldType.boolean) fr lo h0 h (QM G (some (.int r)) h0 h) 0 [(0, .ref a0), (1, .int a1)] [] h := by
  unfold C_isLeek_b at hF
  refine v_iload_n dX0_isLeek_0 rfl 1 rfl ?_
  refine v_i2l dX0_isLeek_1 ?_
  refine v_lconst dX0_isLeek_2 (v := 0) (by decide) ?_
  refine v_aload_n dX0_isLeek_3 rfl 0 rfl ?_
  obtain ⟨v21, e_v21, hF⟩ := Option.bind_eq_some_iff.mp hF
  refine v_calV1 dX0_isLeek_4 vl_X0_132 q587 (rc_C_nLeeks e_v21) (ct_C_nLeeks e_v21) rfl rfl (Nat.le_trans (Nat.le_of_ble_eq_true rfl) hfr) (Nat.le_trans (Nat.le_of_ble_eq_true rfl) hlo) (Nat.le_of_ble_eq_true rfl) ?_
  refine v_iconst dX0_isLeek_7 (v := 1) (by decide) ?_
  refine v_isub dX0_isLeek_8 ?_
  refine v_i2l dX0_isLeek_9 ?_
  obtain ⟨v22, e_v22, hF⟩ := Option.bind_eq_some_iff.mp hF
  refine v_calS1 dX0_isLeek_10 sl_X0_128 q468 (ct_C_in e_v22) rfl rfl (Nat.le_trans (Nat.le_of_ble_eq_true rfl) hfr) (Nat.le_trans (Nat.le_of_ble_eq_true rfl) hlo) (Nat.le_of_ble_eq_true rfl) ?_
  refine v_zchk hF (fun v23 hz hF => ?_)
  cases hF
  exact v_iret dX0_isLeek_13 rfl (nar_z hz) rfl rfl
def C_isLeek (h : Hp) (a0 : Nat) (a1 : Int32) : Option Int32 := (ob h a0 [0]).bind fun _ => C_isLeek_b h a0 a1
theorem rc_C_isLeek {h : Hp}  {r : Int32} {a0 : Nat} {a1 : Int32} (hF : C_isLeek h a0 a1 = some r) : RC h a0 [0] := by
  obtain ⟨o, ho, -⟩ := Option.bind_eq_some_iff.mp hF
  exact ⟨o, ho⟩
theorem ct_C_isLeek {l : Launch} {G : GT} {h : Hp} {r : Int32} {a0 : Nat} {a1 : Int32} (hF : C_isLeek h a0 a1 = some r) : Ct l G yX0_isLeek (ws_ yX0_isLeek cX0_isLeek 2 (Option.some Jvm.ClassFile.FieldType.boolean)) 1 25 [.ref a0, .int a1] h (some (.int r)) h :=
  ct_of (by decide) (Nat.le_of_ble_eq_true rfl) (w_C_isLeek_b (Nat.le_refl _) (Nat.le_refl _) (Option.bind_eq_some_iff.mp hF).choose_spec.2)
def C_has (a1 : Int32) (a2 : Int32) : Option Int32 :=
  (rz (if ((a1 >>> (a2 &&& 31)) &&& (1 : Int32)) = (1 : Int32) then (1 : Int32) else (0 : Int32))).bind fun v21 => some v21
theorem w_C_has {l : Launch} {G : GT} {fr lo : Nat} {h0 : Hp} {h : Hp} {r : Int32} (hfr : 0 ≤ fr) (hlo : 0 ≤ lo) {a1 : Int32} {a2 : Int32} (hF : C_has a1 a2 = some r) : V l G cX0_has RX0 "has" 2 (Option.some Jvm.ClassFile.FieldType.boolean) fr lo h0 h (QM G (some (.int r)) h0 h) 0 [(0, .int a1), (1, .int a2)] [] h := by
  unfold C_has at hF
  refine v_iload_n dX0_has_0 rfl 0 rfl ?_
  refine v_iload_n dX0_has_1 rfl 1 rfl ?_
  refine v_ishr dX0_has_2 ?_
  refine v_iconst dX0_has_3 (v := 1) (by decide) ?_
  refine v_iand dX0_has_4 ?_
  refine v_iconst dX0_has_5 (v := 1) (by decide) ?_
  refine v_tern (c := ((a1 >>> (a2 &&& 31)) &&& (1 : Int32)) = (1 : Int32)) (x := (1 : Int32)) (y := (0 : Int32)) (pcj := 14) (st := []) ?_ (fun kt kf => v_icmp_ne0 (tgt := 13) dX0_has_6 (by decide) kt kf) (fun K => ?_) (fun K => ?_)
  · refine v_zchk hF (fun v21 hz hF => ?_)
    cases hF
    exact v_iret dX0_has_14 rfl (nar_z hz) rfl rfl
  · refine v_iconst dX0_has_9 (v := 1) (by decide) ?_
    refine v_goto (tgt := 14) dX0_has_10 (by decide) ?_
    exact K
  · refine v_iconst dX0_has_13 (v := 0) (by decide) ?_
    exact K
theorem ct_C_has {l : Launch} {G : GT} {h : Hp} {r : Int32} {a1 : Int32} {a2 : Int32} (hF : C_has a1 a2 = some r) : Ct l G yX0_has (ws_ yX0_has cX0_has 2 (Option.some Jvm.ClassFile.FieldType.boolean)) 0 0 [.int a1, .int a2] h (some (.int r)) h :=
  ct_of (by decide) (Nat.le_of_ble_eq_true rfl) (w_C_has (Nat.le_refl _) (Nat.le_refl _) hF)
theorem sl_X0_141 : SL RX0 141 yX0_has 2 := ⟨q137, ⟨by decide, by decide⟩, by decide +kernel, q515, Or.inl q514⟩
def C_isRead_b (h : Hp) (a0 : Nat) (a1 : Int32) : Option Int32 :=
  (C_books h a0).bind fun v21 =>
  (gi h v21 [2] 1).bind fun v22 =>
  (C_has v22 a1).bind fun v23 =>
  (rz v23).bind fun v24 => some v24
theorem w_C_isRead_b {l : Launch} {G : GT} {fr lo : Nat} {h0 : Hp} {h : Hp} {r : Int32} (hfr : 1 ≤ fr) (hlo : 21 ≤ lo) {a0 : Nat} {a1 : Int32} (hF : C_isRead_b h a0 a1 = some r) : V l G cX0_isRead RX0 "isRead" 2 (Option.some Jvm.ClassFile.FieldType.boolean) fr lo h0 h (QM G (some (.int r)) h0 h) 0 [(0, .ref a0), (1, .int a1)] [] h := by
  unfold C_isRead_b at hF
  refine v_aload_n dX0_isRead_0 rfl 0 rfl ?_
  obtain ⟨v21, e_v21, hF⟩ := Option.bind_eq_some_iff.mp hF
  refine v_calV1 dX0_isRead_1 vl_X0_135 q486 (rc_C_books e_v21) (ct_C_books e_v21) rfl rfl (Nat.le_trans (Nat.le_of_ble_eq_true rfl) hfr) (Nat.le_trans (Nat.le_of_ble_eq_true rfl) hlo) (Nat.le_of_ble_eq_true rfl) ?_
  refine v_geti dX0_isRead_4 fl_X0_138 hF (fun v22 hF => ?_)
  refine v_iload_n dX0_isRead_7 rfl 1 rfl ?_
  obtain ⟨v23, e_v23, hF⟩ := Option.bind_eq_some_iff.mp hF
  refine v_calS1 dX0_isRead_8 sl_X0_141 q516 (ct_C_has e_v23) rfl rfl (Nat.le_trans (Nat.le_of_ble_eq_true rfl) hfr) (Nat.le_trans (Nat.le_of_ble_eq_true rfl) hlo) (Nat.le_of_ble_eq_true rfl) ?_
  refine v_zchk hF (fun v24 hz hF => ?_)
  cases hF
  exact v_iret dX0_isRead_11 rfl (nar_z hz) rfl rfl
def C_isRead (h : Hp) (a0 : Nat) (a1 : Int32) : Option Int32 := (ob h a0 [0]).bind fun _ => C_isRead_b h a0 a1
theorem rc_C_isRead {h : Hp}  {r : Int32} {a0 : Nat} {a1 : Int32} (hF : C_isRead h a0 a1 = some r) : RC h a0 [0] := by
  obtain ⟨o, ho, -⟩ := Option.bind_eq_some_iff.mp hF
  exact ⟨o, ho⟩
theorem ct_C_isRead {l : Launch} {G : GT} {h : Hp} {r : Int32} {a0 : Nat} {a1 : Int32} (hF : C_isRead h a0 a1 = some r) : Ct l G yX0_isRead (ws_ yX0_isRead cX0_isRead 2 (Option.some Jvm.ClassFile.FieldType.boolean)) 1 21 [.ref a0, .int a1] h (some (.int r)) h :=
  ct_of (by decide) (Nat.le_of_ble_eq_true rfl) (w_C_isRead_b (Nat.le_refl _) (Nat.le_refl _) (Option.bind_eq_some_iff.mp hF).choose_spec.2)
theorem vl_X13_40 : ∀ ci ∈ [0], VL RX13 40 ci yX0_isBook 1 := by
  intro ci h
  simp only [List.mem_cons, List.not_mem_nil, or_false] at h
  subst h; exact ⟨RX0, TX0, 31, rfl, q137, ⟨by decide, by decide⟩, by decide +kernel, q504, Or.inr (Or.inl ⟨_, q590, qs6⟩)⟩
theorem vl_X13_43 : ∀ ci ∈ [0], VL RX13 43 ci yX0_isRead 1 := by
  intro ci h
  simp only [List.mem_cons, List.not_mem_nil, or_false] at h
  subst h; exact ⟨RX0, TX0, 31, rfl, q137, ⟨by decide, by decide⟩, by decide +kernel, q512, Or.inr (Or.inl ⟨_, q591, qs7⟩)⟩
theorem fl_X13_19 : FL RX13 19 [11] 1 := by
  intro ci h
  simp only [List.mem_cons, List.not_mem_nil, or_false] at h
  subst h; exact ⟨RX13, _, TX13, 3, rfl, in_X13, by decide, Or.inl q1023, Or.inl rfl⟩
theorem fl_X13_3 : FL RX13 3 [11] 2 := by
  intro ci h
  simp only [List.mem_cons, List.not_mem_nil, or_false] at h
  subst h; exact ⟨RX13, _, TX13, 3, rfl, in_X13, by decide, Or.inl q1024, Or.inl rfl⟩
theorem vl_X13_24 : ∀ ci ∈ [0], VL RX13 24 ci yX0_isLeek 1 := by
  intro ci h
  simp only [List.mem_cons, List.not_mem_nil, or_false] at h
  subst h; exact ⟨RX0, TX0, 31, rfl, q137, ⟨by decide, by decide⟩, by decide +kernel, q582, Or.inr (Or.inl ⟨_, q580, qs12⟩)⟩
theorem vl_X13_28 : ∀ ci ∈ [0], VL RX13 28 ci yX0_books 0 := by
  intro ci h
  simp only [List.mem_cons, List.not_mem_nil, or_false] at h
  subst h; exact ⟨RX0, TX0, 31, rfl, q137, ⟨by decide, by decide⟩, by decide +kernel, q485, Or.inr (Or.inl ⟨_, q588, qs3⟩)⟩
theorem fl_X13_32 : FL RX13 32 [2] 0 := by
  intro ci h
  simp only [List.mem_cons, List.not_mem_nil, or_false] at h
  subst h; exact ⟨RX2, _, TX2, 4, rfl, in_X2, by decide, Or.inr ⟨_, q227⟩, Or.inl rfl⟩
theorem fl_X13_15 : FL RX13 15 [11] 0 := by
  intro ci h
  simp only [List.mem_cons, List.not_mem_nil, or_false] at h
  subst h; exact ⟨RX13, _, TX13, 3, rfl, in_X13, by decide, Or.inl q1022, Or.inl rfl⟩
def X13_of_b (h : Hp) (a0 : Nat) (a1 : Nat) : Option Int64 :=
  (gi h a0 [11] 0).bind fun v21 =>
  if v21 = (5 : Int32) then
    (gr h a0 [11] 2).bind fun v28 =>
    (gi h a0 [11] 1).bind fun v29 =>
    (C_isLeek h v28 v29).bind fun v30 =>
    if v30 = 0 then
      some (-1 : Int64)
    else
      (gr h a0 [11] 2).bind fun v31 =>
      (C_books h v31).bind fun v32 =>
      (gr h v32 [2] 0).bind fun v33 =>
      (gi h a0 [11] 1).bind fun v34 =>
      (aI h v33 0 v34).bind fun v35 =>
      some v35.toInt64
  else
    (gr h a0 [11] 2).bind fun v22 =>
    (gi h a0 [11] 1).bind fun v23 =>
    (C_isBook h v22 v23).bind fun v24 =>
    if v24 = 0 then
      some (-1 : Int64)
    else
      (gr h a0 [11] 2).bind fun v25 =>
      (gi h a0 [11] 1).bind fun v26 =>
      (C_isRead h v25 v26).bind fun v27 =>
      if v27 = 0 then
        some (0 : Int64)
      else
        some (1 : Int64)
theorem w_X13_of_b {l : Launch} {G : GT} {fr lo : Nat} {h0 : Hp} {h : Hp} {r : Int64} (hfr : 2 ≤ fr) (hlo : 46 ≤ lo) {a0 : Nat} {a1 : Nat} (hF : X13_of_b h a0 a1 = some r) : V l G cX13_of RX13 "of" 2 (Option.some Jvm.ClassFile.FieldType.long) fr lo h0 h (QM G (some (.long r)) h0 h) 0 [(0, .ref a0), (1, .ref a1)] [] h := by
  unfold X13_of_b at hF
  refine v_aload_n dX13_of_0 rfl 0 rfl ?_
  refine v_geti dX13_of_1 fl_X13_15 hF (fun v21 hF => ?_)
  refine v_iconst dX13_of_4 (v := 5) (by decide) ?_
  refine v_icmp_ne (tgt := 45) dX13_of_5 (by decide) hF (fun hF => ?_) (fun hF => ?_)
  · refine v_aload_n dX13_of_45 rfl 0 rfl ?_
    refine v_getr dX13_of_46 fl_X13_3 hF (fun v22 hF => ?_)
    refine v_aload_n dX13_of_49 rfl 0 rfl ?_
    refine v_geti dX13_of_50 fl_X13_19 hF (fun v23 hF => ?_)
    obtain ⟨v24, e_v24, hF⟩ := Option.bind_eq_some_iff.mp hF
    refine v_calV1 dX13_of_53 vl_X13_40 q505 (rc_C_isBook e_v24) (ct_C_isBook e_v24) rfl rfl (Nat.le_trans (Nat.le_of_ble_eq_true rfl) hfr) (Nat.le_trans (Nat.le_of_ble_eq_true rfl) hlo) (Nat.le_of_ble_eq_true rfl) ?_
    refine v_if_ne (tgt := 65) dX13_of_56 (by decide) hF (fun hF => ?_) (fun hF => ?_)
    · refine v_aload_n dX13_of_65 rfl 0 rfl ?_
      refine v_getr dX13_of_66 fl_X13_3 hF (fun v25 hF => ?_)
      refine v_aload_n dX13_of_69 rfl 0 rfl ?_
      refine v_geti dX13_of_70 fl_X13_19 hF (fun v26 hF => ?_)
      obtain ⟨v27, e_v27, hF⟩ := Option.bind_eq_some_iff.mp hF
      refine v_calV1 dX13_of_73 vl_X13_43 q513 (rc_C_isRead e_v27) (ct_C_isRead e_v27) rfl rfl (Nat.le_trans (Nat.le_of_ble_eq_true rfl) hfr) (Nat.le_trans (Nat.le_of_ble_eq_true rfl) hlo) (Nat.le_of_ble_eq_true rfl) ?_
      refine v_if_eq (tgt := 83) dX13_of_76 (by decide) hF (fun hF => ?_) (fun hF => ?_)
      · refine v_lconst dX13_of_83 (v := 0) (by decide) ?_
        cases hF
        exact v_lret dX13_of_84 rfl rfl rfl
      · refine v_lconst dX13_of_79 (v := 1) (by decide) ?_
        refine v_goto (tgt := 84) dX13_of_80 (by decide) ?_
        cases hF
        exact v_lret dX13_of_84 rfl rfl rfl
    · refine v_ldc2 dX13_of_59 q589 ?_
      refine v_goto (tgt := 84) dX13_of_62 (by decide) ?_
      cases hF
      exact v_lret dX13_of_84 rfl rfl rfl
  · refine v_aload_n dX13_of_8 rfl 0 rfl ?_
    refine v_getr dX13_of_9 fl_X13_3 hF (fun v28 hF => ?_)
    refine v_aload_n dX13_of_12 rfl 0 rfl ?_
    refine v_geti dX13_of_13 fl_X13_19 hF (fun v29 hF => ?_)
    obtain ⟨v30, e_v30, hF⟩ := Option.bind_eq_some_iff.mp hF
    refine v_calV1 dX13_of_16 vl_X13_24 q583 (rc_C_isLeek e_v30) (ct_C_isLeek e_v30) rfl rfl (Nat.le_trans (Nat.le_of_ble_eq_true rfl) hfr) (Nat.le_trans (Nat.le_of_ble_eq_true rfl) hlo) (Nat.le_of_ble_eq_true rfl) ?_
    refine v_if_eq (tgt := 41) dX13_of_19 (by decide) hF (fun hF => ?_) (fun hF => ?_)
    · refine v_ldc2 dX13_of_41 q589 ?_
      cases hF
      exact v_lret dX13_of_44 rfl rfl rfl
    · refine v_aload_n dX13_of_22 rfl 0 rfl ?_
      refine v_getr dX13_of_23 fl_X13_3 hF (fun v31 hF => ?_)
      obtain ⟨v32, e_v32, hF⟩ := Option.bind_eq_some_iff.mp hF
      refine v_calV1 dX13_of_26 vl_X13_28 q486 (rc_C_books e_v32) (ct_C_books e_v32) rfl rfl (Nat.le_trans (Nat.le_of_ble_eq_true rfl) hfr) (Nat.le_trans (Nat.le_of_ble_eq_true rfl) hlo) (Nat.le_of_ble_eq_true rfl) ?_
      refine v_getr dX13_of_29 fl_X13_32 hF (fun v33 hF => ?_)
      refine v_aload_n dX13_of_32 rfl 0 rfl ?_
      refine v_geti dX13_of_33 fl_X13_19 hF (fun v34 hF => ?_)
      refine v_iald dX13_of_36 hF (fun v35 hF => ?_)
      refine v_i2l dX13_of_37 ?_
      refine v_goto (tgt := 44) dX13_of_38 (by decide) ?_
      cases hF
      exact v_lret dX13_of_44 rfl rfl rfl
def X13_of (h : Hp) (a0 : Nat) (a1 : Nat) : Option Int64 := (ob h a0 [11]).bind fun _ => X13_of_b h a0 a1
theorem rc_X13_of {h : Hp}  {r : Int64} {a0 : Nat} {a1 : Nat} (hF : X13_of h a0 a1 = some r) : RC h a0 [11] := by
  obtain ⟨o, ho, -⟩ := Option.bind_eq_some_iff.mp hF
  exact ⟨o, ho⟩
theorem ct_X13_of {l : Launch} {G : GT} {h : Hp} {r : Int64} {a0 : Nat} {a1 : Nat} (hF : X13_of h a0 a1 = some r) : Ct l G yX13_of (ws_ yX13_of cX13_of 2 (Option.some Jvm.ClassFile.FieldType.long)) 2 46 [.ref a0, .ref a1] h (some (.long r)) h :=
  ct_of (by decide) (Nat.le_of_ble_eq_true rfl) (w_X13_of_b (Nat.le_refl _) (Nat.le_refl _) (Option.bind_eq_some_iff.mp hF).choose_spec.2)
