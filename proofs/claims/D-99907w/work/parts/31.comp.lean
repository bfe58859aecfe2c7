/-! printed by tools/gen.py -/
set_option maxRecDepth 100000
set_option linter.unusedVariables false
theorem pl_X4_13 : PL RX4 13 [4] 1 (.boolean) false := by
  intro ci h
  simp only [List.mem_cons, List.not_mem_nil, or_false] at h
  subst h; exact ⟨RX4, _, TX4, 2, tyX4, rfl, in_X4, by decide, Or.inl q329, Or.inl rfl, tyX4_ok, rfl, by decide +kernel, rfl, fun z => by cases z⟩
theorem fl_X4_13 : FL RX4 13 [4] 1 := by
  intro ci h
  simp only [List.mem_cons, List.not_mem_nil, or_false] at h
  subst h; exact ⟨RX4, _, TX4, 2, rfl, in_X4, by decide, Or.inl q329, Or.inl rfl⟩
def X4_within_J29 (v26 : Nat) (v27 : Int64) (v28 : Int32) (v29 : Nat) (h30 : Hp) : Option (Int64 × Hp) :=
  (pz h30 v29 [4] 1 v28).bind fun h31 =>
  (gi h31 v26 [4] 1).bind fun v32 =>
  if v32 = 0 then
    some (v27, h31)
  else
    some ((0 : Int64), h31)
theorem w_X4_within_J29 {l : Launch} {G : GT} {fr lo : Nat} {h0 : Hp} {r : (Int64 × Hp)} (hfr : 0 ≤ fr) (hlo : 0 ≤ lo)   {v26 : Nat} {v27 : Int64} {v28 : Int32} {v29 : Nat} {h30 : Hp} (hF : X4_within_J29 v26 v27 v28 v29 h30 = some r) : V l G cX4_within RX4 "within" 3 (Option.some Jvm.ClassFile.FieldType.long) fr lo h0 r.2 (QM G (some (.long r.1)) h0 r.2) 29 [(0, .ref v26), (1, .long v27)] [.int v28, .ref v29] h30 := by
  unfold X4_within_J29 at hF
  refine v_putz dX4_within_29 pl_X4_13 (fun z => by cases z) hF (fun h31 hF => ?_)
  refine v_aload_n dX4_within_32 rfl 0 rfl ?_
  refine v_geti dX4_within_33 fl_X4_13 hF (fun v32 hF => ?_)
  refine v_if_eq (tgt := 43) dX4_within_36 (by decide) hF (fun hF => ?_) (fun hF => ?_)
  · refine v_lload_n dX4_within_43 rfl 1 rfl ?_
    cases hF
    exact v_lret dX4_within_44 rfl rfl rfl
  · refine v_lconst dX4_within_39 (v := 0) (by decide) ?_
    refine v_goto (tgt := 44) dX4_within_40 (by decide) ?_
    cases hF
    exact v_lret dX4_within_44 rfl rfl rfl
def X4_within_J24 (v22 : Nat) (v23 : Int64) (v24 : Nat) (h25 : Hp) : Option (Int64 × Hp) :=
  X4_within_J29 v22 v23 (1 : Int32) v24 h25
theorem w_X4_within_J24 {l : Launch} {G : GT} {fr lo : Nat} {h0 : Hp} {r : (Int64 × Hp)} (hfr : 0 ≤ fr) (hlo : 0 ≤ lo)   {v22 : Nat} {v23 : Int64} {v24 : Nat} {h25 : Hp} (hF : X4_within_J24 v22 v23 v24 h25 = some r) : V l G cX4_within RX4 "within" 3 (Option.some Jvm.ClassFile.FieldType.long) fr lo h0 r.2 (QM G (some (.long r.1)) h0 r.2) 24 [(0, .ref v22), (1, .long v23)] [.ref v24] h25 := by
  unfold X4_within_J24 at hF
  refine v_iconst dX4_within_24 (v := 1) (by decide) ?_
  refine v_goto (tgt := 29) dX4_within_25 (by decide) ?_
  exact v_sub [0, 1] rfl (w_X4_within_J29 hfr hlo hF)
def X4_within_b (a0 : Nat) (a1 : Int64) (h : Hp) : Option (Int64 × Hp) :=
  (gi h a0 [4] 1).bind fun v21 =>
  if v21 = 0 then
    if 0 < (lg_cmp a1 (1000000000 : Int64)) then
      X4_within_J24 a0 a1 a0 h
    else
      if 0 ≤ (lg_cmp a1 (-1000000000 : Int64)) then
        X4_within_J29 a0 a1 (0 : Int32) a0 h
      else
        X4_within_J24 a0 a1 a0 h
  else
    X4_within_J24 a0 a1 a0 h
theorem w_X4_within_b {l : Launch} {G : GT} {fr lo : Nat} {h0 : Hp} {r : (Int64 × Hp)} (hfr : 0 ≤ fr) (hlo : 0 ≤ lo) {a0 : Nat} {a1 : Int64} {h : Hp} (hF : X4_within_b a0 a1 h = some r) : V l G cX4_within RX4 "within" 3 (Option.some Jvm.ClassFile.FieldType.long) fr lo h0 r.2 (QM G (some (.long r.1)) h0 r.2) 0 [(0, .ref a0), (1, .long a1)] [] h := by
  unfold X4_within_b at hF
  refine v_aload_n dX4_within_0 rfl 0 rfl ?_
  refine v_aload_n dX4_within_1 rfl 0 rfl ?_
  refine v_geti dX4_within_2 fl_X4_13 hF (fun v21 hF => ?_)
  refine v_if_ne (tgt := 24) dX4_within_5 (by decide) hF (fun hF => ?_) (fun hF => ?_)
  · exact v_sub [0, 1] rfl (w_X4_within_J24 hfr hlo hF)
  · refine v_lload_n dX4_within_8 rfl 1 rfl ?_
    refine v_ldc2 dX4_within_9 q598 ?_
    refine v_lcmp dX4_within_12 ?_
    refine v_if_gt (tgt := 24) dX4_within_13 (by decide) hF (fun hF => ?_) (fun hF => ?_)
    · exact v_sub [0, 1] rfl (w_X4_within_J24 hfr hlo hF)
    · refine v_lload_n dX4_within_16 rfl 1 rfl ?_
      refine v_ldc2 dX4_within_17 q599 ?_
      refine v_lcmp dX4_within_20 ?_
      refine v_if_ge (tgt := 28) dX4_within_21 (by decide) hF (fun hF => ?_) (fun hF => ?_)
      · refine v_iconst dX4_within_28 (v := 0) (by decide) ?_
        exact v_sub [0, 1] rfl (w_X4_within_J29 hfr hlo hF)
      · exact v_sub [0, 1] rfl (w_X4_within_J24 hfr hlo hF)
def X4_within (a0 : Nat) (a1 : Int64) (h : Hp) : Option (Int64 × Hp) := (ob h a0 [4]).bind fun _ => X4_within_b a0 a1 h
theorem rc_X4_within  {r : (Int64 × Hp)} {a0 : Nat} {a1 : Int64} {h : Hp} (hF : X4_within a0 a1 h = some r) : RC h a0 [4] := by
  obtain ⟨o, ho, -⟩ := Option.bind_eq_some_iff.mp hF
  exact ⟨o, ho⟩
theorem ct_X4_within {l : Launch} {G : GT} {r : (Int64 × Hp)} {a0 : Nat} {a1 : Int64} {h : Hp} (hF : X4_within a0 a1 h = some r) : Ct l G yX4_within (ws_ yX4_within cX4_within 3 (Option.some Jvm.ClassFile.FieldType.long)) 0 0 [.ref a0, .long a1] h (some (.long r.1)) r.2 :=
  ct_of (by decide) (Nat.le_of_ble_eq_true rfl) (w_X4_within_b (Nat.le_refl _) (Nat.le_refl _) (Option.bind_eq_some_iff.mp hF).choose_spec.2)
def DJ_sum (l : Launch) (G : GT) (F Lo : Nat) (a0 : Nat) (a1 : Nat) (h : Hp) (r : Int64 × Hp) : Prop :=
  (RC h a0 [9] ∧ ∃ frc loc : Nat, frc ≤ F ∧ loc ≤ Lo ∧ Ct l G yX11_of (ws_ yX11_of cX11_of 2 (Option.some Jvm.ClassFile.FieldType.long)) frc loc [.ref a0, .ref a1] h (some (.long r.1)) r.2) ∨
  (RC h a0 [10] ∧ ∃ frc loc : Nat, frc ≤ F ∧ loc ≤ Lo ∧ Ct l G yX12_of (ws_ yX12_of cX12_of 2 (Option.some Jvm.ClassFile.FieldType.long)) frc loc [.ref a0, .ref a1] h (some (.long r.1)) r.2) ∨
  (RC h a0 [11] ∧ ∃ frc loc : Nat, frc ≤ F ∧ loc ≤ Lo ∧ Ct l G yX13_of (ws_ yX13_of cX13_of 2 (Option.some Jvm.ClassFile.FieldType.long)) frc loc [.ref a0, .ref a1] h (some (.long r.1)) r.2) ∨
  (RC h a0 [12] ∧ ∃ frc loc : Nat, frc ≤ F ∧ loc ≤ Lo ∧ Ct l G yX14_of (ws_ yX14_of cX14_of 6 (Option.some Jvm.ClassFile.FieldType.long)) frc loc [.ref a0, .ref a1] h (some (.long r.1)) r.2)
theorem vl_X14_20_9 : ∀ ci ∈ [9], VL RX14 20 ci yX11_of 1 := by
  intro ci h
  simp only [List.mem_cons, List.not_mem_nil, or_false] at h
  subst h; exact ⟨RX11, TX11, 1, rfl, q164, ⟨by decide, by decide⟩, by decide +kernel, q572, Or.inr (Or.inr (Or.inl ⟨⟨"LeekReadings$Sum", "of", "(LLeekReadings$Asked;)J"⟩, "LeekReadings$Sum", q577, q570, q571, ⟨by decide, by decide⟩, by decide +kernel, Or.inr (Or.inr q569)⟩))⟩
theorem vl_X14_20_10 : ∀ ci ∈ [10], VL RX14 20 ci yX12_of 1 := by
  intro ci h
  simp only [List.mem_cons, List.not_mem_nil, or_false] at h
  subst h; exact ⟨RX12, TX12, 1, rfl, q165, ⟨by decide, by decide⟩, by decide +kernel, q592, Or.inr (Or.inr (Or.inl ⟨⟨"LeekReadings$Sum", "of", "(LLeekReadings$Asked;)J"⟩, "LeekReadings$Sum", q577, q570, q601, ⟨by decide, by decide⟩, by decide +kernel, Or.inr (Or.inr q569)⟩))⟩
theorem vl_X14_20_11 : ∀ ci ∈ [11], VL RX14 20 ci yX13_of 1 := by
  intro ci h
  simp only [List.mem_cons, List.not_mem_nil, or_false] at h
  subst h; exact ⟨RX13, TX13, 3, rfl, q166, ⟨by decide, by decide⟩, by decide +kernel, q578, Or.inr (Or.inr (Or.inl ⟨⟨"LeekReadings$Sum", "of", "(LLeekReadings$Asked;)J"⟩, "LeekReadings$Sum", q577, q570, q600, ⟨by decide, by decide⟩, by decide +kernel, Or.inr (Or.inr q569)⟩))⟩
theorem vl_X14_20_12 : ∀ ci ∈ [12], VL RX14 20 ci yX14_of 1 := by
  intro ci h
  simp only [List.mem_cons, List.not_mem_nil, or_false] at h
  subst h; exact ⟨RX14, TX14, 3, rfl, q167, ⟨by decide, by decide⟩, by decide +kernel, q575, Or.inr (Or.inr (Or.inl ⟨⟨"LeekReadings$Sum", "of", "(LLeekReadings$Asked;)J"⟩, "LeekReadings$Sum", q577, q570, q574, ⟨by decide, by decide⟩, by decide +kernel, Or.inr (Or.inr q569)⟩))⟩
theorem pl_X14_24 : PL RX14 24 [4] 1 (.boolean) false := by
  intro ci h
  simp only [List.mem_cons, List.not_mem_nil, or_false] at h
  subst h; exact ⟨RX4, _, TX4, 2, tyX4, rfl, in_X4, by decide, Or.inr ⟨rfl, _, q330⟩, Or.inl rfl, tyX4_ok, rfl, by decide +kernel, rfl, fun z => by cases z⟩
theorem fl_X14_13 : FL RX14 13 [12] 2 := by
  intro ci h
  simp only [List.mem_cons, List.not_mem_nil, or_false] at h
  subst h; exact ⟨RX14, _, TX14, 3, rfl, in_X14, by decide, Or.inl q1046, Or.inl rfl⟩
theorem vl_X14_30 : ∀ ci ∈ [4], VL RX14 30 ci yX4_within 1 := by
  intro ci h
  simp only [List.mem_cons, List.not_mem_nil, or_false] at h
  subst h; exact ⟨RX4, TX4, 2, rfl, q144, ⟨by decide, by decide⟩, by decide +kernel, q595, Or.inl ⟨q594, q596⟩⟩
theorem fl_X14_24 : FL RX14 24 [4] 1 := by
  intro ci h
  simp only [List.mem_cons, List.not_mem_nil, or_false] at h
  subst h; exact ⟨RX4, _, TX4, 2, rfl, in_X4, by decide, Or.inr ⟨_, q330⟩, Or.inl rfl⟩
theorem fl_X14_17 : FL RX14 17 [12] 1 := by
  intro ci h
  simp only [List.mem_cons, List.not_mem_nil, or_false] at h
  subst h; exact ⟨RX14, _, TX14, 3, rfl, in_X14, by decide, Or.inl q1045, Or.inl rfl⟩
theorem fl_X14_7 : FL RX14 7 [12] 0 := by
  intro ci h
  simp only [List.mem_cons, List.not_mem_nil, or_false] at h
  subst h; exact ⟨RX14, _, TX14, 3, rfl, in_X14, by decide, Or.inl q1044, Or.inl rfl⟩
def X14_of_J70 (f : Nat → Nat → Hp → Option (Int64 × Hp)) (v40 : Nat) (v41 : Int64) (v42 : Int64) (v43 : Int32) (v44 : Nat) (h45 : Hp) : Option (Int64 × Hp) :=
  (pz h45 v44 [4] 1 v43).bind fun h46 =>
  if (lg_cmp v42 (0 : Int64)) = 0 then
    some ((0 : Int64), h46)
  else
    (gi h46 v40 [12] 2).bind fun v47 =>
    if v47 = (47 : Int32) then
      if v42 = 0 then none else
      some ((v41 / v42), h46)
    else
      if v42 = 0 then none else
      some ((v41 - v41 / v42 * v42), h46)
theorem w_X14_of_J70 {l : Launch} {G : GT} {fr lo : Nat} {h0 : Hp} {f : Nat → Nat → Hp → Option (Int64 × Hp)} {r : (Int64 × Hp)} {frf lof : Nat} (hbf : 1 ≤ frf) (hbl : 22 ≤ lof) (hfr : frf + 1 ≤ fr) (hlo : lof + 25 ≤ lo) (hf : ∀ (a0 : Nat) (a1 : Nat) (h : Hp) (r : Int64 × Hp), f a0 a1 h = some r → DJ_sum l G frf lof a0 a1 h r)   {v40 : Nat} {v41 : Int64} {v42 : Int64} {v43 : Int32} {v44 : Nat} {h45 : Hp} (hF : X14_of_J70 f v40 v41 v42 v43 v44 h45 = some r) : V l G cX14_of RX14 "of" 6 (Option.some Jvm.ClassFile.FieldType.long) fr lo h0 r.2 (QM G (some (.long r.1)) h0 r.2) 70 [(0, .ref v40), (2, .long v41), (4, .long v42)] [.int v43, .ref v44] h45 := by
  unfold X14_of_J70 at hF
  refine v_putz dX14_of_70 pl_X14_24 (fun z => by cases z) hF (fun h46 hF => ?_)
  refine v_lload dX14_of_73 2 rfl ?_
  refine v_lconst dX14_of_75 (v := 0) (by decide) ?_
  refine v_lcmp dX14_of_76 ?_
  refine v_if_ne (tgt := 84) dX14_of_77 (by decide) hF (fun hF => ?_) (fun hF => ?_)
  · refine v_aload_n dX14_of_84 rfl 0 rfl ?_
    refine v_geti dX14_of_85 fl_X14_13 hF (fun v47 hF => ?_)
    refine v_bipush dX14_of_88 (v := 47) (by decide) ?_
    refine v_icmp_ne (tgt := 100) dX14_of_90 (by decide) hF (fun hF => ?_) (fun hF => ?_)
    · refine v_lload_n dX14_of_100 rfl 1 rfl ?_
      refine v_lload dX14_of_101 2 rfl ?_
      refine v_lrem dX14_of_103 hF (fun hF => ?_)
      cases hF
      exact v_lret dX14_of_104 rfl rfl rfl
    · refine v_lload_n dX14_of_93 rfl 1 rfl ?_
      refine v_lload dX14_of_94 2 rfl ?_
      refine v_ldiv dX14_of_96 hF (fun hF => ?_)
      refine v_goto (tgt := 104) dX14_of_97 (by decide) ?_
      cases hF
      exact v_lret dX14_of_104 rfl rfl rfl
  · refine v_lconst dX14_of_80 (v := 0) (by decide) ?_
    refine v_goto (tgt := 104) dX14_of_81 (by decide) ?_
    cases hF
    exact v_lret dX14_of_104 rfl rfl rfl
def X14_of_J57 (f : Nat → Nat → Hp → Option (Int64 × Hp)) (v35 : Nat) (v36 : Nat) (v37 : Int64) (v38 : Int64) (h39 : Hp) : Option (Int64 × Hp) :=
  X14_of_J70 f v35 v37 v38 (if (lg_cmp v38 (0 : Int64)) = 0 then (1 : Int32) else (0 : Int32)) v36 h39
theorem w_X14_of_J57 {l : Launch} {G : GT} {fr lo : Nat} {h0 : Hp} {f : Nat → Nat → Hp → Option (Int64 × Hp)} {r : (Int64 × Hp)} {frf lof : Nat} (hbf : 1 ≤ frf) (hbl : 22 ≤ lof) (hfr : frf + 1 ≤ fr) (hlo : lof + 25 ≤ lo) (hf : ∀ (a0 : Nat) (a1 : Nat) (h : Hp) (r : Int64 × Hp), f a0 a1 h = some r → DJ_sum l G frf lof a0 a1 h r)   {v35 : Nat} {v36 : Nat} {v37 : Int64} {v38 : Int64} {h39 : Hp} (hF : X14_of_J57 f v35 v36 v37 v38 h39 = some r) : V l G cX14_of RX14 "of" 6 (Option.some Jvm.ClassFile.FieldType.long) fr lo h0 r.2 (QM G (some (.long r.1)) h0 r.2) 57 [(0, .ref v35), (1, .ref v36), (2, .long v37), (4, .long v38)] [] h39 := by
  unfold X14_of_J57 at hF
  refine v_aload_n dX14_of_57 rfl 1 rfl ?_
  refine v_lload dX14_of_58 3 rfl ?_
  refine v_lconst dX14_of_60 (v := 0) (by decide) ?_
  refine v_lcmp dX14_of_61 ?_
  refine v_tern (c := (lg_cmp v38 (0 : Int64)) = 0) (x := (1 : Int32)) (y := (0 : Int32)) (pcj := 70) (st := [.ref v36]) ?_ (fun kt kf => v_if_ne0 (tgt := 69) dX14_of_62 (by decide) kt kf) (fun K => ?_) (fun K => ?_)
  · exact v_sub [0, 2, 3] rfl (w_X14_of_J70 hbf hbl hfr hlo hf hF)
  · refine v_iconst dX14_of_65 (v := 1) (by decide) ?_
    refine v_goto (tgt := 70) dX14_of_66 (by decide) ?_
    exact K
  · refine v_iconst dX14_of_69 (v := 0) (by decide) ?_
    exact K
def X14_of_J142 (f : Nat → Nat → Hp → Option (Int64 × Hp)) (v51 : Int64) (v52 : Nat) (h53 : Hp) : Option (Int64 × Hp) :=
  bd2 (X4_within v52 v51 h53) fun v55 h54 =>
  some (v55, h54)
theorem w_X14_of_J142 {l : Launch} {G : GT} {fr lo : Nat} {h0 : Hp} {f : Nat → Nat → Hp → Option (Int64 × Hp)} {r : (Int64 × Hp)} {frf lof : Nat} (hbf : 1 ≤ frf) (hbl : 22 ≤ lof) (hfr : frf + 1 ≤ fr) (hlo : lof + 25 ≤ lo) (hf : ∀ (a0 : Nat) (a1 : Nat) (h : Hp) (r : Int64 × Hp), f a0 a1 h = some r → DJ_sum l G frf lof a0 a1 h r)   {v51 : Int64} {v52 : Nat} {h53 : Hp} (hF : X14_of_J142 f v51 v52 h53 = some r) : V l G cX14_of RX14 "of" 6 (Option.some Jvm.ClassFile.FieldType.long) fr lo h0 r.2 (QM G (some (.long r.1)) h0 r.2) 142 [] [.long v51, .ref v52] h53 := by
  unfold X14_of_J142 at hF
  obtain ⟨v55, h54, e_v55, hF⟩ := bd2_spec hF
  refine v_calV1 dX14_of_142 vl_X14_30 q597 (rc_X4_within e_v55) (ct_X4_within e_v55) rfl rfl (by omega) (by omega) (Nat.le_of_ble_eq_true rfl) ?_
  cases hF
  exact v_lret dX14_of_145 rfl rfl rfl
def X14_of_J28 (f : Nat → Nat → Hp → Option (Int64 × Hp)) (v28 : Nat) (v29 : Nat) (v30 : Int64) (v31 : Int64) (h32 : Hp) : Option (Int64 × Hp) :=
  (gi h32 v29 [4] 1).bind fun v33 =>
  if v33 = 0 then
    (gi h32 v28 [12] 2).bind fun v34 =>
    if v34 = (47 : Int32) then
      X14_of_J57 f v28 v29 v30 v31 h32
    else
      (gi h32 v28 [12] 2).bind fun v48 =>
      if v48 = (37 : Int32) then
        X14_of_J57 f v28 v29 v30 v31 h32
      else
        (gi h32 v28 [12] 2).bind fun v49 =>
        if v49 = (43 : Int32) then
          X14_of_J142 f (v30 + v31) v29 h32
        else
          (gi h32 v28 [12] 2).bind fun v50 =>
          if v50 = (45 : Int32) then
            X14_of_J142 f (v30 - v31) v29 h32
          else
            X14_of_J142 f (v30 * v31) v29 h32
  else
    some ((0 : Int64), h32)
theorem w_X14_of_J28 {l : Launch} {G : GT} {fr lo : Nat} {h0 : Hp} {f : Nat → Nat → Hp → Option (Int64 × Hp)} {r : (Int64 × Hp)} {frf lof : Nat} (hbf : 1 ≤ frf) (hbl : 22 ≤ lof) (hfr : frf + 1 ≤ fr) (hlo : lof + 25 ≤ lo) (hf : ∀ (a0 : Nat) (a1 : Nat) (h : Hp) (r : Int64 × Hp), f a0 a1 h = some r → DJ_sum l G frf lof a0 a1 h r)   {v28 : Nat} {v29 : Nat} {v30 : Int64} {v31 : Int64} {h32 : Hp} (hF : X14_of_J28 f v28 v29 v30 v31 h32 = some r) : V l G cX14_of RX14 "of" 6 (Option.some Jvm.ClassFile.FieldType.long) fr lo h0 r.2 (QM G (some (.long r.1)) h0 r.2) 28 [(0, .ref v28), (1, .ref v29), (2, .long v30)] [.long v31] h32 := by
  unfold X14_of_J28 at hF
  refine v_lstore dX14_of_28 (Nat.le_of_ble_eq_true rfl) (L' := [(4, .long v31), (0, .ref v28), (1, .ref v29), (2, .long v30)]) rfl ?_
  refine v_aload_n dX14_of_30 rfl 2 rfl ?_
  refine v_geti dX14_of_31 fl_X14_24 hF (fun v33 hF => ?_)
  refine v_if_eq (tgt := 39) dX14_of_34 (by decide) hF (fun hF => ?_) (fun hF => ?_)
  · refine v_aload_n dX14_of_39 rfl 1 rfl ?_
    refine v_geti dX14_of_40 fl_X14_13 hF (fun v34 hF => ?_)
    refine v_bipush dX14_of_43 (v := 47) (by decide) ?_
    refine v_icmp_eq (tgt := 57) dX14_of_45 (by decide) hF (fun hF => ?_) (fun hF => ?_)
    · exact v_sub [1, 2, 3, 0] rfl (w_X14_of_J57 hbf hbl hfr hlo hf hF)
    · refine v_aload_n dX14_of_48 rfl 1 rfl ?_
      refine v_geti dX14_of_49 fl_X14_13 hF (fun v48 hF => ?_)
      refine v_bipush dX14_of_52 (v := 37) (by decide) ?_
      refine v_icmp_ne (tgt := 105) dX14_of_54 (by decide) hF (fun hF => ?_) (fun hF => ?_)
      · refine v_aload_n dX14_of_105 rfl 2 rfl ?_
        refine v_aload_n dX14_of_106 rfl 1 rfl ?_
        refine v_geti dX14_of_107 fl_X14_13 hF (fun v49 hF => ?_)
        refine v_bipush dX14_of_110 (v := 43) (by decide) ?_
        refine v_icmp_ne (tgt := 122) dX14_of_112 (by decide) hF (fun hF => ?_) (fun hF => ?_)
        · refine v_aload_n dX14_of_122 rfl 1 rfl ?_
          refine v_geti dX14_of_123 fl_X14_13 hF (fun v50 hF => ?_)
          refine v_bipush dX14_of_126 (v := 45) (by decide) ?_
          refine v_icmp_ne (tgt := 138) dX14_of_128 (by decide) hF (fun hF => ?_) (fun hF => ?_)
          · refine v_lload_n dX14_of_138 rfl 3 rfl ?_
            refine v_lload dX14_of_139 0 rfl ?_
            refine v_lmul dX14_of_141 ?_
            exact v_sub [] rfl (w_X14_of_J142 hbf hbl hfr hlo hf hF)
          · refine v_lload_n dX14_of_131 rfl 3 rfl ?_
            refine v_lload dX14_of_132 0 rfl ?_
            refine v_lsub dX14_of_134 ?_
            refine v_goto (tgt := 142) dX14_of_135 (by decide) ?_
            exact v_sub [] rfl (w_X14_of_J142 hbf hbl hfr hlo hf hF)
        · refine v_lload_n dX14_of_115 rfl 3 rfl ?_
          refine v_lload dX14_of_116 0 rfl ?_
          refine v_ladd dX14_of_118 ?_
          refine v_goto (tgt := 142) dX14_of_119 (by decide) ?_
          exact v_sub [] rfl (w_X14_of_J142 hbf hbl hfr hlo hf hF)
      · exact v_sub [1, 2, 3, 0] rfl (w_X14_of_J57 hbf hbl hfr hlo hf hF)
  · refine v_lconst dX14_of_37 (v := 0) (by decide) ?_
    cases hF
    exact v_lret dX14_of_38 rfl rfl rfl
def X14_of_b (f : Nat → Nat → Hp → Option (Int64 × Hp)) (a0 : Nat) (a1 : Nat) (h : Hp) : Option (Int64 × Hp) :=
  (gr h a0 [12] 0).bind fun v21 =>
  bd2 (f v21 a1 h) fun v22 h23 =>
  (gi h23 a1 [4] 1).bind fun v24 =>
  if v24 = 0 then
    (gr h23 a0 [12] 1).bind fun v25 =>
    bd2 (f v25 a1 h23) fun v26 h27 =>
    X14_of_J28 f a0 a1 v22 v26 h27
  else
    X14_of_J28 f a0 a1 v22 (0 : Int64) h23
theorem w_X14_of_b {l : Launch} {G : GT} {fr lo : Nat} {h0 : Hp} {f : Nat → Nat → Hp → Option (Int64 × Hp)} {r : (Int64 × Hp)} {frf lof : Nat} (hbf : 1 ≤ frf) (hbl : 22 ≤ lof) (hfr : frf + 1 ≤ fr) (hlo : lof + 25 ≤ lo) (hf : ∀ (a0 : Nat) (a1 : Nat) (h : Hp) (r : Int64 × Hp), f a0 a1 h = some r → DJ_sum l G frf lof a0 a1 h r) {a0 : Nat} {a1 : Nat} {h : Hp} (hF : X14_of_b f a0 a1 h = some r) : V l G cX14_of RX14 "of" 6 (Option.some Jvm.ClassFile.FieldType.long) fr lo h0 r.2 (QM G (some (.long r.1)) h0 r.2) 0 [(0, .ref a0), (1, .ref a1)] [] h := by
  unfold X14_of_b at hF
  refine v_aload_n dX14_of_0 rfl 0 rfl ?_
  refine v_getr dX14_of_1 fl_X14_7 hF (fun v21 hF => ?_)
  refine v_aload_n dX14_of_4 rfl 1 rfl ?_
  refine v_disp (pc' := 8) (f := fun z => .long z) (st := []) hF (fun v22 h23 hF => ?_) (fun v9 h9 e K => ?_)
  · refine v_lstore_n dX14_of_8 rfl (Nat.le_of_ble_eq_true rfl) (L' := [(2, .long v22), (0, .ref a0), (1, .ref a1)]) rfl ?_
    refine v_aload_n dX14_of_9 rfl 2 rfl ?_
    refine v_geti dX14_of_10 fl_X14_24 hF (fun v24 hF => ?_)
    refine v_if_eq (tgt := 20) dX14_of_13 (by decide) hF (fun hF => ?_) (fun hF => ?_)
    · refine v_aload_n dX14_of_20 rfl 1 rfl ?_
      refine v_getr dX14_of_21 fl_X14_17 hF (fun v25 hF => ?_)
      refine v_aload_n dX14_of_24 rfl 2 rfl ?_
      refine v_disp (pc' := 28) (f := fun z => .long z) (st := []) hF (fun v26 h27 hF => ?_) (fun v9 h9 e K => ?_)
      · exact v_sub [1, 2, 0] rfl (w_X14_of_J28 hbf hbl hfr hlo hf hF)
      · rcases hf _ _ _ _ e with ⟨rc, frc, loc, hf1, hf2, ct⟩ | ⟨rc, frc, loc, hf1, hf2, ct⟩ | ⟨rc, frc, loc, hf1, hf2, ct⟩ | ⟨rc, frc, loc, hf1, hf2, ct⟩
        · exact v_calV1 dX14_of_25 vl_X14_20_9 q573 rc ct rfl rfl (by omega) (by omega) (Nat.le_of_ble_eq_true rfl) K
        · exact v_calV1 dX14_of_25 vl_X14_20_10 q593 rc ct rfl rfl (by omega) (by omega) (Nat.le_of_ble_eq_true rfl) K
        · exact v_calV1 dX14_of_25 vl_X14_20_11 q579 rc ct rfl rfl (by omega) (by omega) (Nat.le_of_ble_eq_true rfl) K
        · exact v_calV1 dX14_of_25 vl_X14_20_12 q576 rc ct rfl rfl (by omega) (by omega) (Nat.le_of_ble_eq_true rfl) K
    · refine v_lconst dX14_of_16 (v := 0) (by decide) ?_
      refine v_goto (tgt := 28) dX14_of_17 (by decide) ?_
      exact v_sub [1, 2, 0] rfl (w_X14_of_J28 hbf hbl hfr hlo hf hF)
  · rcases hf _ _ _ _ e with ⟨rc, frc, loc, hf1, hf2, ct⟩ | ⟨rc, frc, loc, hf1, hf2, ct⟩ | ⟨rc, frc, loc, hf1, hf2, ct⟩ | ⟨rc, frc, loc, hf1, hf2, ct⟩
    · exact v_calV1 dX14_of_5 vl_X14_20_9 q573 rc ct rfl rfl (by omega) (by omega) (Nat.le_of_ble_eq_true rfl) K
    · exact v_calV1 dX14_of_5 vl_X14_20_10 q593 rc ct rfl rfl (by omega) (by omega) (Nat.le_of_ble_eq_true rfl) K
    · exact v_calV1 dX14_of_5 vl_X14_20_11 q579 rc ct rfl rfl (by omega) (by omega) (Nat.le_of_ble_eq_true rfl) K
    · exact v_calV1 dX14_of_5 vl_X14_20_12 q576 rc ct rfl rfl (by omega) (by omega) (Nat.le_of_ble_eq_true rfl) K
def X14_of (f : Nat → Nat → Hp → Option (Int64 × Hp)) (a0 : Nat) (a1 : Nat) (h : Hp) : Option (Int64 × Hp) := (ob h a0 [12]).bind fun _ => X14_of_b f a0 a1 h
theorem rc_X14_of  {f : Nat → Nat → Hp → Option (Int64 × Hp)} {r : (Int64 × Hp)} {a0 : Nat} {a1 : Nat} {h : Hp} (hF : X14_of f a0 a1 h = some r) : RC h a0 [12] := by
  obtain ⟨o, ho, -⟩ := Option.bind_eq_some_iff.mp hF
  exact ⟨o, ho⟩
theorem ct_X14_of {l : Launch} {G : GT} {f : Nat → Nat → Hp → Option (Int64 × Hp)} {frf lof : Nat} (hbf : 1 ≤ frf) (hbl : 22 ≤ lof) (hf : ∀ (a0 : Nat) (a1 : Nat) (h : Hp) (r : Int64 × Hp), f a0 a1 h = some r → DJ_sum l G frf lof a0 a1 h r) {r : (Int64 × Hp)} {a0 : Nat} {a1 : Nat} {h : Hp} (hF : X14_of f a0 a1 h = some r) : Ct l G yX14_of (ws_ yX14_of cX14_of 6 (Option.some Jvm.ClassFile.FieldType.long)) (frf + 1) (lof + 25) [.ref a0, .ref a1] h (some (.long r.1)) r.2 :=
  ct_of (by decide) (Nat.le_of_ble_eq_true rfl) (w_X14_of_b hbf hbl (Nat.le_refl _) (Nat.le_refl _) hf (Option.bind_eq_some_iff.mp hF).choose_spec.2)
def D_sum : Nat → Nat → Nat → Hp → Option (Int64 × Hp)
  | 0, _, _, _ => none
  | d + 1, a0, a1, h => (ob h a0 [9, 10, 11, 12]).bind fun o => if o.1 = 9 then (X11_of h a0 a1).bind fun v => some (v, h) else if o.1 = 10 then (X12_of h a0 a1).bind fun v => some (v, h) else if o.1 = 11 then (X13_of h a0 a1).bind fun v => some (v, h) else X14_of (D_sum d) a0 a1 h
theorem dd_sum {l : Launch} {G : GT} : ∀ (d : Nat) (a0 : Nat) (a1 : Nat) (h : Hp) (r : Int64 × Hp), D_sum d a0 a1 h = some r → DJ_sum l G (2 + 1 * d) (46 + 25 * d) a0 a1 h r := by
  intro d
  induction d with
  | zero =>
    intro a0 a1 h r e
    cases (show (none : Option (Int64 × Hp)) = some r from e)
  | succ d ih =>
    intro a0 a1 h r e
    rw [D_sum] at e
    obtain ⟨o, ho, e⟩ := Option.bind_eq_some_iff.mp e
    obtain ⟨g1, g2⟩ := ob_spec ho
    by_cases hc : o.1 = 9
    · rw [if_pos hc] at e
      obtain ⟨v, e9, hv⟩ := Option.bind_eq_some_iff.mp e
      cases hv
      have e := e9
      exact Or.inl ⟨⟨o, by unfold ob; rw [g1]; simp [hc]⟩, 0, 0, by omega, by omega, ct_X11_of e⟩
    rw [if_neg hc] at e
    have hc0 := hc
    by_cases hc : o.1 = 10
    · rw [if_pos hc] at e
      obtain ⟨v, e9, hv⟩ := Option.bind_eq_some_iff.mp e
      cases hv
      have e := e9
      exact Or.inr (Or.inl ⟨⟨o, by unfold ob; rw [g1]; simp [hc]⟩, 0, 0, by omega, by omega, ct_X12_of e⟩)
    rw [if_neg hc] at e
    have hc1 := hc
    by_cases hc : o.1 = 11
    · rw [if_pos hc] at e
      obtain ⟨v, e9, hv⟩ := Option.bind_eq_some_iff.mp e
      cases hv
      have e := e9
      exact Or.inr (Or.inr (Or.inl ⟨⟨o, by unfold ob; rw [g1]; simp [hc]⟩, 2, 46, by omega, by omega, ct_X13_of e⟩))
    rw [if_neg hc] at e
    have hc2 := hc
    have hm := g2
    simp only [List.mem_cons, List.not_mem_nil, or_false] at hm
    have hc : o.1 = 12 := by omega
    exact Or.inr (Or.inr (Or.inr (⟨⟨o, by unfold ob; rw [g1]; simp [hc]⟩, (2 + 1 * d) + 1, (46 + 25 * d) + 25, by omega, by omega, ct_X14_of (frf := 2 + 1 * d) (lof := 46 + 25 * d) (by omega) (by omega) (fun a0 a1 h r e => ih a0 a1 h r e) e⟩)))
theorem vl_X17_20_9 : ∀ ci ∈ [9], VL RX17 20 ci yX11_of 1 := by
  intro ci h
  simp only [List.mem_cons, List.not_mem_nil, or_false] at h
  subst h; exact ⟨RX11, TX11, 1, rfl, q164, ⟨by decide, by decide⟩, by decide +kernel, q572, Or.inr (Or.inr (Or.inl ⟨⟨"LeekReadings$Sum", "of", "(LLeekReadings$Asked;)J"⟩, "LeekReadings$Sum", q568, q570, q571, ⟨by decide, by decide⟩, by decide +kernel, Or.inr (Or.inr q569)⟩))⟩
theorem vl_X17_20_10 : ∀ ci ∈ [10], VL RX17 20 ci yX12_of 1 := by
  intro ci h
  simp only [List.mem_cons, List.not_mem_nil, or_false] at h
  subst h; exact ⟨RX12, TX12, 1, rfl, q165, ⟨by decide, by decide⟩, by decide +kernel, q592, Or.inr (Or.inr (Or.inl ⟨⟨"LeekReadings$Sum", "of", "(LLeekReadings$Asked;)J"⟩, "LeekReadings$Sum", q568, q570, q601, ⟨by decide, by decide⟩, by decide +kernel, Or.inr (Or.inr q569)⟩))⟩
theorem vl_X17_20_11 : ∀ ci ∈ [11], VL RX17 20 ci yX13_of 1 := by
  intro ci h
  simp only [List.mem_cons, List.not_mem_nil, or_false] at h
  subst h; exact ⟨RX13, TX13, 3, rfl, q166, ⟨by decide, by decide⟩, by decide +kernel, q578, Or.inr (Or.inr (Or.inl ⟨⟨"LeekReadings$Sum", "of", "(LLeekReadings$Asked;)J"⟩, "LeekReadings$Sum", q568, q570, q600, ⟨by decide, by decide⟩, by decide +kernel, Or.inr (Or.inr q569)⟩))⟩
theorem vl_X17_20_12 : ∀ ci ∈ [12], VL RX17 20 ci yX14_of 1 := by
  intro ci h
  simp only [List.mem_cons, List.not_mem_nil, or_false] at h
  subst h; exact ⟨RX14, TX14, 3, rfl, q167, ⟨by decide, by decide⟩, by decide +kernel, q575, Or.inr (Or.inr (Or.inl ⟨⟨"LeekReadings$Sum", "of", "(LLeekReadings$Asked;)J"⟩, "LeekReadings$Sum", q568, q570, q574, ⟨by decide, by decide⟩, by decide +kernel, Or.inr (Or.inr q569)⟩))⟩
theorem fl_X17_13 : FL RX17 13 [14] 2 := by
  intro ci h
  simp only [List.mem_cons, List.not_mem_nil, or_false] at h
  subst h; exact ⟨RX17, _, TX17, 3, rfl, in_X17, by decide, Or.inl q1094, Or.inl rfl⟩
theorem fl_X17_26 : FL RX17 26 [4] 1 := by
  intro ci h
  simp only [List.mem_cons, List.not_mem_nil, or_false] at h
  subst h; exact ⟨RX4, _, TX4, 2, rfl, in_X4, by decide, Or.inr ⟨_, q331⟩, Or.inl rfl⟩
theorem fl_X17_17 : FL RX17 17 [14] 1 := by
  intro ci h
  simp only [List.mem_cons, List.not_mem_nil, or_false] at h
  subst h; exact ⟨RX17, _, TX17, 3, rfl, in_X17, by decide, Or.inl q1093, Or.inl rfl⟩
theorem fl_X17_7 : FL RX17 7 [14] 0 := by
  intro ci h
  simp only [List.mem_cons, List.not_mem_nil, or_false] at h
  subst h; exact ⟨RX17, _, TX17, 3, rfl, in_X17, by decide, Or.inl q1092, Or.inl rfl⟩
def X17_of_J28 (v28 : Nat) (v29 : Nat) (v30 : Int64) (v31 : Int64) (h32 : Hp) : Option (Int32 × Hp) :=
  (gi h32 v29 [4] 1).bind fun v33 =>
  if v33 = 0 then
    (gi h32 v28 [14] 2).bind fun v34 =>
    if v34 = (60 : Int32) then
      if 0 ≤ (lg_cmp v30 v31) then
        some ((0 : Int32), h32)
      else
        some ((1 : Int32), h32)
    else
      (gi h32 v28 [14] 2).bind fun v35 =>
      if v35 = (62 : Int32) then
        if (lg_cmp v30 v31) ≤ 0 then
          some ((0 : Int32), h32)
        else
          some ((1 : Int32), h32)
      else
        if (lg_cmp v30 v31) = 0 then
          some ((1 : Int32), h32)
        else
          some ((0 : Int32), h32)
  else
    some ((0 : Int32), h32)
theorem w_X17_of_J28 {l : Launch} {G : GT} {fr lo : Nat} {h0 : Hp} {r : (Int32 × Hp)} (hfr : 131 ≤ fr) (hlo : 3271 ≤ lo)   {v28 : Nat} {v29 : Nat} {v30 : Int64} {v31 : Int64} {h32 : Hp} (hF : X17_of_J28 v28 v29 v30 v31 h32 = some r) : V l G cX17_of RX17 "of" 6 (Option.some Jvm.ClassFile.FieldType.boolean) fr lo h0 r.2 (QM G (some (.int r.1)) h0 r.2) 28 [(0, .ref v28), (1, .ref v29), (2, .long v30)] [.long v31] h32 := by
  unfold X17_of_J28 at hF
  refine v_lstore dX17_of_28 (Nat.le_of_ble_eq_true rfl) (L' := [(4, .long v31), (0, .ref v28), (1, .ref v29), (2, .long v30)]) rfl ?_
  refine v_aload_n dX17_of_30 rfl 2 rfl ?_
  refine v_geti dX17_of_31 fl_X17_26 hF (fun v33 hF => ?_)
  refine v_if_ne (tgt := 86) dX17_of_34 (by decide) hF (fun hF => ?_) (fun hF => ?_)
  · refine v_iconst dX17_of_86 (v := 0) (by decide) ?_
    cases hF
    exact v_iret dX17_of_87 rfl (by decide) rfl rfl
  · refine v_aload_n dX17_of_37 rfl 1 rfl ?_
    refine v_geti dX17_of_38 fl_X17_13 hF (fun v34 hF => ?_)
    refine v_bipush dX17_of_41 (v := 60) (by decide) ?_
    refine v_icmp_ne (tgt := 56) dX17_of_43 (by decide) hF (fun hF => ?_) (fun hF => ?_)
    · refine v_aload_n dX17_of_56 rfl 1 rfl ?_
      refine v_geti dX17_of_57 fl_X17_13 hF (fun v35 hF => ?_)
      refine v_bipush dX17_of_60 (v := 62) (by decide) ?_
      refine v_icmp_ne (tgt := 75) dX17_of_62 (by decide) hF (fun hF => ?_) (fun hF => ?_)
      · refine v_lload_n dX17_of_75 rfl 3 rfl ?_
        refine v_lload dX17_of_76 0 rfl ?_
        refine v_lcmp dX17_of_78 ?_
        refine v_if_ne (tgt := 86) dX17_of_79 (by decide) hF (fun hF => ?_) (fun hF => ?_)
        · refine v_iconst dX17_of_86 (v := 0) (by decide) ?_
          cases hF
          exact v_iret dX17_of_87 rfl (by decide) rfl rfl
        · refine v_iconst dX17_of_82 (v := 1) (by decide) ?_
          refine v_goto (tgt := 87) dX17_of_83 (by decide) ?_
          cases hF
          exact v_iret dX17_of_87 rfl (by decide) rfl rfl
      · refine v_lload_n dX17_of_65 rfl 3 rfl ?_
        refine v_lload dX17_of_66 0 rfl ?_
        refine v_lcmp dX17_of_68 ?_
        refine v_if_le (tgt := 86) dX17_of_69 (by decide) hF (fun hF => ?_) (fun hF => ?_)
        · refine v_iconst dX17_of_86 (v := 0) (by decide) ?_
          cases hF
          exact v_iret dX17_of_87 rfl (by decide) rfl rfl
        · refine v_goto (tgt := 82) dX17_of_72 (by decide) ?_
          refine v_iconst dX17_of_82 (v := 1) (by decide) ?_
          refine v_goto (tgt := 87) dX17_of_83 (by decide) ?_
          cases hF
          exact v_iret dX17_of_87 rfl (by decide) rfl rfl
    · refine v_lload_n dX17_of_46 rfl 3 rfl ?_
      refine v_lload dX17_of_47 0 rfl ?_
      refine v_lcmp dX17_of_49 ?_
      refine v_if_ge (tgt := 86) dX17_of_50 (by decide) hF (fun hF => ?_) (fun hF => ?_)
      · refine v_iconst dX17_of_86 (v := 0) (by decide) ?_
        cases hF
        exact v_iret dX17_of_87 rfl (by decide) rfl rfl
      · refine v_goto (tgt := 82) dX17_of_53 (by decide) ?_
        refine v_iconst dX17_of_82 (v := 1) (by decide) ?_
        refine v_goto (tgt := 87) dX17_of_83 (by decide) ?_
        cases hF
        exact v_iret dX17_of_87 rfl (by decide) rfl rfl
def X17_of_b (a0 : Nat) (a1 : Nat) (h : Hp) : Option (Int32 × Hp) :=
  (gr h a0 [14] 0).bind fun v21 =>
  bd2 (D_sum 128 v21 a1 h) fun v22 h23 =>
  (gi h23 a1 [4] 1).bind fun v24 =>
  if v24 = 0 then
    (gr h23 a0 [14] 1).bind fun v25 =>
    bd2 (D_sum 128 v25 a1 h23) fun v26 h27 =>
    X17_of_J28 a0 a1 v22 v26 h27
  else
    X17_of_J28 a0 a1 v22 (0 : Int64) h23
theorem w_X17_of_b {l : Launch} {G : GT} {fr lo : Nat} {h0 : Hp} {r : (Int32 × Hp)} (hfr : 131 ≤ fr) (hlo : 3271 ≤ lo) {a0 : Nat} {a1 : Nat} {h : Hp} (hF : X17_of_b a0 a1 h = some r) : V l G cX17_of RX17 "of" 6 (Option.some Jvm.ClassFile.FieldType.boolean) fr lo h0 r.2 (QM G (some (.int r.1)) h0 r.2) 0 [(0, .ref a0), (1, .ref a1)] [] h := by
  unfold X17_of_b at hF
  refine v_aload_n dX17_of_0 rfl 0 rfl ?_
  refine v_getr dX17_of_1 fl_X17_7 hF (fun v21 hF => ?_)
  refine v_aload_n dX17_of_4 rfl 1 rfl ?_
  refine v_disp (pc' := 8) (f := fun z => .long z) (st := []) hF (fun v22 h23 hF => ?_) (fun v9 h9 e K => ?_)
  · refine v_lstore_n dX17_of_8 rfl (Nat.le_of_ble_eq_true rfl) (L' := [(2, .long v22), (0, .ref a0), (1, .ref a1)]) rfl ?_
    refine v_aload_n dX17_of_9 rfl 2 rfl ?_
    refine v_geti dX17_of_10 fl_X17_26 hF (fun v24 hF => ?_)
    refine v_if_eq (tgt := 20) dX17_of_13 (by decide) hF (fun hF => ?_) (fun hF => ?_)
    · refine v_aload_n dX17_of_20 rfl 1 rfl ?_
      refine v_getr dX17_of_21 fl_X17_17 hF (fun v25 hF => ?_)
      refine v_aload_n dX17_of_24 rfl 2 rfl ?_
      refine v_disp (pc' := 28) (f := fun z => .long z) (st := []) hF (fun v26 h27 hF => ?_) (fun v9 h9 e K => ?_)
      · exact v_sub [1, 2, 0] rfl (w_X17_of_J28 hfr hlo hF)
      · rcases dd_sum 128 _ _ _ _ e with ⟨rc, frc, loc, hf1, hf2, ct⟩ | ⟨rc, frc, loc, hf1, hf2, ct⟩ | ⟨rc, frc, loc, hf1, hf2, ct⟩ | ⟨rc, frc, loc, hf1, hf2, ct⟩
        · exact v_calV1 dX17_of_25 vl_X17_20_9 q573 rc ct rfl rfl (by omega) (by omega) (Nat.le_of_ble_eq_true rfl) K
        · exact v_calV1 dX17_of_25 vl_X17_20_10 q593 rc ct rfl rfl (by omega) (by omega) (Nat.le_of_ble_eq_true rfl) K
        · exact v_calV1 dX17_of_25 vl_X17_20_11 q579 rc ct rfl rfl (by omega) (by omega) (Nat.le_of_ble_eq_true rfl) K
        · exact v_calV1 dX17_of_25 vl_X17_20_12 q576 rc ct rfl rfl (by omega) (by omega) (Nat.le_of_ble_eq_true rfl) K
    · refine v_lconst dX17_of_16 (v := 0) (by decide) ?_
      refine v_goto (tgt := 28) dX17_of_17 (by decide) ?_
      exact v_sub [1, 2, 0] rfl (w_X17_of_J28 hfr hlo hF)
  · rcases dd_sum 128 _ _ _ _ e with ⟨rc, frc, loc, hf1, hf2, ct⟩ | ⟨rc, frc, loc, hf1, hf2, ct⟩ | ⟨rc, frc, loc, hf1, hf2, ct⟩ | ⟨rc, frc, loc, hf1, hf2, ct⟩
    · exact v_calV1 dX17_of_5 vl_X17_20_9 q573 rc ct rfl rfl (by omega) (by omega) (Nat.le_of_ble_eq_true rfl) K
    · exact v_calV1 dX17_of_5 vl_X17_20_10 q593 rc ct rfl rfl (by omega) (by omega) (Nat.le_of_ble_eq_true rfl) K
    · exact v_calV1 dX17_of_5 vl_X17_20_11 q579 rc ct rfl rfl (by omega) (by omega) (Nat.le_of_ble_eq_true rfl) K
    · exact v_calV1 dX17_of_5 vl_X17_20_12 q576 rc ct rfl rfl (by omega) (by omega) (Nat.le_of_ble_eq_true rfl) K
def X17_of (a0 : Nat) (a1 : Nat) (h : Hp) : Option (Int32 × Hp) := (ob h a0 [14]).bind fun _ => X17_of_b a0 a1 h
theorem rc_X17_of  {r : (Int32 × Hp)} {a0 : Nat} {a1 : Nat} {h : Hp} (hF : X17_of a0 a1 h = some r) : RC h a0 [14] := by
  obtain ⟨o, ho, -⟩ := Option.bind_eq_some_iff.mp hF
  exact ⟨o, ho⟩
theorem ct_X17_of {l : Launch} {G : GT} {r : (Int32 × Hp)} {a0 : Nat} {a1 : Nat} {h : Hp} (hF : X17_of a0 a1 h = some r) : Ct l G yX17_of (ws_ yX17_of cX17_of 6 (Option.some Jvm.ClassFile.FieldType.boolean)) 131 3271 [.ref a0, .ref a1] h (some (.int r.1)) r.2 :=
  ct_of (by decide) (Nat.le_of_ble_eq_true rfl) (w_X17_of_b (Nat.le_refl _) (Nat.le_refl _) (Option.bind_eq_some_iff.mp hF).choose_spec.2)
def DJ_test (l : Launch) (G : GT) (F Lo : Nat) (a0 : Nat) (a1 : Nat) (h : Hp) (r : Int32 × Hp) : Prop :=
  (RC h a0 [14] ∧ ∃ frc loc : Nat, frc ≤ F ∧ loc ≤ Lo ∧ Ct l G yX17_of (ws_ yX17_of cX17_of 6 (Option.some Jvm.ClassFile.FieldType.boolean)) frc loc [.ref a0, .ref a1] h (some (.int r.1)) r.2) ∨
  (RC h a0 [15] ∧ ∃ frc loc : Nat, frc ≤ F ∧ loc ≤ Lo ∧ Ct l G yX18_of (ws_ yX18_of cX18_of 2 (Option.some Jvm.ClassFile.FieldType.boolean)) frc loc [.ref a0, .ref a1] h (some (.int r.1)) r.2) ∨
  (RC h a0 [16] ∧ ∃ frc loc : Nat, frc ≤ F ∧ loc ≤ Lo ∧ Ct l G yX19_of (ws_ yX19_of cX19_of 7 (Option.some Jvm.ClassFile.FieldType.boolean)) frc loc [.ref a0, .ref a1] h (some (.int r.1)) r.2)
theorem vl_X19_17_14 : ∀ ci ∈ [14], VL RX19 17 ci yX17_of 1 := by
  intro ci h
  simp only [List.mem_cons, List.not_mem_nil, or_false] at h
  subst h; exact ⟨RX17, TX17, 3, rfl, q170, ⟨by decide, by decide⟩, by decide +kernel, q566, Or.inr (Or.inr (Or.inl ⟨⟨"LeekReadings$Test", "of", "(LLeekReadings$Asked;)Z"⟩, "LeekReadings$Test", q608, q564, q565, ⟨by decide, by decide⟩, by decide +kernel, Or.inr (Or.inr q563)⟩))⟩
theorem vl_X19_17_15 : ∀ ci ∈ [15], VL RX19 17 ci yX18_of 1 := by
  intro ci h
  simp only [List.mem_cons, List.not_mem_nil, or_false] at h
  subst h; exact ⟨RX18, TX18, 1, rfl, q171, ⟨by decide, by decide⟩, by decide +kernel, q603, Or.inr (Or.inr (Or.inl ⟨⟨"LeekReadings$Test", "of", "(LLeekReadings$Asked;)Z"⟩, "LeekReadings$Test", q608, q564, q602, ⟨by decide, by decide⟩, by decide +kernel, Or.inr (Or.inr q563)⟩))⟩
theorem vl_X19_17_16 : ∀ ci ∈ [16], VL RX19 17 ci yX19_of 1 := by
  intro ci h
  simp only [List.mem_cons, List.not_mem_nil, or_false] at h
  subst h; exact ⟨RX19, TX19, 2, rfl, q172, ⟨by decide, by decide⟩, by decide +kernel, q606, Or.inr (Or.inr (Or.inl ⟨⟨"LeekReadings$Test", "of", "(LLeekReadings$Asked;)Z"⟩, "LeekReadings$Test", q608, q564, q609, ⟨by decide, by decide⟩, by decide +kernel, Or.inr (Or.inr q563)⟩))⟩
theorem fl_X19_7 : FL RX19 7 [16] 0 := by
  intro ci h
  simp only [List.mem_cons, List.not_mem_nil, or_false] at h
  subst h; exact ⟨RX19, _, TX19, 2, rfl, in_X19, by decide, Or.inl q1128, Or.inl rfl⟩
theorem fl_X19_21 : FL RX19 21 [4] 1 := by
  intro ci h
  simp only [List.mem_cons, List.not_mem_nil, or_false] at h
  subst h; exact ⟨RX4, _, TX4, 2, rfl, in_X4, by decide, Or.inr ⟨_, q333⟩, Or.inl rfl⟩
theorem fl_X19_13 : FL RX19 13 [16] 1 := by
  intro ci h
  simp only [List.mem_cons, List.not_mem_nil, or_false] at h
  subst h; exact ⟨RX19, _, TX19, 2, rfl, in_X19, by decide, Or.inl q1129, Or.inl rfl⟩
def X19_of_L11 (N : Nat) (f : Nat → Nat → Hp → Option (Int32 × Hp)) (x11 : Nat → Hp → Option (Int32 × Hp)) : Nat → Nat → Nat → Nat → Int32 → Int32 → Hp → Option (Int32 × Hp)
  | 0, _, _, _, _, _, _ => none
  | n38 + 1, v23, v24, v25, v26, v27, h28 =>
    if v26 ≤ v27 then
      x11 v23 h28
    else
      (aR h28 v25 9 v27).bind fun v31 =>
      bd2 (f v31 v24 h28) fun v32 h33 =>
      (gi h33 v24 [4] 1).bind fun v34 =>
      if v34 = 0 then
        (gi h33 v23 [16] 0).bind fun v35 =>
        if v32 = v35 then
          (X19_of_L11 N f x11 n38) v23 v24 v25 v26 (v27 + (1 : Int32)) h33
        else
          (gi h33 v23 [16] 0).bind fun v36 =>
          (rz (if v36 = 0 then (1 : Int32) else (0 : Int32))).bind fun v37 => some (v37, h33)
      else
        some ((0 : Int32), h33)
theorem w_X19_of_L11 {l : Launch} {G : GT} {fr lo : Nat} {h0 : Hp} {N : Nat} {f : Nat → Nat → Hp → Option (Int32 × Hp)} {r : (Int32 × Hp)} {frf lof : Nat} (hbf : 0 ≤ frf) (hbl : 0 ≤ lof) (hfr : frf + 1 ≤ fr) (hlo : lof + 26 ≤ lo) (hf : ∀ (a0 : Nat) (a1 : Nat) (h : Hp) (r : Int32 × Hp), f a0 a1 h = some r → DJ_test l G frf lof a0 a1 h r) {x11 : Nat → Hp → Option (Int32 × Hp)} (hx11 : ∀ (v29 : Nat) (h30 : Hp), x11 v29 h30 = some r → V l G cX19_of RX19 "of" 7 (Option.some Jvm.ClassFile.FieldType.boolean) fr lo h0 r.2 (QM G (some (.int r.1)) h0 r.2) 68 [(0, .ref v29)] [] h30) : ∀ (n : Nat) (v23 : Nat) (v24 : Nat) (v25 : Nat) (v26 : Int32) (v27 : Int32) (h28 : Hp), X19_of_L11 N f x11 n v23 v24 v25 v26 v27 h28 = some r → V l G cX19_of RX19 "of" 7 (Option.some Jvm.ClassFile.FieldType.boolean) fr lo h0 r.2 (QM G (some (.int r.1)) h0 r.2) 11 [(0, .ref v23), (1, .ref v24), (2, .ref v25), (3, .int v26), (4, .int v27)] [] h28 := by
  intro n
  induction n with
  | zero =>
    intro v23 v24 v25 v26 v27 h28 hF
    cases (show (none : Option (Int32 × Hp)) = some r from hF)
  | succ n hc11 =>
    intro v23 v24 v25 v26 v27 h28 hF
    rw [X19_of_L11] at hF
    refine v_iload dX19_of_11 4 rfl ?_
    refine v_iload_n dX19_of_13 rfl 3 rfl ?_
    refine v_icmp_ge (tgt := 68) dX19_of_14 (by decide) hF (fun hF => ?_) (fun hF => ?_)
    · exact v_sub [0] rfl (hx11 _ _ hF)
    · refine v_aload_n dX19_of_17 rfl 2 rfl ?_
      refine v_iload dX19_of_18 4 rfl ?_
      refine v_aaldr rfl rfl dX19_of_20 hF (fun v31 hF => ?_)
      refine v_astore dX19_of_21 (Nat.le_of_ble_eq_true rfl) (L' := [(5, .ref v31), (0, .ref v23), (1, .ref v24), (2, .ref v25), (3, .int v26), (4, .int v27)]) rfl ?_
      refine v_aload dX19_of_23 0 rfl ?_
      refine v_aload_n dX19_of_25 rfl 2 rfl ?_
      refine v_disp (pc' := 29) (f := fun z => .int z) (st := []) hF (fun v32 h33 hF => ?_) (fun v9 h9 e K => ?_)
      · refine v_istore dX19_of_29 (Nat.le_of_ble_eq_true rfl) (L' := [(6, .int v32), (5, .ref v31), (0, .ref v23), (1, .ref v24), (2, .ref v25), (3, .int v26), (4, .int v27)]) rfl ?_
        refine v_aload_n dX19_of_31 rfl 3 rfl ?_
        refine v_geti dX19_of_32 fl_X19_21 hF (fun v34 hF => ?_)
        refine v_if_eq (tgt := 40) dX19_of_35 (by decide) hF (fun hF => ?_) (fun hF => ?_)
        · refine v_iload dX19_of_40 0 rfl ?_
          refine v_aload_n dX19_of_42 rfl 2 rfl ?_
          refine v_geti dX19_of_43 fl_X19_7 hF (fun v35 hF => ?_)
          refine v_icmp_eq (tgt := 62) dX19_of_46 (by decide) hF (fun hF => ?_) (fun hF => ?_)
          · refine v_iinc dX19_of_62 6 rfl (v := v27 + (1 : Int32)) (by rfl) (Nat.le_of_ble_eq_true rfl) (L' := [(4, .int (v27 + (1 : Int32))), (6, .int v32), (5, .ref v31), (0, .ref v23), (1, .ref v24), (2, .ref v25), (3, .int v26)]) rfl ?_
            refine v_goto (tgt := 11) dX19_of_65 (by decide) ?_
            exact v_sub [3, 4, 5, 6, 0] rfl (hc11 _ _ _ _ _ _ hF)
          · refine v_aload_n dX19_of_49 rfl 2 rfl ?_
            refine v_geti dX19_of_50 fl_X19_7 hF (fun v36 hF => ?_)
            refine v_tern (c := v36 = 0) (x := (1 : Int32)) (y := (0 : Int32)) (pcj := 61) (st := []) ?_ (fun kt kf => v_if_ne0 (tgt := 60) dX19_of_53 (by decide) kt kf) (fun K => ?_) (fun K => ?_)
            · refine v_zchk hF (fun v37 hz hF => ?_)
              cases hF
              exact v_iret dX19_of_61 rfl (nar_z hz) rfl rfl
            · refine v_iconst dX19_of_56 (v := 1) (by decide) ?_
              refine v_goto (tgt := 61) dX19_of_57 (by decide) ?_
              exact K
            · refine v_iconst dX19_of_60 (v := 0) (by decide) ?_
              exact K
        · refine v_iconst dX19_of_38 (v := 0) (by decide) ?_
          cases hF
          exact v_iret dX19_of_39 rfl (by decide) rfl rfl
      · rcases hf _ _ _ _ e with ⟨rc, frc, loc, hf1, hf2, ct⟩ | ⟨rc, frc, loc, hf1, hf2, ct⟩ | ⟨rc, frc, loc, hf1, hf2, ct⟩
        · exact v_calV1 dX19_of_26 vl_X19_17_14 q567 rc ct rfl rfl (by omega) (by omega) (Nat.le_of_ble_eq_true rfl) K
        · exact v_calV1 dX19_of_26 vl_X19_17_15 q604 rc ct rfl rfl (by omega) (by omega) (Nat.le_of_ble_eq_true rfl) K
        · exact v_calV1 dX19_of_26 vl_X19_17_16 q607 rc ct rfl rfl (by omega) (by omega) (Nat.le_of_ble_eq_true rfl) K
def X19_of_b (N : Nat) (f : Nat → Nat → Hp → Option (Int32 × Hp)) (a0 : Nat) (a1 : Nat) (h : Hp) : Option (Int32 × Hp) :=
  (gr h a0 [16] 1).bind fun v21 =>
  (alen h v21 9).bind fun v22 =>
  X19_of_L11 N f (fun v39 h40 =>
    (gi h40 v39 [16] 0).bind fun v41 =>
    (rz v41).bind fun v42 => some (v42, h40)) N a0 a1 v21 v22 (0 : Int32) h
theorem w_X19_of_b {l : Launch} {G : GT} {fr lo : Nat} {h0 : Hp} {N : Nat} {f : Nat → Nat → Hp → Option (Int32 × Hp)} {r : (Int32 × Hp)} {frf lof : Nat} (hbf : 0 ≤ frf) (hbl : 0 ≤ lof) (hfr : frf + 1 ≤ fr) (hlo : lof + 26 ≤ lo) (hf : ∀ (a0 : Nat) (a1 : Nat) (h : Hp) (r : Int32 × Hp), f a0 a1 h = some r → DJ_test l G frf lof a0 a1 h r) {a0 : Nat} {a1 : Nat} {h : Hp} (hF : X19_of_b N f a0 a1 h = some r) : V l G cX19_of RX19 "of" 7 (Option.some Jvm.ClassFile.FieldType.boolean) fr lo h0 r.2 (QM G (some (.int r.1)) h0 r.2) 0 [(0, .ref a0), (1, .ref a1)] [] h := by
  unfold X19_of_b at hF
  refine v_aload_n dX19_of_0 rfl 0 rfl ?_
  refine v_getr dX19_of_1 fl_X19_13 hF (fun v21 hF => ?_)
  refine v_astore_n dX19_of_4 rfl (Nat.le_of_ble_eq_true rfl) (L' := [(2, .ref v21), (0, .ref a0), (1, .ref a1)]) rfl ?_
  refine v_aload_n dX19_of_5 rfl 0 rfl ?_
  refine v_alen (k := 9) rfl dX19_of_6 hF (fun v22 hF => ?_)
  refine v_istore_n dX19_of_7 rfl (Nat.le_of_ble_eq_true rfl) (L' := [(3, .int v22), (2, .ref v21), (0, .ref a0), (1, .ref a1)]) rfl ?_
  refine v_iconst dX19_of_8 (v := 0) (by decide) ?_
  refine v_istore dX19_of_9 (Nat.le_of_ble_eq_true rfl) (L' := [(4, .int (0 : Int32)), (3, .int v22), (2, .ref v21), (0, .ref a0), (1, .ref a1)]) rfl ?_
  refine v_sub [3, 4, 2, 1, 0] rfl (w_X19_of_L11 hbf hbl hfr hlo hf ?_ N _ _ _ _ _ _ hF)
  intro v39 h40 hF
  refine v_aload_n dX19_of_68 rfl 0 rfl ?_
  refine v_geti dX19_of_69 fl_X19_7 hF (fun v41 hF => ?_)
  refine v_zchk hF (fun v42 hz hF => ?_)
  cases hF
  exact v_iret dX19_of_72 rfl (nar_z hz) rfl rfl
def X19_of (N : Nat) (f : Nat → Nat → Hp → Option (Int32 × Hp)) (a0 : Nat) (a1 : Nat) (h : Hp) : Option (Int32 × Hp) := (ob h a0 [16]).bind fun _ => X19_of_b N f a0 a1 h
theorem rc_X19_of {N : Nat}  {f : Nat → Nat → Hp → Option (Int32 × Hp)} {r : (Int32 × Hp)} {a0 : Nat} {a1 : Nat} {h : Hp} (hF : X19_of N f a0 a1 h = some r) : RC h a0 [16] := by
  obtain ⟨o, ho, -⟩ := Option.bind_eq_some_iff.mp hF
  exact ⟨o, ho⟩
theorem ct_X19_of {l : Launch} {G : GT} {N : Nat} {f : Nat → Nat → Hp → Option (Int32 × Hp)} {frf lof : Nat} (hbf : 0 ≤ frf) (hbl : 0 ≤ lof) (hf : ∀ (a0 : Nat) (a1 : Nat) (h : Hp) (r : Int32 × Hp), f a0 a1 h = some r → DJ_test l G frf lof a0 a1 h r) {r : (Int32 × Hp)} {a0 : Nat} {a1 : Nat} {h : Hp} (hF : X19_of N f a0 a1 h = some r) : Ct l G yX19_of (ws_ yX19_of cX19_of 7 (Option.some Jvm.ClassFile.FieldType.boolean)) (frf + 1) (lof + 26) [.ref a0, .ref a1] h (some (.int r.1)) r.2 :=
  ct_of (by decide) (Nat.le_of_ble_eq_true rfl) (w_X19_of_b hbf hbl (Nat.le_refl _) (Nat.le_refl _) hf (Option.bind_eq_some_iff.mp hF).choose_spec.2)
theorem vl_X18_13_14 : ∀ ci ∈ [14], VL RX18 13 ci yX17_of 1 := by
  intro ci h
  simp only [List.mem_cons, List.not_mem_nil, or_false] at h
  subst h; exact ⟨RX17, TX17, 3, rfl, q170, ⟨by decide, by decide⟩, by decide +kernel, q566, Or.inr (Or.inr (Or.inl ⟨⟨"LeekReadings$Test", "of", "(LLeekReadings$Asked;)Z"⟩, "LeekReadings$Test", q605, q564, q565, ⟨by decide, by decide⟩, by decide +kernel, Or.inr (Or.inr q563)⟩))⟩
theorem vl_X18_13_15 : ∀ ci ∈ [15], VL RX18 13 ci yX18_of 1 := by
  intro ci h
  simp only [List.mem_cons, List.not_mem_nil, or_false] at h
  subst h; exact ⟨RX18, TX18, 1, rfl, q171, ⟨by decide, by decide⟩, by decide +kernel, q603, Or.inr (Or.inr (Or.inl ⟨⟨"LeekReadings$Test", "of", "(LLeekReadings$Asked;)Z"⟩, "LeekReadings$Test", q605, q564, q602, ⟨by decide, by decide⟩, by decide +kernel, Or.inr (Or.inr q563)⟩))⟩
theorem vl_X18_13_16 : ∀ ci ∈ [16], VL RX18 13 ci yX19_of 1 := by
  intro ci h
  simp only [List.mem_cons, List.not_mem_nil, or_false] at h
  subst h; exact ⟨RX19, TX19, 2, rfl, q172, ⟨by decide, by decide⟩, by decide +kernel, q606, Or.inr (Or.inr (Or.inl ⟨⟨"LeekReadings$Test", "of", "(LLeekReadings$Asked;)Z"⟩, "LeekReadings$Test", q605, q564, q609, ⟨by decide, by decide⟩, by decide +kernel, Or.inr (Or.inr q563)⟩))⟩
theorem fl_X18_17 : FL RX18 17 [4] 1 := by
  intro ci h
  simp only [List.mem_cons, List.not_mem_nil, or_false] at h
  subst h; exact ⟨RX4, _, TX4, 2, rfl, in_X4, by decide, Or.inr ⟨_, q332⟩, Or.inl rfl⟩
theorem fl_X18_7 : FL RX18 7 [15] 0 := by
  intro ci h
  simp only [List.mem_cons, List.not_mem_nil, or_false] at h
  subst h; exact ⟨RX18, _, TX18, 1, rfl, in_X18, by decide, Or.inl q1108, Or.inl rfl⟩
def X18_of_b (N : Nat) (f : Nat → Nat → Hp → Option (Int32 × Hp)) (a0 : Nat) (a1 : Nat) (h : Hp) : Option (Int32 × Hp) :=
  (gr h a0 [15] 0).bind fun v21 =>
  bd2 (f v21 a1 h) fun v22 h23 =>
  if v22 = 0 then
    (gi h23 a1 [4] 1).bind fun v24 =>
    if v24 = 0 then
      some ((1 : Int32), h23)
    else
      some ((0 : Int32), h23)
  else
    some ((0 : Int32), h23)
theorem w_X18_of_b {l : Launch} {G : GT} {fr lo : Nat} {h0 : Hp} {N : Nat} {f : Nat → Nat → Hp → Option (Int32 × Hp)} {r : (Int32 × Hp)} {frf lof : Nat} (hbf : 0 ≤ frf) (hbl : 0 ≤ lof) (hfr : frf + 1 ≤ fr) (hlo : lof + 26 ≤ lo) (hf : ∀ (a0 : Nat) (a1 : Nat) (h : Hp) (r : Int32 × Hp), f a0 a1 h = some r → DJ_test l G frf lof a0 a1 h r) {a0 : Nat} {a1 : Nat} {h : Hp} (hF : X18_of_b N f a0 a1 h = some r) : V l G cX18_of RX18 "of" 2 (Option.some Jvm.ClassFile.FieldType.boolean) fr lo h0 r.2 (QM G (some (.int r.1)) h0 r.2) 0 [(0, .ref a0), (1, .ref a1)] [] h := by
  unfold X18_of_b at hF
  refine v_aload_n dX18_of_0 rfl 0 rfl ?_
  refine v_getr dX18_of_1 fl_X18_7 hF (fun v21 hF => ?_)
  refine v_aload_n dX18_of_4 rfl 1 rfl ?_
  refine v_disp (pc' := 8) (f := fun z => .int z) (st := []) hF (fun v22 h23 hF => ?_) (fun v9 h9 e K => ?_)
  · refine v_if_ne (tgt := 22) dX18_of_8 (by decide) hF (fun hF => ?_) (fun hF => ?_)
    · refine v_iconst dX18_of_22 (v := 0) (by decide) ?_
      cases hF
      exact v_iret dX18_of_23 rfl (by decide) rfl rfl
    · refine v_aload_n dX18_of_11 rfl 1 rfl ?_
      refine v_geti dX18_of_12 fl_X18_17 hF (fun v24 hF => ?_)
      refine v_if_ne (tgt := 22) dX18_of_15 (by decide) hF (fun hF => ?_) (fun hF => ?_)
      · refine v_iconst dX18_of_22 (v := 0) (by decide) ?_
        cases hF
        exact v_iret dX18_of_23 rfl (by decide) rfl rfl
      · refine v_iconst dX18_of_18 (v := 1) (by decide) ?_
        refine v_goto (tgt := 23) dX18_of_19 (by decide) ?_
        cases hF
        exact v_iret dX18_of_23 rfl (by decide) rfl rfl
  · rcases hf _ _ _ _ e with ⟨rc, frc, loc, hf1, hf2, ct⟩ | ⟨rc, frc, loc, hf1, hf2, ct⟩ | ⟨rc, frc, loc, hf1, hf2, ct⟩
    · exact v_calV1 dX18_of_5 vl_X18_13_14 q567 rc ct rfl rfl (by omega) (by omega) (Nat.le_of_ble_eq_true rfl) K
    · exact v_calV1 dX18_of_5 vl_X18_13_15 q604 rc ct rfl rfl (by omega) (by omega) (Nat.le_of_ble_eq_true rfl) K
    · exact v_calV1 dX18_of_5 vl_X18_13_16 q607 rc ct rfl rfl (by omega) (by omega) (Nat.le_of_ble_eq_true rfl) K
def X18_of (N : Nat) (f : Nat → Nat → Hp → Option (Int32 × Hp)) (a0 : Nat) (a1 : Nat) (h : Hp) : Option (Int32 × Hp) := (ob h a0 [15]).bind fun _ => X18_of_b N f a0 a1 h
theorem rc_X18_of {N : Nat}  {f : Nat → Nat → Hp → Option (Int32 × Hp)} {r : (Int32 × Hp)} {a0 : Nat} {a1 : Nat} {h : Hp} (hF : X18_of N f a0 a1 h = some r) : RC h a0 [15] := by
  obtain ⟨o, ho, -⟩ := Option.bind_eq_some_iff.mp hF
  exact ⟨o, ho⟩
theorem ct_X18_of {l : Launch} {G : GT} {N : Nat} {f : Nat → Nat → Hp → Option (Int32 × Hp)} {frf lof : Nat} (hbf : 0 ≤ frf) (hbl : 0 ≤ lof) (hf : ∀ (a0 : Nat) (a1 : Nat) (h : Hp) (r : Int32 × Hp), f a0 a1 h = some r → DJ_test l G frf lof a0 a1 h r) {r : (Int32 × Hp)} {a0 : Nat} {a1 : Nat} {h : Hp} (hF : X18_of N f a0 a1 h = some r) : Ct l G yX18_of (ws_ yX18_of cX18_of 2 (Option.some Jvm.ClassFile.FieldType.boolean)) (frf + 1) (lof + 26) [.ref a0, .ref a1] h (some (.int r.1)) r.2 :=
  ct_of (by decide) (Nat.le_of_ble_eq_true rfl) (w_X18_of_b hbf hbl (Nat.le_refl _) (Nat.le_refl _) hf (Option.bind_eq_some_iff.mp hF).choose_spec.2)
def D_test (N : Nat) : Nat → Nat → Nat → Hp → Option (Int32 × Hp)
  | 0, _, _, _ => none
  | d + 1, a0, a1, h => (ob h a0 [14, 15, 16]).bind fun o => if o.1 = 14 then X17_of a0 a1 h else if o.1 = 15 then X18_of N (D_test N d) a0 a1 h else X19_of N (D_test N d) a0 a1 h
theorem dd_test {l : Launch} {G : GT} {N : Nat} : ∀ (d : Nat) (a0 : Nat) (a1 : Nat) (h : Hp) (r : Int32 × Hp), D_test N d a0 a1 h = some r → DJ_test l G (131 + 1 * d) (3271 + 26 * d) a0 a1 h r := by
  intro d
  induction d with
  | zero =>
    intro a0 a1 h r e
    cases (show (none : Option (Int32 × Hp)) = some r from e)
  | succ d ih =>
    intro a0 a1 h r e
    rw [D_test] at e
    obtain ⟨o, ho, e⟩ := Option.bind_eq_some_iff.mp e
    obtain ⟨g1, g2⟩ := ob_spec ho
    by_cases hc : o.1 = 14
    · rw [if_pos hc] at e
      exact Or.inl ⟨⟨o, by unfold ob; rw [g1]; simp [hc]⟩, 131, 3271, by omega, by omega, ct_X17_of e⟩
    rw [if_neg hc] at e
    have hc0 := hc
    by_cases hc : o.1 = 15
    · rw [if_pos hc] at e
      exact Or.inr (Or.inl ⟨⟨o, by unfold ob; rw [g1]; simp [hc]⟩, (131 + 1 * d) + 1, (3271 + 26 * d) + 26, by omega, by omega, ct_X18_of (frf := 131 + 1 * d) (lof := 3271 + 26 * d) (by omega) (by omega) (fun a0 a1 h r e => ih a0 a1 h r e) e⟩)
    rw [if_neg hc] at e
    have hc1 := hc
    have hm := g2
    simp only [List.mem_cons, List.not_mem_nil, or_false] at hm
    have hc : o.1 = 16 := by omega
    exact Or.inr (Or.inr (⟨⟨o, by unfold ob; rw [g1]; simp [hc]⟩, (131 + 1 * d) + 1, (3271 + 26 * d) + 26, by omega, by omega, ct_X19_of (frf := 131 + 1 * d) (lof := 3271 + 26 * d) (by omega) (by omega) (fun a0 a1 h r e => ih a0 a1 h r e) e⟩))
theorem pl_X15_21 : PL RX15 21 [4] 1 (.boolean) false := by
  intro ci h
  simp only [List.mem_cons, List.not_mem_nil, or_false] at h
  subst h; exact ⟨RX4, _, TX4, 2, tyX4, rfl, in_X4, by decide, Or.inr ⟨rfl, _, q328⟩, Or.inl rfl, tyX4_ok, rfl, by decide +kernel, rfl, fun z => by cases z⟩
theorem pl_X15_38 : PL RX15 38 [13] 3 (.long) false := by
  intro ci h
  simp only [List.mem_cons, List.not_mem_nil, or_false] at h
  subst h; exact ⟨RX15, _, TX15, 4, tyX15, rfl, in_X15, by decide, Or.inl q1144, Or.inl rfl, tyX15_ok, rfl, by decide +kernel, rfl, fun z => by cases z⟩
theorem fl_X15_21 : FL RX15 21 [4] 1 := by
  intro ci h
  simp only [List.mem_cons, List.not_mem_nil, or_false] at h
  subst h; exact ⟨RX4, _, TX4, 2, rfl, in_X4, by decide, Or.inr ⟨_, q328⟩, Or.inl rfl⟩
theorem vl_X15_33_9 : ∀ ci ∈ [9], VL RX15 33 ci yX11_of 1 := by
  intro ci h
  simp only [List.mem_cons, List.not_mem_nil, or_false] at h
  subst h; exact ⟨RX11, TX11, 1, rfl, q164, ⟨by decide, by decide⟩, by decide +kernel, q572, Or.inr (Or.inr (Or.inl ⟨⟨"LeekReadings$Sum", "of", "(LLeekReadings$Asked;)J"⟩, "LeekReadings$Sum", q610, q570, q571, ⟨by decide, by decide⟩, by decide +kernel, Or.inr (Or.inr q569)⟩))⟩
theorem vl_X15_33_10 : ∀ ci ∈ [10], VL RX15 33 ci yX12_of 1 := by
  intro ci h
  simp only [List.mem_cons, List.not_mem_nil, or_false] at h
  subst h; exact ⟨RX12, TX12, 1, rfl, q165, ⟨by decide, by decide⟩, by decide +kernel, q592, Or.inr (Or.inr (Or.inl ⟨⟨"LeekReadings$Sum", "of", "(LLeekReadings$Asked;)J"⟩, "LeekReadings$Sum", q610, q570, q601, ⟨by decide, by decide⟩, by decide +kernel, Or.inr (Or.inr q569)⟩))⟩
theorem vl_X15_33_11 : ∀ ci ∈ [11], VL RX15 33 ci yX13_of 1 := by
  intro ci h
  simp only [List.mem_cons, List.not_mem_nil, or_false] at h
  subst h; exact ⟨RX13, TX13, 3, rfl, q166, ⟨by decide, by decide⟩, by decide +kernel, q578, Or.inr (Or.inr (Or.inl ⟨⟨"LeekReadings$Sum", "of", "(LLeekReadings$Asked;)J"⟩, "LeekReadings$Sum", q610, q570, q600, ⟨by decide, by decide⟩, by decide +kernel, Or.inr (Or.inr q569)⟩))⟩
theorem vl_X15_33_12 : ∀ ci ∈ [12], VL RX15 33 ci yX14_of 1 := by
  intro ci h
  simp only [List.mem_cons, List.not_mem_nil, or_false] at h
  subst h; exact ⟨RX14, TX14, 3, rfl, q167, ⟨by decide, by decide⟩, by decide +kernel, q575, Or.inr (Or.inr (Or.inl ⟨⟨"LeekReadings$Sum", "of", "(LLeekReadings$Asked;)J"⟩, "LeekReadings$Sum", q610, q570, q574, ⟨by decide, by decide⟩, by decide +kernel, Or.inr (Or.inr q569)⟩))⟩
theorem fl_X15_13 : FL RX15 13 [13] 1 := by
  intro ci h
  simp only [List.mem_cons, List.not_mem_nil, or_false] at h
  subst h; exact ⟨RX15, _, TX15, 4, rfl, in_X15, by decide, Or.inl q1142, Or.inl rfl⟩
theorem vl_X15_27_14 : ∀ ci ∈ [14], VL RX15 27 ci yX17_of 1 := by
  intro ci h
  simp only [List.mem_cons, List.not_mem_nil, or_false] at h
  subst h; exact ⟨RX17, TX17, 3, rfl, q170, ⟨by decide, by decide⟩, by decide +kernel, q566, Or.inr (Or.inr (Or.inl ⟨⟨"LeekReadings$Test", "of", "(LLeekReadings$Asked;)Z"⟩, "LeekReadings$Test", q562, q564, q565, ⟨by decide, by decide⟩, by decide +kernel, Or.inr (Or.inr q563)⟩))⟩
theorem vl_X15_27_15 : ∀ ci ∈ [15], VL RX15 27 ci yX18_of 1 := by
  intro ci h
  simp only [List.mem_cons, List.not_mem_nil, or_false] at h
  subst h; exact ⟨RX18, TX18, 1, rfl, q171, ⟨by decide, by decide⟩, by decide +kernel, q603, Or.inr (Or.inr (Or.inl ⟨⟨"LeekReadings$Test", "of", "(LLeekReadings$Asked;)Z"⟩, "LeekReadings$Test", q562, q564, q602, ⟨by decide, by decide⟩, by decide +kernel, Or.inr (Or.inr q563)⟩))⟩
theorem vl_X15_27_16 : ∀ ci ∈ [16], VL RX15 27 ci yX19_of 1 := by
  intro ci h
  simp only [List.mem_cons, List.not_mem_nil, or_false] at h
  subst h; exact ⟨RX19, TX19, 2, rfl, q172, ⟨by decide, by decide⟩, by decide +kernel, q606, Or.inr (Or.inr (Or.inl ⟨⟨"LeekReadings$Test", "of", "(LLeekReadings$Asked;)Z"⟩, "LeekReadings$Test", q562, q564, q609, ⟨by decide, by decide⟩, by decide +kernel, Or.inr (Or.inr q563)⟩))⟩
theorem fl_X15_17 : FL RX15 17 [13] 2 := by
  intro ci h
  simp only [List.mem_cons, List.not_mem_nil, or_false] at h
  subst h; exact ⟨RX15, _, TX15, 4, rfl, in_X15, by decide, Or.inl q1143, Or.inl rfl⟩
def X15_holds_J52 (N : Nat) (v30 : Nat) (v31 : Int64) (v32 : Nat) (h33 : Hp) : Option (Int32 × Hp) :=
  (po h33 v32 [13] 3 (.long v31)).bind fun h34 =>
  (gi h34 v30 [4] 1).bind fun v35 =>
  (rz (if v35 = 0 then (1 : Int32) else (0 : Int32))).bind fun v36 => some (v36, h34)
theorem w_X15_holds_J52 {l : Launch} {G : GT} {fr lo : Nat} {h0 : Hp} {N : Nat} {r : (Int32 × Hp)} (hfr : 196 ≤ fr) (hlo : 4961 ≤ lo)   {v30 : Nat} {v31 : Int64} {v32 : Nat} {h33 : Hp} (hF : X15_holds_J52 N v30 v31 v32 h33 = some r) : V l G cX15_holds RX15 "holds" 2 (Option.some Jvm.ClassFile.FieldType.boolean) fr lo h0 r.2 (QM G (some (.int r.1)) h0 r.2) 52 [(1, .ref v30)] [.long v31, .ref v32] h33 := by
  unfold X15_holds_J52 at hF
  refine v_put dX15_holds_52 pl_X15_38 (fun z => by cases z) rfl rfl hF (fun h34 hF => ?_)
  refine v_aload_n dX15_holds_55 rfl 0 rfl ?_
  refine v_geti dX15_holds_56 fl_X15_21 hF (fun v35 hF => ?_)
  refine v_tern (c := v35 = 0) (x := (1 : Int32)) (y := (0 : Int32)) (pcj := 67) (st := []) ?_ (fun kt kf => v_if_ne0 (tgt := 66) dX15_holds_59 (by decide) kt kf) (fun K => ?_) (fun K => ?_)
  · refine v_zchk hF (fun v36 hz hF => ?_)
    cases hF
    exact v_iret dX15_holds_67 rfl (nar_z hz) rfl rfl
  · refine v_iconst dX15_holds_62 (v := 1) (by decide) ?_
    refine v_goto (tgt := 67) dX15_holds_63 (by decide) ?_
    exact K
  · refine v_iconst dX15_holds_66 (v := 0) (by decide) ?_
    exact K
def X15_holds_J23 (N : Nat) (v24 : Nat) (v25 : Nat) (h26 : Hp) : Option (Int32 × Hp) :=
  (gi h26 v25 [4] 1).bind fun v27 =>
  if v27 = 0 then
    (gq h26 v24 [13] 1).bind fun v28 =>
    v28.elim
      (X15_holds_J52 N v25 (0 : Int64) v24 h26)
      (fun a29 =>
        (gr h26 v24 [13] 1).bind fun v37 =>
        bd2 (D_sum 128 v37 v25 h26) fun v38 h39 =>
        X15_holds_J52 N v25 v38 v24 h39)
  else
    some ((0 : Int32), h26)
theorem w_X15_holds_J23 {l : Launch} {G : GT} {fr lo : Nat} {h0 : Hp} {N : Nat} {r : (Int32 × Hp)} (hfr : 196 ≤ fr) (hlo : 4961 ≤ lo)   {v24 : Nat} {v25 : Nat} {h26 : Hp} (hF : X15_holds_J23 N v24 v25 h26 = some r) : V l G cX15_holds RX15 "holds" 2 (Option.some Jvm.ClassFile.FieldType.boolean) fr lo h0 r.2 (QM G (some (.int r.1)) h0 r.2) 23 [(0, .ref v24), (1, .ref v25)] [] h26 := by
  unfold X15_holds_J23 at hF
  refine v_aload_n dX15_holds_23 rfl 1 rfl ?_
  refine v_geti dX15_holds_24 fl_X15_21 hF (fun v27 hF => ?_)
  refine v_if_eq (tgt := 32) dX15_holds_27 (by decide) hF (fun hF => ?_) (fun hF => ?_)
  · refine v_aload_n dX15_holds_32 rfl 0 rfl ?_
    refine v_aload_n dX15_holds_33 rfl 0 rfl ?_
    refine v_getq dX15_holds_34 fl_X15_13 hF (fun v28 hF => ?_)
    refine v_ifnonnull (tgt := 44) dX15_holds_37 (by decide) hF (fun hq hG => ?_) (fun a29 hq hG => ?_)
    · subst hq
      have hF := hG
      refine v_lconst dX15_holds_40 (v := 0) (by decide) ?_
      refine v_goto (tgt := 52) dX15_holds_41 (by decide) ?_
      exact v_sub [1] rfl (w_X15_holds_J52 hfr hlo hF)
    · subst hq
      have hF := hG
      refine v_aload_n dX15_holds_44 rfl 0 rfl ?_
      refine v_getr dX15_holds_45 fl_X15_13 hF (fun v37 hF => ?_)
      refine v_aload_n dX15_holds_48 rfl 1 rfl ?_
      refine v_disp (pc' := 52) (f := fun z => .long z) (st := [.ref v24]) hF (fun v38 h39 hF => ?_) (fun v9 h9 e K => ?_)
      · exact v_sub [1] rfl (w_X15_holds_J52 hfr hlo hF)
      · rcases dd_sum 128 _ _ _ _ e with ⟨rc, frc, loc, hf1, hf2, ct⟩ | ⟨rc, frc, loc, hf1, hf2, ct⟩ | ⟨rc, frc, loc, hf1, hf2, ct⟩ | ⟨rc, frc, loc, hf1, hf2, ct⟩
        · exact v_calV1 dX15_holds_49 vl_X15_33_9 q573 rc ct rfl rfl (by omega) (by omega) (Nat.le_of_ble_eq_true rfl) K
        · exact v_calV1 dX15_holds_49 vl_X15_33_10 q593 rc ct rfl rfl (by omega) (by omega) (Nat.le_of_ble_eq_true rfl) K
        · exact v_calV1 dX15_holds_49 vl_X15_33_11 q579 rc ct rfl rfl (by omega) (by omega) (Nat.le_of_ble_eq_true rfl) K
        · exact v_calV1 dX15_holds_49 vl_X15_33_12 q576 rc ct rfl rfl (by omega) (by omega) (Nat.le_of_ble_eq_true rfl) K
  · refine v_iconst dX15_holds_30 (v := 0) (by decide) ?_
    cases hF
    exact v_iret dX15_holds_31 rfl (by decide) rfl rfl
def X15_holds_b (N : Nat) (a0 : Nat) (a1 : Nat) (h : Hp) : Option (Int32 × Hp) :=
  (pz h a1 [4] 1 (0 : Int32)).bind fun h21 =>
  (gq h21 a0 [13] 2).bind fun v22 =>
  v22.elim
    (X15_holds_J23 N a0 a1 h21)
    (fun a23 =>
      (gr h21 a0 [13] 2).bind fun v40 =>
      bd2 (D_test N 64 v40 a1 h21) fun v41 h42 =>
      if v41 = 0 then
        some ((0 : Int32), h42)
      else
        X15_holds_J23 N a0 a1 h42)
theorem w_X15_holds_b {l : Launch} {G : GT} {fr lo : Nat} {h0 : Hp} {N : Nat} {r : (Int32 × Hp)} (hfr : 196 ≤ fr) (hlo : 4961 ≤ lo) {a0 : Nat} {a1 : Nat} {h : Hp} (hF : X15_holds_b N a0 a1 h = some r) : V l G cX15_holds RX15 "holds" 2 (Option.some Jvm.ClassFile.FieldType.boolean) fr lo h0 r.2 (QM G (some (.int r.1)) h0 r.2) 0 [(0, .ref a0), (1, .ref a1)] [] h := by
  unfold X15_holds_b at hF
  refine v_aload_n dX15_holds_0 rfl 1 rfl ?_
  refine v_iconst dX15_holds_1 (v := 0) (by decide) ?_
  refine v_putz dX15_holds_2 pl_X15_21 (fun z => by cases z) hF (fun h21 hF => ?_)
  refine v_aload_n dX15_holds_5 rfl 0 rfl ?_
  refine v_getq dX15_holds_6 fl_X15_17 hF (fun v22 hF => ?_)
  refine v_ifnull (tgt := 23) dX15_holds_9 (by decide) hF (fun hq hG => ?_) (fun a23 hq hG => ?_)
  · subst hq
    have hF := hG
    exact v_sub [0, 1] rfl (w_X15_holds_J23 hfr hlo hF)
  · subst hq
    have hF := hG
    refine v_aload_n dX15_holds_12 rfl 0 rfl ?_
    refine v_getr dX15_holds_13 fl_X15_17 hF (fun v40 hF => ?_)
    refine v_aload_n dX15_holds_16 rfl 1 rfl ?_
    refine v_disp (pc' := 20) (f := fun z => .int z) (st := []) hF (fun v41 h42 hF => ?_) (fun v9 h9 e K => ?_)
    · refine v_if_eq (tgt := 30) dX15_holds_20 (by decide) hF (fun hF => ?_) (fun hF => ?_)
      · refine v_iconst dX15_holds_30 (v := 0) (by decide) ?_
        cases hF
        exact v_iret dX15_holds_31 rfl (by decide) rfl rfl
      · exact v_sub [0, 1] rfl (w_X15_holds_J23 hfr hlo hF)
    · rcases dd_test 64 _ _ _ _ e with ⟨rc, frc, loc, hf1, hf2, ct⟩ | ⟨rc, frc, loc, hf1, hf2, ct⟩ | ⟨rc, frc, loc, hf1, hf2, ct⟩
      · exact v_calV1 dX15_holds_17 vl_X15_27_14 q567 rc ct rfl rfl (by omega) (by omega) (Nat.le_of_ble_eq_true rfl) K
      · exact v_calV1 dX15_holds_17 vl_X15_27_15 q604 rc ct rfl rfl (by omega) (by omega) (Nat.le_of_ble_eq_true rfl) K
      · exact v_calV1 dX15_holds_17 vl_X15_27_16 q607 rc ct rfl rfl (by omega) (by omega) (Nat.le_of_ble_eq_true rfl) K
def X15_holds (N : Nat) (a0 : Nat) (a1 : Nat) (h : Hp) : Option (Int32 × Hp) := (ob h a0 [13]).bind fun _ => X15_holds_b N a0 a1 h
theorem rc_X15_holds {N : Nat}  {r : (Int32 × Hp)} {a0 : Nat} {a1 : Nat} {h : Hp} (hF : X15_holds N a0 a1 h = some r) : RC h a0 [13] := by
  obtain ⟨o, ho, -⟩ := Option.bind_eq_some_iff.mp hF
  exact ⟨o, ho⟩
theorem ct_X15_holds {l : Launch} {G : GT} {N : Nat} {r : (Int32 × Hp)} {a0 : Nat} {a1 : Nat} {h : Hp} (hF : X15_holds N a0 a1 h = some r) : Ct l G yX15_holds (ws_ yX15_holds cX15_holds 2 (Option.some Jvm.ClassFile.FieldType.boolean)) 196 4961 [.ref a0, .ref a1] h (some (.int r.1)) r.2 :=
  ct_of (by decide) (Nat.le_of_ble_eq_true rfl) (w_X15_holds_b (Nat.le_refl _) (Nat.le_refl _) (Option.bind_eq_some_iff.mp hF).choose_spec.2)
theorem vl_X5_19 : ∀ ci ∈ [13], VL RX5 19 ci yX15_holds 1 := by
  intro ci h
  simp only [List.mem_cons, List.not_mem_nil, or_false] at h
  subst h; exact ⟨RX15, TX15, 4, rfl, q168, ⟨by decide, by decide⟩, by decide +kernel, q559, Or.inl ⟨q558, q560⟩⟩
theorem fl_X5_7 : FL RX5 7 [5] 0 := by
  intro ci h
  simp only [List.mem_cons, List.not_mem_nil, or_false] at h
  subst h; exact ⟨RX5, _, TX5, 1, rfl, in_X5, by decide, Or.inl q349, Or.inl rfl⟩
theorem fl_X5_13 : FL RX5 13 [13] 0 := by
  intro ci h
  simp only [List.mem_cons, List.not_mem_nil, or_false] at h
  subst h; exact ⟨RX15, _, TX15, 4, rfl, in_X15, by decide, Or.inr ⟨_, q1141⟩, Or.inl rfl⟩
def X5_has_J39 (N : Nat) (c2 : Nat → Int32 → Nat → Int32 → Hp → Option (Int32 × Hp)) (v32 : Nat) (v33 : Int32) (v34 : Nat) (v35 : Int32) (h36 : Hp) : Option (Int32 × Hp) :=
  c2 v32 v33 v34 (v35 + (1 : Int32)) h36
theorem w_X5_has_J39 {l : Launch} {G : GT} {fr lo : Nat} {h0 : Hp} {N : Nat} {r : (Int32 × Hp)} (hfr : 197 ≤ fr) (hlo : 4982 ≤ lo) {c2 : Nat → Int32 → Nat → Int32 → Hp → Option (Int32 × Hp)} (hc2 : ∀ (v21 : Nat) (v22 : Int32) (v23 : Nat) (v24 : Int32) (h25 : Hp), c2 v21 v22 v23 v24 h25 = some r → V l G cX5_has RX5 "has" 4 (Option.some Jvm.ClassFile.FieldType.boolean) fr lo h0 r.2 (QM G (some (.int r.1)) h0 r.2) 2 [(0, .ref v21), (1, .int v22), (2, .ref v23), (3, .int v24)] [] h25) {v32 : Nat} {v33 : Int32} {v34 : Nat} {v35 : Int32} {h36 : Hp} (hF : X5_has_J39 N c2 v32 v33 v34 v35 h36 = some r) : V l G cX5_has RX5 "has" 4 (Option.some Jvm.ClassFile.FieldType.boolean) fr lo h0 r.2 (QM G (some (.int r.1)) h0 r.2) 39 [(0, .ref v32), (1, .int v33), (2, .ref v34), (3, .int v35)] [] h36 := by
  unfold X5_has_J39 at hF
  refine v_iinc dX5_has_39 3 rfl (v := v35 + (1 : Int32)) (by rfl) (Nat.le_of_ble_eq_true rfl) (L' := [(3, .int (v35 + (1 : Int32))), (0, .ref v32), (1, .int v33), (2, .ref v34)]) rfl ?_
  refine v_goto (tgt := 2) dX5_has_42 (by decide) ?_
  exact v_sub [1, 2, 3, 0] rfl (hc2 _ _ _ _ _ hF)
def X5_has_L2 (N : Nat) (x2 : Hp → Option (Int32 × Hp)) : Nat → Nat → Int32 → Nat → Int32 → Hp → Option (Int32 × Hp)
  | 0, _, _, _, _, _ => none
  | n41 + 1, v21, v22, v23, v24, h25 =>
    (gr h25 v21 [5] 0).bind fun v27 =>
    (alen h25 v27 7).bind fun v28 =>
    if v28 ≤ v24 then
      x2 h25
    else
      (gr h25 v21 [5] 0).bind fun v29 =>
      (aR h25 v29 7 v24).bind fun v30 =>
      (gi h25 v30 [13] 0).bind fun v31 =>
      if v31 = v22 then
        (gr h25 v21 [5] 0).bind fun v37 =>
        (aR h25 v37 7 v24).bind fun v38 =>
        bd2 (X15_holds N v38 v23 h25) fun v40 h39 =>
        if v40 = 0 then
          X5_has_J39 N (X5_has_L2 N x2 n41) v21 v22 v23 v24 h39
        else
          some ((1 : Int32), h39)
      else
        X5_has_J39 N (X5_has_L2 N x2 n41) v21 v22 v23 v24 h25
theorem w_X5_has_L2 {l : Launch} {G : GT} {fr lo : Nat} {h0 : Hp} {N : Nat} {r : (Int32 × Hp)} (hfr : 197 ≤ fr) (hlo : 4982 ≤ lo) {x2 : Hp → Option (Int32 × Hp)} (hx2 : ∀ (h26 : Hp), x2 h26 = some r → V l G cX5_has RX5 "has" 4 (Option.some Jvm.ClassFile.FieldType.boolean) fr lo h0 r.2 (QM G (some (.int r.1)) h0 r.2) 45 [] [] h26) : ∀ (n : Nat) (v21 : Nat) (v22 : Int32) (v23 : Nat) (v24 : Int32) (h25 : Hp), X5_has_L2 N x2 n v21 v22 v23 v24 h25 = some r → V l G cX5_has RX5 "has" 4 (Option.some Jvm.ClassFile.FieldType.boolean) fr lo h0 r.2 (QM G (some (.int r.1)) h0 r.2) 2 [(0, .ref v21), (1, .int v22), (2, .ref v23), (3, .int v24)] [] h25 := by
  intro n
  induction n with
  | zero =>
    intro v21 v22 v23 v24 h25 hF
    cases (show (none : Option (Int32 × Hp)) = some r from hF)
  | succ n hc2 =>
    intro v21 v22 v23 v24 h25 hF
    rw [X5_has_L2] at hF
    refine v_iload_n dX5_has_2 rfl 3 rfl ?_
    refine v_aload_n dX5_has_3 rfl 0 rfl ?_
    refine v_getr dX5_has_4 fl_X5_7 hF (fun v27 hF => ?_)
    refine v_alen (k := 7) rfl dX5_has_7 hF (fun v28 hF => ?_)
    refine v_icmp_ge (tgt := 45) dX5_has_8 (by decide) hF (fun hF => ?_) (fun hF => ?_)
    · exact v_sub [] rfl (hx2 _ hF)
    · refine v_aload_n dX5_has_11 rfl 0 rfl ?_
      refine v_getr dX5_has_12 fl_X5_7 hF (fun v29 hF => ?_)
      refine v_iload_n dX5_has_15 rfl 3 rfl ?_
      refine v_aaldr rfl rfl dX5_has_16 hF (fun v30 hF => ?_)
      refine v_geti dX5_has_17 fl_X5_13 hF (fun v31 hF => ?_)
      refine v_iload_n dX5_has_20 rfl 1 rfl ?_
      refine v_icmp_ne (tgt := 39) dX5_has_21 (by decide) hF (fun hF => ?_) (fun hF => ?_)
      · exact v_sub [0, 1, 2, 3] rfl (w_X5_has_J39 hfr hlo hc2 hF)
      · refine v_aload_n dX5_has_24 rfl 0 rfl ?_
        refine v_getr dX5_has_25 fl_X5_7 hF (fun v37 hF => ?_)
        refine v_iload_n dX5_has_28 rfl 3 rfl ?_
        refine v_aaldr rfl rfl dX5_has_29 hF (fun v38 hF => ?_)
        refine v_aload_n dX5_has_30 rfl 2 rfl ?_
        obtain ⟨v40, h39, e_v40, hF⟩ := bd2_spec hF
        refine v_calV1 dX5_has_31 vl_X5_19 q561 (rc_X15_holds e_v40) (ct_X15_holds e_v40) rfl rfl (Nat.le_trans (Nat.le_of_ble_eq_true rfl) hfr) (Nat.le_trans (Nat.le_of_ble_eq_true rfl) hlo) (Nat.le_of_ble_eq_true rfl) ?_
        refine v_if_eq (tgt := 39) dX5_has_34 (by decide) hF (fun hF => ?_) (fun hF => ?_)
        · exact v_sub [0, 1, 2, 3] rfl (w_X5_has_J39 hfr hlo hc2 hF)
        · refine v_iconst dX5_has_37 (v := 1) (by decide) ?_
          cases hF
          exact v_iret dX5_has_38 rfl (by decide) rfl rfl
def X5_has_b (N : Nat) (a0 : Nat) (a1 : Int32) (a2 : Nat) (h : Hp) : Option (Int32 × Hp) :=
  X5_has_L2 N (fun h42 =>
    some ((0 : Int32), h42)) N a0 a1 a2 (0 : Int32) h
theorem w_X5_has_b {l : Launch} {G : GT} {fr lo : Nat} {h0 : Hp} {N : Nat} {r : (Int32 × Hp)} (hfr : 197 ≤ fr) (hlo : 4982 ≤ lo) {a0 : Nat} {a1 : Int32} {a2 : Nat} {h : Hp} (hF : X5_has_b N a0 a1 a2 h = some r) : V l G cX5_has RX5 "has" 4 (Option.some Jvm.ClassFile.FieldType.boolean) fr lo h0 r.2 (QM G (some (.int r.1)) h0 r.2) 0 [(0, .ref a0), (1, .int a1), (2, .ref a2)] [] h := by
  unfold X5_has_b at hF
  refine v_iconst dX5_has_0 (v := 0) (by decide) ?_
  refine v_istore_n dX5_has_1 rfl (Nat.le_of_ble_eq_true rfl) (L' := [(3, .int (0 : Int32)), (0, .ref a0), (1, .int a1), (2, .ref a2)]) rfl ?_
  refine v_sub [1, 2, 3, 0] rfl (w_X5_has_L2 hfr hlo ?_ N _ _ _ _ _ hF)
  intro h42 hF
  refine v_iconst dX5_has_45 (v := 0) (by decide) ?_
  cases hF
  exact v_iret dX5_has_46 rfl (by decide) rfl rfl
def X5_has (N : Nat) (a0 : Nat) (a1 : Int32) (a2 : Nat) (h : Hp) : Option (Int32 × Hp) := (ob h a0 [5]).bind fun _ => X5_has_b N a0 a1 a2 h
theorem rc_X5_has {N : Nat}  {r : (Int32 × Hp)} {a0 : Nat} {a1 : Int32} {a2 : Nat} {h : Hp} (hF : X5_has N a0 a1 a2 h = some r) : RC h a0 [5] := by
  obtain ⟨o, ho, -⟩ := Option.bind_eq_some_iff.mp hF
  exact ⟨o, ho⟩
theorem ct_X5_has {l : Launch} {G : GT} {N : Nat} {r : (Int32 × Hp)} {a0 : Nat} {a1 : Int32} {a2 : Nat} {h : Hp} (hF : X5_has N a0 a1 a2 h = some r) : Ct l G yX5_has (ws_ yX5_has cX5_has 4 (Option.some Jvm.ClassFile.FieldType.boolean)) 197 4982 [.ref a0, .int a1, .ref a2] h (some (.int r.1)) r.2 :=
  ct_of (by decide) (Nat.le_of_ble_eq_true rfl) (w_X5_has_b (Nat.le_refl _) (Nat.le_refl _) (Option.bind_eq_some_iff.mp hF).choose_spec.2)
theorem vl_X0_282 : ∀ ci ∈ [0], VL RX0 282 ci yX0_about 2 := by
  intro ci h
  simp only [List.mem_cons, List.not_mem_nil, or_false] at h
  subst h; exact ⟨RX0, TX0, 31, rfl, q137, ⟨by decide, by decide⟩, by decide +kernel, q527, Or.inl ⟨q525, qs10⟩⟩
theorem vl_X0_286 : ∀ ci ∈ [0], VL RX0 286 ci yX0_law1 0 := by
  intro ci h
  simp only [List.mem_cons, List.not_mem_nil, or_false] at h
  subst h; exact ⟨RX0, TX0, 31, rfl, q137, ⟨by decide, by decide⟩, by decide +kernel, q538, Or.inl ⟨q536, qs11⟩⟩
theorem vl_X0_293 : ∀ ci ∈ [5], VL RX0 293 ci yX5_has 2 := by
  intro ci h
  simp only [List.mem_cons, List.not_mem_nil, or_false] at h
  subst h; exact ⟨RX5, TX5, 1, rfl, q145, ⟨by decide, by decide⟩, by decide +kernel, q555, Or.inl ⟨q554, q556⟩⟩
def C_isBarred_b (N : Nat) (a0 : Nat) (a1 : Int32) (h : Hp) : Option (Int32 × Hp) :=
  (C_about a0 (-1 : Int32) a1 h).bind fun h21 =>
  bd2 (C_law1 a0 h21) fun v23 h22 =>
  (gr h22 a0 [0] 6).bind fun v24 =>
  bd2 (X5_has N v23 (2 : Int32) v24 h22) fun v26 h25 =>
  (rz v26).bind fun v27 => some (v27, h25)
theorem w_C_isBarred_b {l : Launch} {G : GT} {fr lo : Nat} {h0 : Hp} {N : Nat} {r : (Int32 × Hp)} (hfr : 198 ≤ fr) (hlo : 5005 ≤ lo) {a0 : Nat} {a1 : Int32} {h : Hp} (hF : C_isBarred_b N a0 a1 h = some r) : V l G cX0_isBarred RX0 "isBarred" 2 (Option.some Jvm.ClassFile.FieldType.boolean) fr lo h0 r.2 (QM G (some (.int r.1)) h0 r.2) 0 [(0, .ref a0), (1, .int a1)] [] h := by
  unfold C_isBarred_b at hF
  refine v_aload_n dX0_isBarred_0 rfl 0 rfl ?_
  refine v_iconst dX0_isBarred_1 (v := -1) (by decide) ?_
  refine v_iload_n dX0_isBarred_2 rfl 1 rfl ?_
  obtain ⟨h21, e_h21, hF⟩ := Option.bind_eq_some_iff.mp hF
  refine v_calV0 dX0_isBarred_3 vl_X0_282 q528 (rc_C_about e_h21) (ct_C_about e_h21) rfl rfl (Nat.le_trans (Nat.le_of_ble_eq_true rfl) hfr) (Nat.le_trans (Nat.le_of_ble_eq_true rfl) hlo) (Nat.le_of_ble_eq_true rfl) ?_
  refine v_aload_n dX0_isBarred_6 rfl 0 rfl ?_
  obtain ⟨v23, h22, e_v23, hF⟩ := bd2_spec hF
  refine v_calV1 dX0_isBarred_7 vl_X0_286 q539 (rc_C_law1 e_v23) (ct_C_law1 e_v23) rfl rfl (Nat.le_trans (Nat.le_of_ble_eq_true rfl) hfr) (Nat.le_trans (Nat.le_of_ble_eq_true rfl) hlo) (Nat.le_of_ble_eq_true rfl) ?_
  refine v_iconst dX0_isBarred_10 (v := 2) (by decide) ?_
  refine v_aload_n dX0_isBarred_11 rfl 0 rfl ?_
  refine v_getr dX0_isBarred_12 fl_X0_43 hF (fun v24 hF => ?_)
  obtain ⟨v26, h25, e_v26, hF⟩ := bd2_spec hF
  refine v_calV1 dX0_isBarred_15 vl_X0_293 q557 (rc_X5_has e_v26) (ct_X5_has e_v26) rfl rfl (Nat.le_trans (Nat.le_of_ble_eq_true rfl) hfr) (Nat.le_trans (Nat.le_of_ble_eq_true rfl) hlo) (Nat.le_of_ble_eq_true rfl) ?_
  refine v_zchk hF (fun v27 hz hF => ?_)
  cases hF
  exact v_iret dX0_isBarred_18 rfl (nar_z hz) rfl rfl
def C_isBarred (N : Nat) (a0 : Nat) (a1 : Int32) (h : Hp) : Option (Int32 × Hp) := (ob h a0 [0]).bind fun _ => C_isBarred_b N a0 a1 h
theorem rc_C_isBarred {N : Nat}  {r : (Int32 × Hp)} {a0 : Nat} {a1 : Int32} {h : Hp} (hF : C_isBarred N a0 a1 h = some r) : RC h a0 [0] := by
  obtain ⟨o, ho, -⟩ := Option.bind_eq_some_iff.mp hF
  exact ⟨o, ho⟩
theorem ct_C_isBarred {l : Launch} {G : GT} {N : Nat} {r : (Int32 × Hp)} {a0 : Nat} {a1 : Int32} {h : Hp} (hF : C_isBarred N a0 a1 h = some r) : Ct l G yX0_isBarred (ws_ yX0_isBarred cX0_isBarred 2 (Option.some Jvm.ClassFile.FieldType.boolean)) 198 5005 [.ref a0, .int a1] h (some (.int r.1)) r.2 :=
  ct_of (by decide) (Nat.le_of_ble_eq_true rfl) (w_C_isBarred_b (Nat.le_refl _) (Nat.le_refl _) (Option.bind_eq_some_iff.mp hF).choose_spec.2)
def C_isOpen_b (h : Hp) (a0 : Nat) (a1 : Int32) (a2 : Int32) : Option Int32 :=
  (C_has a2 a1).bind fun v21 =>
  if v21 = 0 then
    (gr h a0 [0] 0).bind fun v22 =>
    (gr h v22 [1] 3).bind fun v23 =>
    (aI h v23 0 a1).bind fun v24 =>
    if (v24 &&& (a2 ^^^ (-1 : Int32))) = 0 then
      some (1 : Int32)
    else
      some (0 : Int32)
  else
    some (0 : Int32)
theorem w_C_isOpen_b {l : Launch} {G : GT} {fr lo : Nat} {h0 : Hp} {h : Hp} {r : Int32} (hfr : 1 ≤ fr) (hlo : 21 ≤ lo) {a0 : Nat} {a1 : Int32} {a2 : Int32} (hF : C_isOpen_b h a0 a1 a2 = some r) : V l G cX0_isOpen RX0 "isOpen" 3 (Option.some Jvm.ClassFile.FieldType.boolean) fr lo h0 h (QM G (some (.int r)) h0 h) 0 [(0, .ref a0), (1, .int a1), (2, .int a2)] [] h := by
  unfold C_isOpen_b at hF
  refine v_iload_n dX0_isOpen_0 rfl 2 rfl ?_
  refine v_iload_n dX0_isOpen_1 rfl 1 rfl ?_
  obtain ⟨v21, e_v21, hF⟩ := Option.bind_eq_some_iff.mp hF
  refine v_calS1 dX0_isOpen_2 sl_X0_141 q516 (ct_C_has e_v21) rfl rfl (Nat.le_trans (Nat.le_of_ble_eq_true rfl) hfr) (Nat.le_trans (Nat.le_of_ble_eq_true rfl) hlo) (Nat.le_of_ble_eq_true rfl) ?_
  refine v_if_ne (tgt := 28) dX0_isOpen_5 (by decide) hF (fun hF => ?_) (fun hF => ?_)
  · refine v_iconst dX0_isOpen_28 (v := 0) (by decide) ?_
    cases hF
    exact v_iret dX0_isOpen_29 rfl (by decide) rfl rfl
  · refine v_aload_n dX0_isOpen_8 rfl 0 rfl ?_
    refine v_getr dX0_isOpen_9 fl_X0_10 hF (fun v22 hF => ?_)
    refine v_getr dX0_isOpen_12 fl_X0_145 hF (fun v23 hF => ?_)
    refine v_iload_n dX0_isOpen_15 rfl 1 rfl ?_
    refine v_iald dX0_isOpen_16 hF (fun v24 hF => ?_)
    refine v_iload_n dX0_isOpen_17 rfl 2 rfl ?_
    refine v_iconst dX0_isOpen_18 (v := -1) (by decide) ?_
    refine v_ixor dX0_isOpen_19 ?_
    refine v_iand dX0_isOpen_20 ?_
    refine v_if_ne (tgt := 28) dX0_isOpen_21 (by decide) hF (fun hF => ?_) (fun hF => ?_)
    · refine v_iconst dX0_isOpen_28 (v := 0) (by decide) ?_
      cases hF
      exact v_iret dX0_isOpen_29 rfl (by decide) rfl rfl
    · refine v_iconst dX0_isOpen_24 (v := 1) (by decide) ?_
      refine v_goto (tgt := 29) dX0_isOpen_25 (by decide) ?_
      cases hF
      exact v_iret dX0_isOpen_29 rfl (by decide) rfl rfl
def C_isOpen (h : Hp) (a0 : Nat) (a1 : Int32) (a2 : Int32) : Option Int32 := (ob h a0 [0]).bind fun _ => C_isOpen_b h a0 a1 a2
theorem rc_C_isOpen {h : Hp}  {r : Int32} {a0 : Nat} {a1 : Int32} {a2 : Int32} (hF : C_isOpen h a0 a1 a2 = some r) : RC h a0 [0] := by
  obtain ⟨o, ho, -⟩ := Option.bind_eq_some_iff.mp hF
  exact ⟨o, ho⟩
theorem ct_C_isOpen {l : Launch} {G : GT} {h : Hp} {r : Int32} {a0 : Nat} {a1 : Int32} {a2 : Int32} (hF : C_isOpen h a0 a1 a2 = some r) : Ct l G yX0_isOpen (ws_ yX0_isOpen cX0_isOpen 3 (Option.some Jvm.ClassFile.FieldType.boolean)) 1 21 [.ref a0, .int a1, .int a2] h (some (.int r)) h :=
  ct_of (by decide) (Nat.le_of_ble_eq_true rfl) (w_C_isOpen_b (Nat.le_refl _) (Nat.le_refl _) (Option.bind_eq_some_iff.mp hF).choose_spec.2)
theorem vl_X0_176 : ∀ ci ∈ [0], VL RX0 176 ci yX0_isRead 1 := by
  intro ci h
  simp only [List.mem_cons, List.not_mem_nil, or_false] at h
  subst h; exact ⟨RX0, TX0, 31, rfl, q137, ⟨by decide, by decide⟩, by decide +kernel, q512, Or.inl ⟨q510, qs7⟩⟩
theorem vl_X0_179 : ∀ ci ∈ [0], VL RX0 179 ci yX0_isOpen 2 := by
  intro ci h
  simp only [List.mem_cons, List.not_mem_nil, or_false] at h
  subst h; exact ⟨RX0, TX0, 31, rfl, q137, ⟨by decide, by decide⟩, by decide +kernel, q519, Or.inl ⟨q517, qs8⟩⟩
theorem vl_X0_182 : ∀ ci ∈ [0], VL RX0 182 ci yX0_isBarred 1 := by
  intro ci h
  simp only [List.mem_cons, List.not_mem_nil, or_false] at h
  subst h; exact ⟨RX0, TX0, 31, rfl, q137, ⟨by decide, by decide⟩, by decide +kernel, q523, Or.inl ⟨q521, qs9⟩⟩
def C_of_b (N : Nat) (a0 : Nat) (a1 : Int32) (a2 : Int32) (h : Hp) : Option (Int32 × Hp) :=
  (C_isBook h a0 a1).bind fun v21 =>
  if v21 = 0 then
    some ((-1 : Int32), h)
  else
    if a2.toInt < 0 ∨ 5 < a2.toInt then
      some ((-1 : Int32), h)
    else
    if a2.toInt = 0 then
      (gr h a0 [0] 0).bind fun v22 =>
      (gr h v22 [1] 1).bind fun v23 =>
      (aI h v23 0 a1).bind fun v24 =>
      some (v24, h)
    else
    if a2.toInt = 1 then
      (gr h a0 [0] 0).bind fun v25 =>
      (gr h v25 [1] 2).bind fun v26 =>
      (aI h v26 0 a1).bind fun v27 =>
      some (v27, h)
    else
    if a2.toInt = 2 then
      (gr h a0 [0] 0).bind fun v28 =>
      (gr h v28 [1] 3).bind fun v29 =>
      (aI h v29 0 a1).bind fun v30 =>
      some (v30, h)
    else
    if a2.toInt = 3 then
      (C_isRead h a0 a1).bind fun v31 =>
      some ((if v31 = 0 then (0 : Int32) else (1 : Int32)), h)
    else
    if a2.toInt = 4 then
      (C_books h a0).bind fun v32 =>
      (gi h v32 [2] 1).bind fun v33 =>
      (C_isOpen h a0 a1 v33).bind fun v34 =>
      some ((if v34 = 0 then (0 : Int32) else (1 : Int32)), h)
    else
      bd2 (C_isBarred N a0 a1 h) fun v36 h35 =>
      some ((if v36 = 0 then (0 : Int32) else (1 : Int32)), h35)
theorem w_C_of_b {l : Launch} {G : GT} {fr lo : Nat} {h0 : Hp} {N : Nat} {r : (Int32 × Hp)} (hfr : 199 ≤ fr) (hlo : 5026 ≤ lo) {a0 : Nat} {a1 : Int32} {a2 : Int32} {h : Hp} (hF : C_of_b N a0 a1 a2 h = some r) : V l G cX0_of RX0 "of" 3 (Option.some Jvm.ClassFile.FieldType.int) fr lo h0 r.2 (QM G (some (.int r.1)) h0 r.2) 0 [(0, .ref a0), (1, .int a1), (2, .int a2)] [] h := by
  unfold C_of_b at hF
  refine v_aload_n dX0_of_0 rfl 0 rfl ?_
  refine v_iload_n dX0_of_1 rfl 1 rfl ?_
  obtain ⟨v21, e_v21, hF⟩ := Option.bind_eq_some_iff.mp hF
  refine v_calV1 dX0_of_2 vl_X0_172 q505 (rc_C_isBook e_v21) (ct_C_isBook e_v21) rfl rfl (Nat.le_trans (Nat.le_of_ble_eq_true rfl) hfr) (Nat.le_trans (Nat.le_of_ble_eq_true rfl) hlo) (Nat.le_of_ble_eq_true rfl) ?_
  refine v_if_ne (tgt := 10) dX0_of_5 (by decide) hF (fun hF => ?_) (fun hF => ?_)
  · refine v_iload_n dX0_of_10 rfl 2 rfl ?_
    refine v_swOut (td := 127) dX0_of_11 (by decide) hF (fun hF => ?_) (fun hs1 hs2 hF => ?_)
    · refine v_iconst dX0_of_127 (v := -1) (by decide) ?_
      cases hF
      exact v_iret dX0_of_128 rfl rfl rfl rfl
    · refine v_case (i := 0) hF (fun hc hF => ?_) (fun hc0 hF => ?_)
      · refine v_swIn (i := 0) (off := 37) (tgt := 48) dX0_of_11 hc (by decide) (by decide) rfl (by decide) ?_
        refine v_aload_n dX0_of_48 rfl 0 rfl ?_
        refine v_getr dX0_of_49 fl_X0_10 hF (fun v22 hF => ?_)
        refine v_getr dX0_of_52 fl_X0_159 hF (fun v23 hF => ?_)
        refine v_iload_n dX0_of_55 rfl 1 rfl ?_
        refine v_iald dX0_of_56 hF (fun v24 hF => ?_)
        cases hF
        exact v_iret dX0_of_57 rfl rfl rfl rfl
      refine v_case (i := 1) hF (fun hc hF => ?_) (fun hc1 hF => ?_)
      · refine v_swIn (i := 1) (off := 47) (tgt := 58) dX0_of_11 hc (by decide) (by decide) rfl (by decide) ?_
        refine v_aload_n dX0_of_58 rfl 0 rfl ?_
        refine v_getr dX0_of_59 fl_X0_10 hF (fun v25 hF => ?_)
        refine v_getr dX0_of_62 fl_X0_162 hF (fun v26 hF => ?_)
        refine v_iload_n dX0_of_65 rfl 1 rfl ?_
        refine v_iald dX0_of_66 hF (fun v27 hF => ?_)
        cases hF
        exact v_iret dX0_of_67 rfl rfl rfl rfl
      refine v_case (i := 2) hF (fun hc hF => ?_) (fun hc2 hF => ?_)
      · refine v_swIn (i := 2) (off := 57) (tgt := 68) dX0_of_11 hc (by decide) (by decide) rfl (by decide) ?_
        refine v_aload_n dX0_of_68 rfl 0 rfl ?_
        refine v_getr dX0_of_69 fl_X0_10 hF (fun v28 hF => ?_)
        refine v_getr dX0_of_72 fl_X0_145 hF (fun v29 hF => ?_)
        refine v_iload_n dX0_of_75 rfl 1 rfl ?_
        refine v_iald dX0_of_76 hF (fun v30 hF => ?_)
        cases hF
        exact v_iret dX0_of_77 rfl rfl rfl rfl
      refine v_case (i := 3) hF (fun hc hF => ?_) (fun hc3 hF => ?_)
      · refine v_swIn (i := 3) (off := 67) (tgt := 78) dX0_of_11 hc (by decide) (by decide) rfl (by decide) ?_
        refine v_aload_n dX0_of_78 rfl 0 rfl ?_
        refine v_iload_n dX0_of_79 rfl 1 rfl ?_
        obtain ⟨v31, e_v31, hF⟩ := Option.bind_eq_some_iff.mp hF
        refine v_calV1 dX0_of_80 vl_X0_176 q513 (rc_C_isRead e_v31) (ct_C_isRead e_v31) rfl rfl (Nat.le_trans (Nat.le_of_ble_eq_true rfl) hfr) (Nat.le_trans (Nat.le_of_ble_eq_true rfl) hlo) (Nat.le_of_ble_eq_true rfl) ?_
        refine v_tern (c := v31 = 0) (x := (0 : Int32)) (y := (1 : Int32)) (pcj := 91) (st := []) ?_ (fun kt kf => v_if_eq0 (tgt := 90) dX0_of_83 (by decide) kt kf) (fun K => ?_) (fun K => ?_)
        · cases hF
          exact v_iret dX0_of_91 rfl rfl rfl rfl
        · refine v_iconst dX0_of_90 (v := 0) (by decide) ?_
          exact K
        · refine v_iconst dX0_of_86 (v := 1) (by decide) ?_
          refine v_goto (tgt := 91) dX0_of_87 (by decide) ?_
          exact K
      refine v_case (i := 4) hF (fun hc hF => ?_) (fun hc4 hF => ?_)
      · refine v_swIn (i := 4) (off := 81) (tgt := 92) dX0_of_11 hc (by decide) (by decide) rfl (by decide) ?_
        refine v_aload_n dX0_of_92 rfl 0 rfl ?_
        refine v_iload_n dX0_of_93 rfl 1 rfl ?_
        refine v_aload_n dX0_of_94 rfl 0 rfl ?_
        obtain ⟨v32, e_v32, hF⟩ := Option.bind_eq_some_iff.mp hF
        refine v_calV1 dX0_of_95 vl_X0_135 q486 (rc_C_books e_v32) (ct_C_books e_v32) rfl rfl (Nat.le_trans (Nat.le_of_ble_eq_true rfl) hfr) (Nat.le_trans (Nat.le_of_ble_eq_true rfl) hlo) (Nat.le_of_ble_eq_true rfl) ?_
        refine v_geti dX0_of_98 fl_X0_138 hF (fun v33 hF => ?_)
        obtain ⟨v34, e_v34, hF⟩ := Option.bind_eq_some_iff.mp hF
        refine v_calV1 dX0_of_101 vl_X0_179 q520 (rc_C_isOpen e_v34) (ct_C_isOpen e_v34) rfl rfl (Nat.le_trans (Nat.le_of_ble_eq_true rfl) hfr) (Nat.le_trans (Nat.le_of_ble_eq_true rfl) hlo) (Nat.le_of_ble_eq_true rfl) ?_
        refine v_tern (c := v34 = 0) (x := (0 : Int32)) (y := (1 : Int32)) (pcj := 112) (st := []) ?_ (fun kt kf => v_if_eq0 (tgt := 111) dX0_of_104 (by decide) kt kf) (fun K => ?_) (fun K => ?_)
        · cases hF
          exact v_iret dX0_of_112 rfl rfl rfl rfl
        · refine v_iconst dX0_of_111 (v := 0) (by decide) ?_
          exact K
        · refine v_iconst dX0_of_107 (v := 1) (by decide) ?_
          refine v_goto (tgt := 112) dX0_of_108 (by decide) ?_
          exact K
      refine v_swIn (i := 5) (off := 102) (tgt := 113) dX0_of_11 (by omega) (by decide) (by decide) rfl (by decide) ?_
      refine v_aload_n dX0_of_113 rfl 0 rfl ?_
      refine v_iload_n dX0_of_114 rfl 1 rfl ?_
      obtain ⟨v36, h35, e_v36, hF⟩ := bd2_spec hF
      refine v_calV1 dX0_of_115 vl_X0_182 q524 (rc_C_isBarred e_v36) (ct_C_isBarred e_v36) rfl rfl (Nat.le_trans (Nat.le_of_ble_eq_true rfl) hfr) (Nat.le_trans (Nat.le_of_ble_eq_true rfl) hlo) (Nat.le_of_ble_eq_true rfl) ?_
      refine v_tern (c := v36 = 0) (x := (0 : Int32)) (y := (1 : Int32)) (pcj := 126) (st := []) ?_ (fun kt kf => v_if_eq0 (tgt := 125) dX0_of_118 (by decide) kt kf) (fun K => ?_) (fun K => ?_)
      · cases hF
        exact v_iret dX0_of_126 rfl rfl rfl rfl
      · refine v_iconst dX0_of_125 (v := 0) (by decide) ?_
        exact K
      · refine v_iconst dX0_of_121 (v := 1) (by decide) ?_
        refine v_goto (tgt := 126) dX0_of_122 (by decide) ?_
        exact K
  · refine v_iconst dX0_of_8 (v := -1) (by decide) ?_
    cases hF
    exact v_iret dX0_of_9 rfl rfl rfl rfl
def C_of (N : Nat) (a0 : Nat) (a1 : Int32) (a2 : Int32) (h : Hp) : Option (Int32 × Hp) := (ob h a0 [0]).bind fun _ => C_of_b N a0 a1 a2 h
theorem rc_C_of {N : Nat}  {r : (Int32 × Hp)} {a0 : Nat} {a1 : Int32} {a2 : Int32} {h : Hp} (hF : C_of N a0 a1 a2 h = some r) : RC h a0 [0] := by
  obtain ⟨o, ho, -⟩ := Option.bind_eq_some_iff.mp hF
  exact ⟨o, ho⟩
theorem ct_C_of {l : Launch} {G : GT} {N : Nat} {r : (Int32 × Hp)} {a0 : Nat} {a1 : Int32} {a2 : Int32} {h : Hp} (hF : C_of N a0 a1 a2 h = some r) : Ct l G yX0_of (ws_ yX0_of cX0_of 3 (Option.some Jvm.ClassFile.FieldType.int)) 199 5026 [.ref a0, .int a1, .int a2] h (some (.int r.1)) r.2 :=
  ct_of (by decide) (Nat.le_of_ble_eq_true rfl) (w_C_of_b (Nat.le_refl _) (Nat.le_refl _) (Option.bind_eq_some_iff.mp hF).choose_spec.2)
theorem pl_X0_122 : PL RX0 122 [1] 9 (.int) false := by
  intro ci h
  simp only [List.mem_cons, List.not_mem_nil, or_false] at h
  subst h; exact ⟨RX1, _, TX1, 12, tyX1, rfl, in_X1, by decide, Or.inr ⟨rfl, _, q267⟩, Or.inl rfl, tyX1_ok, rfl, by decide +kernel, rfl, fun z => by cases z⟩
def C_leek_b (a0 : Nat) (a1 : Int32) (h : Hp) : Option (Int32 × Hp) :=
  (C_in a1.toInt64 (0 : Int64) (3 : Int64)).bind fun v21 =>
  if v21 = 0 then
    bd2 (C_tell a0 (-1 : Int32) h) fun v37 h36 =>
    some (v37, h36)
  else
    (C_nLeeks h a0).bind fun v22 =>
    if v22 = (4 : Int32) then
      bd2 (C_tell a0 (-5 : Int32) h) fun v35 h34 =>
      some (v35, h34)
    else
      (gr h a0 [0] 0).bind fun v23 =>
      (gr h v23 [1] 4).bind fun v24 =>
      (sI h v24 0 v22 a1).bind fun h25 =>
      (C_books h25 a0).bind fun v26 =>
      (gr h25 v26 [2] 0).bind fun v27 =>
      (sI h25 v27 0 v22 (0 : Int32)).bind fun h28 =>
      (gr h28 a0 [0] 0).bind fun v29 =>
      (gi h28 v29 [1] 9).bind fun v30 =>
      (po h28 v29 [1] 9 (.int (v30 + (1 : Int32)))).bind fun h31 =>
      bd2 (C_settled a0 v22 h31) fun v33 h32 =>
      some (v33, h32)
theorem w_C_leek_b {l : Launch} {G : GT} {fr lo : Nat} {h0 : Hp} {r : (Int32 × Hp)} (hfr : 3 ≤ fr) (hlo : 72 ≤ lo) {a0 : Nat} {a1 : Int32} {h : Hp} (hF : C_leek_b a0 a1 h = some r) : V l G cX0_leek RX0 "leek" 3 (Option.some Jvm.ClassFile.FieldType.int) fr lo h0 r.2 (QM G (some (.int r.1)) h0 r.2) 0 [(0, .ref a0), (1, .int a1)] [] h := by
  unfold C_leek_b at hF
  refine v_iload_n dX0_leek_0 rfl 1 rfl ?_
  refine v_i2l dX0_leek_1 ?_
  refine v_lconst dX0_leek_2 (v := 0) (by decide) ?_
  refine v_ldc2 dX0_leek_3 q478 ?_
  obtain ⟨v21, e_v21, hF⟩ := Option.bind_eq_some_iff.mp hF
  refine v_calS1 dX0_leek_6 sl_X0_128 q468 (ct_C_in e_v21) rfl rfl (Nat.le_trans (Nat.le_of_ble_eq_true rfl) hfr) (Nat.le_trans (Nat.le_of_ble_eq_true rfl) hlo) (Nat.le_of_ble_eq_true rfl) ?_
  refine v_if_ne (tgt := 18) dX0_leek_9 (by decide) hF (fun hF => ?_) (fun hF => ?_)
  · refine v_aload_n dX0_leek_18 rfl 0 rfl ?_
    obtain ⟨v22, e_v22, hF⟩ := Option.bind_eq_some_iff.mp hF
    refine v_calV1 dX0_leek_19 vl_X0_132 q587 (rc_C_nLeeks e_v22) (ct_C_nLeeks e_v22) rfl rfl (Nat.le_trans (Nat.le_of_ble_eq_true rfl) hfr) (Nat.le_trans (Nat.le_of_ble_eq_true rfl) hlo) (Nat.le_of_ble_eq_true rfl) ?_
    refine v_istore_n dX0_leek_22 rfl (Nat.le_of_ble_eq_true rfl) (L' := [(2, .int v22), (0, .ref a0), (1, .int a1)]) rfl ?_
    refine v_iload_n dX0_leek_23 rfl 0 rfl ?_
    refine v_iconst dX0_leek_24 (v := 4) (by decide) ?_
    refine v_icmp_ne (tgt := 35) dX0_leek_25 (by decide) hF (fun hF => ?_) (fun hF => ?_)
    · refine v_aload_n dX0_leek_35 rfl 1 rfl ?_
      refine v_getr dX0_leek_36 fl_X0_10 hF (fun v23 hF => ?_)
      refine v_getr dX0_leek_39 fl_X0_185 hF (fun v24 hF => ?_)
      refine v_iload_n dX0_leek_42 rfl 0 rfl ?_
      refine v_iload_n dX0_leek_43 rfl 2 rfl ?_
      refine v_iast dX0_leek_44 hF (fun h25 hF => ?_)
      refine v_aload_n dX0_leek_45 rfl 1 rfl ?_
      obtain ⟨v26, e_v26, hF⟩ := Option.bind_eq_some_iff.mp hF
      refine v_calV1 dX0_leek_46 vl_X0_135 q486 (rc_C_books e_v26) (ct_C_books e_v26) rfl rfl (Nat.le_trans (Nat.le_of_ble_eq_true rfl) hfr) (Nat.le_trans (Nat.le_of_ble_eq_true rfl) hlo) (Nat.le_of_ble_eq_true rfl) ?_
      refine v_getr dX0_leek_49 fl_X0_188 hF (fun v27 hF => ?_)
      refine v_iload_n dX0_leek_52 rfl 0 rfl ?_
      refine v_iconst dX0_leek_53 (v := 0) (by decide) ?_
      refine v_iast dX0_leek_54 hF (fun h28 hF => ?_)
      refine v_aload_n dX0_leek_55 rfl 1 rfl ?_
      refine v_getr dX0_leek_56 fl_X0_10 hF (fun v29 hF => ?_)
      refine v_dup dX0_leek_59 rfl ?_
      refine v_geti dX0_leek_60 fl_X0_122 hF (fun v30 hF => ?_)
      refine v_iconst dX0_leek_63 (v := 1) (by decide) ?_
      refine v_iadd dX0_leek_64 ?_
      refine v_put dX0_leek_65 pl_X0_122 (fun z => by cases z) rfl rfl hF (fun h31 hF => ?_)
      refine v_aload_n dX0_leek_68 rfl 1 rfl ?_
      refine v_iload_n dX0_leek_69 rfl 0 rfl ?_
      obtain ⟨v33, h32, e_v33, hF⟩ := bd2_spec hF
      refine v_calV1 dX0_leek_70 vl_X0_169 q490 (rc_C_settled e_v33) (ct_C_settled e_v33) rfl rfl (Nat.le_trans (Nat.le_of_ble_eq_true rfl) hfr) (Nat.le_trans (Nat.le_of_ble_eq_true rfl) hlo) (Nat.le_of_ble_eq_true rfl) ?_
      cases hF
      exact v_iret dX0_leek_73 rfl rfl rfl rfl
    · refine v_aload_n dX0_leek_28 rfl 1 rfl ?_
      refine v_bipush dX0_leek_29 (v := -5) (by decide) ?_
      obtain ⟨v35, h34, e_v35, hF⟩ := bd2_spec hF
      refine v_calV1 dX0_leek_31 vl_X0_112 q494 (rc_C_tell e_v35) (ct_C_tell e_v35) rfl rfl (Nat.le_trans (Nat.le_of_ble_eq_true rfl) hfr) (Nat.le_trans (Nat.le_of_ble_eq_true rfl) hlo) (Nat.le_of_ble_eq_true rfl) ?_
      cases hF
      exact v_iret dX0_leek_34 rfl rfl rfl rfl
  · refine v_aload_n dX0_leek_12 rfl 0 rfl ?_
    refine v_iconst dX0_leek_13 (v := -1) (by decide) ?_
    obtain ⟨v37, h36, e_v37, hF⟩ := bd2_spec hF
    refine v_calV1 dX0_leek_14 vl_X0_112 q494 (rc_C_tell e_v37) (ct_C_tell e_v37) rfl rfl (Nat.le_trans (Nat.le_of_ble_eq_true rfl) hfr) (Nat.le_trans (Nat.le_of_ble_eq_true rfl) hlo) (Nat.le_of_ble_eq_true rfl) ?_
    cases hF
    exact v_iret dX0_leek_17 rfl rfl rfl rfl
def C_leek (a0 : Nat) (a1 : Int32) (h : Hp) : Option (Int32 × Hp) := (ob h a0 [0]).bind fun _ => C_leek_b a0 a1 h
theorem rc_C_leek  {r : (Int32 × Hp)} {a0 : Nat} {a1 : Int32} {h : Hp} (hF : C_leek a0 a1 h = some r) : RC h a0 [0] := by
  obtain ⟨o, ho, -⟩ := Option.bind_eq_some_iff.mp hF
  exact ⟨o, ho⟩
theorem ct_C_leek {l : Launch} {G : GT} {r : (Int32 × Hp)} {a0 : Nat} {a1 : Int32} {h : Hp} (hF : C_leek a0 a1 h = some r) : Ct l G yX0_leek (ws_ yX0_leek cX0_leek 3 (Option.some Jvm.ClassFile.FieldType.int)) 3 72 [.ref a0, .int a1] h (some (.int r.1)) r.2 :=
  ct_of (by decide) (Nat.le_of_ble_eq_true rfl) (w_C_leek_b (Nat.le_refl _) (Nat.le_refl _) (Option.bind_eq_some_iff.mp hF).choose_spec.2)
theorem fl_X5_23 : FL RX5 23 [13] 3 := by
  intro ci h
  simp only [List.mem_cons, List.not_mem_nil, or_false] at h
  subst h; exact ⟨RX15, _, TX15, 4, rfl, in_X15, by decide, Or.inr ⟨_, q1145⟩, Or.inl rfl⟩
def X5_tells_J67 (N : Nat) (c7 : Nat → Int32 → Nat → Int32 → Int64 → Int32 → Hp → Option (Int32 × Hp)) (v35 : Nat) (v36 : Int32) (v37 : Nat) (v38 : Int32) (v39 : Int64) (v40 : Int32) (h41 : Hp) : Option (Int32 × Hp) :=
  c7 v35 v36 v37 v38 v39 (v40 + (1 : Int32)) h41
theorem w_X5_tells_J67 {l : Launch} {G : GT} {fr lo : Nat} {h0 : Hp} {N : Nat} {r : (Int32 × Hp)} (hfr : 197 ≤ fr) (hlo : 4982 ≤ lo) {c7 : Nat → Int32 → Nat → Int32 → Int64 → Int32 → Hp → Option (Int32 × Hp)} (hc7 : ∀ (v21 : Nat) (v22 : Int32) (v23 : Nat) (v24 : Int32) (v25 : Int64) (v26 : Int32) (h27 : Hp), c7 v21 v22 v23 v24 v25 v26 h27 = some r → V l G cX5_tells RX5 "tells" 8 (Option.some Jvm.ClassFile.FieldType.int) fr lo h0 r.2 (QM G (some (.int r.1)) h0 r.2) 7 [(0, .ref v21), (1, .int v22), (2, .ref v23), (4, .int v24), (5, .long v25), (7, .int v26)] [] h27) {v35 : Nat} {v36 : Int32} {v37 : Nat} {v38 : Int32} {v39 : Int64} {v40 : Int32} {h41 : Hp} (hF : X5_tells_J67 N c7 v35 v36 v37 v38 v39 v40 h41 = some r) : V l G cX5_tells RX5 "tells" 8 (Option.some Jvm.ClassFile.FieldType.int) fr lo h0 r.2 (QM G (some (.int r.1)) h0 r.2) 67 [(0, .ref v35), (1, .int v36), (2, .ref v37), (4, .int v38), (5, .long v39), (7, .int v40)] [] h41 := by
  unfold X5_tells_J67 at hF
  refine v_iinc dX5_tells_67 5 rfl (v := v40 + (1 : Int32)) (by rfl) (Nat.le_of_ble_eq_true rfl) (L' := [(7, .int (v40 + (1 : Int32))), (0, .ref v35), (1, .int v36), (2, .ref v37), (4, .int v38), (5, .long v39)]) rfl ?_
  refine v_goto (tgt := 7) dX5_tells_70 (by decide) ?_
  exact v_sub [1, 2, 3, 4, 5, 0] rfl (hc7 _ _ _ _ _ _ _ hF)
def X5_tells_L7 (N : Nat) (x7 : Int64 → Hp → Option (Int32 × Hp)) : Nat → Nat → Int32 → Nat → Int32 → Int64 → Int32 → Hp → Option (Int32 × Hp)
  | 0, _, _, _, _, _, _, _ => none
  | n51 + 1, v21, v22, v23, v24, v25, v26, h27 =>
    (gr h27 v21 [5] 0).bind fun v30 =>
    (alen h27 v30 7).bind fun v31 =>
    if v31 ≤ v26 then
      x7 v25 h27
    else
      (gr h27 v21 [5] 0).bind fun v32 =>
      (aR h27 v32 7 v26).bind fun v33 =>
      (gi h27 v33 [13] 0).bind fun v34 =>
      if v34 = v22 then
        (gr h27 v21 [5] 0).bind fun v42 =>
        (aR h27 v42 7 v26).bind fun v43 =>
        bd2 (X15_holds N v43 v23 h27) fun v45 h44 =>
        if v45 = 0 then
          X5_tells_J67 N (X5_tells_L7 N x7 n51) v21 v22 v23 v24 v25 v26 h44
        else
          (gr h44 v21 [5] 0).bind fun v46 =>
          (aR h44 v46 7 v26).bind fun v47 =>
          (gl h44 v47 [13] 3).bind fun v48 =>
          (some (if v48 < v24.toInt64 then v48 else v24.toInt64)).bind fun (v49 : Int64) =>
          (some (if v49 < (0 : Int64) then (0 : Int64) else v49)).bind fun (v50 : Int64) =>
          X5_tells_J67 N (X5_tells_L7 N x7 n51) v21 v22 v23 v24 v50 v26 h44
      else
        X5_tells_J67 N (X5_tells_L7 N x7 n51) v21 v22 v23 v24 v25 v26 h27
theorem w_X5_tells_L7 {l : Launch} {G : GT} {fr lo : Nat} {h0 : Hp} {N : Nat} {r : (Int32 × Hp)} (hfr : 197 ≤ fr) (hlo : 4982 ≤ lo) {x7 : Int64 → Hp → Option (Int32 × Hp)} (hx7 : ∀ (v28 : Int64) (h29 : Hp), x7 v28 h29 = some r → V l G cX5_tells RX5 "tells" 8 (Option.some Jvm.ClassFile.FieldType.int) fr lo h0 r.2 (QM G (some (.int r.1)) h0 r.2) 73 [(5, .long v28)] [] h29) : ∀ (n : Nat) (v21 : Nat) (v22 : Int32) (v23 : Nat) (v24 : Int32) (v25 : Int64) (v26 : Int32) (h27 : Hp), X5_tells_L7 N x7 n v21 v22 v23 v24 v25 v26 h27 = some r → V l G cX5_tells RX5 "tells" 8 (Option.some Jvm.ClassFile.FieldType.int) fr lo h0 r.2 (QM G (some (.int r.1)) h0 r.2) 7 [(0, .ref v21), (1, .int v22), (2, .ref v23), (4, .int v24), (5, .long v25), (7, .int v26)] [] h27 := by
  intro n
  induction n with
  | zero =>
    intro v21 v22 v23 v24 v25 v26 h27 hF
    cases (show (none : Option (Int32 × Hp)) = some r from hF)
  | succ n hc7 =>
    intro v21 v22 v23 v24 v25 v26 h27 hF
    rw [X5_tells_L7] at hF
    refine v_iload dX5_tells_7 5 rfl ?_
    refine v_aload_n dX5_tells_9 rfl 0 rfl ?_
    refine v_getr dX5_tells_10 fl_X5_7 hF (fun v30 hF => ?_)
    refine v_alen (k := 7) rfl dX5_tells_13 hF (fun v31 hF => ?_)
    refine v_icmp_ge (tgt := 73) dX5_tells_14 (by decide) hF (fun hF => ?_) (fun hF => ?_)
    · exact v_sub [4] rfl (hx7 _ _ hF)
    · refine v_aload_n dX5_tells_17 rfl 0 rfl ?_
      refine v_getr dX5_tells_18 fl_X5_7 hF (fun v32 hF => ?_)
      refine v_iload dX5_tells_21 5 rfl ?_
      refine v_aaldr rfl rfl dX5_tells_23 hF (fun v33 hF => ?_)
      refine v_geti dX5_tells_24 fl_X5_13 hF (fun v34 hF => ?_)
      refine v_iload_n dX5_tells_27 rfl 1 rfl ?_
      refine v_icmp_ne (tgt := 67) dX5_tells_28 (by decide) hF (fun hF => ?_) (fun hF => ?_)
      · exact v_sub [0, 1, 2, 3, 4, 5] rfl (w_X5_tells_J67 hfr hlo hc7 hF)
      · refine v_aload_n dX5_tells_31 rfl 0 rfl ?_
        refine v_getr dX5_tells_32 fl_X5_7 hF (fun v42 hF => ?_)
        refine v_iload dX5_tells_35 5 rfl ?_
        refine v_aaldr rfl rfl dX5_tells_37 hF (fun v43 hF => ?_)
        refine v_aload_n dX5_tells_38 rfl 2 rfl ?_
        obtain ⟨v45, h44, e_v45, hF⟩ := bd2_spec hF
        refine v_calV1 dX5_tells_39 vl_X5_19 q561 (rc_X15_holds e_v45) (ct_X15_holds e_v45) rfl rfl (Nat.le_trans (Nat.le_of_ble_eq_true rfl) hfr) (Nat.le_trans (Nat.le_of_ble_eq_true rfl) hlo) (Nat.le_of_ble_eq_true rfl) ?_
        refine v_if_eq (tgt := 67) dX5_tells_42 (by decide) hF (fun hF => ?_) (fun hF => ?_)
        · exact v_sub [0, 1, 2, 3, 4, 5] rfl (w_X5_tells_J67 hfr hlo hc7 hF)
        · refine v_lconst dX5_tells_45 (v := 0) (by decide) ?_
          refine v_iload dX5_tells_46 3 rfl ?_
          refine v_i2l dX5_tells_48 ?_
          refine v_aload_n dX5_tells_49 rfl 0 rfl ?_
          refine v_getr dX5_tells_50 fl_X5_7 hF (fun v46 hF => ?_)
          refine v_iload dX5_tells_53 5 rfl ?_
          refine v_aaldr rfl rfl dX5_tells_55 hF (fun v47 hF => ?_)
          refine v_getl dX5_tells_56 fl_X5_23 hF (fun v48 hF => ?_)
          refine v_mminl dX5_tells_59 q628 (by omega) (by omega) (Nat.le_of_ble_eq_true rfl) ?_
          refine v_letl hF (fun v49 hF => ?_)
          refine v_mmaxl dX5_tells_62 q631 (by omega) (by omega) (Nat.le_of_ble_eq_true rfl) ?_
          refine v_letl hF (fun v50 hF => ?_)
          refine v_lstore dX5_tells_65 (Nat.le_of_ble_eq_true rfl) (L' := [(5, .long v50), (0, .ref v21), (1, .int v22), (2, .ref v23), (4, .int v24), (7, .int v26)]) rfl ?_
          exact v_sub [1, 2, 3, 4, 0, 5] rfl (w_X5_tells_J67 hfr hlo hc7 hF)
def X5_tells_b (N : Nat) (a0 : Nat) (a1 : Int32) (a2 : Nat) (a3 : Int32) (a4 : Int32) (h : Hp) : Option (Int32 × Hp) :=
  X5_tells_L7 N (fun v52 h53 =>
    some (v52.toInt32, h53)) N a0 a1 a2 a4 a3.toInt64 (0 : Int32) h
theorem w_X5_tells_b {l : Launch} {G : GT} {fr lo : Nat} {h0 : Hp} {N : Nat} {r : (Int32 × Hp)} (hfr : 197 ≤ fr) (hlo : 4982 ≤ lo) {a0 : Nat} {a1 : Int32} {a2 : Nat} {a3 : Int32} {a4 : Int32} {h : Hp} (hF : X5_tells_b N a0 a1 a2 a3 a4 h = some r) : V l G cX5_tells RX5 "tells" 8 (Option.some Jvm.ClassFile.FieldType.int) fr lo h0 r.2 (QM G (some (.int r.1)) h0 r.2) 0 [(0, .ref a0), (1, .int a1), (2, .ref a2), (3, .int a3), (4, .int a4)] [] h := by
  unfold X5_tells_b at hF
  refine v_iload_n dX5_tells_0 rfl 3 rfl ?_
  refine v_i2l dX5_tells_1 ?_
  refine v_lstore dX5_tells_2 (Nat.le_of_ble_eq_true rfl) (L' := [(5, .long a3.toInt64), (0, .ref a0), (1, .int a1), (2, .ref a2), (3, .int a3), (4, .int a4)]) rfl ?_
  refine v_iconst dX5_tells_4 (v := 0) (by decide) ?_
  refine v_istore dX5_tells_5 (Nat.le_of_ble_eq_true rfl) (L' := [(7, .int (0 : Int32)), (5, .long a3.toInt64), (0, .ref a0), (1, .int a1), (2, .ref a2), (3, .int a3), (4, .int a4)]) rfl ?_
  refine v_sub [2, 3, 4, 6, 1, 0] rfl (w_X5_tells_L7 hfr hlo ?_ N _ _ _ _ _ _ _ hF)
  intro v52 h53 hF
  refine v_lload dX5_tells_73 0 rfl ?_
  refine v_l2i dX5_tells_75 ?_
  cases hF
  exact v_iret dX5_tells_76 rfl rfl rfl rfl
def X5_tells (N : Nat) (a0 : Nat) (a1 : Int32) (a2 : Nat) (a3 : Int32) (a4 : Int32) (h : Hp) : Option (Int32 × Hp) := (ob h a0 [5]).bind fun _ => X5_tells_b N a0 a1 a2 a3 a4 h
theorem rc_X5_tells {N : Nat}  {r : (Int32 × Hp)} {a0 : Nat} {a1 : Int32} {a2 : Nat} {a3 : Int32} {a4 : Int32} {h : Hp} (hF : X5_tells N a0 a1 a2 a3 a4 h = some r) : RC h a0 [5] := by
  obtain ⟨o, ho, -⟩ := Option.bind_eq_some_iff.mp hF
  exact ⟨o, ho⟩
theorem ct_X5_tells {l : Launch} {G : GT} {N : Nat} {r : (Int32 × Hp)} {a0 : Nat} {a1 : Int32} {a2 : Nat} {a3 : Int32} {a4 : Int32} {h : Hp} (hF : X5_tells N a0 a1 a2 a3 a4 h = some r) : Ct l G yX5_tells (ws_ yX5_tells cX5_tells 8 (Option.some Jvm.ClassFile.FieldType.int)) 197 4982 [.ref a0, .int a1, .ref a2, .int a3, .int a4] h (some (.int r.1)) r.2 :=
  ct_of (by decide) (Nat.le_of_ble_eq_true rfl) (w_X5_tells_b (Nat.le_refl _) (Nat.le_refl _) (Option.bind_eq_some_iff.mp hF).choose_spec.2)
theorem vl_X0_289 : ∀ ci ∈ [5], VL RX0 289 ci yX5_tells 4 := by
  intro ci h
  simp only [List.mem_cons, List.not_mem_nil, or_false] at h
  subst h; exact ⟨RX5, TX5, 1, rfl, q145, ⟨by decide, by decide⟩, by decide +kernel, q625, Or.inl ⟨q624, q626⟩⟩
def C_grows_b (N : Nat) (a0 : Nat) (a1 : Int32) (a2 : Int32) (h : Hp) : Option (Int32 × Hp) :=
  (C_about a0 a1 a2 h).bind fun h21 =>
  bd2 (C_law1 a0 h21) fun v23 h22 =>
  (gr h22 a0 [0] 6).bind fun v24 =>
  (gr h22 a0 [0] 0).bind fun v25 =>
  (gr h22 v25 [1] 1).bind fun v26 =>
  (aI h22 v26 0 a2).bind fun v27 =>
  bd2 (X5_tells N v23 (0 : Int32) v24 v27 (99 : Int32) h22) fun v29 h28 =>
  some (v29, h28)
theorem w_C_grows_b {l : Launch} {G : GT} {fr lo : Nat} {h0 : Hp} {N : Nat} {r : (Int32 × Hp)} (hfr : 198 ≤ fr) (hlo : 5009 ≤ lo) {a0 : Nat} {a1 : Int32} {a2 : Int32} {h : Hp} (hF : C_grows_b N a0 a1 a2 h = some r) : V l G cX0_grows RX0 "grows" 3 (Option.some Jvm.ClassFile.FieldType.int) fr lo h0 r.2 (QM G (some (.int r.1)) h0 r.2) 0 [(0, .ref a0), (1, .int a1), (2, .int a2)] [] h := by
  unfold C_grows_b at hF
  refine v_aload_n dX0_grows_0 rfl 0 rfl ?_
  refine v_iload_n dX0_grows_1 rfl 1 rfl ?_
  refine v_iload_n dX0_grows_2 rfl 2 rfl ?_
  obtain ⟨h21, e_h21, hF⟩ := Option.bind_eq_some_iff.mp hF
  refine v_calV0 dX0_grows_3 vl_X0_282 q528 (rc_C_about e_h21) (ct_C_about e_h21) rfl rfl (Nat.le_trans (Nat.le_of_ble_eq_true rfl) hfr) (Nat.le_trans (Nat.le_of_ble_eq_true rfl) hlo) (Nat.le_of_ble_eq_true rfl) ?_
  refine v_aload_n dX0_grows_6 rfl 0 rfl ?_
  obtain ⟨v23, h22, e_v23, hF⟩ := bd2_spec hF
  refine v_calV1 dX0_grows_7 vl_X0_286 q539 (rc_C_law1 e_v23) (ct_C_law1 e_v23) rfl rfl (Nat.le_trans (Nat.le_of_ble_eq_true rfl) hfr) (Nat.le_trans (Nat.le_of_ble_eq_true rfl) hlo) (Nat.le_of_ble_eq_true rfl) ?_
  refine v_iconst dX0_grows_10 (v := 0) (by decide) ?_
  refine v_aload_n dX0_grows_11 rfl 0 rfl ?_
  refine v_getr dX0_grows_12 fl_X0_43 hF (fun v24 hF => ?_)
  refine v_aload_n dX0_grows_15 rfl 0 rfl ?_
  refine v_getr dX0_grows_16 fl_X0_10 hF (fun v25 hF => ?_)
  refine v_getr dX0_grows_19 fl_X0_159 hF (fun v26 hF => ?_)
  refine v_iload_n dX0_grows_22 rfl 2 rfl ?_
  refine v_iald dX0_grows_23 hF (fun v27 hF => ?_)
  refine v_bipush dX0_grows_24 (v := 99) (by decide) ?_
  obtain ⟨v29, h28, e_v29, hF⟩ := bd2_spec hF
  refine v_calV1 dX0_grows_26 vl_X0_289 q627 (rc_X5_tells e_v29) (ct_X5_tells e_v29) rfl rfl (Nat.le_trans (Nat.le_of_ble_eq_true rfl) hfr) (Nat.le_trans (Nat.le_of_ble_eq_true rfl) hlo) (Nat.le_of_ble_eq_true rfl) ?_
  cases hF
  exact v_iret dX0_grows_29 rfl rfl rfl rfl
def C_grows (N : Nat) (a0 : Nat) (a1 : Int32) (a2 : Int32) (h : Hp) : Option (Int32 × Hp) := (ob h a0 [0]).bind fun _ => C_grows_b N a0 a1 a2 h
theorem rc_C_grows {N : Nat}  {r : (Int32 × Hp)} {a0 : Nat} {a1 : Int32} {a2 : Int32} {h : Hp} (hF : C_grows N a0 a1 a2 h = some r) : RC h a0 [0] := by
  obtain ⟨o, ho, -⟩ := Option.bind_eq_some_iff.mp hF
  exact ⟨o, ho⟩
theorem ct_C_grows {l : Launch} {G : GT} {N : Nat} {r : (Int32 × Hp)} {a0 : Nat} {a1 : Int32} {a2 : Int32} {h : Hp} (hF : C_grows N a0 a1 a2 h = some r) : Ct l G yX0_grows (ws_ yX0_grows cX0_grows 3 (Option.some Jvm.ClassFile.FieldType.int)) 198 5009 [.ref a0, .int a1, .int a2] h (some (.int r.1)) r.2 :=
  ct_of (by decide) (Nat.le_of_ble_eq_true rfl) (w_C_grows_b (Nat.le_refl _) (Nat.le_refl _) (Option.bind_eq_some_iff.mp hF).choose_spec.2)
def C_wilts_b (N : Nat) (a0 : Nat) (a1 : Int32) (h : Hp) : Option (Int32 × Hp) :=
  (C_about a0 a1 (-1 : Int32) h).bind fun h21 =>
  bd2 (C_law1 a0 h21) fun v23 h22 =>
  (gr h22 a0 [0] 6).bind fun v24 =>
  bd2 (X5_tells N v23 (1 : Int32) v24 (0 : Int32) (9 : Int32) h22) fun v26 h25 =>
  some (v26, h25)
theorem w_C_wilts_b {l : Launch} {G : GT} {fr lo : Nat} {h0 : Hp} {N : Nat} {r : (Int32 × Hp)} (hfr : 198 ≤ fr) (hlo : 5009 ≤ lo) {a0 : Nat} {a1 : Int32} {h : Hp} (hF : C_wilts_b N a0 a1 h = some r) : V l G cX0_wilts RX0 "wilts" 2 (Option.some Jvm.ClassFile.FieldType.int) fr lo h0 r.2 (QM G (some (.int r.1)) h0 r.2) 0 [(0, .ref a0), (1, .int a1)] [] h := by
  unfold C_wilts_b at hF
  refine v_aload_n dX0_wilts_0 rfl 0 rfl ?_
  refine v_iload_n dX0_wilts_1 rfl 1 rfl ?_
  refine v_iconst dX0_wilts_2 (v := -1) (by decide) ?_
  obtain ⟨h21, e_h21, hF⟩ := Option.bind_eq_some_iff.mp hF
  refine v_calV0 dX0_wilts_3 vl_X0_282 q528 (rc_C_about e_h21) (ct_C_about e_h21) rfl rfl (Nat.le_trans (Nat.le_of_ble_eq_true rfl) hfr) (Nat.le_trans (Nat.le_of_ble_eq_true rfl) hlo) (Nat.le_of_ble_eq_true rfl) ?_
  refine v_aload_n dX0_wilts_6 rfl 0 rfl ?_
  obtain ⟨v23, h22, e_v23, hF⟩ := bd2_spec hF
  refine v_calV1 dX0_wilts_7 vl_X0_286 q539 (rc_C_law1 e_v23) (ct_C_law1 e_v23) rfl rfl (Nat.le_trans (Nat.le_of_ble_eq_true rfl) hfr) (Nat.le_trans (Nat.le_of_ble_eq_true rfl) hlo) (Nat.le_of_ble_eq_true rfl) ?_
  refine v_iconst dX0_wilts_10 (v := 1) (by decide) ?_
  refine v_aload_n dX0_wilts_11 rfl 0 rfl ?_
  refine v_getr dX0_wilts_12 fl_X0_43 hF (fun v24 hF => ?_)
  refine v_iconst dX0_wilts_15 (v := 0) (by decide) ?_
  refine v_bipush dX0_wilts_16 (v := 9) (by decide) ?_
  obtain ⟨v26, h25, e_v26, hF⟩ := bd2_spec hF
  refine v_calV1 dX0_wilts_18 vl_X0_289 q627 (rc_X5_tells e_v26) (ct_X5_tells e_v26) rfl rfl (Nat.le_trans (Nat.le_of_ble_eq_true rfl) hfr) (Nat.le_trans (Nat.le_of_ble_eq_true rfl) hlo) (Nat.le_of_ble_eq_true rfl) ?_
  cases hF
  exact v_iret dX0_wilts_21 rfl rfl rfl rfl
def C_wilts (N : Nat) (a0 : Nat) (a1 : Int32) (h : Hp) : Option (Int32 × Hp) := (ob h a0 [0]).bind fun _ => C_wilts_b N a0 a1 h
theorem rc_C_wilts {N : Nat}  {r : (Int32 × Hp)} {a0 : Nat} {a1 : Int32} {h : Hp} (hF : C_wilts N a0 a1 h = some r) : RC h a0 [0] := by
  obtain ⟨o, ho, -⟩ := Option.bind_eq_some_iff.mp hF
  exact ⟨o, ho⟩
theorem ct_C_wilts {l : Launch} {G : GT} {N : Nat} {r : (Int32 × Hp)} {a0 : Nat} {a1 : Int32} {h : Hp} (hF : C_wilts N a0 a1 h = some r) : Ct l G yX0_wilts (ws_ yX0_wilts cX0_wilts 2 (Option.some Jvm.ClassFile.FieldType.int)) 198 5009 [.ref a0, .int a1] h (some (.int r.1)) r.2 :=
  ct_of (by decide) (Nat.le_of_ble_eq_true rfl) (w_C_wilts_b (Nat.le_refl _) (Nat.le_refl _) (Option.bind_eq_some_iff.mp hF).choose_spec.2)
theorem vl_X0_191 : ∀ ci ∈ [0], VL RX0 191 ci yX0_isLeek 1 := by
  intro ci h
  simp only [List.mem_cons, List.not_mem_nil, or_false] at h
  subst h; exact ⟨RX0, TX0, 31, rfl, q137, ⟨by decide, by decide⟩, by decide +kernel, q582, Or.inl ⟨q619, qs12⟩⟩
theorem vl_X0_197 : ∀ ci ∈ [0], VL RX0 197 ci yX0_grows 2 := by
  intro ci h
  simp only [List.mem_cons, List.not_mem_nil, or_false] at h
  subst h; exact ⟨RX0, TX0, 31, rfl, q137, ⟨by decide, by decide⟩, by decide +kernel, q636, Or.inl ⟨q634, qs15⟩⟩
theorem vl_X0_194 : ∀ ci ∈ [0], VL RX0 194 ci yX0_wilts 1 := by
  intro ci h
  simp only [List.mem_cons, List.not_mem_nil, or_false] at h
  subst h; exact ⟨RX0, TX0, 31, rfl, q137, ⟨by decide, by decide⟩, by decide +kernel, q622, Or.inl ⟨q620, qs14⟩⟩
def C_at_b (N : Nat) (a0 : Nat) (a1 : Int32) (a2 : Int32) (h : Hp) : Option (Int32 × Hp) :=
  (C_isLeek h a0 a1).bind fun v21 =>
  if v21 = 0 then
    some ((-1 : Int32), h)
  else
    if a2.toInt < 0 ∨ 2 < a2.toInt then
      if a2 ≤ (2 : Int32) then
        some ((-1 : Int32), h)
      else
        (C_isBook h a0 (a2 - (3 : Int32))).bind fun v22 =>
        if v22 = 0 then
          some ((-1 : Int32), h)
        else
          bd2 (C_grows N a0 a1 (a2 - (3 : Int32)) h) fun v24 h23 =>
          some (v24, h23)
    else
    if a2.toInt = 0 then
      (gr h a0 [0] 0).bind fun v25 =>
      (gr h v25 [1] 4).bind fun v26 =>
      (aI h v26 0 a1).bind fun v27 =>
      some (v27, h)
    else
    if a2.toInt = 1 then
      (C_books h a0).bind fun v28 =>
      (gr h v28 [2] 0).bind fun v29 =>
      (aI h v29 0 a1).bind fun v30 =>
      some (v30, h)
    else
      bd2 (C_wilts N a0 a1 h) fun v32 h31 =>
      some (v32, h31)
theorem w_C_at_b {l : Launch} {G : GT} {fr lo : Nat} {h0 : Hp} {N : Nat} {r : (Int32 × Hp)} (hfr : 199 ≤ fr) (hlo : 5031 ≤ lo) {a0 : Nat} {a1 : Int32} {a2 : Int32} {h : Hp} (hF : C_at_b N a0 a1 a2 h = some r) : V l G cX0_at RX0 "at" 3 (Option.some Jvm.ClassFile.FieldType.int) fr lo h0 r.2 (QM G (some (.int r.1)) h0 r.2) 0 [(0, .ref a0), (1, .int a1), (2, .int a2)] [] h := by
  unfold C_at_b at hF
  refine v_aload_n dX0_at_0 rfl 0 rfl ?_
  refine v_iload_n dX0_at_1 rfl 1 rfl ?_
  obtain ⟨v21, e_v21, hF⟩ := Option.bind_eq_some_iff.mp hF
  refine v_calV1 dX0_at_2 vl_X0_191 q583 (rc_C_isLeek e_v21) (ct_C_isLeek e_v21) rfl rfl (Nat.le_trans (Nat.le_of_ble_eq_true rfl) hfr) (Nat.le_trans (Nat.le_of_ble_eq_true rfl) hlo) (Nat.le_of_ble_eq_true rfl) ?_
  refine v_if_ne (tgt := 10) dX0_at_5 (by decide) hF (fun hF => ?_) (fun hF => ?_)
  · refine v_iload_n dX0_at_10 rfl 2 rfl ?_
    refine v_swOut (td := 62) dX0_at_11 (by decide) hF (fun hF => ?_) (fun hs1 hs2 hF => ?_)
    · refine v_iload_n dX0_at_62 rfl 2 rfl ?_
      refine v_iconst dX0_at_63 (v := 2) (by decide) ?_
      refine v_icmp_le (tgt := 88) dX0_at_64 (by decide) hF (fun hF => ?_) (fun hF => ?_)
      · refine v_iconst dX0_at_88 (v := -1) (by decide) ?_
        cases hF
        exact v_iret dX0_at_89 rfl rfl rfl rfl
      · refine v_aload_n dX0_at_67 rfl 0 rfl ?_
        refine v_iload_n dX0_at_68 rfl 2 rfl ?_
        refine v_iconst dX0_at_69 (v := 3) (by decide) ?_
        refine v_isub dX0_at_70 ?_
        obtain ⟨v22, e_v22, hF⟩ := Option.bind_eq_some_iff.mp hF
        refine v_calV1 dX0_at_71 vl_X0_172 q505 (rc_C_isBook e_v22) (ct_C_isBook e_v22) rfl rfl (Nat.le_trans (Nat.le_of_ble_eq_true rfl) hfr) (Nat.le_trans (Nat.le_of_ble_eq_true rfl) hlo) (Nat.le_of_ble_eq_true rfl) ?_
        refine v_if_eq (tgt := 88) dX0_at_74 (by decide) hF (fun hF => ?_) (fun hF => ?_)
        · refine v_iconst dX0_at_88 (v := -1) (by decide) ?_
          cases hF
          exact v_iret dX0_at_89 rfl rfl rfl rfl
        · refine v_aload_n dX0_at_77 rfl 0 rfl ?_
          refine v_iload_n dX0_at_78 rfl 1 rfl ?_
          refine v_iload_n dX0_at_79 rfl 2 rfl ?_
          refine v_iconst dX0_at_80 (v := 3) (by decide) ?_
          refine v_isub dX0_at_81 ?_
          obtain ⟨v24, h23, e_v24, hF⟩ := bd2_spec hF
          refine v_calV1 dX0_at_82 vl_X0_197 q637 (rc_C_grows e_v24) (ct_C_grows e_v24) rfl rfl (Nat.le_trans (Nat.le_of_ble_eq_true rfl) hfr) (Nat.le_trans (Nat.le_of_ble_eq_true rfl) hlo) (Nat.le_of_ble_eq_true rfl) ?_
          refine v_goto (tgt := 89) dX0_at_85 (by decide) ?_
          cases hF
          exact v_iret dX0_at_89 rfl rfl rfl rfl
    · refine v_case (i := 0) hF (fun hc hF => ?_) (fun hc0 hF => ?_)
      · refine v_swIn (i := 0) (off := 25) (tgt := 36) dX0_at_11 hc (by decide) (by decide) rfl (by decide) ?_
        refine v_aload_n dX0_at_36 rfl 0 rfl ?_
        refine v_getr dX0_at_37 fl_X0_10 hF (fun v25 hF => ?_)
        refine v_getr dX0_at_40 fl_X0_185 hF (fun v26 hF => ?_)
        refine v_iload_n dX0_at_43 rfl 1 rfl ?_
        refine v_iald dX0_at_44 hF (fun v27 hF => ?_)
        cases hF
        exact v_iret dX0_at_45 rfl rfl rfl rfl
      refine v_case (i := 1) hF (fun hc hF => ?_) (fun hc1 hF => ?_)
      · refine v_swIn (i := 1) (off := 35) (tgt := 46) dX0_at_11 hc (by decide) (by decide) rfl (by decide) ?_
        refine v_aload_n dX0_at_46 rfl 0 rfl ?_
        obtain ⟨v28, e_v28, hF⟩ := Option.bind_eq_some_iff.mp hF
        refine v_calV1 dX0_at_47 vl_X0_135 q486 (rc_C_books e_v28) (ct_C_books e_v28) rfl rfl (Nat.le_trans (Nat.le_of_ble_eq_true rfl) hfr) (Nat.le_trans (Nat.le_of_ble_eq_true rfl) hlo) (Nat.le_of_ble_eq_true rfl) ?_
        refine v_getr dX0_at_50 fl_X0_188 hF (fun v29 hF => ?_)
        refine v_iload_n dX0_at_53 rfl 1 rfl ?_
        refine v_iald dX0_at_54 hF (fun v30 hF => ?_)
        cases hF
        exact v_iret dX0_at_55 rfl rfl rfl rfl
      refine v_swIn (i := 2) (off := 45) (tgt := 56) dX0_at_11 (by omega) (by decide) (by decide) rfl (by decide) ?_
      refine v_aload_n dX0_at_56 rfl 0 rfl ?_
      refine v_iload_n dX0_at_57 rfl 1 rfl ?_
      obtain ⟨v32, h31, e_v32, hF⟩ := bd2_spec hF
      refine v_calV1 dX0_at_58 vl_X0_194 q623 (rc_C_wilts e_v32) (ct_C_wilts e_v32) rfl rfl (Nat.le_trans (Nat.le_of_ble_eq_true rfl) hfr) (Nat.le_trans (Nat.le_of_ble_eq_true rfl) hlo) (Nat.le_of_ble_eq_true rfl) ?_
      cases hF
      exact v_iret dX0_at_61 rfl rfl rfl rfl
  · refine v_iconst dX0_at_8 (v := -1) (by decide) ?_
    cases hF
    exact v_iret dX0_at_9 rfl rfl rfl rfl
def C_at (N : Nat) (a0 : Nat) (a1 : Int32) (a2 : Int32) (h : Hp) : Option (Int32 × Hp) := (ob h a0 [0]).bind fun _ => C_at_b N a0 a1 a2 h
theorem rc_C_at {N : Nat}  {r : (Int32 × Hp)} {a0 : Nat} {a1 : Int32} {a2 : Int32} {h : Hp} (hF : C_at N a0 a1 a2 h = some r) : RC h a0 [0] := by
  obtain ⟨o, ho, -⟩ := Option.bind_eq_some_iff.mp hF
  exact ⟨o, ho⟩
theorem ct_C_at {l : Launch} {G : GT} {N : Nat} {r : (Int32 × Hp)} {a0 : Nat} {a1 : Int32} {a2 : Int32} {h : Hp} (hF : C_at N a0 a1 a2 h = some r) : Ct l G yX0_at (ws_ yX0_at cX0_at 3 (Option.some Jvm.ClassFile.FieldType.int)) 199 5031 [.ref a0, .int a1, .int a2] h (some (.int r.1)) r.2 :=
  ct_of (by decide) (Nat.le_of_ble_eq_true rfl) (w_C_at_b (Nat.le_refl _) (Nat.le_refl _) (Option.bind_eq_some_iff.mp hF).choose_spec.2)
def C_had_b (a0 : Nat) (a1 : Int32) (h : Hp) : Option (Int32 × Hp) :=
  (po h a0 [0] 10 (.int (0 : Int32))).bind fun h21 =>
  some (a1, h21)
theorem w_C_had_b {l : Launch} {G : GT} {fr lo : Nat} {h0 : Hp} {r : (Int32 × Hp)} (hfr : 0 ≤ fr) (hlo : 0 ≤ lo) {a0 : Nat} {a1 : Int32} {h : Hp} (hF : C_had_b a0 a1 h = some r) : V l G cX0_had RX0 "had" 2 (Option.some Jvm.ClassFile.FieldType.int) fr lo h0 r.2 (QM G (some (.int r.1)) h0 r.2) 0 [(0, .ref a0), (1, .int a1)] [] h := by
  unfold C_had_b at hF
  refine v_aload_n dX0_had_0 rfl 0 rfl ?_
  refine v_iconst dX0_had_1 (v := 0) (by decide) ?_
  refine v_put dX0_had_2 pl_X0_106 (fun z => by cases z) rfl rfl hF (fun h21 hF => ?_)
  refine v_iload_n dX0_had_5 rfl 1 rfl ?_
  cases hF
  exact v_iret dX0_had_6 rfl rfl rfl rfl
def C_had (a0 : Nat) (a1 : Int32) (h : Hp) : Option (Int32 × Hp) := (ob h a0 [0]).bind fun _ => C_had_b a0 a1 h
theorem rc_C_had  {r : (Int32 × Hp)} {a0 : Nat} {a1 : Int32} {h : Hp} (hF : C_had a0 a1 h = some r) : RC h a0 [0] := by
  obtain ⟨o, ho, -⟩ := Option.bind_eq_some_iff.mp hF
  exact ⟨o, ho⟩
theorem ct_C_had {l : Launch} {G : GT} {r : (Int32 × Hp)} {a0 : Nat} {a1 : Int32} {h : Hp} (hF : C_had a0 a1 h = some r) : Ct l G yX0_had (ws_ yX0_had cX0_had 2 (Option.some Jvm.ClassFile.FieldType.int)) 0 0 [.ref a0, .int a1] h (some (.int r.1)) r.2 :=
  ct_of (by decide) (Nat.le_of_ble_eq_true rfl) (w_C_had_b (Nat.le_refl _) (Nat.le_refl _) (Option.bind_eq_some_iff.mp hF).choose_spec.2)
def C_isTerm (a1 : Int32) (a2 : Int32) : Option Int32 :=
  if a1.toInt < 0 ∨ 2 < a1.toInt then
    some (0 : Int32)
  else
  if a1.toInt = 0 then
    (C_in a2.toInt64 (0 : Int64) (999 : Int64)).bind fun v21 =>
    (rz v21).bind fun v22 => some v22
  else
  if a1.toInt = 1 then
    (C_in a2.toInt64 (0 : Int64) (10 : Int64)).bind fun v23 =>
    (rz v23).bind fun v24 => some v24
  else
    (C_in a2.toInt64 (0 : Int64) (9 : Int64)).bind fun v25 =>
    (rz v25).bind fun v26 => some v26
theorem w_C_isTerm {l : Launch} {G : GT} {fr lo : Nat} {h0 : Hp} {h : Hp} {r : Int32} (hfr : 1 ≤ fr) (hlo : 25 ≤ lo) {a1 : Int32} {a2 : Int32} (hF : C_isTerm a1 a2 = some r) : V l G cX0_isTerm RX0 "isTerm" 2 (Option.some Jvm.ClassFile.FieldType.boolean) fr lo h0 h (QM G (some (.int r)) h0 h) 0 [(0, .int a1), (1, .int a2)] [] h := by
  unfold C_isTerm at hF
  refine v_iload_n dX0_isTerm_0 rfl 0 rfl ?_
  refine v_swOut (td := 58) dX0_isTerm_1 (by decide) hF (fun hF => ?_) (fun hs1 hs2 hF => ?_)
  · refine v_iconst dX0_isTerm_58 (v := 0) (by decide) ?_
    cases hF
    exact v_iret dX0_isTerm_59 rfl (by decide) rfl rfl
  · refine v_case (i := 0) hF (fun hc hF => ?_) (fun hc0 hF => ?_)
    · refine v_swIn (i := 0) (off := 27) (tgt := 28) dX0_isTerm_1 hc (by decide) (by decide) rfl (by decide) ?_
      refine v_iload_n dX0_isTerm_28 rfl 1 rfl ?_
      refine v_i2l dX0_isTerm_29 ?_
      refine v_lconst dX0_isTerm_30 (v := 0) (by decide) ?_
      refine v_ldc2 dX0_isTerm_31 q645 ?_
      obtain ⟨v21, e_v21, hF⟩ := Option.bind_eq_some_iff.mp hF
      refine v_calS1 dX0_isTerm_34 sl_X0_128 q468 (ct_C_in e_v21) rfl rfl (Nat.le_trans (Nat.le_of_ble_eq_true rfl) hfr) (Nat.le_trans (Nat.le_of_ble_eq_true rfl) hlo) (Nat.le_of_ble_eq_true rfl) ?_
      refine v_zchk hF (fun v22 hz hF => ?_)
      cases hF
      exact v_iret dX0_isTerm_37 rfl (nar_z hz) rfl rfl
    refine v_case (i := 1) hF (fun hc hF => ?_) (fun hc1 hF => ?_)
    · refine v_swIn (i := 1) (off := 37) (tgt := 38) dX0_isTerm_1 hc (by decide) (by decide) rfl (by decide) ?_
      refine v_iload_n dX0_isTerm_38 rfl 1 rfl ?_
      refine v_i2l dX0_isTerm_39 ?_
      refine v_lconst dX0_isTerm_40 (v := 0) (by decide) ?_
      refine v_ldc2 dX0_isTerm_41 q646 ?_
      obtain ⟨v23, e_v23, hF⟩ := Option.bind_eq_some_iff.mp hF
      refine v_calS1 dX0_isTerm_44 sl_X0_128 q468 (ct_C_in e_v23) rfl rfl (Nat.le_trans (Nat.le_of_ble_eq_true rfl) hfr) (Nat.le_trans (Nat.le_of_ble_eq_true rfl) hlo) (Nat.le_of_ble_eq_true rfl) ?_
      refine v_zchk hF (fun v24 hz hF => ?_)
      cases hF
      exact v_iret dX0_isTerm_47 rfl (nar_z hz) rfl rfl
    refine v_swIn (i := 2) (off := 47) (tgt := 48) dX0_isTerm_1 (by omega) (by decide) (by decide) rfl (by decide) ?_
    refine v_iload_n dX0_isTerm_48 rfl 1 rfl ?_
    refine v_i2l dX0_isTerm_49 ?_
    refine v_lconst dX0_isTerm_50 (v := 0) (by decide) ?_
    refine v_ldc2 dX0_isTerm_51 q477 ?_
    obtain ⟨v25, e_v25, hF⟩ := Option.bind_eq_some_iff.mp hF
    refine v_calS1 dX0_isTerm_54 sl_X0_128 q468 (ct_C_in e_v25) rfl rfl (Nat.le_trans (Nat.le_of_ble_eq_true rfl) hfr) (Nat.le_trans (Nat.le_of_ble_eq_true rfl) hlo) (Nat.le_of_ble_eq_true rfl) ?_
    refine v_zchk hF (fun v26 hz hF => ?_)
    cases hF
    exact v_iret dX0_isTerm_57 rfl (nar_z hz) rfl rfl
theorem ct_C_isTerm {l : Launch} {G : GT} {h : Hp} {r : Int32} {a1 : Int32} {a2 : Int32} (hF : C_isTerm a1 a2 = some r) : Ct l G yX0_isTerm (ws_ yX0_isTerm cX0_isTerm 2 (Option.some Jvm.ClassFile.FieldType.boolean)) 1 25 [.int a1, .int a2] h (some (.int r)) h :=
  ct_of (by decide) (Nat.le_of_ble_eq_true rfl) (w_C_isTerm (Nat.le_refl _) (Nat.le_refl _) hF)
def C_term_b (h : Hp) (a0 : Nat) (a1 : Int32) : Option Int32 :=
  if a1 = 0 then
    (C_books h a0).bind fun v24 =>
    (gi h v24 [2] 2).bind fun v25 =>
    some v25
  else
    (gr h a0 [0] 0).bind fun v21 =>
    (gr h v21 [1] 5).bind fun v22 =>
    (aI h v22 0 a1).bind fun v23 =>
    some v23
theorem w_C_term_b {l : Launch} {G : GT} {fr lo : Nat} {h0 : Hp} {h : Hp} {r : Int32} (hfr : 1 ≤ fr) (hlo : 20 ≤ lo) {a0 : Nat} {a1 : Int32} (hF : C_term_b h a0 a1 = some r) : V l G cX0_term RX0 "term" 2 (Option.some Jvm.ClassFile.FieldType.int) fr lo h0 h (QM G (some (.int r)) h0 h) 0 [(0, .ref a0), (1, .int a1)] [] h := by
  unfold C_term_b at hF
  refine v_iload_n dX0_term_0 rfl 1 rfl ?_
  refine v_if_ne (tgt := 14) dX0_term_1 (by decide) hF (fun hF => ?_) (fun hF => ?_)
  · refine v_aload_n dX0_term_14 rfl 0 rfl ?_
    refine v_getr dX0_term_15 fl_X0_10 hF (fun v21 hF => ?_)
    refine v_getr dX0_term_18 fl_X0_207 hF (fun v22 hF => ?_)
    refine v_iload_n dX0_term_21 rfl 1 rfl ?_
    refine v_iald dX0_term_22 hF (fun v23 hF => ?_)
    cases hF
    exact v_iret dX0_term_23 rfl rfl rfl rfl
  · refine v_aload_n dX0_term_4 rfl 0 rfl ?_
    obtain ⟨v24, e_v24, hF⟩ := Option.bind_eq_some_iff.mp hF
    refine v_calV1 dX0_term_5 vl_X0_135 q486 (rc_C_books e_v24) (ct_C_books e_v24) rfl rfl (Nat.le_trans (Nat.le_of_ble_eq_true rfl) hfr) (Nat.le_trans (Nat.le_of_ble_eq_true rfl) hlo) (Nat.le_of_ble_eq_true rfl) ?_
    refine v_geti dX0_term_8 fl_X0_204 hF (fun v25 hF => ?_)
    refine v_goto (tgt := 23) dX0_term_11 (by decide) ?_
    cases hF
    exact v_iret dX0_term_23 rfl rfl rfl rfl
def C_term (h : Hp) (a0 : Nat) (a1 : Int32) : Option Int32 := (ob h a0 [0]).bind fun _ => C_term_b h a0 a1
theorem rc_C_term {h : Hp}  {r : Int32} {a0 : Nat} {a1 : Int32} (hF : C_term h a0 a1 = some r) : RC h a0 [0] := by
  obtain ⟨o, ho, -⟩ := Option.bind_eq_some_iff.mp hF
  exact ⟨o, ho⟩
theorem ct_C_term {l : Launch} {G : GT} {h : Hp} {r : Int32} {a0 : Nat} {a1 : Int32} (hF : C_term h a0 a1 = some r) : Ct l G yX0_term (ws_ yX0_term cX0_term 2 (Option.some Jvm.ClassFile.FieldType.int)) 1 20 [.ref a0, .int a1] h (some (.int r)) h :=
  ct_of (by decide) (Nat.le_of_ble_eq_true rfl) (w_C_term_b (Nat.le_refl _) (Nat.le_refl _) (Option.bind_eq_some_iff.mp hF).choose_spec.2)
theorem sl_X0_210 : SL RX0 210 yX0_isTerm 2 := ⟨q137, ⟨by decide, by decide⟩, by decide +kernel, q643, Or.inl q642⟩
theorem vl_X0_213 : ∀ ci ∈ [0], VL RX0 213 ci yX0_term 1 := by
  intro ci h
  simp only [List.mem_cons, List.not_mem_nil, or_false] at h
  subst h; exact ⟨RX0, TX0, 31, rfl, q137, ⟨by decide, by decide⟩, by decide +kernel, q649, Or.inl ⟨q647, qs16⟩⟩
theorem vl_X0_216 : ∀ ci ∈ [0], VL RX0 216 ci yX0_had 1 := by
  intro ci h
  simp only [List.mem_cons, List.not_mem_nil, or_false] at h
  subst h; exact ⟨RX0, TX0, 31, rfl, q137, ⟨by decide, by decide⟩, by decide +kernel, q653, Or.inl ⟨q651, qs17⟩⟩
theorem pl_X0_204 : PL RX0 204 [2] 2 (.int) false := by
  intro ci h
  simp only [List.mem_cons, List.not_mem_nil, or_false] at h
  subst h; exact ⟨RX2, _, TX2, 4, tyX2, rfl, in_X2, by decide, Or.inr ⟨rfl, _, q234⟩, Or.inl rfl, tyX2_ok, rfl, by decide +kernel, rfl, fun z => by cases z⟩
def C_terms_J45 (v26 : Nat) (v27 : Int32) (h28 : Hp) : Option (Int32 × Hp) :=
  (gr h28 v26 [0] 2).bind fun v29 =>
  (po h28 v29 [3] 1 (.int (0 : Int32))).bind fun h30 =>
  bd2 (C_had v26 v27 h30) fun v32 h31 =>
  some (v32, h31)
theorem w_C_terms_J45 {l : Launch} {G : GT} {fr lo : Nat} {h0 : Hp} {r : (Int32 × Hp)} (hfr : 2 ≤ fr) (hlo : 51 ≤ lo)   {v26 : Nat} {v27 : Int32} {h28 : Hp} (hF : C_terms_J45 v26 v27 h28 = some r) : V l G cX0_terms RX0 "terms" 4 (Option.some Jvm.ClassFile.FieldType.int) fr lo h0 r.2 (QM G (some (.int r.1)) h0 r.2) 45 [(0, .ref v26), (3, .int v27)] [] h28 := by
  unfold C_terms_J45 at hF
  refine v_aload_n dX0_terms_45 rfl 0 rfl ?_
  refine v_getr dX0_terms_46 fl_X0_23 hF (fun v29 hF => ?_)
  refine v_iconst dX0_terms_49 (v := 0) (by decide) ?_
  refine v_put dX0_terms_50 pl_X0_109 (fun z => by cases z) rfl rfl hF (fun h30 hF => ?_)
  refine v_aload_n dX0_terms_53 rfl 0 rfl ?_
  refine v_iload_n dX0_terms_54 rfl 1 rfl ?_
  obtain ⟨v32, h31, e_v32, hF⟩ := bd2_spec hF
  refine v_calV1 dX0_terms_55 vl_X0_216 q654 (rc_C_had e_v32) (ct_C_had e_v32) rfl rfl (Nat.le_trans (Nat.le_of_ble_eq_true rfl) hfr) (Nat.le_trans (Nat.le_of_ble_eq_true rfl) hlo) (Nat.le_of_ble_eq_true rfl) ?_
  cases hF
  exact v_iret dX0_terms_58 rfl rfl rfl rfl
def C_terms_b (a0 : Nat) (a1 : Int32) (a2 : Int32) (h : Hp) : Option (Int32 × Hp) :=
  (C_isTerm a1 a2).bind fun v21 =>
  if v21 = 0 then
    bd2 (C_tell a0 (-1 : Int32) h) fun v36 h35 =>
    some (v36, h35)
  else
    (C_term h a0 a1).bind fun v22 =>
    if a1 = 0 then
      (C_books h a0).bind fun v33 =>
      (po h v33 [2] 2 (.int a2)).bind fun h34 =>
      C_terms_J45 a0 v22 h34
    else
      (gr h a0 [0] 0).bind fun v23 =>
      (gr h v23 [1] 5).bind fun v24 =>
      (sI h v24 0 a1 a2).bind fun h25 =>
      C_terms_J45 a0 v22 h25
theorem w_C_terms_b {l : Launch} {G : GT} {fr lo : Nat} {h0 : Hp} {r : (Int32 × Hp)} (hfr : 2 ≤ fr) (hlo : 51 ≤ lo) {a0 : Nat} {a1 : Int32} {a2 : Int32} {h : Hp} (hF : C_terms_b a0 a1 a2 h = some r) : V l G cX0_terms RX0 "terms" 4 (Option.some Jvm.ClassFile.FieldType.int) fr lo h0 r.2 (QM G (some (.int r.1)) h0 r.2) 0 [(0, .ref a0), (1, .int a1), (2, .int a2)] [] h := by
  unfold C_terms_b at hF
  refine v_iload_n dX0_terms_0 rfl 1 rfl ?_
  refine v_iload_n dX0_terms_1 rfl 2 rfl ?_
  obtain ⟨v21, e_v21, hF⟩ := Option.bind_eq_some_iff.mp hF
  refine v_calS1 dX0_terms_2 sl_X0_210 q644 (ct_C_isTerm e_v21) rfl rfl (Nat.le_trans (Nat.le_of_ble_eq_true rfl) hfr) (Nat.le_trans (Nat.le_of_ble_eq_true rfl) hlo) (Nat.le_of_ble_eq_true rfl) ?_
  refine v_if_ne (tgt := 14) dX0_terms_5 (by decide) hF (fun hF => ?_) (fun hF => ?_)
  · refine v_aload_n dX0_terms_14 rfl 0 rfl ?_
    refine v_iload_n dX0_terms_15 rfl 1 rfl ?_
    obtain ⟨v22, e_v22, hF⟩ := Option.bind_eq_some_iff.mp hF
    refine v_calV1 dX0_terms_16 vl_X0_213 q650 (rc_C_term e_v22) (ct_C_term e_v22) rfl rfl (Nat.le_trans (Nat.le_of_ble_eq_true rfl) hfr) (Nat.le_trans (Nat.le_of_ble_eq_true rfl) hlo) (Nat.le_of_ble_eq_true rfl) ?_
    refine v_istore_n dX0_terms_19 rfl (Nat.le_of_ble_eq_true rfl) (L' := [(3, .int v22), (0, .ref a0), (1, .int a1), (2, .int a2)]) rfl ?_
    refine v_iload_n dX0_terms_20 rfl 2 rfl ?_
    refine v_if_ne (tgt := 35) dX0_terms_21 (by decide) hF (fun hF => ?_) (fun hF => ?_)
    · refine v_aload_n dX0_terms_35 rfl 1 rfl ?_
      refine v_getr dX0_terms_36 fl_X0_10 hF (fun v23 hF => ?_)
      refine v_getr dX0_terms_39 fl_X0_207 hF (fun v24 hF => ?_)
      refine v_iload_n dX0_terms_42 rfl 2 rfl ?_
      refine v_iload_n dX0_terms_43 rfl 3 rfl ?_
      refine v_iast dX0_terms_44 hF (fun h25 hF => ?_)
      exact v_sub [1, 0] rfl (w_C_terms_J45 hfr hlo hF)
    · refine v_aload_n dX0_terms_24 rfl 1 rfl ?_
      obtain ⟨v33, e_v33, hF⟩ := Option.bind_eq_some_iff.mp hF
      refine v_calV1 dX0_terms_25 vl_X0_135 q486 (rc_C_books e_v33) (ct_C_books e_v33) rfl rfl (Nat.le_trans (Nat.le_of_ble_eq_true rfl) hfr) (Nat.le_trans (Nat.le_of_ble_eq_true rfl) hlo) (Nat.le_of_ble_eq_true rfl) ?_
      refine v_iload_n dX0_terms_28 rfl 3 rfl ?_
      refine v_put dX0_terms_29 pl_X0_204 (fun z => by cases z) rfl rfl hF (fun h34 hF => ?_)
      refine v_goto (tgt := 45) dX0_terms_32 (by decide) ?_
      exact v_sub [1, 0] rfl (w_C_terms_J45 hfr hlo hF)
  · refine v_aload_n dX0_terms_8 rfl 0 rfl ?_
    refine v_iconst dX0_terms_9 (v := -1) (by decide) ?_
    obtain ⟨v36, h35, e_v36, hF⟩ := bd2_spec hF
    refine v_calV1 dX0_terms_10 vl_X0_112 q494 (rc_C_tell e_v36) (ct_C_tell e_v36) rfl rfl (Nat.le_trans (Nat.le_of_ble_eq_true rfl) hfr) (Nat.le_trans (Nat.le_of_ble_eq_true rfl) hlo) (Nat.le_of_ble_eq_true rfl) ?_
    cases hF
    exact v_iret dX0_terms_13 rfl rfl rfl rfl
def C_terms (a0 : Nat) (a1 : Int32) (a2 : Int32) (h : Hp) : Option (Int32 × Hp) := (ob h a0 [0]).bind fun _ => C_terms_b a0 a1 a2 h
theorem rc_C_terms  {r : (Int32 × Hp)} {a0 : Nat} {a1 : Int32} {a2 : Int32} {h : Hp} (hF : C_terms a0 a1 a2 h = some r) : RC h a0 [0] := by
  obtain ⟨o, ho, -⟩ := Option.bind_eq_some_iff.mp hF
  exact ⟨o, ho⟩
theorem ct_C_terms {l : Launch} {G : GT} {r : (Int32 × Hp)} {a0 : Nat} {a1 : Int32} {a2 : Int32} {h : Hp} (hF : C_terms a0 a1 a2 h = some r) : Ct l G yX0_terms (ws_ yX0_terms cX0_terms 4 (Option.some Jvm.ClassFile.FieldType.int)) 2 51 [.ref a0, .int a1, .int a2] h (some (.int r.1)) r.2 :=
  ct_of (by decide) (Nat.le_of_ble_eq_true rfl) (w_C_terms_b (Nat.le_refl _) (Nat.le_refl _) (Option.bind_eq_some_iff.mp hF).choose_spec.2)
def C_byteAt (h : Hp) (a1 : Nat) (a2 : Int32) : Option Int32 :=
  (aI h a1 1 a2).bind fun v21 =>
  some (v21 &&& (255 : Int32))
theorem w_C_byteAt {l : Launch} {G : GT} {fr lo : Nat} {h0 : Hp} {h : Hp} {r : Int32} (hfr : 0 ≤ fr) (hlo : 0 ≤ lo) {a1 : Nat} {a2 : Int32} (hF : C_byteAt h a1 a2 = some r) : V l G cX0_byteAt RX0 "byteAt" 2 (Option.some Jvm.ClassFile.FieldType.int) fr lo h0 h (QM G (some (.int r)) h0 h) 0 [(0, .ref a1), (1, .int a2)] [] h := by
  unfold C_byteAt at hF
  refine v_aload_n dX0_byteAt_0 rfl 0 rfl ?_
  refine v_iload_n dX0_byteAt_1 rfl 1 rfl ?_
  refine v_bald dX0_byteAt_2 hF (fun v21 hF => ?_)
  refine v_sipush dX0_byteAt_3 (v := 255) (by decide) ?_
  refine v_iand dX0_byteAt_6 ?_
  cases hF
  exact v_iret dX0_byteAt_7 rfl rfl rfl rfl
theorem ct_C_byteAt {l : Launch} {G : GT} {h : Hp} {r : Int32} {a1 : Nat} {a2 : Int32} (hF : C_byteAt h a1 a2 = some r) : Ct l G yX0_byteAt (ws_ yX0_byteAt cX0_byteAt 2 (Option.some Jvm.ClassFile.FieldType.int)) 0 0 [.ref a1, .int a2] h (some (.int r)) h :=
  ct_of (by decide) (Nat.le_of_ble_eq_true rfl) (w_C_byteAt (Nat.le_refl _) (Nat.le_refl _) hF)
theorem ac_X0_219 : ACL RX0 219 := ⟨q733, q735, q734, q157⟩
theorem pl_X0_225 : PL RX0 225 [0] 12 (.int) false := by
  intro ci h
  simp only [List.mem_cons, List.not_mem_nil, or_false] at h
  subst h; exact ⟨RX0, _, TX0, 31, tyX0, rfl, in_X0, by decide, Or.inl q366, Or.inl rfl, tyX0_ok, rfl, by decide +kernel, rfl, fun z => by cases z⟩
theorem sl_X0_228 : SL RX0 228 yX0_byteAt 2 := ⟨q137, ⟨by decide, by decide⟩, by decide +kernel, q737, Or.inl q736⟩
theorem fl_X0_225 : FL RX0 225 [0] 12 := by
  intro ci h
  simp only [List.mem_cons, List.not_mem_nil, or_false] at h
  subst h; exact ⟨RX0, _, TX0, 31, rfl, in_X0, by decide, Or.inl q366, Or.inl rfl⟩
def C_row_J203 (N : Nat) (c49 : Nat → Nat → Int32 → Int32 → Hp → Option (Int32 × Hp)) (v57 : Nat) (v58 : Nat) (v59 : Int32) (v60 : Int32) (h61 : Hp) : Option (Int32 × Hp) :=
  c49 v57 v58 v59 (v60 + (3 : Int32)) h61
theorem w_C_row_J203 {l : Launch} {G : GT} {fr lo : Nat} {h0 : Hp} {N : Nat} {r : (Int32 × Hp)} (hfr : 9 ≤ fr) (hlo : 10330 ≤ lo) {c49 : Nat → Nat → Int32 → Int32 → Hp → Option (Int32 × Hp)} (hc49 : ∀ (v30 : Nat) (v31 : Nat) (v32 : Int32) (v33 : Int32) (h34 : Hp), c49 v30 v31 v32 v33 h34 = some r → V l G cX0_row RX0 "row" 7 (Option.some Jvm.ClassFile.FieldType.int) fr lo h0 r.2 (QX G [(58, 91, 126, 232), (58, 91, 166, 0), (126, 131, 166, 0), (166, 168, 166, 0)] (.inr (some (.int r.1))) h0 r.2) 49 [(0, .ref v30), (1, .ref v31), (2, .int v32), (3, .int v33)] [] h34) {v57 : Nat} {v58 : Nat} {v59 : Int32} {v60 : Int32} {h61 : Hp} (hF : C_row_J203 N c49 v57 v58 v59 v60 h61 = some r) : V l G cX0_row RX0 "row" 7 (Option.some Jvm.ClassFile.FieldType.int) fr lo h0 r.2 (QX G [(58, 91, 126, 232), (58, 91, 166, 0), (126, 131, 166, 0), (166, 168, 166, 0)] (.inr (some (.int r.1))) h0 r.2) 203 [(0, .ref v57), (1, .ref v58), (2, .int v59), (3, .int v60)] [] h61 := by
  unfold C_row_J203 at hF
  refine v_iinc dX0_row_203 3 rfl (v := v60 + (3 : Int32)) (by rfl) (Nat.le_of_ble_eq_true rfl) (L' := [(3, .int (v60 + (3 : Int32))), (0, .ref v57), (1, .ref v58), (2, .int v59)]) rfl ?_
  refine v_goto (tgt := 49) dX0_row_206 (by decide) ?_
  exact v_sub [1, 2, 3, 0] rfl (hc49 _ _ _ _ _ hF)
def C_row_J159 (N : Nat) (c49 : Nat → Nat → Int32 → Int32 → Hp → Option (Int32 × Hp)) (v48 : Nat) (v49 : Nat) (v50 : Int32) (v51 : Int32) (v52 : Int32) (v53 : Int32) (v54 : Nat) (h55 : Hp) : Option (Int32 × Hp) :=
  (po h55 v54 [0] 12 (.int (v53 + v52))).bind fun h56 =>
  C_row_J203 N c49 v48 v49 v50 v51 h56
theorem w_C_row_J159 {l : Launch} {G : GT} {fr lo : Nat} {h0 : Hp} {N : Nat} {r : (Int32 × Hp)} (hfr : 9 ≤ fr) (hlo : 10330 ≤ lo) {c49 : Nat → Nat → Int32 → Int32 → Hp → Option (Int32 × Hp)} (hc49 : ∀ (v30 : Nat) (v31 : Nat) (v32 : Int32) (v33 : Int32) (h34 : Hp), c49 v30 v31 v32 v33 h34 = some r → V l G cX0_row RX0 "row" 7 (Option.some Jvm.ClassFile.FieldType.int) fr lo h0 r.2 (QX G [(58, 91, 126, 232), (58, 91, 166, 0), (126, 131, 166, 0), (166, 168, 166, 0)] (.inr (some (.int r.1))) h0 r.2) 49 [(0, .ref v30), (1, .ref v31), (2, .int v32), (3, .int v33)] [] h34) {v48 : Nat} {v49 : Nat} {v50 : Int32} {v51 : Int32} {v52 : Int32} {v53 : Int32} {v54 : Nat} {h55 : Hp} (hF : C_row_J159 N c49 v48 v49 v50 v51 v52 v53 v54 h55 = some r) : V l G cX0_row RX0 "row" 7 (Option.some Jvm.ClassFile.FieldType.int) fr lo h0 r.2 (QX G [(58, 91, 126, 232), (58, 91, 166, 0), (126, 131, 166, 0), (166, 168, 166, 0)] (.inr (some (.int r.1))) h0 r.2) 159 [(0, .ref v48), (1, .ref v49), (2, .int v50), (3, .int v51)] [.int v52, .int v53, .ref v54] h55 := by
  unfold C_row_J159 at hF
  refine v_iadd dX0_row_159 ?_
  refine v_put dX0_row_160 pl_X0_225 (fun z => by cases z) rfl rfl hF (fun h56 hF => ?_)
  refine v_goto (tgt := 203) dX0_row_163 (by decide) ?_
  exact v_sub [0, 1, 2, 3] rfl (w_C_row_J203 hfr hlo hc49 hF)
def C_row_J142 (N : Nat) (c49 : Nat → Nat → Int32 → Int32 → Hp → Option (Int32 × Hp)) (v40 : Nat) (v41 : Nat) (v42 : Int32) (v43 : Int32) (v44 : Int32) (v45 : Int32) (h46 : Hp) : Option (Int32 × Hp) :=
  (gi h46 v40 [0] 12).bind fun v47 =>
  C_row_J159 N c49 v40 v41 (v45 + v44) v42 (if v43 = 0 then (1 : Int32) else (0 : Int32)) v47 v40 h46
theorem w_C_row_J142 {l : Launch} {G : GT} {fr lo : Nat} {h0 : Hp} {N : Nat} {r : (Int32 × Hp)} (hfr : 9 ≤ fr) (hlo : 10330 ≤ lo) {c49 : Nat → Nat → Int32 → Int32 → Hp → Option (Int32 × Hp)} (hc49 : ∀ (v30 : Nat) (v31 : Nat) (v32 : Int32) (v33 : Int32) (h34 : Hp), c49 v30 v31 v32 v33 h34 = some r → V l G cX0_row RX0 "row" 7 (Option.some Jvm.ClassFile.FieldType.int) fr lo h0 r.2 (QX G [(58, 91, 126, 232), (58, 91, 166, 0), (126, 131, 166, 0), (166, 168, 166, 0)] (.inr (some (.int r.1))) h0 r.2) 49 [(0, .ref v30), (1, .ref v31), (2, .int v32), (3, .int v33)] [] h34) {v40 : Nat} {v41 : Nat} {v42 : Int32} {v43 : Int32} {v44 : Int32} {v45 : Int32} {h46 : Hp} (hF : C_row_J142 N c49 v40 v41 v42 v43 v44 v45 h46 = some r) : V l G cX0_row RX0 "row" 7 (Option.some Jvm.ClassFile.FieldType.int) fr lo h0 r.2 (QX G [(58, 91, 126, 232), (58, 91, 166, 0), (126, 131, 166, 0), (166, 168, 166, 0)] (.inr (some (.int r.1))) h0 r.2) 142 [(0, .ref v40), (1, .ref v41), (3, .int v42), (4, .int v43)] [.int v44, .int v45] h46 := by
  unfold C_row_J142 at hF
  refine v_iadd dX0_row_142 ?_
  refine v_istore_n dX0_row_143 rfl (Nat.le_of_ble_eq_true rfl) (L' := [(2, .int (v45 + v44)), (0, .ref v40), (1, .ref v41), (3, .int v42), (4, .int v43)]) rfl ?_
  refine v_aload_n dX0_row_144 rfl 1 rfl ?_
  refine v_dup dX0_row_145 rfl ?_
  refine v_geti dX0_row_146 fl_X0_225 hF (fun v47 hF => ?_)
  refine v_iload dX0_row_149 4 rfl ?_
  refine v_tern (c := v43 = 0) (x := (1 : Int32)) (y := (0 : Int32)) (pcj := 159) (st := [.int v47, .ref v40]) ?_ (fun kt kf => v_if_eq0 (tgt := 158) dX0_row_151 (by decide) kt kf) (fun K => ?_) (fun K => ?_)
  · exact v_sub [1, 2, 0, 3] rfl (w_C_row_J159 hfr hlo hc49 hF)
  · refine v_iconst dX0_row_158 (v := 1) (by decide) ?_
    exact K
  · refine v_iconst dX0_row_154 (v := 0) (by decide) ?_
    refine v_goto (tgt := 159) dX0_row_155 (by decide) ?_
    exact K
def C_row_J119 (N : Nat) (c49 : Nat → Nat → Int32 → Int32 → Hp → Option (Int32 × Hp)) (v80 : Nat) (v81 : Nat) (v82 : Int32) (v83 : Int32) (v84 : Int32) (v85 : Int32) (v86 : Nat) (h87 : Hp) : Option (Int32 × Hp) :=
  (po h87 v86 [0] 12 (.int (v85 + v84))).bind fun h88 =>
  C_row_J203 N c49 v80 v81 v82 v83 h88
theorem w_C_row_J119 {l : Launch} {G : GT} {fr lo : Nat} {h0 : Hp} {N : Nat} {r : (Int32 × Hp)} (hfr : 9 ≤ fr) (hlo : 10330 ≤ lo) {c49 : Nat → Nat → Int32 → Int32 → Hp → Option (Int32 × Hp)} (hc49 : ∀ (v30 : Nat) (v31 : Nat) (v32 : Int32) (v33 : Int32) (h34 : Hp), c49 v30 v31 v32 v33 h34 = some r → V l G cX0_row RX0 "row" 7 (Option.some Jvm.ClassFile.FieldType.int) fr lo h0 r.2 (QX G [(58, 91, 126, 232), (58, 91, 166, 0), (126, 131, 166, 0), (166, 168, 166, 0)] (.inr (some (.int r.1))) h0 r.2) 49 [(0, .ref v30), (1, .ref v31), (2, .int v32), (3, .int v33)] [] h34) {v80 : Nat} {v81 : Nat} {v82 : Int32} {v83 : Int32} {v84 : Int32} {v85 : Int32} {v86 : Nat} {h87 : Hp} (hF : C_row_J119 N c49 v80 v81 v82 v83 v84 v85 v86 h87 = some r) : V l G cX0_row RX0 "row" 7 (Option.some Jvm.ClassFile.FieldType.int) fr lo h0 r.2 (QX G [(58, 91, 126, 232), (58, 91, 166, 0), (126, 131, 166, 0), (166, 168, 166, 0)] (.inr (some (.int r.1))) h0 r.2) 119 [(0, .ref v80), (1, .ref v81), (2, .int v82), (3, .int v83)] [.int v84, .int v85, .ref v86] h87 := by
  unfold C_row_J119 at hF
  refine v_iadd dX0_row_119 ?_
  refine v_put dX0_row_120 pl_X0_225 (fun z => by cases z) rfl rfl hF (fun h88 hF => ?_)
  refine v_goto (tgt := 203) dX0_row_123 (by decide) ?_
  exact v_sub [0, 1, 2, 3] rfl (w_C_row_J203 hfr hlo hc49 hF)
def C_row_J102 (N : Nat) (c49 : Nat → Nat → Int32 → Int32 → Hp → Option (Int32 × Hp)) (v72 : Nat) (v73 : Nat) (v74 : Int32) (v75 : Int32) (v76 : Int32) (v77 : Int32) (h78 : Hp) : Option (Int32 × Hp) :=
  (gi h78 v72 [0] 12).bind fun v79 =>
  C_row_J119 N c49 v72 v73 (v77 + v76) v74 (if v75 = 0 then (1 : Int32) else (0 : Int32)) v79 v72 h78
theorem w_C_row_J102 {l : Launch} {G : GT} {fr lo : Nat} {h0 : Hp} {N : Nat} {r : (Int32 × Hp)} (hfr : 9 ≤ fr) (hlo : 10330 ≤ lo) {c49 : Nat → Nat → Int32 → Int32 → Hp → Option (Int32 × Hp)} (hc49 : ∀ (v30 : Nat) (v31 : Nat) (v32 : Int32) (v33 : Int32) (h34 : Hp), c49 v30 v31 v32 v33 h34 = some r → V l G cX0_row RX0 "row" 7 (Option.some Jvm.ClassFile.FieldType.int) fr lo h0 r.2 (QX G [(58, 91, 126, 232), (58, 91, 166, 0), (126, 131, 166, 0), (166, 168, 166, 0)] (.inr (some (.int r.1))) h0 r.2) 49 [(0, .ref v30), (1, .ref v31), (2, .int v32), (3, .int v33)] [] h34) {v72 : Nat} {v73 : Nat} {v74 : Int32} {v75 : Int32} {v76 : Int32} {v77 : Int32} {h78 : Hp} (hF : C_row_J102 N c49 v72 v73 v74 v75 v76 v77 h78 = some r) : V l G cX0_row RX0 "row" 7 (Option.some Jvm.ClassFile.FieldType.int) fr lo h0 r.2 (QX G [(58, 91, 126, 232), (58, 91, 166, 0), (126, 131, 166, 0), (166, 168, 166, 0)] (.inr (some (.int r.1))) h0 r.2) 102 [(0, .ref v72), (1, .ref v73), (3, .int v74), (4, .int v75)] [.int v76, .int v77] h78 := by
  unfold C_row_J102 at hF
  refine v_iadd dX0_row_102 ?_
  refine v_istore_n dX0_row_103 rfl (Nat.le_of_ble_eq_true rfl) (L' := [(2, .int (v77 + v76)), (0, .ref v72), (1, .ref v73), (3, .int v74), (4, .int v75)]) rfl ?_
  refine v_aload_n dX0_row_104 rfl 1 rfl ?_
  refine v_dup dX0_row_105 rfl ?_
  refine v_geti dX0_row_106 fl_X0_225 hF (fun v79 hF => ?_)
  refine v_iload dX0_row_109 4 rfl ?_
  refine v_tern (c := v75 = 0) (x := (1 : Int32)) (y := (0 : Int32)) (pcj := 119) (st := [.int v79, .ref v72]) ?_ (fun kt kf => v_if_eq0 (tgt := 118) dX0_row_111 (by decide) kt kf) (fun K => ?_) (fun K => ?_)
  · exact v_sub [1, 2, 0, 3] rfl (w_C_row_J119 hfr hlo hc49 hF)
  · refine v_iconst dX0_row_118 (v := 1) (by decide) ?_
    exact K
  · refine v_iconst dX0_row_114 (v := 0) (by decide) ?_
    refine v_goto (tgt := 119) dX0_row_115 (by decide) ?_
    exact K
def C_row_J89 (N : Nat) (c49 : Nat → Nat → Int32 → Int32 → Hp → Option (Int32 × Hp)) (v66 : Nat) (v67 : Nat) (v68 : Int32) (v69 : Int32) (v70 : Int32) (h71 : Hp) : Option (Int32 × Hp) :=
  C_row_J102 N c49 v66 v67 v69 v70 (if v70 = 0 then (0 : Int32) else (1 : Int32)) v68 h71
theorem w_C_row_J89 {l : Launch} {G : GT} {fr lo : Nat} {h0 : Hp} {N : Nat} {r : (Int32 × Hp)} (hfr : 9 ≤ fr) (hlo : 10330 ≤ lo) {c49 : Nat → Nat → Int32 → Int32 → Hp → Option (Int32 × Hp)} (hc49 : ∀ (v30 : Nat) (v31 : Nat) (v32 : Int32) (v33 : Int32) (h34 : Hp), c49 v30 v31 v32 v33 h34 = some r → V l G cX0_row RX0 "row" 7 (Option.some Jvm.ClassFile.FieldType.int) fr lo h0 r.2 (QX G [(58, 91, 126, 232), (58, 91, 166, 0), (126, 131, 166, 0), (166, 168, 166, 0)] (.inr (some (.int r.1))) h0 r.2) 49 [(0, .ref v30), (1, .ref v31), (2, .int v32), (3, .int v33)] [] h34) {v66 : Nat} {v67 : Nat} {v68 : Int32} {v69 : Int32} {v70 : Int32} {h71 : Hp} (hF : C_row_J89 N c49 v66 v67 v68 v69 v70 h71 = some r) : V l G cX0_row RX0 "row" 7 (Option.some Jvm.ClassFile.FieldType.int) fr lo h0 r.2 (QX G [(58, 91, 126, 232), (58, 91, 166, 0), (126, 131, 166, 0), (166, 168, 166, 0)] (.inr (some (.int r.1))) h0 r.2) 89 [(0, .ref v66), (1, .ref v67), (2, .int v68), (3, .int v69)] [.int v70] h71 := by
  unfold C_row_J89 at hF
  refine v_istore dX0_row_89 (Nat.le_of_ble_eq_true rfl) (L' := [(4, .int v70), (0, .ref v66), (1, .ref v67), (2, .int v68), (3, .int v69)]) rfl ?_
  refine v_iload_n dX0_row_91 rfl 3 rfl ?_
  refine v_iload dX0_row_92 0 rfl ?_
  refine v_tern (c := v70 = 0) (x := (0 : Int32)) (y := (1 : Int32)) (pcj := 102) (st := [.int v68]) ?_ (fun kt kf => v_if_eq0 (tgt := 101) dX0_row_94 (by decide) kt kf) (fun K => ?_) (fun K => ?_)
  · exact v_sub [1, 2, 4, 0] rfl (w_C_row_J102 hfr hlo hc49 hF)
  · refine v_iconst dX0_row_101 (v := 0) (by decide) ?_
    exact K
  · refine v_iconst dX0_row_97 (v := 1) (by decide) ?_
    refine v_goto (tgt := 102) dX0_row_98 (by decide) ?_
    exact K
def C_row_L49 (N : Nat) (x49 : Nat → Int32 → Hp → Option (Int32 × Hp)) : Nat → Nat → Nat → Int32 → Int32 → Hp → Option (Int32 × Hp)
  | 0, _, _, _, _, _ => none
  | n89 + 1, v30, v31, v32, v33, h34 =>
    (alen h34 v31 1).bind fun v38 =>
    if v38 ≤ v33 then
      x49 v30 v32 h34
    else
      byc (C_byteAt h34 v31 v33) h34 v31 v33 (fun v39 =>
        byc (C_byteAt h34 v31 (v33 + (1 : Int32))) h34 v31 (v33 + (1 : Int32)) (fun v62 =>
          byc (C_byteAt h34 v31 (v33 + (2 : Int32))) h34 v31 (v33 + (2 : Int32)) (fun v63 =>
            bd2 (C_come v30 v39 v62 v63 h34) fun v65 h64 =>
            C_row_J89 N (C_row_L49 N x49 n89) v30 v31 v32 v33 (if v65 < 0 then (0 : Int32) else (1 : Int32)) h64)
          (C_row_J142 N (C_row_L49 N x49 n89) v30 v31 v33 (0 : Int32) (if (0 : Int32) = 0 then (0 : Int32) else (1 : Int32)) v32 (h3 h34)))
        (C_row_J142 N (C_row_L49 N x49 n89) v30 v31 v33 (0 : Int32) (if (0 : Int32) = 0 then (0 : Int32) else (1 : Int32)) v32 (h3 h34)))
      (C_row_J142 N (C_row_L49 N x49 n89) v30 v31 v33 (0 : Int32) (if (0 : Int32) = 0 then (0 : Int32) else (1 : Int32)) v32 (h3 h34))
theorem w_C_row_L49 {l : Launch} {G : GT} {fr lo : Nat} {h0 : Hp} {N : Nat} {r : (Int32 × Hp)} (hfr : 9 ≤ fr) (hlo : 10330 ≤ lo) {x49 : Nat → Int32 → Hp → Option (Int32 × Hp)} (hx49 : ∀ (v35 : Nat) (v36 : Int32) (h37 : Hp), x49 v35 v36 h37 = some r → V l G cX0_row RX0 "row" 7 (Option.some Jvm.ClassFile.FieldType.int) fr lo h0 r.2 (QX G [(58, 91, 126, 232), (58, 91, 166, 0), (126, 131, 166, 0), (166, 168, 166, 0)] (.inr (some (.int r.1))) h0 r.2) 209 [(0, .ref v35), (2, .int v36)] [] h37) : ∀ (n : Nat) (v30 : Nat) (v31 : Nat) (v32 : Int32) (v33 : Int32) (h34 : Hp), C_row_L49 N x49 n v30 v31 v32 v33 h34 = some r → V l G cX0_row RX0 "row" 7 (Option.some Jvm.ClassFile.FieldType.int) fr lo h0 r.2 (QX G [(58, 91, 126, 232), (58, 91, 166, 0), (126, 131, 166, 0), (166, 168, 166, 0)] (.inr (some (.int r.1))) h0 r.2) 49 [(0, .ref v30), (1, .ref v31), (2, .int v32), (3, .int v33)] [] h34 := by
  intro n
  induction n with
  | zero =>
    intro v30 v31 v32 v33 h34 hF
    cases (show (none : Option (Int32 × Hp)) = some r from hF)
  | succ n hc49 =>
    intro v30 v31 v32 v33 h34 hF
    rw [C_row_L49] at hF
    refine v_iload_n dX0_row_49 rfl 3 rfl ?_
    refine v_aload_n dX0_row_50 rfl 1 rfl ?_
    refine v_alen (k := 1) rfl dX0_row_51 hF (fun v38 hF => ?_)
    refine v_icmp_ge (tgt := 209) dX0_row_52 (by decide) hF (fun hF => ?_) (fun hF => ?_)
    · exact v_sub [0, 2] rfl (hx49 _ _ _ hF)
    · refine v_iconst dX0_row_55 (v := 0) (by decide) ?_
      refine v_istore dX0_row_56 (Nat.le_of_ble_eq_true rfl) (L' := [(4, .int (0 : Int32)), (0, .ref v30), (1, .ref v31), (2, .int v32), (3, .int v33)]) rfl ?_
      refine v_aload_n dX0_row_58 rfl 1 rfl ?_
      refine v_aload_n dX0_row_59 rfl 2 rfl ?_
      refine v_iload_n dX0_row_60 rfl 4 rfl ?_
      rcases byc_spec hF with ⟨v39, e_v39, hF⟩ | ⟨n9, d9, f9, w1, w2, w3, w4, hF⟩
      · refine v_calS1 dX0_row_61 sl_X0_228 q738 (ct_C_byteAt e_v39) rfl rfl (Nat.le_trans (Nat.le_of_ble_eq_true rfl) hfr) (Nat.le_trans (Nat.le_of_ble_eq_true rfl) hlo) (Nat.le_of_ble_eq_true rfl) ?_
        refine v_aload_n dX0_row_64 rfl 2 rfl ?_
        refine v_iload_n dX0_row_65 rfl 4 rfl ?_
        refine v_iconst dX0_row_66 (v := 1) (by decide) ?_
        refine v_iadd dX0_row_67 ?_
        rcases byc_spec hF with ⟨v62, e_v62, hF⟩ | ⟨n9, d9, f9, w1, w2, w3, w4, hF⟩
        · refine v_calS1 dX0_row_68 sl_X0_228 q738 (ct_C_byteAt e_v62) rfl rfl (Nat.le_trans (Nat.le_of_ble_eq_true rfl) hfr) (Nat.le_trans (Nat.le_of_ble_eq_true rfl) hlo) (Nat.le_of_ble_eq_true rfl) ?_
          refine v_aload_n dX0_row_71 rfl 2 rfl ?_
          refine v_iload_n dX0_row_72 rfl 4 rfl ?_
          refine v_iconst dX0_row_73 (v := 2) (by decide) ?_
          refine v_iadd dX0_row_74 ?_
          rcases byc_spec hF with ⟨v63, e_v63, hF⟩ | ⟨n9, d9, f9, w1, w2, w3, w4, hF⟩
          · refine v_calS1 dX0_row_75 sl_X0_228 q738 (ct_C_byteAt e_v63) rfl rfl (Nat.le_trans (Nat.le_of_ble_eq_true rfl) hfr) (Nat.le_trans (Nat.le_of_ble_eq_true rfl) hlo) (Nat.le_of_ble_eq_true rfl) ?_
            obtain ⟨v65, h64, e_v65, hF⟩ := bd2_spec hF
            refine v_calV1 dX0_row_78 vl_X0_165 q476 (rc_C_come e_v65) (ct_C_come e_v65) rfl rfl (Nat.le_trans (Nat.le_of_ble_eq_true rfl) hfr) (Nat.le_trans (Nat.le_of_ble_eq_true rfl) hlo) (Nat.le_of_ble_eq_true rfl) ?_
            refine v_tern (c := v65 < 0) (x := (0 : Int32)) (y := (1 : Int32)) (pcj := 89) (st := []) ?_ (fun kt kf => v_if_lt0 (tgt := 88) dX0_row_81 (by decide) kt kf) (fun K => ?_) (fun K => ?_)
            · exact v_sub [1, 2, 3, 4] rfl (w_C_row_J89 hfr hlo hc49 hF)
            · refine v_iconst dX0_row_88 (v := 0) (by decide) ?_
              exact K
            · refine v_iconst dX0_row_84 (v := 1) (by decide) ?_
              refine v_goto (tgt := 89) dX0_row_85 (by decide) ?_
              exact K
          · refine v_calSA (n := 2) dX0_row_75 q137 ⟨by decide, by decide⟩ (by decide +kernel) q737 q736 q738 (show MetA l G _ (ws_ yX0_byteAt cX0_byteAt 2 (some .int)) 8 10300 [.ref v31, .int (v33 + (2 : Int32))] h34 from by rw [w4]; exact metA_byteAt w1 w2 w3) rfl rfl (Nat.le_trans (Nat.le_of_ble_eq_true rfl) hfr) (Nat.le_trans (Nat.le_of_ble_eq_true rfl) hlo) (Nat.le_of_ble_eq_true rfl) _ _ rfl (by decide) (by decide) q659 q709 (fun q9_75 => ?_)
            refine v_astore dX0_row_126 (Nat.le_of_ble_eq_true rfl) (L' := [(5, .ref q9_75), (4, .int (0 : Int32)), (0, .ref v30), (1, .ref v31), (2, .int v32), (3, .int v33)]) rfl ?_
            refine v_iconst dX0_row_128 (v := 0) (by decide) ?_
            refine v_istore dX0_row_129 (Nat.le_of_ble_eq_true rfl) (L' := [(4, .int (0 : Int32)), (5, .ref q9_75), (0, .ref v30), (1, .ref v31), (2, .int v32), (3, .int v33)]) rfl ?_
            refine v_iload_n dX0_row_131 rfl 4 rfl ?_
            refine v_iload dX0_row_132 0 rfl ?_
            refine v_tern (c := (0 : Int32) = 0) (x := (0 : Int32)) (y := (1 : Int32)) (pcj := 142) (st := [.int v32]) ?_ (fun kt kf => v_if_eq0 (tgt := 141) dX0_row_134 (by decide) kt kf) (fun K => ?_) (fun K => ?_)
            · exact v_sub [2, 3, 5, 0] rfl (w_C_row_J142 hfr hlo hc49 hF)
            · refine v_iconst dX0_row_141 (v := 0) (by decide) ?_
              exact K
            · refine v_iconst dX0_row_137 (v := 1) (by decide) ?_
              refine v_goto (tgt := 142) dX0_row_138 (by decide) ?_
              exact K
        · refine v_calSA (n := 2) dX0_row_68 q137 ⟨by decide, by decide⟩ (by decide +kernel) q737 q736 q738 (show MetA l G _ (ws_ yX0_byteAt cX0_byteAt 2 (some .int)) 8 10300 [.ref v31, .int (v33 + (1 : Int32))] h34 from by rw [w4]; exact metA_byteAt w1 w2 w3) rfl rfl (Nat.le_trans (Nat.le_of_ble_eq_true rfl) hfr) (Nat.le_trans (Nat.le_of_ble_eq_true rfl) hlo) (Nat.le_of_ble_eq_true rfl) _ _ rfl (by decide) (by decide) q659 q709 (fun q9_68 => ?_)
          refine v_astore dX0_row_126 (Nat.le_of_ble_eq_true rfl) (L' := [(5, .ref q9_68), (4, .int (0 : Int32)), (0, .ref v30), (1, .ref v31), (2, .int v32), (3, .int v33)]) rfl ?_
          refine v_iconst dX0_row_128 (v := 0) (by decide) ?_
          refine v_istore dX0_row_129 (Nat.le_of_ble_eq_true rfl) (L' := [(4, .int (0 : Int32)), (5, .ref q9_68), (0, .ref v30), (1, .ref v31), (2, .int v32), (3, .int v33)]) rfl ?_
          refine v_iload_n dX0_row_131 rfl 4 rfl ?_
          refine v_iload dX0_row_132 0 rfl ?_
          refine v_tern (c := (0 : Int32) = 0) (x := (0 : Int32)) (y := (1 : Int32)) (pcj := 142) (st := [.int v32]) ?_ (fun kt kf => v_if_eq0 (tgt := 141) dX0_row_134 (by decide) kt kf) (fun K => ?_) (fun K => ?_)
          · exact v_sub [2, 3, 5, 0] rfl (w_C_row_J142 hfr hlo hc49 hF)
          · refine v_iconst dX0_row_141 (v := 0) (by decide) ?_
            exact K
          · refine v_iconst dX0_row_137 (v := 1) (by decide) ?_
            refine v_goto (tgt := 142) dX0_row_138 (by decide) ?_
            exact K
      · refine v_calSA (n := 2) dX0_row_61 q137 ⟨by decide, by decide⟩ (by decide +kernel) q737 q736 q738 (show MetA l G _ (ws_ yX0_byteAt cX0_byteAt 2 (some .int)) 8 10300 [.ref v31, .int v33] h34 from by rw [w4]; exact metA_byteAt w1 w2 w3) rfl rfl (Nat.le_trans (Nat.le_of_ble_eq_true rfl) hfr) (Nat.le_trans (Nat.le_of_ble_eq_true rfl) hlo) (Nat.le_of_ble_eq_true rfl) _ _ rfl (by decide) (by decide) q659 q709 (fun q9_61 => ?_)
        refine v_astore dX0_row_126 (Nat.le_of_ble_eq_true rfl) (L' := [(5, .ref q9_61), (4, .int (0 : Int32)), (0, .ref v30), (1, .ref v31), (2, .int v32), (3, .int v33)]) rfl ?_
        refine v_iconst dX0_row_128 (v := 0) (by decide) ?_
        refine v_istore dX0_row_129 (Nat.le_of_ble_eq_true rfl) (L' := [(4, .int (0 : Int32)), (5, .ref q9_61), (0, .ref v30), (1, .ref v31), (2, .int v32), (3, .int v33)]) rfl ?_
        refine v_iload_n dX0_row_131 rfl 4 rfl ?_
        refine v_iload dX0_row_132 0 rfl ?_
        refine v_tern (c := (0 : Int32) = 0) (x := (0 : Int32)) (y := (1 : Int32)) (pcj := 142) (st := [.int v32]) ?_ (fun kt kf => v_if_eq0 (tgt := 141) dX0_row_134 (by decide) kt kf) (fun K => ?_) (fun K => ?_)
        · exact v_sub [2, 3, 5, 0] rfl (w_C_row_J142 hfr hlo hc49 hF)
        · refine v_iconst dX0_row_141 (v := 0) (by decide) ?_
          exact K
        · refine v_iconst dX0_row_137 (v := 1) (by decide) ?_
          refine v_goto (tgt := 142) dX0_row_138 (by decide) ?_
          exact K
def C_row_b (N : Nat) (a0 : Nat) (h : Hp) : Option (Int32 × Hp) :=
  (gi h a0 [0] 15).bind fun v21 =>
  if v21 = 0 then
    bd2 (C_tell a0 (-6 : Int32) h) fun v96 h95 =>
    some (v96, h95)
  else
    (gi h a0 [0] 15).bind fun v22 =>
    bd2 (na h 1 v22 (.inl (fun _ => 0))) fun a23 h24 =>
    (gr h24 a0 [0] 14).bind fun v25 =>
    (gi h24 a0 [0] 15).bind fun v26 =>
    (cpI h24 1 v25 (0 : Int32) a23 (0 : Int32) v26).bind fun h27 =>
    (po h27 a0 [0] 15 (.int (0 : Int32))).bind fun h28 =>
    (po h28 a0 [0] 12 (.int (0 : Int32))).bind fun h29 =>
    C_row_L49 N (fun v90 v91 h92 =>
      bd2 (C_settled v90 v91 h92) fun v94 h93 =>
      some (v94, h93)) N a0 a23 (0 : Int32) (0 : Int32) h29
theorem w_C_row_b {l : Launch} {G : GT} {fr lo : Nat} {h0 : Hp} {N : Nat} {r : (Int32 × Hp)} (hfr : 9 ≤ fr) (hlo : 10330 ≤ lo) {a0 : Nat} {h : Hp} (hF : C_row_b N a0 h = some r) : V l G cX0_row RX0 "row" 7 (Option.some Jvm.ClassFile.FieldType.int) fr lo h0 r.2 (QX G [(58, 91, 126, 232), (58, 91, 166, 0), (126, 131, 166, 0), (166, 168, 166, 0)] (.inr (some (.int r.1))) h0 r.2) 0 [(0, .ref a0)] [] h := by
  unfold C_row_b at hF
  refine v_aload_n dX0_row_0 rfl 0 rfl ?_
  refine v_geti dX0_row_1 fl_X0_148 hF (fun v21 hF => ?_)
  refine v_if_ne (tgt := 14) dX0_row_4 (by decide) hF (fun hF => ?_) (fun hF => ?_)
  · refine v_aload_n dX0_row_14 rfl 0 rfl ?_
    refine v_geti dX0_row_15 fl_X0_148 hF (fun v22 hF => ?_)
    refine v_newarr dX0_row_18 rfl rfl q453 (fun _ _ h => h) (by decide) (fun _ _ => rfl) hF (fun a23 h24 hF => ?_)
    refine v_astore_n dX0_row_20 rfl (Nat.le_of_ble_eq_true rfl) (L' := [(1, .ref a23), (0, .ref a0)]) rfl ?_
    refine v_aload_n dX0_row_21 rfl 1 rfl ?_
    refine v_getr dX0_row_22 fl_X0_72 hF (fun v25 hF => ?_)
    refine v_iconst dX0_row_25 (v := 0) (by decide) ?_
    refine v_aload_n dX0_row_26 rfl 0 rfl ?_
    refine v_iconst dX0_row_27 (v := 0) (by decide) ?_
    refine v_aload_n dX0_row_28 rfl 1 rfl ?_
    refine v_geti dX0_row_29 fl_X0_148 hF (fun v26 hF => ?_)
    refine v_cpI dX0_row_32 ac_X0_219 (k := 1) rfl (Or.inr ⟨rfl, rfl⟩) (by omega) (by have : lwAC ≤ 60 := Nat.le_of_ble_eq_true rfl; omega) (Nat.le_of_ble_eq_true rfl) hF (fun h27 hF => ?_)
    refine v_aload_n dX0_row_35 rfl 1 rfl ?_
    refine v_iconst dX0_row_36 (v := 0) (by decide) ?_
    refine v_put dX0_row_37 pl_X0_148 (fun z => by cases z) rfl rfl hF (fun h28 hF => ?_)
    refine v_aload_n dX0_row_40 rfl 1 rfl ?_
    refine v_iconst dX0_row_41 (v := 0) (by decide) ?_
    refine v_put dX0_row_42 pl_X0_225 (fun z => by cases z) rfl rfl hF (fun h29 hF => ?_)
    refine v_iconst dX0_row_45 (v := 0) (by decide) ?_
    refine v_istore_n dX0_row_46 rfl (Nat.le_of_ble_eq_true rfl) (L' := [(2, .int (0 : Int32)), (1, .ref a23), (0, .ref a0)]) rfl ?_
    refine v_iconst dX0_row_47 (v := 0) (by decide) ?_
    refine v_istore_n dX0_row_48 rfl (Nat.le_of_ble_eq_true rfl) (L' := [(3, .int (0 : Int32)), (2, .int (0 : Int32)), (1, .ref a23), (0, .ref a0)]) rfl ?_
    refine v_sub [3, 2, 1, 0] rfl (w_C_row_L49 hfr hlo ?_ N _ _ _ _ _ hF)
    intro v90 v91 h92 hF
    refine v_aload_n dX0_row_209 rfl 0 rfl ?_
    refine v_iload_n dX0_row_210 rfl 1 rfl ?_
    obtain ⟨v94, h93, e_v94, hF⟩ := bd2_spec hF
    refine v_calV1 dX0_row_211 vl_X0_169 q490 (rc_C_settled e_v94) (ct_C_settled e_v94) rfl rfl (Nat.le_trans (Nat.le_of_ble_eq_true rfl) hfr) (Nat.le_trans (Nat.le_of_ble_eq_true rfl) hlo) (Nat.le_of_ble_eq_true rfl) ?_
    cases hF
    exact v_toX (v_iret dX0_row_214 rfl rfl rfl rfl)
  · refine v_aload_n dX0_row_7 rfl 0 rfl ?_
    refine v_bipush dX0_row_8 (v := -6) (by decide) ?_
    obtain ⟨v96, h95, e_v96, hF⟩ := bd2_spec hF
    refine v_calV1 dX0_row_10 vl_X0_112 q494 (rc_C_tell e_v96) (ct_C_tell e_v96) rfl rfl (Nat.le_trans (Nat.le_of_ble_eq_true rfl) hfr) (Nat.le_trans (Nat.le_of_ble_eq_true rfl) hlo) (Nat.le_of_ble_eq_true rfl) ?_
    cases hF
    exact v_toX (v_iret dX0_row_13 rfl rfl rfl rfl)
def C_row (N : Nat) (a0 : Nat) (h : Hp) : Option (Int32 × Hp) := (ob h a0 [0]).bind fun _ => C_row_b N a0 h
theorem rc_C_row {N : Nat}  {r : (Int32 × Hp)} {a0 : Nat} {h : Hp} (hF : C_row N a0 h = some r) : RC h a0 [0] := by
  obtain ⟨o, ho, -⟩ := Option.bind_eq_some_iff.mp hF
  exact ⟨o, ho⟩
theorem ct_C_row {l : Launch} {G : GT} {N : Nat} {r : (Int32 × Hp)} {a0 : Nat} {h : Hp} (hF : C_row N a0 h = some r) : Ct l G yX0_row (wsH_ yX0_row cX0_row 7 (Option.some Jvm.ClassFile.FieldType.int) [(58, 91, 126, 232), (58, 91, 166, 0), (126, 131, 166, 0), (166, 168, 166, 0)]) 9 10330 [.ref a0] h (some (.int r.1)) r.2 :=
  ct_ofH (by decide) (Nat.le_of_ble_eq_true rfl) (w_C_row_b (Nat.le_refl _) (Nat.le_refl _) (Option.bind_eq_some_iff.mp hF).choose_spec.2)
def C_slugs_b (h : Hp) (a0 : Nat) : Option Int32 :=
  (gi h a0 [0] 12).bind fun v21 =>
  some v21
theorem w_C_slugs_b {l : Launch} {G : GT} {fr lo : Nat} {h0 : Hp} {h : Hp} {r : Int32} (hfr : 0 ≤ fr) (hlo : 0 ≤ lo) {a0 : Nat} (hF : C_slugs_b h a0 = some r) : V l G cX0_slugs RX0 "slugs" 1 (Option.some Jvm.ClassFile.FieldType.int) fr lo h0 h (QM G (some (.int r)) h0 h) 0 [(0, .ref a0)] [] h := by
  unfold C_slugs_b at hF
  refine v_aload_n dX0_slugs_0 rfl 0 rfl ?_
  refine v_geti dX0_slugs_1 fl_X0_225 hF (fun v21 hF => ?_)
  cases hF
  exact v_iret dX0_slugs_4 rfl rfl rfl rfl
def C_slugs (h : Hp) (a0 : Nat) : Option Int32 := (ob h a0 [0]).bind fun _ => C_slugs_b h a0
theorem rc_C_slugs {h : Hp}  {r : Int32} {a0 : Nat} (hF : C_slugs h a0 = some r) : RC h a0 [0] := by
  obtain ⟨o, ho, -⟩ := Option.bind_eq_some_iff.mp hF
  exact ⟨o, ho⟩
theorem ct_C_slugs {l : Launch} {G : GT} {h : Hp} {r : Int32} {a0 : Nat} (hF : C_slugs h a0 = some r) : Ct l G yX0_slugs (ws_ yX0_slugs cX0_slugs 1 (Option.some Jvm.ClassFile.FieldType.int)) 0 0 [.ref a0] h (some (.int r)) h :=
  ct_of (by decide) (Nat.le_of_ble_eq_true rfl) (w_C_slugs_b (Nat.le_refl _) (Nat.le_refl _) (Option.bind_eq_some_iff.mp hF).choose_spec.2)
theorem pl_X7_17 : PL RX7 17 [7, 18] 5 (.array (.object "LeekReadings$Test")) true := by
  intro ci h
  simp only [List.mem_cons, List.not_mem_nil, or_false] at h
  rcases h with rfl | rfl
  · exact ⟨RX8, _, TX8, 11, tyX8, rfl, in_X8, by decide, Or.inl q790, Or.inl rfl, tyX8_ok, rfl, by decide +kernel, rfl, fun _ => rfl⟩
  · exact ⟨RX21, _, TX21, 10, tyX21, rfl, in_X21, by decide, Or.inl q790, Or.inl rfl, tyX21_ok, rfl, by decide +kernel, rfl, fun _ => rfl⟩
theorem pl_X7_21 : PL RX7 21 [7, 18] 6 (.array (.object "java/lang/String")) true := by
  intro ci h
  simp only [List.mem_cons, List.not_mem_nil, or_false] at h
  rcases h with rfl | rfl
  · exact ⟨RX8, _, TX8, 11, tyX8, rfl, in_X8, by decide, Or.inl q791, Or.inl rfl, tyX8_ok, rfl, by decide +kernel, rfl, fun _ => rfl⟩
  · exact ⟨RX21, _, TX21, 10, tyX21, rfl, in_X21, by decide, Or.inl q791, Or.inl rfl, tyX21_ok, rfl, by decide +kernel, rfl, fun _ => rfl⟩
theorem pl_X7_3 : PL2 RX7 3 [7, 18] 7 (.object "LeekReadings") := by
  intro ci h
  simp only [List.mem_cons, List.not_mem_nil, or_false] at h
  rcases h with rfl | rfl
  · exact ⟨RX8, _, TX8, 11, tyX8, _, rfl, rfl, in_X8, by decide, q792, Or.inl rfl, tyX8_ok, rfl, by decide +kernel, rfl, rfl, by decide, by decide, by decide⟩
  · exact ⟨RX21, _, TX21, 10, tyX21, _, rfl, rfl, in_X21, by decide, q792, Or.inl rfl, tyX21_ok, rfl, by decide +kernel, rfl, rfl, by decide, by decide, by decide⟩
def X7_init_b (a0 : Nat) (a1 : Nat) (a2 : Nat) (h : Hp) : Option Hp :=
  (po2 h a0 [7, 18] 7 (.ref a1)).bind fun h21 =>
  bd2 (na h21 9 (50 : Int32) (.inr (.inr (.inr (.inr (fun _ => none)))))) fun a22 h23 =>
  (po h23 a0 [7, 18] 5 (.ref a22)).bind fun h24 =>
  (po h24 a0 [7, 18] 6 (.ref a2)).bind fun h25 =>
  some h25
theorem w_X7_init_b {l : Launch} {G : GT} {fr lo : Nat} {h0 : Hp} {r : Hp} (hfr : 1 ≤ fr) (hlo : 20 ≤ lo) {a0 : Nat} {a1 : Nat} {a2 : Nat} {h : Hp} (hF : X7_init_b a0 a1 a2 h = some r) : V l G cX7_init RX7 "<init>" 3 (Option.none : Option Jvm.ClassFile.FieldType) fr lo h0 r (QM G none h0 r) 0 [(0, .ref a0), (1, .ref a1), (2, .ref a2)] [] h := by
  unfold X7_init_b at hF
  refine v_aload_n dX7_init_0 rfl 0 rfl ?_
  refine v_aload_n dX7_init_1 rfl 1 rfl ?_
  refine v_put2 dX7_init_2 pl_X7_3 rfl rfl rfl hF (fun h21 hF => ?_)
  refine v_aload_n dX7_init_5 rfl 0 rfl ?_
  refine v_objInit dX7_init_6 q771 q184 q185 (by omega) (by omega) (Nat.le_of_ble_eq_true rfl) ?_
  refine v_aload_n dX7_init_9 rfl 0 rfl ?_
  refine v_bipush dX7_init_10 (v := 50) (by decide) ?_
  refine v_anew dX7_init_12 rfl q772 q773 hF (fun a22 h23 hF => ?_)
  refine v_put dX7_init_15 pl_X7_17 (fun _ => rfl) rfl rfl hF (fun h24 hF => ?_)
  refine v_aload_n dX7_init_18 rfl 0 rfl ?_
  refine v_aload_n dX7_init_19 rfl 2 rfl ?_
  refine v_put dX7_init_20 pl_X7_21 (fun _ => rfl) rfl rfl hF (fun h25 hF => ?_)
  cases hF
  exact v_vret dX7_init_23 rfl rfl rfl
def X7_init (a0 : Nat) (a1 : Nat) (a2 : Nat) (h : Hp) : Option Hp := (ob h a0 [7, 18]).bind fun _ => X7_init_b a0 a1 a2 h
theorem rc_X7_init  {r : Hp} {a0 : Nat} {a1 : Nat} {a2 : Nat} {h : Hp} (hF : X7_init a0 a1 a2 h = some r) : RC h a0 [7, 18] := by
  obtain ⟨o, ho, -⟩ := Option.bind_eq_some_iff.mp hF
  exact ⟨o, ho⟩
theorem ct_X7_init {l : Launch} {G : GT} {r : Hp} {a0 : Nat} {a1 : Nat} {a2 : Nat} {h : Hp} (hF : X7_init a0 a1 a2 h = some r) : Ct l G yX7_init (ws_ yX7_init cX7_init 3 (Option.none : Option Jvm.ClassFile.FieldType)) 1 20 [.ref a0, .ref a1, .ref a2] h none r :=
  ct_of (by decide) (Nat.le_of_ble_eq_true rfl) (w_X7_init_b (Nat.le_refl _) (Nat.le_refl _) (Option.bind_eq_some_iff.mp hF).choose_spec.2)
theorem st_X8_11 : (RX8, 11, "leek", 0) ∈ strTab := List.mem_of_getElem? (i := 0) rfl
theorem st_X8_13 : (RX8, 13, "likes", 1) ∈ strTab := List.mem_of_getElem? (i := 1) rfl
theorem st_X8_15 : (RX8, 15, "high", 2) ∈ strTab := List.mem_of_getElem? (i := 2) rfl
theorem st_X8_17 : (RX8, 17, "book", 3) ∈ strTab := List.mem_of_getElem? (i := 3) rfl
theorem st_X8_19 : (RX8, 19, "long", 4) ∈ strTab := List.mem_of_getElem? (i := 4) rfl
theorem st_X8_21 : (RX8, 21, "kind", 5) ∈ strTab := List.mem_of_getElem? (i := 5) rfl
theorem st_X8_23 : (RX8, 23, "known", 6) ∈ strTab := List.mem_of_getElem? (i := 6) rfl
theorem st_X8_25 : (RX8, 25, "day", 7) ∈ strTab := List.mem_of_getElem? (i := 7) rfl
theorem st_X8_27 : (RX8, 27, "mood", 8) ∈ strTab := List.mem_of_getElem? (i := 8) rfl
theorem il_X8_29 : IL RX8 29 yX7_init 2 := ⟨q158, ⟨by decide, by decide⟩, by decide +kernel, q769, rfl, Or.inl q768⟩
theorem pl_X8_37 : PL RX8 37 [7] 8 (.array (.object "LeekReadings$Clause")) true := by
  intro ci h
  simp only [List.mem_cons, List.not_mem_nil, or_false] at h
  subst h; exact ⟨RX8, _, TX8, 11, tyX8, rfl, in_X8, by decide, Or.inl q778, Or.inl rfl, tyX8_ok, rfl, by decide +kernel, rfl, fun _ => rfl⟩
theorem st_X8_41 : (RX8, 41, "grows", 9) ∈ strTab := List.mem_of_getElem? (i := 9) rfl
theorem st_X8_43 : (RX8, 43, "wilts", 10) ∈ strTab := List.mem_of_getElem? (i := 10) rfl
theorem st_X8_45 : (RX8, 45, "bars", 11) ∈ strTab := List.mem_of_getElem? (i := 11) rfl
theorem pl_X8_47 : PL RX8 47 [7] 9 (.array (.object "java/lang/String")) true := by
  intro ci h
  simp only [List.mem_cons, List.not_mem_nil, or_false] at h
  subst h; exact ⟨RX8, _, TX8, 11, tyX8, rfl, in_X8, by decide, Or.inl q779, Or.inl rfl, tyX8_ok, rfl, by decide +kernel, rfl, fun _ => rfl⟩
theorem pl_X8_3 : PL2 RX8 3 [7] 10 (.object "LeekReadings") := by
  intro ci h
  simp only [List.mem_cons, List.not_mem_nil, or_false] at h
  subst h; exact ⟨RX8, _, TX8, 11, tyX8, _, rfl, rfl, in_X8, by decide, q780, Or.inl rfl, tyX8_ok, rfl, by decide +kernel, rfl, rfl, by decide, by decide, by decide⟩
def X8_init_b (a0 : Nat) (a1 : Nat) (h : Hp) : Option Hp :=
  (po2 h a0 [7] 10 (.ref a1)).bind fun h21 =>
  bd2 (na h21 8 (9 : Int32) (.inr (.inr (.inr (.inr (fun _ => none)))))) fun a22 h23 =>
  (sS h23 a22 (0 : Int32) (h23.2.2.1 0)).bind fun h24 =>
  (sS h24 a22 (1 : Int32) (h24.2.2.1 1)).bind fun h25 =>
  (sS h25 a22 (2 : Int32) (h25.2.2.1 2)).bind fun h26 =>
  (sS h26 a22 (3 : Int32) (h26.2.2.1 3)).bind fun h27 =>
  (sS h27 a22 (4 : Int32) (h27.2.2.1 4)).bind fun h28 =>
  (sS h28 a22 (5 : Int32) (h28.2.2.1 5)).bind fun h29 =>
  (sS h29 a22 (6 : Int32) (h29.2.2.1 6)).bind fun h30 =>
  (sS h30 a22 (7 : Int32) (h30.2.2.1 7)).bind fun h31 =>
  (sS h31 a22 (8 : Int32) (h31.2.2.1 8)).bind fun h32 =>
  (X7_init a0 a1 a22 h32).bind fun h33 =>
  bd2 (na h33 7 (12 : Int32) (.inr (.inr (.inr (.inr (fun _ => none)))))) fun a34 h35 =>
  (po h35 a0 [7] 8 (.ref a34)).bind fun h36 =>
  bd2 (na h36 8 (3 : Int32) (.inr (.inr (.inr (.inr (fun _ => none)))))) fun a37 h38 =>
  (sS h38 a37 (0 : Int32) (h38.2.2.1 9)).bind fun h39 =>
  (sS h39 a37 (1 : Int32) (h39.2.2.1 10)).bind fun h40 =>
  (sS h40 a37 (2 : Int32) (h40.2.2.1 11)).bind fun h41 =>
  (po h41 a0 [7] 9 (.ref a37)).bind fun h42 =>
  some h42
theorem w_X8_init_b {l : Launch} {G : GT} {fr lo : Nat} {h0 : Hp} {r : Hp} (hfr : 2 ≤ fr) (hlo : 42 ≤ lo) {a0 : Nat} {a1 : Nat} {h : Hp} (hF : X8_init_b a0 a1 h = some r) : V l G cX8_init RX8 "<init>" 2 (Option.none : Option Jvm.ClassFile.FieldType) fr lo h0 r (QM G none h0 r) 0 [(0, .ref a0), (1, .ref a1)] [] h := by
  unfold X8_init_b at hF
  refine v_aload_n dX8_init_0 rfl 0 rfl ?_
  refine v_aload_n dX8_init_1 rfl 1 rfl ?_
  refine v_put2 dX8_init_2 pl_X8_3 rfl rfl rfl hF (fun h21 hF => ?_)
  refine v_aload_n dX8_init_5 rfl 0 rfl ?_
  refine v_aload_n dX8_init_6 rfl 1 rfl ?_
  refine v_bipush dX8_init_7 (v := 9) (by decide) ?_
  refine v_anew dX8_init_9 rfl q757 q758 hF (fun a22 h23 hF => ?_)
  refine v_dup dX8_init_12 rfl ?_
  refine v_iconst dX8_init_13 (v := 0) (by decide) ?_
  refine v_ldcS dX8_init_14 st_X8_11 ?_
  refine v_aastS dX8_init_16 hF (fun h24 hF => ?_)
  refine v_dup dX8_init_17 rfl ?_
  refine v_iconst dX8_init_18 (v := 1) (by decide) ?_
  refine v_ldcS dX8_init_19 st_X8_13 ?_
  refine v_aastS dX8_init_21 hF (fun h25 hF => ?_)
  refine v_dup dX8_init_22 rfl ?_
  refine v_iconst dX8_init_23 (v := 2) (by decide) ?_
  refine v_ldcS dX8_init_24 st_X8_15 ?_
  refine v_aastS dX8_init_26 hF (fun h26 hF => ?_)
  refine v_dup dX8_init_27 rfl ?_
  refine v_iconst dX8_init_28 (v := 3) (by decide) ?_
  refine v_ldcS dX8_init_29 st_X8_17 ?_
  refine v_aastS dX8_init_31 hF (fun h27 hF => ?_)
  refine v_dup dX8_init_32 rfl ?_
  refine v_iconst dX8_init_33 (v := 4) (by decide) ?_
  refine v_ldcS dX8_init_34 st_X8_19 ?_
  refine v_aastS dX8_init_36 hF (fun h28 hF => ?_)
  refine v_dup dX8_init_37 rfl ?_
  refine v_iconst dX8_init_38 (v := 5) (by decide) ?_
  refine v_ldcS dX8_init_39 st_X8_21 ?_
  refine v_aastS dX8_init_41 hF (fun h29 hF => ?_)
  refine v_dup dX8_init_42 rfl ?_
  refine v_bipush dX8_init_43 (v := 6) (by decide) ?_
  refine v_ldcS dX8_init_45 st_X8_23 ?_
  refine v_aastS dX8_init_47 hF (fun h30 hF => ?_)
  refine v_dup dX8_init_48 rfl ?_
  refine v_bipush dX8_init_49 (v := 7) (by decide) ?_
  refine v_ldcS dX8_init_51 st_X8_25 ?_
  refine v_aastS dX8_init_53 hF (fun h31 hF => ?_)
  refine v_dup dX8_init_54 rfl ?_
  refine v_bipush dX8_init_55 (v := 8) (by decide) ?_
  refine v_ldcS dX8_init_57 st_X8_27 ?_
  refine v_aastS dX8_init_59 hF (fun h32 hF => ?_)
  obtain ⟨h33, e_h33, hF⟩ := Option.bind_eq_some_iff.mp hF
  refine v_calI dX8_init_60 il_X8_29 q770 (ct_X7_init e_h33) rfl rfl (Nat.le_trans (Nat.le_of_ble_eq_true rfl) hfr) (Nat.le_trans (Nat.le_of_ble_eq_true rfl) hlo) (Nat.le_of_ble_eq_true rfl) ?_
  refine v_aload_n dX8_init_63 rfl 0 rfl ?_
  refine v_bipush dX8_init_64 (v := 12) (by decide) ?_
  refine v_anew dX8_init_66 rfl q774 q344 hF (fun a34 h35 hF => ?_)
  refine v_put dX8_init_69 pl_X8_37 (fun _ => rfl) rfl rfl hF (fun h36 hF => ?_)
  refine v_aload_n dX8_init_72 rfl 0 rfl ?_
  refine v_iconst dX8_init_73 (v := 3) (by decide) ?_
  refine v_anew dX8_init_74 rfl q757 q758 hF (fun a37 h38 hF => ?_)
  refine v_dup dX8_init_77 rfl ?_
  refine v_iconst dX8_init_78 (v := 0) (by decide) ?_
  refine v_ldcS dX8_init_79 st_X8_41 ?_
  refine v_aastS dX8_init_81 hF (fun h39 hF => ?_)
  refine v_dup dX8_init_82 rfl ?_
  refine v_iconst dX8_init_83 (v := 1) (by decide) ?_
  refine v_ldcS dX8_init_84 st_X8_43 ?_
  refine v_aastS dX8_init_86 hF (fun h40 hF => ?_)
  refine v_dup dX8_init_87 rfl ?_
  refine v_iconst dX8_init_88 (v := 2) (by decide) ?_
  refine v_ldcS dX8_init_89 st_X8_45 ?_
  refine v_aastS dX8_init_91 hF (fun h41 hF => ?_)
  refine v_put dX8_init_92 pl_X8_47 (fun _ => rfl) rfl rfl hF (fun h42 hF => ?_)
  cases hF
  exact v_vret dX8_init_95 rfl rfl rfl
def X8_init (a0 : Nat) (a1 : Nat) (h : Hp) : Option Hp := (ob h a0 [7]).bind fun _ => X8_init_b a0 a1 h
theorem rc_X8_init  {r : Hp} {a0 : Nat} {a1 : Nat} {h : Hp} (hF : X8_init a0 a1 h = some r) : RC h a0 [7] := by
  obtain ⟨o, ho, -⟩ := Option.bind_eq_some_iff.mp hF
  exact ⟨o, ho⟩
theorem ct_X8_init {l : Launch} {G : GT} {r : Hp} {a0 : Nat} {a1 : Nat} {h : Hp} (hF : X8_init a0 a1 h = some r) : Ct l G yX8_init (ws_ yX8_init cX8_init 2 (Option.none : Option Jvm.ClassFile.FieldType)) 2 42 [.ref a0, .ref a1] h none r :=
  ct_of (by decide) (Nat.le_of_ble_eq_true rfl) (w_X8_init_b (Nat.le_refl _) (Nat.le_refl _) (Option.bind_eq_some_iff.mp hF).choose_spec.2)
theorem pl_X20_15 : PL RX20 15 [17] 3 (.int) false := by
  intro ci h
  simp only [List.mem_cons, List.not_mem_nil, or_false] at h
  subst h; exact ⟨RX20, _, TX20, 6, tyX20, rfl, in_X20, by decide, Or.inl q1177, Or.inl rfl, tyX20_ok, rfl, by decide +kernel, rfl, fun z => by cases z⟩
theorem pl_X20_19 : PL RX20 19 [17] 0 (.int) true := by
  intro ci h
  simp only [List.mem_cons, List.not_mem_nil, or_false] at h
  subst h; exact ⟨RX20, _, TX20, 6, tyX20, rfl, in_X20, by decide, Or.inl q1173, Or.inl rfl, tyX20_ok, rfl, by decide +kernel, rfl, fun _ => rfl⟩
theorem pl_X20_22 : PL RX20 22 [17] 1 (.object "LeekReadings$Sum") true := by
  intro ci h
  simp only [List.mem_cons, List.not_mem_nil, or_false] at h
  subst h; exact ⟨RX20, _, TX20, 6, tyX20, rfl, in_X20, by decide, Or.inl q1174, Or.inl rfl, tyX20_ok, rfl, by decide +kernel, rfl, fun _ => rfl⟩
theorem pl_X20_3 : PL RX20 3 [17] 5 (.object "LeekReadings") true := by
  intro ci h
  simp only [List.mem_cons, List.not_mem_nil, or_false] at h
  subst h; exact ⟨RX20, _, TX20, 6, tyX20, rfl, in_X20, by decide, Or.inl q1181, Or.inl rfl, tyX20_ok, rfl, by decide +kernel, rfl, fun _ => rfl⟩
def X20_init_b (a0 : Nat) (a1 : Nat) (a2 : Int32) (a3 : Option Nat) (h : Hp) : Option Hp :=
  (po h a0 [17] 5 (.ref a1)).bind fun h21 =>
  (po h21 a0 [17] 3 (.int (1 : Int32))).bind fun h22 =>
  (po h22 a0 [17] 0 (.int a2)).bind fun h23 =>
  (po h23 a0 [17] 1 (va_rf a3)).bind fun h24 =>
  some h24
theorem w_X20_init_b {l : Launch} {G : GT} {fr lo : Nat} {h0 : Hp} {r : Hp} (hfr : 1 ≤ fr) (hlo : 20 ≤ lo) {a0 : Nat} {a1 : Nat} {a2 : Int32} {a3 : Option Nat} {h : Hp} (hF : X20_init_b a0 a1 a2 a3 h = some r) : V l G cX20_init RX20 "<init>" 4 (Option.none : Option Jvm.ClassFile.FieldType) fr lo h0 r (QM G none h0 r) 0 [(0, .ref a0), (1, .ref a1), (2, .int a2), (3, va_rf a3)] [] h := by
  unfold X20_init_b at hF
  refine v_aload_n dX20_init_0 rfl 0 rfl ?_
  refine v_aload_n dX20_init_1 rfl 1 rfl ?_
  refine v_put dX20_init_2 pl_X20_3 (fun _ => rfl) rfl rfl hF (fun h21 hF => ?_)
  refine v_aload_n dX20_init_5 rfl 0 rfl ?_
  refine v_objInit dX20_init_6 q1172 q184 q185 (by omega) (by omega) (Nat.le_of_ble_eq_true rfl) ?_
  refine v_aload_n dX20_init_9 rfl 0 rfl ?_
  refine v_iconst dX20_init_10 (v := 1) (by decide) ?_
  refine v_put dX20_init_11 pl_X20_15 (fun z => by cases z) rfl rfl hF (fun h22 hF => ?_)
  refine v_aload_n dX20_init_14 rfl 0 rfl ?_
  refine v_iload_n dX20_init_15 rfl 2 rfl ?_
  refine v_put dX20_init_16 pl_X20_19 (fun _ => rfl) rfl rfl hF (fun h23 hF => ?_)
  refine v_aload_n dX20_init_19 rfl 0 rfl ?_
  refine v_aloadq_n dX20_init_20 rfl 3 rfl ?_
  refine v_put dX20_init_21 pl_X20_22 (fun _ => rfl) (nar_q _) (fit_q _) hF (fun h24 hF => ?_)
  cases hF
  exact v_vret dX20_init_24 rfl rfl rfl
def X20_init (a0 : Nat) (a1 : Nat) (a2 : Int32) (a3 : Option Nat) (h : Hp) : Option Hp := (ob h a0 [17]).bind fun _ => X20_init_b a0 a1 a2 a3 h
theorem rc_X20_init  {r : Hp} {a0 : Nat} {a1 : Nat} {a2 : Int32} {a3 : Option Nat} {h : Hp} (hF : X20_init a0 a1 a2 a3 h = some r) : RC h a0 [17] := by
  obtain ⟨o, ho, -⟩ := Option.bind_eq_some_iff.mp hF
  exact ⟨o, ho⟩
theorem ct_X20_init {l : Launch} {G : GT} {r : Hp} {a0 : Nat} {a1 : Nat} {a2 : Int32} {a3 : Option Nat} {h : Hp} (hF : X20_init a0 a1 a2 a3 h = some r) : Ct l G yX20_init (ws_ yX20_init cX20_init 4 (Option.none : Option Jvm.ClassFile.FieldType)) 1 20 [.ref a0, .ref a1, .int a2, va_rf a3] h none r := by
  cases a3 <;> exact ct_of (by decide) (Nat.le_of_ble_eq_true rfl) (w_X20_init_b (Nat.le_refl _) (Nat.le_refl _) (Option.bind_eq_some_iff.mp hF).choose_spec.2)
theorem vs_X7_63 : VLs RX7 63 yJ12_length 0 := ⟨q156, ⟨by decide, by decide⟩, by decide +kernel, q887, q886, q888⟩
theorem vs_X7_69 : VLs RX7 69 yJ12_charAt 1 := ⟨q156, ⟨by decide, by decide⟩, by decide +kernel, q897, q896, q898⟩
theorem fl_X7_42 : FL RX7 42 [7, 18] 0 := by
  intro ci h
  simp only [List.mem_cons, List.not_mem_nil, or_false] at h
  rcases h with rfl | rfl
  · exact ⟨RX8, _, TX8, 11, rfl, in_X8, by decide, Or.inl q781, Or.inl rfl⟩
  · exact ⟨RX21, _, TX21, 10, rfl, in_X21, by decide, Or.inl q781, Or.inl rfl⟩
theorem fl_X7_52 : FL RX7 52 [0] 14 := by
  intro ci h
  simp only [List.mem_cons, List.not_mem_nil, or_false] at h
  subst h; exact ⟨RX0, _, TX0, 31, rfl, in_X0, by decide, Or.inr ⟨_, q370⟩, Or.inl rfl⟩
theorem fl_X7_3 : FL RX7 3 [7, 18] 7 := by
  intro ci h
  simp only [List.mem_cons, List.not_mem_nil, or_false] at h
  rcases h with rfl | rfl
  · exact ⟨RX8, _, TX8, 11, rfl, in_X8, by decide, Or.inl q792, Or.inl rfl⟩
  · exact ⟨RX21, _, TX21, 10, rfl, in_X21, by decide, Or.inl q792, Or.inl rfl⟩
theorem fl_X7_49 : FL RX7 49 [7, 18] 1 := by
  intro ci h
  simp only [List.mem_cons, List.not_mem_nil, or_false] at h
  rcases h with rfl | rfl
  · exact ⟨RX8, _, TX8, 11, rfl, in_X8, by decide, Or.inl q786, Or.inl rfl⟩
  · exact ⟨RX21, _, TX21, 10, rfl, in_X21, by decide, Or.inl q786, Or.inl rfl⟩
def X7_isWord_L20 (N : Nat) (x20 : Hp → Option (Int32 × Hp)) : Nat → Nat → Nat → Int32 → Hp → Option (Int32 × Hp)
  | 0, _, _, _, _ => none
  | n36 + 1, v24, v25, v26, h27 =>
    (J12_length h27 v25).bind fun v29 =>
    if v29 ≤ v26 then
      x20 h27
    else
      (gr h27 v24 [7, 18] 7).bind fun v30 =>
      (gr h27 v30 [0] 14).bind fun v31 =>
      (gi h27 v24 [7, 18] 0).bind fun v32 =>
      (aI h27 v31 1 (v32 + v26)).bind fun v33 =>
      bd2 (J12_charAt v25 v26 h27) fun v35 h34 =>
      if v33 = v35 then
        (X7_isWord_L20 N x20 n36) v24 v25 (v26 + (1 : Int32)) h34
      else
        some ((0 : Int32), h34)
theorem w_X7_isWord_L20 {l : Launch} {G : GT} {fr lo : Nat} {h0 : Hp} {N : Nat} {r : (Int32 × Hp)} (hfr : 4 ≤ fr) (hlo : 85 ≤ lo) {x20 : Hp → Option (Int32 × Hp)} (hx20 : ∀ (h28 : Hp), x20 h28 = some r → V l G cX7_isWord RX7 "isWord" 3 (Option.some Jvm.ClassFile.FieldType.boolean) fr lo h0 r.2 (QM G (some (.int r.1)) h0 r.2) 58 [] [] h28) : ∀ (n : Nat) (v24 : Nat) (v25 : Nat) (v26 : Int32) (h27 : Hp), X7_isWord_L20 N x20 n v24 v25 v26 h27 = some r → V l G cX7_isWord RX7 "isWord" 3 (Option.some Jvm.ClassFile.FieldType.boolean) fr lo h0 r.2 (QM G (some (.int r.1)) h0 r.2) 20 [(0, .ref v24), (1, .ref v25), (2, .int v26)] [] h27 := by
  intro n
  induction n with
  | zero =>
    intro v24 v25 v26 h27 hF
    cases (show (none : Option (Int32 × Hp)) = some r from hF)
  | succ n hc20 =>
    intro v24 v25 v26 h27 hF
    rw [X7_isWord_L20] at hF
    refine v_iload_n dX7_isWord_20 rfl 2 rfl ?_
    refine v_aload_n dX7_isWord_21 rfl 1 rfl ?_
    obtain ⟨v29, e_v29, hF⟩ := Option.bind_eq_some_iff.mp hF
    refine v_calVs1 dX7_isWord_22 vs_X7_63 q889 (rc_J12_length e_v29) (ct_J12_length e_v29) rfl rfl (Nat.le_trans (Nat.le_of_ble_eq_true rfl) hfr) (Nat.le_trans (Nat.le_of_ble_eq_true rfl) hlo) (Nat.le_of_ble_eq_true rfl) ?_
    refine v_icmp_ge (tgt := 58) dX7_isWord_25 (by decide) hF (fun hF => ?_) (fun hF => ?_)
    · exact v_sub [] rfl (hx20 _ hF)
    · refine v_aload_n dX7_isWord_28 rfl 0 rfl ?_
      refine v_getr dX7_isWord_29 fl_X7_3 hF (fun v30 hF => ?_)
      refine v_getr dX7_isWord_32 fl_X7_52 hF (fun v31 hF => ?_)
      refine v_aload_n dX7_isWord_35 rfl 0 rfl ?_
      refine v_geti dX7_isWord_36 fl_X7_42 hF (fun v32 hF => ?_)
      refine v_iload_n dX7_isWord_39 rfl 2 rfl ?_
      refine v_iadd dX7_isWord_40 ?_
      refine v_bald dX7_isWord_41 hF (fun v33 hF => ?_)
      refine v_aload_n dX7_isWord_42 rfl 1 rfl ?_
      refine v_iload_n dX7_isWord_43 rfl 2 rfl ?_
      obtain ⟨v35, h34, e_v35, hF⟩ := bd2_spec hF
      refine v_calVs1 dX7_isWord_44 vs_X7_69 q899 (rc_J12_charAt e_v35) (ct_J12_charAt e_v35) rfl rfl (Nat.le_trans (Nat.le_of_ble_eq_true rfl) hfr) (Nat.le_trans (Nat.le_of_ble_eq_true rfl) hlo) (Nat.le_of_ble_eq_true rfl) ?_
      refine v_icmp_eq (tgt := 52) dX7_isWord_47 (by decide) hF (fun hF => ?_) (fun hF => ?_)
      · refine v_iinc dX7_isWord_52 2 rfl (v := v26 + (1 : Int32)) (by rfl) (Nat.le_of_ble_eq_true rfl) (L' := [(2, .int (v26 + (1 : Int32))), (0, .ref v24), (1, .ref v25)]) rfl ?_
        refine v_goto (tgt := 20) dX7_isWord_55 (by decide) ?_
        exact v_sub [1, 2, 0] rfl (hc20 _ _ _ _ hF)
      · refine v_iconst dX7_isWord_50 (v := 0) (by decide) ?_
        cases hF
        exact v_iret dX7_isWord_51 rfl (by decide) rfl rfl
def X7_isWord_b (N : Nat) (a0 : Nat) (a1 : Nat) (h : Hp) : Option (Int32 × Hp) :=
  (gi h a0 [7, 18] 1).bind fun v21 =>
  (gi h a0 [7, 18] 0).bind fun v22 =>
  (J12_length h a1).bind fun v23 =>
  if (v21 - v22) = v23 then
    X7_isWord_L20 N (fun h37 =>
      some ((1 : Int32), h37)) N a0 a1 (0 : Int32) h
  else
    some ((0 : Int32), h)
theorem w_X7_isWord_b {l : Launch} {G : GT} {fr lo : Nat} {h0 : Hp} {N : Nat} {r : (Int32 × Hp)} (hfr : 4 ≤ fr) (hlo : 85 ≤ lo) {a0 : Nat} {a1 : Nat} {h : Hp} (hF : X7_isWord_b N a0 a1 h = some r) : V l G cX7_isWord RX7 "isWord" 3 (Option.some Jvm.ClassFile.FieldType.boolean) fr lo h0 r.2 (QM G (some (.int r.1)) h0 r.2) 0 [(0, .ref a0), (1, .ref a1)] [] h := by
  unfold X7_isWord_b at hF
  refine v_aload_n dX7_isWord_0 rfl 0 rfl ?_
  refine v_geti dX7_isWord_1 fl_X7_49 hF (fun v21 hF => ?_)
  refine v_aload_n dX7_isWord_4 rfl 0 rfl ?_
  refine v_geti dX7_isWord_5 fl_X7_42 hF (fun v22 hF => ?_)
  refine v_isub dX7_isWord_8 ?_
  refine v_aload_n dX7_isWord_9 rfl 1 rfl ?_
  obtain ⟨v23, e_v23, hF⟩ := Option.bind_eq_some_iff.mp hF
  refine v_calVs1 dX7_isWord_10 vs_X7_63 q889 (rc_J12_length e_v23) (ct_J12_length e_v23) rfl rfl (Nat.le_trans (Nat.le_of_ble_eq_true rfl) hfr) (Nat.le_trans (Nat.le_of_ble_eq_true rfl) hlo) (Nat.le_of_ble_eq_true rfl) ?_
  refine v_icmp_eq (tgt := 18) dX7_isWord_13 (by decide) hF (fun hF => ?_) (fun hF => ?_)
  · refine v_iconst dX7_isWord_18 (v := 0) (by decide) ?_
    refine v_istore_n dX7_isWord_19 rfl (Nat.le_of_ble_eq_true rfl) (L' := [(2, .int (0 : Int32)), (0, .ref a0), (1, .ref a1)]) rfl ?_
    refine v_sub [1, 2, 0] rfl (w_X7_isWord_L20 hfr hlo ?_ N _ _ _ _ hF)
    intro h37 hF
    refine v_iconst dX7_isWord_58 (v := 1) (by decide) ?_
    cases hF
    exact v_iret dX7_isWord_59 rfl (by decide) rfl rfl
  · refine v_iconst dX7_isWord_16 (v := 0) (by decide) ?_
    cases hF
    exact v_iret dX7_isWord_17 rfl (by decide) rfl rfl
def X7_isWord (N : Nat) (a0 : Nat) (a1 : Nat) (h : Hp) : Option (Int32 × Hp) := (ob h a0 [7, 18]).bind fun _ => X7_isWord_b N a0 a1 h
theorem rc_X7_isWord {N : Nat}  {r : (Int32 × Hp)} {a0 : Nat} {a1 : Nat} {h : Hp} (hF : X7_isWord N a0 a1 h = some r) : RC h a0 [7, 18] := by
  obtain ⟨o, ho, -⟩ := Option.bind_eq_some_iff.mp hF
  exact ⟨o, ho⟩
theorem ct_X7_isWord {l : Launch} {G : GT} {N : Nat} {r : (Int32 × Hp)} {a0 : Nat} {a1 : Nat} {h : Hp} (hF : X7_isWord N a0 a1 h = some r) : Ct l G yX7_isWord (ws_ yX7_isWord cX7_isWord 3 (Option.some Jvm.ClassFile.FieldType.boolean)) 4 85 [.ref a0, .ref a1] h (some (.int r.1)) r.2 :=
  ct_of (by decide) (Nat.le_of_ble_eq_true rfl) (w_X7_isWord_b (Nat.le_refl _) (Nat.le_refl _) (Option.bind_eq_some_iff.mp hF).choose_spec.2)
def C_isDigit (a1 : Int32) : Option Int32 :=
  if a1 < (48 : Int32) then
    some (0 : Int32)
  else
    if (57 : Int32) < a1 then
      some (0 : Int32)
    else
      some (1 : Int32)
theorem w_C_isDigit {l : Launch} {G : GT} {fr lo : Nat} {h0 : Hp} {h : Hp} {r : Int32} (hfr : 0 ≤ fr) (hlo : 0 ≤ lo) {a1 : Int32} (hF : C_isDigit a1 = some r) : V l G cX0_isDigit RX0 "isDigit" 1 (Option.some Jvm.ClassFile.FieldType.boolean) fr lo h0 h (QM G (some (.int r)) h0 h) 0 [(0, .int a1)] [] h := by
  unfold C_isDigit at hF
  refine v_iload_n dX0_isDigit_0 rfl 0 rfl ?_
  refine v_bipush dX0_isDigit_1 (v := 48) (by decide) ?_
  refine v_icmp_lt (tgt := 16) dX0_isDigit_3 (by decide) hF (fun hF => ?_) (fun hF => ?_)
  · refine v_iconst dX0_isDigit_16 (v := 0) (by decide) ?_
    cases hF
    exact v_iret dX0_isDigit_17 rfl (by decide) rfl rfl
  · refine v_iload_n dX0_isDigit_6 rfl 0 rfl ?_
    refine v_bipush dX0_isDigit_7 (v := 57) (by decide) ?_
    refine v_icmp_gt (tgt := 16) dX0_isDigit_9 (by decide) hF (fun hF => ?_) (fun hF => ?_)
    · refine v_iconst dX0_isDigit_16 (v := 0) (by decide) ?_
      cases hF
      exact v_iret dX0_isDigit_17 rfl (by decide) rfl rfl
    · refine v_iconst dX0_isDigit_12 (v := 1) (by decide) ?_
      refine v_goto (tgt := 17) dX0_isDigit_13 (by decide) ?_
      cases hF
      exact v_iret dX0_isDigit_17 rfl (by decide) rfl rfl
theorem ct_C_isDigit {l : Launch} {G : GT} {h : Hp} {r : Int32} {a1 : Int32} (hF : C_isDigit a1 = some r) : Ct l G yX0_isDigit (ws_ yX0_isDigit cX0_isDigit 1 (Option.some Jvm.ClassFile.FieldType.boolean)) 0 0 [.int a1] h (some (.int r)) h :=
  ct_of (by decide) (Nat.le_of_ble_eq_true rfl) (w_C_isDigit (Nat.le_refl _) (Nat.le_refl _) hF)
def C_isLetter (a1 : Int32) : Option Int32 :=
  if a1 < (97 : Int32) then
    some (0 : Int32)
  else
    if (122 : Int32) < a1 then
      some (0 : Int32)
    else
      some (1 : Int32)
theorem w_C_isLetter {l : Launch} {G : GT} {fr lo : Nat} {h0 : Hp} {h : Hp} {r : Int32} (hfr : 0 ≤ fr) (hlo : 0 ≤ lo) {a1 : Int32} (hF : C_isLetter a1 = some r) : V l G cX0_isLetter RX0 "isLetter" 1 (Option.some Jvm.ClassFile.FieldType.boolean) fr lo h0 h (QM G (some (.int r)) h0 h) 0 [(0, .int a1)] [] h := by
  unfold C_isLetter at hF
  refine v_iload_n dX0_isLetter_0 rfl 0 rfl ?_
  refine v_bipush dX0_isLetter_1 (v := 97) (by decide) ?_
  refine v_icmp_lt (tgt := 16) dX0_isLetter_3 (by decide) hF (fun hF => ?_) (fun hF => ?_)
  · refine v_iconst dX0_isLetter_16 (v := 0) (by decide) ?_
    cases hF
    exact v_iret dX0_isLetter_17 rfl (by decide) rfl rfl
  · refine v_iload_n dX0_isLetter_6 rfl 0 rfl ?_
    refine v_bipush dX0_isLetter_7 (v := 122) (by decide) ?_
    refine v_icmp_gt (tgt := 16) dX0_isLetter_9 (by decide) hF (fun hF => ?_) (fun hF => ?_)
    · refine v_iconst dX0_isLetter_16 (v := 0) (by decide) ?_
      cases hF
      exact v_iret dX0_isLetter_17 rfl (by decide) rfl rfl
    · refine v_iconst dX0_isLetter_12 (v := 1) (by decide) ?_
      refine v_goto (tgt := 17) dX0_isLetter_13 (by decide) ?_
      cases hF
      exact v_iret dX0_isLetter_17 rfl (by decide) rfl rfl
theorem ct_C_isLetter {l : Launch} {G : GT} {h : Hp} {r : Int32} {a1 : Int32} (hF : C_isLetter a1 = some r) : Ct l G yX0_isLetter (ws_ yX0_isLetter cX0_isLetter 1 (Option.some Jvm.ClassFile.FieldType.boolean)) 0 0 [.int a1] h (some (.int r)) h :=
  ct_of (by decide) (Nat.le_of_ble_eq_true rfl) (w_C_isLetter (Nat.le_refl _) (Nat.le_refl _) hF)
theorem pl_X7_42 : PL RX7 42 [7, 18] 0 (.int) false := by
  intro ci h
  simp only [List.mem_cons, List.not_mem_nil, or_false] at h
  rcases h with rfl | rfl
  · exact ⟨RX8, _, TX8, 11, tyX8, rfl, in_X8, by decide, Or.inl q781, Or.inl rfl, tyX8_ok, rfl, by decide +kernel, rfl, fun z => by cases z⟩
  · exact ⟨RX21, _, TX21, 10, tyX21, rfl, in_X21, by decide, Or.inl q781, Or.inl rfl, tyX21_ok, rfl, by decide +kernel, rfl, fun z => by cases z⟩
theorem fl_X7_46 : FL RX7 46 [0] 15 := by
  intro ci h
  simp only [List.mem_cons, List.not_mem_nil, or_false] at h
  subst h; exact ⟨RX0, _, TX0, 31, rfl, in_X0, by decide, Or.inr ⟨_, q371⟩, Or.inl rfl⟩
theorem pl_X7_49 : PL RX7 49 [7, 18] 1 (.int) false := by
  intro ci h
  simp only [List.mem_cons, List.not_mem_nil, or_false] at h
  rcases h with rfl | rfl
  · exact ⟨RX8, _, TX8, 11, tyX8, rfl, in_X8, by decide, Or.inl q786, Or.inl rfl, tyX8_ok, rfl, by decide +kernel, rfl, fun z => by cases z⟩
  · exact ⟨RX21, _, TX21, 10, tyX21, rfl, in_X21, by decide, Or.inl q786, Or.inl rfl, tyX21_ok, rfl, by decide +kernel, rfl, fun z => by cases z⟩
theorem sl_X7_56 : SL RX7 56 yX0_isLetter 1 := ⟨q137, ⟨by decide, by decide⟩, by decide +kernel, q833, Or.inr ⟨_, q832⟩⟩
theorem sl_X7_60 : SL RX7 60 yX0_isDigit 1 := ⟨q137, ⟨by decide, by decide⟩, by decide +kernel, q836, Or.inr ⟨_, q835⟩⟩
def X7_next_L8 (N : Nat) (x8 : Nat → Hp → Option Hp) : Nat → Nat → Hp → Option Hp
  | 0, _, _ => none
  | n36 + 1, v23, h24 =>
    (gi h24 v23 [7, 18] 0).bind fun v27 =>
    (gr h24 v23 [7, 18] 7).bind fun v28 =>
    (gi h24 v28 [0] 15).bind fun v29 =>
    if v29 ≤ v27 then
      x8 v23 h24
    else
      (gr h24 v23 [7, 18] 7).bind fun v30 =>
      (gr h24 v30 [0] 14).bind fun v31 =>
      (gi h24 v23 [7, 18] 0).bind fun v32 =>
      (aI h24 v31 1 v32).bind fun v33 =>
      if v33 = (32 : Int32) then
        (gi h24 v23 [7, 18] 0).bind fun v34 =>
        (po h24 v23 [7, 18] 0 (.int (v34 + (1 : Int32)))).bind fun h35 =>
        (X7_next_L8 N x8 n36) v23 h35
      else
        x8 v23 h24
theorem w_X7_next_L8 {l : Launch} {G : GT} {fr lo : Nat} {h0 : Hp} {N : Nat} {r : Hp} (hfr : 1 ≤ fr) (hlo : 20 ≤ lo) {x8 : Nat → Hp → Option Hp} (hx8 : ∀ (v25 : Nat) (h26 : Hp), x8 v25 h26 = some r → V l G cX7_next RX7 "next" 3 (Option.none : Option Jvm.ClassFile.FieldType) fr lo h0 r (QM G none h0 r) 52 [(0, .ref v25)] [] h26) : ∀ (n : Nat) (v23 : Nat) (h24 : Hp), X7_next_L8 N x8 n v23 h24 = some r → V l G cX7_next RX7 "next" 3 (Option.none : Option Jvm.ClassFile.FieldType) fr lo h0 r (QM G none h0 r) 8 [(0, .ref v23)] [] h24 := by
  intro n
  induction n with
  | zero =>
    intro v23 h24 hF
    cases (show (none : Option Hp) = some r from hF)
  | succ n hc8 =>
    intro v23 h24 hF
    rw [X7_next_L8] at hF
    refine v_aload_n dX7_next_8 rfl 0 rfl ?_
    refine v_geti dX7_next_9 fl_X7_42 hF (fun v27 hF => ?_)
    refine v_aload_n dX7_next_12 rfl 0 rfl ?_
    refine v_getr dX7_next_13 fl_X7_3 hF (fun v28 hF => ?_)
    refine v_geti dX7_next_16 fl_X7_46 hF (fun v29 hF => ?_)
    refine v_icmp_ge (tgt := 52) dX7_next_19 (by decide) hF (fun hF => ?_) (fun hF => ?_)
    · exact v_sub [0] rfl (hx8 _ _ hF)
    · refine v_aload_n dX7_next_22 rfl 0 rfl ?_
      refine v_getr dX7_next_23 fl_X7_3 hF (fun v30 hF => ?_)
      refine v_getr dX7_next_26 fl_X7_52 hF (fun v31 hF => ?_)
      refine v_aload_n dX7_next_29 rfl 0 rfl ?_
      refine v_geti dX7_next_30 fl_X7_42 hF (fun v32 hF => ?_)
      refine v_bald dX7_next_33 hF (fun v33 hF => ?_)
      refine v_bipush dX7_next_34 (v := 32) (by decide) ?_
      refine v_icmp_ne (tgt := 52) dX7_next_36 (by decide) hF (fun hF => ?_) (fun hF => ?_)
      · exact v_sub [0] rfl (hx8 _ _ hF)
      · refine v_aload_n dX7_next_39 rfl 0 rfl ?_
        refine v_dup dX7_next_40 rfl ?_
        refine v_geti dX7_next_41 fl_X7_42 hF (fun v34 hF => ?_)
        refine v_iconst dX7_next_44 (v := 1) (by decide) ?_
        refine v_iadd dX7_next_45 ?_
        refine v_put dX7_next_46 pl_X7_42 (fun z => by cases z) rfl rfl hF (fun h35 hF => ?_)
        refine v_goto (tgt := 8) dX7_next_49 (by decide) ?_
        exact v_sub [0] rfl (hc8 _ _ hF)
def X7_next_J175 (N : Nat) (c117 : Nat → Int32 → Int32 → Hp → Option Hp) (v75 : Nat) (v76 : Int32) (v77 : Int32) (h78 : Hp) : Option Hp :=
  (gi h78 v75 [7, 18] 1).bind fun v79 =>
  (po h78 v75 [7, 18] 1 (.int (v79 + (1 : Int32)))).bind fun h80 =>
  c117 v75 v76 v77 h80
theorem w_X7_next_J175 {l : Launch} {G : GT} {fr lo : Nat} {h0 : Hp} {N : Nat} {r : Hp} (hfr : 1 ≤ fr) (hlo : 20 ≤ lo) {c117 : Nat → Int32 → Int32 → Hp → Option Hp} (hc117 : ∀ (v58 : Nat) (v59 : Int32) (v60 : Int32) (h61 : Hp), c117 v58 v59 v60 h61 = some r → V l G cX7_next RX7 "next" 3 (Option.none : Option Jvm.ClassFile.FieldType) fr lo h0 r (QM G none h0 r) 117 [(0, .ref v58), (1, .int v59), (2, .int v60)] [] h61) {v75 : Nat} {v76 : Int32} {v77 : Int32} {h78 : Hp} (hF : X7_next_J175 N c117 v75 v76 v77 h78 = some r) : V l G cX7_next RX7 "next" 3 (Option.none : Option Jvm.ClassFile.FieldType) fr lo h0 r (QM G none h0 r) 175 [(0, .ref v75), (1, .int v76), (2, .int v77)] [] h78 := by
  unfold X7_next_J175 at hF
  refine v_aload_n dX7_next_175 rfl 0 rfl ?_
  refine v_dup dX7_next_176 rfl ?_
  refine v_geti dX7_next_177 fl_X7_49 hF (fun v79 hF => ?_)
  refine v_iconst dX7_next_180 (v := 1) (by decide) ?_
  refine v_iadd dX7_next_181 ?_
  refine v_put dX7_next_182 pl_X7_49 (fun z => by cases z) rfl rfl hF (fun h80 hF => ?_)
  refine v_goto (tgt := 117) dX7_next_185 (by decide) ?_
  exact v_sub [0, 1, 2] rfl (hc117 _ _ _ _ hF)
def X7_next_J153 (N : Nat) (c117 : Nat → Int32 → Int32 → Hp → Option Hp) (x117 : Hp → Option Hp) (v66 : Nat) (v67 : Int32) (v68 : Int32) (h69 : Hp) : Option Hp :=
  if v68 = 0 then
    x117 h69
  else
    (gr h69 v66 [7, 18] 7).bind fun v70 =>
    (gr h69 v70 [0] 14).bind fun v71 =>
    (gi h69 v66 [7, 18] 1).bind fun v72 =>
    (aI h69 v71 1 v72).bind fun v73 =>
    (C_isDigit v73).bind fun v74 =>
    if v74 = 0 then
      x117 h69
    else
      X7_next_J175 N c117 v66 v67 v68 h69
theorem w_X7_next_J153 {l : Launch} {G : GT} {fr lo : Nat} {h0 : Hp} {N : Nat} {r : Hp} (hfr : 1 ≤ fr) (hlo : 20 ≤ lo) {c117 : Nat → Int32 → Int32 → Hp → Option Hp} {x117 : Hp → Option Hp} (hc117 : ∀ (v58 : Nat) (v59 : Int32) (v60 : Int32) (h61 : Hp), c117 v58 v59 v60 h61 = some r → V l G cX7_next RX7 "next" 3 (Option.none : Option Jvm.ClassFile.FieldType) fr lo h0 r (QM G none h0 r) 117 [(0, .ref v58), (1, .int v59), (2, .int v60)] [] h61) (hx117 : ∀ (h62 : Hp), x117 h62 = some r → V l G cX7_next RX7 "next" 3 (Option.none : Option Jvm.ClassFile.FieldType) fr lo h0 r (QM G none h0 r) 188 [] [] h62) {v66 : Nat} {v67 : Int32} {v68 : Int32} {h69 : Hp} (hF : X7_next_J153 N c117 x117 v66 v67 v68 h69 = some r) : V l G cX7_next RX7 "next" 3 (Option.none : Option Jvm.ClassFile.FieldType) fr lo h0 r (QM G none h0 r) 153 [(0, .ref v66), (1, .int v67), (2, .int v68)] [] h69 := by
  unfold X7_next_J153 at hF
  refine v_iload_n dX7_next_153 rfl 2 rfl ?_
  refine v_if_eq (tgt := 188) dX7_next_154 (by decide) hF (fun hF => ?_) (fun hF => ?_)
  · exact v_sub [] rfl (hx117 _ hF)
  · refine v_aload_n dX7_next_157 rfl 0 rfl ?_
    refine v_getr dX7_next_158 fl_X7_3 hF (fun v70 hF => ?_)
    refine v_getr dX7_next_161 fl_X7_52 hF (fun v71 hF => ?_)
    refine v_aload_n dX7_next_164 rfl 0 rfl ?_
    refine v_geti dX7_next_165 fl_X7_49 hF (fun v72 hF => ?_)
    refine v_bald dX7_next_168 hF (fun v73 hF => ?_)
    obtain ⟨v74, e_v74, hF⟩ := Option.bind_eq_some_iff.mp hF
    refine v_calS1 dX7_next_169 sl_X7_60 q837 (ct_C_isDigit e_v74) rfl rfl (Nat.le_trans (Nat.le_of_ble_eq_true rfl) hfr) (Nat.le_trans (Nat.le_of_ble_eq_true rfl) hlo) (Nat.le_of_ble_eq_true rfl) ?_
    refine v_if_eq (tgt := 188) dX7_next_172 (by decide) hF (fun hF => ?_) (fun hF => ?_)
    · exact v_sub [] rfl (hx117 _ hF)
    · exact v_sub [0, 1, 2] rfl (w_X7_next_J175 hfr hlo hc117 hF)
def X7_next_L117 (N : Nat) (x117 : Hp → Option Hp) : Nat → Nat → Int32 → Int32 → Hp → Option Hp
  | 0, _, _, _, _ => none
  | n86 + 1, v58, v59, v60, h61 =>
    (gi h61 v58 [7, 18] 1).bind fun v63 =>
    (gr h61 v58 [7, 18] 7).bind fun v64 =>
    (gi h61 v64 [0] 15).bind fun v65 =>
    if v65 ≤ v63 then
      x117 h61
    else
      if v59 = 0 then
        X7_next_J153 N (X7_next_L117 N x117 n86) x117 v58 v59 v60 h61
      else
        (gr h61 v58 [7, 18] 7).bind fun v81 =>
        (gr h61 v81 [0] 14).bind fun v82 =>
        (gi h61 v58 [7, 18] 1).bind fun v83 =>
        (aI h61 v82 1 v83).bind fun v84 =>
        (C_isLetter v84).bind fun v85 =>
        if v85 = 0 then
          X7_next_J153 N (X7_next_L117 N x117 n86) x117 v58 v59 v60 h61
        else
          X7_next_J175 N (X7_next_L117 N x117 n86) v58 v59 v60 h61
theorem w_X7_next_L117 {l : Launch} {G : GT} {fr lo : Nat} {h0 : Hp} {N : Nat} {r : Hp} (hfr : 1 ≤ fr) (hlo : 20 ≤ lo) {x117 : Hp → Option Hp} (hx117 : ∀ (h62 : Hp), x117 h62 = some r → V l G cX7_next RX7 "next" 3 (Option.none : Option Jvm.ClassFile.FieldType) fr lo h0 r (QM G none h0 r) 188 [] [] h62) : ∀ (n : Nat) (v58 : Nat) (v59 : Int32) (v60 : Int32) (h61 : Hp), X7_next_L117 N x117 n v58 v59 v60 h61 = some r → V l G cX7_next RX7 "next" 3 (Option.none : Option Jvm.ClassFile.FieldType) fr lo h0 r (QM G none h0 r) 117 [(0, .ref v58), (1, .int v59), (2, .int v60)] [] h61 := by
  intro n
  induction n with
  | zero =>
    intro v58 v59 v60 h61 hF
    cases (show (none : Option Hp) = some r from hF)
  | succ n hc117 =>
    intro v58 v59 v60 h61 hF
    rw [X7_next_L117] at hF
    refine v_aload_n dX7_next_117 rfl 0 rfl ?_
    refine v_geti dX7_next_118 fl_X7_49 hF (fun v63 hF => ?_)
    refine v_aload_n dX7_next_121 rfl 0 rfl ?_
    refine v_getr dX7_next_122 fl_X7_3 hF (fun v64 hF => ?_)
    refine v_geti dX7_next_125 fl_X7_46 hF (fun v65 hF => ?_)
    refine v_icmp_ge (tgt := 188) dX7_next_128 (by decide) hF (fun hF => ?_) (fun hF => ?_)
    · exact v_sub [] rfl (hx117 _ hF)
    · refine v_iload_n dX7_next_131 rfl 1 rfl ?_
      refine v_if_eq (tgt := 153) dX7_next_132 (by decide) hF (fun hF => ?_) (fun hF => ?_)
      · exact v_sub [0, 1, 2] rfl (w_X7_next_J153 hfr hlo hc117 hx117 hF)
      · refine v_aload_n dX7_next_135 rfl 0 rfl ?_
        refine v_getr dX7_next_136 fl_X7_3 hF (fun v81 hF => ?_)
        refine v_getr dX7_next_139 fl_X7_52 hF (fun v82 hF => ?_)
        refine v_aload_n dX7_next_142 rfl 0 rfl ?_
        refine v_geti dX7_next_143 fl_X7_49 hF (fun v83 hF => ?_)
        refine v_bald dX7_next_146 hF (fun v84 hF => ?_)
        obtain ⟨v85, e_v85, hF⟩ := Option.bind_eq_some_iff.mp hF
        refine v_calS1 dX7_next_147 sl_X7_56 q834 (ct_C_isLetter e_v85) rfl rfl (Nat.le_trans (Nat.le_of_ble_eq_true rfl) hfr) (Nat.le_trans (Nat.le_of_ble_eq_true rfl) hlo) (Nat.le_of_ble_eq_true rfl) ?_
        refine v_if_ne (tgt := 175) dX7_next_150 (by decide) hF (fun hF => ?_) (fun hF => ?_)
        · exact v_sub [0, 1, 2] rfl (w_X7_next_J175 hfr hlo hc117 hF)
        · exact v_sub [0, 1, 2] rfl (w_X7_next_J153 hfr hlo hc117 hx117 hF)
def X7_next_J52 (N : Nat) (v39 : Nat) (h40 : Hp) : Option Hp :=
  (gi h40 v39 [7, 18] 0).bind fun v41 =>
  (po h40 v39 [7, 18] 1 (.int v41)).bind fun h42 =>
  (gi h42 v39 [7, 18] 1).bind fun v43 =>
  (gr h42 v39 [7, 18] 7).bind fun v44 =>
  (gi h42 v44 [0] 15).bind fun v45 =>
  if v43 = v45 then
    some h42
  else
    (gr h42 v39 [7, 18] 7).bind fun v46 =>
    (gr h42 v46 [0] 14).bind fun v47 =>
    (gi h42 v39 [7, 18] 1).bind fun v48 =>
    (aI h42 v47 1 v48).bind fun v49 =>
    (C_isLetter v49).bind fun v50 =>
    (gr h42 v39 [7, 18] 7).bind fun v51 =>
    (gr h42 v51 [0] 14).bind fun v52 =>
    (gi h42 v39 [7, 18] 1).bind fun v53 =>
    (aI h42 v52 1 v53).bind fun v54 =>
    (C_isDigit v54).bind fun v55 =>
    (gi h42 v39 [7, 18] 1).bind fun v56 =>
    (po h42 v39 [7, 18] 1 (.int (v56 + (1 : Int32)))).bind fun h57 =>
    X7_next_L117 N (fun h87 =>
      some h87) N v39 v50 v55 h57
theorem w_X7_next_J52 {l : Launch} {G : GT} {fr lo : Nat} {h0 : Hp} {N : Nat} {r : Hp} (hfr : 1 ≤ fr) (hlo : 20 ≤ lo)   {v39 : Nat} {h40 : Hp} (hF : X7_next_J52 N v39 h40 = some r) : V l G cX7_next RX7 "next" 3 (Option.none : Option Jvm.ClassFile.FieldType) fr lo h0 r (QM G none h0 r) 52 [(0, .ref v39)] [] h40 := by
  unfold X7_next_J52 at hF
  refine v_aload_n dX7_next_52 rfl 0 rfl ?_
  refine v_aload_n dX7_next_53 rfl 0 rfl ?_
  refine v_geti dX7_next_54 fl_X7_42 hF (fun v41 hF => ?_)
  refine v_put dX7_next_57 pl_X7_49 (fun z => by cases z) rfl rfl hF (fun h42 hF => ?_)
  refine v_aload_n dX7_next_60 rfl 0 rfl ?_
  refine v_geti dX7_next_61 fl_X7_49 hF (fun v43 hF => ?_)
  refine v_aload_n dX7_next_64 rfl 0 rfl ?_
  refine v_getr dX7_next_65 fl_X7_3 hF (fun v44 hF => ?_)
  refine v_geti dX7_next_68 fl_X7_46 hF (fun v45 hF => ?_)
  refine v_icmp_ne (tgt := 75) dX7_next_71 (by decide) hF (fun hF => ?_) (fun hF => ?_)
  · refine v_aload_n dX7_next_75 rfl 0 rfl ?_
    refine v_getr dX7_next_76 fl_X7_3 hF (fun v46 hF => ?_)
    refine v_getr dX7_next_79 fl_X7_52 hF (fun v47 hF => ?_)
    refine v_aload_n dX7_next_82 rfl 0 rfl ?_
    refine v_geti dX7_next_83 fl_X7_49 hF (fun v48 hF => ?_)
    refine v_bald dX7_next_86 hF (fun v49 hF => ?_)
    obtain ⟨v50, e_v50, hF⟩ := Option.bind_eq_some_iff.mp hF
    refine v_calS1 dX7_next_87 sl_X7_56 q834 (ct_C_isLetter e_v50) rfl rfl (Nat.le_trans (Nat.le_of_ble_eq_true rfl) hfr) (Nat.le_trans (Nat.le_of_ble_eq_true rfl) hlo) (Nat.le_of_ble_eq_true rfl) ?_
    refine v_istore_n dX7_next_90 rfl (Nat.le_of_ble_eq_true rfl) (L' := [(1, .int v50), (0, .ref v39)]) rfl ?_
    refine v_aload_n dX7_next_91 rfl 1 rfl ?_
    refine v_getr dX7_next_92 fl_X7_3 hF (fun v51 hF => ?_)
    refine v_getr dX7_next_95 fl_X7_52 hF (fun v52 hF => ?_)
    refine v_aload_n dX7_next_98 rfl 1 rfl ?_
    refine v_geti dX7_next_99 fl_X7_49 hF (fun v53 hF => ?_)
    refine v_bald dX7_next_102 hF (fun v54 hF => ?_)
    obtain ⟨v55, e_v55, hF⟩ := Option.bind_eq_some_iff.mp hF
    refine v_calS1 dX7_next_103 sl_X7_60 q837 (ct_C_isDigit e_v55) rfl rfl (Nat.le_trans (Nat.le_of_ble_eq_true rfl) hfr) (Nat.le_trans (Nat.le_of_ble_eq_true rfl) hlo) (Nat.le_of_ble_eq_true rfl) ?_
    refine v_istore_n dX7_next_106 rfl (Nat.le_of_ble_eq_true rfl) (L' := [(2, .int v55), (1, .int v50), (0, .ref v39)]) rfl ?_
    refine v_aload_n dX7_next_107 rfl 2 rfl ?_
    refine v_dup dX7_next_108 rfl ?_
    refine v_geti dX7_next_109 fl_X7_49 hF (fun v56 hF => ?_)
    refine v_iconst dX7_next_112 (v := 1) (by decide) ?_
    refine v_iadd dX7_next_113 ?_
    refine v_put dX7_next_114 pl_X7_49 (fun z => by cases z) rfl rfl hF (fun h57 hF => ?_)
    refine v_sub [2, 1, 0] rfl (w_X7_next_L117 hfr hlo ?_ N _ _ _ _ hF)
    intro h87 hF
    cases hF
    exact v_vret dX7_next_188 rfl rfl rfl
  · cases hF
    exact v_vret dX7_next_74 rfl rfl rfl
def X7_next_b (N : Nat) (a0 : Nat) (h : Hp) : Option Hp :=
  (gi h a0 [7, 18] 1).bind fun v21 =>
  (po h a0 [7, 18] 0 (.int v21)).bind fun h22 =>
  X7_next_L8 N (fun v37 h38 =>
    X7_next_J52 N v37 h38) N a0 h22
theorem w_X7_next_b {l : Launch} {G : GT} {fr lo : Nat} {h0 : Hp} {N : Nat} {r : Hp} (hfr : 1 ≤ fr) (hlo : 20 ≤ lo) {a0 : Nat} {h : Hp} (hF : X7_next_b N a0 h = some r) : V l G cX7_next RX7 "next" 3 (Option.none : Option Jvm.ClassFile.FieldType) fr lo h0 r (QM G none h0 r) 0 [(0, .ref a0)] [] h := by
  unfold X7_next_b at hF
  refine v_aload_n dX7_next_0 rfl 0 rfl ?_
  refine v_aload_n dX7_next_1 rfl 0 rfl ?_
  refine v_geti dX7_next_2 fl_X7_49 hF (fun v21 hF => ?_)
  refine v_put dX7_next_5 pl_X7_42 (fun z => by cases z) rfl rfl hF (fun h22 hF => ?_)
  refine v_sub [0] rfl (w_X7_next_L8 hfr hlo ?_ N _ _ hF)
  intro v37 h38 hF
  exact v_sub [0] rfl (w_X7_next_J52 hfr hlo hF)
def X7_next (N : Nat) (a0 : Nat) (h : Hp) : Option Hp := (ob h a0 [7, 18]).bind fun _ => X7_next_b N a0 h
theorem rc_X7_next {N : Nat}  {r : Hp} {a0 : Nat} {h : Hp} (hF : X7_next N a0 h = some r) : RC h a0 [7, 18] := by
  obtain ⟨o, ho, -⟩ := Option.bind_eq_some_iff.mp hF
  exact ⟨o, ho⟩
theorem ct_X7_next {l : Launch} {G : GT} {N : Nat} {r : Hp} {a0 : Nat} {h : Hp} (hF : X7_next N a0 h = some r) : Ct l G yX7_next (ws_ yX7_next cX7_next 3 (Option.none : Option Jvm.ClassFile.FieldType)) 1 20 [.ref a0] h none r :=
  ct_of (by decide) (Nat.le_of_ble_eq_true rfl) (w_X7_next_b (Nat.le_refl _) (Nat.le_refl _) (Option.bind_eq_some_iff.mp hF).choose_spec.2)
