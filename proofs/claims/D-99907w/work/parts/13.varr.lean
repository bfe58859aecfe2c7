/-! V: arrays, what is made -/
set_option maxRecDepth 100000
theorem tys_i (G : GT) : (tysG G)[0]? = some (G.2.2.1 0, .int) := rfl
theorem tys_b (G : GT) : (tysG G)[1]? = some (G.2.2.1 1, .byte) := rfl
theorem tys_z (G : GT) : (tysG G)[2]? = some (G.2.2.1 2, .boolean) := rfl
theorem tys_l (G : GT) : (tysG G)[3]? = some (G.2.2.1 3, .long) := rfl
theorem tys_k {G : GT} {k : Nat} {ty : FieldType} (h : tyx[k]? = some ty) : (tysG G)[k]? = some (G.2.2.1 k, ty) := by
  have h1 : (tysG G) = (List.range 12).zipWith (fun i t => (G.2.2.1 i, t)) tyx := rfl
  have hl : k < 12 := (List.getElem?_eq_some_iff.mp h).1
  rw [h1, List.getElem?_zipWith, h, List.getElem?_range hl]
section V4
variable {l : Launch} {G : GT} {cc : ByteArray} {own nm : String} {nL : Nat} {ret : Option FieldType} {fr lo : Nat} {h0 hE h : Hp} {Qf : List Frame → Array Value → State → State → Prop} {pc : Nat} {L L' : List (Nat × Value)} {st : List Value} {α : Type} {r : α}
theorem v_iald {a : Nat} {i : Int32} {rest : Int32 → Option α} (hd : decode cc pc = .ok (.iaload, 1)) (hF : (aI h a 0 i).bind rest = some r) (kk : ∀ x, rest x = some r → V l G cc own nm nL ret fr lo h0 hE Qf (pc + 1) L (.int x :: st) h) : V l G cc own nm nL ret fr lo h0 hE Qf pc L (.int i :: .ref a :: st) h := by
  obtain ⟨x, h1, h2⟩ := Option.bind_eq_some_iff.mp hF
  obtain ⟨q, h3, h4⟩ := Option.bind_eq_some_iff.mp h1
  obtain ⟨hin, rfl⟩ := ifs h4
  refine v_rd (fun C e3 e4 kk => ?_) (kk _ h2)
  obtain ⟨z1, z2, z3, z4, ws, hP, hD, hc⟩ := e3
  obtain ⟨i0, hi⟩ := hc a _ (arI_spec h3)
  exact va_iald C.1 C.2.1 C.K hP i0 0 hi (tys_i G) (inb_in hin) hd kk
theorem v_bald {a : Nat} {i : Int32} {rest : Int32 → Option α} (hd : decode cc pc = .ok (.baload, 1)) (hF : (aI h a 1 i).bind rest = some r) (kk : ∀ x, rest x = some r → V l G cc own nm nL ret fr lo h0 hE Qf (pc + 1) L (.int x :: st) h) : V l G cc own nm nL ret fr lo h0 hE Qf pc L (.int i :: .ref a :: st) h := by
  obtain ⟨x, h1, h2⟩ := Option.bind_eq_some_iff.mp hF
  obtain ⟨q, h3, h4⟩ := Option.bind_eq_some_iff.mp h1
  obtain ⟨hin, rfl⟩ := ifs h4
  refine v_rd (fun C e3 e4 kk => ?_) (kk _ h2)
  obtain ⟨z1, z2, z3, z4, ws, hP, hD, hc⟩ := e3
  obtain ⟨i0, hi⟩ := hc a _ (arI_spec h3)
  exact va_bald C.1 C.2.1 C.K hP i0 1 hi (tys_b G) (inb_in hin) hd kk
theorem v_zald {a : Nat} {i : Int32} {rest : Int32 → Option α} (hd : decode cc pc = .ok (.baload, 1)) (hF : (aI h a 2 i).bind rest = some r) (kk : ∀ x, rest x = some r → V l G cc own nm nL ret fr lo h0 hE Qf (pc + 1) L (.int x :: st) h) : V l G cc own nm nL ret fr lo h0 hE Qf pc L (.int i :: .ref a :: st) h := by
  obtain ⟨x, h1, h2⟩ := Option.bind_eq_some_iff.mp hF
  obtain ⟨q, h3, h4⟩ := Option.bind_eq_some_iff.mp h1
  obtain ⟨hin, rfl⟩ := ifs h4
  refine v_rd (fun C e3 e4 kk => ?_) (kk _ h2)
  obtain ⟨z1, z2, z3, z4, ws, hP, hD, hc⟩ := e3
  obtain ⟨i0, hi⟩ := hc a _ (arI_spec h3)
  exact va_zald C.1 C.2.1 C.K hP i0 2 hi (tys_z G) (inb_in hin) hd kk
theorem v_lald {a : Nat} {i : Int32} {rest : Int64 → Option α} (hd : decode cc pc = .ok (.laload, 1)) (hF : (aL h a 3 i).bind rest = some r) (kk : ∀ x, rest x = some r → V l G cc own nm nL ret fr lo h0 hE Qf (pc + 1) L (.long x :: st) h) : V l G cc own nm nL ret fr lo h0 hE Qf pc L (.int i :: .ref a :: st) h := by
  obtain ⟨x, h1, h2⟩ := Option.bind_eq_some_iff.mp hF
  obtain ⟨q, h3, h4⟩ := Option.bind_eq_some_iff.mp h1
  obtain ⟨hin, rfl⟩ := ifs h4
  refine v_rd (fun C e3 e4 kk => ?_) (kk _ h2)
  obtain ⟨z1, z2, z3, z4, ws, hP, hD, hc⟩ := e3
  obtain ⟨i0, hi⟩ := hc a _ (arL_spec h3)
  exact va_lald C.1 C.2.1 C.K hP i0 3 hi (tys_l G) (inb_in hin) hd kk
theorem v_aald {a k : Nat} {ty : FieldType} {i : Int32} {rest : Option Nat → Option α} (ht : tyx[k]? = some ty) (hr : ty.isReference = true) (hd : decode cc pc = .ok (.aaload, 1)) (hF : (aQ h a k i).bind rest = some r) (kk : ∀ x, rest x = some r → V l G cc own nm nL ret fr lo h0 hE Qf (pc + 1) L (va_rf x :: st) h) : V l G cc own nm nL ret fr lo h0 hE Qf pc L (.int i :: .ref a :: st) h := by
  obtain ⟨x, h1, h2⟩ := Option.bind_eq_some_iff.mp hF
  obtain ⟨q, h3, h4⟩ := Option.bind_eq_some_iff.mp h1
  obtain ⟨hin, rfl⟩ := ifs h4
  refine v_rd (fun C e3 e4 kk => ?_) (kk _ h2)
  obtain ⟨z1, z2, z3, z4, ws, hP, hD, hc⟩ := e3
  obtain ⟨i0, hi⟩ := hc a _ (arQ_spec h3)
  have hin := inb_in hin
  have hlt : i.toNatClampNeg < q.1 := Nat.not_le.mp fun z => hin (Or.inr z)
  exact W.aald (v := va_rf (q.2 i.toNatClampNeg)) (ty := ty) C.1 C.2.1 (hP i0 _ hi) ((C.K.2 k _ (tys_k ht)).1 q.1 (fun j => va_rf (q.2 j))) hr (fun z => by cases z) (by show ¬ (i < 0 ∨ (arrV _ _ _).slots.size ≤ _); rw [arrV_size]; exact hin) (by show (arrV _ _ _).slots[_]? = _; rw [arrV_read _ _ hlt]) rfl rfl hd kk
theorem v_aaldr {a k : Nat} {ty : FieldType} {i : Int32} {rest : Nat → Option α} (ht : tyx[k]? = some ty) (hr : ty.isReference = true) (hd : decode cc pc = .ok (.aaload, 1)) (hF : (aR h a k i).bind rest = some r) (kk : ∀ x, rest x = some r → V l G cc own nm nL ret fr lo h0 hE Qf (pc + 1) L (.ref x :: st) h) : V l G cc own nm nL ret fr lo h0 hE Qf pc L (.int i :: .ref a :: st) h := by
  obtain ⟨x, h1, h2⟩ := Option.bind_eq_some_iff.mp hF
  obtain ⟨q, h3, h4⟩ := Option.bind_eq_some_iff.mp h1
  refine v_aald (rest := fun q => q.bind rest) ht hr hd (Option.bind_eq_some_iff.mpr ⟨q, h3, Option.bind_eq_some_iff.mpr ⟨x, h4, h2⟩⟩) (fun y hy => ?_)
  obtain ⟨z, g1, g2⟩ := Option.bind_eq_some_iff.mp hy
  rw [g1]
  exact kk z g2
theorem v_alen {a k : Nat} {ty : FieldType} {rest : Int32 → Option α} (ht : tyx[k]? = some ty) (hd : decode cc pc = .ok (.arraylength, 1)) (hF : (alen h a k).bind rest = some r) (kk : ∀ x, rest x = some r → V l G cc own nm nL ret fr lo h0 hE Qf (pc + 1) L (.int x :: st) h) : V l G cc own nm nL ret fr lo h0 hE Qf pc L (.ref a :: st) h := by
  obtain ⟨x, h1, h2⟩ := Option.bind_eq_some_iff.mp hF
  obtain ⟨q, h3, h4⟩ := Option.bind_eq_some_iff.mp h1
  cases h4
  refine v_rd (fun C e3 e4 kk => ?_) (kk _ h2)
  obtain ⟨z1, z2, z3, z4, ws, hP, hD, hc⟩ := e3
  obtain ⟨i0, hi⟩ := hc a _ (ar_spec h3)
  exact va_alen C.1 C.2.1 C.K hP i0 k hi (tys_k ht) rfl hd kk
theorem v_iast {a : Nat} {i x : Int32} {rest : Hp → Option α} (hd : decode cc pc = .ok (.iastore, 1)) (hF : (sI h a 0 i x).bind rest = some r) (kk : ∀ h', rest h' = some r → V l G cc own nm nL ret fr lo h0 hE Qf (pc + 1) L st h') : V l G cc own nm nL ret fr lo h0 hE Qf pc L (.int x :: .int i :: .ref a :: st) h := by
  obtain ⟨h', h1, h2⟩ := Option.bind_eq_some_iff.mp hF
  obtain ⟨q, h3, h4⟩ := Option.bind_eq_some_iff.mp h1
  obtain ⟨hin, rfl⟩ := ifs h4
  exact v_wr (e0 := .inl (0, q.1, .inl q.2)) (e1 := .inl (0, q.1, .inl (upd q.2 i.toNatClampNeg x))) trivial trivial (arI_spec h3) (fun C _ hi hP hD hS kk => va_iast C.1 C.2.1 C.K hP hD hS _ 0 hi (tys_i G) (inb_in hin) hd kk) (kk _ h2)
theorem v_bast {a : Nat} {i x : Int32} {rest : Hp → Option α} (hd : decode cc pc = .ok (.bastore, 1)) (hF : (sI h a 1 i x).bind rest = some r) (kk : ∀ h', rest h' = some r → V l G cc own nm nL ret fr lo h0 hE Qf (pc + 1) L st h') : V l G cc own nm nL ret fr lo h0 hE Qf pc L (.int x :: .int i :: .ref a :: st) h := by
  obtain ⟨h', h1, h2⟩ := Option.bind_eq_some_iff.mp hF
  obtain ⟨q, h3, h4⟩ := Option.bind_eq_some_iff.mp h1
  obtain ⟨hin, rfl⟩ := ifs h4
  exact v_wr (e0 := .inl (1, q.1, .inl q.2)) (e1 := .inl (1, q.1, .inl (upd q.2 i.toNatClampNeg (vp_nar .byte x)))) trivial trivial (arI_spec h3) (fun C _ hi hP hD hS kk => va_bast C.1 C.2.1 C.K hP hD hS _ 1 hi (tys_b G) (inb_in hin) hd kk) (kk _ h2)
theorem v_zast {a : Nat} {i x : Int32} {rest : Hp → Option α} (hd : decode cc pc = .ok (.bastore, 1)) (hF : (sI h a 2 i x).bind rest = some r) (kk : ∀ h', rest h' = some r → V l G cc own nm nL ret fr lo h0 hE Qf (pc + 1) L st h') : V l G cc own nm nL ret fr lo h0 hE Qf pc L (.int x :: .int i :: .ref a :: st) h := by
  obtain ⟨h', h1, h2⟩ := Option.bind_eq_some_iff.mp hF
  obtain ⟨q, h3, h4⟩ := Option.bind_eq_some_iff.mp h1
  obtain ⟨hin, rfl⟩ := ifs h4
  exact v_wr (e0 := .inl (2, q.1, .inl q.2)) (e1 := .inl (2, q.1, .inl (upd q.2 i.toNatClampNeg (vp_nar .boolean x)))) trivial trivial (arI_spec h3) (fun C _ hi hP hD hS kk => va_zast C.1 C.2.1 C.K hP hD hS _ 2 hi (tys_z G) (inb_in hin) hd kk) (kk _ h2)
theorem v_last {a : Nat} {i : Int32} {x : Int64} {rest : Hp → Option α} (hd : decode cc pc = .ok (.lastore, 1)) (hF : (sL h a 3 i x).bind rest = some r) (kk : ∀ h', rest h' = some r → V l G cc own nm nL ret fr lo h0 hE Qf (pc + 1) L st h') : V l G cc own nm nL ret fr lo h0 hE Qf pc L (.long x :: .int i :: .ref a :: st) h := by
  obtain ⟨h', h1, h2⟩ := Option.bind_eq_some_iff.mp hF
  obtain ⟨q, h3, h4⟩ := Option.bind_eq_some_iff.mp h1
  obtain ⟨hin, rfl⟩ := ifs h4
  exact v_wr (e0 := .inl (3, q.1, .inr (.inl q.2))) (e1 := .inl (3, q.1, .inr (.inl (vp_updL q.2 i.toNatClampNeg x)))) trivial trivial (arL_spec h3) (fun C _ hi hP hD hS kk => va_last C.1 C.2.1 C.K hP hD hS _ 3 hi (tys_l G) (inb_in hin) hd kk) (kk _ h2)
/-- which classes' objects go into an array of C's -/
def AL (C : String) (cs : List Nat) : Prop := ∀ ci ∈ cs, ∃ q : vw_C, clx[ci]? = some q ∧ (q.1 = C ∨ Cond.castable q.1 C ∈ lw_tbl)
theorem v_aast {a k v : Nat} {C0 : String} {cs : List Nat} {i : Int32} {rest : Hp → Option α} (ht : tyx[k]? = some (.object C0)) (al : AL C0 cs) (hd : decode cc pc = .ok (.aastore, 1)) (hF : (sR h a k cs i v).bind rest = some r) (kk : ∀ h', rest h' = some r → V l G cc own nm nL ret fr lo h0 hE Qf (pc + 1) L st h') : V l G cc own nm nL ret fr lo h0 hE Qf pc L (.ref v :: .int i :: .ref a :: st) h := by
  obtain ⟨h', h1, h2⟩ := Option.bind_eq_some_iff.mp hF
  obtain ⟨q, h3, h4⟩ := Option.bind_eq_some_iff.mp h1
  obtain ⟨o, h5, h6⟩ := Option.bind_eq_some_iff.mp h4
  obtain ⟨hin, rfl⟩ := ifs h6
  obtain ⟨g1, g2⟩ := ob_spec h5
  obtain ⟨ci, vs⟩ := o
  obtain ⟨cq, c1, c2⟩ := al ci g2
  refine v_wr (e0 := .inl (k, q.1, .inr (.inr (.inr (.inr q.2))))) (e1 := .inl (k, q.1, .inr (.inr (.inr (.inr (va_up q.2 i.toNatClampNeg (some v))))))) trivial trivial (arQ_spec h3) (fun {p e R s m args below meth c H locs cells slots Q ls ws i0} C hall hi hP hD hS kk => ?_) (kk _ h2)
  obtain ⟨j, hj⟩ := hall v _ (show nro (.inr (.inl (ci, vs))) from trivial) g1
  rcases c2 with c2 | c2
  · subst c2
    exact va_astq C.1 C.2.1 C.K hP hD hS _ k j ci hi (tys_k ht) hj c1 (inb_in hin) hd kk
  · exact va_astqO C.1 C.2.1 C.K hP hD hS _ k j ci hi (tys_k ht) (va_Nw.warmC C.2.2.2.2.2.2.1 (C.nw c2 rfl)) hj c1 (inb_in hin) hd kk
end V4
def bd2 {α β γ : Type} (o : Option (α × β)) (f : α → β → Option γ) : Option γ := match o with
  | some q => f q.1 q.2
  | none => none
theorem bd2_spec {α β γ : Type} {o : Option (α × β)} {f : α → β → Option γ} {r : γ} (h : bd2 o f = some r) : ∃ a b, o = some (a, b) ∧ f a b = some r := by
  cases o with
  | none => cases h
  | some q => exact ⟨q.1, q.2, rfl, h⟩
def nwo (h : Hp) (ci N : Nat) (fs : List Value) : Option (Nat × Hp) := some (nw h ci N fs)
def NL (own : String) (idx ci N : Nat) (fs : List Value) : Prop := ∃ (C0 : String) (T : u_T) (tyf : Nat → FieldType), clx[ci]? = some (C0, T, N) ∧ (∀ w ∈ u_ws C0 T N, w ∈ lw_all) ∧ (∀ k, k < N → parseFieldDescriptor (T k).2.2.1 = some (tyf k)) ∧ Cond.classLink own idx C0 ∈ lw_all ∧ Cond.instantiable C0 N ∈ lw_all ∧ Cond.initialized C0 ∈ lw_all ∧ ∀ j, j < N → defaultValue (tyf j) = vp_V fs j
theorem hsl_push {G : GT} {h : Hp} {H H1 : Heap} {e : CE} {N : Nat} (hn : nro e) (hH : HSl G h H) (h1 : H1.size = h.1 + 1) (o1 : ∀ q : Nat, q < h.1 → H1[q]? = H[q]?) (hat : va_at G.2.1 clx (h.1, eE G e) H1) : HSl G (h.1 + 1, h.2.1 + N, h.2.2.1, fun j => if j = h.1 then some e else h.2.2.2 j) H1 := by
  obtain ⟨z1, z2, z3, z4, ws, hP, hD, hc⟩ := hH
  have hk : ∀ (k : Nat) (x : Nat × va_E), ws[k]? = some x → H1[x.1]? = H[x.1]? := fun k x hx => o1 x.1 (by rw [← z1]; exact (hP k x hx).lt)
  refine ⟨h1, by rw [h1, ← z1]; omega, fun q hq => by rw [o1 q (by omega)]; exact z3 q hq, z4, ws ++ [(h.1, eE G e)], (hP.kept hk).app (fun k x hx => ?_), hD.push hP z1.symm (show G.1.heap.size ≤ h.1 by omega), fun b x hb => ?_⟩
  · have hz : k < 1 := (List.getElem?_eq_some_iff.mp hx).1
    rw [show k = 0 by omega] at hx
    cases hx
    exact hat
  · have hb : (if b = h.1 then some e else h.2.2.2 b) = some x := hb
    by_cases hba : b = h.1
    · subst hba
      rw [if_pos rfl] at hb
      cases hb
      exact eOk_of hn (i := ws.length) (by rw [List.getElem?_append_right (Nat.le_refl _), Nat.sub_self]; rfl)
    · rw [if_neg hba] at hb
      exact eOk_mono (fun j y hj => ⟨j, by rw [List.getElem?_append_left (List.getElem?_eq_some_iff.mp hj).1]; exact hj⟩) (hc b x hb)
section V5
variable {l : Launch} {G : GT} {cc : ByteArray} {own nm : String} {nL : Nat} {ret : Option FieldType} {fr lo : Nat} {h0 hE h : Hp} {Qf : List Frame → Array Value → State → State → Prop} {pc : Nat} {L L' : List (Nat × Value)} {st : List Value} {α : Type} {r : α}
theorem v_new {idx ci N : Nat} {fs : List Value} {rest : Nat → Hp → Option α} (hd : decode cc pc = .ok (.new idx, 3)) (nl : NL own idx ci N fs) (hF : bd2 (nwo h ci N fs) rest = some r) (kk : ∀ a h', rest a h' = some r → V l G cc own nm nL ret fr lo h0 hE Qf (pc + 3) L (.ref a :: st) h') : V l G cc own nm nL ret fr lo h0 hE Qf pc L st h := by
  have K := kk _ _ (show rest (nw h ci N fs).1 (nw h ci N fs).2 = some r from hF)
  obtain ⟨C0, T, tyf, c1, c2, c3, c4, c5, c6, c7⟩ := nl
  have k1 : h.1 + 1 ≤ hE.1 := K.1.1
  have k2 : h.2.1 + N ≤ hE.2.1 := K.1.2
  refine ⟨⟨by omega, by omega⟩, fun p e s m args below meth c C H locs cells slots ls e1 e2 e3 e4 e5 => ?_⟩
  have hts := C.2.2.2.2.1
  have hKn := C.K.1 ci _ c1
  have hsz := e3.1
  refine W.newcK C.1 C.2.1 C.2.2.2.1 (hts _ c4) (hts _ c5) (hts _ c6) rfl hd (show cells + 1 ≤ hE.1 - h0.1 by omega) (show slots + N ≤ hE.2.1 - h0.2.1 by omega) hKn.2.1 hsz fun H1 kC hkC g1 g2 g3 => ?_
  refine K.2 p e s m args below meth c C H1 locs (cells + 1) (slots + N) ls (show cells + 1 + h0.1 = h.1 + 1 by omega) (show slots + N + h0.2.1 = h.2.1 + N by omega) (hsl_push (e := .inr (.inl (ci, fs))) trivial e3 g2 g3 ⟨_, c1, (u_born tyf hts c2 hKn hkC g1 c3).to c7⟩) ⟨by rw [g2, ← hsz]; exact Nat.le_succ_of_le e4.1, fun q q1 q2 => ?_, e4.2.2⟩ e5
  rw [g3 q (by rw [← hsz]; exact Nat.lt_of_lt_of_le q1 e4.1)]
  exact e4.2.1 q q1 q2
theorem v_newarr {k : Nat} {ty : FieldType} {atype : ArrayType} {n : Int32} {c0 : (Nat → Int32) ⊕ (Nat → Int64) ⊕ (Nat → UInt32) ⊕ (Nat → UInt64) ⊕ (Nat → Option Nat)} {rest : Nat → Hp → Option α} (hd : decode cc pc = .ok (.newarray atype, 2)) (ht : tyx[k]? = some ty) (hty : newarray.typeOf atype = ty) (hw : Cond.arrayClass ty ∈ lw_all) (hra : ∀ (U : State) (cA : ClassId), va_RA U cA ty → U.vm.findClass ("[" ++ ty.toString) = some cA) (hcb : componentBytes ty ≤ 8) (hc0 : ∀ (cA : ClassId) (N : Nat), vp_cell cA (N, c0) = arrV cA N (fun _ => defaultValue ty)) (hF : bd2 (na h k n c0) rest = some r) (kk : ∀ a h', rest a h' = some r → V l G cc own nm nL ret fr lo h0 hE Qf (pc + 2) L (.ref a :: st) h') : V l G cc own nm nL ret fr lo h0 hE Qf pc L (.int n :: st) h := by
  subst hty
  obtain ⟨a, h', q1, q2⟩ := bd2_spec hF
  unfold na at q1
  split at q1
  · cases q1
  next hcn =>
  cases q1
  have K := kk _ _ q2
  have k1 : h.1 + 1 ≤ hE.1 := K.1.1
  have k2 : h.2.1 + n.toNatClampNeg ≤ hE.2.1 := K.1.2
  refine ⟨⟨by omega, by omega⟩, fun p e s m args below meth c C H locs cells slots ls e1 e2 e3 e4 e5 => ?_⟩
  have hts := C.2.2.2.2.1
  have hsz := e3.1
  have hb : n.toNatClampNeg * componentBytes (newarray.typeOf atype) ≤ 536870912 := Nat.le_trans (Nat.mul_le_mul (show n.toNatClampNeg ≤ 100000 by omega) hcb) (by decide)
  refine va_newaK C.1 C.2.1 (hts _ hw) rfl hd rfl (fun z => hcn (Or.inl z)) rfl hb (show cells + 1 ≤ hE.1 - h0.1 by omega) (show slots + n.toNatClampNeg ≤ hE.2.1 - h0.2.1 by omega) hsz fun H1 cA g1 g2 g3 gA gN => ?_
  have hcA : cA = G.2.2.1 k := Option.some.inj (gN.symm.trans (hra s _ (C.K.2 k _ (tys_k ht)).2))
  subst hcA
  refine K.2 p e s m args below meth c C H1 locs (cells + 1) (slots + n.toNatClampNeg) ls (show cells + 1 + h0.1 = h.1 + 1 by omega) (show slots + n.toNatClampNeg + h0.2.1 = h.2.1 + n.toNatClampNeg by omega) (hsl_push (e := .inl (k, n.toNatClampNeg, c0)) trivial e3 g2 g3 ((show H1[h.1]? = some (vp_cell (G.2.2.1 k) (n.toNatClampNeg, c0)) by rw [hc0]; exact g1))) ⟨by rw [g2, ← hsz]; exact Nat.le_succ_of_le e4.1, fun q q1 q2 => ?_, e4.2.2⟩ e5
  rw [g3 q (by rw [← hsz]; exact Nat.lt_of_lt_of_le q1 e4.1)]
  exact e4.2.1 q q1 q2
theorem v_anew {k idx : Nat} {C0 : String} {n : Int32} {rest : Nat → Hp → Option α} (hd : decode cc pc = .ok (.anewarray idx, 3)) (ht : tyx[k]? = some (.object C0)) (hw1 : Cond.classLink own idx C0 ∈ lw_all) (hw2 : Cond.arrayOver (.object C0) ∈ lw_tbl) (hF : bd2 (na h k n (.inr (.inr (.inr (.inr (fun _ => none)))))) rest = some r) (kk : ∀ a h', rest a h' = some r → V l G cc own nm nL ret fr lo h0 hE Qf (pc + 3) L (.ref a :: st) h') : V l G cc own nm nL ret fr lo h0 hE Qf pc L (.int n :: st) h := by
  obtain ⟨a, h', q1, q2⟩ := bd2_spec hF
  unfold na at q1
  split at q1
  · cases q1
  next hcn =>
  cases q1
  have K := kk _ _ q2
  have k1 : h.1 + 1 ≤ hE.1 := K.1.1
  have k2 : h.2.1 + n.toNatClampNeg ≤ hE.2.1 := K.1.2
  refine ⟨⟨by omega, by omega⟩, fun p e s m args below meth c C H locs cells slots ls e1 e2 e3 e4 e5 => ?_⟩
  have hts := C.2.2.2.2.1
  have hsz := e3.1
  have hov : va_AO C0 s := by
    obtain ⟨A, hA⟩ := C.2.2.2.2.2.1.2.1
    exact va_AO.moved C.2.2.2.2.2.2.1.alike (va_AO.of (hA _ hw2))
  refine W.anew C.1 C.2.1 C.2.2.2.1 (hts _ hw1) (va_AO.use hov) rfl hd rfl (fun z => hcn (Or.inl z)) (by omega) (show cells + 1 ≤ hE.1 - h0.1 by omega) (show slots + n.toNatClampNeg ≤ hE.2.1 - h0.2.1 by omega) fun cA kA comp f1 f2 f3 f4 => ?_
  obtain ⟨_, _, -, -, -, r4⟩ := (C.K.2 k _ (tys_k ht)).2
  have hcA : cA = G.2.2.1 k := Option.some.inj (f1.symm.trans r4)
  subst hcA
  generalize hH1 : H.push ({ cls := G.2.2.1 k, slots := Array.replicate n.toNatClampNeg .null, vm := .none } : Cell) = H1
  have g2 : H1.size = h.1 + 1 := by rw [← hH1, Array.size_push, hsz]
  have g1 : H1[h.1]? = some (arrV (G.2.2.1 k) n.toNatClampNeg (fun _ => .null)) := by rw [← hH1, ← hsz, Array.getElem?_push_size, ← arrV_new]
  have g3 : ∀ q : Nat, q < h.1 → H1[q]? = H[q]? := fun q hq => by rw [← hH1, Array.getElem?_push, if_neg (by rw [hsz]; omega)]
  rw [hsz]
  refine K.2 p e s m args below meth c C H1 locs (cells + 1) (slots + n.toNatClampNeg) ls (show cells + 1 + h0.1 = h.1 + 1 by omega) (show slots + n.toNatClampNeg + h0.2.1 = h.2.1 + n.toNatClampNeg by omega) (hsl_push (e := .inl (k, n.toNatClampNeg, .inr (.inr (.inr (.inr (fun _ => none)))))) trivial e3 g2 g3 (show H1[h.1]? = some (vp_cell (G.2.2.1 k) _) by rw [vp_cell_q]; exact g1)) ⟨by rw [g2, ← hsz]; exact Nat.le_succ_of_le e4.1, fun q q1 q2 => ?_, e4.2.2⟩ e5
  rw [g3 q (by rw [← hsz]; exact Nat.lt_of_lt_of_le q1 e4.1)]
  exact e4.2.1 q q1 q2
end V5
