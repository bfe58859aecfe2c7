/-! V: copies, casts, dispatch, String constants, statics -/
set_option maxRecDepth 100000
def fitB (k : Nat) (f : Nat → Int32) (s n : Nat) : Bool := decide (k = 0) || (decide (k = 1) && (List.range n).all fun i => fits .byte (.int (f (s + i))))
def cpI (h : Hp) (k a : Nat) (sp : Int32) (b : Nat) (dp n : Int32) : Option Hp := (arI h a k).bind fun x => (arI h b k).bind fun y =>
  if ¬ sp < 0 ∧ ¬ dp < 0 ∧ ¬ n < 0 ∧ sp.toNatClampNeg + n.toNatClampNeg ≤ x.1 ∧ dp.toNatClampNeg + n.toNatClampNeg ≤ y.1 ∧ fitB k x.2 sp.toNatClampNeg n.toNatClampNeg = true then some (up h b (.inl (k, y.1, .inl (va_cpy x.2 y.2 sp.toNatClampNeg dp.toNatClampNeg n.toNatClampNeg)))) else none
def chkQ (h : Hp) (cs : List Nat) (f : Nat → Option Nat) (s n : Nat) : Bool := (List.range n).all fun i => match f (s + i) with
  | some y => (ob h y cs).isSome
  | none => true
def cpQ (h : Hp) (k : Nat) (cs : List Nat) (a : Nat) (sp : Int32) (b : Nat) (dp n : Int32) : Option Hp := (arQ h a k).bind fun x => (arQ h b k).bind fun y =>
  if ¬ sp < 0 ∧ ¬ dp < 0 ∧ ¬ n < 0 ∧ sp.toNatClampNeg + n.toNatClampNeg ≤ x.1 ∧ dp.toNatClampNeg + n.toNatClampNeg ≤ y.1 ∧ chkQ h cs x.2 sp.toNatClampNeg n.toNatClampNeg = true then some (up h b (.inl (k, y.1, .inr (.inr (.inr (.inr (va_cpy x.2 y.2 sp.toNatClampNeg dp.toNatClampNeg n.toNatClampNeg))))))) else none
/-- the read-only thing at a place -/
def ro (h : Hp) (a tag : Nat) : Option (Nat × (Nat → Int32)) := match h.2.2.2 a with
  | some (.inr (.inr q)) => if q.1 = tag then some q.2 else none
  | _ => none
theorem ro_spec {h : Hp} {a tag : Nat} {x : Nat × (Nat → Int32)} (e : ro h a tag = some x) : h.2.2.2 a = some (.inr (.inr (tag, x))) := by
  unfold ro at e
  split at e
  · next q he =>
    split at e
    · next hm => cases e; rw [he, ← hm]
    · cases e
  · cases e
/-- an array of objects, or the empty one that was there before -/
def alenO (h : Hp) (a : Nat) : Option Int32 := match alen h a 11 with
  | some x => some x
  | none => (ro h a 2).bind fun x => some (Int32.ofNat x.1)
def cpO (h : Hp) (a : Nat) (sp : Int32) (b : Nat) (dp n : Int32) : Option Hp := match ro h a 2 with
  | some x => (arQ h b 11).bind fun y => if sp = 0 ∧ dp = 0 ∧ n = 0 then some (up h b (.inl (11, y.1, .inr (.inr (.inr (.inr (va_cpy (fun _ => none) y.2 0 0 0))))))) else none
  | none => cpQ h 11 [5] a sp b dp n
abbrev lwAC : Nat := 8 + (nativeFrameWords "java/lang/System" "arraycopy" 5 + 11)
def ACL (own : String) (idx : Nat) : Prop := Cond.methodLink own idx arraycopyName ∈ lw_all ∧ Cond.native arraycopyName ∈ lw_all ∧ Cond.static arraycopyName ∈ lw_all ∧ Cond.initialized "java/lang/System" ∈ lw_all
/-- casts: each of these classes is nm or below it -/
def KL (nm : String) (cs : List Nat) : Prop := ∀ ci ∈ cs, ∃ q : vw_C, clx[ci]? = some q ∧ (q.1 = nm ∨ Cond.castable q.1 nm ∈ lw_tbl)
theorem kl_asg {G : GT} {cc : ByteArray} {own nm : String} {nL : Nat} {ret : Option FieldType} {h0 : Hp} {p : Program} {l : Launch} {s : State} {m : MethodId} {args : Array Value} {meth : Method} {c : Code} (C : CX G cc own nm nL ret h0 p l s m args meth c) {E : String} {ci : Nat} {q : vw_C} (hq : clx[ci]? = some q) (h : q.1 = E ∨ Cond.castable q.1 E ∈ lw_tbl) : ∀ comp c0 : ClassId, s.vm.findClass E = some comp → s.vm.findClass q.1 = some c0 → s.vm.assignable c0 comp = true := by
  intro comp c0 h1 h2
  have hcl := (C.K.1 ci q hq).2
  rcases h with h | h
  · subst h
    have e1 := h1.symm.trans hcl.1
    have e2 := h2.symm.trans hcl.1
    cases e1; cases e2
    exact va_assign hcl
  · obtain ⟨c1, t1, f1, f2, f3⟩ := Cond.castable_spec (va_Nw.use (A := args) rfl (va_Nw.warmC C.2.2.2.2.2.2.1 (C.nw h rfl)))
    have e1 := h1.symm.trans f2
    have e2 := h2.symm.trans f1
    cases e1; cases e2
    exact f3
section V8
variable {l : Launch} {G : GT} {cc : ByteArray} {own nm : String} {nL : Nat} {ret : Option FieldType} {fr lo : Nat} {h0 hE h h1 : Hp} {Qf : List Frame → Array Value → State → State → Prop} {pc : Nat} {L L' : List (Nat × Value)} {st : List Value} {α : Type} {r : α}
/-- as v_wr, the locals' array in sight -/
theorem v_wrl {pc' : Nat} {st' : List Value} {a : Nat} {e0 e1 : CE} (h0n : nro e0) (h1n : nro e1) (ha : h.2.2.2 a = some e0)
    (f : ∀ {p : Program} {e : Env} {s : State} {m : MethodId} {args : Array Value} {below : List Frame} {meth : Method} {c : Code} {H : Heap} {locs : List Loc} {cells slots : Nat} {Q : State → Prop} {ls : Array Slot} {ws : va_W} {i : Nat}, CX G cc own nm nL ret h0 p l s m args meth c → ls.size = nL → HSl G h H → va_S (AG G) s.heap H locs → (∀ (b : Nat) (x : CE), nro x → h.2.2.2 b = some x → ∃ j : Nat, ws[j]? = some (b, eE G x)) → ws[i]? = some (a, eE G e0) → va_P G.2.1 clx ws H → va_D (AG G) ws → va_S (AG G) H H locs →
      (∀ (H1 : Heap) (locs1 : List Loc), va_P G.2.1 clx (ws.set i (a, eE G e1)) H1 → va_D (AG G) (ws.set i (a, eE G e1)) → va_S (AG G) H H1 locs1 → W p l e { frames := fr, cells := hE.1 - h0.1, slots := hE.2.1 - h0.2.1, locals := lo } s m args below meth c H1 locs1 cells slots Q (F0 m pc' ls st')) → W p l e { frames := fr, cells := hE.1 - h0.1, slots := hE.2.1 - h0.2.1, locals := lo } s m args below meth c H locs cells slots Q (F0 m pc ls st))
    (k : V l G cc own nm nL ret fr lo h0 hE Qf pc' L st' (up h a e1)) : V l G cc own nm nL ret fr lo h0 hE Qf pc L st h := by
  refine ⟨k.1, fun p e s m args below meth c C H locs cells slots ls e1 e2 e3 e4 e5 => ?_⟩
  have e3' := e3
  obtain ⟨z1, z2, z3, z4, ws, hP, hD, hc⟩ := e3
  obtain ⟨i, hi⟩ := eOk_at h0n (hc a e0 ha)
  have hS' : va_S (AG G) H H locs := ⟨Nat.le_refl _, fun _ _ _ => rfl, e4.2.2⟩
  refine f C e5.1 e3' e4 (fun b x hx hb => eOk_at hx (hc b x hb)) hi hP hD hS' (fun H1 locs1 q1 q2 q3 => w_sz (fun hz => ?_))
  have hz1 : H1.size = h.1 := by
    have a1 : s.heap.size = h0.1 := C.2.2.2.2.2.2.2.2.2.2.1
    have a2 := q3.1
    omega
  refine k.2 p e s m args below meth c C H1 locs1 cells slots ls e1 e2 (hsl_set h1n hz1 (by rw [hz1, ← z1]; exact z2) (fun q hq => ?_) z4 hc hi q1 q2) (va_S_tr e4 q3) e5
  rw [q3.2.1 q (Nat.lt_of_lt_of_le hq z2) (fun z => absurd (show G.1.heap.size ≤ q from z) (by omega))]
  exact z3 q hq
theorem v_cpI {idx k a b : Nat} {sp dp n : Int32} {ty : FieldType} {rest : Hp → Option α} (hd : decode cc pc = .ok (.invokestatic idx, 3)) (al : ACL own idx) (ht : tyx[k]? = some ty) (hk : (k = 0 ∧ ty = .int) ∨ (k = 1 ∧ ty = .byte)) (hfr : 1 ≤ fr) (hlo : lwAC ≤ lo) (hw : (st.map fun v => v.category).sum ≤ 8) (hF : (cpI h k a sp b dp n).bind rest = some r) (kk : ∀ h', rest h' = some r → V l G cc own nm nL ret fr lo h0 hE Qf (pc + 3) L st h') : V l G cc own nm nL ret fr lo h0 hE Qf pc L (.int n :: .int dp :: .ref b :: .int sp :: .ref a :: st) h := by
  obtain ⟨h', q1, q2⟩ := Option.bind_eq_some_iff.mp hF
  obtain ⟨x, q3, q4⟩ := Option.bind_eq_some_iff.mp q1
  obtain ⟨y, q5, q6⟩ := Option.bind_eq_some_iff.mp q4
  obtain ⟨⟨c1, c2, c3, c4, c5, c6⟩, rfl⟩ := ifs q6
  refine v_wrl (e0 := .inl (k, y.1, .inl y.2)) (e1 := .inl (k, y.1, .inl (va_cpy x.2 y.2 sp.toNatClampNeg dp.toNatClampNeg n.toNatClampNeg))) trivial trivial (arI_spec q5) (fun {p e s m args below meth c H locs cells slots Q ls ws i} C hls _ _ hall hi hP hD hS kk => ?_) (kk _ q2)
  obtain ⟨j, hj⟩ := hall a (.inl (k, x.1, .inl x.2)) trivial (arI_spec q3)
  have hts := C.2.2.2.2.1
  refine va_copyi C.1 C.2.1 (C.2.2.1.trans hls.symm) C.2.2.2.1 (hts _ al.1) (hts _ al.2.1) (hts _ al.2.2.1) (hts _ al.2.2.2) C.K hP hD hS j i k k hj hi (tys_k ht) (tys_k ht) ?_ c1 c2 c3 c4 c5 ?_ hfr ?_ hd kk
  · rcases hk with ⟨-, rfl⟩ | ⟨-, rfl⟩ <;> rfl
  · intro i2 hi2
    unfold fitB at c6
    rcases hk with ⟨-, rfl⟩ | ⟨rfl, rfl⟩
    · rfl
    · have c7 : (List.range n.toNatClampNeg).all (fun i => fits .byte (.int (x.2 (sp.toNatClampNeg + i)))) = true := by simpa using c6
      exact List.all_eq_true.mp c7 _ (List.mem_range.mpr hi2)
  · show (st.map fun v => v.category).sum + _ ≤ lo
    have : lwAC = 8 + (nativeFrameWords "java/lang/System" "arraycopy" 5 + 11) := rfl
    omega
theorem v_cpQ {idx k a b : Nat} {C0 : String} {cs : List Nat} {sp dp n : Int32} {rest : Hp → Option α} (hd : decode cc pc = .ok (.invokestatic idx, 3)) (al : ACL own idx) (ht : tyx[k]? = some (.object C0)) (kl : KL C0 cs) (hfr : 1 ≤ fr) (hlo : lwAC ≤ lo) (hw : (st.map fun v => v.category).sum ≤ 8) (hF : (cpQ h k cs a sp b dp n).bind rest = some r) (kk : ∀ h', rest h' = some r → V l G cc own nm nL ret fr lo h0 hE Qf (pc + 3) L st h') : V l G cc own nm nL ret fr lo h0 hE Qf pc L (.int n :: .int dp :: .ref b :: .int sp :: .ref a :: st) h := by
  obtain ⟨h', q1, q2⟩ := Option.bind_eq_some_iff.mp hF
  obtain ⟨x, q3, q4⟩ := Option.bind_eq_some_iff.mp q1
  obtain ⟨y, q5, q6⟩ := Option.bind_eq_some_iff.mp q4
  obtain ⟨⟨c1, c2, c3, c4, c5, c6⟩, rfl⟩ := ifs q6
  refine v_wrl (e0 := .inl (k, y.1, .inr (.inr (.inr (.inr y.2))))) (e1 := .inl (k, y.1, .inr (.inr (.inr (.inr (va_cpy x.2 y.2 sp.toNatClampNeg dp.toNatClampNeg n.toNatClampNeg)))))) trivial trivial (arQ_spec q5) (fun {p e s m args below meth c H locs cells slots Q ls ws i} C hls _ _ hall hi hP hD hS kk => ?_) (kk _ q2)
  obtain ⟨j, hj⟩ := hall a (.inl (k, x.1, .inr (.inr (.inr (.inr x.2))))) trivial (arQ_spec q3)
  have hts := C.2.2.2.2.1
  refine va_copyM C.1 C.2.1 (C.2.2.1.trans hls.symm) C.2.2.2.1 (hts _ al.1) (hts _ al.2.1) (hts _ al.2.2.1) (hts _ al.2.2.2) C.K hP hD hS j i k k hj hi (tys_k ht) (tys_k ht) c1 c2 c3 c4 c5 ?_ hfr ?_ hd kk
  · intro i hi y hy
    have c7 := List.all_eq_true.mp c6 i (List.mem_range.mpr hi)
    rw [hy] at c7
    obtain ⟨o, ho⟩ := Option.isSome_iff_exists.mp c7
    obtain ⟨g1, g2⟩ := ob_spec ho
    obtain ⟨ci, fs⟩ := o
    obtain ⟨cq, d1, d2⟩ := kl ci g2
    obtain ⟨j2, hj2⟩ := hall y _ (show nro (.inr (.inl (ci, fs))) from trivial) g1
    exact va_rAny C.K hP hj2 d1 (kl_asg C d1 d2)
  · show (st.map fun v => v.category).sum + _ ≤ lo
    have : lwAC = 8 + (nativeFrameWords "java/lang/System" "arraycopy" 5 + 11) := rfl
    omega
/-- a copy of nothing out of a thing that was there before -/
theorem w_cp0 {p : Program} {e : Env} {R : Room} {s : State} {m : MethodId} {args : Array Value} {below : List Frame} {meth : Method} {c : Code} {H : Heap} {locs : List Loc} {cells slots : Nat} {Q : State → Prop} {ls : Array Slot} {ws : va_W} {idx a b i n1 n0 : Nat} {f : Nat → Value} {g : Nat → Option Nat} (C : CX G cc own nm nL ret h0 p l s m args meth c) (hls : ls.size = nL) (hd : decode cc pc = .ok (.invokestatic idx, 3)) (al : ACL own idx) (hT : va_T (.object "java/lang/Object") a n0 f (AG G) s s.heap) (hS0 : va_S (AG G) s.heap H locs)
    (hi : ws[i]? = some (b, .inl (G.2.2.1 11, n1, .inr (.inr (.inr (.inr g)))))) (hP : va_P G.2.1 clx ws H) (hD : va_D (AG G) ws) (hfr : 1 ≤ R.frames) (hlo : (st.map fun v => v.category).sum + (nativeFrameWords "java/lang/System" "arraycopy" 5 + 11) ≤ R.locals)
    (kk : ∀ (H1 : Heap) (locs1 : List Loc), va_P G.2.1 clx (ws.set i (b, .inl (G.2.2.1 11, n1, .inr (.inr (.inr (.inr (va_cpy (fun _ => none) g 0 0 0))))))) H1 → va_D (AG G) (ws.set i (b, .inl (G.2.2.1 11, n1, .inr (.inr (.inr (.inr (va_cpy (fun _ => none) g 0 0 0))))))) → va_S (AG G) H H1 locs1 → W p l e R s m args below meth c H1 locs1 cells slots Q (F0 m (pc + 3) ls st)) : W p l e R s m args below meth c H locs cells slots Q (F0 m pc ls (.int 0 :: .int 0 :: .ref b :: .int 0 :: .ref a :: st)) := by
  intro T hT0 X
  have hts := C.2.2.2.2.1
  obtain ⟨scr, k1, ⟨k2, kc0, kk0, cm0, kd0⟩, k3, -, -, -, k7⟩ := hT
  have hc0 : H[a]? = some scr := by rw [hS0.2.1 a (Array.getElem?_eq_some_iff.mp k1).1 k7]; exact k1
  have hc1 : H[b]? = some (vp_cell (G.2.2.1 11) (n1, .inr (.inr (.inr (.inr g))))) := hP i _ hi
  obtain ⟨-, kc1, kk1, cm1, kd1⟩ := (C.K.2 11 _ (tys_k rfl)).1 n1 (fun j => va_rf (g j))
  have z0 : (0 : Int32).toInt = 0 := rfl
  obtain ⟨vm', X', step⟩ := X.arraycopy C.1 C.2.2.2.1 (hts _ al.1) (hts _ al.2.1) (hts _ al.2.2.1) (hts _ al.2.2.2) (src := a) (dst := b) (cs := scr) (cd := vp_cell (G.2.2.1 11) (n1, .inr (.inr (.inr (.inr g))))) (srcPos := 0) (destPos := 0) (n := 0) (by rw [hT0]; exact hc0) (by rw [hT0]; exact hc1)
    k2 (fun _ h => by cases h) k3 (fun h => by cases h) kk0 kk1 kd0 kd1 rfl (by decide) (by decide) (by decide)
    (by rw [z0]; omega) (by rw [z0]; omega)
    (fun vm₁ hal i hi => absurd hi (by have : (0 : Int32).toNatClampNeg = 0 := rfl; omega))
    (g := F0 m pc ls (.int 0 :: .int 0 :: .ref b :: .int 0 :: .ref a :: st)) rfl (by rw [C.2.2.1]; exact hls) (rest := st) rfl (by rw [C.2.1]; exact hd) hfr (by show 2 * 0 + _ + _ ≤ _; omega)
  have e1 : copied scr (vp_cell (G.2.2.1 11) (n1, .inr (.inr (.inr (.inr g))))) 0 0 0 = vp_cell (G.2.2.1 11) (n1, .inr (.inr (.inr (.inr (va_cpy (fun _ => none) g 0 0 0))))) := by
    rw [vp_cell_q, vp_cell_q]
    exact va_copiedX (fun z => va_rf z) scr (G.2.2.1 11) (fun _ => none) g (n0 := 0) (sp := 0) (dp := 0) (n := 0) (fun j hj => absurd hj (Nat.not_lt_zero j)) (by decide)
  rw [e1] at X' step
  have hl : b < H.size := (Array.getElem?_eq_some_iff.mp hc1).1
  have hheap : ((T.setVm vm').setCell b (vp_cell (G.2.2.1 11) (n1, .inr (.inr (.inr (.inr (va_cpy (fun _ => none) g 0 0 0))))))).heap = H.setIfInBounds b (vp_cell (G.2.2.1 11) (n1, .inr (.inr (.inr (.inr (va_cpy (fun _ => none) g 0 0 0)))))) := by rw [← hT0]; rfl
  have oq : ∀ q : Nat, q ≠ b → (H.setIfInBounds b (vp_cell (G.2.2.1 11) (n1, .inr (.inr (.inr (.inr (va_cpy (fun _ => none) g 0 0 0)))))))[q]? = H[q]? := fun q hq => by simp [Array.getElem?_setIfInBounds, Ne.symm hq]
  have hin : (H.setIfInBounds b (vp_cell (G.2.2.1 11) (n1, .inr (.inr (.inr (.inr (va_cpy (fun _ => none) g 0 0 0)))))))[b]? = some (vp_cell (G.2.2.1 11) (n1, .inr (.inr (.inr (.inr (va_cpy (fun _ => none) g 0 0 0)))))) := by simp [Array.getElem?_setIfInBounds, hl]
  obtain ⟨t, a1, b1⟩ := kk _ _ (hP.set hD hi hin oq) (hD.set hi) ⟨by simp, fun q g1 g2 => oq q (fun e => g2 (by rw [e]; exact hD.2 i _ hi)), fun q hq => by
      rcases List.mem_append.mp hq with h | h
      · exact hS0.2.2 q h
      · obtain ⟨z, -, hz⟩ := List.mem_map.mp h
        rw [← hz]
        exact hD.2 i _ hi⟩ _ hheap X'
  exact ⟨t, step t a1, b1⟩
theorem v_cpO {idx a b : Nat} {sp dp n : Int32} {rest : Hp → Option α} (hd : decode cc pc = .ok (.invokestatic idx, 3)) (al : ACL own idx) (kl : KL "java/lang/Object" [5]) (hfr : 1 ≤ fr) (hlo : lwAC ≤ lo) (hw : (st.map fun v => v.category).sum ≤ 8) (hF : (cpO h a sp b dp n).bind rest = some r) (kk : ∀ h', rest h' = some r → V l G cc own nm nL ret fr lo h0 hE Qf (pc + 3) L st h') : V l G cc own nm nL ret fr lo h0 hE Qf pc L (.int n :: .int dp :: .ref b :: .int sp :: .ref a :: st) h := by
  obtain ⟨h', q1, q2⟩ := Option.bind_eq_some_iff.mp hF
  unfold cpO at q1
  split at q1
  · next x hx =>
    obtain ⟨y, q5, q6⟩ := Option.bind_eq_some_iff.mp q1
    obtain ⟨⟨rfl, rfl, rfl⟩, rfl⟩ := ifs q6
    refine v_wrl (e0 := .inl (11, y.1, .inr (.inr (.inr (.inr y.2))))) (e1 := .inl (11, y.1, .inr (.inr (.inr (.inr (va_cpy (fun _ => none) y.2 0 0 0)))))) trivial trivial (arQ_spec q5) (fun {p e s m args below meth c H locs cells slots Q ls ws i} C hls e3 e4 hall hi hP hD hS kk => ?_) (kk _ q2)
    obtain ⟨z1, z2, z3, z4, ws', -, -, hc⟩ := e3
    have hr : roAt G a (2, x) := hc a _ (ro_spec hx)
    have hT : va_T (.object "java/lang/Object") a x.1 (fun _ => .null) (AG G) s s.heap := va_T.kept (va_T.moved C.2.2.2.2.2.2.1.alike hr.1) (fun q q1 q2 => C.2.2.2.2.2.2.2.2.2.2.2.2 q q1)
    refine w_cp0 C hls hd al hT e4 hi hP hD hfr ?_ kk
    show (st.map fun v => v.category).sum + _ ≤ lo
    have : lwAC = 8 + (nativeFrameWords "java/lang/System" "arraycopy" 5 + 11) := rfl
    omega
  · exact v_cpQ hd al rfl kl hfr hlo hw (Option.bind_eq_some_iff.mpr ⟨h', q1, q2⟩) kk
/-- arraylength of an array of objects, or of the empty one -/
theorem v_alenO {a : Nat} {rest : Int32 → Option α} (hd : decode cc pc = .ok (.arraylength, 1)) (hF : (alenO h a).bind rest = some r) (kk : ∀ x, rest x = some r → V l G cc own nm nL ret fr lo h0 hE Qf (pc + 1) L (.int x :: st) h) : V l G cc own nm nL ret fr lo h0 hE Qf pc L (.ref a :: st) h := by
  obtain ⟨x, q1, q2⟩ := Option.bind_eq_some_iff.mp hF
  unfold alenO at q1
  split at q1
  · next y hy =>
    cases q1
    exact v_alen (k := 11) rfl hd (Option.bind_eq_some_iff.mpr ⟨x, hy, q2⟩) kk
  · obtain ⟨y, q3, q4⟩ := Option.bind_eq_some_iff.mp q1
    cases q4
    refine v_rd (fun {p e R s m args below meth c H locs cells slots Q ls} C e3 e4 kk => ?_) (kk _ q2)
    obtain ⟨z1, z2, z3, z4, ws', -, -, hc⟩ := e3
    have hr : roAt G a (2, y) := hc a _ (ro_spec q3)
    have hT : va_T (.object "java/lang/Object") a y.1 (fun _ => .null) (AG G) s s.heap := va_T.kept (va_T.moved C.2.2.2.2.2.2.1.alike hr.1) (fun q q1 q2 => C.2.2.2.2.2.2.2.2.2.2.2.2 q q1)
    exact va_tlen C.1 C.2.1 hT e4 rfl hd kk
/-- ArrayList's static empty array -/
theorem v_getsD {idx : Nat} (hd : decode cc pc = .ok (.getstatic idx, 3)) (w : Cond.fieldLink own idx "java/util/ArrayList" "DEFAULTCAPACITY_EMPTY_ELEMENTDATA" "[Ljava/lang/Object;" ∈ lw_all) (kk : V l G cc own nm nL ret fr lo h0 hE Qf (pc + 3) L (.ref (h.2.2.1 100) :: st) h) : V l G cc own nm nL ret fr lo h0 hE Qf pc L st h := by
  refine v_rd (fun {p e R s m args below meth c H locs cells slots Q ls} C e3 e4 kk => ?_) kk
  rw [e3.2.2.2.1] at kk
  exact va_gets C.1 C.2.1 (va_Z.kept (va_Z.moved C.2.2.2.2.2.2.1.alike C.2.2.2.2.2.1.2.2.2.2.1) (fun q q1 q2 => C.2.2.2.2.2.2.2.2.2.2.2.2 q q1)) e4 C.2.2.2.1 (C.2.2.2.2.1 _ w) (fun x hx => hx) hd kk
theorem v_cast {idx a : Nat} {nmc : String} {cs : List Nat} {rest : Nat × List Value → Option α} (hd : decode cc pc = .ok (.checkcast idx, 3)) (w : Cond.classLink own idx nmc ∈ lw_all) (kl : KL nmc cs) (hF : (ob h a cs).bind rest = some r) (kk : ∀ o, rest o = some r → V l G cc own nm nL ret fr lo h0 hE Qf (pc + 3) L (.ref a :: st) h) : V l G cc own nm nL ret fr lo h0 hE Qf pc L (.ref a :: st) h := by
  obtain ⟨o, q1, q2⟩ := Option.bind_eq_some_iff.mp hF
  obtain ⟨g1, g2⟩ := ob_spec q1
  obtain ⟨ci, fs⟩ := o
  obtain ⟨cq, d1, d2⟩ := kl ci g2
  refine v_rd (fun {p e R s m args below meth c H locs cells slots Q ls} C e3 e4 kk => ?_) (kk _ q2)
  obtain ⟨z1, z2, z3, z4, ws, hP, hD, hc⟩ := e3
  obtain ⟨i, hi⟩ := hc a _ g1
  have hrecv := va_recv C.K hP d1 hi
  rcases d2 with d2 | d2
  · subst d2
    exact va_castS C.1 C.2.1 C.2.2.2.1 (C.2.2.2.2.1 _ w) (C.K.1 ci cq d1).2 hrecv hd kk
  · exact va_castY C.1 C.2.1 C.2.2.2.1 (C.2.2.2.2.1 _ w) (va_Nw.warmC C.2.2.2.2.2.2.1 (C.nw d2 rfl)) hrecv hd kk
theorem v_unq {x : Option Nat} {rest : Nat → Option α} (hF : x.bind rest = some r) (kk : ∀ a, x = some a → rest a = some r → V l G cc own nm nL ret fr lo h0 hE Qf pc L (.ref a :: st) h) : V l G cc own nm nL ret fr lo h0 hE Qf pc L (va_rf x :: st) h := by
  obtain ⟨a, q1, q2⟩ := Option.bind_eq_some_iff.mp hF
  subst q1
  exact kk a rfl q2
theorem nar_o {n : String} (x : Nat) : narrow (.object n) (.ref x) = .ref x := rfl
theorem v_disp {T : Type} {F : Option (T × Hp)} {rest : T → Hp → Option α} {stk : List Value} {pc' : Nat} {f : T → Value} (hF : bd2 F rest = some r) (K : ∀ v h1, rest v h1 = some r → V l G cc own nm nL ret fr lo h0 hE Qf pc' L (f v :: st) h1) (cs : ∀ v h1, F = some (v, h1) → V l G cc own nm nL ret fr lo h0 hE Qf pc' L (f v :: st) h1 → V l G cc own nm nL ret fr lo h0 hE Qf pc L stk h) : V l G cc own nm nL ret fr lo h0 hE Qf pc L stk h := by
  obtain ⟨v, h1, e, q⟩ := bd2_spec hF
  exact cs v h1 e (K v h1 q)
theorem v_dispR {T : Type} {F : Option T} {rest : T → Option α} {stk : List Value} {pc' : Nat} {f : T → Value} (hF : F.bind rest = some r) (K : ∀ v, rest v = some r → V l G cc own nm nL ret fr lo h0 hE Qf pc' L (f v :: st) h) (cs : ∀ v, F = some v → V l G cc own nm nL ret fr lo h0 hE Qf pc' L (f v :: st) h → V l G cc own nm nL ret fr lo h0 hE Qf pc L stk h) : V l G cc own nm nL ret fr lo h0 hE Qf pc L stk h := by
  obtain ⟨v, e, q⟩ := Option.bind_eq_some_iff.mp hF
  exact cs v e (K v q)
end V8
