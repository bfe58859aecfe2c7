/-! V: new int[6][2] -/
set_option maxRecDepth 100000
def pu (h : Hp) (e : CE) (N : Nat) : Hp := (h.1 + 1, h.2.1 + N, h.2.2.1, fun j => if j = h.1 then some e else h.2.2.2 j)
def i62 : CE := .inl (0, 2, .inl (fun _ => 0))
def o62 (h : Hp) : CE := .inl (4, 6, .inr (.inr (.inr (.inr (fun j => some (h.1 + 1 + j))))))
def nm62 (h : Hp) : Hp := pu (pu (pu (pu (pu (pu (pu h (o62 h) 6) i62 2) i62 2) i62 2) i62 2) i62 2) i62 2
def nmu (h : Hp) : Option (Nat × Hp) := some (h.1, nm62 h)
theorem ext_q {F : Heap} {n q : Nat} (hq : q < n) : (F.extract 0 n)[q]? = F[q]? := by
  rw [Array.getElem?_extract]
  by_cases h : q < F.size
  · rw [if_pos (by omega)]; simp
  · rw [if_neg (by omega)]
    exact (Array.getElem?_eq_none (by omega)).symm
theorem pre_push {G : GT} {h : Hp} {F : Heap} {e : CE} {k : Nat} {x : vp_A} {N : Nat} (he : e = .inl (k, x)) (hs : h.1 + 1 ≤ F.size) (hH : HSl G h (F.extract 0 h.1)) (hat : F[h.1]? = some (vp_cell (G.2.2.1 k) x)) : HSl G (pu h e N) (F.extract 0 (h.1 + 1)) := by
  subst he
  refine hsl_push (e := .inl (k, x)) trivial hH (by rw [Array.size_extract]; omega) (fun q hq => by rw [ext_q (by omega), ext_q hq]) ?_
  show (F.extract 0 (h.1 + 1))[h.1]? = some (vp_cell (G.2.2.1 k) x)
  rw [ext_q (by omega)]
  exact hat
theorem outer_eq (c : ClassId) (N h0 : Nat) : ∀ i, ∃ sl : Array Value, Jvm.Free.Multi.outerC c N h0 i = { cls := c, slots := sl, vm := .none }
  | 0 => ⟨_, rfl⟩
  | i + 1 => by
    obtain ⟨sl, h⟩ := outer_eq c N h0 i
    exact ⟨_, by show (Jvm.Free.Multi.outerC c N h0 i).setSlot _ _ = _; rw [h]; rfl⟩
theorem cell_arr {c : Cell} {cA : ClassId} {N : Nat} {f : Nat → Value} (h1 : ∃ sl : Array Value, c = { cls := cA, slots := sl, vm := .none }) (h3 : c.slots.size = N) (h4 : ∀ j, j < N → c.slots[j]? = some (f j)) : c = arrV cA N f := by
  obtain ⟨b, rfl⟩ := h1
  have : b = Array.ofFn (n := N) fun j => f j.val := by
    have h3 : b.size = N := h3
    refine Array.ext_getElem? fun i => ?_
    by_cases hi : i < N
    · have h4 : b[i]? = some (f i) := h4 i hi
      rw [h4, Array.getElem?_ofFn, dif_pos hi]
    · rw [Array.getElem?_eq_none (by omega), Array.getElem?_eq_none (by rw [Array.size_ofFn]; omega)]
  subst this
  rfl
theorem ao_spec {A : Array Value} {s : State} {t : FieldType} (h : (Cond.arrayOver (.array t)).before A s = true) : ∃ comp c k, s.vm.findClass (FieldType.array t).toString = some comp ∧ (s.vm.classes.findIdx? fun (x : Class) => match x.kind with | .array component _ => component == comp | _ => false) = some c ∧ s.vm.classes[c]? = some k ∧ k.kind = .array comp (.array t) ∧ s.vm.findClass ("[" ++ (FieldType.array t).toString) = some c := by
  simp only [Cond.before, Cond.holds, Cond.value, beq_iff_eq] at h
  cases hc : s.vm.findClass (FieldType.array t).toString with
  | none => simp [hc] at h
  | some comp =>
    simp only [hc, Option.bind_some, Option.bind_eq_some_iff, Option.map_eq_some_iff] at h
    obtain ⟨c, hi, k, hk, hb⟩ := h
    obtain ⟨hlt, hp, -⟩ := Array.findIdx?_eq_some_iff_getElem.mp hi
    have hkk : s.vm.classes[c] = k := (Array.getElem?_eq_some_iff.mp hk).2
    rw [hkk] at hp
    cases hkind : k.kind with
    | array component ty =>
      rw [hkind] at hb hp
      simp only [Bool.and_eq_true, decide_eq_true_eq, beq_iff_eq] at hb hp
      obtain ⟨h1, h2⟩ := hb
      subst h1; subst hp
      exact ⟨_, c, k, rfl, hi, hk, hkind, h2⟩
    | _ => rw [hkind] at hp; simp at hp
theorem ao_moved {A : Array Value} {t : FieldType} {u U : State} (hvm : u.vm.Alike U.vm) (h : (Cond.arrayOver (.array t)).before A u = true) (B : Array Value) : (Cond.arrayOver (.array t)).before B U = true := by
  obtain ⟨comp, c, k, h1, h2, h3, h4, h5⟩ := ao_spec h
  obtain ⟨k', hk', he⟩ := hvm.2.2 _ _ h3
  have hi : (U.vm.classes.findIdx? fun (x : Class) => match x.kind with | .array component _ => component == comp | _ => false) = some c := by
    have e1 := va_idx_bare u.vm comp
    have e2 := va_idx_bare U.vm comp
    have e3 : u.vm.bare = U.vm.bare := by first | exact hvm.bare_eq | exact hvm.bare_eq.symm
    rw [e3] at e1
    exact e2.symm.trans (e1.trans h2)
  have hkind : k'.kind = .array comp (.array t) := by rw [he]; exact h4
  have f1 : U.vm.findClass (FieldType.array t).toString = some comp := by rw [hvm.findClass]; exact h1
  have f2 : U.vm.findClass ("[" ++ (FieldType.array t).toString) = some c := by rw [hvm.findClass]; exact h5
  unfold Cond.before Cond.holds
  simp only [Cond.value]
  rw [f1, Option.bind_some]
  refine (congrArg (fun o : Option Nat => (o.bind (fun c => (U.vm.classes[c]?).map fun (k : Class) => match k.kind with | .array _ ty => decide (ty = FieldType.array t) && decide (U.vm.findClass ("[" ++ (FieldType.array t).toString) = some c) | _ => false) == some true)) hi).trans ?_
  simp [hk', hkind, f2]
section V26
variable {l : Launch} {G : GT} {cc : ByteArray} {own nm : String} {nL : Nat} {ret : Option FieldType} {fr lo : Nat} {h0 hE h h1 : Hp} {Qf : List Frame → Array Value → State → State → Prop} {pc : Nat} {L L' : List (Nat × Value)} {st : List Value} {α : Type} {r : α}
theorem v_multi {idx : Nat} {rest : Nat → Hp → Option α} (hd : decode cc pc = .ok (.multianewarray idx 2, 4)) (w : Cond.classLink own idx "[[I" ∈ lw_all) (hF : bd2 (nmu h) rest = some r) (kk : ∀ a h', rest a h' = some r → V l G cc own nm nL ret fr lo h0 hE Qf (pc + 4) L (.ref a :: st) h') : V l G cc own nm nL ret fr lo h0 hE Qf pc L (.int 2 :: .int 6 :: st) h := by
  obtain ⟨a, h', q1, q2⟩ := bd2_spec hF
  cases q1
  have K := kk _ _ q2
  have k1 : h.1 + 7 ≤ hE.1 := K.1.1
  have k2 : h.2.1 + 18 ≤ hE.2.1 := K.1.2
  refine ⟨⟨by omega, by omega⟩, fun p e s m args below meth c C H locs cells slots ls e1 e2 e3 e4 e5 => ?_⟩
  have hts := C.2.2.2.2.1
  have hsz := e3.1
  have e62 : (6 : Int32).toNatClampNeg = 6 := by decide
  have e22 : (2 : Int32).toNatClampNeg = 2 := by decide
  obtain ⟨A, hA⟩ := C.2.2.2.2.2.1.2.1
  have hov : (Cond.arrayOver (.array .int)).before args s = true := ao_moved C.2.2.2.2.2.2.1.alike (hA _ q219) args
  intro T hT X
  obtain ⟨vm₁, cA, comp, hW, hfA, hfC, hO, hI, X1, step⟩ := X.multianewarray2F C.1 (own := own) (index := idx) (ty := .int) C.2.2.2.1 (hts _ w) hov (hts _ q247) (g := F0 m pc ls (.int 2 :: .int 6 :: st)) rfl (by rw [C.2.1]; exact hd) (n := 6) (k := 2) (rest := st) rfl (by decide) (by decide) (by decide) (by decide) (by decide) rfl rfl (by rw [e62]; show cells + 7 ≤ hE.1 - h0.1; omega) (by rw [e62, e22]; show slots + 18 ≤ hE.2.1 - h0.2.1; omega)
  simp only [e62, e22] at X1 step
  obtain ⟨f1, f2, f3, f4⟩ := Jvm.Free.Multi.fill_facts (T.setVm vm₁) cA comp 6 2 (defaultValue .int) 6
  have hin := Jvm.Free.Multi.fill_inner (T.setVm vm₁) cA comp 6 2 (defaultValue .int) 6
  have hold : ∀ q : Nat, q < H.size → (Jvm.Free.Multi.fill (T.setVm vm₁) cA comp 6 2 (defaultValue .int) 6).heap[q]? = H[q]? := by
    intro q hq
    rw [Jvm.Free.Multi.fill_old (T.setVm vm₁) cA comp 6 2 (defaultValue .int) (show q < T.heap.size by rw [hT]; exact hq) 6]
    show T.heap[q]? = H[q]?
    rw [hT]
  have hTs : (T.setVm vm₁).heap.size = h.1 := by show T.heap.size = h.1; rw [hT]; exact hsz
  rw [hTs] at f1 f2 hin
  generalize hU : Jvm.Free.Multi.fill (T.setVm vm₁) cA comp 6 2 (defaultValue .int) 6 = U at X1 step f1 f2 f3 f4 hin hold
  have hcA : cA = G.2.2.1 4 := Option.some.inj (hfA.symm.trans (show s.vm.findClass ("[" ++ (FieldType.array .int).toString) = some (G.2.2.1 4) from (C.K.2 4 _ (tys_k (k := 4) rfl)).2))
  have hcC : comp = G.2.2.1 0 := Option.some.inj (hfC.symm.trans (show s.vm.findClass ("[" ++ (FieldType.int).toString) = some (G.2.2.1 0) from (C.K.2 0 _ (tys_k (k := 0) rfl)).2))
  subst hcA; subst hcC
  obtain ⟨o1, o2, o3⟩ := Jvm.Free.Multi.outerC_facts (G.2.2.1 4) 6 h.1 6
  have c0 : U.heap[h.1]? = some (vp_cell (G.2.2.1 4) (6, .inr (.inr (.inr (.inr (fun j => some (h.1 + 1 + j))))))) := by
    rw [f2]
    refine congrArg some (cell_arr (f := fun j => va_rf (some (h.1 + 1 + j))) (outer_eq _ _ _ _) o3 fun j hj => ?_)
    rw [Jvm.Free.Multi.outerC_slot _ _ _ _ j hj, if_pos hj]
    rfl
  have ci : ∀ j, j < 6 → U.heap[h.1 + 1 + j]? = some (vp_cell (G.2.2.1 0) (2, .inl (fun _ => 0))) := by
    intro j hj
    rw [hin j hj]
    refine congrArg some (cell_arr (N := 2) (f := fun _ => .int 0) ⟨_, rfl⟩ (by simp [Jvm.Free.Multi.innerC]) fun i hi => ?_)
    show (Array.replicate 2 (Value.int 0))[i]? = some (.int 0)
    rw [Array.getElem?_replicate, if_pos hi]
  have b0 : HSl G h (U.heap.extract 0 h.1) := by
    have : U.heap.extract 0 h.1 = H := by
      refine Array.ext_getElem? fun q => ?_
      by_cases hq : q < h.1
      · rw [ext_q hq]; exact hold q (by rw [hsz]; exact hq)
      · rw [Array.getElem?_eq_none (by rw [Array.size_extract]; omega), Array.getElem?_eq_none (by rw [hsz]; omega)]
    rw [this]; exact e3
  have b1 := pre_push (e := o62 h) (N := 6) rfl (by rw [f1]; omega) b0 c0
  have b2 := pre_push (h := pu h (o62 h) 6) (e := i62) (N := 2) rfl (show h.1 + 1 + 1 ≤ _ by rw [f1]; omega) b1 (ci 0 (by omega))
  have b3 := pre_push (h := pu (pu h (o62 h) 6) i62 2) (e := i62) (N := 2) rfl (show h.1 + 1 + 1 + 1 ≤ _ by rw [f1]; omega) b2 (ci 1 (by omega))
  have b4 := pre_push (h := pu (pu (pu h (o62 h) 6) i62 2) i62 2) (e := i62) (N := 2) rfl (show h.1 + 1 + 1 + 1 + 1 ≤ _ by rw [f1]; omega) b3 (ci 2 (by omega))
  have b5 := pre_push (h := pu (pu (pu (pu h (o62 h) 6) i62 2) i62 2) i62 2) (e := i62) (N := 2) rfl (show h.1 + 1 + 1 + 1 + 1 + 1 ≤ _ by rw [f1]; omega) b4 (ci 3 (by omega))
  have b6 := pre_push (h := pu (pu (pu (pu (pu h (o62 h) 6) i62 2) i62 2) i62 2) i62 2) (e := i62) (N := 2) rfl (show h.1 + 1 + 1 + 1 + 1 + 1 + 1 ≤ _ by rw [f1]; omega) b5 (ci 4 (by omega))
  have b7 := pre_push (h := pu (pu (pu (pu (pu (pu h (o62 h) 6) i62 2) i62 2) i62 2) i62 2) i62 2) (e := i62) (N := 2) rfl (show h.1 + 1 + 1 + 1 + 1 + 1 + 1 + 1 ≤ _ by rw [f1]; omega) b6 (ci 5 (by omega))
  have hfin : U.heap.extract 0 (h.1 + 1 + 1 + 1 + 1 + 1 + 1 + 1) = U.heap := by
    refine Array.ext_getElem? fun q => ?_
    by_cases hq : q < h.1 + 1 + 1 + 1 + 1 + 1 + 1 + 1
    · rw [ext_q hq]
    · rw [Array.getElem?_eq_none (by rw [Array.size_extract]; omega), Array.getElem?_eq_none (by rw [f1]; omega)]
  have b8 : HSl G (nm62 h) U.heap := by rw [← hfin]; exact b7
  have K2 := K.2 p e s m args below meth c C U.heap locs (cells + 1 + 6) (slots + 6 + 6 * 2) ls (show cells + 1 + 6 + h0.1 = h.1 + 7 by omega) (show slots + 6 + 6 * 2 + h0.2.1 = h.2.1 + 18 by omega) b8 ⟨by rw [f1]; have := e4.1; omega, fun q q1 q2 => by rw [hold q (Nat.lt_of_lt_of_le q1 e4.1)]; exact e4.2.1 q q1 q2, e4.2.2⟩ e5
  obtain ⟨t2, a1, b1'⟩ := K2 U rfl X1
  refine ⟨t2, step t2 ?_, b1'⟩
  have hTz : T.heap.size = h.1 := hTs
  rw [hTz]
  exact a1
end V26
