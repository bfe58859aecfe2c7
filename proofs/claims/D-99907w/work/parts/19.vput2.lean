/-! V: a field whose name a second field of the object bears too (this$0 of a class and of the class above): whether the two are one slot, a constant of the start tells -/
set_option maxRecDepth 100000
def tw2 (ci k : Nat) : Nat := if k = 7 then (if ci = 7 then 10 else 9) else 7
def po2 (h : Hp) (a : Nat) (cs : List Nat) (k : Nat) (v : Value) : Option Hp := (ob h a cs).bind fun o => if k < o.2.length ∧ tw2 o.1 k < o.2.length then some (up h a (.inr (.inl (o.1, if h.2.2.1 (200 + o.1) = 0 then o.2.set k v else (o.2.set k v).set (tw2 o.1 k) v)))) else none
/-- .. its links; kk: the two places by the class -/
def PL2 (own : String) (idx : Nat) (cs : List Nat) (k : Nat) (ty : FieldType) : Prop := ∀ ci ∈ cs, ∃ (C ref : String) (T : u_T) (N : Nat) (ty0 : Nat → FieldType) (k' : Nat), k' = tw2 ci k ∧ clx[ci]? = some (C, T, N) ∧ (∀ w ∈ u_ws C T N, w ∈ lw_all) ∧ k < N ∧ Cond.fieldLink own idx ref (T k).2.1 (T k).2.2.1 ∈ lw_all ∧ ((T k).1 = ref ∨ Cond.sameField ref (T k).1 (T k).2.1 (T k).2.2.1 ∈ lw_all)
  ∧ (∀ j, j < N → parseFieldDescriptor (T j).2.2.1 = some (ty0 j)) ∧ ty0 k = ty ∧ (∀ b, b < N → b ≠ k → b ≠ k' → (T b).2.1 ≠ (T k).2.1) ∧ (T k).2.2.2 = true ∧ (T k).1 = own ∧ k' < N ∧ k' ≠ k ∧ ((ci, (k, k')) ∈ [(7, (7, 10)), (18, (7, 9))] ∨ (ci, (k', k)) ∈ [(7, (7, 10)), (18, (7, 9))])
theorem getD_set {fs : List Value} {k : Nat} {v : Value} {j : Nat} : vp_V (fs.set k v) j = if j = k ∧ k < fs.length then v else vp_V fs j := by
  unfold vp_V
  simp only [List.getD_eq_getElem?_getD, List.getElem?_set]
  by_cases h : k = j
  · subst h
    by_cases h2 : k < fs.length
    · simp [h2]
    · simp [h2]
  · have h3 : ¬ (j = k ∧ k < fs.length) := fun z => h z.1.symm
    rw [if_neg h, if_neg h3]
section V19
variable {l : Launch} {G : GT} {cc : ByteArray} {own nm : String} {nL : Nat} {ret : Option FieldType} {fr lo : Nat} {h0 hE h : Hp} {Qf : List Frame → Array Value → State → State → Prop} {pc : Nat} {L : List (Nat × Value)} {st : List Value} {α : Type} {r : α}
theorem v_put2 {idx a k : Nat} {cs : List Nat} {ty : FieldType} {v : Value} {rest : Hp → Option α} (hd : decode cc pc = .ok (.putfield idx, 3)) (pl : PL2 own idx cs k ty) (hfi : nm = "<init>") (hnv : narrow ty v = v) (hfit : fits ty v = true) (hF : (po2 h a cs k v).bind rest = some r) (kk : ∀ h', rest h' = some r → V l G cc own nm nL ret fr lo h0 hE Qf (pc + 3) L st h') : V l G cc own nm nL ret fr lo h0 hE Qf pc L (v :: .ref a :: st) h := by
  obtain ⟨h', h1, h2⟩ := Option.bind_eq_some_iff.mp hF
  obtain ⟨o, h3, h4⟩ := Option.bind_eq_some_iff.mp h1
  obtain ⟨⟨hkl, hkl'⟩, rfl⟩ := ifs h4
  obtain ⟨ho1, ho2⟩ := ob_spec h3
  obtain ⟨ci, fs⟩ := o
  obtain ⟨C0, ref, T, N, ty0, k', hk', c1, c2, c3, c4, c5, c6, c7, c8, c9, c10, c11, c12, c13⟩ := pl ci ho2
  have K := kk _ h2
  simp only [← hk'] at hkl hkl' K
  refine ⟨K.1, fun p e s m args below meth c C H locs cells slots ls e1 e2 e3 e4 e5 => ?_⟩
  have z4 : h.2.2.1 = G.2.2.2 := e3.2.2.2.1
  refine (v_wr (h := h) (e0 := .inr (.inl (ci, fs))) (e1 := .inr (.inl (ci, if h.2.2.1 (200 + ci) = 0 then fs.set k v else (fs.set k v).set k' v))) trivial trivial ho1 (fun {p e R s m args below meth c H locs cells slots Q ls ws i} C _ hi hP hD hS kk => ?_) K).2 p e s m args below meth c C H locs cells slots ls e1 e2 e3 e4 e5
  clear e1 e2 e3 e4 e5
  have hsame : ∀ x, s.fieldFound? (T k).1 (T k).2.1 (T k).2.2.1 = some x → s.fieldFound? ref (T k).2.1 (T k).2.2.1 = some x := by
    rcases c5 with c5 | c5
    · rw [c5]; exact fun x hx => hx
    · exact u_same (C.2.2.2.2.1 _ c5)
  have hts := C.2.2.2.2.1
  have hK := C.K
  have htw := C.2.2.2.2.2.1.2.2.2.2.2.2.2.2.2.2
  have hdt : parseFieldDescriptor (T k).2.2.1 = some ty := by rw [c6 k c3, c7]
  obtain ⟨rr, g1, cell, q1, q2, q3, q4⟩ := hP i _ hi
  have hr : rr = (C0, T, N) := Option.some.inj (g1.symm.trans c1)
  subst hr
  obtain ⟨hSl, hfc, kC, hkC, hkind⟩ := hK.1 ci _ c1
  have hap : ∀ b, b < N → b ≠ k → b ≠ k' → G.2.1.2 ci k ≠ G.2.1.2 ci b := by
    intro b hb hbk hbk'
    obtain ⟨_, _, _, fa, hia, ea⟩ := hSl k c3
    obtain ⟨_, _, _, fb, hib, eb⟩ := hSl b hb
    rw [← ea, ← eb]
    refine u_apart (u_lays hts c2 c3) (u_lays hts c2 hb) hia hib ?_
    rw [(State.fieldFound?_type hia (c6 k c3)).1, (State.fieldFound?_type hib (c6 b hb)).1]
    exact (c8 b hb hbk hbk').symm
  have hbit : (h.2.2.1 (200 + ci) = 0 ↔ G.2.1.2 ci k ≠ G.2.1.2 ci k') := by
    rw [z4]
    rcases c13 with c13 | c13
    · have := htw _ c13
      simp only at this
      rw [this]
      by_cases z : G.2.1.2 ci k = G.2.1.2 ci k'
      · simp [z]
      · simp [z]
    · have := htw _ c13
      simp only at this
      rw [this]
      by_cases z : G.2.1.2 ci k' = G.2.1.2 ci k
      · simp [z]
      · simp [z, Ne.symm z]
  obtain ⟨cf, kf, fi, f, hif, hsl⟩ := hSl k c3
  have hlay := hts _ (c2 _ (u_in_lay c3))
  have hst := (u_facts hfc hkC (u_lays hts c2 c3) hif).1
  unfold u_lay at hlay
  have last : ∀ (H' : Heap), H'[a]? = some (cell.setSlot f.slot v) → H'.size = H.size → (∀ q, q ≠ a → H'[q]? = H[q]?) → W p l e R s m args below meth c H' (locs ++ [⟨a, f.slot⟩]) cells slots Q (F0 m (pc + 3) ls st) := by
    intro H' e1 e2 e3
    rw [hsl] at e1 ⊢
    refine kk H' _ (hP.set hD hi ⟨_, c1, ⟨_, e1, q2, q3, fun j hj => ?_⟩⟩ e3) (hD.set hi) (hS.put e2 e3 (hD.2 i _ hi))
    have hq := q4 j hj
    have hq0 := q4 k c3
    have hlt : G.2.1.2 ci k < cell.slots.size := by
      obtain ⟨w, -⟩ := Array.getElem?_eq_some_iff.mp hq0
      exact w
    have hset : (cell.setSlot (G.2.1.2 ci k) v).slots[G.2.1.2 ci j]? = if G.2.1.2 ci k = G.2.1.2 ci j then some v else cell.slots[G.2.1.2 ci j]? := by
      show (cell.slots.setIfInBounds _ v)[_]? = _
      rw [Array.getElem?_setIfInBounds]
      by_cases z : G.2.1.2 ci k = G.2.1.2 ci j
      · rw [if_pos z, if_pos z, if_pos hlt]
      · rw [if_neg z, if_neg z]
    rw [hset]
    by_cases hj1 : j = k
    · subst hj1
      rw [if_pos rfl]
      by_cases hb : h.2.2.1 (200 + ci) = 0
      · rw [if_pos hb, getD_set, if_pos ⟨rfl, hkl⟩]
      · rw [if_neg hb, getD_set, if_neg (fun z => c12 z.1.symm), getD_set, if_pos ⟨rfl, hkl⟩]
    · by_cases hj2 : j = k'
      · subst hj2
        by_cases hb : h.2.2.1 (200 + ci) = 0
        · rw [if_neg (hbit.mp hb), if_pos hb, getD_set, if_neg (fun z => hj1 z.1)]
          exact hq
        · have z : G.2.1.2 ci k = G.2.1.2 ci j := by
            by_cases z : G.2.1.2 ci k = G.2.1.2 ci j
            · exact z
            · exact absurd (hbit.mpr z) hb
          rw [if_pos z, if_neg hb, getD_set, if_pos ⟨rfl, by rw [List.length_set]; exact hkl'⟩]
      · rw [if_neg (hap j hj hj1 hj2)]
        by_cases hb : h.2.2.1 (200 + ci) = 0
        · rw [if_pos hb, getD_set, if_neg (fun z => hj1 z.1)]
          exact hq
        · rw [if_neg hb, getD_set, if_neg (fun z => hj2 z.1), getD_set, if_neg (fun z => hj1 z.1)]
          exact hq
  rw [if_pos c9] at hlay
  have hcf : m.cls = cf := by
    obtain ⟨_, _, c', _, _, _, -, -, hf', -, -, -, hown2, -⟩ := Cond.laysFinal_spec hlay
    have e1 : c' = cf := by have := hif.symm.trans hf'; simp at this; exact this.1.symm
    rw [c10] at hown2
    rw [← e1]; exact Option.some.inj (C.2.2.2.1.symm.trans hown2)
  have h6 := u_fits hfc hkC hkind (Or.inr hlay) hif hdt hnv hfit
  exact W.putFinK C.1 C.2.1 C.2.2.2.1 (hts _ c4) (hsame _ hif) hst hcf (C.2.2.2.2.2.2.2.2.2.1.trans hfi) (by rw [q2]; exact h6) q1 q3 (by rw [hsl]; exact k2_hasslot (q4 k c3)) rfl rfl hd last
end V19
