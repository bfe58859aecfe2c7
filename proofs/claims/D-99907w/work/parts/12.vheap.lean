/-! V: the heap's rows: objects and arrays, on the abstract heap -/
set_option maxRecDepth 100000
def ob (h : Hp) (a : Nat) (cs : List Nat) : Option (Nat × List Value) := match h.2.2.2 a with
  | some (.inr (.inl o)) => if o.1 ∈ cs then some o else none
  | _ => none
def up (h : Hp) (a : Nat) (e : CE) : Hp := (h.1, h.2.1, h.2.2.1, fun j => if j = a then some e else h.2.2.2 j)
def vI (v : Option Value) : Option Int32 := match v with
  | some (.int x) => some x
  | _ => none
def vL (v : Option Value) : Option Int64 := match v with
  | some (.long x) => some x
  | _ => none
def vR (v : Option Value) : Option Nat := match v with
  | some (.ref x) => some x
  | _ => none
def vQ (v : Option Value) : Option (Option Nat) := match v with
  | some (.ref x) => some (some x)
  | some .null => some none
  | _ => none
def gi (h : Hp) (a : Nat) (cs : List Nat) (k : Nat) : Option Int32 := (ob h a cs).bind fun o => vI o.2[k]?
def gl (h : Hp) (a : Nat) (cs : List Nat) (k : Nat) : Option Int64 := (ob h a cs).bind fun o => vL o.2[k]?
def gr (h : Hp) (a : Nat) (cs : List Nat) (k : Nat) : Option Nat := (ob h a cs).bind fun o => vR o.2[k]?
def gq (h : Hp) (a : Nat) (cs : List Nat) (k : Nat) : Option (Option Nat) := (ob h a cs).bind fun o => vQ o.2[k]?
def po (h : Hp) (a : Nat) (cs : List Nat) (k : Nat) (v : Value) : Option Hp := (ob h a cs).bind fun o => if k < o.2.length then some (up h a (.inr (.inl (o.1, o.2.set k v)))) else none
/-- a boolean field takes 0 or 1 -/
def pz (h : Hp) (a : Nat) (cs : List Nat) (k : Nat) (x : Int32) : Option Hp := if x = 0 ∨ x = 1 then po h a cs k (.int x) else none
def inb (i : Int32) (n : Nat) : Bool := !(decide (i < 0)) && decide (i.toNatClampNeg < n)
theorem inb_in {i : Int32} {n : Nat} (h : inb i n = true) : vp_in i n := by
  simp only [inb, Bool.and_eq_true, Bool.not_eq_true', decide_eq_false_iff_not, decide_eq_true_eq] at h
  intro q
  rcases q with q | q
  · exact h.1 q
  · omega
def ar (h : Hp) (a k : Nat) : Option vp_A := match h.2.2.2 a with
  | some (.inl q) => if q.1 = k then some q.2 else none
  | _ => none
def arI (h : Hp) (a k : Nat) : Option (Nat × (Nat → Int32)) := (ar h a k).bind fun x => match x with
  | (n, .inl f) => some (n, f)
  | _ => none
def arL (h : Hp) (a k : Nat) : Option (Nat × (Nat → Int64)) := (ar h a k).bind fun x => match x with
  | (n, .inr (.inl f)) => some (n, f)
  | _ => none
def arQ (h : Hp) (a k : Nat) : Option (Nat × (Nat → Option Nat)) := (ar h a k).bind fun x => match x with
  | (n, .inr (.inr (.inr (.inr f)))) => some (n, f)
  | _ => none
def aI (h : Hp) (a k : Nat) (i : Int32) : Option Int32 := (arI h a k).bind fun x => if inb i x.1 = true then some (x.2 i.toNatClampNeg) else none
def aL (h : Hp) (a k : Nat) (i : Int32) : Option Int64 := (arL h a k).bind fun x => if inb i x.1 = true then some (x.2 i.toNatClampNeg) else none
def aQ (h : Hp) (a k : Nat) (i : Int32) : Option (Option Nat) := (arQ h a k).bind fun x => if inb i x.1 = true then some (x.2 i.toNatClampNeg) else none
def aR (h : Hp) (a k : Nat) (i : Int32) : Option Nat := (aQ h a k i).bind fun x => x
def alen (h : Hp) (a k : Nat) : Option Int32 := (ar h a k).bind fun x => some (Int32.ofNat x.1)
def nrw (k : Nat) (x : Int32) : Int32 := if k = 1 then vp_nar .byte x else if k = 2 then vp_nar .boolean x else x
def sI (h : Hp) (a k : Nat) (i x : Int32) : Option Hp := (arI h a k).bind fun q => if inb i q.1 = true then some (up h a (.inl (k, q.1, .inl (upd q.2 i.toNatClampNeg (nrw k x))))) else none
def sL (h : Hp) (a k : Nat) (i : Int32) (x : Int64) : Option Hp := (arL h a k).bind fun q => if inb i q.1 = true then some (up h a (.inl (k, q.1, .inr (.inl (vp_updL q.2 i.toNatClampNeg x))))) else none
/-- an object of one of the classes cs into an array of references -/
def sR (h : Hp) (a k : Nat) (cs : List Nat) (i : Int32) (v : Nat) : Option Hp := (arQ h a k).bind fun q => (ob h v cs).bind fun _ => if inb i q.1 = true then some (up h a (.inl (k, q.1, .inr (.inr (.inr (.inr (va_up q.2 i.toNatClampNeg (some v)))))))) else none
def nw (h : Hp) (ci N : Nat) (fs : List Value) : Nat × Hp := (h.1, (h.1 + 1, h.2.1 + N, h.2.2.1, fun j => if j = h.1 then some (.inr (.inl (ci, fs))) else h.2.2.2 j))
def na (h : Hp) (k : Nat) (n : Int32) (c : (Nat → Int32) ⊕ (Nat → Int64) ⊕ (Nat → UInt32) ⊕ (Nat → UInt64) ⊕ (Nat → Option Nat)) : Option (Nat × Hp) := if n < 0 ∨ 100000 < n.toNatClampNeg then none else some (h.1, (h.1 + 1, h.2.1 + n.toNatClampNeg, h.2.2.1, fun j => if j = h.1 then some (.inl (k, n.toNatClampNeg, c)) else h.2.2.2 j))
theorem ob_spec {h : Hp} {a : Nat} {cs : List Nat} {o : Nat × List Value} (e : ob h a cs = some o) : h.2.2.2 a = some (.inr (.inl o)) ∧ o.1 ∈ cs := by
  unfold ob at e
  split at e
  · next o' he =>
    split at e
    · next hm => cases e; exact ⟨he, hm⟩
    · cases e
  · cases e
theorem ar_spec {h : Hp} {a k : Nat} {x : vp_A} (e : ar h a k = some x) : h.2.2.2 a = some (.inl (k, x)) := by
  unfold ar at e
  split at e
  · next q he =>
    split at e
    · next hm => cases e; rw [he, ← hm]
    · cases e
  · cases e
theorem arI_spec {h : Hp} {a k : Nat} {x : Nat × (Nat → Int32)} (e : arI h a k = some x) : h.2.2.2 a = some (.inl (k, x.1, .inl x.2)) := by
  obtain ⟨y, h1, h2⟩ := Option.bind_eq_some_iff.mp e
  split at h2
  · cases h2; exact ar_spec h1
  · cases h2
theorem arL_spec {h : Hp} {a k : Nat} {x : Nat × (Nat → Int64)} (e : arL h a k = some x) : h.2.2.2 a = some (.inl (k, x.1, .inr (.inl x.2))) := by
  obtain ⟨y, h1, h2⟩ := Option.bind_eq_some_iff.mp e
  split at h2
  · cases h2; exact ar_spec h1
  · cases h2
theorem arQ_spec {h : Hp} {a k : Nat} {x : Nat × (Nat → Option Nat)} (e : arQ h a k = some x) : h.2.2.2 a = some (.inl (k, x.1, .inr (.inr (.inr (.inr x.2))))) := by
  obtain ⟨y, h1, h2⟩ := Option.bind_eq_some_iff.mp e
  split at h2
  · cases h2; exact ar_spec h1
  · cases h2
theorem vI_spec {v : Option Value} {x : Int32} (e : vI v = some x) : v = some (.int x) := by
  unfold vI at e; split at e
  · cases e; rfl
  · cases e
theorem vL_spec {v : Option Value} {x : Int64} (e : vL v = some x) : v = some (.long x) := by
  unfold vL at e; split at e
  · cases e; rfl
  · cases e
theorem vR_spec {v : Option Value} {x : Nat} (e : vR v = some x) : v = some (.ref x) := by
  unfold vR at e; split at e
  · cases e; rfl
  · cases e
theorem vQ_spec {v : Option Value} {x : Option Nat} (e : vQ v = some x) : v = some (va_rf x) := by
  unfold vQ at e; split at e
  · cases e; rfl
  · cases e; rfl
  · cases e
theorem ifs {c : Prop} [Decidable c] {α : Type} {x y : α} (e : (if c then some x else none) = some y) : c ∧ x = y := by
  split at e
  · next h => cases e; exact ⟨h, rfl⟩
  · cases e
/-- the fields' links, by class numbers -/
def FL (own : String) (idx : Nat) (cs : List Nat) (k : Nat) : Prop := ∀ ci ∈ cs, ∃ (C ref : String) (T : u_T) (N : Nat), clx[ci]? = some (C, T, N) ∧ (∀ w ∈ u_ws C T N, w ∈ lw_all) ∧ k < N ∧ (Cond.fieldLink own idx ref (T k).2.1 (T k).2.2.1 ∈ lw_all ∨ ∃ host, Cond.fieldLinkNest own idx ref (T k).2.1 (T k).2.2.1 host ∈ lw_tbl) ∧ ((T k).1 = ref ∨ Cond.sameField ref (T k).1 (T k).2.1 (T k).2.2.1 ∈ lw_all)
def PL (own : String) (idx : Nat) (cs : List Nat) (k : Nat) (ty : FieldType) (fin : Bool) : Prop := ∀ ci ∈ cs, ∃ (C ref : String) (T : u_T) (N : Nat) (ty0 : Nat → FieldType), clx[ci]? = some (C, T, N) ∧ (∀ w ∈ u_ws C T N, w ∈ lw_all) ∧ k < N ∧ (Cond.fieldLink own idx ref (T k).2.1 (T k).2.2.1 ∈ lw_all ∨ (fin = false ∧ ∃ host, Cond.fieldLinkNest own idx ref (T k).2.1 (T k).2.2.1 host ∈ lw_tbl)) ∧ ((T k).1 = ref ∨ Cond.sameField ref (T k).1 (T k).2.1 (T k).2.2.1 ∈ lw_all)
  ∧ (∀ j, j < N → parseFieldDescriptor (T j).2.2.1 = some (ty0 j)) ∧ ty0 k = ty ∧ (∀ b, b < N → b ≠ k → (T b).2.1 ≠ (T k).2.1) ∧ (T k).2.2.2 = fin ∧ (fin = true → (T k).1 = own)
def eE (G : GT) (e : CE) : va_E := match e with
  | .inl q => .inl (G.2.2.1 q.1, q.2)
  | .inr (.inl o) => .inr o
  | .inr (.inr _) => .inr (0, [])
def nro (e : CE) : Prop := match e with
  | .inr (.inr _) => False
  | _ => True
theorem eOk_at {G : GT} {ws : va_W} {a : Nat} {e : CE} (hn : nro e) (h : eOk G ws a e) : ∃ i : Nat, ws[i]? = some (a, eE G e) := by
  match e, hn, h with
  | .inl q, _, h => exact h
  | .inr (.inl o), _, h => exact h
theorem eOk_of {G : GT} {ws : va_W} {a i : Nat} {e : CE} (hn : nro e) (h : ws[i]? = some (a, eE G e)) : eOk G ws a e := by
  match e, hn, h with
  | .inl q, _, h => exact ⟨i, h⟩
  | .inr (.inl o), _, h => exact ⟨i, h⟩
theorem eOk_mono {G : GT} {ws ws' : va_W} {a : Nat} {e : CE} (hm : ∀ (i : Nat) (x : va_E), ws[i]? = some (a, x) → ∃ j : Nat, ws'[j]? = some (a, x)) (h : eOk G ws a e) : eOk G ws' a e := by
  match e, h with
  | .inl q, ⟨i, h⟩ => exact hm i _ h
  | .inr (.inl o), ⟨i, h⟩ => exact hm i _ h
  | .inr (.inr q), h => exact h
theorem hsl_set {G : GT} {h : Hp} {H1 : Heap} {ws : va_W} {a i : Nat} {e0 e : CE} (hn : nro e) (h1 : H1.size = h.1) (h2 : G.1.heap.size ≤ H1.size) (h3 : ∀ q : Nat, q < G.1.heap.size → H1[q]? = G.1.heap[q]?) (h4 : h.2.2.1 = G.2.2.2)
    (hc : ∀ (a : Nat) (e : CE), h.2.2.2 a = some e → eOk G ws a e) (hi : ws[i]? = some (a, eE G e0)) (hP : va_P G.2.1 clx (ws.set i (a, eE G e)) H1) (hD : va_D (AG G) (ws.set i (a, eE G e))) : HSl G (up h a e) H1 := by
  have hl := (List.getElem?_eq_some_iff.mp hi).1
  refine ⟨h1, h2, h3, h4, _, hP, hD, fun b x hb => ?_⟩
  have hb : (if b = a then some e else h.2.2.2 b) = some x := hb
  by_cases hba : b = a
  · subst hba
    rw [if_pos rfl] at hb
    cases hb
    exact eOk_of hn (i := i) (List.getElem?_set_self hl)
  · rw [if_neg hba] at hb
    refine eOk_mono (fun j y hj => ⟨j, ?_⟩) (hc b x hb)
    by_cases hji : j = i
    · subst hji
      rw [hi] at hj
      cases hj
      exact absurd rfl hba
    · rw [List.getElem?_set_ne (Ne.symm hji)]
      exact hj
theorem va_S_tr {A : Nat → Prop} {H0 H H1 : Heap} {locs locs1 : List Loc} (h : va_S A H0 H locs) (h1 : va_S A H H1 locs1) : va_S A H0 H1 locs1 := ⟨Nat.le_trans h.1 h1.1, fun q a b => (h1.2.1 q (Nat.lt_of_lt_of_le a h.1) b).trans (h.2.1 q a b), h1.2.2⟩
theorem w_sz {p : Program} {l : Launch} {e : Env} {R : Room} {s : State} {m : MethodId} {args : Array Value} {below : List Frame} {meth : Method} {c : Code} {H : Heap} {locs : List Loc} {cells slots : Nat} {Q : State → Prop} {g : JFrame} (k : H.size ≤ s.heap.size + cells → W p l e R s m args below meth c H locs cells slots Q g) : W p l e R s m args below meth c H locs cells slots Q g := by
  intro T hT X
  have h1 := X.heapSize
  rw [hT] at h1
  exact k h1 T hT X
theorem CX.K {G : GT} {cc : ByteArray} {own nm : String} {nL : Nat} {ret : Option FieldType} {h0 : Hp} {p : Program} {l : Launch} {s : State} {m : MethodId} {args : Array Value} {meth : Method} {c : Code} (C : CX G cc own nm nL ret h0 p l s m args meth c) : va_K G.2.1 clx (tysG G) s := va_K.moved C.2.2.2.2.2.2.1.alike C.2.2.2.2.2.1.1
theorem CX.nw {G : GT} {cc : ByteArray} {own nm : String} {nL : Nat} {ret : Option FieldType} {h0 : Hp} {p : Program} {l : Launch} {s : State} {m : MethodId} {args : Array Value} {meth : Method} {c : Code} (C : CX G cc own nm nL ret h0 p l s m args meth c) {w : Cond} (hw : w ∈ lw_tbl) (ho : w.onTables = true) : va_Nw w G.1 := by
  obtain ⟨A, hA⟩ := C.2.2.2.2.2.1.2.1
  exact va_Nw.of ho (hA w hw)
theorem CX.nwF {G : GT} {cc : ByteArray} {own nm : String} {nL : Nat} {ret : Option FieldType} {h0 : Hp} {p : Program} {l : Launch} {s : State} {m : MethodId} {args : Array Value} {meth : Method} {c : Code} (C : CX G cc own nm nL ret h0 p l s m args meth c) {a : String} {i : Nat} {b n d host : String} (w : Cond.fieldLinkNest a i b n d host ∈ lw_tbl) : (Cond.fieldLinkNest a i b n d host).before args s = true :=
  va_Nw.use rfl (va_Nw.warmF C.2.2.2.2.2.2.1 (C.nw w rfl))
theorem CX.nwM {G : GT} {cc : ByteArray} {own nm : String} {nL : Nat} {ret : Option FieldType} {h0 : Hp} {p : Program} {l : Launch} {s : State} {m : MethodId} {args : Array Value} {meth : Method} {c : Code} (C : CX G cc own nm nL ret h0 p l s m args meth c) {a : String} {i : Nat} {x : MethodName} {host : String} (w : Cond.methodLinkNest a i x host ∈ lw_tbl) : va_Nw (Cond.methodLinkNest a i x host) s :=
  va_Nw.warmM C.2.2.2.2.2.2.1 (C.nw w rfl)
section V3
variable {l : Launch} {G : GT} {cc : ByteArray} {own nm : String} {nL : Nat} {ret : Option FieldType} {fr lo : Nat} {h0 hE h : Hp} {Qf : List Frame → Array Value → State → State → Prop} {pc : Nat} {L L' : List (Nat × Value)} {st : List Value} {α : Type} {r : α}
/-- a step that reads the heap -/
theorem v_rd {pc' : Nat} {st' : List Value}
    (f : ∀ {p : Program} {e : Env} {R : Room} {s : State} {m : MethodId} {args : Array Value} {below : List Frame} {meth : Method} {c : Code} {H : Heap} {locs : List Loc} {cells slots : Nat} {Q : State → Prop} {ls : Array Slot}, CX G cc own nm nL ret h0 p l s m args meth c → HSl G h H → va_S (AG G) s.heap H locs → W p l e R s m args below meth c H locs cells slots Q (F0 m pc' ls st') → W p l e R s m args below meth c H locs cells slots Q (F0 m pc ls st))
    (k : V l G cc own nm nL ret fr lo h0 hE Qf pc' L st' h) : V l G cc own nm nL ret fr lo h0 hE Qf pc L st h :=
  ⟨k.1, fun p e s m args below meth c C H locs cells slots ls e1 e2 e3 e4 e5 => f C e3 e4 (k.2 p e s m args below meth c C H locs cells slots ls e1 e2 e3 e4 e5)⟩
/-- a step that changes one cell -/
theorem v_wr {pc' : Nat} {st' : List Value} {a : Nat} {e0 e1 : CE} (h0n : nro e0) (h1n : nro e1) (ha : h.2.2.2 a = some e0)
    (f : ∀ {p : Program} {e : Env} {R : Room} {s : State} {m : MethodId} {args : Array Value} {below : List Frame} {meth : Method} {c : Code} {H : Heap} {locs : List Loc} {cells slots : Nat} {Q : State → Prop} {ls : Array Slot} {ws : va_W} {i : Nat}, CX G cc own nm nL ret h0 p l s m args meth c → (∀ (b : Nat) (x : CE), nro x → h.2.2.2 b = some x → ∃ j : Nat, ws[j]? = some (b, eE G x)) → ws[i]? = some (a, eE G e0) → va_P G.2.1 clx ws H → va_D (AG G) ws → va_S (AG G) H H locs →
      (∀ (H1 : Heap) (locs1 : List Loc), va_P G.2.1 clx (ws.set i (a, eE G e1)) H1 → va_D (AG G) (ws.set i (a, eE G e1)) → va_S (AG G) H H1 locs1 → W p l e R s m args below meth c H1 locs1 cells slots Q (F0 m pc' ls st')) → W p l e R s m args below meth c H locs cells slots Q (F0 m pc ls st))
    (k : V l G cc own nm nL ret fr lo h0 hE Qf pc' L st' (up h a e1)) : V l G cc own nm nL ret fr lo h0 hE Qf pc L st h := by
  refine ⟨k.1, fun p e s m args below meth c C H locs cells slots ls e1 e2 e3 e4 e5 => ?_⟩
  obtain ⟨z1, z2, z3, z4, ws, hP, hD, hc⟩ := e3
  obtain ⟨i, hi⟩ := eOk_at h0n (hc a e0 ha)
  have hS' : va_S (AG G) H H locs := ⟨Nat.le_refl _, fun _ _ _ => rfl, e4.2.2⟩
  refine f C (fun b x hx hb => eOk_at hx (hc b x hb)) hi hP hD hS' (fun H1 locs1 q1 q2 q3 => w_sz (fun hz => ?_))
  have hz1 : H1.size = h.1 := by
    have a1 : s.heap.size = h0.1 := C.2.2.2.2.2.2.2.2.2.2.1
    have a2 := q3.1
    omega
  refine k.2 p e s m args below meth c C H1 locs1 cells slots ls e1 e2 (hsl_set h1n hz1 (by rw [hz1, ← z1]; exact z2) (fun q hq => ?_) z4 hc hi q1 q2) (va_S_tr e4 q3) e5
  rw [q3.2.1 q (Nat.lt_of_lt_of_le hq z2) (fun z => absurd (show G.1.heap.size ≤ q from z) (by omega))]
  exact z3 q hq
theorem v_getv {idx a k : Nat} {cs : List Nat} {o : Nat × List Value} {v : Value} (hd : decode cc pc = .ok (.getfield idx, 3)) (fl : FL own idx cs k) (ho : ob h a cs = some o) (hv : o.2[k]? = some v) (kk : V l G cc own nm nL ret fr lo h0 hE Qf (pc + 3) L (v :: st) h) : V l G cc own nm nL ret fr lo h0 hE Qf pc L (.ref a :: st) h := by
  obtain ⟨ho1, ho2⟩ := ob_spec ho
  obtain ⟨ci, fs⟩ := o
  obtain ⟨C0, ref, T, N, c1, c2, c3, c4, c5⟩ := fl ci ho2
  refine v_rd (fun {p e R s m args below meth c H locs cells slots Q ls} C e3 e4 kk => ?_) kk
  obtain ⟨z1, z2, z3, z4, ws, hP, hD, hc⟩ := e3
  obtain ⟨i, hi⟩ := hc a _ ho1
  have hsame : ∀ x, s.fieldFound? (T k).1 (T k).2.1 (T k).2.2.1 = some x → s.fieldFound? ref (T k).2.1 (T k).2.2.1 = some x := by
    rcases c5 with c5 | c5
    · rw [c5]; exact fun x hx => hx
    · exact u_same (C.2.2.2.2.1 _ c5)
  rcases c4 with c4 | ⟨host, c4⟩
  · exact va_get C.1 C.2.1 C.2.2.2.2.1 c2 C.2.2.2.1 C.K hP i hi c1 k c3 (C.2.2.2.2.1 _ c4) hsame hv hd kk
  · exact va_getN C.1 C.2.1 C.2.2.2.2.1 c2 C.2.2.2.1 C.K hP i hi c1 k c3 (C.nwF c4) hsame hv hd kk
theorem v_geti {idx a k : Nat} {cs : List Nat} {rest : Int32 → Option α} (hd : decode cc pc = .ok (.getfield idx, 3)) (fl : FL own idx cs k) (hF : (gi h a cs k).bind rest = some r) (kk : ∀ x, rest x = some r → V l G cc own nm nL ret fr lo h0 hE Qf (pc + 3) L (.int x :: st) h) : V l G cc own nm nL ret fr lo h0 hE Qf pc L (.ref a :: st) h := by
  obtain ⟨x, h1, h2⟩ := Option.bind_eq_some_iff.mp hF
  obtain ⟨o, h3, h4⟩ := Option.bind_eq_some_iff.mp h1
  exact v_getv hd fl h3 (vI_spec h4) (kk x h2)
theorem v_getl {idx a k : Nat} {cs : List Nat} {rest : Int64 → Option α} (hd : decode cc pc = .ok (.getfield idx, 3)) (fl : FL own idx cs k) (hF : (gl h a cs k).bind rest = some r) (kk : ∀ x, rest x = some r → V l G cc own nm nL ret fr lo h0 hE Qf (pc + 3) L (.long x :: st) h) : V l G cc own nm nL ret fr lo h0 hE Qf pc L (.ref a :: st) h := by
  obtain ⟨x, h1, h2⟩ := Option.bind_eq_some_iff.mp hF
  obtain ⟨o, h3, h4⟩ := Option.bind_eq_some_iff.mp h1
  exact v_getv hd fl h3 (vL_spec h4) (kk x h2)
theorem v_getr {idx a k : Nat} {cs : List Nat} {rest : Nat → Option α} (hd : decode cc pc = .ok (.getfield idx, 3)) (fl : FL own idx cs k) (hF : (gr h a cs k).bind rest = some r) (kk : ∀ x, rest x = some r → V l G cc own nm nL ret fr lo h0 hE Qf (pc + 3) L (.ref x :: st) h) : V l G cc own nm nL ret fr lo h0 hE Qf pc L (.ref a :: st) h := by
  obtain ⟨x, h1, h2⟩ := Option.bind_eq_some_iff.mp hF
  obtain ⟨o, h3, h4⟩ := Option.bind_eq_some_iff.mp h1
  exact v_getv hd fl h3 (vR_spec h4) (kk x h2)
theorem v_getq {idx a k : Nat} {cs : List Nat} {rest : Option Nat → Option α} (hd : decode cc pc = .ok (.getfield idx, 3)) (fl : FL own idx cs k) (hF : (gq h a cs k).bind rest = some r) (kk : ∀ x, rest x = some r → V l G cc own nm nL ret fr lo h0 hE Qf (pc + 3) L (va_rf x :: st) h) : V l G cc own nm nL ret fr lo h0 hE Qf pc L (.ref a :: st) h := by
  obtain ⟨x, h1, h2⟩ := Option.bind_eq_some_iff.mp hF
  obtain ⟨o, h3, h4⟩ := Option.bind_eq_some_iff.mp h1
  exact v_getv hd fl h3 (vQ_spec h4) (kk x h2)
theorem t_set1 {cell : Cell} {N : Nat} {iS : Nat → Nat} {V : Nat → Value} (h : ∀ k, k < N → cell.slots[iS k]? = some (V k)) {k : Nat} (hap : ∀ b, b < N → b ≠ k → iS k ≠ iS b) (hk : k < N) (v : Value) : ∀ j, j < N → (cell.setSlot (iS k) v).slots[iS j]? = some (updV V k v j) := by
  intro j hj
  by_cases hjk : j = k
  · subst hjk
    rw [Cell.slots_setSlot_self _ (k2_hasslot (h j hj))]
    simp [updV]
  · rw [slot_ne _ _ (hap j hj hjk), h j hj]
    simp [updV, hjk]
theorem v_put {idx a k : Nat} {cs : List Nat} {ty : FieldType} {fin : Bool} {v : Value} {rest : Hp → Option α} (hd : decode cc pc = .ok (.putfield idx, 3)) (pl : PL own idx cs k ty fin) (hfi : fin = true → nm = "<init>") (hnv : narrow ty v = v) (hfit : fits ty v = true) (hF : (po h a cs k v).bind rest = some r) (kk : ∀ h', rest h' = some r → V l G cc own nm nL ret fr lo h0 hE Qf (pc + 3) L st h') : V l G cc own nm nL ret fr lo h0 hE Qf pc L (v :: .ref a :: st) h := by
  obtain ⟨h', h1, h2⟩ := Option.bind_eq_some_iff.mp hF
  obtain ⟨o, h3, h4⟩ := Option.bind_eq_some_iff.mp h1
  obtain ⟨hkl, rfl⟩ := ifs h4
  obtain ⟨ho1, ho2⟩ := ob_spec h3
  obtain ⟨ci, fs⟩ := o
  obtain ⟨C0, ref, T, N, ty0, c1, c2, c3, c4, c5, c6, c7, c8, c9, c10⟩ := pl ci ho2
  refine v_wr (e0 := .inr (.inl (ci, fs))) (e1 := .inr (.inl (ci, fs.set k v))) trivial trivial ho1 (fun {p e R s m args below meth c H locs cells slots Q ls ws i} C _ hi hP hD hS kk => ?_) (kk _ h2)
  have hsame : ∀ x, s.fieldFound? (T k).1 (T k).2.1 (T k).2.2.1 = some x → s.fieldFound? ref (T k).2.1 (T k).2.2.1 = some x := by
    rcases c5 with c5 | c5
    · rw [c5]; exact fun x hx => hx
    · exact u_same (C.2.2.2.2.1 _ c5)
  have hts := C.2.2.2.2.1
  have hK := C.K
  have hdt : parseFieldDescriptor (T k).2.2.1 = some ty := by rw [c6 k c3, c7]
  obtain ⟨rr, g1, cell, q1, q2, q3, q4⟩ := hP i _ hi
  have hr : rr = (C0, T, N) := Option.some.inj (g1.symm.trans c1)
  subst hr
  obtain ⟨hSl, hfc, kC, hkC, hkind⟩ := hK.1 ci _ c1
  have hap : ∀ b, b < N → b ≠ k → G.2.1.2 ci k ≠ G.2.1.2 ci b := by
    intro b hb hbk
    obtain ⟨_, _, _, fa, hia, ea⟩ := hSl k c3
    obtain ⟨_, _, _, fb, hib, eb⟩ := hSl b hb
    rw [← ea, ← eb]
    refine u_apart (u_lays hts c2 c3) (u_lays hts c2 hb) hia hib ?_
    rw [(State.fieldFound?_type hia (c6 k c3)).1, (State.fieldFound?_type hib (c6 b hb)).1]
    exact (c8 b hb hbk).symm
  obtain ⟨cf, kf, fi, f, hif, hsl⟩ := hSl k c3
  have hlay := hts _ (c2 _ (u_in_lay c3))
  have hst := (u_facts hfc hkC (u_lays hts c2 c3) hif).1
  unfold u_lay at hlay
  have last : ∀ (H' : Heap), H'[a]? = some (cell.setSlot f.slot v) → H'.size = H.size → (∀ q, q ≠ a → H'[q]? = H[q]?) → W p l e R s m args below meth c H' (locs ++ [⟨a, f.slot⟩]) cells slots Q (F0 m (pc + 3) ls st) := by
    intro H' e1 e2 e3
    rw [hsl] at e1 ⊢
    exact kk H' _ (hP.set hD hi ⟨_, c1, t_OB.to (V := updV (vp_V fs) k v) ⟨_, e1, q2, q3, t_set1 q4 hap c3 v⟩ (fun j _ => vp_updV_set hkl v j)⟩ e3) (hD.set hi) (hS.put e2 e3 (hD.2 i _ hi))
  cases fin with
  | false =>
    rw [if_neg (by rw [c9]; decide)] at hlay
    have h6 := u_store hfc hkC hkind hlay hif hdt hnv hfit
    rcases c4 with c4 | ⟨-, host, c4⟩
    · exact W.putK C.1 C.2.1 (f := f) ⟨C.2.2.2.1, hts _ c4, ⟨_, _, _, hsame _ hif⟩, hst⟩ (by rw [q2]; exact h6) q1 q3 (by rw [hsl]; exact k2_hasslot (q4 k c3)) rfl rfl hd last
    · exact va_WputK C.1 C.2.1 (f := f) C.2.2.2.1 (C.nwF c4) (hsame _ hif) hst (by rw [q2]; exact h6) q1 q3 (by rw [hsl]; exact k2_hasslot (q4 k c3)) rfl rfl hd last
  | true =>
    rw [if_pos c9] at hlay
    rcases c4 with c4 | ⟨c4, -⟩
    · have hcf : m.cls = cf := by
        obtain ⟨_, _, c', _, _, _, -, -, hf', -, -, -, hown2, -⟩ := Cond.laysFinal_spec hlay
        have e1 : c' = cf := by have := hif.symm.trans hf'; simp at this; exact this.1.symm
        rw [c10 rfl] at hown2
        rw [← e1]; exact Option.some.inj (C.2.2.2.1.symm.trans hown2)
      have h6 := u_fits hfc hkC hkind (Or.inr hlay) hif hdt hnv hfit
      exact W.putFinK C.1 C.2.1 C.2.2.2.1 (hts _ c4) (hsame _ hif) hst hcf (C.2.2.2.2.2.2.2.2.2.1.trans (hfi rfl)) (by rw [q2]; exact h6) q1 q3 (by rw [hsl]; exact k2_hasslot (q4 k c3)) rfl rfl hd last
    · cases c4
theorem v_putz {idx a k : Nat} {cs : List Nat} {fin : Bool} {v : Int32} {rest : Hp → Option α} (hd : decode cc pc = .ok (.putfield idx, 3)) (pl : PL own idx cs k .boolean fin) (hfi : fin = true → nm = "<init>") (hF : (pz h a cs k v).bind rest = some r) (kk : ∀ h', rest h' = some r → V l G cc own nm nL ret fr lo h0 hE Qf (pc + 3) L st h') : V l G cc own nm nL ret fr lo h0 hE Qf pc L (.int v :: .ref a :: st) h := by
  obtain ⟨h', h1, h2⟩ := Option.bind_eq_some_iff.mp hF
  unfold pz at h1
  split at h1
  · next hv =>
    refine v_put hd pl hfi ?_ ?_ (rest := rest) (Option.bind_eq_some_iff.mpr ⟨h', h1, h2⟩) kk
    · rcases hv with rfl | rfl <;> decide +kernel
    · rcases hv with rfl | rfl <;> decide +kernel
  · cases h1
end V3
