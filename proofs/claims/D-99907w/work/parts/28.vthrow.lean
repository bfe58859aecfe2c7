/-! V of methods that may throw Wrong, or catch: results .inl q (thrown at q), .inr o (returned) -/
set_option maxRecDepth 100000
abbrev Rs : Type := Nat ⊕ Option Value
def QcR (G : GT) (res : Rs) (h' : Hp) : Array Value → State → Outcome → State → Prop := match res with
  | .inl _ => fun _ _ _ _ => False
  | .inr o => QcH G o h'
def XcR (G : GT) (res : Rs) (h' : Hp) : Nat → String → State → State → Prop := match res with
  | .inl a => fun q E st t => q = a ∧ E = RX9 ∧ HSl G h' t.heap ∧ va_F (AG G) st t
  | .inr _ => fun _ _ _ _ => False
/-- a contract of a method that may throw -/
def CtX (l : Launch) (G : GT) (y : MethodName) (ws : List Cond) (fr lo : Nat) (av : List Value) (h : Hp) (res : Rs) (h' : Hp) : Prop :=
  (h.1 ≤ h'.1 ∧ h.2.1 ≤ h'.2.1) ∧ vq_Met l y ws { frames := fr, cells := h'.1 - h.1, slots := h'.2.1 - h.2.1, locals := lo } (va_Pc av (PreH l G h)) (QcR G res h') (XcR G res h') (h'.1 - h.1) (h'.2.1 - h.2.1) (AG G)
/-- the running method's table, told by the state at its start -/
def TBs (hh : List (Nat × Nat × Nat × Nat)) (s : State) : Prop := ∀ (m : MethodId) (a : Array Value) (below : List Frame) (meth : Method) (c : Code), s.frames = .invoking m a :: below → s.vm.method? m = some meth → meth.code = some c → c.exceptionTable.toList = tableOf hh
def QX (G : GT) (hh : List (Nat × Nat × Nat × Nat)) (res : Rs) (h0 hE : Hp) : List Frame → Array Value → State → State → Prop := fun below args s t => TBs hh s → vq_MQ below (QcR G res hE) (XcR G res hE) args s (hE.1 - h0.1) (hE.2.1 - h0.2.1) (AG G) t
/-- .. with q thrown over the frame -/
def VX (l : Launch) (G : GT) (cc : ByteArray) (own nm : String) (nL : Nat) (ret : Option FieldType) (fr lo : Nat) (h0 hE : Hp) (Qf : List Frame → Array Value → State → State → Prop) (pc : Nat) (L : List (Nat × Value)) (q : Nat) (h : Hp) : Prop :=
  (h.1 ≤ hE.1 ∧ h.2.1 ≤ hE.2.1) ∧
  ∀ (p : Program) (e : Env) (s : State) (m : MethodId) (args : Array Value) (below : List Frame) (meth : Method) (c : Code),
    CX G cc own nm nL ret h0 p l s m args meth c →
    ∀ (H : Heap) (locs : List Loc) (cells slots : Nat) (ls : Array Slot) (rest : List Value), cells + h0.1 = h.1 → slots + h0.2.1 = h.2.1 → HSl G h H → va_S (AG G) s.heap H locs → lv_has ls nL L →
      vq_W p l e { frames := fr, cells := hE.1 - h0.1, slots := hE.2.1 - h0.2.1, locals := lo } s m args below meth c H locs cells slots (Qf below args s) (F0 m pc ls rest) q
def bdx {α β : Type} (x : Option ((Nat ⊕ α) × Hp)) (f : α → Hp → Option ((Nat ⊕ β) × Hp)) : Option ((Nat ⊕ β) × Hp) := match x with
  | none => none
  | some (.inl q, h) => (ob h q [8]).bind fun _ => some (.inl q, h)
  | some (.inr v, h) => f v h
theorem bdx_spec {α β : Type} {x : Option ((Nat ⊕ α) × Hp)} {f : α → Hp → Option ((Nat ⊕ β) × Hp)} {r : (Nat ⊕ β) × Hp} (h : bdx x f = some r) : (∃ (q : Nat) (h' : Hp) (o : Nat × List Value), x = some (.inl q, h') ∧ ob h' q [8] = some o ∧ r = (.inl q, h')) ∨ ∃ (v : α) (h' : Hp), x = some (.inr v, h') ∧ f v h' = some r := by
  unfold bdx at h
  split at h
  · cases h
  · next q h' =>
    obtain ⟨o, h1, h2⟩ := Option.bind_eq_some_iff.mp h
    cases h2
    exact Or.inl ⟨q, h', o, rfl, h1, rfl⟩
  · next v h' => exact Or.inr ⟨v, h', rfl, h⟩
def bdc {α β : Type} (x : Option ((Nat ⊕ α) × Hp)) (f : α → Hp → Option β) (g : Nat → Hp → Option β) : Option β := match x with
  | none => none
  | some (.inl q, h) => (ob h q [8]).bind fun _ => g q h
  | some (.inr v, h) => f v h
theorem bdc_spec {α β : Type} {x : Option ((Nat ⊕ α) × Hp)} {f : α → Hp → Option β} {g : Nat → Hp → Option β} {r : β} (h : bdc x f g = some r) : (∃ (q : Nat) (h' : Hp) (o : Nat × List Value), x = some (.inl q, h') ∧ ob h' q [8] = some o ∧ g q h' = some r) ∨ ∃ (v : α) (h' : Hp), x = some (.inr v, h') ∧ f v h' = some r := by
  unfold bdc at h
  split at h
  · cases h
  · next q h' =>
    obtain ⟨o, h1, h2⟩ := Option.bind_eq_some_iff.mp h
    exact Or.inl ⟨q, h', o, rfl, h1, h2⟩
  · next v h' => exact Or.inr ⟨v, h', rfl, h⟩
/-- values as results -/
def rsI (x : Nat ⊕ Int32) : Rs := match x with
  | .inl q => .inl q
  | .inr v => .inr (some (.int v))
def rsA (x : Nat ⊕ Nat) : Rs := match x with
  | .inl q => .inl q
  | .inr v => .inr (some (.ref v))
def rsV (x : Nat ⊕ Unit) : Rs := match x with
  | .inl q => .inl q
  | .inr _ => .inr none
theorem tb0 {pc : Nat} : ∀ x ∈ tableOf [], covers x pc = false := fun x hx => nomatch (show x ∈ ([] : List ExceptionTableEntry) from hx)
theorem v_dispK {P Q : Prop} (k : P) (f : P → Q) : Q := f k
section V28
variable {l : Launch} {G : GT} {cc : ByteArray} {own nm : String} {nL : Nat} {ret : Option FieldType} {fr lo : Nat} {h0 hE h h1 : Hp} {Qf : List Frame → Array Value → State → State → Prop} {pc : Nat} {L L' : List (Nat × Value)} {st : List Value} {α : Type} {r : α}
theorem v_toX {hh : List (Nat × Nat × Nat × Nat)} {o : Option Value} (K : V l G cc own nm nL ret fr lo h0 hE (QM G o h0 hE) pc L st h) : V l G cc own nm nL ret fr lo h0 hE (QX G hh (.inr o) h0 hE) pc L st h := by
  refine ⟨K.1, fun p e s m args below meth c C H locs cells slots ls e1 e2 e3 e4 e5 => ?_⟩
  have k := vq_ret (XC := XcR G (.inr o) hE) (K.2 p e s m args below meth c C H locs cells slots ls e1 e2 e3 e4 e5)
  intro T hT X
  obtain ⟨t, a, b⟩ := k T hT X
  exact ⟨t, a, fun _ => b⟩
/-- a Wrong's cell -/
theorem wr_cell {p : Program} {s : State} {m : MethodId} {args : Array Value} {meth : Method} {c : Code} {H : Heap} {q : Nat} {o : Nat × List Value} (C : CX G cc own nm nL ret h0 p l s m args meth c) (e3 : HSl G h H) (ho : ob h q [8] = some o) : ∃ ce : Cell, H[q]? = some ce ∧ ce.vm = .none ∧ s.vm.findClass RX9 = some ce.cls := by
  obtain ⟨g1, g2⟩ := ob_spec ho
  obtain ⟨ci, fs⟩ := o
  obtain rfl : ci = 8 := by simpa using g2
  obtain ⟨z1, z2, z3, z4, ws, hP, hD, hc⟩ := e3
  obtain ⟨i0, hi⟩ := hc q _ g1
  have c1 : clx[8]? = some (RX9, TX9, 7) := rfl
  obtain ⟨cell, k1, k2, k3⟩ := va_recv C.K hP c1 hi
  obtain ⟨rr, g1', cell', q1, q2, q3, q4⟩ := hP i0 _ hi
  have : cell = cell' := Option.some.inj (k1.symm.trans q1)
  subst this
  exact ⟨cell, k1, q3, k3⟩
/-- it leaves this method -/
theorem x_out {hh : List (Nat × Nat × Nat × Nat)} {q : Nat} {o : Nat × List Value} (ho : ob h q [8] = some o) (hcov : ∀ x ∈ tableOf hh, covers x pc = false) (hE' : h = hE) : VX l G cc own nm nL ret fr lo h0 hE (QX G hh (.inl q) h0 hE) pc L q h := by
  subst hE'
  refine ⟨⟨Nat.le_refl _, Nat.le_refl _⟩, fun p e s m args below meth c C H locs cells slots ls rest e1 e2 e3 e4 e5 => ?_⟩
  intro T hT X
  by_cases htb : TBs hh s
  · obtain ⟨ce, k1, k2, k3⟩ := wr_cell C e3 ho
    have htab : c.exceptionTable.toList = tableOf hh := htb m args below meth c X.frames X.method X.code
    have k := vq_out (Qc := QcR G (.inl q) h) (XC := XcR G (.inl q) h) (below := below) (m := m) (args := args) (ls := ls) (rest := rest) (R := { frames := fr, cells := h.1 - h0.1, slots := h.2.1 - h0.2.1, locals := lo }) (p := p) (e := e) (l := l) (locs := locs) (cells := cells) (slots := slots) (mc := h.1 - h0.1) (ms := h.2.1 - h0.2.1) (free := AG G) (pc := pc) (by rw [htab]; exact hcov) C.2.2.2.2.2.2.2.2.1 k1 k2 k3 (fun t ht hW => ⟨rfl, rfl, by rw [ht]; exact e3, va_S.F e4 ht⟩) e4.2.2 (by omega) (by omega)
    obtain ⟨t, a, b⟩ := k T hT X
    exact ⟨t, a, fun _ => b⟩
  · exact ⟨_, Steps.refl _, fun z => absurd z htb⟩
/-- it is caught here -/
theorem x_catch {hh : List (Nat × Nat × Nat × Nat)} {res : Rs} {q : Nat} {o : Nat × List Value} (pre : List ExceptionTableEntry) (x : ExceptionTableEntry) (suf : List ExceptionTableEntry) (ho : ob h q [8] = some o) (hsplit : tableOf hh = pre ++ x :: suf) (hpre : ∀ z ∈ pre, covers z pc = false) (hx : covers x pc = true) (hx0 : x.catchType ≠ 0) (hlink : Cond.classLink own x.catchType RX9 ∈ lw_all)
    (K : V l G cc own nm nL ret fr lo h0 hE (QX G hh res h0 hE) x.handlerPc L [.ref q] h) : VX l G cc own nm nL ret fr lo h0 hE (QX G hh res h0 hE) pc L q h := by
  refine ⟨K.1, fun p e s m args below meth c C H locs cells slots ls rest e1 e2 e3 e4 e5 => ?_⟩
  intro T hT X
  by_cases htb : TBs hh s
  · obtain ⟨ce, k1, k2, k3⟩ := wr_cell C e3 ho
    have htab : c.exceptionTable.toList = tableOf hh := htb m args below meth c X.frames X.method X.code
    have hca : (Cond.castable RX9 RX9).before args s = true := va_Nw.use rfl (va_Nw.warmC C.2.2.2.2.2.2.1 (C.nw q846 rfl))
    exact vq_catch C.2.2.2.1 pre x suf (htab.trans hsplit) (fun z hz => Or.inl (hpre z hz)) hx hx0 (C.2.2.2.2.1 _ hlink) hca k1 k2 k3 (K.2 p e s m args below meth c C H locs cells slots ls e1 e2 e3 e4 e5) T hT X
  · exact ⟨_, Steps.refl _, fun z => absurd z htb⟩
theorem v_athrow {hh : List (Nat × Nat × Nat × Nat)} {a : Nat} {o : Nat × List Value} (hd : decode cc pc = .ok (.athrow, 1)) (ho : ob h a [8] = some o) (hcov : ∀ x ∈ tableOf hh, covers x pc = false) (hE' : h = hE) : V l G cc own nm nL ret fr lo h0 hE (QX G hh (.inl a) h0 hE) pc L (.ref a :: st) h := by
  have K := x_out (l := l) (G := G) (cc := cc) (own := own) (nm := nm) (nL := nL) (ret := ret) (fr := fr) (lo := lo) (h0 := h0) (pc := pc) (L := L) ho hcov hE'
  refine ⟨K.1, fun p e s m args below meth c C H locs cells slots ls e1 e2 e3 e4 e5 => ?_⟩
  intro T hT X
  obtain ⟨ce, k1, k2, k3⟩ := wr_cell C e3 ho
  obtain ⟨t, a1, b1⟩ := K.2 p e s m args below meth c C H locs cells slots ls st e1 e2 e3 e4 e5 T hT X
  refine ⟨t, ?_, b1⟩
  have hexec := C.1
  have hdg' : decode c.code pc = .ok (.athrow, 1) := by rw [C.2.1]; exact hd
  jvm_step X.here [X.here.top, hexec, hdg', athrow.wp_sem]
  exact a1
/-- a call of a method that may throw: it returns -/
theorem v_calX_run {idx a n maxL frc loc : Nat} {cs : List Nat} {y : MethodName} {bytes : ByteArray} {rt : Option FieldType} {av stk : List Value} {res : Rs} (hd : decode cc pc = .ok (.invokevirtual idx, 3)) (vl : ∀ ci ∈ cs, VL own idx ci y n) (hcd : Cond.code y bytes maxL rt ∈ lw_all) (rc : RC h a cs) (hM : vq_Met l y (ws_ y bytes maxL rt) { frames := frc, cells := h1.1 - h.1, slots := h1.2.1 - h.2.1, locals := loc } (va_Pc (.ref a :: av) (PreH l G h)) (QcR G res h1) (XcR G res h1) (h1.1 - h.1) (h1.2.1 - h.2.1) (AG G)) (hst : stk = av.reverse ++ .ref a :: st) (hn : av.length = n) (hfr : frc + 1 ≤ fr) (hlo : 8 + (maxL + 11) + loc ≤ lo) (hw : (st.map fun v => v.category).sum ≤ 8)
    {p : Program} {e : Env} {s : State} {m : MethodId} {args : Array Value} {below : List Frame} {meth : Method} {c : Code} {H : Heap} {locs : List Loc} {cells slots : Nat} {ls : Array Slot} (C : CX G cc own nm nL ret h0 p l s m args meth c) (e1 : cells + h0.1 = h.1) (e2 : slots + h0.2.1 = h.2.1) (e3 : HSl G h H) (e5 : lv_has ls nL L) (b1 : h.1 ≤ h1.1) (b2 : h.2.1 ≤ h1.2.1) (b3 : h1.1 ≤ hE.1) (b4 : h1.2.1 ≤ hE.2.1) :
    vq_Run p l e { frames := fr, cells := hE.1 - h0.1, slots := hE.2.1 - h0.2.1, locals := lo } s m args below meth c H locs cells slots (h1.1 - h.1) (h1.2.1 - h.2.1) (F0 m pc ls stk) st (QcR G res h1 (Value.ref a :: av).toArray) (XcR G res h1) (AG G) := by
  obtain ⟨ob0, hob⟩ := rc
  obtain ⟨g1, g2⟩ := ob_spec hob
  obtain ⟨ci, fs⟩ := ob0
  obtain ⟨C0, T, N, c1, c2, c3, c4, c5, c6⟩ := vl ci g2
  have hts := C.2.2.2.2.1
  have hGI : GoodIn lw_all (ws_ y bytes maxL rt) := lw_meth hcd
  have hcb : Cond.code y bytes maxL rt ∈ ws_ y bytes maxL rt := List.mem_cons_self
  have hlen : ∀ {z : MethodName}, (parseMethodDescriptor z.desc).map (fun d => d.parameters.length) = some n → ∀ sig, parseMethodDescriptor z.desc = some sig → n = sig.parameters.length := by
    intro z hz sig h
    rw [h] at hz
    exact (Option.some.inj hz).symm
  have hfix : CallFix p m c cc nL s args lw_all own := ⟨C.1, C.2.1, C.2.2.1, C.2.2.2.1, hts⟩
  obtain ⟨z1, z2, z3, z4, ws, hP, hD, hc⟩ := e3
  obtain ⟨i0, hi⟩ := hc a _ g1
  have hrecv : ∃ cell : Cell, H[a]? = some cell ∧ cell.vm.isStatics = false ∧ s.vm.findClass C0 = some cell.cls := va_recv C.K hP c1 hi
  have hpre : PreV s H C0 a (va_Pc (.ref a :: av) (PreH l G h)) av := ⟨preH_blind, hrecv, fun U hU hW => ⟨rfl, C.2.2.2.2.2.1, State.WarmedH.trans C.2.2.2.2.2.2.1 hW, by rw [hU]; exact ⟨z1, z2, z3, z4, ws, hP, hD, hc⟩⟩⟩
  have hfit : cells + (h1.1 - h.1) ≤ hE.1 - h0.1 ∧ slots + (h1.2.1 - h.2.1) ≤ hE.2.1 - h0.2.1 := ⟨by omega, by omega⟩
  have hbk : ∀ w ∈ ws_ y bytes maxL rt, ∀ (a' : Array Value) (U : State), s.WarmedH U.vm → w.before a' U = true := pay_in hts hGI
  rcases c6 with ⟨d1, d2⟩ | ⟨host, d1, d2⟩ | ⟨x, owner, d1, d2, d3, d4, d5, d6⟩ | ⟨d1, d2, z, d3, d4⟩
  · exact vq_runV hfix hM ⟨⟨rfl, rfl, hfr, hlo, hbk, hcb, hts _ hcd, hts _ c2, c3, hlen c4, hts _ d1⟩, hts _ c5, hts _ d2⟩ hpre rfl hn e5.1 hst (lv_room hw) hd hfit
  · exact vq_runVN hfix hM ⟨⟨⟨rfl, rfl, hfr, hlo, hbk, hcb⟩, hts _ hcd, hts _ c2, c3, hlen c4, va_Nw.use rfl (C.nwM d1)⟩, hts _ c5, hts _ d2⟩ hpre rfl hn e5.1 hst (lv_room hw) hd hfit
  · have hdecl : va_Decl s ⟨owner, x.name, x.desc⟩ := by
      rcases d6 with d6 | ⟨b0, m0, r0, d6, d7⟩ | d6
      · rw [← d6]
        exact va_Decl.of (hts _ c5) (hts _ hcd)
      · exact va_Decl.of (hts _ d7) (hts _ d6)
      · exact va_Decl.abs (va_Nw.warmD C.2.2.2.2.2.2.1 (C.nw d6 rfl))
    exact vq_runU (x := x) (owner := owner) hfix hM ⟨⟨rfl, rfl, hfr, hlo, hbk, hcb⟩, hts _ hcd, hts _ c2, d4, hlen d5, hts _ d1, hts _ d2, hdecl, hts _ d3, hts _ c5⟩ hpre rfl hn e5.1 hst (lv_room hw) hd hfit
  · obtain ⟨A0, hA0⟩ := C.2.2.2.2.2.1.2.1
    exact vq_runV hfix hM ⟨⟨rfl, rfl, hfr, hlo, hbk, hcb, hts _ hcd, hts _ c2, c3, hlen c4, hts _ d1⟩, hts _ c5, sel_priv d3 (hts _ d4) (Cond.privateMethod_warm C.2.2.2.2.2.2.1 (hA0 _ d2)) (hts _ c5) c3⟩ hpre rfl hn e5.1 hst (lv_room hw) hd hfit
theorem keep_S {H0 H T1 : Heap} {locs L1 : List Loc} (e4 : va_S (AG G) H0 H locs) (hz : H.size ≤ T1.size) (hk : ∀ q : Nat, q < H.size → ¬ AG G q → T1[q]? = H[q]?) (hL : ∀ q ∈ L1, AG G q.base) : va_S (AG G) H0 T1 (locs ++ L1) := ⟨Nat.le_trans e4.1 hz, fun q q1 q2 => by rw [hk q (Nat.lt_of_lt_of_le q1 e4.1) q2]; exact e4.2.1 q q1 q2, fun q hq => by
      rcases List.mem_append.mp hq with z | z
      · exact e4.2.2 q z
      · exact hL q z⟩
theorem v_calVXn {idx a n maxL frc loc : Nat} {cs : List Nat} {y : MethodName} {bytes : ByteArray} {rt : Option FieldType} {av stk : List Value} {o : Option Value} (hd : decode cc pc = .ok (.invokevirtual idx, 3)) (vl : ∀ ci ∈ cs, VL own idx ci y n) (hcd : Cond.code y bytes maxL rt ∈ lw_all) (rc : RC h a cs) (ct : CtX l G y (ws_ y bytes maxL rt) frc loc (.ref a :: av) h (.inr o) h1) (hst : stk = av.reverse ++ .ref a :: st) (hn : av.length = n) (hfr : frc + 1 ≤ fr) (hlo : 8 + (maxL + 11) + loc ≤ lo) (hw : (st.map fun v => v.category).sum ≤ 8)
    (K : V l G cc own nm nL ret fr lo h0 hE Qf (pc + 3) L (o.toList ++ st) h1) : V l G cc own nm nL ret fr lo h0 hE Qf pc L stk h := by
  obtain ⟨⟨m1, m2⟩, hM⟩ := ct
  have k1 := K.1.1
  have k2 := K.1.2
  refine ⟨⟨by omega, by omega⟩, fun p e s m args below meth c C H locs cells slots ls e1 e2 e3 e4 e5 => ?_⟩
  intro T hT X
  rcases v_calX_run (h1 := h1) (res := .inr o) hd vl hcd rc hM hst hn hfr hlo hw C e1 e2 e3 e5 m1 m2 k1 k2 T hT X with ⟨v, st₀, t, T', L1, z0, X', hL, g1, g2, ⟨hv, hHS, hz, hk⟩, stp⟩ | ⟨q, st₀, t, T', L1, E, ce, z0, X', hL, g1, g2, hx, -⟩
  · have hv : v = o := Outcome.returned.inj hv
    subst hv
    rw [z0] at hz hk
    have K2 := K.2 p e s m args below meth c C T'.heap (locs ++ L1) (cells + (h1.1 - h.1)) (slots + (h1.2.1 - h.2.1)) ls (by omega) (by omega) (by rw [g1]; exact hHS) (keep_S e4 (by rw [g1]; exact hz) (by rw [g1]; exact hk) hL) e5
    obtain ⟨t2, a1, b1⟩ := K2 T' rfl X'
    exact ⟨t2, stp t2 a1, b1⟩
  · exact hx.elim
theorem v_calVXn1 {idx a n maxL frc loc : Nat} {cs : List Nat} {y : MethodName} {bytes : ByteArray} {rt : Option FieldType} {av stk : List Value} {x : Value} (hd : decode cc pc = .ok (.invokevirtual idx, 3)) (vl : ∀ ci ∈ cs, VL own idx ci y n) (hcd : Cond.code y bytes maxL rt ∈ lw_all) (rc : RC h a cs) (ct : CtX l G y (ws_ y bytes maxL rt) frc loc (.ref a :: av) h (.inr (some x)) h1) (hst : stk = av.reverse ++ .ref a :: st) (hn : av.length = n) (hfr : frc + 1 ≤ fr) (hlo : 8 + (maxL + 11) + loc ≤ lo) (hw : (st.map fun v => v.category).sum ≤ 8)
    (K : V l G cc own nm nL ret fr lo h0 hE Qf (pc + 3) L (x :: st) h1) : V l G cc own nm nL ret fr lo h0 hE Qf pc L stk h := v_calVXn hd vl hcd rc ct hst hn hfr hlo hw K
theorem v_calVXn0 {idx a n maxL frc loc : Nat} {cs : List Nat} {y : MethodName} {bytes : ByteArray} {rt : Option FieldType} {av stk : List Value} (hd : decode cc pc = .ok (.invokevirtual idx, 3)) (vl : ∀ ci ∈ cs, VL own idx ci y n) (hcd : Cond.code y bytes maxL rt ∈ lw_all) (rc : RC h a cs) (ct : CtX l G y (ws_ y bytes maxL rt) frc loc (.ref a :: av) h (.inr none) h1) (hst : stk = av.reverse ++ .ref a :: st) (hn : av.length = n) (hfr : frc + 1 ≤ fr) (hlo : 8 + (maxL + 11) + loc ≤ lo) (hw : (st.map fun v => v.category).sum ≤ 8)
    (K : V l G cc own nm nL ret fr lo h0 hE Qf (pc + 3) L st h1) : V l G cc own nm nL ret fr lo h0 hE Qf pc L stk h := v_calVXn hd vl hcd rc ct hst hn hfr hlo hw K
theorem v_calVXt {idx a n maxL frc loc : Nat} {cs : List Nat} {y : MethodName} {bytes : ByteArray} {rt : Option FieldType} {av stk : List Value} {q : Nat} (hd : decode cc pc = .ok (.invokevirtual idx, 3)) (vl : ∀ ci ∈ cs, VL own idx ci y n) (hcd : Cond.code y bytes maxL rt ∈ lw_all) (rc : RC h a cs) (ct : CtX l G y (ws_ y bytes maxL rt) frc loc (.ref a :: av) h (.inl q) h1) (hst : stk = av.reverse ++ .ref a :: st) (hn : av.length = n) (hfr : frc + 1 ≤ fr) (hlo : 8 + (maxL + 11) + loc ≤ lo) (hw : (st.map fun v => v.category).sum ≤ 8)
    (K : VX l G cc own nm nL ret fr lo h0 hE Qf pc L q h1) : V l G cc own nm nL ret fr lo h0 hE Qf pc L stk h := by
  obtain ⟨⟨m1, m2⟩, hM⟩ := ct
  have k1 := K.1.1
  have k2 := K.1.2
  refine ⟨⟨by omega, by omega⟩, fun p e s m args below meth c C H locs cells slots ls e1 e2 e3 e4 e5 => ?_⟩
  intro T hT X
  rcases v_calX_run (h1 := h1) (res := .inl q) hd vl hcd rc hM hst hn hfr hlo hw C e1 e2 e3 e5 m1 m2 k1 k2 T hT X with ⟨v, st₀, t, T', L1, z0, X', hL, g1, g2, hx, stp⟩ | ⟨q', st₀, t, T', L1, E, ce, z0, X', hL, g1, g2, ⟨hq, -, hHS, hz, hk⟩, hce, hcv, hcl, stp⟩
  · exact hx.elim
  · subst hq
    rw [z0] at hz hk
    have K2 := K.2 p e s m args below meth c C T'.heap (locs ++ L1) (cells + (h1.1 - h.1)) (slots + (h1.2.1 - h.2.1)) ls st (by omega) (by omega) (by rw [g1]; exact hHS) (keep_S e4 (by rw [g1]; exact hz) (by rw [g1]; exact hk) hL) e5
    obtain ⟨t2, a1, b1⟩ := K2 T' rfl X'
    exact ⟨t2, stp.trans a1, b1⟩
end V28
theorem ctX_of {l : Launch} {G : GT} {y : MethodName} {cc : ByteArray} {nL : Nat} {ret : Option FieldType} {fr lo : Nat} {av : List Value} {h hE : Hp} {res : Rs} (hy : plainName y.cls = true) (hl : (lg_sl av).length ≤ nL)
    (hv : V l G cc y.cls y.name nL ret fr lo h hE (QX G [] res h hE) 0 (lv_args 0 av) [] h) : CtX l G y (ws_ y cc nL ret) fr lo av h res hE := by
  refine ⟨hv.1, vq_ofW (cc := cc) (maxL := nL) (ret := ret) hy rfl ?_⟩
  intro p e s m args below meth c s₁ B hml htab hpc
  obtain ⟨rfl, hok, hw, hH⟩ := hpc
  have hts := atoms_spec (ws := ws_ y cc nL ret) B.pre
  have hts : ∀ w ∈ lw_all, w.before _ s = true := fun w h => hts w (List.mem_cons_of_mem _ h)
  have C : CX G cc y.cls y.name nL ret h p l s m av.toArray meth c := ⟨B.exec, B.bytes, hml, findClass_of_methodNamed B.named, hts, hok, hw, B.returns, B.notSynchronized, (name_of_methodNamed B.named B.method).1, hH.1, hH.2.1, hH.2.2.1⟩
  rw [lg_entry_eq]
  intro T hT X
  obtain ⟨t, a, b⟩ := hv.2 p e s m av.toArray below meth c C s.heap [] 0 0 _ (by omega) (by omega) hH va_S.rf (lv_entry av hl) T hT X
  refine ⟨t, a, b fun m' a' below' meth' c' f1 f2 f3 => ?_⟩
  have f4 := X.frames.symm.trans f1
  have f5 : m = m' := by injection f4 with f5 f6; injection f5
  subst f5
  have f6 : meth' = meth := Option.some.inj (f2.symm.trans X.method)
  subst f6
  have f7 : c' = c := Option.some.inj (f3.symm.trans X.code)
  subst f7
  cases hq : c'.exceptionTable.toList with
  | nil => rfl
  | cons x xs => exact (htab x (by rw [hq]; exact List.mem_cons_self)).elim
/-- a method with a table of its own, that returns -/
abbrev wsH_ (y : MethodName) (cc : ByteArray) (nL : Nat) (ret : Option FieldType) (hh : List (Nat × Nat × Nat × Nat)) : List Cond := Cond.codeWith y cc nL ret hh :: lw_all
theorem ct_ofH {l : Launch} {G : GT} {y : MethodName} {cc : ByteArray} {nL : Nat} {ret : Option FieldType} {hh : List (Nat × Nat × Nat × Nat)} {fr lo : Nat} {av : List Value} {h hE : Hp} {o : Option Value} (hy : plainName y.cls = true) (hl : (lg_sl av).length ≤ nL)
    (hv : V l G cc y.cls y.name nL ret fr lo h hE (QX G hh (.inr o) h hE) 0 (lv_args 0 av) [] h) : Ct l G y (wsH_ y cc nL ret hh) fr lo av h o hE := by
  refine ⟨hv.1, ?_⟩
  show MetFree l y (headSpec _ _) _ _ _
  refine MetFree.of_bodyS (code := cc) (maxLocals := nL) (ret := ret) hy ?_ ?_
  · intro args s m h hn
    obtain ⟨m9, meth, c, hn9, h1, h2, h3, h4, -, h5, h6, -⟩ := Cond.codeWith_spec (atoms_spec (ws := wsH_ y cc nL ret hh) h _ List.mem_cons_self)
    cases hn.symm.trans hn9
    exact ⟨meth, c, h1, h2, h3, h4, h5, h6⟩
  · intro p e s m args below meth c s₁ B hml hpc _
    have hh0 : s₁.heap = s.heap := by rw [B.state]; rfl
    obtain ⟨rfl, hok, hw, hH⟩ := hpc
    have hts0 := atoms_spec (ws := wsH_ y cc nL ret hh) B.pre
    have hts : ∀ w ∈ lw_all, w.before _ s = true := fun w h => hts0 w (List.mem_cons_of_mem _ h)
    have htab : c.exceptionTable.toList = tableOf hh := vq_table (x := y) B (hts0 _ List.mem_cons_self)
    have X := Stand.of_body B
    have C : CX G cc y.cls y.name nL ret h p l s m av.toArray meth c := ⟨B.exec, B.bytes, hml, findClass_of_methodNamed B.named, hts, hok, hw, B.returns, B.notSynchronized, (name_of_methodNamed B.named B.method).1, hH.1, hH.2.1, hH.2.2.1⟩
    obtain ⟨t, a, b⟩ := hv.2 p e s m av.toArray below meth c C s.heap [] 0 0 _ (by omega) (by omega) hH va_S.rf (lv_entry av hl) s₁ hh0 X
    obtain ⟨o', b1, b2, b3⟩ := b fun m' a' below' meth' c' f1 f2 f3 => by
      have f4 := X.frames.symm.trans f1
      have f5 : m = m' := by injection f4 with f5 f6; injection f5
      subst f5
      have f6 : meth' = meth := Option.some.inj (f2.symm.trans X.method)
      subst f6
      have f7 : c' = c := Option.some.inj (f3.symm.trans X.code)
      subst f7
      exact htab
    rcases b3 with b3 | ⟨q, rfl, E, ce, L1, b3, -⟩
    · exact ⟨t, o', by rw [lg_entry_eq] at *; exact a, b1, b2, b3⟩
    · exact b3.elim
