/-! V: calls, ends, and how a walk gives a contract -/
set_option maxRecDepth 100000
/-- the receiver is an object of one of these classes -/
def RC (h : Hp) (a : Nat) (cs : List Nat) : Prop := ∃ o : Nat × List Value, ob h a cs = some o
theorem preH_blind {l : Launch} {G : GT} {h : Hp} {av : List Value} : FrameBlind (va_Pc av (PreH l G h)) := fun a U g mk q => ⟨q.1, q.2⟩
abbrev nmh (c : String) : Prop := c ≠ "java/lang/invoke/MethodHandle" ∧ c ≠ "java/lang/invoke/VarHandle"
/-- links of a call by an object: of the class itself, of a nest mate, of a superclass's method (inherited, overridden or abstract) -/
def VL (own : String) (idx : Nat) (ci : Nat) (y : MethodName) (n : Nat) : Prop := ∃ (C0 : String) (T : u_T) (N : Nat), clx[ci]? = some (C0, T, N) ∧ Cond.initialized y.cls ∈ lw_all ∧ nmh y.cls ∧ (parseMethodDescriptor y.desc).map (fun d => d.parameters.length) = some n ∧ Cond.instanceMethod y ∈ lw_all ∧
  ((Cond.methodLink own idx y ∈ lw_all ∧ Cond.selects C0 y y ∈ lw_all) ∨ (∃ host, Cond.methodLinkNest own idx y host ∈ lw_tbl ∧ Cond.selects C0 y y ∈ lw_all) ∨
   (∃ (x : MethodName) (owner : String), Cond.methodLink own idx x ∈ lw_all ∧ Cond.sameMethod x.cls owner x.name x.desc ∈ lw_all ∧ Cond.selects C0 x y ∈ lw_all ∧ nmh owner ∧ (parseMethodDescriptor x.desc).map (fun d => d.parameters.length) = some n ∧
      ((y = ⟨owner, x.name, x.desc⟩) ∨ (∃ (b0 : ByteArray) (m0 : Nat) (r0 : Option FieldType), Cond.code ⟨owner, x.name, x.desc⟩ b0 m0 r0 ∈ lw_all ∧ Cond.instanceMethod ⟨owner, x.name, x.desc⟩ ∈ lw_all) ∨ Cond.declares ⟨owner, x.name, x.desc⟩ ∈ lw_tbl)) ∨
   (Cond.methodLink own idx y ∈ lw_all ∧ Cond.privateMethod y ∈ lw_tbl ∧ ∃ z : MethodName, z.cls = y.cls ∧ Cond.selects C0 z z ∈ lw_all))
def SL (own : String) (idx : Nat) (y : MethodName) (n : Nat) : Prop := Cond.initialized y.cls ∈ lw_all ∧ nmh y.cls ∧ (parseMethodDescriptor y.desc).map (fun d => d.parameters.length) = some n ∧ Cond.static y ∈ lw_all ∧ (Cond.methodLink own idx y ∈ lw_all ∨ ∃ host, Cond.methodLinkNest own idx y host ∈ lw_tbl)
def IL (own : String) (idx : Nat) (y : MethodName) (n : Nat) : Prop := Cond.initialized y.cls ∈ lw_all ∧ nmh y.cls ∧ (parseMethodDescriptor y.desc).map (fun d => d.parameters.length) = some n ∧ Cond.instanceMethod y ∈ lw_all ∧ y.name = "<init>" ∧ (Cond.methodLink own idx y ∈ lw_all ∨ ∃ host, Cond.methodLinkNest own idx y host ∈ lw_tbl)
/-- a private method of a class above is found as it is -/
theorem sel_priv {s : State} {args : Array Value} {C0 : String} {y z : MethodName} (hz : z.cls = y.cls) (h0 : (Cond.selects C0 z z).before args s = true) (hp : (Cond.privateMethod y).before args s = true) (hinst : (Cond.instanceMethod y).before args s = true) (hy : nmh y.cls) : (Cond.selects C0 y y).before args s = true := by
  obtain ⟨mk, methM, hnamed, hmethM, -, -⟩ := Cond.instanceMethod_spec hinst
  obtain ⟨c2, r2, m2, q1, q2, q3, q4, kP, hkP, hkPi⟩ := Cond.selects_spec h0
  have hfound : s.methodFound? y.cls y.name y.desc = some mk := State.methodFound?_of_named hnamed hy
  have e2 := findClass_of_methodNamed q3
  have hcls : mk.cls = m2.cls := Option.some.inj ((findClass_of_methodNamed hnamed).symm.trans (by rw [← hz]; exact e2))
  have hsel : selectMethod {} s.vm c2 mk = .method mk := selectMethod_private hmethM (Cond.privateMethod_at hp mk methM hnamed hmethM)
  have hk : s.vm.classes[mk.cls]? = some kP := by rw [hcls]; exact hkP
  simp only [Cond.before, Cond.holds, Cond.value, q1, hfound, hnamed, hsel, hk]
  simp; exact hkPi
section V6
variable {l : Launch} {G : GT} {cc : ByteArray} {own nm : String} {nL : Nat} {ret : Option FieldType} {fr lo : Nat} {h0 hE h h1 : Hp} {Qf : List Frame → Array Value → State → State → Prop} {pc : Nat} {L L' : List (Nat × Value)} {st : List Value} {α : Type} {r : α}
/-- behind a call: from the callee's run to the caller's next instruction -/
theorem v_back {p : Program} {e : Env} {s : State} {m : MethodId} {args : Array Value} {below : List Frame} {meth : Method} {c : Code} {H : Heap} {locs : List Loc} {cells slots : Nat} {ls : Array Slot} {stk : List Value} {o : Option Value} {av : Array Value}
    (C : CX G cc own nm nL ret h0 p l s m args meth c) (m1 : h.1 ≤ h1.1) (m2 : h.2.1 ≤ h1.2.1) (e1 : cells + h0.1 = h.1) (e2 : slots + h0.2.1 = h.2.1) (e3 : HSl G h H) (e4 : va_S (AG G) s.heap H locs) (e5 : lv_has ls nL L)
    (hr : va_Run p l e { frames := fr, cells := hE.1 - h0.1, slots := hE.2.1 - h0.2.1, locals := lo } s m args below meth c H locs cells slots (h1.1 - h.1) (h1.2.1 - h.2.1) (F0 m pc ls stk) st (QcH G o h1 av) (AG G))
    (K : V l G cc own nm nL ret fr lo h0 hE Qf (pc + 3) L (o.toList ++ st) h1) :
    W p l e { frames := fr, cells := hE.1 - h0.1, slots := hE.2.1 - h0.2.1, locals := lo } s m args below meth c H locs cells slots (Qf below args s) (F0 m pc ls stk) := by
  intro T hT X
  obtain ⟨v, st₀, t, T', L1, z0, X', hL, g1, g2, ⟨hv, hHS, hz, hk⟩, stp⟩ := hr T hT X
  have hv : v = o := Outcome.returned.inj hv
  subst hv
  rw [z0] at hz hk
  have K2 := K.2 p e s m args below meth c C T'.heap (locs ++ L1) (cells + (h1.1 - h.1)) (slots + (h1.2.1 - h.2.1)) ls (by omega) (by omega) (by rw [g1]; exact hHS) ⟨Nat.le_trans e4.1 (by rw [g1]; exact hz), fun q q1 q2 => by rw [g1, hk q (Nat.lt_of_lt_of_le q1 e4.1) q2]; exact e4.2.1 q q1 q2, fun q hq => by
      rcases List.mem_append.mp hq with z | z
      · exact e4.2.2 q z
      · exact hL q z⟩ e5
  obtain ⟨t2, a1, b1⟩ := K2 T' rfl X'
  exact ⟨t2, stp t2 a1, b1⟩
theorem v_calV {idx a n maxL frc loc : Nat} {cs : List Nat} {y : MethodName} {bytes : ByteArray} {rt : Option FieldType} {av stk : List Value} {o : Option Value} (hd : decode cc pc = .ok (.invokevirtual idx, 3)) (vl : ∀ ci ∈ cs, VL own idx ci y n) (hcd : Cond.code y bytes maxL rt ∈ lw_all) (rc : RC h a cs) (ct : Ct l G y (ws_ y bytes maxL rt) frc loc (.ref a :: av) h o h1) (hst : stk = av.reverse ++ .ref a :: st) (hn : av.length = n) (hfr : frc + 1 ≤ fr) (hlo : 8 + (maxL + 11) + loc ≤ lo) (hw : (st.map fun v => v.category).sum ≤ 8)
    (K : V l G cc own nm nL ret fr lo h0 hE Qf (pc + 3) L (o.toList ++ st) h1) : V l G cc own nm nL ret fr lo h0 hE Qf pc L stk h := by
  obtain ⟨⟨m1, m2⟩, hM⟩ := ct
  have k1 := K.1.1
  have k2 := K.1.2
  refine ⟨⟨by omega, by omega⟩, fun p e s m args below meth c C H locs cells slots ls e1 e2 e3 e4 e5 => ?_⟩
  refine v_back (av := (Value.ref a :: av).toArray) C m1 m2 e1 e2 e3 e4 e5 ?_ K
  obtain ⟨ob0, hob⟩ := rc
  obtain ⟨g1, g2⟩ := ob_spec hob
  obtain ⟨ci, fs⟩ := ob0
  obtain ⟨C0, T, N, c1, c2, c3, c4, c5, c6⟩ := vl ci g2
  have hts := C.2.2.2.2.1
  have hGI : GoodIn lw_all (ws_ y bytes maxL rt) := lw_meth hcd
  have hcb : Cond.code y bytes maxL rt ∈ ws_ y bytes maxL rt := List.mem_cons_self
  have hlen : ∀ {z : MethodName}, (parseMethodDescriptor z.desc).map (fun d => d.parameters.length) = some n → ∀ sig, parseMethodDescriptor z.desc = some sig → n = sig.parameters.length := by
    intro z hz sig h
    rw [h] at hz
    exact (Option.some.inj hz).symm
  have hfix : CallFix p m c cc nL s args lw_all own := ⟨C.1, C.2.1, C.2.2.1, C.2.2.2.1, hts⟩
  obtain ⟨z1, z2, z3, z4, ws, hP, hD, hc⟩ := e3
  obtain ⟨i0, hi⟩ := hc a _ g1
  have hrecv : ∃ cell : Cell, H[a]? = some cell ∧ cell.vm.isStatics = false ∧ s.vm.findClass C0 = some cell.cls := va_recv C.K hP c1 hi
  have hpre : PreV s H C0 a (va_Pc (.ref a :: av) (PreH l G h)) av := ⟨preH_blind, hrecv, fun U hU hW => ⟨rfl, C.2.2.2.2.2.1, State.WarmedH.trans C.2.2.2.2.2.2.1 hW, by rw [hU]; exact ⟨z1, z2, z3, z4, ws, hP, hD, hc⟩⟩⟩
  have hfit : cells + (h1.1 - h.1) ≤ hE.1 - h0.1 ∧ slots + (h1.2.1 - h.2.1) ≤ hE.2.1 - h0.2.1 := ⟨by omega, by omega⟩
  have hbk : ∀ w ∈ ws_ y bytes maxL rt, ∀ (a' : Array Value) (U : State), s.WarmedH U.vm → w.before a' U = true := pay_in hts hGI
  rcases c6 with ⟨d1, d2⟩ | ⟨host, d1, d2⟩ | ⟨x, owner, d1, d2, d3, d4, d5, d6⟩ | ⟨d1, d2, z, d3, d4⟩
  · exact va_runV hfix hM ⟨⟨rfl, rfl, hfr, hlo, hbk, hcb, hts _ hcd, hts _ c2, c3, hlen c4, hts _ d1⟩, hts _ c5, hts _ d2⟩ hpre rfl hn e5.1 hst (lv_room hw) hd hfit
  · exact va_runVN hfix hM ⟨⟨⟨rfl, rfl, hfr, hlo, hbk, hcb⟩, hts _ hcd, hts _ c2, c3, hlen c4, va_Nw.use rfl (C.nwM d1)⟩, hts _ c5, hts _ d2⟩ hpre rfl hn e5.1 hst (lv_room hw) hd hfit
  · have hdecl : va_Decl s ⟨owner, x.name, x.desc⟩ := by
      rcases d6 with d6 | ⟨b0, m0, r0, d6, d7⟩ | d6
      · rw [← d6]
        exact va_Decl.of (hts _ c5) (hts _ hcd)
      · exact va_Decl.of (hts _ d7) (hts _ d6)
      · exact va_Decl.abs (va_Nw.warmD C.2.2.2.2.2.2.1 (C.nw d6 rfl))
    exact va_runU (x := x) (owner := owner) hfix hM ⟨⟨rfl, rfl, hfr, hlo, hbk, hcb⟩, hts _ hcd, hts _ c2, d4, hlen d5, hts _ d1, hts _ d2, hdecl, hts _ d3, hts _ c5⟩ hpre rfl hn e5.1 hst (lv_room hw) hd hfit
  · obtain ⟨A0, hA0⟩ := C.2.2.2.2.2.1.2.1
    exact va_runV hfix hM ⟨⟨rfl, rfl, hfr, hlo, hbk, hcb, hts _ hcd, hts _ c2, c3, hlen c4, hts _ d1⟩, hts _ c5, sel_priv d3 (hts _ d4) (Cond.privateMethod_warm C.2.2.2.2.2.2.1 (hA0 _ d2)) (hts _ c5) c3⟩ hpre rfl hn e5.1 hst (lv_room hw) hd hfit
theorem v_calS {idx n maxL frc loc : Nat} {y : MethodName} {bytes : ByteArray} {rt : Option FieldType} {av stk : List Value} {o : Option Value} (hd : decode cc pc = .ok (.invokestatic idx, 3)) (sl : SL own idx y n) (hcd : Cond.code y bytes maxL rt ∈ lw_all) (ct : Ct l G y (ws_ y bytes maxL rt) frc loc av h o h1) (hst : stk = av.reverse ++ st) (hn : av.length = n) (hfr : frc + 1 ≤ fr) (hlo : 8 + (maxL + 11) + loc ≤ lo) (hw : (st.map fun v => v.category).sum ≤ 8)
    (K : V l G cc own nm nL ret fr lo h0 hE Qf (pc + 3) L (o.toList ++ st) h1) : V l G cc own nm nL ret fr lo h0 hE Qf pc L stk h := by
  obtain ⟨⟨m1, m2⟩, hM⟩ := ct
  have k1 := K.1.1
  have k2 := K.1.2
  refine ⟨⟨by omega, by omega⟩, fun p e s m args below meth c C H locs cells slots ls e1 e2 e3 e4 e5 => ?_⟩
  refine v_back (av := av.toArray) C m1 m2 e1 e2 e3 e4 e5 ?_ K
  obtain ⟨c2, c3, c4, c5, c6⟩ := sl
  have hts := C.2.2.2.2.1
  have hGI : GoodIn lw_all (ws_ y bytes maxL rt) := lw_meth hcd
  have hcb : Cond.code y bytes maxL rt ∈ ws_ y bytes maxL rt := List.mem_cons_self
  have hlen : ∀ sig, parseMethodDescriptor y.desc = some sig → n = sig.parameters.length := by
    intro sig h
    rw [h] at c4
    exact (Option.some.inj c4).symm
  have hfix : CallFix p m c cc nL s args lw_all own := ⟨C.1, C.2.1, C.2.2.1, C.2.2.2.1, hts⟩
  have hpre : PreS s H (va_Pc av (PreH l G h)) av := ⟨preH_blind, fun U hU hW => ⟨rfl, C.2.2.2.2.2.1, State.WarmedH.trans C.2.2.2.2.2.2.1 hW, by rw [hU]; exact e3⟩⟩
  have hfit : cells + (h1.1 - h.1) ≤ hE.1 - h0.1 ∧ slots + (h1.2.1 - h.2.1) ≤ hE.2.1 - h0.2.1 := ⟨by omega, by omega⟩
  have hbk : ∀ w ∈ ws_ y bytes maxL rt, ∀ (a' : Array Value) (U : State), s.WarmedH U.vm → w.before a' U = true := pay_in hts hGI
  rcases c6 with d1 | ⟨host, d1⟩
  · exact va_runS hfix hM ⟨⟨rfl, rfl, hfr, hlo, hbk, hcb, hts _ hcd, hts _ c2, c3, hlen, hts _ d1⟩, hts _ c5⟩ hpre rfl hn e5.1 hst (lv_room hw) hd hfit
  · exact va_runSN hfix hM ⟨⟨⟨rfl, rfl, hfr, hlo, hbk, hcb⟩, hts _ hcd, hts _ c2, c3, hlen, va_Nw.use rfl (C.nwM d1)⟩, hts _ c5, trivial⟩ hpre rfl hn e5.1 hst (lv_room hw) hd hfit
theorem v_calI {idx a n maxL frc loc : Nat} {y : MethodName} {bytes : ByteArray} {av stk : List Value} (hd : decode cc pc = .ok (.invokespecial idx, 3)) (il : IL own idx y n) (hcd : Cond.code y bytes maxL none ∈ lw_all) (ct : Ct l G y (ws_ y bytes maxL none) frc loc (.ref a :: av) h none h1) (hst : stk = av.reverse ++ .ref a :: st) (hn : av.length = n) (hfr : frc + 1 ≤ fr) (hlo : 8 + (maxL + 11) + loc ≤ lo) (hw : (st.map fun v => v.category).sum ≤ 8)
    (K : V l G cc own nm nL ret fr lo h0 hE Qf (pc + 3) L st h1) : V l G cc own nm nL ret fr lo h0 hE Qf pc L stk h := by
  obtain ⟨⟨m1, m2⟩, hM⟩ := ct
  have k1 := K.1.1
  have k2 := K.1.2
  refine ⟨⟨by omega, by omega⟩, fun p e s m args below meth c C H locs cells slots ls e1 e2 e3 e4 e5 => ?_⟩
  refine v_back (o := none) (av := (Value.ref a :: av).toArray) C m1 m2 e1 e2 e3 e4 e5 ?_ K
  obtain ⟨c2, c3, c4, c5, c6, c7⟩ := il
  have hts := C.2.2.2.2.1
  have hGI : GoodIn lw_all (ws_ y bytes maxL none) := lw_meth hcd
  have hcb : Cond.code y bytes maxL none ∈ ws_ y bytes maxL none := List.mem_cons_self
  have hlen : ∀ sig, parseMethodDescriptor y.desc = some sig → n = sig.parameters.length := by
    intro sig h
    rw [h] at c4
    exact (Option.some.inj c4).symm
  have hfix : CallFix p m c cc nL s args lw_all own := ⟨C.1, C.2.1, C.2.2.1, C.2.2.2.1, hts⟩
  have hpre : PreS s H (va_Pc (.ref a :: av) (PreH l G h)) (.ref a :: av) := ⟨preH_blind, fun U hU hW => ⟨rfl, C.2.2.2.2.2.1, State.WarmedH.trans C.2.2.2.2.2.2.1 hW, by rw [hU]; exact e3⟩⟩
  have hfit : cells + (h1.1 - h.1) ≤ hE.1 - h0.1 ∧ slots + (h1.2.1 - h.2.1) ≤ hE.2.1 - h0.2.1 := ⟨by omega, by omega⟩
  have hbk : ∀ w ∈ ws_ y bytes maxL none, ∀ (a' : Array Value) (U : State), s.WarmedH U.vm → w.before a' U = true := pay_in hts hGI
  rcases c7 with d1 | ⟨host, d1⟩
  · exact va_runI hfix hM ⟨⟨rfl, rfl, hfr, hlo, hbk, hcb, hts _ hcd, hts _ c2, c3, hlen, hts _ d1⟩, c6, hts _ c5⟩ hpre rfl hn e5.1 hst (lv_room hw) hd hfit
  · exact va_runIN hfix hM ⟨⟨⟨rfl, rfl, hfr, hlo, hbk, hcb⟩, hts _ hcd, hts _ c2, c3, hlen, va_Nw.use rfl (C.nwM d1)⟩, c6, hts _ c5⟩ hpre rfl hn e5.1 hst (lv_room hw) hd hfit
/-- Object.<init> -/
theorem v_objInit {idx a : Nat} (hd : decode cc pc = .ok (.invokespecial idx, 3)) (w1 : Cond.methodLink own idx Lib.objectInit ∈ lw_all) (w2 : Cond.instanceMethod Lib.objectInit ∈ lw_all) (w3 : Cond.code Lib.objectInit ⟨#[0xb1]⟩ 1 none ∈ lw_all) (hfr : 1 ≤ fr) (hlo : 20 ≤ lo) (hw : (st.map fun v => v.category).sum ≤ 8) (K : V l G cc own nm nL ret fr lo h0 hE Qf (pc + 3) L st h) : V l G cc own nm nL ret fr lo h0 hE Qf pc L (.ref a :: st) h := by
  refine ⟨K.1, fun p e s m args below meth c C H locs cells slots ls e1 e2 e3 e4 e5 => ?_⟩
  have hts := C.2.2.2.2.1
  refine W.objInit C.1 C.2.1 C.2.2.2.1 (hts _ w1) (hts _ w2) (hts _ w3) rfl (by rw [C.2.2.1]; exact e5.1) rfl hd hfr ?_ (K.2 p e s m args below meth c C H locs cells slots ls e1 e2 e3 e4 e5)
  have hw' : (st.map fun v => v.category).sum ≤ 8 := hw
  have := lv_room (m := m) (pc := pc) (ls := ls) (rest := .ref a :: st) hw
  show _ ≤ lo
  omega
theorem v_iret {x : Int32} {o : Option Value} {ty : FieldType} (hd : decode cc pc = .ok (.ireturn, 1)) (hr : ret = some ty) (hn : narrow ty (.int x) = .int x) (ho : o = some (.int x)) (hh : h = hE) : V l G cc own nm nL ret fr lo h0 hE (QM G o h0 hE) pc L [.int x] h := by
  subst hh; subst ho
  refine ⟨⟨Nat.le_refl _, Nat.le_refl _⟩, fun p e s m args below meth c C H locs cells slots ls e1 e2 e3 e4 e5 => ?_⟩
  obtain rfl : cells = h.1 - h0.1 := by omega
  obtain rfl : slots = h.2.1 - h0.2.1 := by omega
  exact W.zret C.1 C.2.1 (C.2.2.2.2.2.2.2.1.trans hr) hn (fun t ht hW => ⟨rfl, by rw [ht]; exact e3, va_S.F e4 ht⟩) e4.2.2 hd C.2.2.2.2.2.2.2.2.1
theorem v_lret {x : Int64} {o : Option Value} (hd : decode cc pc = .ok (.lreturn, 1)) (hr : ret = some .long) (ho : o = some (.long x)) (hh : h = hE) : V l G cc own nm nL ret fr lo h0 hE (QM G o h0 hE) pc L [.long x] h := by
  subst hh; subst ho
  refine ⟨⟨Nat.le_refl _, Nat.le_refl _⟩, fun p e s m args below meth c C H locs cells slots ls e1 e2 e3 e4 e5 => ?_⟩
  obtain rfl : cells = h.1 - h0.1 := by omega
  obtain rfl : slots = h.2.1 - h0.2.1 := by omega
  exact W.lret C.1 C.2.1 (C.2.2.2.2.2.2.2.1.trans hr) (fun t ht hW => ⟨rfl, by rw [ht]; exact e3, va_S.F e4 ht⟩) e4.2.2 hd C.2.2.2.2.2.2.2.2.1
theorem v_vret {o : Option Value} (hd : decode cc pc = .ok (.return_, 1)) (hr : ret = none) (ho : o = none) (hh : h = hE) : V l G cc own nm nL ret fr lo h0 hE (QM G o h0 hE) pc L [] h := by
  subst hh; subst ho
  refine ⟨⟨Nat.le_refl _, Nat.le_refl _⟩, fun p e s m args below meth c C H locs cells slots ls e1 e2 e3 e4 e5 => ?_⟩
  obtain rfl : cells = h.1 - h0.1 := by omega
  obtain rfl : slots = h.2.1 - h0.2.1 := by omega
  exact W.vret C.1 C.2.1 (C.2.2.2.2.2.2.2.1.trans hr) (fun t ht hW => ⟨rfl, by rw [ht]; exact e3, va_S.F e4 ht⟩) e4.2.2 hd C.2.2.2.2.2.2.2.2.1
theorem v_aret {x : Option Nat} {o : Option Value} {rt : FieldType} (hd : decode cc pc = .ok (.areturn, 1)) (hr : ret = some rt) (hrt : (∃ n, rt = .object n) ∨ ∃ t, rt = .array t) (ho : o = some (va_rf x)) (hh : h = hE) : V l G cc own nm nL ret fr lo h0 hE (QM G o h0 hE) pc L [va_rf x] h := by
  subst hh; subst ho
  refine ⟨⟨Nat.le_refl _, Nat.le_refl _⟩, fun p e s m args below meth c C H locs cells slots ls e1 e2 e3 e4 e5 => ?_⟩
  obtain rfl : cells = h.1 - h0.1 := by omega
  obtain rfl : slots = h.2.1 - h0.2.1 := by omega
  exact W.aret C.1 C.2.1 (C.2.2.2.2.2.2.2.1.trans hr) hrt (va_rf_or x) (fun t ht hW => ⟨rfl, by rw [ht]; exact e3, va_S.F e4 ht⟩) e4.2.2 hd C.2.2.2.2.2.2.2.2.1
end V6
theorem ct_of {l : Launch} {G : GT} {y : MethodName} {cc : ByteArray} {nL : Nat} {ret : Option FieldType} {fr lo : Nat} {av : List Value} {h hE : Hp} {o : Option Value} (hy : plainName y.cls = true) (hl : (lg_sl av).length ≤ nL)
    (hv : V l G cc y.cls y.name nL ret fr lo h hE (QM G o h hE) 0 (lv_args 0 av) [] h) : Ct l G y (ws_ y cc nL ret) fr lo av h o hE := by
  refine ⟨hv.1, Met.ofW (cc := cc) (maxL := nL) (ret := ret) hy rfl ?_⟩
  intro p e s m args below meth c s₁ B hml hpc
  obtain ⟨rfl, hok, hw, hH⟩ := hpc
  have hts := atoms_spec (ws := ws_ y cc nL ret) B.pre
  have hts : ∀ w ∈ lw_all, w.before _ s = true := fun w h => hts w (List.mem_cons_of_mem _ h)
  have C : CX G cc y.cls y.name nL ret h p l s m av.toArray meth c := ⟨B.exec, B.bytes, hml, findClass_of_methodNamed B.named, hts, hok, hw, B.returns, B.notSynchronized, (name_of_methodNamed B.named B.method).1, hH.1, hH.2.1, hH.2.2.1⟩
  rw [lg_entry_eq]
  exact hv.2 p e s m av.toArray below meth c C s.heap [] 0 0 _ (by omega) (by omega) hH va_S.rf (lv_entry av hl)
