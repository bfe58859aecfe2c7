/-! V: String constants -/
set_option maxRecDepth 100000
section V9
variable {l : Launch} {G : GT} {cc : ByteArray} {own nm : String} {nL : Nat} {ret : Option FieldType} {fr lo : Nat} {h0 hE h h1 : Hp} {Qf : List Frame → Array Value → State → State → Prop} {pc : Nat} {L L' : List (Nat × Value)} {st : List Value} {α : Type} {r : α}
theorem v_ldcS {i n : Nat} {tx : String} (hd : decode cc pc = .ok (.ldc i, 2)) (hm : (own, i, tx, n) ∈ strTab) (kk : V l G cc own nm nL ret fr lo h0 hE Qf (pc + 2) L (.ref (h.2.2.1 n) :: st) h) : V l G cc own nm nL ret fr lo h0 hE Qf pc L st h := by
  refine v_rd (fun {p e R s m args below meth c H locs cells slots Q ls} C e3 e4 kk => ?_) kk
  rw [e3.2.2.2.1] at kk
  exact va_ldcS C.1 C.2.1 C.2.2.2.1 (vk_R.warm C.2.2.2.2.2.2.1 (C.2.2.2.2.2.1.2.2.2.1 _ hm)) hd kk
/-- a String constant into an array of Strings -/
def sS (h : Hp) (a : Nat) (i : Int32) (v : Nat) : Option Hp := (arQ h a 8).bind fun q => (ro h v 1).bind fun _ => if inb i q.1 = true then some (up h a (.inl (8, q.1, .inr (.inr (.inr (.inr (va_up q.2 i.toNatClampNeg (some v)))))))) else none
theorem v_aastS {a v : Nat} {i : Int32} {rest : Hp → Option α} (hd : decode cc pc = .ok (.aastore, 1)) (hF : (sS h a i v).bind rest = some r) (kk : ∀ h', rest h' = some r → V l G cc own nm nL ret fr lo h0 hE Qf (pc + 1) L st h') : V l G cc own nm nL ret fr lo h0 hE Qf pc L (.ref v :: .int i :: .ref a :: st) h := by
  obtain ⟨h', h1, h2⟩ := Option.bind_eq_some_iff.mp hF
  obtain ⟨q, h3, h4⟩ := Option.bind_eq_some_iff.mp h1
  obtain ⟨x, h5, h6⟩ := Option.bind_eq_some_iff.mp h4
  obtain ⟨hin, rfl⟩ := ifs h6
  refine v_wrl (e0 := .inl (8, q.1, .inr (.inr (.inr (.inr q.2))))) (e1 := .inl (8, q.1, .inr (.inr (.inr (.inr (va_up q.2 i.toNatClampNeg (some v))))))) trivial trivial (arQ_spec h3) (fun {p e s m args below meth c H locs cells slots Q ls ws i0} C hls e3 e4 hall hi hP hD hS kk => ?_) (kk _ h2)
  obtain ⟨z1, z2, z3, z4, ws', -, -, hc⟩ := e3
  have hr : roAt G v (1, x) := hc v _ (ro_spec h5)
  have hO : va_O "java/lang/String" v (AG G) s s.heap := va_O.kept (va_O.moved C.2.2.2.2.2.2.1.alike hr.1) (fun q q1 q2 => C.2.2.2.2.2.2.2.2.2.2.2.2 q q1)
  obtain ⟨cell, k1, k2, k3, k4⟩ := hO
  have hv : va_Any "java/lang/String" s H v := by
    refine ⟨cell, by rw [e4.2.1 v (Array.getElem?_eq_some_iff.mp k1).1 k4]; exact k1, k2, ?_, fun comp hcomp => ?_⟩
    · obtain ⟨kC, hkC, -⟩ := Vm.findClass_spec k3
      exact ⟨kC, hkC⟩
    · cases hcomp.symm.trans k3
      exact va_asg _ _
  exact va_astqM C.1 C.2.1 C.K hP hD hS i0 8 hi (tys_k rfl) hv (inb_in hin) hd kk
/-- a String's fields, its bytes -/
def sV (h : Hp) (a : Nat) : Option Nat := (ro h a 1).bind fun x => some x.1
def sC (h : Hp) (a : Nat) : Option Int32 := (ro h a 1).bind fun _ => some 0
def roL (h : Hp) (v : Nat) : Option Int32 := (ro h v 3).bind fun y => some (Int32.ofNat y.1)
def roB (h : Hp) (v : Nat) (i : Int32) : Option Int32 := (ro h v 3).bind fun y => if inb i y.1 = true then some (y.2 i.toNatClampNeg) else none
theorem cx_keep {p : Program} {s : State} {m : MethodId} {args : Array Value} {meth : Method} {c : Code} (C : CX G cc own nm nL ret h0 p l s m args meth c) : ∀ q : Nat, q < G.1.heap.size → ¬ AG G q → s.heap[q]? = G.1.heap[q]? := fun q q1 _ => C.2.2.2.2.2.2.2.2.2.2.2.2 q q1
theorem va_OF_moved {o n d : String} {v : Value} {t : Nat} {A : Nat → Prop} {u U : State} {H : Heap} (hvm : u.vm.Alike U.vm) (h : va_OF o n d v t A u H) : va_OF o n d v t A U H := by
  obtain ⟨cf, k, i, f, cell, h1, h2⟩ := h
  obtain ⟨k', hi', he⟩ := State.fieldFound?_setVm hvm h1
  exact ⟨cf, k', i, f, cell, hi', h2⟩
theorem va_OF_kept {o n d : String} {v : Value} {t : Nat} {A : Nat → Prop} {U : State} {H H1 : Heap} (h : va_OF o n d v t A U H) (hq : ∀ q : Nat, q < H.size → ¬ A q → H1[q]? = H[q]?) : va_OF o n d v t A U H1 := by
  obtain ⟨cf, k, i, f, cell, h1, h2, h3, h4, h5, h6⟩ := h
  exact ⟨cf, k, i, f, cell, h1, h2, by rw [hq t (Array.getElem?_eq_some_iff.mp h3).1 h6]; exact h3, h4, h5, h6⟩
theorem v_sVal {idx a : Nat} {rest : Nat → Option α} (hd : decode cc pc = .ok (.getfield idx, 3)) (w : Cond.fieldLink own idx "java/lang/String" "value" "[B" ∈ lw_all) (hF : (sV h a).bind rest = some r) (kk : ∀ x, rest x = some r → V l G cc own nm nL ret fr lo h0 hE Qf (pc + 3) L (.ref x :: st) h) : V l G cc own nm nL ret fr lo h0 hE Qf pc L (.ref a :: st) h := by
  obtain ⟨v, h1, h2⟩ := Option.bind_eq_some_iff.mp hF
  obtain ⟨x, h3, h4⟩ := Option.bind_eq_some_iff.mp h1
  cases h4
  refine v_rd (fun {p e R s m args below meth c H locs cells slots Q ls} C e3 e4 kk => ?_) (kk _ h2)
  obtain ⟨z1, z2, z3, z4, ws', -, -, hc⟩ := e3
  have hr : roAt G a (1, x) := hc a _ (ro_spec h3)
  exact vk_getf C.1 C.2.1 (va_OF_kept (va_OF_moved C.2.2.2.2.2.2.1.alike hr.2.2) (cx_keep C)) e4 C.2.2.2.1 (C.2.2.2.2.1 _ w) (fun x hx => hx) hd kk
theorem v_sCod {idx a : Nat} {rest : Int32 → Option α} (hd : decode cc pc = .ok (.getfield idx, 3)) (w : Cond.fieldLink own idx "java/lang/String" "coder" "B" ∈ lw_all) (hF : (sC h a).bind rest = some r) (kk : rest 0 = some r → V l G cc own nm nL ret fr lo h0 hE Qf (pc + 3) L (.int 0 :: st) h) : V l G cc own nm nL ret fr lo h0 hE Qf pc L (.ref a :: st) h := by
  obtain ⟨v, h1, h2⟩ := Option.bind_eq_some_iff.mp hF
  obtain ⟨x, h3, h4⟩ := Option.bind_eq_some_iff.mp h1
  cases h4
  refine v_rd (fun {p e R s m args below meth c H locs cells slots Q ls} C e3 e4 kk => ?_) (kk h2)
  obtain ⟨z1, z2, z3, z4, ws', -, -, hc⟩ := e3
  have hr : roAt G a (1, x) := hc a _ (ro_spec h3)
  exact vk_getf C.1 C.2.1 (va_OF_kept (va_OF_moved C.2.2.2.2.2.2.1.alike hr.2.1) (cx_keep C)) e4 C.2.2.2.1 (C.2.2.2.2.1 _ w) (fun x hx => hx) hd kk
theorem v_roL {v : Nat} {rest : Int32 → Option α} (hd : decode cc pc = .ok (.arraylength, 1)) (hF : (roL h v).bind rest = some r) (kk : ∀ x, rest x = some r → V l G cc own nm nL ret fr lo h0 hE Qf (pc + 1) L (.int x :: st) h) : V l G cc own nm nL ret fr lo h0 hE Qf pc L (.ref v :: st) h := by
  obtain ⟨w, h1, h2⟩ := Option.bind_eq_some_iff.mp hF
  obtain ⟨x, h3, h4⟩ := Option.bind_eq_some_iff.mp h1
  cases h4
  refine v_rd (fun {p e R s m args below meth c H locs cells slots Q ls} C e3 e4 kk => ?_) (kk _ h2)
  obtain ⟨z1, z2, z3, z4, ws', -, -, hc⟩ := e3
  have hr : roAt G v (3, x) := hc v _ (ro_spec h3)
  exact va_tlen C.1 C.2.1 (va_T.kept (va_T.moved C.2.2.2.2.2.2.1.alike hr) (cx_keep C)) e4 rfl hd kk
theorem v_roB {v : Nat} {i : Int32} {rest : Int32 → Option α} (hd : decode cc pc = .ok (.baload, 1)) (hF : (roB h v i).bind rest = some r) (kk : ∀ x, rest x = some r → V l G cc own nm nL ret fr lo h0 hE Qf (pc + 1) L (.int x :: st) h) : V l G cc own nm nL ret fr lo h0 hE Qf pc L (.int i :: .ref v :: st) h := by
  obtain ⟨w, h1, h2⟩ := Option.bind_eq_some_iff.mp hF
  obtain ⟨x, h3, h4⟩ := Option.bind_eq_some_iff.mp h1
  obtain ⟨hin, rfl⟩ := ifs h4
  refine v_rd (fun {p e R s m args below meth c H locs cells slots Q ls} C e3 e4 kk => ?_) (kk _ h2)
  obtain ⟨z1, z2, z3, z4, ws', -, -, hc⟩ := e3
  have hr : roAt G v (3, x) := hc v _ (ro_spec h3)
  exact va_tb C.1 C.2.1 (va_T.kept (va_T.moved C.2.2.2.2.2.2.1.alike hr) (cx_keep C)) e4 (inb_in hin) rfl hd kk
theorem v_getsC {idx : Nat} (hd : decode cc pc = .ok (.getstatic idx, 3)) (w : Cond.fieldLink own idx "java/lang/String" "COMPACT_STRINGS" "Z" ∈ lw_all) (kk : V l G cc own nm nL ret fr lo h0 hE Qf (pc + 3) L (.int 1 :: st) h) : V l G cc own nm nL ret fr lo h0 hE Qf pc L st h := by
  refine v_rd (fun {p e R s m args below meth c H locs cells slots Q ls} C e3 e4 kk => ?_) kk
  exact va_gets C.1 C.2.1 (va_Z.kept (va_Z.moved C.2.2.2.2.2.2.1.alike C.2.2.2.2.2.1.2.2.2.2.2.1) (cx_keep C)) e4 C.2.2.2.1 (C.2.2.2.2.1 _ w) (fun x hx => hx) hd kk
theorem v_getsF {idx : Nat} (hd : decode cc pc = .ok (.getstatic idx, 3)) (w : Cond.fieldLink own idx "jdk/internal/util/Preconditions" "SIOOBE_FORMATTER" "Ljava/util/function/BiFunction;" ∈ lw_all) (kk : V l G cc own nm nL ret fr lo h0 hE Qf (pc + 3) L (va_rf (gOf (h.2.2.1 102)) :: st) h) : V l G cc own nm nL ret fr lo h0 hE Qf pc L st h := by
  refine v_rd (fun {p e R s m args below meth c H locs cells slots Q ls} C e3 e4 kk => ?_) kk
  rw [e3.2.2.2.1] at kk
  exact va_gets C.1 C.2.1 (va_Z.kept (va_Z.moved C.2.2.2.2.2.2.1.alike C.2.2.2.2.2.1.2.2.2.2.2.2.1) (cx_keep C)) e4 C.2.2.2.1 (C.2.2.2.2.1 _ w) (fun x hx => hx) hd kk
theorem v_getsU {idx : Nat} (hd : decode cc pc = .ok (.getstatic idx, 3)) (w : Cond.fieldLink own idx "java/lang/Throwable" "UNASSIGNED_STACK" "[Ljava/lang/StackTraceElement;" ∈ lw_all) (kk : V l G cc own nm nL ret fr lo h0 hE Qf (pc + 3) L (va_rf (gOf (h.2.2.1 103)) :: st) h) : V l G cc own nm nL ret fr lo h0 hE Qf pc L st h := by
  refine v_rd (fun {p e R s m args below meth c H locs cells slots Q ls} C e3 e4 kk => ?_) kk
  rw [e3.2.2.2.1] at kk
  exact va_gets C.1 C.2.1 (va_Z.kept (va_Z.moved C.2.2.2.2.2.2.1.alike C.2.2.2.2.2.1.2.2.2.2.2.2.2.1) (cx_keep C)) e4 C.2.2.2.1 (C.2.2.2.2.1 _ w) (fun x hx => hx) hd kk
theorem v_getsS {idx : Nat} (hd : decode cc pc = .ok (.getstatic idx, 3)) (w : Cond.fieldLink own idx "java/lang/Throwable" "SUPPRESSED_SENTINEL" "Ljava/util/List;" ∈ lw_all) (kk : V l G cc own nm nL ret fr lo h0 hE Qf (pc + 3) L (va_rf (gOf (h.2.2.1 104)) :: st) h) : V l G cc own nm nL ret fr lo h0 hE Qf pc L st h := by
  refine v_rd (fun {p e R s m args below meth c H locs cells slots Q ls} C e3 e4 kk => ?_) kk
  rw [e3.2.2.2.1] at kk
  exact va_gets C.1 C.2.1 (va_Z.kept (va_Z.moved C.2.2.2.2.2.2.1.alike C.2.2.2.2.2.1.2.2.2.2.2.2.2.2.1) (cx_keep C)) e4 C.2.2.2.1 (C.2.2.2.2.1 _ w) (fun x hx => hx) hd kk
/-- a call by a String -/
def VLs (own : String) (idx : Nat) (y : MethodName) (n : Nat) : Prop := Cond.initialized y.cls ∈ lw_all ∧ nmh y.cls ∧ (parseMethodDescriptor y.desc).map (fun d => d.parameters.length) = some n ∧ Cond.instanceMethod y ∈ lw_all ∧ Cond.methodLink own idx y ∈ lw_all ∧ Cond.selects "java/lang/String" y y ∈ lw_all
theorem v_calVs {idx a n maxL frc loc : Nat} {y : MethodName} {bytes : ByteArray} {rt : Option FieldType} {av stk : List Value} {o : Option Value} (hd : decode cc pc = .ok (.invokevirtual idx, 3)) (vl : VLs own idx y n) (hcd : Cond.code y bytes maxL rt ∈ lw_all) (rc : ∃ x, ro h a 1 = some x) (ct : Ct l G y (ws_ y bytes maxL rt) frc loc (.ref a :: av) h o h1) (hst : stk = av.reverse ++ .ref a :: st) (hn : av.length = n) (hfr : frc + 1 ≤ fr) (hlo : 8 + (maxL + 11) + loc ≤ lo) (hw : (st.map fun v => v.category).sum ≤ 8)
    (K : V l G cc own nm nL ret fr lo h0 hE Qf (pc + 3) L (o.toList ++ st) h1) : V l G cc own nm nL ret fr lo h0 hE Qf pc L stk h := by
  obtain ⟨⟨m1, m2⟩, hM⟩ := ct
  have k1 := K.1.1
  have k2 := K.1.2
  refine ⟨⟨by omega, by omega⟩, fun p e s m args below meth c C H locs cells slots ls e1 e2 e3 e4 e5 => ?_⟩
  refine v_back (av := (Value.ref a :: av).toArray) C m1 m2 e1 e2 e3 e4 e5 ?_ K
  obtain ⟨x, hx⟩ := rc
  obtain ⟨c2, c3, c4, c5, d1, d2⟩ := vl
  have hts := C.2.2.2.2.1
  have hGI : GoodIn lw_all (ws_ y bytes maxL rt) := lw_meth hcd
  have hcb : Cond.code y bytes maxL rt ∈ ws_ y bytes maxL rt := List.mem_cons_self
  have hlen : ∀ sig, parseMethodDescriptor y.desc = some sig → n = sig.parameters.length := by
    intro sig h
    rw [h] at c4
    exact (Option.some.inj c4).symm
  have hfix : CallFix p m c cc nL s args lw_all own := ⟨C.1, C.2.1, C.2.2.1, C.2.2.2.1, hts⟩
  obtain ⟨z1, z2, z3, z4, ws, hP, hD, hc⟩ := e3
  have hr : roAt G a (1, x) := hc a _ (ro_spec hx)
  have hO : va_O "java/lang/String" a (AG G) s s.heap := va_O.kept (va_O.moved C.2.2.2.2.2.2.1.alike hr.1) (cx_keep C)
  obtain ⟨cell, k1, k2, k3, k4⟩ := hO
  have hrecv : ∃ cell : Cell, H[a]? = some cell ∧ cell.vm.isStatics = false ∧ s.vm.findClass "java/lang/String" = some cell.cls := ⟨cell, by rw [e4.2.1 a (Array.getElem?_eq_some_iff.mp k1).1 k4]; exact k1, k2, k3⟩
  have hpre : PreV s H "java/lang/String" a (va_Pc (.ref a :: av) (PreH l G h)) av := ⟨preH_blind, hrecv, fun U hU hW => ⟨rfl, C.2.2.2.2.2.1, State.WarmedH.trans C.2.2.2.2.2.2.1 hW, by rw [hU]; exact ⟨z1, z2, z3, z4, ws, hP, hD, hc⟩⟩⟩
  have hfit : cells + (h1.1 - h.1) ≤ hE.1 - h0.1 ∧ slots + (h1.2.1 - h.2.1) ≤ hE.2.1 - h0.2.1 := ⟨by omega, by omega⟩
  have hbk : ∀ w ∈ ws_ y bytes maxL rt, ∀ (a' : Array Value) (U : State), s.WarmedH U.vm → w.before a' U = true := pay_in hts hGI
  exact va_runV hfix hM ⟨⟨rfl, rfl, hfr, hlo, hbk, hcb, hts _ hcd, hts _ c2, c3, hlen, hts _ d1⟩, hts _ c5, hts _ d2⟩ hpre rfl hn e5.1 hst (lv_room hw) hd hfit
theorem v_calVs1 {idx a n maxL frc loc : Nat} {y : MethodName} {bytes : ByteArray} {rt : Option FieldType} {av stk : List Value} {x : Value} (hd : decode cc pc = .ok (.invokevirtual idx, 3)) (vl : VLs own idx y n) (hcd : Cond.code y bytes maxL rt ∈ lw_all) (rc : ∃ x, ro h a 1 = some x) (ct : Ct l G y (ws_ y bytes maxL rt) frc loc (.ref a :: av) h (some x) h1) (hst : stk = av.reverse ++ .ref a :: st) (hn : av.length = n) (hfr : frc + 1 ≤ fr) (hlo : 8 + (maxL + 11) + loc ≤ lo) (hw : (st.map fun v => v.category).sum ≤ 8)
    (K : V l G cc own nm nL ret fr lo h0 hE Qf (pc + 3) L (x :: st) h1) : V l G cc own nm nL ret fr lo h0 hE Qf pc L stk h := v_calVs hd vl hcd rc ct hst hn hfr hlo hw K
theorem v_mmax {idx : Nat} {x y : Int32} (hd : decode cc pc = .ok (.invokestatic idx, 3)) (w : Cond.methodLink own idx Lib.Math.max.name ∈ lw_all) (hfr : 1 ≤ fr) (hlo : 30 ≤ lo) (hw : (st.map fun v => v.category).sum ≤ 8) (K : V l G cc own nm nL ret fr lo h0 hE Qf (pc + 3) L (.int (if x < y then y else x) :: st) h) : V l G cc own nm nL ret fr lo h0 hE Qf pc L (.int y :: .int x :: st) h := by
  have k1 := K.1.1
  have k2 := K.1.2
  refine ⟨K.1, fun p e s m args below meth c C H locs cells slots ls e1 e2 e3 e4 e5 => ?_⟩
  have hts := C.2.2.2.2.1
  exact va_mmax C.1 C.2.1 (C.2.2.1.trans e5.1.symm) C.2.2.2.1 (hts _ w) (hts _ q1237) (hts _ q147) (hts _ q1238) hfr (show _ ≤ lo by omega) (show cells ≤ hE.1 - h0.1 by omega) (show slots ≤ hE.2.1 - h0.2.1 by omega) hd (K.2 p e s m args below meth c C H locs cells slots ls e1 e2 e3 e4 e5)
theorem v_mmin {idx : Nat} {x y : Int32} (hd : decode cc pc = .ok (.invokestatic idx, 3)) (w : Cond.methodLink own idx Lib.Math.min.name ∈ lw_all) (hfr : 1 ≤ fr) (hlo : 30 ≤ lo) (hw : (st.map fun v => v.category).sum ≤ 8) (K : V l G cc own nm nL ret fr lo h0 hE Qf (pc + 3) L (.int (if y < x then y else x) :: st) h) : V l G cc own nm nL ret fr lo h0 hE Qf pc L (.int y :: .int x :: st) h := by
  have k1 := K.1.1
  have k2 := K.1.2
  refine ⟨K.1, fun p e s m args below meth c C H locs cells slots ls e1 e2 e3 e4 e5 => ?_⟩
  have hts := C.2.2.2.2.1
  exact va_mmin C.1 C.2.1 (C.2.2.1.trans e5.1.symm) C.2.2.2.1 (hts _ w) (hts _ q496) (hts _ q147) (hts _ q497) hfr (show _ ≤ lo by omega) (show cells ≤ hE.1 - h0.1 by omega) (show slots ≤ hE.2.1 - h0.2.1 by omega) hd (K.2 p e s m args below meth c C H locs cells slots ls e1 e2 e3 e4 e5)
theorem v_mmaxl {idx : Nat} {x y : Int64} (hd : decode cc pc = .ok (.invokestatic idx, 3)) (w : Cond.methodLink own idx Lib.MathLoose.max_long.x ∈ lw_all) (hfr : 1 ≤ fr) (hlo : 30 ≤ lo) (hw : (st.map fun v => v.category).sum ≤ 8) (K : V l G cc own nm nL ret fr lo h0 hE Qf (pc + 3) L (.long (if y < x then x else y) :: st) h) : V l G cc own nm nL ret fr lo h0 hE Qf pc L (.long y :: .long x :: st) h := by
  have k1 := K.1.1
  have k2 := K.1.2
  refine ⟨K.1, fun p e s m args below meth c C H locs cells slots ls e1 e2 e3 e4 e5 => ?_⟩
  have hts := C.2.2.2.2.1
  exact va_mmax_long C.1 C.2.1 (C.2.2.1.trans e5.1.symm) C.2.2.2.1 (hts _ w) (hts _ q632) (hts _ q147) (hts _ q633) hfr (show _ ≤ lo by omega) (show cells ≤ hE.1 - h0.1 by omega) (show slots ≤ hE.2.1 - h0.2.1 by omega) hd (K.2 p e s m args below meth c C H locs cells slots ls e1 e2 e3 e4 e5)
theorem v_mminl {idx : Nat} {x y : Int64} (hd : decode cc pc = .ok (.invokestatic idx, 3)) (w : Cond.methodLink own idx Lib.MathLoose.min_long.x ∈ lw_all) (hfr : 1 ≤ fr) (hlo : 30 ≤ lo) (hw : (st.map fun v => v.category).sum ≤ 8) (K : V l G cc own nm nL ret fr lo h0 hE Qf (pc + 3) L (.long (if y < x then y else x) :: st) h) : V l G cc own nm nL ret fr lo h0 hE Qf pc L (.long y :: .long x :: st) h := by
  have k1 := K.1.1
  have k2 := K.1.2
  refine ⟨K.1, fun p e s m args below meth c C H locs cells slots ls e1 e2 e3 e4 e5 => ?_⟩
  have hts := C.2.2.2.2.1
  exact va_mmin_long C.1 C.2.1 (C.2.2.1.trans e5.1.symm) C.2.2.2.1 (hts _ w) (hts _ q629) (hts _ q147) (hts _ q630) hfr (show _ ≤ lo by omega) (show cells ≤ hE.1 - h0.1 by omega) (show slots ≤ hE.2.1 - h0.2.1 by omega) hd (K.2 p e s m args below meth c C H locs cells slots ls e1 e2 e3 e4 e5)
end V9
