/-! V: rows for the JDK's lists: getClass of an array of objects, its class by ldc, a call by an interface; chars -/
set_option maxRecDepth 100000
def rc16 (x : Int32) : Option Int32 := if (x.toUInt32 % 65536).toInt32 = x then some x else none
theorem nar_c {x : Int32} (h : (x.toUInt32 % 65536).toInt32 = x) : narrow .char (.int x) = .int x := congrArg Value.int h
section V25
variable {l : Launch} {G : GT} {cc : ByteArray} {own nm : String} {nL : Nat} {ret : Option FieldType} {fr lo : Nat} {h0 hE h h1 : Hp} {Qf : List Frame → Array Value → State → State → Prop} {pc : Nat} {L L' : List (Nat × Value)} {st : List Value} {α : Type} {r : α}
theorem v_cchk {x : Int32} {rest : Int32 → Option α} (hF : (rc16 x).bind rest = some r) (kk : ∀ y, narrow .char (.int y) = .int y → rest y = some r → V l G cc own nm nL ret fr lo h0 hE Qf pc L (.int y :: st) h) : V l G cc own nm nL ret fr lo h0 hE Qf pc L (.int x :: st) h := by
  obtain ⟨y, q1, q2⟩ := Option.bind_eq_some_iff.mp hF
  obtain ⟨hy, rfl⟩ := ifs q1
  exact kk _ (nar_c hy) q2
/-- the Class object of an array of objects -/
theorem v_getC {idx a : Nat} {rest : Int32 → Option α} (hd : decode cc pc = .ok (.invokevirtual idx, 3)) (w1 : Cond.methodLink own idx ⟨"java/lang/Object", "getClass", "()Ljava/lang/Class;"⟩ ∈ lw_all) (hfr : 1 ≤ fr) (hlo : 30 ≤ lo) (hw : (st.map fun v => v.category).sum ≤ 8) (hF : (alenO h a).bind rest = some r) (kk : ∀ x, rest x = some r → V l G cc own nm nL ret fr lo h0 hE Qf (pc + 3) L (.ref (h.2.2.1 101) :: st) h) : V l G cc own nm nL ret fr lo h0 hE Qf pc L (.ref a :: st) h := by
  obtain ⟨x, q1, q2⟩ := Option.bind_eq_some_iff.mp hF
  have K := kk _ q2
  refine ⟨K.1, fun p e s m args below meth c C H locs cells slots ls e1 e2 e3 e4 e5 => ?_⟩
  have K2 := K.2 p e s m args below meth c C H locs cells slots ls e1 e2 e3 e4 e5
  rw [e3.2.2.2.1] at K2
  have hts := C.2.2.2.2.1
  have hdecl : (Cond.declares ⟨"java/lang/Object", "getClass", "()Ljava/lang/Class;"⟩).before args s = true := va_Nw.use rfl (va_Nw.warmD C.2.2.2.2.2.2.1 (C.nw q2410 rfl))
  have hrecv : ∃ cell : Cell, H[a]? = some cell ∧ cell.vm.isStatics = false ∧ s.vm.findClass "[Ljava/lang/Object;" = some cell.cls := by
    unfold alenO at q1
    split at q1
    · next y hy =>
      obtain ⟨z, g1, g2⟩ := Option.bind_eq_some_iff.mp hy
      obtain ⟨z1, z2, z3, z4, ws, hP, hD, hc⟩ := e3
      obtain ⟨i, hi⟩ := hc a _ (ar_spec g1)
      have hnm := va_nmO (nm := "[Ljava/lang/Object;") ((C.K.2 11 _ (tys_k (k := 11) rfl)).2) (by decide +kernel)
      refine ⟨_, hP i _ hi, ?_, ?_⟩
      · obtain ⟨n, f | f | f | f | f⟩ := z <;> rfl
      · obtain ⟨n, f | f | f | f | f⟩ := z <;> exact hnm
    · obtain ⟨y, q3, q4⟩ := Option.bind_eq_some_iff.mp q1
      obtain ⟨z1, z2, z3, z4, ws', -, -, hc⟩ := e3
      have hr : roAt G a (2, y) := hc a _ (ro_spec q3)
      obtain ⟨cell, k1, k2, k3, k4⟩ := va_O.kept (va_O.moved C.2.2.2.2.2.2.1.alike hr.2) (cx_keep C)
      exact ⟨cell, by rw [e4.2.1 a (Array.getElem?_eq_some_iff.mp k1).1 k4]; exact k1, k2, k3⟩
  exact va_getC C.1 C.2.1 (C.2.2.1.trans e5.1.symm) C.2.2.2.1 (hts _ w1) hdecl (hts _ q2409) (hts _ q1247) (hts _ q1271) (va_Mi.moved C.2.2.2.2.2.2.1.alike C.2.2.2.2.2.1.2.2.2.2.2.2.2.2.2.1) hrecv hfr (show (st.map fun v => v.category).sum + 14 ≤ lo by omega) hd K2
theorem v_ldcM {i : Nat} (hd : decode cc pc = .ok (.ldc i, 2)) (w : Cond.classLink own i "[Ljava/lang/Object;" ∈ lw_all) (kk : V l G cc own nm nL ret fr lo h0 hE Qf (pc + 2) L (.ref (h.2.2.1 101) :: st) h) : V l G cc own nm nL ret fr lo h0 hE Qf pc L st h := by
  refine v_rd (fun {p e R s m args below meth c H locs cells slots Q ls} C e3 e4 kk => ?_) kk
  rw [e3.2.2.2.1] at kk
  exact va_ldcM C.1 C.2.1 C.2.2.2.1 (C.2.2.2.2.1 _ w) (va_Mi.moved C.2.2.2.2.2.2.1.alike C.2.2.2.2.2.1.2.2.2.2.2.2.2.2.2.1) hd kk
/-- Collection.toArray(), by the interface, of an ArrayList -/
theorem v_calF {idx a cnt maxL frc loc : Nat} {bytes : ByteArray} {rt : Option FieldType} {stk : List Value} {v : Value} (hd : decode cc pc = .ok (.invokeinterface idx cnt, 5)) (w1 : Cond.methodLink own idx ⟨"java/util/Collection", "toArray", "()[Ljava/lang/Object;"⟩ ∈ lw_all) (hcd : Cond.code yJ2_toArray bytes maxL rt ∈ lw_all) (rc : RC h a [20]) (ct : Ct l G yJ2_toArray (ws_ yJ2_toArray bytes maxL rt) frc loc [.ref a] h (some v) h1) (hst : stk = .ref a :: st) (hfr : frc + 1 ≤ fr) (hlo : 8 + (maxL + 11) + loc ≤ lo) (hw : (st.map fun v => v.category).sum ≤ 8)
    (K : V l G cc own nm nL ret fr lo h0 hE Qf (pc + 5) L (v :: st) h1) : V l G cc own nm nL ret fr lo h0 hE Qf pc L stk h := by
  subst hst
  obtain ⟨⟨m1, m2⟩, hM⟩ := ct
  have k1 := K.1.1
  have k2 := K.1.2
  refine ⟨⟨by omega, by omega⟩, fun p e s m args below meth c C H locs cells slots ls e1 e2 e3 e4 e5 => ?_⟩
  obtain ⟨ob0, hob⟩ := rc
  obtain ⟨g1, g2⟩ := ob_spec hob
  obtain ⟨ci, fs⟩ := ob0
  obtain rfl : ci = 20 := by simpa using g2
  have hts := C.2.2.2.2.1
  have hGI : GoodIn lw_all (ws_ yJ2_toArray bytes maxL rt) := lw_meth hcd
  have hcb : Cond.code yJ2_toArray bytes maxL rt ∈ ws_ yJ2_toArray bytes maxL rt := List.mem_cons_self
  have hfix : CallFix p m c cc nL s args lw_all own := ⟨C.1, C.2.1, C.2.2.1, C.2.2.2.1, hts⟩
  obtain ⟨z1, z2, z3, z4, ws, hP, hD, hc⟩ := id e3
  obtain ⟨i0, hi⟩ := hc a _ g1
  have c1 : clx[20]? = some (RJ2, TJ2, 3) := rfl
  have hrecv : ∃ cell : Cell, H[a]? = some cell ∧ cell.vm.isStatics = false ∧ s.vm.findClass "java/util/ArrayList" = some cell.cls := va_recv C.K hP c1 hi
  have hpre : PreV s H "java/util/ArrayList" a (va_Pc [.ref a] (PreH l G h)) [] := ⟨preH_blind, hrecv, fun U hU hW => ⟨rfl, C.2.2.2.2.2.1, State.WarmedH.trans C.2.2.2.2.2.2.1 hW, by rw [hU]; exact ⟨z1, z2, z3, z4, ws, hP, hD, hc⟩⟩⟩
  have hfit : cells + (h1.1 - h.1) ≤ hE.1 - h0.1 ∧ slots + (h1.2.1 - h.2.1) ≤ hE.2.1 - h0.2.1 := ⟨by omega, by omega⟩
  have hbk : ∀ w ∈ ws_ yJ2_toArray bytes maxL rt, ∀ (a' : Array Value) (U : State), s.WarmedH U.vm → w.before a' U = true := pay_in hts hGI
  obtain ⟨A, hA⟩ := C.2.2.2.2.2.1.2.1
  have hFw : va_Fw "java/util/ArrayList" ⟨"java/util/Collection", "toArray", "()[Ljava/lang/Object;"⟩ yJ2_toArray s := va_Fw.moved ⟨by decide, by decide⟩ C.2.2.2.2.2.2.1.alike (va_Fw.of (hA _ q1604) (hA _ q1603) (hA _ q1609) (hA _ q1607) (hA _ q1605))
  have hat : ClassAt s "java/util/ArrayList" (G.2.1.1 20) := (C.K.1 20 _ c1).2
  have hr := va_runF (e := e) (R := { frames := fr, cells := hE.1 - h0.1, slots := hE.2.1 - h0.2.1, locals := lo }) (below := below) (meth := meth) (locs := locs) (cells := cells) (slots := slots) (b := a) (As := []) (rest := st) (index := idx) (count := cnt) (g := F0 m pc ls (.ref a :: st)) hat hfix hM (n := 0) ⟨⟨rfl, rfl, hfr, hlo, hbk, hcb⟩, hts _ w1, va_any rfl hFw.1, va_any rfl hFw.2.1, hts _ q1606, hts _ q1608, va_any rfl hFw.2.2.1, va_any rfl hFw.2.2.2.1, va_any rfl hFw.2.2.2.2, hts _ q141, hts _ hcd, ⟨by decide, by decide⟩, by
    intro sig h
    have h2 : (parseMethodDescriptor "()[Ljava/lang/Object;").map (fun d => d.parameters.length) = some 0 := by decide +kernel
    rw [h] at h2
    exact (Option.some.inj h2).symm⟩ hpre rfl rfl e5.1 rfl (lv_room hw) hd hfit
  intro T hT X
  obtain ⟨v0, st₀, t, T', L1, z0, X', hL, g1, g2, ⟨hv, hHS, hz, hk⟩, stp⟩ := hr T hT X
  have hv : v0 = some v := Outcome.returned.inj hv
  subst hv
  rw [z0] at hz hk
  have K2 := K.2 p e s m args below meth c C T'.heap (locs ++ L1) (cells + (h1.1 - h.1)) (slots + (h1.2.1 - h.2.1)) ls (by omega) (by omega) (by rw [g1]; exact hHS) ⟨Nat.le_trans e4.1 (by rw [g1]; exact hz), fun q q1 q2 => by rw [g1, hk q (Nat.lt_of_lt_of_le q1 e4.1) q2]; exact e4.2.1 q q1 q2, fun q hq => by
      rcases List.mem_append.mp hq with z | z
      · exact e4.2.2 q z
      · exact hL q z⟩ e5
  obtain ⟨t2, a1, b1⟩ := K2 T' rfl X'
  exact ⟨t2, stp t2 a1, b1⟩
end V25
