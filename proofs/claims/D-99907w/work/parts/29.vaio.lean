/-! the machine's ArrayIndexOutOfBoundsException -/
set_option maxRecDepth 100000
def aioE : String := "java/lang/ArrayIndexOutOfBoundsException"
def aioN : List String := ["java/lang/IndexOutOfBoundsException", "java/lang/RuntimeException", "java/lang/Exception"]
theorem aio_in : ∀ w ∈ (vq_atM aioE aioN).filter goodWord, w ∈ lw_all := by
  have h : ((vq_atM aioE aioN).filter goodWord).all (fun w => decide (w ∈ lw_all)) = true := by decide +kernel
  exact fun w hw => of_decide_eq_true (List.all_eq_true.mp h w hw)
def aioK (w : Cond) : Bool := match w with
  | .castable _ _ => true
  | .declares _ => true
  | _ => false
theorem aioK_spec {w : Cond} (h : aioK w = true) : (∃ a b, w = .castable a b) ∨ ∃ x, w = .declares x := by
  unfold aioK at h
  split at h
  · exact Or.inl ⟨_, _, rfl⟩
  · exact Or.inr ⟨_, rfl⟩
  · cases h
theorem aio_bad : ∀ w ∈ (vq_atM aioE aioN).filter (fun w => !goodWord w), w ∈ lw_tbl ∧ aioK w = true := by
  have h : ((vq_atM aioE aioN).filter (fun w => !goodWord w)).all (fun w => decide (w ∈ lw_tbl) && aioK w) = true := by decide +kernel
  intro w hw
  have := List.all_eq_true.mp h w hw
  rw [Bool.and_eq_true] at this
  exact ⟨of_decide_eq_true this.1, this.2⟩
theorem aio_ot : ∀ w ∈ vq_atM aioE aioN, vq_ot w = true := by
  have h : (vq_atM aioE aioN).all vq_ot = true := by decide +kernel
  exact fun w hw => List.all_eq_true.mp h w hw
theorem aio_hat {G : GT} {cc : ByteArray} {own nm : String} {nL : Nat} {ret : Option FieldType} {h0 : Hp} {p : Program} {l : Launch} {s : State} {m : MethodId} {args : Array Value} {meth : Method} {c : Code} (C : CX G cc own nm nL ret h0 p l s m args meth c) : ∀ w ∈ vq_atM aioE aioN, w.before args s = true := by
  intro w hw
  by_cases hg : goodWord w = true
  · exact C.2.2.2.2.1 w (aio_in w (List.mem_filter.mpr ⟨hw, hg⟩))
  · obtain ⟨h1, h2⟩ := aio_bad w (List.mem_filter.mpr ⟨hw, by simpa using hg⟩)
    rcases aioK_spec h2 with ⟨a, b, rfl⟩ | ⟨x, rfl⟩
    · exact va_Nw.use rfl (va_Nw.warmC C.2.2.2.2.2.2.1 (C.nw h1 rfl))
    · exact va_Nw.use rfl (va_Nw.warmD C.2.2.2.2.2.2.1 (C.nw h1 rfl))
/-- the texts of the indices that lie behind the end by 0 or 1, of arrays shorter than 512 -/
def aioT (i : Int32) (n : Nat) : String := toString "Index " ++ toString i ++ toString " out of bounds for length " ++ toString n
theorem u16_len (l : List Char) : ∀ acc : Array UInt16, (l.foldl (fun acc c => if c.toNat < 0x10000 then acc.push c.toNat.toUInt16 else if 0x100000 ≤ c.toNat && c.toNat ≤ 0x1007FF then acc.push (0xD800 + (c.toNat - 0x100000)).toUInt16 else (acc.push (0xD800 + (c.toNat - 0x10000) / 0x400).toUInt16).push (0xDC00 + (c.toNat - 0x10000) % 0x400).toUInt16) acc).size ≤ acc.size + 2 * l.length := by
  induction l with
  | nil => intro acc; simp
  | cons c l ih =>
    intro acc
    rw [List.foldl_cons]
    refine Nat.le_trans (ih _) ?_
    rw [List.length_cons]
    split
    · rw [Array.size_push]; omega
    · split
      · rw [Array.size_push]; omega
      · rw [Array.size_push, Array.size_push]; omega
theorem u16_le (t : String) : (stringToUtf16 t).size ≤ 2 * t.toList.length := by
  have := u16_len t.toList #[]
  simpa [stringToUtf16] using this
theorem sb_le (u : Array UInt16) : (stringBytes u).size ≤ 2 * u.size := by
  unfold stringBytes
  split
  · simp; omega
  · rw [Array.size_flatMap]
    have : ∀ l : List UInt16, (l.map fun (u : UInt16) => (#[byteValue u.toUInt8, byteValue (u >>> 8).toUInt8] : Array Value).size).sum = 2 * l.length := by
      intro l
      induction l with
      | nil => rfl
      | cons a l ih => rw [List.map_cons, List.sum_cons, ih, List.length_cons]; show 2 + _ = _; omega
    rw [← Array.sum_toList, Array.toList_map, this, Array.length_toList]
    exact Nat.le_refl _
theorem dig_len : ∀ n, n < 514 → (Nat.toDigits 10 n).length ≤ 3 := by decide +kernel
theorem nat_len {n : Nat} (h : n < 514) : (toString n).toList.length ≤ 3 := by
  have e : (toString n).toList = Nat.toDigits 10 n := by
    show (Nat.repr n).toList = _
    simp [Nat.repr]
  rw [e]; exact dig_len n h
theorem i32_str {n : Nat} (h : n < 514) : toString (Int32.ofNat n) = toString n := by
  have e : (Int32.ofNat n).toInt = n := by
    rw [Int32.toInt_ofNat_of_lt (by omega)]
  show toString (Int32.ofNat n).toInt = _
  rw [e]; rfl
theorem aio_len {n d : Nat} (hn : n < 512) (hd : d < 2) : (aioT (Int32.ofNat (n + d)) n).toList.length ≤ 60 := by
  have h1 := nat_len (n := n + d) (by omega)
  have h2 := nat_len (n := n) (by omega)
  have a1 : (toString "Index " : String).toList.length = 6 := by decide +kernel
  have a2 : (toString " out of bounds for length " : String).toList.length = 26 := by decide +kernel
  unfold aioT
  rw [i32_str (by omega), String.toList_append, String.toList_append, String.toList_append, List.length_append, List.length_append, List.length_append]
  omega
theorem aio_ne {n d : Nat} : (aioT (Int32.ofNat (n + d)) n == notModelled) = false := by
  refine beq_eq_false_iff_ne.mpr fun h => ?_
  have h2 : (aioT (Int32.ofNat (n + d)) n).toList.head? = notModelled.toList.head? := by rw [h]
  have e : (toString "Index " : String).toList = ['I', 'n', 'd', 'e', 'x', ' '] := by decide +kernel
  have e2 : notModelled.toList.head? = some (Char.ofNat 0) := by decide +kernel
  unfold aioT at h2
  rw [String.toList_append, String.toList_append, String.toList_append, e, e2] at h2
  exact absurd h2 (by simp)
theorem aio_sz {n d : Nat} (hn : n < 512) (hd : d < 2) : (stringBytes (stringToUtf16 (aioT (Int32.ofNat (n + d)) n))).size ≤ 240 := by
  have h1 := aio_len hn hd
  have h2 := u16_le (aioT (Int32.ofNat (n + d)) n)
  have h3 := sb_le (stringToUtf16 (aioT (Int32.ofNat (n + d)) n))
  omega
def h3 (h : Hp) : Hp := (h.1 + 3, h.2.1 + 250, h.2.2.1, h.2.2.2)
def XcA (G : GT) (h' : Hp) : Nat → String → State → State → Prop := fun _ E st t => E = aioE ∧ HSl G h' t.heap ∧ va_F (AG G) st t
/-- behind the machine's throw: an array of bytes read behind its end by 0 or 1 -/
def QA (G : GT) (h0 hE : Hp) : List Frame → Array Value → State → State → Prop := fun below args s t => TBs [] s → vq_MQ below (fun _ _ _ _ => False) (XcA G hE) args s (hE.1 - h0.1) (hE.2.1 - h0.2.1) (AG G) t
theorem st_L {G : GT} {cc : ByteArray} {own nm : String} {nL : Nat} {ret : Option FieldType} {h0 : Hp} {p : Program} {l : Launch} {s : State} {m : MethodId} {args : Array Value} {meth : Method} {c : Code} (C : CX G cc own nm nL ret h0 p l s m args meth c) {X n d : String} {x : Option Nat} (hw : Cond.laysStatic X n d ∈ lw_tbl) (hz : va_Z X n d (va_rf x) (AG G) G.1 G.1.heap) : vq_Zq X n d (AG G) s s.heap := by
  obtain ⟨A, hA⟩ := C.2.2.2.2.2.1.2.1
  have hL : vq_L X n d (AG G) G.1 G.1.heap := by
    obtain ⟨c, k, i, f, a, cell, h1, h2, h3, h4, h5, h6, h7, h8, h9⟩ := Cond.laysStatic_spec (hA _ hw)
    exact ⟨c, k, i, f, a, cell, h1, h2, h3, h4, h5, h6, h7, h8, h9, fun z => absurd (Array.getElem?_eq_some_iff.mp h5).1 (Nat.not_lt.mpr z)⟩
  have hq : va_Zq X n d (AG G) G.1 G.1.heap := by
    cases x with
    | none => exact Or.inl hz
    | some t => exact Or.inr ⟨t, hz⟩
  have h9 : vq_Zq X n d (AG G) G.1 G.1.heap := ⟨hq, hL⟩
  exact vq_Zq.kept (vq_Zq.moved C.2.2.2.2.2.2.1.alike h9) (cx_keep C)
theorem fl_tr {l : Launch} (h : l.flags = flags0) : l.stackTraces = false := by
  unfold Launch.stackTraces
  rw [h]
  decide +kernel
section V29
variable {l : Launch} {G : GT} {cc : ByteArray} {own nm : String} {nL : Nat} {ret : Option FieldType} {fr lo : Nat} {h0 hE h h1 : Hp} {Qf : List Frame → Array Value → State → State → Prop} {pc : Nat} {L L' : List (Nat × Value)} {st : List Value} {α : Type} {r : α}
theorem v_baldOut {a n d : Nat} {f : Nat → Int32} (hd : decode cc pc = .ok (.baload, 1)) (ha : ar h a 1 = some (n, .inl f)) (hn : n < 512) (hd2 : d < 2) (hfr : 8 ≤ fr) (hlo : 10300 ≤ lo) (hw : (st.map fun v => v.category).sum ≤ 8) : V l G cc own nm nL ret fr lo h0 (h3 h) (QA G h0 (h3 h)) pc L (.int (Int32.ofNat (n + d)) :: .ref a :: st) h := by
  refine ⟨⟨show h.1 ≤ h.1 + 3 by omega, show h.2.1 ≤ h.2.1 + 250 by omega⟩, fun p e s m args below meth c C H locs cells slots ls e1 e2 e3 e4 e5 => ?_⟩
  intro T hT X
  by_cases htb : TBs [] s
  · have htab : c.exceptionTable.toList = tableOf [] := htb m args below meth c X.frames X.method X.code
    obtain ⟨z1, z2, z3, z4, ws, hP, hD, hc⟩ := id e3
    obtain ⟨i, hi⟩ := hc a _ (ar_spec ha)
    have hout : ¬ vp_in (Int32.ofNat (n + d)) n := by
      have e : (Int32.ofNat (n + d)).toInt = ((n + d : Nat) : Int) := Int32.toInt_ofNat_of_lt (by omega)
      have e2 : (Int32.ofNat (n + d)).toNatClampNeg = n + d := by unfold Int32.toNatClampNeg; rw [e]; rfl
      unfold vp_in
      rw [e2]
      omega
    have hU : vq_Zq Bundle.tN "UNASSIGNED_STACK" Bundle.steD (AG G) s s.heap := st_L C q677 C.2.2.2.2.2.1.2.2.2.2.2.2.2.1
    have hN : vq_Zq Bundle.tN "SUPPRESSED_SENTINEL" Bundle.listD (AG G) s s.heap := st_L C q679 C.2.2.2.2.2.1.2.2.2.2.2.2.2.2.1
    have hl : l.stackTraces = false := fl_tr C.2.2.2.2.2.1.2.2.1
    have k := vq_baldZ (Q := QA G h0 (h3 h) below args s) (p := p) (l := l) (e := e) (R := { frames := fr, cells := (h3 h).1 - h0.1, slots := (h3 h).2.1 - h0.2.1, locals := lo }) (s := s) (m := m) (args := args) (below := below) (meth := meth) (c := c) (locs := locs) (cells := cells) (slots := slots) (pc := pc) (ls := ls) (rest := st) C.1 C.2.1 C.K hP i 1 hi (tys_k (k := 1) rfl) hout hd (fun tx htx => by
      subst htx
      refine vq_vm (nb := 240) (A := AG G) C.1 hl (names := aioN) (by decide +kernel) (by decide +kernel) (by decide +kernel) (by decide +kernel) (aio_hat C) aio_ot hU hN e4 (e5.1.trans C.2.2.1.symm) aio_ne (aio_sz hn hd2) (by decide) (show 3 + 4 < fr by omega) (show _ + 10240 ≤ lo by omega) (by decide) (show cells + 3 ≤ h.1 + 3 - h0.1 by omega) (show slots + (240 + 10) ≤ h.2.1 + 250 - h0.2.1 by omega) C.2.2.2.2.2.2.2.2.1 ?_
      intro H1 q9 ce hs3 hs hk hS1 hce hcv hcl
      have hHS : HSl G (h3 h) H1 := ⟨by rw [hs3, z1]; rfl, Nat.le_trans z2 hs, fun q hq => by rw [hk q (Nat.lt_of_lt_of_le hq z2)]; exact z3 q hq, z4, ws, hP.kept (fun k x hx => hk x.1 (hP k x hx).lt), hD, hc⟩
      intro T2 hT2 X2
      have kk := vq_out (Qc := fun _ _ _ _ => False) (XC := XcA G (h3 h)) (below := below) (m := m) (args := args) (ls := ls) (rest := st) (R := { frames := fr, cells := (h3 h).1 - h0.1, slots := (h3 h).2.1 - h0.2.1, locals := lo }) (p := p) (e := e) (l := l) (locs := locs) (cells := cells + 3) (slots := slots + (240 + 10)) (mc := (h3 h).1 - h0.1) (ms := (h3 h).2.1 - h0.2.1) (free := AG G) (pc := pc) (E := aioE) (by rw [htab]; exact tb0) C.2.2.2.2.2.2.2.2.1 hce hcv hcl (fun t ht hW => ⟨rfl, by rw [ht]; exact hHS, va_S.F hS1 ht⟩) hS1.2.2 (show cells + 3 ≤ h.1 + 3 - h0.1 by omega) (show slots + 250 ≤ h.2.1 + 250 - h0.2.1 by omega)
      obtain ⟨t, a1, b1⟩ := kk T2 hT2 X2
      exact ⟨t, a1, fun _ => b1⟩)
    exact k T hT X
  · exact ⟨_, Steps.refl _, fun z => absurd z htb⟩
end V29
def MetA (l : Launch) (G : GT) (y : MethodName) (ws : List Cond) (fr lo : Nat) (av : List Value) (h : Hp) : Prop := vq_Met l y ws { frames := fr, cells := 3, slots := 250, locals := lo } (va_Pc av (PreH l G h)) (fun _ _ _ _ => False) (XcA G (h3 h)) 3 250 (AG G)
theorem metA_of {l : Launch} {G : GT} {y : MethodName} {cc : ByteArray} {nL : Nat} {ret : Option FieldType} {fr lo : Nat} {av : List Value} {h : Hp} (hy : plainName y.cls = true) (hl : (lg_sl av).length ≤ nL)
    (hv : V l G cc y.cls y.name nL ret fr lo h (h3 h) (QA G h (h3 h)) 0 (lv_args 0 av) [] h) : MetA l G y (ws_ y cc nL ret) fr lo av h := by
  have e1 : (h3 h).1 - h.1 = 3 := by show h.1 + 3 - h.1 = 3; omega
  have e2 : (h3 h).2.1 - h.2.1 = 250 := by show h.2.1 + 250 - h.2.1 = 250; omega
  have hv2 := hv.2
  unfold QA at hv2
  rw [e1, e2] at hv2
  refine vq_ofW (cc := cc) (maxL := nL) (ret := ret) hy rfl ?_
  intro p e s m args below meth c s₁ B hml htab hpc
  obtain ⟨rfl, hok, hw, hH⟩ := hpc
  have hts := atoms_spec (ws := ws_ y cc nL ret) B.pre
  have hts : ∀ w ∈ lw_all, w.before _ s = true := fun w h => hts w (List.mem_cons_of_mem _ h)
  have C : CX G cc y.cls y.name nL ret h p l s m av.toArray meth c := ⟨B.exec, B.bytes, hml, findClass_of_methodNamed B.named, hts, hok, hw, B.returns, B.notSynchronized, (name_of_methodNamed B.named B.method).1, hH.1, hH.2.1, hH.2.2.1⟩
  rw [lg_entry_eq]
  intro T hT X
  obtain ⟨t, a, b⟩ := hv2 p e s m av.toArray below meth c C s.heap [] 0 0 _ (by omega) (by omega) hH va_S.rf (lv_entry av hl) T hT X
  refine ⟨t, a, b fun m' a' below' meth' c' f1 f2 f3 => ?_⟩
  have f4 := X.frames.symm.trans f1
  have f5 : m = m' := by injection f4 with f5 f6; injection f5
  subst f5
  have f6 : meth' = meth := Option.some.inj (f2.symm.trans X.method)
  subst f6
  have f7 : c' = c := Option.some.inj (f3.symm.trans X.code)
  subst f7
  cases hq : c'.exceptionTable.toList with
  | nil => rfl
  | cons x xs => exact (htab x (by rw [hq]; exact List.mem_cons_self)).elim
theorem metA_byteAt {l : Launch} {G : GT} {h : Hp} {a n d : Nat} {f : Nat → Int32} (ha : ar h a 1 = some (n, .inl f)) (hn : n < 512) (hd2 : d < 2) : MetA l G yX0_byteAt (ws_ yX0_byteAt cX0_byteAt 2 (some .int)) 8 10300 [.ref a, .int (Int32.ofNat (n + d))] h := by
  refine metA_of (by decide) (Nat.le_of_ble_eq_true rfl) ?_
  refine v_aload_n dX0_byteAt_0 rfl 0 rfl ?_
  refine v_iload_n dX0_byteAt_1 rfl 1 rfl ?_
  exact v_baldOut dX0_byteAt_2 ha hn hd2 (by omega) (by omega) (Nat.le_of_ble_eq_true rfl)
section V29b
variable {l : Launch} {G : GT} {cc : ByteArray} {own nm : String} {nL : Nat} {ret : Option FieldType} {fr lo : Nat} {h0 hE h h1 : Hp} {pc : Nat} {L L' : List (Nat × Value)} {st : List Value} {α : Type} {r : α}
/-- a static call that throws so, caught here -/
theorem v_calSA {idx n maxL frc loc : Nat} {y : MethodName} {bytes : ByteArray} {rt : Option FieldType} {av stk : List Value} {hh : List (Nat × Nat × Nat × Nat)} {res : Rs} (hd : decode cc pc = .ok (.invokestatic idx, 3)) (c2 : Cond.initialized y.cls ∈ lw_all) (c3 : nmh y.cls) (c4 : (parseMethodDescriptor y.desc).map (fun d => d.parameters.length) = some n) (c5 : Cond.static y ∈ lw_all) (c6 : Cond.methodLink own idx y ∈ lw_all) (hcd : Cond.code y bytes maxL rt ∈ lw_all) (hM : MetA l G y (ws_ y bytes maxL rt) frc loc av h) (hst : stk = av.reverse ++ st) (hn : av.length = n) (hfr : frc + 1 ≤ fr) (hlo : 8 + (maxL + 11) + loc ≤ lo) (hw : (st.map fun v => v.category).sum ≤ 8)
    (x : ExceptionTableEntry) (suf : List ExceptionTableEntry) (hsplit : tableOf hh = x :: suf) (hx : covers x pc = true) (hx0 : x.catchType ≠ 0) (hlink : Cond.classLink own x.catchType aioE ∈ lw_all) (hcast : Cond.castable aioE aioE ∈ lw_tbl)
    (K : ∀ q : Nat, V l G cc own nm nL ret fr lo h0 hE (QX G hh res h0 hE) x.handlerPc L [.ref q] (h3 h)) : V l G cc own nm nL ret fr lo h0 hE (QX G hh res h0 hE) pc L stk h := by
  have k1 : h.1 + 3 ≤ hE.1 := (K 0).1.1
  have k2 : h.2.1 + 250 ≤ hE.2.1 := (K 0).1.2
  refine ⟨⟨by omega, by omega⟩, fun p e s m args below meth c C H locs cells slots ls e1 e2 e3 e4 e5 => ?_⟩
  intro T hT X
  by_cases htb : TBs hh s
  · have htab : c.exceptionTable.toList = tableOf hh := htb m args below meth c X.frames X.method X.code
    have hts := C.2.2.2.2.1
    have hGI : GoodIn lw_all (ws_ y bytes maxL rt) := lw_meth hcd
    have hcb : Cond.code y bytes maxL rt ∈ ws_ y bytes maxL rt := List.mem_cons_self
    have hlen : ∀ sig, parseMethodDescriptor y.desc = some sig → n = sig.parameters.length := by
      intro sig h
      rw [h] at c4
      exact (Option.some.inj c4).symm
    have hfix : CallFix p m c cc nL s args lw_all own := ⟨C.1, C.2.1, C.2.2.1, C.2.2.2.1, hts⟩
    have hpre : PreS s H (va_Pc av (PreH l G h)) av := ⟨preH_blind, fun U hU hW => ⟨rfl, C.2.2.2.2.2.1, State.WarmedH.trans C.2.2.2.2.2.2.1 hW, by rw [hU]; exact e3⟩⟩
    have hbk : ∀ w ∈ ws_ y bytes maxL rt, ∀ (a' : Array Value) (U : State), s.WarmedH U.vm → w.before a' U = true := pay_in hts hGI
    have hr := vq_runS (e := e) (R := { frames := fr, cells := hE.1 - h0.1, slots := hE.2.1 - h0.2.1, locals := lo }) (below := below) (meth := meth) (H := H) (locs := locs) (cells := cells) (slots := slots) (rest := st) (g := F0 m pc ls stk) hfix hM ⟨⟨rfl, rfl, hfr, hlo, hbk, hcb, hts _ hcd, hts _ c2, c3, hlen, hts _ c6⟩, hts _ c5⟩ hpre rfl hn e5.1 hst (lv_room hw) hd ⟨by show cells + 3 ≤ hE.1 - h0.1; omega, by show slots + 250 ≤ hE.2.1 - h0.2.1; omega⟩
    rcases hr T hT X with ⟨v, st₀, t, T', L1, z0, X', hL, g1, g2, hf, stp⟩ | ⟨q, st₀, t, T', L1, E, ce, z0, X', hL, g1, g2, ⟨hE9, hHS, hz, hk⟩, hce, hcv, hcl, stp⟩
    · exact hf.elim
    · subst hE9
      rw [z0] at hz hk
      have hca : (Cond.castable aioE aioE).before args s = true := va_Nw.use rfl (va_Nw.warmC C.2.2.2.2.2.2.1 (C.nw hcast rfl))
      have K2 := (K q).2 p e s m args below meth c C T'.heap (locs ++ L1) (cells + 3) (slots + 250) ls (show cells + 3 + h0.1 = h.1 + 3 by omega) (show slots + 250 + h0.2.1 = h.2.1 + 250 by omega) (by rw [g1]; exact hHS) (keep_S e4 (by rw [g1]; exact hz) (by rw [g1]; exact hk) hL) e5
      obtain ⟨t2, a1, b1⟩ := vq_catch (E := aioE) (ce := ce) (q := q) (pc := pc) (rest := st) C.2.2.2.1 [] x suf (htab.trans hsplit) (fun z hz => nomatch hz) hx hx0 (hts _ hlink) hca (by rw [g1]; exact hce) hcv hcl K2 T' rfl X'
      exact ⟨t2, stp.trans a1, b1⟩
  · exact ⟨_, Steps.refl _, fun z => absurd z htb⟩
end V29b
/-- a byte read, or the machine's refusal -/
def byc {β : Type} (c : Option Int32) (h : Hp) (a : Nat) (i : Int32) (f : Int32 → Option β) (g : Option β) : Option β := match ar h a 1 with
  | some (n, .inl _) => if inb i n = true then c.bind f else if n < 512 ∧ i = Int32.ofNat (n + 0) then g else if n < 512 ∧ i = Int32.ofNat (n + 1) then g else none
  | _ => none
theorem byc_spec {β : Type} {c : Option Int32} {h : Hp} {a : Nat} {i : Int32} {f : Int32 → Option β} {g : Option β} {r : β} (e : byc c h a i f g = some r) : (∃ v, c = some v ∧ f v = some r) ∨ ∃ (n d : Nat) (q : Nat → Int32), ar h a 1 = some (n, .inl q) ∧ n < 512 ∧ d < 2 ∧ i = Int32.ofNat (n + d) ∧ g = some r := by
  unfold byc at e
  split at e
  · next n q hq =>
    split at e
    · obtain ⟨v, h1, h2⟩ := Option.bind_eq_some_iff.mp e
      exact Or.inl ⟨v, h1, h2⟩
    · split at e
      · next h1 => exact Or.inr ⟨n, 0, q, hq, h1.1, by omega, h1.2, e⟩
      · split at e
        · next h1 => exact Or.inr ⟨n, 1, q, hq, h1.1, by omega, h1.2, e⟩
        · cases e
  · cases e
