/-! V: small rows that the printed walks use -/
set_option maxRecDepth 100000
section V7
variable {l : Launch} {G : GT} {cc : ByteArray} {own nm : String} {nL : Nat} {ret : Option FieldType} {fr lo : Nat} {h0 hE h h1 : Hp} {Qf : List Frame → Array Value → State → State → Prop} {pc : Nat} {L L' : List (Nat × Value)} {st st' : List Value} {α : Type} {r : α}
theorem v_if_eq0 {x : Int32} {off : Int} {tgt : Nat} (hd : decode cc pc = .ok (.ifCond .eq off, 3)) (ht : (pc : Int) + off = (tgt : Int)) (kt : x = 0 → V l G cc own nm nL ret fr lo h0 hE Qf tgt L st h) (kf : ¬ x = 0 → V l G cc own nm nL ret fr lo h0 hE Qf (pc + 3) L st h) : V l G cc own nm nL ret fr lo h0 hE Qf pc L (.int x :: st) h :=
  v_lift2 (fun hx hb a b => lv_if_eq hx hb hd ht a b) kt kf
theorem v_icmp_eq0 {x y : Int32} {off : Int} {tgt : Nat} (hd : decode cc pc = .ok (.if_icmp .eq off, 3)) (ht : (pc : Int) + off = (tgt : Int)) (kt : x = y → V l G cc own nm nL ret fr lo h0 hE Qf tgt L st h) (kf : ¬ x = y → V l G cc own nm nL ret fr lo h0 hE Qf (pc + 3) L st h) : V l G cc own nm nL ret fr lo h0 hE Qf pc L (.int y :: .int x :: st) h :=
  v_lift2 (fun hx hb a b => lv_icmp_eq hx hb hd ht a b) kt kf
theorem v_if_ne0 {x : Int32} {off : Int} {tgt : Nat} (hd : decode cc pc = .ok (.ifCond .ne off, 3)) (ht : (pc : Int) + off = (tgt : Int)) (kt : x = 0 → V l G cc own nm nL ret fr lo h0 hE Qf (pc + 3) L st h) (kf : ¬ x = 0 → V l G cc own nm nL ret fr lo h0 hE Qf tgt L st h) : V l G cc own nm nL ret fr lo h0 hE Qf pc L (.int x :: st) h :=
  v_lift2 (fun hx hb a b => lv_if_ne hx hb hd ht (fun z => b z) (fun z => a z)) kt kf
theorem v_icmp_ne0 {x y : Int32} {off : Int} {tgt : Nat} (hd : decode cc pc = .ok (.if_icmp .ne off, 3)) (ht : (pc : Int) + off = (tgt : Int)) (kt : x = y → V l G cc own nm nL ret fr lo h0 hE Qf (pc + 3) L st h) (kf : ¬ x = y → V l G cc own nm nL ret fr lo h0 hE Qf tgt L st h) : V l G cc own nm nL ret fr lo h0 hE Qf pc L (.int y :: .int x :: st) h :=
  v_lift2 (fun hx hb a b => lv_icmp_ne hx hb hd ht (fun z => b z) (fun z => a z)) kt kf
theorem v_if_lt0 {x : Int32} {off : Int} {tgt : Nat} (hd : decode cc pc = .ok (.ifCond .lt off, 3)) (ht : (pc : Int) + off = (tgt : Int)) (kt : x < 0 → V l G cc own nm nL ret fr lo h0 hE Qf tgt L st h) (kf : ¬ x < 0 → V l G cc own nm nL ret fr lo h0 hE Qf (pc + 3) L st h) : V l G cc own nm nL ret fr lo h0 hE Qf pc L (.int x :: st) h :=
  v_lift2 (fun hx hb a b => lv_if_lt hx hb hd ht a b) kt kf
theorem v_icmp_lt0 {x y : Int32} {off : Int} {tgt : Nat} (hd : decode cc pc = .ok (.if_icmp .lt off, 3)) (ht : (pc : Int) + off = (tgt : Int)) (kt : x < y → V l G cc own nm nL ret fr lo h0 hE Qf tgt L st h) (kf : ¬ x < y → V l G cc own nm nL ret fr lo h0 hE Qf (pc + 3) L st h) : V l G cc own nm nL ret fr lo h0 hE Qf pc L (.int y :: .int x :: st) h :=
  v_lift2 (fun hx hb a b => lv_icmp_lt hx hb hd ht a b) kt kf
theorem v_if_ge0 {x : Int32} {off : Int} {tgt : Nat} (hd : decode cc pc = .ok (.ifCond .ge off, 3)) (ht : (pc : Int) + off = (tgt : Int)) (kt : 0 ≤ x → V l G cc own nm nL ret fr lo h0 hE Qf tgt L st h) (kf : ¬ 0 ≤ x → V l G cc own nm nL ret fr lo h0 hE Qf (pc + 3) L st h) : V l G cc own nm nL ret fr lo h0 hE Qf pc L (.int x :: st) h :=
  v_lift2 (fun hx hb a b => lv_if_ge hx hb hd ht a b) kt kf
theorem v_icmp_ge0 {x y : Int32} {off : Int} {tgt : Nat} (hd : decode cc pc = .ok (.if_icmp .ge off, 3)) (ht : (pc : Int) + off = (tgt : Int)) (kt : y ≤ x → V l G cc own nm nL ret fr lo h0 hE Qf tgt L st h) (kf : ¬ y ≤ x → V l G cc own nm nL ret fr lo h0 hE Qf (pc + 3) L st h) : V l G cc own nm nL ret fr lo h0 hE Qf pc L (.int y :: .int x :: st) h :=
  v_lift2 (fun hx hb a b => lv_icmp_ge hx hb hd ht a b) kt kf
theorem v_if_gt0 {x : Int32} {off : Int} {tgt : Nat} (hd : decode cc pc = .ok (.ifCond .gt off, 3)) (ht : (pc : Int) + off = (tgt : Int)) (kt : 0 < x → V l G cc own nm nL ret fr lo h0 hE Qf tgt L st h) (kf : ¬ 0 < x → V l G cc own nm nL ret fr lo h0 hE Qf (pc + 3) L st h) : V l G cc own nm nL ret fr lo h0 hE Qf pc L (.int x :: st) h :=
  v_lift2 (fun hx hb a b => lv_if_gt hx hb hd ht a b) kt kf
theorem v_icmp_gt0 {x y : Int32} {off : Int} {tgt : Nat} (hd : decode cc pc = .ok (.if_icmp .gt off, 3)) (ht : (pc : Int) + off = (tgt : Int)) (kt : y < x → V l G cc own nm nL ret fr lo h0 hE Qf tgt L st h) (kf : ¬ y < x → V l G cc own nm nL ret fr lo h0 hE Qf (pc + 3) L st h) : V l G cc own nm nL ret fr lo h0 hE Qf pc L (.int y :: .int x :: st) h :=
  v_lift2 (fun hx hb a b => lv_icmp_gt hx hb hd ht a b) kt kf
theorem v_if_le0 {x : Int32} {off : Int} {tgt : Nat} (hd : decode cc pc = .ok (.ifCond .le off, 3)) (ht : (pc : Int) + off = (tgt : Int)) (kt : x ≤ 0 → V l G cc own nm nL ret fr lo h0 hE Qf tgt L st h) (kf : ¬ x ≤ 0 → V l G cc own nm nL ret fr lo h0 hE Qf (pc + 3) L st h) : V l G cc own nm nL ret fr lo h0 hE Qf pc L (.int x :: st) h :=
  v_lift2 (fun hx hb a b => lv_if_le hx hb hd ht a b) kt kf
theorem v_icmp_le0 {x y : Int32} {off : Int} {tgt : Nat} (hd : decode cc pc = .ok (.if_icmp .le off, 3)) (ht : (pc : Int) + off = (tgt : Int)) (kt : x ≤ y → V l G cc own nm nL ret fr lo h0 hE Qf tgt L st h) (kf : ¬ x ≤ y → V l G cc own nm nL ret fr lo h0 hE Qf (pc + 3) L st h) : V l G cc own nm nL ret fr lo h0 hE Qf pc L (.int y :: .int x :: st) h :=
  v_lift2 (fun hx hb a b => lv_icmp_le hx hb hd ht a b) kt kf
/-- two pure ways that meet: what was pushed is the 'if' -/
theorem v_tern {c : Prop} [Decidable c] {x y : Int32} {pcj pt pf : Nat} {st1 : List Value} (K : V l G cc own nm nL ret fr lo h0 hE Qf pcj L (.int (if c then x else y) :: st) h) (br : (c → V l G cc own nm nL ret fr lo h0 hE Qf pt L st1 h) → (¬ c → V l G cc own nm nL ret fr lo h0 hE Qf pf L st1 h) → V l G cc own nm nL ret fr lo h0 hE Qf pc L st' h) (kt : V l G cc own nm nL ret fr lo h0 hE Qf pcj L (.int x :: st) h → V l G cc own nm nL ret fr lo h0 hE Qf pt L st1 h) (kf : V l G cc own nm nL ret fr lo h0 hE Qf pcj L (.int y :: st) h → V l G cc own nm nL ret fr lo h0 hE Qf pf L st1 h) : V l G cc own nm nL ret fr lo h0 hE Qf pc L st' h := by
  refine br (fun hc => ?_) (fun hc => ?_)
  · rw [if_pos hc] at K; exact kt K
  · rw [if_neg hc] at K; exact kf K
def rz (x : Int32) : Option Int32 := if x = 0 ∨ x = 1 then some x else none
theorem v_zchk {x : Int32} {rest : Int32 → Option α} (hF : (rz x).bind rest = some r) (kk : ∀ y, (y = 0 ∨ y = 1) → rest y = some r → V l G cc own nm nL ret fr lo h0 hE Qf pc L (.int y :: st) h) : V l G cc own nm nL ret fr lo h0 hE Qf pc L (.int x :: st) h := by
  obtain ⟨y, q1, q2⟩ := Option.bind_eq_some_iff.mp hF
  obtain ⟨hy, rfl⟩ := ifs q1
  exact kk _ hy q2
theorem nar_z {y : Int32} (h : y = 0 ∨ y = 1) : narrow .boolean (.int y) = .int y := by
  rcases h with rfl | rfl <;> decide +kernel
theorem v_letM {m0 : Nat} {hb : Hp} {x : TM} {rest : TM → Option α} (hF : (some x).bind rest = some r) (kk : ∀ y, rest y = some r → V l G cc own nm nL ret fr lo h0 hE Qf pc L st (ovT m0 y hb)) : V l G cc own nm nL ret fr lo h0 hE Qf pc L st (ovT m0 x hb) := kk x hF
theorem v_calV1 {idx a n maxL frc loc : Nat} {cs : List Nat} {y : MethodName} {bytes : ByteArray} {rt : Option FieldType} {av stk : List Value} {v : Value} (hd : decode cc pc = .ok (.invokevirtual idx, 3)) (vl : ∀ ci ∈ cs, VL own idx ci y n) (hcd : Cond.code y bytes maxL rt ∈ lw_all) (rc : RC h a cs) (ct : Ct l G y (ws_ y bytes maxL rt) frc loc (.ref a :: av) h (some v) h1) (hst : stk = av.reverse ++ .ref a :: st) (hn : av.length = n) (hfr : frc + 1 ≤ fr) (hlo : 8 + (maxL + 11) + loc ≤ lo) (hw : (st.map fun v => v.category).sum ≤ 8)
    (K : V l G cc own nm nL ret fr lo h0 hE Qf (pc + 3) L (v :: st) h1) : V l G cc own nm nL ret fr lo h0 hE Qf pc L stk h := v_calV hd vl hcd rc ct hst hn hfr hlo hw K
theorem v_calV0 {idx a n maxL frc loc : Nat} {cs : List Nat} {y : MethodName} {bytes : ByteArray} {rt : Option FieldType} {av stk : List Value} (hd : decode cc pc = .ok (.invokevirtual idx, 3)) (vl : ∀ ci ∈ cs, VL own idx ci y n) (hcd : Cond.code y bytes maxL rt ∈ lw_all) (rc : RC h a cs) (ct : Ct l G y (ws_ y bytes maxL rt) frc loc (.ref a :: av) h none h1) (hst : stk = av.reverse ++ .ref a :: st) (hn : av.length = n) (hfr : frc + 1 ≤ fr) (hlo : 8 + (maxL + 11) + loc ≤ lo) (hw : (st.map fun v => v.category).sum ≤ 8)
    (K : V l G cc own nm nL ret fr lo h0 hE Qf (pc + 3) L st h1) : V l G cc own nm nL ret fr lo h0 hE Qf pc L stk h := v_calV hd vl hcd rc ct hst hn hfr hlo hw K
theorem v_calS1 {idx n maxL frc loc : Nat} {y : MethodName} {bytes : ByteArray} {rt : Option FieldType} {av stk : List Value} {v : Value} (hd : decode cc pc = .ok (.invokestatic idx, 3)) (sl : SL own idx y n) (hcd : Cond.code y bytes maxL rt ∈ lw_all) (ct : Ct l G y (ws_ y bytes maxL rt) frc loc av h (some v) h1) (hst : stk = av.reverse ++ st) (hn : av.length = n) (hfr : frc + 1 ≤ fr) (hlo : 8 + (maxL + 11) + loc ≤ lo) (hw : (st.map fun v => v.category).sum ≤ 8)
    (K : V l G cc own nm nL ret fr lo h0 hE Qf (pc + 3) L (v :: st) h1) : V l G cc own nm nL ret fr lo h0 hE Qf pc L stk h := v_calS hd sl hcd ct hst hn hfr hlo hw K
theorem v_calS0 {idx n maxL frc loc : Nat} {y : MethodName} {bytes : ByteArray} {rt : Option FieldType} {av stk : List Value} (hd : decode cc pc = .ok (.invokestatic idx, 3)) (sl : SL own idx y n) (hcd : Cond.code y bytes maxL rt ∈ lw_all) (ct : Ct l G y (ws_ y bytes maxL rt) frc loc av h none h1) (hst : stk = av.reverse ++ st) (hn : av.length = n) (hfr : frc + 1 ≤ fr) (hlo : 8 + (maxL + 11) + loc ≤ lo) (hw : (st.map fun v => v.category).sum ≤ 8)
    (K : V l G cc own nm nL ret fr lo h0 hE Qf (pc + 3) L st h1) : V l G cc own nm nL ret fr lo h0 hE Qf pc L stk h := v_calS hd sl hcd ct hst hn hfr hlo hw K
theorem v_swOut {dflt slo shi : Int} {offs : Array Int} {len : Nat} {x : Int32} {A B : Option α} (hd : decode cc pc = .ok (.tableswitch dflt slo shi offs, len)) {td : Nat} (htd : (pc : Int) + dflt = (td : Int)) (hF : (if x.toInt < slo ∨ shi < x.toInt then A else B) = some r) (kd : A = some r → V l G cc own nm nL ret fr lo h0 hE Qf td L st h) (k : slo ≤ x.toInt → x.toInt ≤ shi → B = some r → V l G cc own nm nL ret fr lo h0 hE Qf pc L (.int x :: st) h) : V l G cc own nm nL ret fr lo h0 hE Qf pc L (.int x :: st) h := by
  by_cases hc : x.toInt < slo ∨ shi < x.toInt
  · rw [if_pos hc] at hF
    exact v_lift (fun hx hb _ _ hh kk => lv_tableOut hx hb hd hc htd (kk _ hh)) (kd hF)
  · rw [if_neg hc] at hF
    exact k (by omega) (by omega) hF
theorem v_swIn {dflt slo shi i off : Int} {offs : Array Int} {len tgt : Nat} {x : Int32} (hd : decode cc pc = .ok (.tableswitch dflt slo shi offs, len)) (hi : x.toInt = i) (h1 : slo ≤ i) (h2 : i ≤ shi) (ho : offs[(i - slo).toNat]? = some off) (ht : (pc : Int) + off = (tgt : Int)) (K : V l G cc own nm nL ret fr lo h0 hE Qf tgt L st h) : V l G cc own nm nL ret fr lo h0 hE Qf pc L (.int x :: st) h := by
  subst hi
  exact v_lift (fun hx hb _ _ hh kk => lv_tableIn hx hb hd (by omega) (by omega) ho ht (kk _ hh)) K
theorem v_case {i : Int} {x : Int32} {A B : Option α} (hF : (if x.toInt = i then A else B) = some r) (kt : x.toInt = i → A = some r → V l G cc own nm nL ret fr lo h0 hE Qf pc L (.int x :: st) h) (kf : ¬ x.toInt = i → B = some r → V l G cc own nm nL ret fr lo h0 hE Qf pc L (.int x :: st) h) : V l G cc own nm nL ret fr lo h0 hE Qf pc L (.int x :: st) h := by
  by_cases hc : x.toInt = i
  · rw [if_pos hc] at hF; exact kt hc hF
  · rw [if_neg hc] at hF; exact kf hc hF
theorem nar_q {n : String} (x : Option Nat) : narrow (.object n) (va_rf x) = va_rf x := by cases x <;> rfl
theorem fit_q {n : String} (x : Option Nat) : fits (.object n) (va_rf x) = true := by cases x <;> rfl
theorem nar_qa {t : FieldType} (x : Option Nat) : narrow (.array t) (va_rf x) = va_rf x := by cases x <;> rfl
theorem fit_qa {t : FieldType} (x : Option Nat) : fits (.array t) (va_rf x) = true := by cases x <;> rfl
end V7
