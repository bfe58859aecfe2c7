/-! V: one row an instruction: locals, stack, numbers, branches -/
set_option maxRecDepth 100000
section V2
variable {l : Launch} {G : GT} {cc : ByteArray} {own nm : String} {nL : Nat} {ret : Option FieldType} {fr lo : Nat} {h0 hE h : Hp} {Qf : List Frame → Array Value → State → State → Prop} {pc : Nat} {L L' : List (Nat × Value)} {st : List Value} {α : Type} {r : α}
theorem v_iconst {n : Int} {v : Int32} (hd : decode cc pc = .ok (.iconst n, 1)) (hv : Int32.ofInt n = v) (k : V l G cc own nm nL ret fr lo h0 hE Qf (pc + 1) L (.int v :: st) h) : V l G cc own nm nL ret fr lo h0 hE Qf pc L st h :=
  v_lift (fun hx hb _ _ hh kk => lv_iconst hx hb hd hv (kk _ hh)) k
theorem v_bipush {n : Int} {v : Int32} (hd : decode cc pc = .ok (.bipush n, 2)) (hv : (Int8.ofInt n).toInt32 = v) (k : V l G cc own nm nL ret fr lo h0 hE Qf (pc + 2) L (.int v :: st) h) : V l G cc own nm nL ret fr lo h0 hE Qf pc L st h :=
  v_lift (fun hx hb _ _ hh kk => lv_bipush hx hb hd hv (kk _ hh)) k
theorem v_sipush {n : Int} {v : Int32} (hd : decode cc pc = .ok (.sipush n, 3)) (hv : (Int16.ofInt n).toInt32 = v) (k : V l G cc own nm nL ret fr lo h0 hE Qf (pc + 3) L (.int v :: st) h) : V l G cc own nm nL ret fr lo h0 hE Qf pc L st h :=
  v_lift (fun hx hb _ _ hh kk => lv_sipush hx hb hd hv (kk _ hh)) k
theorem v_lconst {n : Fin 2} {v : Int64} (hd : decode cc pc = .ok (.lconst n, 1)) (hv : Int64.ofNat (n : Nat) = v) (k : V l G cc own nm nL ret fr lo h0 hE Qf (pc + 1) L (.long v :: st) h) : V l G cc own nm nL ret fr lo h0 hE Qf pc L st h :=
  v_lift (fun hx hb _ _ hh kk => lv_lconst hx hb hd hv (kk _ hh)) k
theorem v_null (hd : decode cc pc = .ok (.aconst_null, 1)) (k : V l G cc own nm nL ret fr lo h0 hE Qf (pc + 1) L (va_rf none :: st) h) : V l G cc own nm nL ret fr lo h0 hE Qf pc L st h :=
  v_lift (fun hx hb _ _ hh kk => lv_null hx hb hd (kk _ hh)) k
theorem v_ldc {i : Nat} {v : Int32} (hd : decode cc pc = .ok (.ldc i, 2)) (w : Cond.constant own i v ∈ lw_all) (k : V l G cc own nm nL ret fr lo h0 hE Qf (pc + 2) L (.int v :: st) h) : V l G cc own nm nL ret fr lo h0 hE Qf pc L st h :=
  v_lift (fun hx hb ho hts hh kk => lv_ldc hx hb ho (hts _ w) hd (kk _ hh)) k
theorem v_ldcw {i : Nat} {v : Int32} (hd : decode cc pc = .ok (.ldc_w i, 3)) (w : Cond.constant own i v ∈ lw_all) (k : V l G cc own nm nL ret fr lo h0 hE Qf (pc + 3) L (.int v :: st) h) : V l G cc own nm nL ret fr lo h0 hE Qf pc L st h :=
  v_lift (fun hx hb ho hts hh kk => lv_ldcw hx hb ho (hts _ w) hd (kk _ hh)) k
theorem v_ldc2 {i : Nat} {v : Int64} (hd : decode cc pc = .ok (.ldc2_w i, 3)) (w : Cond.constantLong own i v ∈ lw_all) (k : V l G cc own nm nL ret fr lo h0 hE Qf (pc + 3) L (.long v :: st) h) : V l G cc own nm nL ret fr lo h0 hE Qf pc L st h :=
  v_lift (fun hx hb ho hts hh kk => lv_ldc2 hx hb ho (hts _ w) hd (kk _ hh)) k
theorem v_istore_n {k : Fin 4} {i : Nat} {x : Int32} (hd : decode cc pc = .ok (.istore_n k, 1)) (hi : (k : Nat) = i) (hn : i < nL) (hl : (i, Value.int x) :: L.filter (fun q => !(q.1 == i) && !(q.1 + 1 == i && q.2.category == 2)) = L') (k' : V l G cc own nm nL ret fr lo h0 hE Qf (pc + 1) L' st h) : V l G cc own nm nL ret fr lo h0 hE Qf pc L (.int x :: st) h :=
  v_lift (fun hx hb _ _ hh kk => lv_istore_n hx hb hd hi hh hn hl kk) k'
theorem v_istore {i : Nat} {x : Int32} (hd : decode cc pc = .ok (.istore i, 2)) (hn : i < nL) (hl : (i, Value.int x) :: L.filter (fun q => !(q.1 == i) && !(q.1 + 1 == i && q.2.category == 2)) = L') (k' : V l G cc own nm nL ret fr lo h0 hE Qf (pc + 2) L' st h) : V l G cc own nm nL ret fr lo h0 hE Qf pc L (.int x :: st) h :=
  v_lift (fun hx hb _ _ hh kk => lv_istore hx hb hd hh hn hl kk) k'
theorem v_astore_n {k : Fin 4} {i : Nat} {x : Nat} (hd : decode cc pc = .ok (.astore_n k, 1)) (hi : (k : Nat) = i) (hn : i < nL) (hl : (i, Value.ref x) :: L.filter (fun q => !(q.1 == i) && !(q.1 + 1 == i && q.2.category == 2)) = L') (k' : V l G cc own nm nL ret fr lo h0 hE Qf (pc + 1) L' st h) : V l G cc own nm nL ret fr lo h0 hE Qf pc L (.ref x :: st) h :=
  v_lift (fun hx hb _ _ hh kk => lv_astore_n hx hb hd hi hh hn hl kk) k'
theorem v_astore {i : Nat} {x : Nat} (hd : decode cc pc = .ok (.astore i, 2)) (hn : i < nL) (hl : (i, Value.ref x) :: L.filter (fun q => !(q.1 == i) && !(q.1 + 1 == i && q.2.category == 2)) = L') (k' : V l G cc own nm nL ret fr lo h0 hE Qf (pc + 2) L' st h) : V l G cc own nm nL ret fr lo h0 hE Qf pc L (.ref x :: st) h :=
  v_lift (fun hx hb _ _ hh kk => lv_astore hx hb hd hh hn hl kk) k'
theorem v_astoreq_n {k : Fin 4} {i : Nat} {x : Option Nat} (hd : decode cc pc = .ok (.astore_n k, 1)) (hi : (k : Nat) = i) (hn : i < nL) (hl : (i, va_rf x) :: L.filter (fun q => !(q.1 == i) && !(q.1 + 1 == i && q.2.category == 2)) = L') (k' : V l G cc own nm nL ret fr lo h0 hE Qf (pc + 1) L' st h) : V l G cc own nm nL ret fr lo h0 hE Qf pc L (va_rf x :: st) h := by
  cases x with
  | none => exact v_lift (fun hx hb _ _ hh kk => lv_astore_nN hx hb hd hi hh hn hl kk) k'
  | some a => exact v_lift (fun hx hb _ _ hh kk => lv_astore_n hx hb hd hi hh hn hl kk) k'
theorem v_astoreq {i : Nat} {x : Option Nat} (hd : decode cc pc = .ok (.astore i, 2)) (hn : i < nL) (hl : (i, va_rf x) :: L.filter (fun q => !(q.1 == i) && !(q.1 + 1 == i && q.2.category == 2)) = L') (k' : V l G cc own nm nL ret fr lo h0 hE Qf (pc + 2) L' st h) : V l G cc own nm nL ret fr lo h0 hE Qf pc L (va_rf x :: st) h := by
  cases x with
  | none => exact v_lift (fun hx hb _ _ hh kk => lv_astoreN hx hb hd hh hn hl kk) k'
  | some a => exact v_lift (fun hx hb _ _ hh kk => lv_astore hx hb hd hh hn hl kk) k'
theorem v_lstore_n {k : Fin 4} {i : Nat} {x : Int64} (hd : decode cc pc = .ok (.lstore_n k, 1)) (hi : (k : Nat) = i) (hn : i + 1 < nL) (hl : (i, Value.long x) :: L.filter (fun q => !(q.1 == i) && (!(q.1 == i + 1) && !(q.1 + 1 == i && q.2.category == 2))) = L') (k' : V l G cc own nm nL ret fr lo h0 hE Qf (pc + 1) L' st h) : V l G cc own nm nL ret fr lo h0 hE Qf pc L (.long x :: st) h :=
  v_lift (fun hx hb _ _ hh kk => lv_lstore_n hx hb hd hi hh hn hl kk) k'
theorem v_lstore {i : Nat} {x : Int64} (hd : decode cc pc = .ok (.lstore i, 2)) (hn : i + 1 < nL) (hl : (i, Value.long x) :: L.filter (fun q => !(q.1 == i) && (!(q.1 == i + 1) && !(q.1 + 1 == i && q.2.category == 2))) = L') (k' : V l G cc own nm nL ret fr lo h0 hE Qf (pc + 2) L' st h) : V l G cc own nm nL ret fr lo h0 hE Qf pc L (.long x :: st) h :=
  v_lift (fun hx hb _ _ hh kk => lv_lstore hx hb hd hh hn hl kk) k'
theorem v_iinc {i : Nat} {n : Int} {x v : Int32} (hd : decode cc pc = .ok (.iinc i n, 3)) (j : Nat) (hj : L[j]? = some (i, .int x)) (hv : x + Int32.ofInt n = v) (hn : i < nL) (hl : (i, Value.int v) :: L.filter (fun q => !(q.1 == i) && !(q.1 + 1 == i && q.2.category == 2)) = L') (k' : V l G cc own nm nL ret fr lo h0 hE Qf (pc + 3) L' st h) : V l G cc own nm nL ret fr lo h0 hE Qf pc L st h :=
  v_lift (fun hx hb _ _ hh kk => lv_iinc hx hb hd hh hj hv hn hl kk) k'
theorem v_sub (ks : List Nat) (hl : lv_pick L ks = L') (k : V l G cc own nm nL ret fr lo h0 hE Qf pc L' st h) : V l G cc own nm nL ret fr lo h0 hE Qf pc L st h :=
  v_lift (fun _ _ _ _ hh kk => kk _ (lv_sub hh ks hl)) k
theorem v_iadd {x y : Int32} (hd : decode cc pc = .ok (.iadd, 1)) (k : V l G cc own nm nL ret fr lo h0 hE Qf (pc + 1) L (.int (x + y) :: st) h) : V l G cc own nm nL ret fr lo h0 hE Qf pc L (.int y :: .int x :: st) h := v_lift (fun hx hb _ _ hh kk => lv_iadd hx hb hd (kk _ hh)) k
theorem v_isub {x y : Int32} (hd : decode cc pc = .ok (.isub, 1)) (k : V l G cc own nm nL ret fr lo h0 hE Qf (pc + 1) L (.int (x - y) :: st) h) : V l G cc own nm nL ret fr lo h0 hE Qf pc L (.int y :: .int x :: st) h := v_lift (fun hx hb _ _ hh kk => lv_isub hx hb hd (kk _ hh)) k
theorem v_imul {x y : Int32} (hd : decode cc pc = .ok (.imul, 1)) (k : V l G cc own nm nL ret fr lo h0 hE Qf (pc + 1) L (.int (x * y) :: st) h) : V l G cc own nm nL ret fr lo h0 hE Qf pc L (.int y :: .int x :: st) h := v_lift (fun hx hb _ _ hh kk => lv_imul hx hb hd (kk _ hh)) k
theorem v_iand {x y : Int32} (hd : decode cc pc = .ok (.iand, 1)) (k : V l G cc own nm nL ret fr lo h0 hE Qf (pc + 1) L (.int (x &&& y) :: st) h) : V l G cc own nm nL ret fr lo h0 hE Qf pc L (.int y :: .int x :: st) h := v_lift (fun hx hb _ _ hh kk => lv_iand hx hb hd (kk _ hh)) k
theorem v_ior {x y : Int32} (hd : decode cc pc = .ok (.ior, 1)) (k : V l G cc own nm nL ret fr lo h0 hE Qf (pc + 1) L (.int (x ||| y) :: st) h) : V l G cc own nm nL ret fr lo h0 hE Qf pc L (.int y :: .int x :: st) h := v_lift (fun hx hb _ _ hh kk => lv_ior hx hb hd (kk _ hh)) k
theorem v_ixor {x y : Int32} (hd : decode cc pc = .ok (.ixor, 1)) (k : V l G cc own nm nL ret fr lo h0 hE Qf (pc + 1) L (.int (x ^^^ y) :: st) h) : V l G cc own nm nL ret fr lo h0 hE Qf pc L (.int y :: .int x :: st) h := v_lift (fun hx hb _ _ hh kk => lv_ixor hx hb hd (kk _ hh)) k
theorem v_ishl {x y : Int32} (hd : decode cc pc = .ok (.ishl, 1)) (k : V l G cc own nm nL ret fr lo h0 hE Qf (pc + 1) L (.int (x <<< (y &&& 31)) :: st) h) : V l G cc own nm nL ret fr lo h0 hE Qf pc L (.int y :: .int x :: st) h := v_lift (fun hx hb _ _ hh kk => lv_ishl hx hb hd (kk _ hh)) k
theorem v_ishr {x y : Int32} (hd : decode cc pc = .ok (.ishr, 1)) (k : V l G cc own nm nL ret fr lo h0 hE Qf (pc + 1) L (.int (x >>> (y &&& 31)) :: st) h) : V l G cc own nm nL ret fr lo h0 hE Qf pc L (.int y :: .int x :: st) h := v_lift (fun hx hb _ _ hh kk => lv_ishr hx hb hd (kk _ hh)) k
theorem v_iushr {x y : Int32} (hd : decode cc pc = .ok (.iushr, 1)) (k : V l G cc own nm nL ret fr lo h0 hE Qf (pc + 1) L (.int (x.toUInt32 >>> (y.toUInt32 &&& Int32.toUInt32 31)).toInt32 :: st) h) : V l G cc own nm nL ret fr lo h0 hE Qf pc L (.int y :: .int x :: st) h := v_lift (fun hx hb _ _ hh kk => lv_iushr hx hb hd rfl (kk _ hh)) k
theorem v_ineg {x : Int32} (hd : decode cc pc = .ok (.ineg, 1)) (k : V l G cc own nm nL ret fr lo h0 hE Qf (pc + 1) L (.int (-x) :: st) h) : V l G cc own nm nL ret fr lo h0 hE Qf pc L (.int x :: st) h := v_lift (fun hx hb _ _ hh kk => lv_ineg hx hb hd (kk _ hh)) k
theorem v_ladd {x y : Int64} (hd : decode cc pc = .ok (.ladd, 1)) (k : V l G cc own nm nL ret fr lo h0 hE Qf (pc + 1) L (.long (x + y) :: st) h) : V l G cc own nm nL ret fr lo h0 hE Qf pc L (.long y :: .long x :: st) h := v_lift (fun hx hb _ _ hh kk => lv_ladd hx hb hd (kk _ hh)) k
theorem v_lsub {x y : Int64} (hd : decode cc pc = .ok (.lsub, 1)) (k : V l G cc own nm nL ret fr lo h0 hE Qf (pc + 1) L (.long (x - y) :: st) h) : V l G cc own nm nL ret fr lo h0 hE Qf pc L (.long y :: .long x :: st) h := v_lift (fun hx hb _ _ hh kk => lv_lsub hx hb hd (kk _ hh)) k
theorem v_lmul {x y : Int64} (hd : decode cc pc = .ok (.lmul, 1)) (k : V l G cc own nm nL ret fr lo h0 hE Qf (pc + 1) L (.long (x * y) :: st) h) : V l G cc own nm nL ret fr lo h0 hE Qf pc L (.long y :: .long x :: st) h := v_lift (fun hx hb _ _ hh kk => lv_lmul hx hb hd (kk _ hh)) k
theorem v_idiv {x y : Int32} (hd : decode cc pc = .ok (.idiv, 1)) {A : Option α} (hF : (if y = 0 then none else A) = some r) (k : A = some r → V l G cc own nm nL ret fr lo h0 hE Qf (pc + 1) L (.int (x / y) :: st) h) : V l G cc own nm nL ret fr lo h0 hE Qf pc L (.int y :: .int x :: st) h := by
  by_cases hy : y = 0
  · rw [if_pos hy] at hF; cases hF
  · rw [if_neg hy] at hF
    exact v_lift (fun hx hb _ _ hh kk => lv_idiv hx hb hd hy (kk _ hh)) (k hF)
theorem v_irem {x y : Int32} (hd : decode cc pc = .ok (.irem, 1)) {A : Option α} (hF : (if y = 0 then none else A) = some r) (k : A = some r → V l G cc own nm nL ret fr lo h0 hE Qf (pc + 1) L (.int (x - x / y * y) :: st) h) : V l G cc own nm nL ret fr lo h0 hE Qf pc L (.int y :: .int x :: st) h := by
  by_cases hy : y = 0
  · rw [if_pos hy] at hF; cases hF
  · rw [if_neg hy] at hF
    exact v_lift (fun hx hb _ _ hh kk => lv_irem hx hb hd hy (kk _ hh)) (k hF)
theorem v_ldiv {x y : Int64} (hd : decode cc pc = .ok (.ldiv, 1)) {A : Option α} (hF : (if y = 0 then none else A) = some r) (k : A = some r → V l G cc own nm nL ret fr lo h0 hE Qf (pc + 1) L (.long (x / y) :: st) h) : V l G cc own nm nL ret fr lo h0 hE Qf pc L (.long y :: .long x :: st) h := by
  by_cases hy : y = 0
  · rw [if_pos hy] at hF; cases hF
  · rw [if_neg hy] at hF
    exact v_lift (fun hx hb _ _ hh kk => lv_ldiv hx hb hd hy (kk _ hh)) (k hF)
theorem v_lrem {x y : Int64} (hd : decode cc pc = .ok (.lrem, 1)) {A : Option α} (hF : (if y = 0 then none else A) = some r) (k : A = some r → V l G cc own nm nL ret fr lo h0 hE Qf (pc + 1) L (.long (x - x / y * y) :: st) h) : V l G cc own nm nL ret fr lo h0 hE Qf pc L (.long y :: .long x :: st) h := by
  by_cases hy : y = 0
  · rw [if_pos hy] at hF; cases hF
  · rw [if_neg hy] at hF
    exact v_lift (fun hx hb _ _ hh kk => lv_lrem hx hb hd hy (kk _ hh)) (k hF)
theorem v_i2l {x : Int32} (hd : decode cc pc = .ok (.i2l, 1)) (k : V l G cc own nm nL ret fr lo h0 hE Qf (pc + 1) L (.long x.toInt64 :: st) h) : V l G cc own nm nL ret fr lo h0 hE Qf pc L (.int x :: st) h := v_lift (fun hx hb _ _ hh kk => lv_i2l hx hb hd rfl (kk _ hh)) k
theorem v_l2i {x : Int64} (hd : decode cc pc = .ok (.l2i, 1)) (k : V l G cc own nm nL ret fr lo h0 hE Qf (pc + 1) L (.int x.toInt32 :: st) h) : V l G cc own nm nL ret fr lo h0 hE Qf pc L (.long x :: st) h := v_lift (fun hx hb _ _ hh kk => lv_l2i hx hb hd rfl (kk _ hh)) k
theorem v_i2b {x : Int32} (hd : decode cc pc = .ok (.i2b, 1)) (k : V l G cc own nm nL ret fr lo h0 hE Qf (pc + 1) L (.int x.toInt8.toInt32 :: st) h) : V l G cc own nm nL ret fr lo h0 hE Qf pc L (.int x :: st) h := v_lift (fun hx hb _ _ hh kk => lv_i2b hx hb hd rfl (kk _ hh)) k
theorem v_i2c {x : Int32} (hd : decode cc pc = .ok (.i2c, 1)) (k : V l G cc own nm nL ret fr lo h0 hE Qf (pc + 1) L (.int (x.toUInt32 % 65536).toInt32 :: st) h) : V l G cc own nm nL ret fr lo h0 hE Qf pc L (.int x :: st) h := v_lift (fun hx hb _ _ hh kk => lv_i2c hx hb hd rfl (kk _ hh)) k
theorem v_lcmp {x y : Int64} (hd : decode cc pc = .ok (.lcmp, 1)) (k : V l G cc own nm nL ret fr lo h0 hE Qf (pc + 1) L (.int (lg_cmp x y) :: st) h) : V l G cc own nm nL ret fr lo h0 hE Qf pc L (.long y :: .long x :: st) h := v_lift (fun hx hb _ _ hh kk => W.lcmp hx hb hd (kk _ hh)) k
theorem v_dup {v : Value} (hd : decode cc pc = .ok (.dup, 1)) (hv : v.category = 1) (k : V l G cc own nm nL ret fr lo h0 hE Qf (pc + 1) L (v :: v :: st) h) : V l G cc own nm nL ret fr lo h0 hE Qf pc L (v :: st) h := v_lift (fun hx hb _ _ hh kk => lv_dup hx hb hd hv (kk _ hh)) k
theorem v_pop {v : Value} (hd : decode cc pc = .ok (.pop, 1)) (hv : v.category = 1) (k : V l G cc own nm nL ret fr lo h0 hE Qf (pc + 1) L st h) : V l G cc own nm nL ret fr lo h0 hE Qf pc L (v :: st) h := v_lift (fun hx hb _ _ hh kk => lv_pop hx hb hd hv (kk _ hh)) k
theorem v_dup_x1 {v w : Value} (hd : decode cc pc = .ok (.dup_x1, 1)) (hv : v.category = 1) (hw : w.category = 1) (k : V l G cc own nm nL ret fr lo h0 hE Qf (pc + 1) L (v :: w :: v :: st) h) : V l G cc own nm nL ret fr lo h0 hE Qf pc L (v :: w :: st) h := v_lift (fun hx hb _ _ hh kk => lv_dup_x1 hx hb hd hv hw (kk _ hh)) k
theorem v_dup_x2 {v w u : Value} (hd : decode cc pc = .ok (.dup_x2, 1)) (hv : v.category = 1) (hw : w.category = 1) (hu : u.category = 1) (k : V l G cc own nm nL ret fr lo h0 hE Qf (pc + 1) L (v :: w :: u :: v :: st) h) : V l G cc own nm nL ret fr lo h0 hE Qf pc L (v :: w :: u :: st) h := v_lift (fun hx hb _ _ hh kk => lv_dup_x2 hx hb hd hv hw hu (kk _ hh)) k
theorem v_dup2 {v w : Value} (hd : decode cc pc = .ok (.dup2, 1)) (hv : v.category = 1) (hw : w.category = 1) (k : V l G cc own nm nL ret fr lo h0 hE Qf (pc + 1) L (v :: w :: v :: w :: st) h) : V l G cc own nm nL ret fr lo h0 hE Qf pc L (v :: w :: st) h := v_lift (fun hx hb _ _ hh kk => lv_dup2_11 hx hb hd hv hw (kk _ hh)) k
theorem v_goto {off : Int} {tgt : Nat} (hd : decode cc pc = .ok (.goto off, 3)) (ht : (pc : Int) + off = (tgt : Int)) (k : V l G cc own nm nL ret fr lo h0 hE Qf tgt L st h) : V l G cc own nm nL ret fr lo h0 hE Qf pc L st h := v_lift (fun hx hb _ _ hh kk => lv_goto hx hb hd ht (kk _ hh)) k
/-- both ways of an 'if' in the telling function -/
theorem v_ite {cnd : Prop} [Decidable cnd] {A B : Option α} (hF : (if cnd then A else B) = some r) : (cnd → A = some r) ∧ (¬ cnd → B = some r) := by
  by_cases hc : cnd
  · rw [if_pos hc] at hF; exact ⟨fun _ => hF, fun z => absurd hc z⟩
  · rw [if_neg hc] at hF; exact ⟨fun z => absurd z hc, fun _ => hF⟩
theorem v_if_eq {x : Int32} {off : Int} {tgt : Nat} (hd : decode cc pc = .ok (.ifCond .eq off, 3)) (ht : (pc : Int) + off = (tgt : Int)) {A B : Option α} (hF : (if x = 0 then A else B) = some r) (kt : A = some r → V l G cc own nm nL ret fr lo h0 hE Qf tgt L st h) (kf : B = some r → V l G cc own nm nL ret fr lo h0 hE Qf (pc + 3) L st h) : V l G cc own nm nL ret fr lo h0 hE Qf pc L (.int x :: st) h :=
  v_lift2 (cnd := x = 0) (fun hx hb a b => lv_if_eq hx hb hd ht a b) (fun z => kt ((v_ite hF).1 z)) (fun z => kf ((v_ite hF).2 z))
theorem v_icmp_eq {x y : Int32} {off : Int} {tgt : Nat} (hd : decode cc pc = .ok (.if_icmp .eq off, 3)) (ht : (pc : Int) + off = (tgt : Int)) {A B : Option α} (hF : (if x = y then A else B) = some r) (kt : A = some r → V l G cc own nm nL ret fr lo h0 hE Qf tgt L st h) (kf : B = some r → V l G cc own nm nL ret fr lo h0 hE Qf (pc + 3) L st h) : V l G cc own nm nL ret fr lo h0 hE Qf pc L (.int y :: .int x :: st) h :=
  v_lift2 (cnd := x = y) (fun hx hb a b => lv_icmp_eq hx hb hd ht a b) (fun z => kt ((v_ite hF).1 z)) (fun z => kf ((v_ite hF).2 z))
theorem v_if_ne {x : Int32} {off : Int} {tgt : Nat} (hd : decode cc pc = .ok (.ifCond .ne off, 3)) (ht : (pc : Int) + off = (tgt : Int)) {A B : Option α} (hF : (if x = 0 then B else A) = some r) (kt : A = some r → V l G cc own nm nL ret fr lo h0 hE Qf tgt L st h) (kf : B = some r → V l G cc own nm nL ret fr lo h0 hE Qf (pc + 3) L st h) : V l G cc own nm nL ret fr lo h0 hE Qf pc L (.int x :: st) h :=
  v_lift2 (cnd := x = 0) (fun hx hb a b => lv_if_ne hx hb hd ht (fun z => b z) (fun z => a z)) (fun z => kf ((v_ite hF).1 z)) (fun z => kt ((v_ite hF).2 z))
theorem v_icmp_ne {x y : Int32} {off : Int} {tgt : Nat} (hd : decode cc pc = .ok (.if_icmp .ne off, 3)) (ht : (pc : Int) + off = (tgt : Int)) {A B : Option α} (hF : (if x = y then B else A) = some r) (kt : A = some r → V l G cc own nm nL ret fr lo h0 hE Qf tgt L st h) (kf : B = some r → V l G cc own nm nL ret fr lo h0 hE Qf (pc + 3) L st h) : V l G cc own nm nL ret fr lo h0 hE Qf pc L (.int y :: .int x :: st) h :=
  v_lift2 (cnd := x = y) (fun hx hb a b => lv_icmp_ne hx hb hd ht (fun z => b z) (fun z => a z)) (fun z => kf ((v_ite hF).1 z)) (fun z => kt ((v_ite hF).2 z))
theorem v_if_lt {x : Int32} {off : Int} {tgt : Nat} (hd : decode cc pc = .ok (.ifCond .lt off, 3)) (ht : (pc : Int) + off = (tgt : Int)) {A B : Option α} (hF : (if x < 0 then A else B) = some r) (kt : A = some r → V l G cc own nm nL ret fr lo h0 hE Qf tgt L st h) (kf : B = some r → V l G cc own nm nL ret fr lo h0 hE Qf (pc + 3) L st h) : V l G cc own nm nL ret fr lo h0 hE Qf pc L (.int x :: st) h :=
  v_lift2 (cnd := x < 0) (fun hx hb a b => lv_if_lt hx hb hd ht a b) (fun z => kt ((v_ite hF).1 z)) (fun z => kf ((v_ite hF).2 z))
theorem v_icmp_lt {x y : Int32} {off : Int} {tgt : Nat} (hd : decode cc pc = .ok (.if_icmp .lt off, 3)) (ht : (pc : Int) + off = (tgt : Int)) {A B : Option α} (hF : (if x < y then A else B) = some r) (kt : A = some r → V l G cc own nm nL ret fr lo h0 hE Qf tgt L st h) (kf : B = some r → V l G cc own nm nL ret fr lo h0 hE Qf (pc + 3) L st h) : V l G cc own nm nL ret fr lo h0 hE Qf pc L (.int y :: .int x :: st) h :=
  v_lift2 (cnd := x < y) (fun hx hb a b => lv_icmp_lt hx hb hd ht a b) (fun z => kt ((v_ite hF).1 z)) (fun z => kf ((v_ite hF).2 z))
theorem v_if_ge {x : Int32} {off : Int} {tgt : Nat} (hd : decode cc pc = .ok (.ifCond .ge off, 3)) (ht : (pc : Int) + off = (tgt : Int)) {A B : Option α} (hF : (if 0 ≤ x then A else B) = some r) (kt : A = some r → V l G cc own nm nL ret fr lo h0 hE Qf tgt L st h) (kf : B = some r → V l G cc own nm nL ret fr lo h0 hE Qf (pc + 3) L st h) : V l G cc own nm nL ret fr lo h0 hE Qf pc L (.int x :: st) h :=
  v_lift2 (cnd := 0 ≤ x) (fun hx hb a b => lv_if_ge hx hb hd ht a b) (fun z => kt ((v_ite hF).1 z)) (fun z => kf ((v_ite hF).2 z))
theorem v_icmp_ge {x y : Int32} {off : Int} {tgt : Nat} (hd : decode cc pc = .ok (.if_icmp .ge off, 3)) (ht : (pc : Int) + off = (tgt : Int)) {A B : Option α} (hF : (if y ≤ x then A else B) = some r) (kt : A = some r → V l G cc own nm nL ret fr lo h0 hE Qf tgt L st h) (kf : B = some r → V l G cc own nm nL ret fr lo h0 hE Qf (pc + 3) L st h) : V l G cc own nm nL ret fr lo h0 hE Qf pc L (.int y :: .int x :: st) h :=
  v_lift2 (cnd := y ≤ x) (fun hx hb a b => lv_icmp_ge hx hb hd ht a b) (fun z => kt ((v_ite hF).1 z)) (fun z => kf ((v_ite hF).2 z))
theorem v_if_gt {x : Int32} {off : Int} {tgt : Nat} (hd : decode cc pc = .ok (.ifCond .gt off, 3)) (ht : (pc : Int) + off = (tgt : Int)) {A B : Option α} (hF : (if 0 < x then A else B) = some r) (kt : A = some r → V l G cc own nm nL ret fr lo h0 hE Qf tgt L st h) (kf : B = some r → V l G cc own nm nL ret fr lo h0 hE Qf (pc + 3) L st h) : V l G cc own nm nL ret fr lo h0 hE Qf pc L (.int x :: st) h :=
  v_lift2 (cnd := 0 < x) (fun hx hb a b => lv_if_gt hx hb hd ht a b) (fun z => kt ((v_ite hF).1 z)) (fun z => kf ((v_ite hF).2 z))
theorem v_icmp_gt {x y : Int32} {off : Int} {tgt : Nat} (hd : decode cc pc = .ok (.if_icmp .gt off, 3)) (ht : (pc : Int) + off = (tgt : Int)) {A B : Option α} (hF : (if y < x then A else B) = some r) (kt : A = some r → V l G cc own nm nL ret fr lo h0 hE Qf tgt L st h) (kf : B = some r → V l G cc own nm nL ret fr lo h0 hE Qf (pc + 3) L st h) : V l G cc own nm nL ret fr lo h0 hE Qf pc L (.int y :: .int x :: st) h :=
  v_lift2 (cnd := y < x) (fun hx hb a b => lv_icmp_gt hx hb hd ht a b) (fun z => kt ((v_ite hF).1 z)) (fun z => kf ((v_ite hF).2 z))
theorem v_if_le {x : Int32} {off : Int} {tgt : Nat} (hd : decode cc pc = .ok (.ifCond .le off, 3)) (ht : (pc : Int) + off = (tgt : Int)) {A B : Option α} (hF : (if x ≤ 0 then A else B) = some r) (kt : A = some r → V l G cc own nm nL ret fr lo h0 hE Qf tgt L st h) (kf : B = some r → V l G cc own nm nL ret fr lo h0 hE Qf (pc + 3) L st h) : V l G cc own nm nL ret fr lo h0 hE Qf pc L (.int x :: st) h :=
  v_lift2 (cnd := x ≤ 0) (fun hx hb a b => lv_if_le hx hb hd ht a b) (fun z => kt ((v_ite hF).1 z)) (fun z => kf ((v_ite hF).2 z))
theorem v_icmp_le {x y : Int32} {off : Int} {tgt : Nat} (hd : decode cc pc = .ok (.if_icmp .le off, 3)) (ht : (pc : Int) + off = (tgt : Int)) {A B : Option α} (hF : (if x ≤ y then A else B) = some r) (kt : A = some r → V l G cc own nm nL ret fr lo h0 hE Qf tgt L st h) (kf : B = some r → V l G cc own nm nL ret fr lo h0 hE Qf (pc + 3) L st h) : V l G cc own nm nL ret fr lo h0 hE Qf pc L (.int y :: .int x :: st) h :=
  v_lift2 (cnd := x ≤ y) (fun hx hb a b => lv_icmp_le hx hb hd ht a b) (fun z => kt ((v_ite hF).1 z)) (fun z => kf ((v_ite hF).2 z))
theorem v_ifnull {x : Option Nat} {off : Int} {tgt : Nat} (hd : decode cc pc = .ok (.ifnull off, 3)) (ht : (pc : Int) + off = (tgt : Int)) {A : Option α} {B : Nat → Option α} (hF : x.elim A B = some r) (kt : x = none → A = some r → V l G cc own nm nL ret fr lo h0 hE Qf tgt L st h) (kf : ∀ a, x = some a → B a = some r → V l G cc own nm nL ret fr lo h0 hE Qf (pc + 3) L st h) : V l G cc own nm nL ret fr lo h0 hE Qf pc L (va_rf x :: st) h := by
  cases x with
  | none => exact v_lift (fun hx hb _ _ hh kk => lv_ifnullN hx hb hd ht (kk _ hh)) (kt rfl hF)
  | some a => exact v_lift (fun hx hb _ _ hh kk => lv_ifnull hx hb hd (kk _ hh)) (kf a rfl hF)
theorem v_ifnonnull {x : Option Nat} {off : Int} {tgt : Nat} (hd : decode cc pc = .ok (.ifnonnull off, 3)) (ht : (pc : Int) + off = (tgt : Int)) {A : Option α} {B : Nat → Option α} (hF : x.elim A B = some r) (kf : x = none → A = some r → V l G cc own nm nL ret fr lo h0 hE Qf (pc + 3) L st h) (kt : ∀ a, x = some a → B a = some r → V l G cc own nm nL ret fr lo h0 hE Qf tgt L st h) : V l G cc own nm nL ret fr lo h0 hE Qf pc L (va_rf x :: st) h := by
  cases x with
  | none => exact v_lift (fun hx hb _ _ hh kk => lv_ifnonnullN hx hb hd (kk _ hh)) (kf rfl hF)
  | some a => exact v_lift (fun hx hb _ _ hh kk => lv_ifnonnull hx hb hd ht (kk _ hh)) (kt a rfl hF)
theorem v_acmp_eq {x y : Nat} {off : Int} {tgt : Nat} (hd : decode cc pc = .ok (.if_acmp .eq off, 3)) (ht : (pc : Int) + off = (tgt : Int)) {A B : Option α} (hF : (if x = y then A else B) = some r) (kt : A = some r → V l G cc own nm nL ret fr lo h0 hE Qf tgt L st h) (kf : B = some r → V l G cc own nm nL ret fr lo h0 hE Qf (pc + 3) L st h) : V l G cc own nm nL ret fr lo h0 hE Qf pc L (.ref y :: .ref x :: st) h :=
  v_lift2 (cnd := x = y) (fun hx hb a b => lv_acmp_eq (rx := some x) (ry := some y) hx hb hd ht (fun z => a (Option.some.inj z)) (fun z => b (fun q => z (congrArg some q)))) (fun z => kt ((v_ite hF).1 z)) (fun z => kf ((v_ite hF).2 z))
theorem v_acmp_ne {x y : Nat} {off : Int} {tgt : Nat} (hd : decode cc pc = .ok (.if_acmp .ne off, 3)) (ht : (pc : Int) + off = (tgt : Int)) {A B : Option α} (hF : (if x = y then B else A) = some r) (kt : A = some r → V l G cc own nm nL ret fr lo h0 hE Qf tgt L st h) (kf : B = some r → V l G cc own nm nL ret fr lo h0 hE Qf (pc + 3) L st h) : V l G cc own nm nL ret fr lo h0 hE Qf pc L (.ref y :: .ref x :: st) h :=
  v_lift2 (cnd := x = y) (fun hx hb a b => lv_acmp_ne (rx := some x) (ry := some y) hx hb hd ht (fun z => b (fun q => z (congrArg some q))) (fun z => a (Option.some.inj z))) (fun z => kf ((v_ite hF).1 z)) (fun z => kt ((v_ite hF).2 z))
/-- a switch: the number's own place, or none of them -/
theorem v_switch {dflt slo shi : Int} {offs : Array Int} {len : Nat} {x : Int32} {f : Int → Option α} {D : Option α} (hd : decode cc pc = .ok (.tableswitch dflt slo shi offs, len)) {td : Nat} (htd : (pc : Int) + dflt = (td : Int)) (hF : (if x.toInt < slo ∨ shi < x.toInt then D else f x.toInt) = some r) (kd : D = some r → V l G cc own nm nL ret fr lo h0 hE Qf td L st h) (k : ∀ i : Int, slo ≤ i → i ≤ shi → f i = some r → ∃ (off : Int) (tgt : Nat), offs[(i - slo).toNat]? = some off ∧ (pc : Int) + off = (tgt : Int) ∧ V l G cc own nm nL ret fr lo h0 hE Qf tgt L st h) : V l G cc own nm nL ret fr lo h0 hE Qf pc L (.int x :: st) h := by
  by_cases hc : x.toInt < slo ∨ shi < x.toInt
  · rw [if_pos hc] at hF
    exact v_lift (fun hx hb _ _ hh kk => lv_tableOut hx hb hd hc htd (kk _ hh)) (kd hF)
  · rw [if_neg hc] at hF
    have h1 : ¬ x.toInt < slo := fun z => hc (Or.inl z)
    have h2 : ¬ shi < x.toInt := fun z => hc (Or.inr z)
    obtain ⟨off, tgt, a1, a2, a3⟩ := k x.toInt (by omega) (by omega) hF
    exact v_lift (fun hx hb _ _ hh kk => lv_tableIn hx hb hd h1 h2 a1 a2 (kk _ hh)) a3
end V2
