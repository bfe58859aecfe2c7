/-! BASE: an abstract heap, and the judgement V over it: one method's walk, told by a function that computes the same on the abstract heap -/
set_option maxRecDepth 100000
/-- a cell: an array of kind k (tysG's place), an object of class number c (clx's place), a read-only thing that was there before -/
abbrev CE : Type := (Nat × vp_A) ⊕ ((Nat × List Value) ⊕ (Nat × (Nat × (Nat → Int32))))
/-- next address, slots made, addresses of constants, cells -/
abbrev Hp : Type := Nat × (Nat × ((Nat → Nat) × (Nat → Option CE)))
/-- the law's start, the classes' numbers and slots, the array classes' numbers, addresses of constants -/
abbrev GT : Type := State × (va_G × ((Nat → ClassId) × (Nat → Nat)))
def clx : List vw_C := [(RX0, TX0, 31), (RX1, TX1, 12), (RX2, TX2, 4), (RX3, TX3, 2), (RX4, TX4, 2), (RX5, TX5, 1), (RX6, TX6, 56), (RX8, TX8, 11), (RX9, TX9, 7), (RX11, TX11, 1), (RX12, TX12, 1), (RX13, TX13, 3), (RX14, TX14, 3), (RX15, TX15, 4), (RX17, TX17, 3), (RX18, TX18, 1), (RX19, TX19, 2), (RX20, TX20, 6), (RX21, TX21, 10), (RX22, TX22, 1), (RJ2, TJ2, 3)]
def tyx : List FieldType := [.int, .byte, .boolean, .long, .array .int, .object "LeekReadings$Bed", .object "LeekReadings$Books", .object "LeekReadings$Clause", .object "java/lang/String", .object "LeekReadings$Test", .object "LeekReadings$Act", .object "java/lang/Object"]
def tysG (G : GT) : List (ClassId × FieldType) := [(G.2.2.1 0, .int), (G.2.2.1 1, .byte), (G.2.2.1 2, .boolean), (G.2.2.1 3, .long), (G.2.2.1 4, .array .int), (G.2.2.1 5, .object "LeekReadings$Bed"), (G.2.2.1 6, .object "LeekReadings$Books"), (G.2.2.1 7, .object "LeekReadings$Clause"), (G.2.2.1 8, .object "java/lang/String"), (G.2.2.1 9, .object "LeekReadings$Test"), (G.2.2.1 10, .object "LeekReadings$Act"), (G.2.2.1 11, .object "java/lang/Object")]
/-- what may change: what is made since the law's start -/
def AG (G : GT) : Nat → Prop := fun q => G.1.heap.size ≤ q
/-- the script (0), a String constant, coder 0, with its bytes' address (1), the empty array of objects (2), a String's bytes (3): read alone -/
def roAt (G : GT) (a : Nat) (r : Nat × (Nat × (Nat → Int32))) : Prop :=
  if r.1 = 0 then va_X a r.2.1 r.2.2 G.1 G.1.heap ∧ a < G.1.heap.size
  else if r.1 = 1 then va_O "java/lang/String" a (AG G) G.1 G.1.heap ∧ va_OF "java/lang/String" "coder" "B" (.int 0) a (AG G) G.1 G.1.heap ∧ va_OF "java/lang/String" "value" "[B" (.ref r.2.1) a (AG G) G.1 G.1.heap
  else if r.1 = 3 then va_T .byte a r.2.1 (fun j => .int (r.2.2 j)) (AG G) G.1 G.1.heap
  else va_T (.object "java/lang/Object") a r.2.1 (fun _ => .null) (AG G) G.1 G.1.heap ∧ va_O "[Ljava/lang/Object;" a (AG G) G.1 G.1.heap
def eOk (G : GT) (ws : va_W) (a : Nat) (e : CE) : Prop := match e with
  | .inl q => ∃ i : Nat, ws[i]? = some (a, .inl (G.2.2.1 q.1, q.2))
  | .inr (.inl o) => ∃ i : Nat, ws[i]? = some (a, .inr o)
  | .inr (.inr q) => roAt G a q
def HSl (G : GT) (h : Hp) (H : Heap) : Prop := H.size = h.1 ∧ G.1.heap.size ≤ H.size ∧ (∀ q : Nat, q < G.1.heap.size → H[q]? = G.1.heap[q]?) ∧ h.2.2.1 = G.2.2.2 ∧ ∃ ws : va_W, va_P G.2.1 clx ws H ∧ va_D (AG G) ws ∧ ∀ (a : Nat) (e : CE), h.2.2.2 a = some e → eOk G ws a e
/-- String constants: where they are named (owner, entry), the text, its place among the texts -/
def strTab : List (String × (Nat × (String × Nat))) := [("LeekReadings$LawReader", 11, "leek", 0), ("LeekReadings$LawReader", 13, "likes", 1), ("LeekReadings$LawReader", 15, "high", 2), ("LeekReadings$LawReader", 17, "book", 3), ("LeekReadings$LawReader", 19, "long", 4), ("LeekReadings$LawReader", 21, "kind", 5), ("LeekReadings$LawReader", 23, "known", 6), ("LeekReadings$LawReader", 25, "day", 7), ("LeekReadings$LawReader", 27, "mood", 8), ("LeekReadings$LawReader", 41, "grows", 9), ("LeekReadings$LawReader", 43, "wilts", 10), ("LeekReadings$LawReader", 45, "bars", 11), ("LeekReadings$LawReader", 82, "if", 12), ("LeekReadings$OrderReader", 11, "day", 7), ("LeekReadings$OrderReader", 13, "done", 13), ("LeekReadings$OrderReader", 15, "latest", 14), ("LeekReadings$OrderReader", 17, "known", 6), ("LeekReadings$OrderReader", 19, "all", 15), ("LeekReadings$OrderReader", 21, "high", 2), ("LeekReadings$OrderReader", 23, "has", 16), ("LeekReadings$OrderReader", 74, "pass", 17), ("LeekReadings$OrderReader", 83, "read", 18), ("LeekReadings$OrderReader", 89, "lose", 19), ("LeekReadings$OrderReader", 91, "cut", 20), ("LeekReadings$OrderReader", 101, "times", 21), ("LeekReadings$OrderReader", 109, "if", 12), ("LeekReadings$Reader", 36, ";", 22), ("LeekReadings$Reader", 91, "or", 23), ("LeekReadings$Reader", 100, "and", 24), ("LeekReadings$Reader", 119, "not", 25), ("LeekReadings$Reader", 121, "(", 26), ("LeekReadings$Reader", 129, ")", 27), ("LeekReadings$Reader", 139, "<", 28), ("LeekReadings$Reader", 141, ">", 29), ("LeekReadings$Reader", 143, "=", 30), ("LeekReadings$Reader", 157, "+", 31), ("LeekReadings$Reader", 159, "-", 32), ("LeekReadings$Reader", 167, "*", 33), ("LeekReadings$Reader", 169, "/", 34), ("LeekReadings$Reader", 171, "%", 35), ("LeekReadings$Reader", 173, "[", 36), ("LeekReadings$Reader", 175, "]", 37)]
/-- an address or null, as a number -/
def gOf (n : Nat) : Option Nat := if n = 0 then none else some (n - 1)
def GOK (l : Launch) (G : GT) : Prop := va_K G.2.1 clx (tysG G) G.1 ∧ (∃ A : Array Value, ∀ w ∈ lw_tbl, w.before A G.1 = true) ∧ l.flags = flags0 ∧ (∀ q ∈ strTab, vk_R q.1 q.2.1 q.2.2.1 (G.2.2.2 q.2.2.2) G.1)
  ∧ va_Z "java/util/ArrayList" "DEFAULTCAPACITY_EMPTY_ELEMENTDATA" "[Ljava/lang/Object;" (.ref (G.2.2.2 100)) (AG G) G.1 G.1.heap
  ∧ va_Z "java/lang/String" "COMPACT_STRINGS" "Z" (.int 1) (AG G) G.1 G.1.heap
  ∧ va_Z "jdk/internal/util/Preconditions" "SIOOBE_FORMATTER" "Ljava/util/function/BiFunction;" (va_rf (gOf (G.2.2.2 102))) (AG G) G.1 G.1.heap
  ∧ va_Z "java/lang/Throwable" "UNASSIGNED_STACK" "[Ljava/lang/StackTraceElement;" (va_rf (gOf (G.2.2.2 103))) (AG G) G.1 G.1.heap
  ∧ va_Z "java/lang/Throwable" "SUPPRESSED_SENTINEL" "Ljava/util/List;" (va_rf (gOf (G.2.2.2 104))) (AG G) G.1 G.1.heap
  ∧ va_Mi "[Ljava/lang/Object;" (G.2.2.2 101) G.1
  ∧ (∀ q ∈ [(7, (7, 10)), (18, (7, 9))], G.2.2.2 (200 + q.1) = if G.2.1.2 q.1 q.2.1 = G.2.1.2 q.1 q.2.2 then 1 else 0)
def CX (G : GT) (cc : ByteArray) (own nm : String) (nL : Nat) (ret : Option FieldType) (h0 : Hp) (p : Program) (l : Launch) (s : State) (m : MethodId) (args : Array Value) (meth : Method) (c : Code) : Prop :=
  p.tables.exec = Jvm.exec ∧ c.code = cc ∧ c.maxLocals = nL ∧ s.vm.findClass own = some m.cls ∧ (∀ w ∈ lw_all, w.before args s = true) ∧ GOK l G ∧ G.1.WarmedH s.vm ∧ meth.sig.returnType = ret ∧ meth.locks = false ∧ meth.name = nm ∧ s.heap.size = h0.1 ∧ G.1.heap.size ≤ s.heap.size ∧ (∀ q : Nat, q < G.1.heap.size → s.heap[q]? = G.1.heap[q]?)
def V (l : Launch) (G : GT) (cc : ByteArray) (own nm : String) (nL : Nat) (ret : Option FieldType) (fr lo : Nat) (h0 hE : Hp) (Qf : List Frame → Array Value → State → State → Prop) (pc : Nat) (L : List (Nat × Value)) (st : List Value) (h : Hp) : Prop :=
  (h.1 ≤ hE.1 ∧ h.2.1 ≤ hE.2.1) ∧
  ∀ (p : Program) (e : Env) (s : State) (m : MethodId) (args : Array Value) (below : List Frame) (meth : Method) (c : Code),
    CX G cc own nm nL ret h0 p l s m args meth c →
    ∀ (H : Heap) (locs : List Loc) (cells slots : Nat) (ls : Array Slot), cells + h0.1 = h.1 → slots + h0.2.1 = h.2.1 → HSl G h H → va_S (AG G) s.heap H locs → lv_has ls nL L →
      W p l e { frames := fr, cells := hE.1 - h0.1, slots := hE.2.1 - h0.2.1, locals := lo } s m args below meth c H locs cells slots (Qf below args s) (F0 m pc ls st)
/-- a method's start and end on abstract heaps -/
def PreH (l : Launch) (G : GT) (h : Hp) (U : State) : Prop := GOK l G ∧ G.1.WarmedH U.vm ∧ HSl G h U.heap
def QcH (G : GT) (o : Option Value) (h' : Hp) : Array Value → State → Outcome → State → Prop := fun _ st oc t => oc = .returned o ∧ HSl G h' t.heap ∧ va_F (AG G) st t
def QM (G : GT) (o : Option Value) (h0 hE : Hp) : List Frame → Array Value → State → State → Prop := fun below args s => MQ below (QcH G o hE) args s (hE.1 - h0.1) (hE.2.1 - h0.2.1) (AG G)
/-- a contract: with these arguments, from the heap h, the method returns o and leaves h' -/
def Ct (l : Launch) (G : GT) (y : MethodName) (ws : List Cond) (fr lo : Nat) (av : List Value) (h : Hp) (o : Option Value) (h' : Hp) : Prop :=
  (h.1 ≤ h'.1 ∧ h.2.1 ≤ h'.2.1) ∧ Met l y ws { frames := fr, cells := h'.1 - h.1, slots := h'.2.1 - h.2.1, locals := lo } (va_Pc av (PreH l G h)) (QcH G o h') (h'.1 - h.1) (h'.2.1 - h.2.1) (AG G)
section V1
variable {l : Launch} {G : GT} {cc : ByteArray} {own nm : String} {nL : Nat} {ret : Option FieldType} {fr lo : Nat} {h0 hE h : Hp} {Qf : List Frame → Array Value → State → State → Prop} {pc : Nat} {L : List (Nat × Value)} {st : List Value} {α : Type} {r : α}
theorem v_lift {pc' : Nat} {L' : List (Nat × Value)} {st' : List Value}
    (f : ∀ {p : Program} {e : Env} {R : Room} {s : State} {m : MethodId} {args : Array Value} {below : List Frame} {meth : Method} {c : Code} {H : Heap} {locs : List Loc} {cells slots : Nat} {Q : State → Prop} {ls : Array Slot}, p.tables.exec = Jvm.exec → c.code = cc → s.vm.findClass own = some m.cls → (∀ w ∈ lw_all, w.before args s = true) → lv_has ls nL L → (∀ ls' : Array Slot, lv_has ls' nL L' → W p l e R s m args below meth c H locs cells slots Q (F0 m pc' ls' st')) → W p l e R s m args below meth c H locs cells slots Q (F0 m pc ls st))
    (k : V l G cc own nm nL ret fr lo h0 hE Qf pc' L' st' h) : V l G cc own nm nL ret fr lo h0 hE Qf pc L st h := by
  refine ⟨k.1, fun p e s m args below meth c C H locs cells slots ls e1 e2 e3 e4 e5 => ?_⟩
  exact f C.1 C.2.1 C.2.2.2.1 C.2.2.2.2.1 e5 (fun ls' h' => k.2 p e s m args below meth c C H locs cells slots ls' e1 e2 e3 e4 h')
theorem v_lift2 {pt pf : Nat} {st' : List Value} {cnd : Prop}
    (f : ∀ {p : Program} {e : Env} {R : Room} {s : State} {m : MethodId} {args : Array Value} {below : List Frame} {meth : Method} {c : Code} {H : Heap} {locs : List Loc} {cells slots : Nat} {Q : State → Prop} {ls : Array Slot}, p.tables.exec = Jvm.exec → c.code = cc → (cnd → W p l e R s m args below meth c H locs cells slots Q (F0 m pt ls st')) → (¬ cnd → W p l e R s m args below meth c H locs cells slots Q (F0 m pf ls st')) → W p l e R s m args below meth c H locs cells slots Q (F0 m pc ls st))
    (kt : cnd → V l G cc own nm nL ret fr lo h0 hE Qf pt L st' h) (kf : ¬ cnd → V l G cc own nm nL ret fr lo h0 hE Qf pf L st' h) : V l G cc own nm nL ret fr lo h0 hE Qf pc L st h := by
  by_cases hc : cnd
  · exact v_lift (fun hx hb _ _ hh kk => f hx hb (fun _ => kk _ hh) (fun z => absurd hc z)) (kt hc)
  · exact v_lift (fun hx hb _ _ hh kk => f hx hb (fun z => absurd z hc) (fun _ => kk _ hh)) (kf hc)
theorem v_iload_n {k : Fin 4} {i : Nat} {x : Int32} (hd : decode cc pc = .ok (.iload_n k, 1)) (hi : (k : Nat) = i) (j : Nat) (hj : L[j]? = some (i, .int x)) (k' : V l G cc own nm nL ret fr lo h0 hE Qf (pc + 1) L (.int x :: st) h) : V l G cc own nm nL ret fr lo h0 hE Qf pc L st h :=
  v_lift (fun hx hb _ _ hh kk => lv_iload_n hx hb hd hi (lv_at hh j hj) (kk _ hh)) k'
theorem v_iload {i : Nat} {x : Int32} (hd : decode cc pc = .ok (.iload i, 2)) (j : Nat) (hj : L[j]? = some (i, .int x)) (k' : V l G cc own nm nL ret fr lo h0 hE Qf (pc + 2) L (.int x :: st) h) : V l G cc own nm nL ret fr lo h0 hE Qf pc L st h :=
  v_lift (fun hx hb _ _ hh kk => lv_iload hx hb hd (lv_at hh j hj) (kk _ hh)) k'
theorem v_lload_n {k : Fin 4} {i : Nat} {x : Int64} (hd : decode cc pc = .ok (.lload_n k, 1)) (hi : (k : Nat) = i) (j : Nat) (hj : L[j]? = some (i, .long x)) (k' : V l G cc own nm nL ret fr lo h0 hE Qf (pc + 1) L (.long x :: st) h) : V l G cc own nm nL ret fr lo h0 hE Qf pc L st h :=
  v_lift (fun hx hb _ _ hh kk => lv_lload_n hx hb hd hi (lv_at hh j hj) (kk _ hh)) k'
theorem v_lload {i : Nat} {x : Int64} (hd : decode cc pc = .ok (.lload i, 2)) (j : Nat) (hj : L[j]? = some (i, .long x)) (k' : V l G cc own nm nL ret fr lo h0 hE Qf (pc + 2) L (.long x :: st) h) : V l G cc own nm nL ret fr lo h0 hE Qf pc L st h :=
  v_lift (fun hx hb _ _ hh kk => lv_lload hx hb hd (lv_at hh j hj) (kk _ hh)) k'
theorem v_aload_n {k : Fin 4} {i : Nat} {x : Nat} (hd : decode cc pc = .ok (.aload_n k, 1)) (hi : (k : Nat) = i) (j : Nat) (hj : L[j]? = some (i, .ref x)) (k' : V l G cc own nm nL ret fr lo h0 hE Qf (pc + 1) L (.ref x :: st) h) : V l G cc own nm nL ret fr lo h0 hE Qf pc L st h :=
  v_lift (fun hx hb _ _ hh kk => lv_aload_n hx hb hd hi (lv_at hh j hj) (kk _ hh)) k'
theorem v_aload {i : Nat} {x : Nat} (hd : decode cc pc = .ok (.aload i, 2)) (j : Nat) (hj : L[j]? = some (i, .ref x)) (k' : V l G cc own nm nL ret fr lo h0 hE Qf (pc + 2) L (.ref x :: st) h) : V l G cc own nm nL ret fr lo h0 hE Qf pc L st h :=
  v_lift (fun hx hb _ _ hh kk => lv_aload hx hb hd (lv_at hh j hj) (kk _ hh)) k'
theorem v_aloadq_n {k : Fin 4} {i : Nat} {x : Option Nat} (hd : decode cc pc = .ok (.aload_n k, 1)) (hi : (k : Nat) = i) (j : Nat) (hj : L[j]? = some (i, va_rf x)) (k' : V l G cc own nm nL ret fr lo h0 hE Qf (pc + 1) L (va_rf x :: st) h) : V l G cc own nm nL ret fr lo h0 hE Qf pc L st h := by
  cases x with
  | none => exact v_lift (fun hx hb _ _ hh kk => lv_aload_nN hx hb hd hi (lv_at hh j hj) (kk _ hh)) k'
  | some a => exact v_lift (fun hx hb _ _ hh kk => lv_aload_n hx hb hd hi (lv_at hh j hj) (kk _ hh)) k'
theorem v_aloadq {i : Nat} {x : Option Nat} (hd : decode cc pc = .ok (.aload i, 2)) (j : Nat) (hj : L[j]? = some (i, va_rf x)) (k' : V l G cc own nm nL ret fr lo h0 hE Qf (pc + 2) L (va_rf x :: st) h) : V l G cc own nm nL ret fr lo h0 hE Qf pc L st h := by
  cases x with
  | none => exact v_lift (fun hx hb _ _ hh kk => lv_aloadN hx hb hd (lv_at hh j hj) (kk _ hh)) k'
  | some a => exact v_lift (fun hx hb _ _ hh kk => lv_aload hx hb hd (lv_at hh j hj) (kk _ hh)) k'
end V1
