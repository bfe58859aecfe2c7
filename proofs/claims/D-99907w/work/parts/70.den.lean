/-! PLAIN LAW: what sums and tests tell; the grammar over a row of words -/
set_option maxRecDepth 100000
/-- what is asked: by word, and by number behind it -/
abbrev EV : Type := Nat → Nat → Int64
abbrev SDn : Type := EV → Option Int64
abbrev TDn : Type := EV → Option Bool
/-- a clause: its head, its sum, its test -/
abbrev CDn : Type := Nat × (Option SDn × Option TDn)
def bndS (v : Int64) : Option Int64 := if v > 1000000000 ∨ v < -1000000000 then none else some v
def opS (s : Int32) (p q : Int64) : Option Int64 := if s = 47 then (if q = 0 then none else some (p / q)) else if s = 37 then (if q = 0 then none else some (p - p / q * q)) else if s = 43 then bndS (p + q) else if s = 45 then bndS (p - q) else bndS (p * q)
def joinS (s : Int32) (f g : SDn) : SDn := fun e => match f e with
  | none => none
  | some p => match g e with
    | none => none
    | some q => opS s p q
def opC (s : Int32) (p q : Int64) : Bool := if s = 60 then decide (p < q) else if s = 62 then decide (q < p) else decide (p = q)
def cmpS (s : Int32) (f g : SDn) : TDn := fun e => match f e with
  | none => none
  | some p => match g e with
    | none => none
    | some q => some (opC s p q)
def notS (f : TDn) : TDn := fun e => match f e with
  | none => none
  | some v => some (!v)
def rowE (all : Bool) (e : EV) : List TDn → Option Bool
  | [] => some all
  | t :: ts => match t e with
    | none => none
    | some v => if v = all then rowE all e ts else some (!all)
def rowS (all : Bool) (l : List TDn) : TDn := fun e => rowE all e l
theorem rowS_1 (all : Bool) (f : TDn) : rowS all [f] = f := by
  funext e
  show (match f e with | none => none | some v => if v = all then rowE all e [] else some (!all)) = f e
  cases h : f e with
  | none => rfl
  | some v => cases v <;> cases all <;> rfl
theorem rowE_app (all : Bool) (e : EV) (l : List TDn) (g : TDn) : rowE all e (l ++ [g]) = match rowE all e l with
    | none => none
    | some v => if v = all then g e else some v := by
  induction l with
  | nil =>
    show (match g e with | none => none | some v => if v = all then rowE all e [] else some (!all)) = _
    cases h : g e with
    | none => simp [rowE]
    | some v => cases v <;> cases all <;> simp [rowE]
  | cons t ts ih =>
    show (match t e with | none => none | some v => if v = all then rowE all e (ts ++ [g]) else some (!all)) = _
    show _ = match (match t e with | none => none | some v => if v = all then rowE all e ts else some (!all)) with | none => none | some v => if v = all then g e else some v
    cases h : t e with
    | none => rfl
    | some v =>
      by_cases hv : v = all
      · simp only [hv, if_true]
        exact ih
      · simp only [hv, if_false]
        rw [if_neg (by cases all <;> decide)]
/-- what is asked lies within bounds -/
def EB (e : EV) : Prop := ∀ w k, -1000000000 ≤ (e w k).toInt ∧ (e w k).toInt ≤ 1000000000
/-- a sum that tells within bounds -/
def BD (f : SDn) : Prop := ∀ e, EB e → ∀ x, f e = some x → -1000000000 ≤ x.toInt ∧ x.toInt ≤ 1000000000
theorem c9 : (1000000000 : Int64).toInt = 1000000000 := by decide
theorem c9n : (-1000000000 : Int64).toInt = -1000000000 := by decide
theorem bndS_b {v x : Int64} (h : bndS v = some x) : x = v ∧ -1000000000 ≤ x.toInt ∧ x.toInt ≤ 1000000000 := by
  unfold bndS at h
  split at h
  · cases h
  · next hn =>
    cases h
    rw [gt_iff_lt, Int64.lt_iff_toInt_lt, Int64.lt_iff_toInt_lt, c9, c9n] at hn
    exact ⟨rfl, by omega, by omega⟩
theorem div_b {p q : Int64} (hp : -1000000000 ≤ p.toInt ∧ p.toInt ≤ 1000000000) (hq : q ≠ 0) : -1000000000 ≤ (p / q).toInt ∧ (p / q).toInt ≤ 1000000000 := by
  have hq0 : q.toInt ≠ 0 := fun z => hq (Int64.toInt.inj (by rw [z]; rfl))
  have h1 : p.toInt.tdiv q.toInt = (p / q).toInt := by
    rw [Int64.toInt_div_of_ne_left]
    intro z
    rw [z] at hp
    have : Int64.minValue.toInt = -9223372036854775808 := by decide
    omega
  rw [← h1]
  have h2 : (p.toInt.tdiv q.toInt).natAbs ≤ p.toInt.natAbs := by
    rw [Int.natAbs_tdiv]
    exact Nat.div_le_self _ _
  omega
theorem bm64 {x : Int} (h1 : -9223372036854775808 ≤ x) (h2 : x < 9223372036854775808) : x.bmod (2 ^ 64) = x := by
  apply Int.bmod_eq_of_le
  · show -(2 ^ 64 / 2 : Int) ≤ x
    omega
  · show x < ((2 ^ 64 : Nat) + 1 : Int) / 2
    omega
theorem mod_b {p q : Int64} (hp : -1000000000 ≤ p.toInt ∧ p.toInt ≤ 1000000000) : -1000000000 ≤ (p - p / q * q).toInt ∧ (p - p / q * q).toInt ≤ 1000000000 := by
  have h1 : (p / q).toInt = p.toInt.tdiv q.toInt := by
    rw [Int64.toInt_div_of_ne_left]
    intro z
    rw [z] at hp
    have : Int64.minValue.toInt = -9223372036854775808 := by decide
    omega
  have h2 : (p.toInt.tdiv q.toInt * q.toInt).natAbs ≤ p.toInt.natAbs := by
    rw [Int.natAbs_mul, Int.natAbs_tdiv]
    exact Nat.div_mul_le_self _ _
  have h3 : (p.toInt.tmod q.toInt).natAbs ≤ p.toInt.natAbs := by
    rw [Int.natAbs_tmod]
    exact Nat.mod_le _ _
  have h4 := Int.mul_tdiv_add_tmod p.toInt q.toInt
  rw [Int.mul_comm] at h4
  have h5 : (p / q * q).toInt = p.toInt.tdiv q.toInt * q.toInt := by
    rw [Int64.toInt_mul, h1]
    exact bm64 (by omega) (by omega)
  have h6 : (p - p / q * q).toInt = p.toInt.tmod q.toInt := by
    rw [Int64.toInt_sub, h5, bm64 (by omega) (by omega)]
    omega
  omega
theorem opS_b {s : Int32} {p q x : Int64} (hp : -1000000000 ≤ p.toInt ∧ p.toInt ≤ 1000000000) (h : opS s p q = some x) : -1000000000 ≤ x.toInt ∧ x.toInt ≤ 1000000000 := by
  unfold opS at h
  split at h
  · split at h
    · cases h
    · next hq => cases h; exact div_b hp hq
  · split at h
    · split at h
      · cases h
      · next hq => cases h; exact mod_b hp
    · split at h
      · exact (bndS_b h).2
      · split at h
        · exact (bndS_b h).2
        · exact (bndS_b h).2
theorem joinS_b {s : Int32} {f g : SDn} (hf : BD f) : BD (joinS s f g) := by
  intro e he x hx
  unfold joinS at hx
  split at hx
  · cases hx
  · next p hp =>
    split at hx
    · cases hx
    · next q hq => exact opS_b (hf e he p hp) hx
/-! the grammar: cd k is the word at k, vl k its number; lv parts were read; dp brackets more may be begun -/
abbrev PR (α : Type) : Type := Nat ⊕ (Nat × (Nat × α))
section GR
variable (od : Bool) (cd : Nat → Int32) (vl : Nat → Int32)
/-- the number that a word has among those that are asked -/
def wdx (c : Int32) : Nat :=
  if od = true then (if c = 14 then 5 else if c = 15 then 3 else if c = 16 then 0 else if c = 17 then 1 else if c = 18 then 2 else if c = 19 then 4 else 6)
  else (if c = 8 then 0 else if c = 9 then 1 else if c = 10 then 3 else if c = 11 then 4 else if c = 12 then 5 else if c = 13 then 8 else if c = 14 then 2 else if c = 15 then 6 else 7)
def fstW : Int32 := if od = true then 14 else 8
def lstW : Int32 := if od = true then 20 else 16
/-- a number that may be at most m (at least l) -/
def pNum (l m : Int32) (k : Nat) : Bool := decide (cd k = 50) && wi (vl k) l m
def pWord (k lv : Nat) : PR SDn :=
  if 50 ≤ lv then .inl k
  else if od = true ∧ cd k = 14 then (if pNum cd vl 0 3 (k + 1) = true then .inr (k + 2, lv + 1, fun e => some (e 5 (vl (k + 1)).toNatClampNeg)) else .inl (k + 1))
  else if od = true ∧ cd k = 20 then (if pNum cd vl 0 7 (k + 1) = true then .inr (k + 2, lv + 1, fun e => some (e 6 (vl (k + 1)).toNatClampNeg)) else .inl (k + 1))
  else .inr (k + 1, lv + 1, fun e => some (e (wdx od (cd k)) 0))
def pChain (ops : Int32 → Bool) (item : Nat → Nat → PR SDn) : Nat → Nat → Nat → SDn → PR SDn
  | 0, k, _, _ => .inl k
  | n + 1, k, lv, f => if ops (cd k) = true then (match item (k + 1) lv with
    | .inl e => .inl e
    | .inr (k', lv', g) => pChain ops item n k' lv' (joinS (cd k - 100) f g)) else .inr (k, lv, f)
def isMul (c : Int32) : Bool := decide (c = 142) || decide (c = 147) || decide (c = 137)
def isAdd (c : Int32) : Bool := decide (c = 143) || decide (c = 145)
def pTermOf (F : Nat) (part : Nat → Nat → PR SDn) (k lv : Nat) : PR SDn := match part k lv with
  | .inl e => .inl e
  | .inr (k', lv', f) => pChain cd isMul part F k' lv' f
def pSumOf (F : Nat) (part : Nat → Nat → PR SDn) (k lv : Nat) : PR SDn := match pTermOf cd F part k lv with
  | .inl e => .inl e
  | .inr (k', lv', f) => pChain cd isAdd (pTermOf cd F part) F k' lv' f
/-- a part but no bracket -/
def pLeaf (k lv : Nat) : PR SDn :=
  if cd k = 50 ∧ vl k ≤ 1000 then (if 50 ≤ lv then .inl k else .inr (k + 1, lv + 1, fun _ => some (vl k).toInt64))
  else if fstW od ≤ cd k ∧ cd k ≤ lstW od then pWord od cd vl k lv
  else .inl k
def pPart (F : Nat) : Nat → Nat → Nat → PR SDn
  | 0, k, lv => if cd k = 191 then .inl k else pLeaf od cd vl k lv
  | d + 1, k, lv => if cd k = 191 then (match pSumOf cd F (pPart F d) (k + 1) lv with
    | .inl e => .inl e
    | .inr (k', lv', f) => if cd k' = 193 then .inr (k' + 1, lv', f) else .inl k') else pLeaf od cd vl k lv
def pSum (F d k lv : Nat) : PR SDn := pSumOf cd F (pPart od cd vl F d) k lv
def pList (op : Int32) (item : Nat → Nat → PR TDn) : Nat → Nat → Nat → List TDn → PR (List TDn)
  | 0, k, _, _ => .inl k
  | n + 1, k, lv, l => if cd k = op then (match item (k + 1) lv with
    | .inl e => .inl e
    | .inr (k', lv', g) => pList op item n k' lv' (l ++ [g])) else .inr (k, lv, l)
def pRow (all : Bool) (op : Int32) (F : Nat) (item : Nat → Nat → PR TDn) (k lv : Nat) : PR TDn := match item k lv with
  | .inl e => .inl e
  | .inr (k', lv', f) => match pList cd op item F k' lv' [f] with
    | .inl e => .inl e
    | .inr (k2, lv2, l) => .inr (k2, lv2, rowS all l)
/-- how many nots: behind them -/
def pNots : Nat → Nat → Bool → Nat × Bool
  | 0, k, no => (k, no)
  | n + 1, k, no => if cd k = 7 then pNots n (k + 1) (!no) else (k, no)
def notB (no : Bool) (f : TDn) : TDn := if no = true then notS f else f
def pComp (F d : Nat) (no : Bool) (k lv : Nat) : PR TDn := match pSum od cd vl F d k lv with
  | .inl e => .inl e
  | .inr (k', lv', f) => if cd k' = 160 ∨ cd k' = 162 ∨ cd k' = 161 then (match pSum od cd vl F d (k' + 1) lv' with
    | .inl e => .inl e
    | .inr (k2, lv2, g) => .inr (k2, lv2, notB no (cmpS (cd k' - 100) f g))) else .inl k'
def pTest (F : Nat) : Nat → Nat → Nat → PR TDn
  | 0, k, lv => pRow cd false 5 F (pRow cd true 6 F (fun k lv => match pNots cd F k false with
    | (k', no) => if cd k' = 140 then .inl k' else pComp od cd vl F 0 no k' lv)) k lv
  | d + 1, k, lv => pRow cd false 5 F (pRow cd true 6 F (fun k lv => match pNots cd F k false with
    | (k', no) => if cd k' = 140 then (match pTest F d (k' + 1) lv with
      | .inl e => .inl e
      | .inr (k2, lv2, f) => if cd k2 = 141 then .inr (k2 + 1, lv2, notB no f) else .inl k2) else pComp od cd vl F (d + 1) no k' lv)) k lv
end GR
