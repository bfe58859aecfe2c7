/-! PLAIN LAW: the component's trees, and what they tell -/
set_option maxRecDepth 100000
/-- nothing of the background lies at the places -/
def NB (A : AT) (hb : Hp) : Prop := ∀ j, j < nP → hb.2.2.2 (A.1 j) = none
/-- a cell of the background stays, but what a clause told last -/
def kpt (e : CE) (x : Option CE) : Prop := x = some e ∨ ∃ a b c d d', e = .inr (.inl (13, [a, b, c, d])) ∧ x = some (.inr (.inl (13, [a, b, c, d'])))
def Ex (hb hb' : Hp) : Prop := ∀ a e, hb.2.2.2 a = some e → kpt e (hb'.2.2.2 a)
/-- only what clauses told last has changed -/
def Td (hb hb' : Hp) : Prop := hb'.1 = hb.1 ∧ hb'.2.1 = hb.2.1 ∧ hb'.2.2.1 = hb.2.2.1 ∧ Ex hb hb' ∧ ∀ a, hb.2.2.2 a = none → hb'.2.2.2 a = none
theorem Ex_refl (hb : Hp) : Ex hb hb := fun _ _ h => Or.inl h
theorem Ex_trans {h1 h2 h3 : Hp} (a : Ex h1 h2) (b : Ex h2 h3) : Ex h1 h3 := by
  intro x e he
  rcases a x e he with z | ⟨p, q, r, s, s', z1, z2⟩
  · exact b x e z
  · rcases b x _ z2 with y | ⟨p', q', r', s'', s3, y1, y2⟩
    · exact Or.inr ⟨p, q, r, s, s', z1, y⟩
    · cases y1
      exact Or.inr ⟨p, q, r, s, s3, z1, y2⟩
theorem Td_refl (hb : Hp) : Td hb hb := ⟨rfl, rfl, rfl, Ex_refl hb, fun _ h => h⟩
theorem Td_trans {h1 h2 h3 : Hp} (a : Td h1 h2) (b : Td h2 h3) : Td h1 h3 := ⟨by rw [b.1, a.1], by rw [b.2.1, a.2.1], by rw [b.2.2.1, a.2.2.1], Ex_trans a.2.2.2.1 b.2.2.2.1, fun x h => b.2.2.2.2 x (a.2.2.2.2 x h)⟩
theorem Td_NB {A : AT} {hb hb' : Hp} (h : Td hb hb') (n : NB A hb) : NB A hb' := fun j hj => h.2.2.2.2 _ (n j hj)
theorem Ex_o {hb hb' : Hp} (h : Ex hb hb') {a : Nat} {e : CE} (he : hb.2.2.2 a = some e) (hn : ∀ l, e ≠ .inr (.inl (13, l))) : hb'.2.2.2 a = some e := by
  rcases h a e he with z | ⟨p, q, r, s, s', z1, z2⟩
  · exact z
  · exact absurd z1 (hn _)
section OB
variable {A : AT} {X : XT} {hb : Hp}
theorem oc_some (n : NB A hb) {a : Nat} {e : CE} (h : hb.2.2.2 a = some e) : (ovC A X hb).2.2.2 a = some e := by
  rw [oc_off, h]
  intro j hj z
  rw [← z, n j hj] at h
  cases h
theorem ws_s (X : XT) (j k : Nat) (v : Int32) : (ws X j k v).1 j k = v := by rw [ws_at, if_pos ⟨rfl, rfl⟩]
theorem ob_bg (n : NB A hb) {a c : Nat} {l : List Value} (h : hb.2.2.2 a = some (.inr (.inl (c, l)))) {cs : List Nat} (hc : c ∈ cs) : ob (ovC A X hb) a cs = some (c, l) := by
  unfold ob
  rw [oc_some n h]
  show (if c ∈ cs then some (c, l) else none) = _
  rw [if_pos hc]
theorem gi_bg (n : NB A hb) {a c k : Nat} {l : List Value} {x : Int32} {cs : List Nat} (h : hb.2.2.2 a = some (.inr (.inl (c, l)))) (hc : c ∈ cs) (hk : l[k]? = some (.int x)) : gi (ovC A X hb) a cs k = some x := by
  unfold gi
  rw [ob_bg n h hc, Option.bind_some, hk]
  rfl
theorem gr_bg (n : NB A hb) {a c k : Nat} {l : List Value} {x : Nat} {cs : List Nat} (h : hb.2.2.2 a = some (.inr (.inl (c, l)))) (hc : c ∈ cs) (hk : l[k]? = some (.ref x)) : gr (ovC A X hb) a cs k = some x := by
  unfold gr
  rw [ob_bg n h hc, Option.bind_some, hk]
  rfl
theorem gq_bg (n : NB A hb) {a c k : Nat} {l : List Value} {x : Option Nat} {cs : List Nat} (h : hb.2.2.2 a = some (.inr (.inl (c, l)))) (hc : c ∈ cs) (hk : l[k]? = some (va_rf x)) : gq (ovC A X hb) a cs k = some x := by
  unfold gq
  rw [ob_bg n h hc, Option.bind_some, hk]
  cases x <;> rfl
theorem gl_bg (n : NB A hb) {a c k : Nat} {l : List Value} {x : Int64} {cs : List Nat} (h : hb.2.2.2 a = some (.inr (.inl (c, l)))) (hc : c ∈ cs) (hk : l[k]? = some (.long x)) : gl (ovC A X hb) a cs k = some x := by
  unfold gl
  rw [ob_bg n h hc, Option.bind_some, hk]
  rfl
theorem arQ_bg (n : NB A hb) {a k m : Nat} {f : Nat → Option Nat} (h : hb.2.2.2 a = some (.inl (k, m, .inr (.inr (.inr (.inr f)))))) : arQ (ovC A X hb) a k = some (m, f) := by
  unfold arQ ar
  rw [oc_some n h]
  show ((if k = k then _ else none : Option vp_A).bind _) = _
  rw [if_pos rfl]
  rfl
theorem alen_bg (n : NB A hb) {a k m : Nat} {f : Nat → Option Nat} (h : hb.2.2.2 a = some (.inl (k, m, .inr (.inr (.inr (.inr f)))))) : alen (ovC A X hb) a k = some (nn m) := by
  unfold alen ar
  rw [oc_some n h]
  show ((if k = k then _ else none : Option vp_A).bind _) = _
  rw [if_pos rfl]
  rfl
theorem aR_bg (n : NB A hb) {a k m i x : Nat} {f : Nat → Option Nat} (h : hb.2.2.2 a = some (.inl (k, m, .inr (.inr (.inr (.inr f)))))) (hi : i < m) (h2 : i < 2147483648) (hx : f i = some x) : aR (ovC A X hb) a k (nn i) = some x := by
  unfold aR aQ
  rw [arQ_bg n h, Option.bind_some]
  show ((if inb (nn i) m = true then some (f (nn i).toNatClampNeg) else none).bind _) = _
  rw [inb_nn h2, nn_cl h2, decide_eq_true hi, if_pos rfl, hx]
  rfl
end OB
theorem ws_id {X : XT} {j k : Nat} {v : Int32} (h : X.1 j k = v) : ws X j k v = X := by
  refine Prod.ext ?_ rfl
  funext a b
  show (if a = j ∧ b = k then v else X.1 a b) = X.1 a b
  split
  · next z => rw [z.1, z.2, h]
  · rfl
theorem ws_ws {X : XT} {j k : Nat} {v w : Int32} : ws (ws X j k v) j k w = ws X j k w := by
  refine Prod.ext ?_ rfl
  funext a b
  show (if a = j ∧ b = k then w else (if a = j ∧ b = k then v else X.1 a b)) = (if a = j ∧ b = k then w else X.1 a b)
  split <;> rfl
/-- where the numbers asked of laws, of orders lie -/
def pA (od : Bool) : Nat := if od = true then 30 else 28
/-- a tree of a sum -/
def SR (od : Bool) (hb : Hp) (x0 : Nat) : Nat → Nat → SDn → Prop
  | 0, _, _ => False
  | d + 1, a, f =>
    (∃ n : Int32, hb.2.2.2 a = some (.inr (.inl (9, [.int n]))) ∧ f = fun _ => some n.toInt64) ∨
    (∃ w : Nat, w < 9 ∧ (od = true → w < 5) ∧ hb.2.2.2 a = some (.inr (.inl (10, [.int (nn w)]))) ∧ f = fun e => some (e w 0)) ∨
    (∃ w k : Nat, od = true ∧ (w = 5 ∨ w = 6) ∧ k < 8 ∧ hb.2.2.2 a = some (.inr (.inl (11, [.int (nn w), .int (nn k), .ref x0]))) ∧ f = fun e => some (e w k)) ∨
    (∃ (b1 b2 : Nat) (s : Int32) (f1 f2 : SDn), (s = 43 ∨ s = 45 ∨ s = 42 ∨ s = 47 ∨ s = 37) ∧ hb.2.2.2 a = some (.inr (.inl (12, [.ref b1, .ref b2, .int s]))) ∧ SR od hb x0 d b1 f1 ∧ SR od hb x0 d b2 f2 ∧ f = joinS s f1 f2)
theorem SR_up {od : Bool} {hb : Hp} {x0 : Nat} : ∀ (d a : Nat) (f : SDn), SR od hb x0 d a f → SR od hb x0 (d + 1) a f := by
  intro d
  induction d with
  | zero => intro a f h; exact absurd h (fun z => z)
  | succ d ih =>
    intro a f h
    rcases h with h | h | h | ⟨b1, b2, s, f1, f2, h1, h2, h3, h4, h5⟩
    · exact Or.inl h
    · exact Or.inr (Or.inl h)
    · exact Or.inr (Or.inr (Or.inl h))
    · exact Or.inr (Or.inr (Or.inr ⟨b1, b2, s, f1, f2, h1, h2, ih _ _ h3, ih _ _ h4, h5⟩))
theorem SR_le {od : Bool} {hb : Hp} {x0 d D a : Nat} {f : SDn} (h : SR od hb x0 d a f) (hd : d ≤ D) : SR od hb x0 D a f := by
  induction D with
  | zero =>
    have : d = 0 := by omega
    rw [this] at h
    exact h
  | succ D ih =>
    by_cases z : d = D + 1
    · rw [← z]; exact h
    · exact SR_up _ _ _ (ih (by omega))
theorem SR_ex {od : Bool} {hb hb' : Hp} {x0 : Nat} (hx : Ex hb hb') : ∀ (d a : Nat) (f : SDn), SR od hb x0 d a f → SR od hb' x0 d a f := by
  intro d
  induction d with
  | zero => intro a f h; exact h
  | succ d ih =>
    intro a f h
    rcases h with ⟨n, h1, h2⟩ | ⟨w, h1, h2, h3, h4⟩ | ⟨w, k, h1, h2, h3, h4, h5⟩ | ⟨b1, b2, s, f1, f2, h1, h2, h3, h4, h5⟩
    · exact Or.inl ⟨n, Ex_o hx h1 (fun l z => by cases z), h2⟩
    · exact Or.inr (Or.inl ⟨w, h1, h2, Ex_o hx h3 (fun l z => by cases z), h4⟩)
    · exact Or.inr (Or.inr (Or.inl ⟨w, k, h1, h2, h3, Ex_o hx h4 (fun l z => by cases z), h5⟩))
    · exact Or.inr (Or.inr (Or.inr ⟨b1, b2, s, f1, f2, h1, Ex_o hx h2 (fun l z => by cases z), ih _ _ h3, ih _ _ h4, h5⟩))
/-- what the component is asked -/
def CEv (od : Bool) (A : AT) (X : XT) (hb : Hp) (e : EV) : Prop := (∀ w, w < 9 → (od = true → w < 5) → X.2.1 (pA od + 1) w = e w 0) ∧ (od = true → ∀ w k a, (w = 5 ∨ w = 6) → k < 8 → hb.2.2.2 a = some (.inr (.inl (11, [.int (nn w), .int (nn k), .ref (A.1 0)]))) → X13_of (ovC A X hb) a (A.1 30) = some (e w k))
/-- how it comes out -/
noncomputable def cO (A : AT) (X : XT) (hb : Hp) (p : Nat) (o : Option Int64) : Option (Int64 × Hp) := match o with
  | some v => some (v, ovC A X hb)
  | none => some (0, ovC A (ws X p 1 1) hb)
theorem pA_s (od : Bool) : fI (pA od) [4] 1 = true ∧ fL (pA od + 1) = true ∧ fR (pA od) [4] 0 = some (pA od + 1) ∧ fO (pA od) [4] = true := by cases od <;> decide
section CE1
variable {od : Bool} {A : AT} {X : XT} {hb : Hp} {e : EV}
theorem c_within {v : Int64} (h0 : X.1 (pA od) 1 = 0) : X4_within (A.1 (pA od)) v (ovC A X hb) = cO A X hb (pA od) (bndS v) := by
  obtain ⟨p1, p2, p3, p4⟩ := pA_s od
  have h29 : ∀ z : Bool, X4_within_J29 (A.1 (pA od)) v (bz z) (A.1 (pA od)) (ovC A X hb) = cO A X hb (pA od) (if z = true then none else some v) := by
    intro z
    unfold X4_within_J29
    rw [pz_oc p1, Option.bind_some, gi_oc p1, Option.bind_some, ws_s]
    cases z
    · rw [if_pos (by rfl), show bz false = 0 from rfl, ws_id h0]
      rfl
    · rw [if_neg (by decide)]
      rfl
  have h24 : X4_within_J24 (A.1 (pA od)) v (A.1 (pA od)) (ovC A X hb) = cO A X hb (pA od) none := h29 true
  unfold X4_within X4_within_b
  rw [ob_ocK p4, gi_oc p1, Option.bind_some, h0, if_pos rfl, bndS_o]
  simp only [cmp_gt, cmp_ge]
  unfold outB
  by_cases h1 : (1000000000 : Int64) < v
  · rw [if_pos h1, h24, decide_eq_true (Or.inl h1)]
    rfl
  · rw [if_neg h1]
    by_cases h2 : (-1000000000 : Int64) ≤ v
    · have h3 : ¬ (v > 1000000000 ∨ v < -1000000000) := by
        rintro (z | z)
        · exact h1 z
        · rw [Int64.lt_iff_toInt_lt] at z
          rw [Int64.le_iff_toInt_le] at h2
          omega
      rw [if_pos h2, show (0 : Int32) = bz false from rfl, h29, decide_eq_false h3]
    · have h3 : (v > 1000000000 ∨ v < -1000000000) := by
        right
        rw [Int64.lt_iff_toInt_lt]
        rw [Int64.le_iff_toInt_le] at h2
        omega
      rw [if_neg h2, h24, decide_eq_true h3]
      rfl
/-- a sum is reckoned -/
theorem c_sum (n : NB A hb) : ∀ (d a : Nat) (f : SDn), SR od hb (A.1 0) d a f → ∀ (D : Nat) (X : XT), d ≤ D → CEv od A X hb e → X.1 (pA od) 1 = 0 → D_sum D a (A.1 (pA od)) (ovC A X hb) = cO A X hb (pA od) (f e) := by
  obtain ⟨p1, p2, p3, p4⟩ := pA_s od
  intro d
  induction d with
  | zero => intro a f h; exact absurd h (fun z => z)
  | succ d ih =>
    intro a f h D X hD hce h0
    obtain ⟨D', rfl⟩ : ∃ D', D = D' + 1 := ⟨D - 1, by omega⟩
    rcases h with ⟨m, h1, rfl⟩ | ⟨w, hw, hw5, h1, rfl⟩ | ⟨w, k, hod, hw, hk, h1, rfl⟩ | ⟨b1, b2, s, f1, f2, hs, h1, h3, h4, rfl⟩
    · unfold D_sum
      rw [ob_bg n h1 (by decide), Option.bind_some, if_pos rfl]
      unfold X11_of X11_of_b
      rw [ob_bg n h1 (by decide), Option.bind_some, gi_bg n h1 (by decide) rfl]
      rfl
    · unfold D_sum
      rw [ob_bg n h1 (by decide), Option.bind_some, if_neg (show ¬ (10 : Nat) = 9 by decide), if_pos rfl]
      unfold X12_of X12_of_b
      rw [ob_bg n h1 (by decide), Option.bind_some, gr_oc p3, Option.bind_some, gi_bg n h1 (by decide) rfl, Option.bind_some, aL_oc p2 hw, Option.bind_some, hce.1 w hw hw5]
      rfl
    · unfold D_sum
      rw [ob_bg n h1 (by decide), Option.bind_some, if_neg (show ¬ (11 : Nat) = 9 by decide), if_neg (show ¬ (11 : Nat) = 10 by decide), if_pos rfl]
      have hpa : pA od = 30 := by rw [hod]; rfl
      rw [hpa, hce.2 hod w k a hw hk h1]
      rfl
    · unfold D_sum
      rw [ob_bg n h1 (by decide), Option.bind_some, if_neg (show ¬ (12 : Nat) = 9 by decide), if_neg (show ¬ (12 : Nat) = 10 by decide), if_neg (show ¬ (12 : Nat) = 11 by decide)]
      unfold X14_of X14_of_b
      have hbr : ∀ x, X14_of_J28 (D_sum D') a (A.1 (pA od)) x 0 (ovC A (ws X (pA od) 1 1) hb) = some (0, ovC A (ws X (pA od) 1 1) hb) := by
        intro x
        unfold X14_of_J28
        rw [gi_oc p1, Option.bind_some, ws_s, if_neg (by decide)]
      rw [ob_bg n h1 (by decide), Option.bind_some, gr_bg n h1 (by decide) rfl, Option.bind_some, ih b1 f1 h3 D' X (by omega) hce h0, joinS_jo]
      cases hf1 : f1 e with
      | none =>
        show bd2 (some ((0 : Int64), ovC A (ws X (pA od) 1 1) hb)) _ = _
        rw [bd2_some, gi_oc p1, Option.bind_some, ws_s, if_neg (by decide), hbr]
        rfl
      | some p =>
        show bd2 (some (p, ovC A X hb)) _ = _
        rw [bd2_some, gi_oc p1, Option.bind_some, h0, if_pos rfl, gr_bg n h1 (by decide) rfl, Option.bind_some, ih b2 f2 h4 D' X (by omega) hce h0]
        cases hf2 : f2 e with
        | none =>
          show bd2 (some ((0 : Int64), ovC A (ws X (pA od) 1 1) hb)) _ = _
          rw [bd2_some, hbr]
          rfl
        | some q =>
          show bd2 (some (q, ovC A X hb)) _ = cO A X hb (pA od) (opS s p q)
          rw [bd2_some]
          have h142 : ∀ x, X14_of_J142 (D_sum D') x (A.1 (pA od)) (ovC A X hb) = cO A X hb (pA od) (bndS x) := by
            intro x
            unfold X14_of_J142
            rw [bd2_eta, c_within h0]
          have h57 : s = 47 ∨ s = 37 → X14_of_J57 (D_sum D') a (A.1 (pA od)) p q (ovC A X hb) = cO A X hb (pA od) (opS s p q) := by
            intro hs2
            unfold X14_of_J57 X14_of_J70
            simp only [cmp_eq, bz_ite, pz_oc p1, Option.bind_some]
            by_cases hq : q = 0
            · rw [if_pos hq, decide_eq_true hq]
              have : opS s p q = none := by
                unfold opS
                rcases hs2 with z | z
                · rw [if_pos z, if_pos hq]
                · rw [if_neg (by rw [z]; decide), if_pos z, if_pos hq]
              rw [this]
              rfl
            · rw [if_neg hq, decide_eq_false hq, gi_bg n h1 (by decide) rfl, Option.bind_some, if_neg hq, if_neg hq, show bz false = 0 from rfl, ws_id h0]
              unfold opS
              rcases hs2 with z | z
              · rw [if_pos z, if_pos z, if_neg hq]
                rfl
              · rw [if_neg (by rw [z]; decide), if_neg (by rw [z]; decide), if_pos z, if_neg hq]
                rfl
          unfold X14_of_J28
          rw [gi_oc p1, Option.bind_some, h0, if_pos rfl, gi_bg n h1 (by decide) rfl, Option.bind_some]
          by_cases c1 : s = 47
          · rw [if_pos c1, h57 (Or.inl c1)]
          rw [if_neg c1, Option.bind_some]
          by_cases c2 : s = 37
          · rw [if_pos c2, h57 (Or.inr c2)]
          rw [if_neg c2, Option.bind_some]
          unfold opS
          rw [if_neg c1, if_neg c2]
          by_cases c3 : s = 43
          · rw [if_pos c3, if_pos c3, h142]
          rw [if_neg c3, if_neg c3, Option.bind_some]
          by_cases c4 : s = 45
          · rw [if_pos c4, if_pos c4, h142]
          rw [if_neg c4, if_neg c4, h142]
end CE1
