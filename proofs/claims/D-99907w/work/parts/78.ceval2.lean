/-! PLAIN LAW: the component's tests and clauses -/
set_option maxRecDepth 100000
def TR (od : Bool) (hb : Hp) (x0 : Nat) : Nat → Nat → TDn → Prop
  | 0, _, _ => False
  | d + 1, a, f =>
    (∃ (b1 b2 : Nat) (s : Int32) (f1 f2 : SDn), hb.2.2.2 a = some (.inr (.inl (14, [.ref b1, .ref b2, .int s]))) ∧ SR od hb x0 100 b1 f1 ∧ SR od hb x0 100 b2 f2 ∧ f = cmpS s f1 f2) ∨
    (∃ (b : Nat) (g : TDn), hb.2.2.2 a = some (.inr (.inl (15, [.ref b]))) ∧ TR od hb x0 d b g ∧ f = notS g) ∨
    (∃ (all : Bool) (t : Nat) (q : Nat → Option Nat) (fs : List TDn), hb.2.2.2 a = some (.inr (.inl (16, [.int (bz all), .ref t]))) ∧ hb.2.2.2 t = some (.inl (9, fs.length, .inr (.inr (.inr (.inr q))))) ∧ fs.length ≤ 60 ∧ (∀ i, (h : i < fs.length) → ∃ c, q i = some c ∧ TR od hb x0 d c (fs[i]'h)) ∧ f = rowS all fs)
theorem TR_up {od : Bool} {hb : Hp} {x0 : Nat} : ∀ (d a : Nat) (f : TDn), TR od hb x0 d a f → TR od hb x0 (d + 1) a f := by
  intro d
  induction d with
  | zero => intro a f h; exact absurd h (fun z => z)
  | succ d ih =>
    intro a f h
    rcases h with h | ⟨b, g, h1, h2, h3⟩ | ⟨all, t, q, fs, h1, h2, h3, h4, h5⟩
    · exact Or.inl h
    · exact Or.inr (Or.inl ⟨b, g, h1, ih _ _ h2, h3⟩)
    · refine Or.inr (Or.inr ⟨all, t, q, fs, h1, h2, h3, fun i hi => ?_, h5⟩)
      obtain ⟨c, c1, c2⟩ := h4 i hi
      exact ⟨c, c1, ih _ _ c2⟩
theorem TR_le {od : Bool} {hb : Hp} {x0 d D a : Nat} {f : TDn} (h : TR od hb x0 d a f) (hd : d ≤ D) : TR od hb x0 D a f := by
  induction D with
  | zero =>
    have : d = 0 := by omega
    rw [this] at h
    exact h
  | succ D ih =>
    by_cases z : d = D + 1
    · rw [← z]; exact h
    · exact TR_up _ _ _ (ih (by omega))
theorem TR_ex {od : Bool} {hb hb' : Hp} {x0 : Nat} (hx : Ex hb hb') : ∀ (d a : Nat) (f : TDn), TR od hb x0 d a f → TR od hb' x0 d a f := by
  intro d
  induction d with
  | zero => intro a f h; exact h
  | succ d ih =>
    intro a f h
    rcases h with ⟨b1, b2, s, f1, f2, h1, h2, h3, h4⟩ | ⟨b, g, h1, h2, h3⟩ | ⟨all, t, q, fs, h1, h2, h3, h4, h5⟩
    · exact Or.inl ⟨b1, b2, s, f1, f2, Ex_o hx h1 (fun l z => by cases z), SR_ex hx _ _ _ h2, SR_ex hx _ _ _ h3, h4⟩
    · exact Or.inr (Or.inl ⟨b, g, Ex_o hx h1 (fun l z => by cases z), ih _ _ h2, h3⟩)
    · refine Or.inr (Or.inr ⟨all, t, q, fs, Ex_o hx h1 (fun l z => by cases z), Ex_o hx h2 (fun l z => by cases z), h3, fun i hi => ?_, h5⟩)
      obtain ⟨c, c1, c2⟩ := h4 i hi
      exact ⟨c, c1, ih _ _ c2⟩
noncomputable def cB (A : AT) (X : XT) (hb : Hp) (p : Nat) (o : Option Bool) : Option (Int32 × Hp) := match o with
  | some v => some (bz v, ovC A X hb)
  | none => some (0, ovC A (ws X p 1 1) hb)
section CE2
variable {od : Bool} {A : AT} {hb : Hp} {e : EV} {N : Nat}
theorem c_test (hN : 20000 ≤ N) (n : NB A hb) : ∀ (d a : Nat) (f : TDn), TR od hb (A.1 0) d a f → ∀ (D : Nat) (X : XT), d ≤ D → CEv od A X hb e → X.1 (pA od) 1 = 0 → D_test N D a (A.1 (pA od)) (ovC A X hb) = cB A X hb (pA od) (f e) := by
  obtain ⟨p1, p2, p3, p4⟩ := pA_s od
  intro d
  induction d with
  | zero => intro a f h; exact absurd h (fun z => z)
  | succ d ih =>
    intro a f h D X hD hce h0
    obtain ⟨D', rfl⟩ : ∃ D', D = D' + 1 := ⟨D - 1, by omega⟩
    rcases h with ⟨b1, b2, s, f1, f2, h1, h3, h4, rfl⟩ | ⟨b, g, h1, h2, rfl⟩ | ⟨all, t, q, fs, h1, h2, h3, h4, rfl⟩
    · unfold D_test
      rw [ob_bg n h1 (by decide), Option.bind_some, if_pos rfl]
      unfold X17_of X17_of_b
      have hbr : ∀ x, X17_of_J28 a (A.1 (pA od)) x 0 (ovC A (ws X (pA od) 1 1) hb) = some (0, ovC A (ws X (pA od) 1 1) hb) := by
        intro x
        unfold X17_of_J28
        rw [gi_oc p1, Option.bind_some, ws_s, if_neg (by decide)]
      rw [ob_bg n h1 (by decide), Option.bind_some, gr_bg n h1 (by decide) rfl, Option.bind_some, c_sum n 100 b1 f1 h3 128 X (by omega) hce h0]
      unfold cmpS
      cases hf1 : f1 e with
      | none =>
        show bd2 (some ((0 : Int64), ovC A (ws X (pA od) 1 1) hb)) _ = _
        rw [bd2_some, gi_oc p1, Option.bind_some, ws_s, if_neg (by decide), hbr]
        rfl
      | some p =>
        show bd2 (some (p, ovC A X hb)) _ = _
        rw [bd2_some, gi_oc p1, Option.bind_some, h0, if_pos rfl, gr_bg n h1 (by decide) rfl, Option.bind_some, c_sum n 100 b2 f2 h4 128 X (by omega) hce h0]
        cases hf2 : f2 e with
        | none =>
          show bd2 (some ((0 : Int64), ovC A (ws X (pA od) 1 1) hb)) _ = _
          rw [bd2_some, hbr]
          rfl
        | some q =>
          show bd2 (some (q, ovC A X hb)) _ = some (bz (opC s p q), ovC A X hb)
          rw [bd2_some]
          unfold X17_of_J28 opC
          rw [gi_oc p1, Option.bind_some, h0, if_pos rfl, gi_bg n h1 (by decide) rfl, Option.bind_some]
          simp only [cmp_ge, cmp_le, cmp_eq]
          by_cases c1 : s = 60
          · rw [if_pos c1, if_pos c1]
            by_cases hlt : p < q
            · rw [if_neg (by rw [Int64.le_iff_toInt_le]; rw [Int64.lt_iff_toInt_lt] at hlt; omega), decide_eq_true hlt]; rfl
            · rw [if_pos (by rw [Int64.le_iff_toInt_le]; rw [Int64.lt_iff_toInt_lt] at hlt; omega), decide_eq_false hlt]; rfl
          rw [if_neg c1, if_neg c1, Option.bind_some]
          by_cases c2 : s = 62
          · rw [if_pos c2, if_pos c2]
            by_cases hlt : q < p
            · rw [if_neg (by rw [Int64.le_iff_toInt_le]; rw [Int64.lt_iff_toInt_lt] at hlt; omega), decide_eq_true hlt]; rfl
            · rw [if_pos (by rw [Int64.le_iff_toInt_le]; rw [Int64.lt_iff_toInt_lt] at hlt; omega), decide_eq_false hlt]; rfl
          rw [if_neg c2, if_neg c2]
          by_cases hlt : p = q
          · rw [if_pos hlt, decide_eq_true hlt]; rfl
          · rw [if_neg hlt, decide_eq_false hlt]; rfl
    · unfold D_test
      rw [ob_bg n h1 (by decide), Option.bind_some, if_neg (show ¬ (15 : Nat) = 14 by decide), if_pos rfl]
      unfold X18_of X18_of_b
      rw [ob_bg n h1 (by decide), Option.bind_some, gr_bg n h1 (by decide) rfl, Option.bind_some, ih b g h2 D' X (by omega) hce h0]
      unfold notS
      cases hg : g e with
      | none =>
        show bd2 (some ((0 : Int32), ovC A (ws X (pA od) 1 1) hb)) _ = _
        rw [bd2_some, if_pos rfl, gi_oc p1, Option.bind_some, ws_s, if_neg (by decide)]
        rfl
      | some v =>
        show bd2 (some (bz v, ovC A X hb)) _ = some (bz (!v), ovC A X hb)
        rw [bd2_some]
        cases v
        · rw [if_pos (by rfl), gi_oc p1, Option.bind_some, h0, if_pos rfl]
          rfl
        · rw [if_neg (by decide)]
          rfl
    · unfold D_test
      rw [ob_bg n h1 (by decide), Option.bind_some, if_neg (show ¬ (16 : Nat) = 14 by decide), if_neg (show ¬ (16 : Nat) = 15 by decide)]
      unfold X19_of X19_of_b
      rw [ob_bg n h1 (by decide), Option.bind_some, gr_bg n h1 (by decide) rfl, Option.bind_some, alen_bg n h2, Option.bind_some]
      have hloop : ∀ (r i m : Nat), i + r = fs.length → r < m → X19_of_L11 N (D_test N D') (fun v39 h40 => (gi h40 v39 [16] 0).bind fun v41 => (rz v41).bind fun v42 => some (v42, h40)) m a (A.1 (pA od)) t (nn fs.length) (nn i) (ovC A X hb) = cB A X hb (pA od) (rowE all e (fs.drop i)) := by
        intro r
        induction r with
        | zero =>
          intro i m hi hm
          obtain ⟨m', rfl⟩ : ∃ m', m = m' + 1 := ⟨m - 1, by omega⟩
          rw [X19_of_L11, if_pos (by rw [nn_le (by omega) (by omega)]; omega), gi_bg n h1 (by decide) rfl, Option.bind_some, rz_bz, List.drop_of_length_le (by omega)]
          rfl
        | succ r ihr =>
          intro i m hi hm
          obtain ⟨m', rfl⟩ : ∃ m', m = m' + 1 := ⟨m - 1, by omega⟩
          have hlt : i < fs.length := by omega
          obtain ⟨c, c1, c2⟩ := h4 i hlt
          rw [X19_of_L11, if_neg (by rw [nn_le (by omega) (by omega)]; omega), aR_bg n h2 hlt (by omega) c1, Option.bind_some, ih c _ c2 D' X (by omega) hce h0, List.drop_eq_getElem_cons hlt]
          show _ = cB A X hb (pA od) (match (fs[i]'hlt) e with | none => none | some v => if v = all then rowE all e (fs.drop (i + 1)) else some (!all))
          cases hg : (fs[i]'hlt) e with
          | none =>
            show bd2 (some ((0 : Int32), ovC A (ws X (pA od) 1 1) hb)) _ = _
            rw [bd2_some, gi_oc p1, Option.bind_some, ws_s, if_neg (by decide)]
            rfl
          | some v =>
            show bd2 (some (bz v, ovC A X hb)) _ = cB A X hb (pA od) (if v = all then rowE all e (fs.drop (i + 1)) else some (!all))
            rw [bd2_some, gi_oc p1, Option.bind_some, h0, if_pos rfl, gi_bg n h1 (by decide) rfl, Option.bind_some]
            by_cases hv : v = all
            · rw [if_pos (by rw [hv]), if_pos hv, show (1 : Int32) = nn 1 from rfl, nn_add, ihr (i + 1) m' (by omega) (by omega)]
            · have hb' : ¬ bz v = bz all := by rw [bz_inj]; exact hv
              rw [if_neg hb', if_neg hv, Option.bind_some]
              cases all <;> rfl
      have := hloop fs.length 0 N (by omega) (by omega)
      rw [List.drop_zero] at this
      exact this
/-- a clause -/
def oR {α : Type} (P : Nat → α → Prop) : Option Nat → Option α → Prop
  | none, none => True
  | some b, some f => P b f
  | _, _ => False
def CR (od : Bool) (hb : Hp) (x0 a : Nat) (c : CDn) : Prop := ∃ (qs qt : Option Nat) (told : Value), hb.2.2.2 a = some (.inr (.inl (13, [.int (nn c.1), va_rf qs, va_rf qt, told]))) ∧ oR (SR od hb x0 100) qs c.2.1 ∧ oR (TR od hb x0 60) qt c.2.2
theorem oR_mono {α : Type} {P Q : Nat → α → Prop} (h : ∀ a f, P a f → Q a f) {o : Option Nat} {x : Option α} (z : oR P o x) : oR Q o x := by
  cases o <;> cases x
  · trivial
  · exact z
  · exact z
  · exact h _ _ z
theorem CR_ex {hb hb' : Hp} {x0 a : Nat} {c : CDn} (hx : Ex hb hb') (h : CR od hb x0 a c) : CR od hb' x0 a c := by
  obtain ⟨qs, qt, told, h1, h2, h3⟩ := h
  have h2' := oR_mono (Q := SR od hb' x0 100) (fun a f => SR_ex hx _ a f) h2
  have h3' := oR_mono (Q := TR od hb' x0 60) (fun a f => TR_ex hx _ a f) h3
  rcases hx a _ h1 with z | ⟨p, q, r, s, s', z1, z2⟩
  · exact ⟨qs, qt, told, z, h2', h3'⟩
  · cases z1
    exact ⟨qs, qt, s', z2, h2', h3'⟩
/-- what is written into a cell of the background -/
theorem up_Td {a : Nat} {x y z w w' : Value} (h : hb.2.2.2 a = some (.inr (.inl (13, [x, y, z, w])))) : Td hb (up hb a (.inr (.inl (13, [x, y, z, w'])))) := by
  refine ⟨rfl, rfl, rfl, fun b e he => ?_, fun b hn => ?_⟩
  · show kpt e (if b = a then some _ else hb.2.2.2 b)
    by_cases hb' : b = a
    · rw [if_pos hb']
      rw [hb', h] at he
      cases he
      exact Or.inr ⟨x, y, z, w, w', rfl, rfl⟩
    · rw [if_neg hb']
      exact Or.inl he
  · show (if b = a then some _ else hb.2.2.2 b) = none
    by_cases hb' : b = a
    · rw [hb', h] at hn
      cases hn
    · rw [if_neg hb']
      exact hn
variable {X : XT}
theorem nb_off (n : NB A hb) {a : Nat} {e : CE} (h : hb.2.2.2 a = some e) : ∀ j, j < nP → A.1 j ≠ a := by
  intro j hj z
  rw [← z, n j hj] at h
  cases h
theorem CEv_l {X' : XT} {hb' : Hp} (h : X'.2 = X.2) (hc : CEv false A X hb e) : CEv false A X' hb' e := ⟨fun w hw h5 => by rw [h]; exact hc.1 w hw h5, fun z => by cases z⟩
/-- all ints but whether asking is broken -/
def q28 (X : XT) : Nat → Nat → Int32 := fun j k => if j = 28 then 0 else X.1 j k
theorem q28_ws (Y : XT) (v : Int32) : q28 (ws Y 28 1 v) = q28 Y := by
  funext j k
  unfold q28
  by_cases h : j = 28
  · rw [if_pos h, if_pos h]
  · rw [if_neg h, if_neg h, ws_at, if_neg (fun z => h z.1)]
theorem q28_1 {X Y : XT} (h : Y.1 = X.1) : q28 Y = q28 X := by unfold q28; rw [h]
theorem q28_at {X Y : XT} (h : q28 Y = q28 X) {j : Nat} (hj : j ≠ 28) : Y.1 j = X.1 j := by
  funext k
  have := congrFun (congrFun h j) k
  unfold q28 at this
  rwa [if_neg hj, if_neg hj] at this
theorem q28_co {X Y : XT} (h : q28 Y = q28 X) : coC Y = coC X := by
  have hv : ∀ g i, cLv Y g i = cLv X g i := by
    intro g i
    unfold cLv
    rw [q28_at h (by decide), q28_at h (by decide)]
  funext g i
  by_cases hc : cR g i = true ∧ cLv X g i
  · rw [coC_p hc.1 hc.2, coC_p hc.1 (by rw [hv]; exact hc.2), q28_at h]
    intro z
    have := cIn_cL hc.1
    rw [z] at this
    have e : ∀ k, cIn 28 k = (99, 0) := fun k => rfl
    rw [e] at this
    have h' := of_decide_eq_true hc.1
    have := congrArg Prod.fst this
    simp only at this
    omega
  · rw [coC_n hc, coC_n (by rw [hv]; exact hc)]
/-- a clause is asked -/
theorem c_holds (hN : 20000 ≤ N) (n : NB A hb) {a : Nat} {c : CDn} (hc : CR false hb (A.1 0) a c) (hce : CEv false A X hb e) : ∃ X' hb', X15_holds N a (A.1 28) (ovC A X hb) = some (bz (clV 0 c e).isSome, ovC A X' hb') ∧ q28 X' = q28 X ∧ X'.2 = X.2 ∧ Td hb hb' ∧ ∀ v, clV 0 c e = some v → ∃ x y z, hb'.2.2.2 a = some (.inr (.inl (13, [x, y, z, .long v]))) := by
  obtain ⟨qs, qt, told, h1, h2, h3⟩ := hc
  have co28 : ∀ (Y : XT) v, q28 (ws Y 28 1 v) = q28 Y := fun Y v => q28_ws Y v
  have e0 : (ws X 28 1 (bz false)).1 28 1 = 0 := ws_s _ _ _ _
  have hce0 : CEv false A (ws X 28 1 (bz false)) hb e := CEv_l (X := X) (show (ws X 28 1 (bz false)).2 = X.2 from rfl) hce
  have hpo : ∀ (Y : XT) (v : Int64), po (ovC A Y hb) a [13] 3 (.long v) = some (ovC A Y (up hb a (.inr (.inl (13, [.int (nn c.1), va_rf qs, va_rf qt, .long v]))))) := by
    intro Y v
    unfold po
    rw [ob_bg n h1 (by decide), Option.bind_some]
    show some (up (ovC A Y hb) a (.inr (.inl (13, [.int (nn c.1), va_rf qs, va_rf qt, .long v])))) = _
    rw [oc_upO (nb_off n h1)]
  have h52 : ∀ (Y : XT) (v : Int64), X15_holds_J52 N (A.1 28) v a (ovC A Y hb) = some (bz (decide (Y.1 28 1 = 0)), ovC A Y (up hb a (.inr (.inl (13, [.int (nn c.1), va_rf qs, va_rf qt, .long v]))))) := by
    intro Y v
    unfold X15_holds_J52
    rw [hpo, Option.bind_some, og_28_1, Option.bind_some, bz_ite, rz_bz, Option.bind_some]
  -- the sum, behind a test that holds
  have h23 : ∃ X' hb', X15_holds_J23 N a (A.1 28) (ovC A (ws X 28 1 (bz false)) hb) = some (bz (match c.2.1 with | none => some (0 : Int64) | some f => f e).isSome, ovC A X' hb') ∧ q28 X' = q28 X ∧ X'.2 = X.2 ∧ Td hb hb' ∧ ∀ v, (match c.2.1 with | none => some (0 : Int64) | some f => f e) = some v → ∃ x y z, hb'.2.2.2 a = some (.inr (.inl (13, [x, y, z, .long v]))) := by
    have hup : ∀ v : Int64, (up hb a (.inr (.inl (13, [.int (nn c.1), va_rf qs, va_rf qt, .long v])))).2.2.2 a = some (.inr (.inl (13, [.int (nn c.1), va_rf qs, va_rf qt, .long v]))) := by
      intro v
      show (if a = a then some _ else _) = _
      rw [if_pos rfl]
    unfold X15_holds_J23
    rw [og_28_1, Option.bind_some, e0, if_pos rfl, gq_bg n h1 (by decide) (x := qs) rfl, Option.bind_some]
    cases hq : qs with
    | none =>
      have hf : c.2.1 = none := by
        rw [hq] at h2
        cases hs : c.2.1 with
        | none => rfl
        | some f => rw [hs] at h2; exact absurd h2 (fun z => z)
      rw [hf]
      refine ⟨_, _, h52 _ 0, co28 _ _, rfl, up_Td h1, fun v hv => ?_⟩
      cases hv
      exact ⟨_, _, _, hup 0⟩
    | some bsum =>
      obtain ⟨f, hf, hsr⟩ : ∃ f, c.2.1 = some f ∧ SR false hb (A.1 0) 100 bsum f := by
        rw [hq] at h2
        cases hs : c.2.1 with
        | none => rw [hs] at h2; exact absurd h2 (fun z => z)
        | some f => rw [hs] at h2; exact ⟨f, rfl, h2⟩
      rw [hf]
      show ∃ X' hb', ((gr (ovC A (ws X 28 1 (bz false)) hb) a [13] 1).bind fun v37 => bd2 (D_sum 128 v37 (A.1 28) (ovC A (ws X 28 1 (bz false)) hb)) fun v38 h39 => X15_holds_J52 N (A.1 28) v38 a h39) = _ ∧ _
      rw [gr_bg n h1 (by decide) (x := bsum) (by rw [hq]; rfl), Option.bind_some, show A.1 28 = A.1 (pA false) from rfl, c_sum n 100 bsum f hsr 128 _ (by omega) hce0 e0]
      cases hfe : f e with
      | none =>
        show ∃ X' hb', bd2 (some ((0 : Int64), ovC A (ws (ws X 28 1 (bz false)) 28 1 1) hb)) _ = _ ∧ _
        rw [bd2_some]
        refine ⟨ws (ws X 28 1 (bz false)) 28 1 1, _, ?_, ?_, ?_, up_Td h1 (w' := .long 0), fun v hv => by simp only [hfe] at hv; cases hv⟩
        · have := h52 (ws (ws X 28 1 (bz false)) 28 1 1) 0
          rw [ws_s] at this
          simp only [hfe]
          exact this
        · rw [co28, co28]
        · rfl
      | some v =>
        show ∃ X' hb', bd2 (some (v, ovC A (ws X 28 1 (bz false)) hb)) _ = _ ∧ _
        rw [bd2_some]
        refine ⟨ws X 28 1 (bz false), _, ?_, co28 _ _, rfl, up_Td h1 (w' := .long v), fun v' hv => ?_⟩
        · have := h52 (ws X 28 1 (bz false)) v
          rw [e0] at this
          simp only [hfe]
          exact this
        · simp only [hfe] at hv
          cases hv
          exact ⟨_, _, _, hup v⟩
  unfold X15_holds X15_holds_b
  rw [ob_bg n h1 (by decide), Option.bind_some, show (0 : Int32) = bz false from rfl, op_28_1, Option.bind_some, gq_bg n h1 (by decide) (x := qt) rfl, Option.bind_some]
  unfold clV clT
  cases hq : qt with
  | none =>
    have hf : c.2.2 = none := by
      rw [hq] at h3
      cases hs : c.2.2 with
      | none => rfl
      | some f => rw [hs] at h3; exact absurd h3 (fun z => z)
    rw [hf]
    simp only [if_true]
    exact h23
  | some btest =>
    obtain ⟨f, hf, htr⟩ : ∃ f, c.2.2 = some f ∧ TR false hb (A.1 0) 60 btest f := by
      rw [hq] at h3
      cases hs : c.2.2 with
      | none => rw [hs] at h3; exact absurd h3 (fun z => z)
      | some f => rw [hs] at h3; exact ⟨f, rfl, h3⟩
    rw [hf]
    show ∃ X' hb', ((gr (ovC A (ws X 28 1 (bz false)) hb) a [13] 2).bind fun v40 => bd2 (D_test N 64 v40 (A.1 28) (ovC A (ws X 28 1 (bz false)) hb)) fun v41 h42 => if v41 = bz false then some (bz false, h42) else X15_holds_J23 N a (A.1 28) h42) = _ ∧ _
    rw [gr_bg n h1 (by decide) (x := btest) (by rw [hq]; rfl), Option.bind_some, show A.1 28 = A.1 (pA false) from rfl, c_test hN n 60 btest f htr 64 _ (by omega) hce0 e0]
    cases hfe : f e with
    | none =>
      show ∃ X' hb', bd2 (some ((0 : Int32), ovC A (ws (ws X 28 1 (bz false)) 28 1 1) hb)) _ = _ ∧ _
      rw [bd2_some, if_pos (by rfl)]
      refine ⟨ws (ws X 28 1 (bz false)) 28 1 1, hb, ?_, ?_, ?_, Td_refl hb, ?_⟩
      · simp only [hfe]
        rfl
      · rw [co28, co28]
      · rfl
      · intro v hv
        simp only [hfe] at hv
        cases hv
    | some v =>
      show ∃ X' hb', bd2 (some (bz v, ovC A (ws X 28 1 (bz false)) hb)) _ = _ ∧ _
      rw [bd2_some]
      cases v
      · rw [if_pos rfl]
        refine ⟨ws X 28 1 (bz false), hb, ?_, co28 _ _, rfl, Td_refl hb, ?_⟩
        · simp only [hfe]
          rfl
        · intro v hv
          simp only [hfe] at hv
          cases hv
      · rw [if_neg (by decide)]
        simp only [hfe, if_true]
        exact h23
end CE2
