/-! PLAIN LAW: by how much leeks grow, wilt; what is barred (the Model) -/
set_option maxRecDepth 100000
/-- the words of law t, as they are kept, denote these clauses -/
def twC (K : Nat → Int32) (t nt : Nat) : Nat → Int32 := fun k => if k < nt then K (60 + 400 * t + k) else 0
def twV (K : Nat → Int32) (t nt : Nat) : Nat → Int32 := fun k => if k < nt then K (2860 + 400 * t + k) else 0
def TLW (K : Nat → Int32) (t : Nat) (l : List CDn) : Prop := ∃ nt, nt ≤ 400 ∧ K (53 + t) = nn nt ∧ VN (twV K t nt) ∧ pAll (twC K t nt) (pClause (twC K t nt) (twV K t nt) 500) nt = .inr l
/-- the law that is in force -/
def LD (K : Nat → Int32) (l : List CDn) : Prop := (K 52 = -1 ∧ l = []) ∨ ∃ t, t < 6 ∧ K 52 = nn t ∧ TLW K t l
/-- what is asked of a leek, a book -/
def avT (K : Nat → Int32) (lk b high kn day : Int32) (w : Nat) : Int32 :=
  if w = 0 then lk else if w = 1 then (if lk = -1 then -1 else K (30 + lk.toNatClampNeg)) else if w = 2 then high else if w = 3 then b
  else if w = 4 then (if b = -1 then -1 else K (6 + b.toNatClampNeg)) else if w = 5 then (if b = -1 then -1 else K (14 + b.toNatClampNeg))
  else if w = 6 then kn else if w = 7 then day else K 47
def evT (K : Nat → Int32) (lk b high kn day : Int32) : EV := fun w _ => (avT K lk b high kn day w).toInt64
/-- all else but the Model's reckoning is as it was -/
def TF (M M' : TM) : Prop := (∀ j, j ∉ [22, 23, 24, 25] → M'.1 j = M.1 j) ∧ M'.2.1 = M.2.1 ∧ (∀ k, k ≠ 26 → M'.2.2.1 k = M.2.2.1 k) ∧ M'.2.2.2 = M.2.2.2
theorem TF_refl (M : TM) : TF M M := ⟨fun _ _ => rfl, rfl, fun _ _ => rfl, rfl⟩
theorem TF_trans {M M1 M2 : TM} (h : TF M M1) (g : TF M1 M2) : TF M M2 := ⟨fun j hj => by rw [g.1 j hj, h.1 j hj], by rw [g.2.1, h.2.1], fun k hk => by rw [g.2.2.1 k hk, h.2.2.1 k hk], by rw [g.2.2.2, h.2.2.2]⟩
theorem TF_fT {M M' : TM} (h : TF M M') : fT M' = fT M := by
  have h1 : ∀ i, i < 7 → M'.1 (lastI i) = M.1 (lastI i) := by
    intro i hi
    apply h.1
    have : ∀ i, i < 7 → lastI i ∉ [22, 23, 24, 25] := by decide
    exact this i hi
  funext g i
  unfold fT
  rw [h.1 32 (by decide), h.1 53 (by decide), h.1 54 (by decide), h.2.2.1 1 (by decide), h.2.2.1 2 (by decide), h.2.2.1 3 (by decide), h.2.2.1 4 (by decide), h.2.2.1 7 (by decide), h.2.2.1 11 (by decide), h.2.2.1 30 (by decide), h.2.2.1 52 (by decide)]
  by_cases hi : i < 7
  · rw [h1 i hi]
  · simp only [hi, if_false]
theorem TF_tsi {M : TM} {k : Nat} {v : Int32} (h : k ∈ [22, 23, 24, 25]) : TF M (tsi M k v) := ⟨fun j hj => by
  rw [tsi_1, if_neg]
  intro z
  rw [z] at hj
  exact hj h, rfl, fun _ _ => rfl, rfl⟩
theorem TF_26 {M : TM} {f : Nat → Int32} : TF M (tAset M 26 f) := ⟨fun _ _ => rfl, rfl, fun k hk => by rw [tAset_at, if_neg hk], rfl⟩
theorem TF_ev {M : TM} {g : Nat} {b : Bool} : TF M (evS M g b) := TF_trans (TF_tsi (k := 22) (by decide)) (TF_tsi (k := 24) (by decide))
theorem i64_32 (x : Int32) : x.toInt64.toInt32 = x := Int32.toInt32_toInt64 x
section TG
variable {N : Nat} {M : TM} {D : List CDn} {e : EV}
theorem T_tel (hN : 20000 ≤ N) (hD : LD (M.2.2.1 2) D) (ha : ∀ c, 8 ≤ c → c ≤ 16 → (M.2.2.1 26 (c - 8)).toInt64 = e (wdx false (nn c)) 0) (he : EB e) {hd : Nat} (hhd : hd ≤ 2) (top wo : Int32) : (∀ c ∈ D, okC c) ∧ ∃ M', T_tells N (nn (hd + 1)) top wo M = some ((D.foldl (tlF 1 hd top.toInt64 e) wo.toInt64).toInt32, M') ∧ TF M M' := by
  unfold T_tells
  rw [show (52 : Int32) = nn 52 from rfl, tra_nn (by omega) (by omega), Option.bind_some]
  rcases hD with ⟨h52, rfl⟩ | ⟨t, ht, h52, nt, hnt, hsz, hvn, hp⟩
  · refine ⟨(fun c hc => by cases hc), M, ?_, TF_refl M⟩
    rw [h52, if_pos rfl]
    show some (wo, M) = some (wo.toInt64.toInt32, M)
    rw [i64_32]
  · have hne : ¬ nn t = (-1 : Int32) := by
      intro z
      have := congrArg Int32.toInt z
      rw [nn_toInt (by omega)] at this
      have e1 : (-1 : Int32).toInt = -1 := by decide
      omega
    have hb0 : ∀ b : Bool, bz b = 0 ∨ bz b = 1 := bz_01
    let M2 := tsi M 25 (bz false)
    let M4 := tsi M2 22 (nn (400 * t))
    let M7 := tsi M4 23 (nn (400 * t + nt))
    have hTE : TE N M7 false (twC (M.2.2.1 2) t nt) (twV (M.2.2.1 2) t nt) (400 * t) nt e := by
      refine ⟨by omega, hnt, rfl, ?_, ?_, ?_, rfl, ?_, ?_⟩
      · intro k hk
        show M.2.2.1 2 (60 + 400 * t + k) = _
        unfold twC
        rw [if_pos hk]
      · intro k hk
        unfold twC
        rw [if_neg (by omega)]
      · intro k hk
        show M.2.2.1 2 (2860 + 400 * t + k) = _
        unfold twV
        rw [if_pos hk]
      · intro _ c h8 h16
        exact ha c h8 h16
      · intro z; cases z
    obtain ⟨o1, o2⟩ := tt_all hTE he hvn (F := 500) (by omega) (by omega) hp
    obtain ⟨b', t1⟩ := o2 (fun v55 M56 => some (v55.toInt32, M56)) N hd top wo.toInt64 M7 hhd (by omega) rfl (by
      have : tsi M7 24 (bz false) = tsi (tsi M7 22 (nn (400 * t))) 24 (bz false) := by
        congr 1
        refine Prod.ext ?_ rfl
        funext j
        show M7.1 j = if j = 22 then nn (400 * t) else M7.1 j
        by_cases hj : j = 22
        · rw [if_pos hj, hj]; rfl
        · rw [if_neg hj]
      rw [this]
      rfl)
    refine ⟨o1, evS M7 (400 * t + (nt + 1)) b', ?_, ?_⟩
    · rw [h52, if_neg hne, show (0 : Int32) = bz false from rfl, tsz_bz, Option.bind_some, tra_nn (by omega) (by omega), tsi_2, h52, Option.bind_some, show (400 : Int32) = nn 400 from rfl, nn_mul, Option.bind_some, tra_nn (by omega) (by omega), tsi_2, tsi_2, h52, Option.bind_some, show (53 : Int32) = nn 53 from rfl, nn_add, tra_nn (by omega) (by omega), tsi_2, tsi_2, hsz, Option.bind_some]
      have e22 : (tsi (tsi M 25 (bz false)) 22 (nn (400 * t))).1 22 = nn (400 * t) := rfl
      rw [e22, nn_add, Option.bind_some]
      exact t1
    · exact TF_trans (TF_trans (TF_tsi (k := 25) (by decide)) (TF_trans (TF_tsi (k := 22) (by decide)) (TF_tsi (k := 23) (by decide)))) TF_ev
/-- a leek or none, a book or none -/
def ixl (a : Int32) (n : Nat) : Prop := a = -1 ∨ ∃ k, k < n ∧ a = nn k
theorem T_sets {lk b : Int32} (hl : ixl lk 4) (hb : ixl b 8) (high kn day : Int32) : ∃ g, T_setsAsked lk b high kn day M = some (tAset M 26 g) ∧ ∀ c, 8 ≤ c → c ≤ 16 → g (c - 8) = avT (M.2.2.1 2) lk b high kn day (wdx false (nn c)) := by
  have hw : ∀ (f : Nat → Int32) (i : Nat) (x : Int32), i < 9 → twa (tAset M 26 f) 26 9 (nn i) x = some (tAset M 26 (upd f i x)) := by
    intro f i x hi
    rw [twa_nn hi (by omega)]
    congr 1
    refine Prod.ext rfl (Prod.ext rfl (Prod.ext ?_ rfl))
    funext j
    rw [tw_2, tAset_at, tAset_at, tAset_at]
    by_cases hj : j = 26
    · rw [if_pos hj, if_pos hj, if_pos rfl]
    · rw [if_neg hj, if_neg hj, if_neg hj]
  have hw0 : ∀ (i : Nat) (x : Int32), i < 9 → twa M 26 9 (nn i) x = some (tAset M 26 (upd (M.2.2.1 26) i x)) := by
    intro i x hi
    rw [twa_nn hi (by omega)]
    rfl
  have hr : ∀ (f : Nat → Int32) (i : Nat), i < 5660 → tra (tAset M 26 f) 2 5660 (nn i) = some (M.2.2.1 2 i) := by
    intro f i hi
    rw [tra_nn hi (by omega)]
    rfl
  have h85 : ∀ (f : Nat → Int32) (y : Int32), T_setsAsked_J85 high kn day y (4 : Int32) (tAset M 26 f) = some (tAset M 26 (upd (upd (upd (upd (upd f 4 y) 5 (M.2.2.1 2 47)) 6 high) 7 kn) 8 day)) := by
    intro f y
    unfold T_setsAsked_J85
    rw [show (4 : Int32) = nn 4 from rfl, hw _ _ _ (by omega), Option.bind_some, show (47 : Int32) = nn 47 from rfl, hr _ _ (by omega), Option.bind_some, show (5 : Int32) = nn 5 from rfl, hw _ _ _ (by omega), Option.bind_some, show (6 : Int32) = nn 6 from rfl, hw _ _ _ (by omega), Option.bind_some, show (7 : Int32) = nn 7 from rfl, hw _ _ _ (by omega), Option.bind_some, show (8 : Int32) = nn 8 from rfl, hw _ _ _ (by omega), Option.bind_some]
  have h61 : ∀ (f : Nat → Int32) (y : Int32), T_setsAsked_J61 b high kn day y (3 : Int32) (tAset M 26 f) = some (tAset M 26 (upd (upd (upd (upd (upd (upd f 3 y) 4 (if b = -1 then -1 else M.2.2.1 2 (14 + b.toNatClampNeg))) 5 (M.2.2.1 2 47)) 6 high) 7 kn) 8 day)) := by
    intro f y
    unfold T_setsAsked_J61
    rw [show (3 : Int32) = nn 3 from rfl, hw _ _ _ (by omega), Option.bind_some]
    rcases hb with hb | ⟨k, hk, hb⟩
    · rw [if_pos hb, if_pos hb, h85]
    · have hne : ¬ b = (-1 : Int32) := by
        intro z
        have := congrArg Int32.toInt z
        rw [hb, nn_toInt (by omega)] at this
        have e1 : (-1 : Int32).toInt = -1 := by decide
        omega
      rw [if_neg hne, if_neg hne, hb, show (14 : Int32) = nn 14 from rfl, nn_add, hr _ _ (by omega), Option.bind_some, h85, nn_cl (by omega)]
  have h30 : ∀ (f : Nat → Int32) (y : Int32), T_setsAsked_J30 b high kn day y (1 : Int32) (tAset M 26 f) = some (tAset M 26 (upd (upd (upd (upd (upd (upd (upd (upd f 1 y) 2 b) 3 (if b = -1 then -1 else M.2.2.1 2 (6 + b.toNatClampNeg))) 4 (if b = -1 then -1 else M.2.2.1 2 (14 + b.toNatClampNeg))) 5 (M.2.2.1 2 47)) 6 high) 7 kn) 8 day)) := by
    intro f y
    unfold T_setsAsked_J30
    rw [show twa (tAset M 26 f) 26 9 (1 : Int32) y = some (tAset M 26 (upd f 1 y)) from hw f 1 y (by omega), Option.bind_some, show (2 : Int32) = nn 2 from rfl, hw _ _ _ (by omega), Option.bind_some]
    by_cases hb1 : b = -1
    · rw [if_pos hb1, if_pos hb1, h61]
    · obtain ⟨k, hk, hbk⟩ : ∃ k, k < 8 ∧ b = nn k := by
        rcases hb with z | z
        · exact absurd z hb1
        · exact z
      rw [if_neg hb1, if_neg hb1]
      have : (6 : Int32) + b = nn (6 + b.toNatClampNeg) := by
        rw [hbk, nn_cl (by omega), ← nn_add]
        rfl
      rw [this, hr _ _ (by rw [hbk, nn_cl (by omega)]; omega), Option.bind_some, h61]
  unfold T_setsAsked
  rw [show (0 : Int32) = nn 0 from rfl, hw0 _ _ (by omega), Option.bind_some]
  have hfin : ∀ (f : Nat → Int32) (y : Int32), f 0 = lk → y = (if lk = -1 then -1 else M.2.2.1 2 (30 + lk.toNatClampNeg)) → ∀ c, 8 ≤ c → c ≤ 16 → (upd (upd (upd (upd (upd (upd (upd (upd f 1 y) 2 b) 3 (if b = -1 then -1 else M.2.2.1 2 (6 + b.toNatClampNeg))) 4 (if b = -1 then -1 else M.2.2.1 2 (14 + b.toNatClampNeg))) 5 (M.2.2.1 2 47)) 6 high) 7 kn) 8 day) (c - 8) = avT (M.2.2.1 2) lk b high kn day (wdx false (nn c)) := by
    intro f y h0 hy c h8 h16
    have hc : c = 8 ∨ c = 9 ∨ c = 10 ∨ c = 11 ∨ c = 12 ∨ c = 13 ∨ c = 14 ∨ c = 15 ∨ c = 16 := by omega
    rcases hc with rfl | rfl | rfl | rfl | rfl | rfl | rfl | rfl | rfl
    · exact h0
    · exact hy
    · rfl
    · rfl
    · rfl
    · rfl
    · rfl
    · rfl
    · rfl
  rcases hl with hl | ⟨k, hk, hl⟩
  · rw [if_pos hl, h30]
    exact ⟨_, rfl, hfin _ _ (by rw [upd_s]) (by rw [if_pos hl])⟩
  · have hne : ¬ lk = (-1 : Int32) := by
      intro z
      have := congrArg Int32.toInt z
      rw [hl, nn_toInt (by omega)] at this
      have e1 : (-1 : Int32).toInt = -1 := by decide
      omega
    have : (30 : Int32) + lk = nn (30 + lk.toNatClampNeg) := by
      rw [hl, nn_cl (by omega), ← nn_add]
      rfl
    rw [if_neg hne, this, hr _ _ (by rw [hl, nn_cl (by omega)]; omega), Option.bind_some, h30]
    exact ⟨_, rfl, hfin _ _ (by rw [upd_s]) (by rw [if_neg hne])⟩
/-- asked numbers within bounds -/
def sm (x : Int32) : Prop := -1000000000 ≤ x.toInt ∧ x.toInt ≤ 1000000000
theorem sm_nn {n : Nat} (h : n ≤ 1000000000) : sm (nn n) := by
  unfold sm
  rw [nn_toInt (by omega)]
  omega
theorem sm_1 : sm (-1) := by unfold sm; decide
theorem evT_EB {b l s t u : Nat} (hS : SOb b l s t u (fT M)) {lk bb high kn day : Int32} (hl : ixl lk 4) (hb : ixl bb 8) (h1 : sm high) (h2 : sm kn) (h3 : sm day) : EB (evT (M.2.2.1 2) lk bb high kn day) := by
  have key : ∀ w, sm (avT (M.2.2.1 2) lk bb high kn day w) := by
    intro w
    unfold avT
    split
    · rcases hl with z | ⟨k, hk, z⟩
      · rw [z]; exact sm_1
      · rw [z]; exact sm_nn (by omega)
    split
    · split
      · exact sm_1
      · next hne =>
        rcases hl with z | ⟨k, hk, z⟩
        · exact absurd z hne
        · obtain ⟨n, hn, en⟩ := hS.like hk
          rw [z, nn_cl (by omega), fT_0 (by omega), en]
          exact sm_nn (by omega)
    split
    · exact h1
    split
    · rcases hb with z | ⟨k, hk, z⟩
      · rw [z]; exact sm_1
      · rw [z]; exact sm_nn (by omega)
    split
    · split
      · exact sm_1
      · next hne =>
        rcases hb with z | ⟨k, hk, z⟩
        · exact absurd z hne
        · obtain ⟨n, hn, en⟩ := hS.len hk
          rw [z, nn_cl (by omega), fT_0 (by omega), en]
          exact sm_nn (by omega)
    split
    · split
      · exact sm_1
      · next hne =>
        rcases hb with z | ⟨k, hk, z⟩
        · exact absurd z hne
        · obtain ⟨n, hn, en⟩ := hS.kind hk
          rw [z, nn_cl (by omega), fT_0 (by omega), en]
          exact sm_nn (by omega)
    split
    · exact h2
    split
    · exact h3
    obtain ⟨n, hn, en⟩ := hS.mood
    rw [fT_0 (by omega), en]
    exact sm_nn (by omega)
  intro w k
  show -1000000000 ≤ ((avT (M.2.2.1 2) lk bb high kn day w).toInt64).toInt ∧ ((avT (M.2.2.1 2) lk bb high kn day w).toInt64).toInt ≤ 1000000000
  rw [Int32.toInt_toInt64]
  exact key w
/-- by how much a leek grows, wilts by what is asked; whether a book is barred -/
def grv (D : List CDn) (e : EV) (wo : Int32) : Int32 := (D.foldl (tlF 1 0 (99 : Int32).toInt64 e) wo.toInt64).toInt32
def wiv (D : List CDn) (e : EV) : Int32 := (D.foldl (tlF 1 1 (9 : Int32).toInt64 e) (0 : Int32).toInt64).toInt32
def bav (D : List CDn) (e : EV) : Bool := decide ((D.foldl (tlF 1 2 (1 : Int32).toInt64 e) (0 : Int32).toInt64).toInt32 = 1)
variable {b l s t u : Nat}
theorem T_asked (hN : 20000 ≤ N) (hD : LD (M.2.2.1 2) D) (hS : SOb b l s t u (fT M)) {lk bb high kn day : Int32} (hl : ixl lk 4) (hb : ixl bb 8) (h1 : sm high) (h2 : sm kn) (h3 : sm day) : (∀ c ∈ D, okC c) ∧ ∃ M1, T_setsAsked lk bb high kn day M = some M1 ∧ TF M M1 ∧ ∀ (hd : Nat) (top wo : Int32), hd ≤ 2 → ∃ M', T_tells N (nn (hd + 1)) top wo M1 = some ((D.foldl (tlF 1 hd top.toInt64 (evT (M.2.2.1 2) lk bb high kn day)) wo.toInt64).toInt32, M') ∧ TF M M' := by
  obtain ⟨g, e1, e2⟩ := T_sets (M := M) hl hb high kn day
  have hK : (tAset M 26 g).2.2.1 2 = M.2.2.1 2 := rfl
  have ha : ∀ c, 8 ≤ c → c ≤ 16 → ((tAset M 26 g).2.2.1 26 (c - 8)).toInt64 = evT (M.2.2.1 2) lk bb high kn day (wdx false (nn c)) 0 := by
    intro c h8 h16
    show (g (c - 8)).toInt64 = _
    rw [e2 c h8 h16]
    rfl
  have he := evT_EB hS hl hb h1 h2 h3
  refine ⟨(T_tel (M := tAset M 26 g) hN (by rw [hK]; exact hD) ha he (hd := 0) (by omega) 0 0).1, _, e1, TF_26, fun hd top wo hhd => ?_⟩
  obtain ⟨M', f1, f2⟩ := (T_tel (M := tAset M 26 g) hN (by rw [hK]; exact hD) ha he hhd top wo).2
  exact ⟨M', f1, TF_trans TF_26 f2⟩
theorem T_groBy (hN : 20000 ≤ N) (hD : LD (M.2.2.1 2) D) (hS : SOb b l s t u (fT M)) {lk bb : Nat} {high kn day : Int32} (hl : lk < 4) (hb : bb < 8) (h1 : sm high) (h2 : sm kn) (h3 : sm day) : ∃ M', T_growsBy N (nn lk) (nn bb) high kn day M = some (grv D (evT (M.2.2.1 2) (nn lk) (nn bb) high kn day) (M.2.2.1 2 (6 + bb)), M') ∧ TF M M' := by
  obtain ⟨-, M1, e1, e2, e3⟩ := T_asked hN hD hS (lk := nn lk) (bb := nn bb) (Or.inr ⟨lk, hl, rfl⟩) (Or.inr ⟨bb, hb, rfl⟩) h1 h2 h3
  obtain ⟨M', f1, f2⟩ := e3 0 99 (M.2.2.1 2 (6 + bb)) (by omega)
  refine ⟨M', ?_, f2⟩
  unfold T_growsBy
  rw [e1, Option.bind_some, show (6 : Int32) = nn 6 from rfl, nn_add, tra_nn (by omega) (by omega), Option.bind_some, e2.2.2.1 2 (by decide), bd2_eta]
  exact f1
theorem T_wilB (hN : 20000 ≤ N) (hD : LD (M.2.2.1 2) D) (hS : SOb b l s t u (fT M)) {lk : Nat} {high kn day : Int32} (hl : lk < 4) (h1 : sm high) (h2 : sm kn) (h3 : sm day) : ∃ M1 M', T_setsAsked (nn lk) (-1) high kn day M = some M1 ∧ T_tells N 2 9 0 M1 = some (wiv D (evT (M.2.2.1 2) (nn lk) (-1) high kn day), M') ∧ TF M M' := by
  obtain ⟨-, M1, e1, e2, e3⟩ := T_asked hN hD hS (lk := nn lk) (bb := -1) (Or.inr ⟨lk, hl, rfl⟩) (Or.inl rfl) h1 h2 h3
  obtain ⟨M', f1, f2⟩ := e3 1 9 0 (by omega)
  exact ⟨M1, M', e1, f1, f2⟩
theorem T_barB (hN : 20000 ≤ N) (hD : LD (M.2.2.1 2) D) (hS : SOb b l s t u (fT M)) {bb : Nat} {kn day : Int32} (hb : bb < 8) (h2 : sm kn) (h3 : sm day) : ∃ M', T_isBarredBy N (nn bb) kn day M = some (bz (bav D (evT (M.2.2.1 2) (-1) (nn bb) (-1) kn day)), M') ∧ TF M M' := by
  obtain ⟨-, M1, e1, e2, e3⟩ := T_asked hN hD hS (lk := -1) (bb := nn bb) (Or.inl rfl) (Or.inr ⟨bb, hb, rfl⟩) (high := -1) sm_1 h2 h3
  obtain ⟨M', f1, f2⟩ := e3 2 1 0 (by omega)
  refine ⟨M', ?_, f2⟩
  unfold T_isBarredBy
  rw [e1, Option.bind_some, show (3 : Int32) = nn (2 + 1) from rfl, f1, bd2_some, bz_ite, rz_bz, Option.bind_some]
  rfl
end TG
