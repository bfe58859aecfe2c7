/-! PLAIN LAW: the Model reckons parts, whole sums -/
set_option maxRecDepth 100000
section TE3
variable {N : Nat} {M : TM} {od : Bool} {cd vl : Nat → Int32} {base nt : Nat} {e : EV}
theorem te_leaf (h : TE N M od cd vl base nt e) (hvn : VN vl) {k lv k' lv' : Nat} {f : SDn} (hc : pLeaf od cd vl k lv = .inr (k', lv', f)) (hk : k ≤ nt) (h91 : cd k ≠ 191) (ff : Int32 → TM → Option (Int64 × TM)) : k' ≤ nt ∧ k < k' ∧ lv < lv' ∧ BD f ∧ ∀ live b, ∃ v b', T_partOf N ff (bz live) (evS M (base + k) b) = some (v, evS M (base + k') b') ∧ ER (f e) live b v b' := by
  have hb := h.1
  have hn := h.2.1
  unfold pLeaf at hc
  by_cases h50 : cd k = 50 ∧ vl k ≤ 1000
  · rw [if_pos h50] at hc
    split at hc
    · cases hc
    · cases hc
      have hk1 : k < nt := te_lt h (by rw [h50.1]; decide)
      have h0 := hvn k
      refine ⟨by omega, by omega, by omega, BD_num h50.2 (by omega), fun live b => ?_⟩
      rw [te_partS h hk h91, if_neg (by rw [h50.1]; rintro ⟨-, z | z⟩ <;> exact absurd z (by decide))]
      refine te_J94 (fun _ _ => ?_)
      rw [if_pos h50.1, evS_g, show (2860 : Int32) = nn 2860 from rfl, nn_add, show (1 : Int32) = nn 1 from rfl, nn_sub (by omega), tra_nn (by omega) (by omega), evS_2, Option.bind_some, show 2860 + (base + (k + 1)) - 1 = 2860 + base + k by omega, h.2.2.2.2.2.1 k hk1]
  · rw [if_neg h50] at hc
    split at hc
    · next hw =>
      unfold pWord at hc
      split at hc
      · cases hc
      · cases od
        · -- a law's word
          unfold fstW lstW at hw
          simp only [Bool.false_eq_true, if_false, false_and] at hw hc
          cases hc
          obtain ⟨c, hcn, hc16⟩ := nn_in' (n := 16) (by omega) (by rw [Int32.le_iff_toInt_le] at hw ⊢; have := hw.1; have e8 : (8 : Int32).toInt = 8 := by decide
                                                                   have e0 : (0 : Int32).toInt = 0 := by decide
                                                                   omega) hw.2
          have h8 : 8 ≤ c := by
            have := hw.1
            rw [hcn, show (8 : Int32) = nn 8 from rfl, nn_le (by omega) (by omega)] at this
            exact this
          have hne0 : cd k ≠ 0 := by
            rw [hcn, ne_eq, nn_z (by omega)]
            omega
          have hk1 : k < nt := te_lt h hne0
          refine ⟨by omega, by omega, by omega, BD_env _ _, fun live b => ?_⟩
          rw [te_partS h hk h91, if_neg (by rintro ⟨z, -⟩; cases z)]
          refine te_J94 (fun _ _ => ?_)
          have hc50 : cd k ≠ 50 := by
            rw [hcn, show (50 : Int32) = nn 50 from rfl, ne_eq, nn_inj (by omega) (by omega)]
            omega
          rw [if_neg hc50, evS_o _ _ _ (by decide) (by decide), h.2.2.2.2.2.2.1, if_pos (by rfl), hcn, show (8 : Int32) = nn 8 from rfl, nn_sub h8, tra_nn (by omega) (by omega), evS_2, Option.bind_some, h.2.2.2.2.2.2.2.1 rfl c h8 hc16]
        · -- an order's word
          unfold fstW lstW at hw
          simp only [if_true, true_and] at hw hc
          obtain ⟨c, hcn, hc20⟩ := nn_in' (n := 20) (by omega) (by rw [Int32.le_iff_toInt_le] at hw ⊢; have := hw.1; have e8 : (14 : Int32).toInt = 14 := by decide
                                                                   have e0 : (0 : Int32).toInt = 0 := by decide
                                                                   omega) hw.2
          have h14 : 14 ≤ c := by
            have := hw.1
            rw [hcn, show (14 : Int32) = nn 14 from rfl, nn_le (by omega) (by omega)] at this
            exact this
          have hne0 : cd k ≠ 0 := by
            rw [hcn, ne_eq, nn_z (by omega)]
            omega
          have hk1 : k < nt := te_lt h hne0
          have hc50 : cd k ≠ 50 := by
            rw [hcn, show (50 : Int32) = nn 50 from rfl, ne_eq, nn_inj (by omega) (by omega)]
            omega
          -- with a number behind it
          have hnum : ∀ (w m : Nat), c = 14 ∨ c = 20 → m ≤ 7 → wdx true (nn c) = w → pNum cd vl 0 (nn m) (k + 1) = true → k + 2 ≤ nt ∧ ∀ live b, ∃ v b', T_partOf N ff (bz live) (evS M (base + k) b) = some (v, evS M (base + (k + 2)) b') ∧ ER (some (e w (vl (k + 1)).toNatClampNeg)) live b v b' := by
            intro w m hcc hm hwd hn'
            unfold pNum at hn'
            rw [Bool.and_eq_true, decide_eq_true_eq] at hn'
            have hk2 : k + 1 < nt := te_lt h (by rw [hn'.1]; decide)
            obtain ⟨y, -, hy, ey⟩ := wi_k (n := 0) (m := m) (by omega) (by omega) hn'.2
            refine ⟨by omega, fun live b => ?_⟩
            rw [te_partS h hk h91, if_pos ⟨rfl, by rw [hcn]; rcases hcc with z | z <;> rw [z]; exact Or.inl rfl; exact Or.inr rfl⟩]
            unfold T_partOf_J70
            rw [evS_g, show (2860 : Int32) = nn 2860 from rfl, nn_add, tra_nn (by omega) (by omega), Option.bind_some, evS_2, show 2860 + (base + (k + 1)) = 2860 + base + (k + 1) by omega, h.2.2.2.2.2.1 (k + 1) hk2, show (1 : Int32) = nn 1 from rfl, nn_add, evS_22, Option.bind_some, show base + (k + 1) + 1 = base + (k + 2) by omega]
            refine te_J94 (fun _ _ => ?_)
            rw [if_neg hc50, evS_o _ _ _ (by decide) (by decide), h.2.2.2.2.2.2.1, if_neg (by decide), hcn, ey]
            obtain ⟨v, ev, ew⟩ := h.2.2.2.2.2.2.2.2 rfl (base + (k + 2)) b c y h14 hc20 (by omega) (by omega)
            rw [nn_cl (by omega), ← hwd, ← ew, ev, Option.bind_some]
          by_cases c14 : cd k = 14
          · rw [if_pos c14] at hc
            split at hc
            · next hn' =>
              cases hc
              have hc' : c = 14 := by
                rw [hcn, show (14 : Int32) = nn 14 from rfl, nn_inj (by omega) (by omega)] at c14
                exact c14
              obtain ⟨q1, q2⟩ := hnum 5 3 (Or.inl hc') (by omega) (by rw [hc']; rfl) hn'
              exact ⟨q1, by omega, by omega, BD_env _ _, q2⟩
            · cases hc
          · rw [if_neg c14] at hc
            by_cases c20 : cd k = 20
            · rw [if_pos c20] at hc
              split at hc
              · next hn' =>
                cases hc
                have hc' : c = 20 := by
                  rw [hcn, show (20 : Int32) = nn 20 from rfl, nn_inj (by omega) (by omega)] at c20
                  exact c20
                obtain ⟨q1, q2⟩ := hnum 6 7 (Or.inr hc') (by omega) (by rw [hc']; rfl) hn'
                exact ⟨q1, by omega, by omega, BD_env _ _, q2⟩
              · cases hc
            · rw [if_neg c20] at hc
              cases hc
              refine ⟨by omega, by omega, by omega, BD_env _ _, fun live b => ?_⟩
              rw [te_partS h hk h91, if_neg (by rintro ⟨-, z | z⟩; exact c14 z; exact c20 z)]
              refine te_J94 (fun _ z2 => ?_)
              rw [if_neg hc50, evS_o _ _ _ (by decide) (by decide), h.2.2.2.2.2.2.1, if_neg (by decide), hcn]
              obtain ⟨v, ev, ew⟩ := h.2.2.2.2.2.2.2.2 rfl (base + (k + 1)) b c 0 h14 hc20 (by omega) (by omega)
              rw [show (0 : Int32) = nn 0 from rfl, ev, Option.bind_some, ew]
    · cases hc
/-- parts -/
theorem te_part (h : TE N M od cd vl base nt e) (he : EB e) (hvn : VN vl) {F : Nat} (hF : F ≤ N) : ∀ (d D : Nat), d ≤ D → Hp1 N M base nt e (pPart od cd vl F d) (T_partOf N (T_sumOf N D)) := by
  intro d
  induction d with
  | zero =>
    intro D hD k lv k' lv' f hc hk
    unfold pPart at hc
    split at hc
    · cases hc
    · next h91 => exact te_leaf h hvn hc hk h91 _
  | succ d ih =>
    intro D hD k lv k' lv' f hc hk
    obtain ⟨D', rfl⟩ : ∃ D', D = D' + 1 := ⟨D - 1, by omega⟩
    unfold pPart at hc
    split at hc
    · next h91 =>
      have hk1 : k < nt := te_lt h (by rw [h91]; decide)
      cases hi : pSumOf cd F (pPart od cd vl F d) (k + 1) lv with
      | inl q => rw [hi] at hc; cases hc
      | inr r =>
        obtain ⟨k1, lv1, g⟩ := r
        rw [hi] at hc
        simp only at hc
        obtain ⟨p1, p2, p3, p4, p5⟩ := te_sumO h he hF (ih D' (by omega)) _ _ _ _ _ hi (by omega)
        split at hc
        · next h93 =>
          cases hc
          have hk2 : k1 < nt := te_lt h (by rw [h93]; decide)
          refine ⟨by omega, by omega, by omega, p4, fun live b => ?_⟩
          obtain ⟨v, b', t1, t2⟩ := p5 live b
          refine ⟨v, b', ?_, t2⟩
          unfold T_partOf T_sign
          rw [Option.bind_some, show (100 : Int32) + 91 = 191 from by decide, te_pass h hk, bd2_some, decide_eq_true h91, if_neg (by decide), if_pos h91]
          show bd2 (T_sumOf_o N (T_sumOf N D') (bz live) (evS M (base + (k + 1)) b)) _ = _
          rw [t1, bd2_some, evS_g, show (1 : Int32) = nn 1 from rfl, nn_add, evS_22, Option.bind_some]
          rfl
        · cases hc
    · next h91 => exact te_leaf h hvn hc hk h91 _
theorem te_sum (h : TE N M od cd vl base nt e) (he : EB e) (hvn : VN vl) {F : Nat} (hF : F ≤ N) {d D : Nat} (hd : d < D) : Hp1 N M base nt e (pSum od cd vl F d) (T_sumOf N D) := by
  obtain ⟨D', rfl⟩ : ∃ D', D = D' + 1 := ⟨D - 1, by omega⟩
  exact te_sumO h he hF (te_part h he hvn hF d D' (by omega))
end TE3
