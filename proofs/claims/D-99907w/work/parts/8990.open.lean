/-! PLAIN LAW: while some is left, a book of it is open -/
set_option maxRecDepth 100000
theorem tcm_tb {S : Nat → Nat → Int32} {b l s t u : Nat} (hS : SOb b l s t u S) (k : Nat) : (tcm S b).testBit k = ((atL S b).testBit k && !(kn S).testBit k) := by
  have h2b := pw_le hS.1.1
  have := (atL_s hS).1
  unfold tcm
  rw [sd_tb (by omega)]
theorem tcm_su {S : Nat → Nat → Int32} {b l s t u : Nat} (hS : SOb b l s t u S) : su (tcm S b) (atL S b) := by
  intro k hk
  rw [tcm_tb hS, Bool.and_eq_true] at hk
  exact hk.1
theorem ex_open {S : Nat → Nat → Int32} {b l s t u st : Nat} (hS : SOb b l s t u S) (hst : su st (tcm S b)) (hno : lw (pWO S (tcm S b) (kn S ||| st)) b 0 = none) : su (tcm S b) st := by
  have h8 := pw_le hS.1.1
  obtain ⟨a1, a2, a3⟩ := atL_s hS
  have hyA : su (kn S ||| st) (atL S b) := su_or a2 (su_trans hst (tcm_su hS))
  have hm : ∀ a k, k < b → su a (kn S ||| st) → pOp S a k = true → su (2 ^ k) (kn S ||| st) := by
    intro a k hk ha hp
    apply su_pw
    cases hy : (kn S ||| st).testBit k
    · exfalso
      have hA : (atL S b).testBit k = true := by
        have := pOp_m hS (atL S b) a3 a k hk (su_trans ha hyA) hp
        exact this k (by rw [tb_pw]; exact decide_eq_true rfl)
      have hk0 : (kn S).testBit k = false := by
        rw [Nat.testBit_or, Bool.or_eq_false_iff] at hy
        exact hy.1
      have hop : opN (nd S k) (kn S ||| st) k = true := by
        have hn := (nd_s hS hk).2
        unfold pOp at hp
        rw [opN_t (by omega)] at hp ⊢
        exact ⟨hy, su_trans hp.2 ha⟩
      have hq : pWO S (tcm S b) (kn S ||| st) k = true := by
        unfold pWO
        rw [tcm_tb hS, hA, hk0, hop]
        rfl
      rw [lw_none b 0 hno k (by omega) (by omega)] at hq
      cases hq
    · rfl
  have hall : su (atL S b) (kn S ||| st) := itr_in (fun a ha => rT_in hm ha b 0 a (by omega) ha) _ _ (su_or_l _ _)
  intro k hk
  rw [tcm_tb hS, Bool.and_eq_true, Bool.not_eq_true'] at hk
  have := hall k hk.1
  rw [Nat.testBit_or, hk.2, Bool.false_or] at this
  exact this
