theorem pSign {Γ : OgG} {α : Nat → Int32} {σM : OgS} {σC : OgC} {x y z : Int32} {Q : Int32 → Int32 → OgC → OgS → Prop} (h : Row α σM σC) (K : ∀ (r : Int32) (α' : Nat → Int32) (σC' : OgC) (σM' : OgS), St α σM σC α' σM' σC' → Q r r σC' σM') : wX0_sign Γ (fun r σC' => wX5_sign (fun r' σM' => Q r r' σC' σM') x y z σM) x y z σC := by
  have hS := (St.rf h).thrown 0
  by_cases ok : (0 ≤ x.toInt ∧ x.toInt ≤ 5) ∧ (0 ≤ y.toInt ∧ y.toInt ≤ 2) ∧ (0 ≤ z.toInt ∧ z.toInt ≤ if y = 2 then 99 else 10)
  · obtain ⟨hx, hy, hz⟩ := ok
    obtain ⟨n, hn, rfl⟩ := x_nat (b := 5) (by decide) hx
    obtain ⟨m, hm, rfl⟩ := x_nat (b := 2) (by decide) hy
    have fin : ∀ (i a p : Nat) (u : Int), og_fam[i]? = some (a, 0, p, 6) → a < 16 → a ≠ 3 → a ≠ 0 → 31 ≤ p → p + 6 ≤ 150 → z.toInt ≤ u → (∀ k : Fin 6, og_bd (p + k.val) = some (0, u)) → wX0_sign_78 Γ (fun r σC' => wX5_sign_80 (fun r' σM' => Q r r' σC' σM') (nI n) z (nI p) ((σM.sI 0 0 0).sI 0 8 0)) (nI n) z a σC := by
      intro i a p u hi ha ha3 ha0 hp hp2 hu hb
      refine ⟨vp_in_nI (by omega) (by decide), fun v1 e1 => ⟨vp_in_nI (by omega) (by decide), fun s2 e2 => cSettled (mChange (p + n) (by omega) (nI_add p n) ?_)⟩⟩
      rw [nI_clamp (by omega)] at e1 e2
      subst e1 e2
      have eM : ((σM.sI 0 0 0).sI 0 8 0).I 2 (p + n) = σC.I a n := (h.1.1 (p + n) (by omega) (by omega)).trans (h.2.1.at i hi n (by omega) (Nat.zero_add n) rfl).symm
      rw [eM]
      exact K _ _ _ _ ((hS.cellU i hi n (by omega) (Nat.zero_add n) rfl z (by omega) (by omega) (Or.inl ha0) (hb ⟨n, by omega⟩) hz.1 hu).stat 0)
    have f0 := fin 12 8 37 10 rfl (by decide) (by decide) (by decide) (by decide) (by decide)
    have f1 := fin 13 9 43 10 rfl (by decide) (by decide) (by decide) (by decide) (by decide)
    have f2 := fin 14 10 49 99 rfl (by decide) (by decide) (by decide) (by decide) (by decide)
    simp only [wX0_sign, wX0_isSign, wX0_sign_30, wX5_sign, wX5_isOne, wX5_sign_41, cIn_eq, mIn_eq, forall_eq, Int32.reduceToInt, Int64.reduceToInt, Int32.toInt_toInt64, if10, if11, if10n]
    have k0 : ¬ (nI 0 = 1) ∧ ¬ (nI 0 = 2) ∧ ¬ nI 1 = 0 ∧ ¬ nI 1 = 2 ∧ ¬ nI 2 = 0 ∧ ¬ nI 2 = 1 ∧ nI 0 = 0 ∧ nI 1 = 1 ∧ nI 2 = 2 := by decide
    obtain ⟨k1, k2, k3, k4, k5, k6, k7, k8, k9⟩ := k0
    rcases (show m = 0 ∨ m = 1 ∨ m = 2 by omega) with rfl | rfl | rfl
    · rw [if_neg k2] at hz
      simp only [hx, hy, hz, k1, k2, k3, k4, k5, k6, k7, k8, k9, not_true, not_false_eq_true, and_self, if_true, if_false, false_implies, true_implies, true_and, and_true, or_true, true_or]
      simp
      exact f0 hz.2 (by decide +kernel)
    · rw [if_neg k4] at hz
      simp [hx, hy, hz, k3, k4, k8]
      exact f1 hz.2 (by decide +kernel)
    · rw [if_pos k9] at hz
      simp [hx, hy, hz, k5, k6, k9]
      exact f2 hz.2 (by decide +kernel)
  · have mm : wX5_sign (fun r' σM' => Q (-1) r' ((σC.sI 0 0 (-1)).sI 1 1 (σC.I 1 1 + 1)) σM') x y z σM := by
      have ht := hS.ref1 K (-1) 1 (by decide) (by decide) (by decide)
      simp only [wX5_sign, wX5_isOne, wX5_sign_41, wX5_sign_47, cIn_eq, mIn_eq, forall_eq, Int32.reduceToInt, Int64.reduceToInt, Int32.toInt_toInt64, if10, if11, if10n]
      grind only
    have cc : wX0_sign_36 Γ (fun r σC' => wX5_sign (fun r' σM' => Q r r' σC' σM') x y z σM) σC := cRefuse 1 (by decide) (by decide) mm
    simp only [wX0_sign, wX0_isSign, wX0_sign_30, cIn_eq, mIn_eq, forall_eq, Int32.reduceToInt, Int64.reduceToInt, Int32.toInt_toInt64, if10, if11, if10n]
    grind only

