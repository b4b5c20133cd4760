theorem pTerms {Γ : OgG} {α : Nat → Int32} {σM : OgS} {σC : OgC} {x y : Int32} {Q : Int32 → Int32 → OgC → OgS → Prop} (h : Row α σM σC) (K : ∀ (r : Int32) (α' : Nat → Int32) (σC' : OgC) (σM' : OgS), St α σM σC α' σM' σC' → Q r r σC' σM') : wX0_terms Γ (fun r σC' => wX5_terms (fun r' σM' => Q r r' σC' σM') x y σM) x y σC := by
  have hS := (St.rf h).thrown 0
  by_cases ok : (x = 0 ∧ 0 ≤ y.toInt ∧ y.toInt ≤ 999) ∨ (x = 1 ∧ 0 ≤ y.toInt ∧ y.toInt ≤ 1000) ∨ (x = 2 ∧ 0 ≤ y.toInt ∧ y.toInt ≤ 9)
  · have fin : ∀ (i a o p : Nat) (u : Int), og_fam[i]? = some (a, o, 6 + p, 1) → a < 16 → a ≠ 0 → (a ≠ 3 ∨ o ≠ 3) → p < 3 → og_bd (6 + p) = some (0, u) → 0 ≤ y.toInt → y.toInt ≤ u → wX0_terms_122 Γ (fun r σC' => wX5_terms_60 (fun r' σM' => Q r r' σC' σM') (nI p) y 1 (σM.sI 0 0 0)) (σC.I a o) (σC.sI a o y) := by
      intro i a o p u hi ha ha0 ha3 hp hb h0 h1
      have eM : ((σM.sI 0 0 0).sI 0 8 0).I 2 (6 + p) = σC.I a o := (h.1.1 (6 + p) (by omega) (by omega)).trans (h.2.1.at i hi 0 (by omega) rfl rfl).symm
      refine cSettled ⟨fun _ s2 e2 => ?_, fun e => absurd e (by decide)⟩
      subst e2
      refine mChange (6 + p) (by omega) (nI_add 6 p) ?_
      rw [eM]
      exact K _ _ _ _ ((hS.cellU i hi 0 (by omega) rfl rfl y (by omega) (by omega) (Or.inl ha0) hb h0 h1).stat 0)
    have f0 := fin 5 3 4 0 999 rfl (by decide) (by decide) (by decide) (by decide) (by decide)
    have f1 := fin 6 2 15 1 1000 rfl (by decide) (by decide) (by decide) (by decide) (by decide)
    have f2 := fin 7 2 16 2 9 rfl (by decide) (by decide) (by decide) (by decide) (by decide)
    simp only [wX0_terms, wX0_terms_34, wX0_terms_82, wX5_terms, cIn_eq, mIn_eq, forall_eq, Int32.reduceToInt, Int64.reduceToInt, Int32.toInt_toInt64, if10, if11, if10n]
    rcases ok with ⟨rfl, h1, h2⟩ | ⟨rfl, h1, h2⟩ | ⟨rfl, h1, h2⟩
    · have f := f0 h1 h2
      simp [h1, h2]
      exact f
    · have f := f1 h1 h2
      simp [h1, h2]
      exact f
    · have f := f2 h1 h2
      simp [h1, h2]
      exact f
  · have mm : wX5_terms (fun r' σM' => Q (-1) r' ((σC.sI 0 0 (-1)).sI 1 1 (σC.I 1 1 + 1)) σM') x y σM := by
      have ht := hS.ref1 K (-1) 1 (by decide) (by decide) (by decide)
      simp only [wX5_terms, wX5_terms_59, wX5_terms_60, cIn_eq, mIn_eq, forall_eq, Int32.reduceToInt, Int64.reduceToInt, Int32.toInt_toInt64, if10, if11, if10n]
      grind only
    have cc : wX0_terms_40 Γ (fun r σC' => wX5_terms (fun r' σM' => Q r r' σC' σM') x y σM) σC := cRefuse 1 (by decide) (by decide) mm
    have e2 : x = 2 ↔ x.toInt = 2 := fa_eq x 2
    have e1 : x = 1 ↔ x.toInt = 1 := fa_eq x 1
    have e0 : x = 0 ↔ x.toInt = 0 := fa_eq x 0
    simp only [wX0_terms, wX0_terms_34, cIn_eq, mIn_eq, forall_eq, Int32.reduceToInt, Int64.reduceToInt, Int32.toInt_toInt64, if10, if11, if10n]
    grind only
