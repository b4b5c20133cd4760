theorem cFort {Γ : OgG} {Q : Int32 → OgC → Prop} {x : Int32} {σ : OgC} {n : Nat} (hn : n ≤ 6) (hC : σ.I 2 11 = nI n) (h1 : ∀ k, k < n → x = nI k → Q 1 σ) (h2 : (¬ ∃ k, k < n ∧ x = nI k) → Q 0 σ) : wX0_isFort Γ Q x σ := by
  have e1 : (nI n - 1).toInt = n - 1 := by
    have key : ∀ i : Fin 7, (nI i.val - 1).toInt = (i.val : Int) - 1 := by decide +kernel
    exact key ⟨n, by omega⟩
  unfold wX0_isFort
  rw [hC]
  refine cIn (fun a b => ⟨Or.inr rfl, ?_⟩) (fun g => ⟨Or.inl rfl, h2 (fun ⟨k, hk, e⟩ => g ?_)⟩)
  · rw [fa_le] at a b
    have a0 : (0 : Int32).toInt = 0 := by decide
    obtain ⟨k, hk, e⟩ := og_nat (x := x) (hi := 6) (by omega) (by omega)
    subst e
    rw [nI_toInt (by omega)] at b
    exact h1 k (by omega) rfl
  · subst e
    rw [fa_le, fa_le, nI_toInt (by omega)]
    have a0 : (0 : Int32).toInt = 0 := by decide
    omega
theorem mFort {Q : Int32 → OgS → Prop} {x : Int32} {σ : OgS} {n : Nat} (hn : n ≤ 6) (hM : σ.I 2 0 = nI n) (h1 : ∀ k, k < n → x = nI k → Q 1 σ) (h2 : (¬ ∃ k, k < n ∧ x = nI k) → Q 0 σ) : wX5_isFort Q x σ := by
  have e1 : ((nI n).toInt64 - 1).toInt = n - 1 := by
    have key : ∀ i : Fin 7, ((nI i.val).toInt64 - 1).toInt = (i.val : Int) - 1 := by decide +kernel
    exact key ⟨n, by omega⟩
  unfold wX5_isFort
  rw [hM]
  have a0 : (0 : Int64).toInt = 0 := by decide
  refine mIn (fun a b => ⟨Or.inr rfl, ?_⟩) (fun g => ⟨Or.inl rfl, h2 (fun ⟨k, hk, e⟩ => g ?_)⟩)
  · rw [fa_le64, Int32.toInt_toInt64] at a b
    obtain ⟨k, hk, e⟩ := og_nat (x := x) (hi := 6) (by omega) (by omega)
    subst e
    rw [nI_toInt (by omega)] at b
    exact h1 k (by omega) rfl
  · subst e
    rw [fa_le64, fa_le64, Int32.toInt_toInt64, nI_toInt (by omega)]
    omega
