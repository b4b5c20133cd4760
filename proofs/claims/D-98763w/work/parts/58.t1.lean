/-! ===== small steps of both sides, exact ===== -/
theorem vp_inN {x : Int32} {n m : Nat} (h : x = nI n) (hn : n < m) (hm : m < 2 ^ 31) : vp_in x m := by
  rw [h]
  exact vp_in_nI hn (by omega)
theorem cIn {Γ : OgG} {Q : Int32 → OgC → Prop} {v lo hi : Int32} {σ : OgC} (h1 : lo ≤ v → v ≤ hi → Q 1 σ) (h2 : ¬ (lo ≤ v ∧ v ≤ hi) → Q 0 σ) : wX0_in Γ Q v lo hi σ := by
  unfold wX0_in
  refine ⟨fun h => h2 (fun z => ?_), fun h => ⟨fun g => h2 (fun z => ?_), fun g => h1 ?_ ?_⟩⟩
  all_goals (simp only [fa_lt, fa_le] at *; omega)
theorem mIn {Q : Int32 → OgS → Prop} {v lo hi : Int64} {σ : OgS} (h1 : lo ≤ v → v ≤ hi → Q 1 σ) (h2 : ¬ (lo ≤ v ∧ v ≤ hi) → Q 0 σ) : wX5_in Q v lo hi σ := by
  unfold wX5_in
  refine ⟨fun h => h2 (fun z => ?_), fun h => ⟨fun g => h2 (fun z => ?_), fun g => h1 ?_ ?_⟩⟩
  all_goals (simp only [fa_lt64, fa_le64] at *; omega)
theorem cRefuse {Γ : OgG} {Q : Int32 → OgC → Prop} {x : Int32} {σ : OgC} (n : Nat) (hn : n < 7) (hx : -x = nI n) (h : Q x ((σ.sI 0 0 x).sI 1 n (σ.I 1 n + 1))) : wX0_refuse Γ Q x σ := by
  unfold wX0_refuse
  intro s1 e1 v2 e2
  rw [hx] at e2
  refine ⟨vp_inN e2 hn (by omega), fun v3 e3 => ⟨vp_inN e2 hn (by omega), fun s4 e4 => ?_⟩⟩
  subst e2 e3 e4 e1
  rw [nI_clamp (by omega)]
  rw [C_II, if_neg (by decide)]
  exact h
theorem cDone {Γ : OgG} {Q : Int32 → OgC → Prop} {x : Int32} {σ : OgC} (h : Q x (σ.sI 0 0 0)) : wX0_done Γ Q x σ := by
  intro s1 e1
  rw [e1]
  exact h
theorem mTellN {Q : Int32 → OgS → Prop} {x : Int32} {σ : OgS} (n : Nat) (h1 : 1 ≤ n) (hn : n < 7) (hx : -x = nI n) (h : Q x ((σ.sI 0 1 x).sI 1 n (σ.I 1 n + 1))) : wX5_tell Q x σ := by
  have hx2 : x = -(nI n) := by rw [← hx]; simp
  unfold wX5_tell
  refine ⟨fun h0 => ?_, fun h0 => ?_⟩
  · exfalso
    have key : ∀ j : Fin 7, 1 ≤ j.val → ¬ (0 : Int32) ≤ -(nI j.val) := by decide +kernel
    rw [hx2] at h0
    exact key ⟨n, hn⟩ h1 h0
  · unfold wX5_tell_10
    intro s1 e1
    refine ⟨fun h2 => absurd h2 h0, fun _ v3 e3 => ?_⟩
    rw [hx] at e3
    refine ⟨vp_inN e3 hn (by omega), fun v4 e4 => ⟨vp_inN e3 hn (by omega), fun s5 e5 => ?_⟩⟩
    subst e3 e4 e5 e1
    rw [nI_clamp (by omega)]
    rw [S_II, if_neg (by decide)]
    exact h
theorem mTell0 {Q : Int32 → OgS → Prop} {x : Int32} {σ : OgS} (hx : 0 ≤ x) (h : Q x (σ.sI 0 1 0)) : wX5_tell Q x σ := by
  unfold wX5_tell
  refine ⟨fun _ => ?_, fun h0 => absurd hx h0⟩
  unfold wX5_tell_10
  intro s1 e1
  rw [e1]
  exact ⟨fun _ => h, fun h0 => absurd hx h0⟩
theorem cSettled {Γ : OgG} {Q : Int32 → OgC → Prop} {x : Int32} {σ : OgC} (h : Q x ((σ.sI 0 14 0).sI 0 0 0)) : wX0_settled Γ Q x σ := by
  intro s1 e1
  rw [e1]
  exact cDone h
theorem cCanBe {Γ : OgG} {Q : Int32 → OgC → Prop} {x y : Int32} {σ : OgC} (h1 : 0 ≤ x → x ≤ 99 → 0 ≤ y → y ≤ 3 → Q 1 σ) (h2 : ¬ ((0 ≤ x ∧ x ≤ 99) ∧ 0 ≤ y ∧ y ≤ 3) → Q 0 σ) : wX0_canBe Γ Q x y σ := by
  unfold wX0_canBe
  refine cIn (fun a b => ⟨fun e => absurd e (by decide), fun _ => ?_⟩) (fun n => ⟨fun _ => h2 (fun z => n z.1), fun e => absurd rfl e⟩)
  unfold wX0_isGeneral
  refine cIn (fun c d => ⟨Or.inr rfl, ⟨fun e => absurd e (by decide), fun _ => h1 a b c d⟩⟩) (fun n => ⟨Or.inl rfl, ⟨fun _ => h2 (fun z => n z.2), fun e => absurd rfl e⟩⟩)
theorem cAdds {Γ : OgG} {Q : OgC → Prop} {x y : Int32} {σ : OgC} (n : Nat) (hn : n < 6) (hf : σ.I 2 11 = nI n) (h : Q (((((σ.sI 7 n y).sI 4 n x).sI 5 n 0).sI 3 3 ((σ.I 3 3) &&& (((1 : Int32) <<< (nI n &&& 31)) ^^^ (-1 : Int32)))).sI 2 11 (nI n + 1))) : wX0_adds Γ Q x y σ := by
  unfold wX0_adds
  intro v1 e1
  rw [hf] at e1
  refine ⟨vp_inN e1 hn (by omega), fun s2 e2 => ⟨vp_inN e1 hn (by omega), fun s5 e5 => ⟨vp_inN e1 hn (by omega), fun s8 e8 v11 e11 s12 e12 s13 e13 => ?_⟩⟩⟩
  subst e1 e2 e5 e8 e11 e12 e13
  rw [nI_clamp (by omega)]
  simp only [C_II, if_neg (show ¬ (2 : Nat) = 3 by decide), if_neg (show ¬ (2 : Nat) = 5 by decide), if_neg (show ¬ (2 : Nat) = 4 by decide), if_neg (show ¬ (2 : Nat) = 7 by decide), if_neg (show ¬ (3 : Nat) = 5 by decide), if_neg (show ¬ (3 : Nat) = 4 by decide), if_neg (show ¬ (3 : Nat) = 7 by decide), hf]
  exact h
