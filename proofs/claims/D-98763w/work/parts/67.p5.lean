theorem nI_m (c n : Nat) : nI c * nI n = nI (c * n) := (Int32.ofNat_mul c n).symm
theorem i_succ {n : Nat} (hn : n < 2 ^ 30) : (nI n + 1).toInt = n + 1 := by
  have : nI n + 1 = nI (n + 1) := nI_add n 1
  rw [this, nI_toInt (by omega)]
  omega
theorem pCounted {Γ : OgG} {α : Nat → Int32} {σM : OgS} {σC : OgC} {x y : Int32} {Q : Int32 → Int32 → OgC → OgS → Prop} (h : Row α σM σC) (K : ∀ (r : Int32) (α' : Nat → Int32) (σC' : OgC) (σM' : OgS), St α σM σC α' σM' σC' → Q r r σC' σM') : wX0_counted Γ (fun r σC' => wX5_counted (fun r' σM' => Q r r' σC' σM') x y σM) x y σC := by
  have hS := (St.rf h).thrown 0
  obtain ⟨n, hn, hα⟩ := h.2.2.2.nat 3 (hi := 8) rfl
  have hC : σC.I 2 13 = nI n := (h.2.1.at 3 rfl 0 (by omega) rfl rfl).trans hα
  have hM : (σM.sI 0 0 0).I 2 3 = nI n := ((h.1.1 3 (by omega) (by omega)).trans hα)
  have bad : ¬ ((0 ≤ x ∧ x ≤ 5) ∧ 0 ≤ y ∧ y ≤ 9) → wX0_counted_17 Γ (fun r σC' => wX5_counted (fun r' σM' => Q r r' σC' σM') x y σM) σC := by
    intro g
    refine hS.ref K (-1) 1 (by decide) (by decide) (by decide) (fun σC' ht s1 e1 => ?_)
    rw [e1]
    refine mInW (a' := 0) (b' := 5) (by decide) (by decide) (fun a b => ⟨fun e => absurd e (by decide), fun _ => ?_⟩) (fun _ => ⟨fun _ => ht, fun e => absurd rfl e⟩)
    exact mInW (a' := 0) (b' := 9) (by decide) (by decide) (fun c d => absurd ⟨⟨a, b⟩, c, d⟩ g) (fun _ => ⟨fun e => absurd rfl e, fun _ => ht⟩)
  unfold wX0_counted wX0_isHill
  refine cIn (fun a b => ⟨Or.inr rfl, fun e => absurd e (by decide), fun _ => ?_⟩) (fun g => ⟨Or.inl rfl, fun _ => bad (fun z => g z.1), fun e => absurd rfl e⟩)
  refine cIn (fun c d => ⟨fun _ => ?_, fun e => absurd e (by decide)⟩) (fun g => ⟨fun e => absurd rfl e, fun _ => bad (fun z => g z.2)⟩)
  by_cases h8 : n = 8
  · refine ⟨fun g => absurd (by rw [hC, h8]; rfl) g, fun _ => ?_⟩
    refine hS.ref K (-5) 5 (by decide) (by decide) (by decide) (fun σC' ht s1 e1 => ?_)
    rw [e1]
    refine mInW (a' := 0) (b' := 5) (by decide) (by decide) (fun _ _ => ⟨fun e => absurd e (by decide), fun _ => ?_⟩) (fun g => absurd ⟨a, b⟩ g)
    refine mInW (a' := 0) (b' := 9) (by decide) (by decide) (fun _ _ => ⟨fun _ v5 e5 => ?_, fun e => absurd e (by decide)⟩) (fun g => absurd ⟨c, d⟩ g)
    rw [hM, h8] at e5
    exact ⟨fun g => absurd e5 g, fun _ => ht⟩
  · have hne : ¬ nI n = 8 := fun g => h8 ((nI_eq (a := n) (b := 8) (by omega) (by omega)).mp g)
    refine ⟨fun _ => ?_, fun g => absurd (hC.symm.trans g) hne⟩
    have m2 : (2 : Int32) * nI n = nI (2 * n) := nI_m 2 n
    have m21 : (2 : Int32) * nI n + 1 = nI (2 * n + 1) := by rw [m2]; exact nI_add (2 * n) 1
    rw [hC, m2]
    refine ⟨vp_in_nI (by omega) (by decide), fun s8 e8 => ?_⟩
    rw [nI_clamp (by omega)] at e8
    subst e8
    have hC8 : (σC.sI 14 (2 * n) x).I 2 13 = nI n := by rw [C_II, if_neg (by decide), hC]
    rw [hC8, m21]
    refine ⟨vp_in_nI (by omega) (by decide), fun s9 e9 s10 e10 => cDone (fun s1 e1 => ?_)⟩
    rw [nI_clamp (by omega)] at e9
    subst e9
    rw [C_II, if_neg (by decide), hC8] at e10
    subst e10 e1
    rw [show (((σC.sI 14 (2 * n) x).sI 14 (2 * n + 1) y).sI 2 13 (nI n + 1)).I 2 13 = nI n + 1 by rw [C_II, if_pos rfl, if_pos rfl]]
    refine mInW (a' := 0) (b' := 5) (by decide) (by decide) (fun _ _ => ⟨fun e => absurd e (by decide), fun _ => ?_⟩) (fun g => absurd ⟨a, b⟩ g)
    refine mInW (a' := 0) (b' := 9) (by decide) (by decide) (fun _ _ => ⟨fun _ v8 e8 => ?_, fun e => absurd e (by decide)⟩) (fun g => absurd ⟨c, d⟩ g)
    rw [hM] at e8
    subst e8
    have q1 : (107 : Int32) + (2 : Int32) * nI n = nI (107 + 2 * n) := by rw [m2]; exact nI_add 107 (2 * n)
    have q2 : (107 : Int32) + (2 : Int32) * nI n + 1 = nI (107 + 2 * n + 1) := by rw [q1]; exact nI_add (107 + 2 * n) 1
    refine ⟨fun _ => ?_, fun g => absurd g hne⟩
    rw [q2, q1]
    refine ⟨vp_in_nI (by omega) (by decide), fun s10 e10 => ⟨vp_in_nI (by omega) (by decide), fun s11 e11 s12 e12 => ?_⟩⟩
    rw [nI_clamp (by omega)] at e10 e11
    subst e10 e11
    rw [S_II, if_pos rfl, if_neg (by omega), S_II, if_pos rfl, if_neg (by omega), hM] at e12
    subst e12
    have hs := i_succ (n := n) (by omega)
    refine mTell0 (by rw [fa_le]; show (0 : Int) ≤ _; omega) ?_
    have key : ∀ i : Fin 16, og_bd (107 + i.val) = some (0, 9) := by decide +kernel
    have k1 : og_bd (107 + 2 * n) = some (0, 9) := key ⟨2 * n, by omega⟩
    have k2 : og_bd (107 + 2 * n + 1) = some (0, 9) := key ⟨2 * n + 1, by omega⟩
    rw [fa_le] at a b c d
    have b5 : (5 : Int32).toInt = 5 := by decide
    exact K _ _ _ _ ((((hS.cell 18 rfl (2 * n) (by omega) (Nat.zero_add _) rfl x (by omega) (by omega) k1 a (by omega)).cell 18 rfl (2 * n + 1) (by omega) (Nat.zero_add _) (by omega) y (by omega) (by omega) k2 c d).cell 3 rfl 0 (by omega) rfl rfl (nI n + 1) (by omega) (by omega) (lo := 0) (up := 8) rfl (by omega) (by omega)).stat 0)
