theorem pSiege {Γ : OgG} {α : Nat → Int32} {σM : OgS} {σC : OgC} {x y z : Int32} {Q : Int32 → Int32 → OgC → OgS → Prop} (h : Row α σM σC) (K : ∀ (r : Int32) (α' : Nat → Int32) (σC' : OgC) (σM' : OgS), St α σM σC α' σM' σC' → Q r r σC' σM') : wX0_siege Γ (fun r σC' => wX5_siege (fun r' σM' => Q r r' σC' σM') x y z σM) x y z σC := by
  have hS := (St.rf h).thrown 0
  obtain ⟨n, hn, hα⟩ := h.2.2.2.nat 1 (hi := 8) rfl
  have hC : σC.I 2 14 = nI n := (h.2.1.at 1 rfl 0 (by omega) rfl rfl).trans hα
  have hM : (σM.sI 0 0 0).I 2 1 = nI n := ((h.1.1 1 (by omega) (by omega)).trans hα)
  have bad : ¬ ((0 ≤ x ∧ x ≤ 99) ∧ (0 ≤ y ∧ y ≤ 10) ∧ 0 ≤ z ∧ z ≤ 999) → wX0_siege_31 Γ (fun r σC' => wX5_siege (fun r' σM' => Q r r' σC' σM') x y z σM) σC := by
    intro g
    refine hS.ref K (-1) 1 (by decide) (by decide) (by decide) (fun σC' ht s1 e1 => ?_)
    rw [e1]
    refine mInW (a' := 0) (b' := 99) (by decide) (by decide) (fun a b => ⟨fun e => absurd e (by decide), fun _ => ?_⟩) (fun _ => ⟨fun _ => ht, fun e => absurd rfl e⟩)
    refine mInW (a' := 0) (b' := 10) (by decide) (by decide) (fun c d => ⟨fun e => absurd e (by decide), fun _ => ?_⟩) (fun _ => ⟨fun _ => ht, fun e => absurd rfl e⟩)
    exact mInW (a' := 0) (b' := 999) (by decide) (by decide) (fun e f => absurd ⟨⟨a, b⟩, ⟨c, d⟩, e, f⟩ g) (fun _ => ⟨fun e => absurd rfl e, fun _ => ht⟩)
  unfold wX0_siege
  refine cIn (fun a b => ⟨fun e => absurd e (by decide), fun _ => ?_⟩) (fun g => ⟨fun _ => bad (fun w => g w.1), fun e => absurd rfl e⟩)
  refine cIn (fun c d => ⟨fun e => absurd e (by decide), fun _ => ?_⟩) (fun g => ⟨fun _ => bad (fun w => g w.2.1), fun e => absurd rfl e⟩)
  refine cIn (fun e f => ⟨fun _ => ?_, fun e => absurd e (by decide)⟩) (fun g => ⟨fun e => absurd rfl e, fun _ => bad (fun w => g w.2.2)⟩)
  by_cases h8 : n = 8
  · refine ⟨fun g => absurd (by rw [hC, h8]; rfl) g, fun _ => ?_⟩
    refine hS.ref K (-5) 5 (by decide) (by decide) (by decide) (fun σC' ht s1 e1 => ?_)
    rw [e1]
    refine mInW (a' := 0) (b' := 99) (by decide) (by decide) (fun _ _ => ⟨fun e => absurd e (by decide), fun _ => ?_⟩) (fun g => absurd ⟨a, b⟩ g)
    refine mInW (a' := 0) (b' := 10) (by decide) (by decide) (fun _ _ => ⟨fun e => absurd e (by decide), fun _ => ?_⟩) (fun g => absurd ⟨c, d⟩ g)
    refine mInW (a' := 0) (b' := 999) (by decide) (by decide) (fun _ _ => ⟨fun _ v5 e5 => ?_, fun e => absurd e (by decide)⟩) (fun g => absurd ⟨e, f⟩ g)
    rw [hM, h8] at e5
    exact ⟨fun g => absurd e5 g, fun _ => ht⟩
  · have hne : ¬ nI n = 8 := fun g => h8 ((nI_eq (a := n) (b := 8) (by omega) (by omega)).mp g)
    refine ⟨fun _ => ?_, fun g => absurd (hC.symm.trans g) hne⟩
    have m3 : (3 : Int32) * nI n = nI (3 * n) := nI_m 3 n
    intro v11 e11
    rw [hC, m3] at e11
    subst e11
    have s1 : nI (3 * n) + 1 = nI (3 * n + 1) := nI_add (3 * n) 1
    have s2 : nI (3 * n) + 2 = nI (3 * n + 2) := nI_add (3 * n) 2
    rw [s1, s2]
    refine ⟨vp_in_nI (by omega) (by decide), fun t12 e12 => ⟨vp_in_nI (by omega) (by decide), fun t13 e13 => ⟨vp_in_nI (by omega) (by decide), fun t14 e14 t15 e15 => cDone (fun u1 f1 => ?_)⟩⟩⟩
    rw [nI_clamp (by omega)] at e12 e13 e14
    subst e12 e13 e14
    rw [C_II, if_neg (by decide), C_II, if_neg (by decide), C_II, if_neg (by decide), hC] at e15
    subst e15 f1
    rw [show ((((σC.sI 15 (3 * n) x).sI 15 (3 * n + 1) y).sI 15 (3 * n + 2) z).sI 2 14 (nI n + 1)).I 2 14 - 1 = nI n by rw [C_II, if_pos rfl, if_pos rfl]; simp]
    refine mInW (a' := 0) (b' := 99) (by decide) (by decide) (fun _ _ => ⟨fun e => absurd e (by decide), fun _ => ?_⟩) (fun g => absurd ⟨a, b⟩ g)
    refine mInW (a' := 0) (b' := 10) (by decide) (by decide) (fun _ _ => ⟨fun e => absurd e (by decide), fun _ => ?_⟩) (fun g => absurd ⟨c, d⟩ g)
    refine mInW (a' := 0) (b' := 999) (by decide) (by decide) (fun _ _ => ⟨fun _ v5 e5 => ?_, fun e => absurd e (by decide)⟩) (fun g => absurd ⟨e, f⟩ g)
    rw [hM] at e5
    subst e5
    have q0 : (123 : Int32) + (3 : Int32) * nI n = nI (123 + 3 * n) := by rw [m3]; exact nI_add 123 (3 * n)
    have q1 : (123 : Int32) + (3 : Int32) * nI n + 1 = nI (123 + 3 * n + 1) := by rw [q0]; exact nI_add (123 + 3 * n) 1
    have q2 : (123 : Int32) + (3 : Int32) * nI n + 2 = nI (123 + 3 * n + 2) := by rw [q0]; exact nI_add (123 + 3 * n) 2
    refine ⟨fun _ => ?_, fun g => absurd g hne⟩
    rw [q1, q2, q0]
    refine ⟨vp_in_nI (by omega) (by decide), fun t10 e10 => ⟨vp_in_nI (by omega) (by decide), fun t11 e11 => ⟨vp_in_nI (by omega) (by decide), fun t12 e12 t13 e13 => ?_⟩⟩⟩
    rw [nI_clamp (by omega)] at e10 e11 e12
    subst e10 e11 e12
    rw [S_II, if_pos rfl, if_neg (by omega), S_II, if_pos rfl, if_neg (by omega), S_II, if_pos rfl, if_neg (by omega), hM] at e13
    subst e13
    have hs := i_succ (n := n) (by omega)
    refine mTell0 (by rw [fa_le, nI_toInt (by omega)]; show (0 : Int) ≤ _; omega) ?_
    have key : ∀ i : Fin 24, og_bd (123 + i.val) = some (0, 999) := by decide +kernel
    have k0 : og_bd (123 + 3 * n) = some (0, 999) := key ⟨3 * n, by omega⟩
    have k1 : og_bd (123 + 3 * n + 1) = some (0, 999) := key ⟨3 * n + 1, by omega⟩
    have k2 : og_bd (123 + 3 * n + 2) = some (0, 999) := key ⟨3 * n + 2, by omega⟩
    rw [fa_le] at a b c d e f
    have b99 : (99 : Int32).toInt = 99 := by decide
    have b10 : (10 : Int32).toInt = 10 := by decide
    exact K _ _ _ _ (((((hS.cell 19 rfl (3 * n) (by omega) (Nat.zero_add _) rfl x (by omega) (by omega) k0 a (by omega)).cell 19 rfl (3 * n + 1) (by omega) (Nat.zero_add _) (by omega) y (by omega) (by omega) k1 c (by omega)).cell 19 rfl (3 * n + 2) (by omega) (Nat.zero_add _) (by omega) z (by omega) (by omega) k2 e f).cell 1 rfl 0 (by omega) rfl rfl (nI n + 1) (by omega) (by omega) (lo := 0) (up := 8) rfl (by omega) (by omega)).stat 0)
