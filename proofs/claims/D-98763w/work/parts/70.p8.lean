theorem pRoad {Γ : OgG} {α : Nat → Int32} {σM : OgS} {σC : OgC} {x y z : Int32} {Q : Int32 → Int32 → OgC → OgS → Prop} (h : Row α σM σC) (K : ∀ (r : Int32) (α' : Nat → Int32) (σC' : OgC) (σM' : OgS), St α σM σC α' σM' σC' → Q r r σC' σM') : wX0_road Γ (fun r σC' => wX5_road (fun r' σM' => Q r r' σC' σM') x y z σM) x y z σC := by
  have hS := (St.rf h).thrown 0
  obtain ⟨n, hn, hα⟩ := h.2.2.2.nat 0 (hi := 6) rfl
  have hC : σC.I 2 11 = nI n := (h.2.1.at 0 rfl 0 (by omega) rfl rfl).trans hα
  have hM : (σM.sI 0 0 0).I 2 0 = nI n := ((h.1.1 0 (by omega) (by omega)).trans hα)
  have bad : (x = y ∨ ¬ (0 ≤ z ∧ z ≤ 99)) → wX0_road_15 Γ (fun r σC' => wX5_road (fun r' σM' => Q r r' σC' σM') x y z σM) σC := by
    intro g
    refine hS.ref K (-1) 1 (by decide) (by decide) (by decide) (fun σC' ht s1 e1 => ?_)
    rw [e1]
    refine ⟨fun _ => ht, fun e => ?_⟩
    exact mInW (a' := 0) (b' := 99) (by decide) (by decide) (fun a b => (g.elim (fun g => e g) (fun g => g ⟨a, b⟩)).elim) (fun _ => ⟨fun e => absurd rfl e, fun _ => ht⟩)
  have unk : ¬ x = y → (0 ≤ z ∧ z ≤ 99) → (¬ (∃ k, k < n ∧ x = nI k) ∨ ¬ ∃ k, k < n ∧ y = nI k) → wX0_road_37 Γ (fun r σC' => wX5_road (fun r' σM' => Q r r' σC' σM') x y z σM) σC := by
    intro hxy hz g
    refine hS.ref K (-2) 2 (by decide) (by decide) (by decide) (fun σC' ht s1 e1 => ?_)
    rw [e1]
    refine ⟨fun e => absurd e hxy, fun _ => ?_⟩
    refine mInW (a' := 0) (b' := 99) (by decide) (by decide) (fun a b => ⟨fun _ => ?_, fun e => absurd e (by decide)⟩) (fun g => absurd hz g)
    refine mFort hn hM (fun k hk e => ⟨fun e => absurd e (by decide), fun _ => ?_⟩) (fun _ => ⟨fun _ => ht, fun e => absurd rfl e⟩)
    exact mFort hn hM (fun k' hk' e' => (g.elim (fun g => g ⟨k, hk, e⟩) (fun g => g ⟨k', hk', e'⟩)).elim) (fun _ => ⟨fun e => absurd rfl e, fun _ => ht⟩)
  unfold wX0_road
  refine ⟨fun e => bad (Or.inl e), fun hxy => ?_⟩
  refine cIn (fun a b => ⟨fun _ => ?_, fun e => absurd e (by decide)⟩) (fun g => ⟨fun e => absurd rfl e, fun _ => bad (Or.inr g)⟩)
  refine cFort hn hC (fun k hk e => ⟨fun e => absurd e (by decide), fun _ => ?_⟩) (fun g => ⟨fun _ => unk hxy ⟨a, b⟩ (Or.inl g), fun e => absurd rfl e⟩)
  refine cFort hn hC (fun k' hk' e' => ⟨fun _ => ?_, fun e => absurd e (by decide)⟩) (fun g => ⟨fun e => absurd rfl e, fun _ => unk hxy ⟨a, b⟩ (Or.inr g)⟩)
  subst e e'
  have hkk : k ≠ k' := fun e => hxy (by rw [e])
  have c1 : (6 : Int32) * nI k + nI k' = nI (6 * k + k') := by rw [show (6 : Int32) * nI k = nI (6 * k) from nI_m 6 k, nI_add]
  have c2 : (6 : Int32) * nI k' + nI k = nI (6 * k' + k) := by rw [show (6 : Int32) * nI k' = nI (6 * k') from nI_m 6 k', nI_add]
  rw [c1, c2]
  refine ⟨vp_in_nI (by omega) (by decide), fun v11 e11 => ⟨vp_in_nI (by omega) (by decide), fun s12 e12 => ⟨vp_in_nI (by omega) (by decide), fun s13 e13 => cDone (fun s1 f1 => ?_)⟩⟩⟩
  rw [nI_clamp (by omega)] at e11 e12 e13
  subst e11 e12 e13 f1
  refine ⟨fun e => absurd e hxy, fun _ => ?_⟩
  refine mInW (a' := 0) (b' := 99) (by decide) (by decide) (fun _ _ => ⟨fun _ => ?_, fun e => absurd e (by decide)⟩) (fun g => absurd ⟨a, b⟩ g)
  refine mFort hn hM (fun _ _ _ => ⟨fun e => absurd e (by decide), fun _ => ?_⟩) (fun g => absurd ⟨k, hk, rfl⟩ g)
  refine mFort hn hM (fun _ _ _ => ⟨fun _ => ?_, fun e => absurd e (by decide)⟩) (fun g => absurd ⟨k', hk', rfl⟩ g)
  have m1 : (55 : Int32) + (6 : Int32) * nI k + nI k' = nI (55 + (6 * k + k')) := by rw [show (6 : Int32) * nI k = nI (6 * k) from nI_m 6 k, show (55 : Int32) + nI (6 * k) = nI (55 + 6 * k) from nI_add 55 (6 * k), nI_add, Nat.add_assoc]
  have m2 : (55 : Int32) + (6 : Int32) * nI k' + nI k = nI (55 + (6 * k' + k)) := by rw [show (6 : Int32) * nI k' = nI (6 * k') from nI_m 6 k', show (55 : Int32) + nI (6 * k') = nI (55 + 6 * k') from nI_add 55 (6 * k'), nI_add, Nat.add_assoc]
  rw [m2]
  refine ⟨vp_in_nI (by omega) (by decide), fun s12 e12 => ?_⟩
  rw [nI_clamp (by omega)] at e12
  subst e12
  refine mChange (55 + (6 * k + k')) (by omega) m1 ?_
  have eM : ((σM.sI 0 0 0).sI 2 (55 + (6 * k' + k)) z).I 2 (55 + (6 * k + k')) = σC.I 11 (6 * k + k') := by
    rw [S_II, if_pos rfl, if_neg (by omega)]
    exact (h.1.1 (55 + (6 * k + k')) (by omega) (by omega)).trans (h.2.1.at 15 rfl (6 * k + k') (by omega) (Nat.zero_add _) rfl).symm
  rw [eM]
  have key : ∀ i : Fin 36, og_bd (55 + i.val) = some (0, 99) := by decide +kernel
  rw [fa_le] at a b
  have hz := ((hS.cell 15 rfl (6 * k + k') (by omega) (Nat.zero_add _) rfl z (by omega) (by omega) (key ⟨6 * k + k', by omega⟩) a b).cell 15 rfl (6 * k' + k) (by omega) (Nat.zero_add _) rfl z (by omega) (by omega) (key ⟨6 * k' + k, by omega⟩) a b).stat 0
  rw [S_swap (σM.sI 0 0 0) z z (Or.inr (by omega))] at hz
  exact K _ _ _ _ hz
