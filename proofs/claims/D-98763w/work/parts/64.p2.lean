theorem w_in (v : Int32) {a b : Int64} {a' b' : Int32} (ha : a = a'.toInt64) (hb : b = b'.toInt64) : (a ≤ v.toInt64 ∧ v.toInt64 ≤ b) ↔ (a' ≤ v ∧ v ≤ b') := by rw [ha, hb, fa_wide_le, fa_wide_le]
/-- in(int, long, long) with written bounds, as ints compare -/
theorem mInW {Q : Int32 → OgS → Prop} {v : Int32} {a b : Int64} {a' b' : Int32} {σ : OgS} (ha : a = a'.toInt64) (hb : b = b'.toInt64) (h1 : a' ≤ v → v ≤ b' → Q 1 σ) (h2 : ¬ (a' ≤ v ∧ v ≤ b') → Q 0 σ) : wX5_in Q v.toInt64 a b σ :=
  mIn (fun p q => h1 ((w_in v ha hb).mp ⟨p, q⟩).1 ((w_in v ha hb).mp ⟨p, q⟩).2) (fun g => h2 (fun z => g ((w_in v ha hb).mpr z)))
theorem mChange {Q : Int32 → OgS → Prop} {x v : Int32} {σ : OgS} (j : Nat) (hj : j < 5550) (hx : x = nI j) (h : Q (σ.I 2 j) ((σ.sI 2 j v).sI 0 1 0)) : wX5_change Q x v σ := by
  unfold wX5_change
  refine ⟨vp_inN hx hj (by omega), fun v1 e1 => ⟨vp_inN hx hj (by omega), fun s2 e2 s3 e3 => ?_⟩⟩
  rw [hx, nI_clamp (by omega)] at e1 e2
  subst e1 e2 e3
  exact h
theorem i_nat {x : Int32} {b : Nat} (hb : b < 2 ^ 31) (h0 : 0 ≤ x) (h1 : x ≤ nI b) : ∃ n, n ≤ b ∧ x = nI n := by
  rw [fa_le] at h0 h1
  rw [nI_toInt hb] at h1
  exact og_nat h0 h1
theorem pNeeds {Γ : OgG} {α : Nat → Int32} {σM : OgS} {σC : OgC} {x y : Int32} {Q : Int32 → Int32 → OgC → OgS → Prop} (h : Row α σM σC) (K : ∀ (r : Int32) (α' : Nat → Int32) (σC' : OgC) (σM' : OgS), St α σM σC α' σM' σC' → Q r r σC' σM') : wX0_needs Γ (fun r σC' => wX5_needs (fun r' σM' => Q r r' σC' σM') x y σM) x y σC := by
  have hS := (St.rf h).thrown 0
  have bad : ¬ ((0 ≤ x ∧ x ≤ 5) ∧ 0 ≤ y ∧ y ≤ 9) → wX0_needs_17 Γ (fun r σC' => wX5_needs (fun r' σM' => Q r r' σC' σM') x y σM) σC := by
    intro g
    refine hS.ref K (-1) 1 (by decide) (by decide) (by decide) (fun σC' ht s1 e1 => ?_)
    rw [e1]
    refine mInW (a' := 0) (b' := 5) (by decide) (by decide) (fun a b => ⟨fun e => absurd e (by decide), fun _ => ?_⟩) (fun _ => ⟨fun _ => ht, fun e => absurd rfl e⟩)
    exact mInW (a' := 0) (b' := 9) (by decide) (by decide) (fun c d => absurd ⟨⟨a, b⟩, c, d⟩ g) (fun _ => ⟨fun _ => ht, fun e => absurd rfl e⟩)
  unfold wX0_needs wX0_isHill
  refine cIn (fun a b => ⟨Or.inr rfl, fun e => absurd e (by decide), fun _ => ?_⟩) (fun g => ⟨Or.inl rfl, fun _ => bad (fun z => g z.1), fun e => absurd rfl e⟩)
  refine cIn (fun c d => ⟨fun _ => ?_, fun e => absurd e (by decide)⟩) (fun g => ⟨fun e => absurd rfl e, fun _ => bad (fun z => g z.2)⟩)
  obtain ⟨n, hn, rfl⟩ := i_nat (b := 5) (by decide) a b
  refine ⟨vp_in_nI (by omega) (by decide), fun v7 e7 => ⟨vp_in_nI (by omega) (by decide), fun s8 e8 => cDone (fun s1 e1 => ?_)⟩⟩
  rw [nI_clamp (by omega)] at e7 e8
  subst e7 e8 e1
  refine mInW (a' := 0) (b' := 5) (by decide) (by decide) (fun _ _ => ⟨fun e => absurd e (by decide), fun _ => ?_⟩) (fun g => absurd ⟨a, b⟩ g)
  refine mInW (a' := 0) (b' := 9) (by decide) (by decide) (fun _ _ => ⟨fun e => absurd e (by decide), fun _ => ?_⟩) (fun g => absurd ⟨c, d⟩ g)
  refine mChange (101 + n) (by omega) (nI_add 101 n) ?_
  have eM : (σM.sI 0 0 0).I 2 (101 + n) = σC.I 13 n := (h.1.1 (101 + n) (by omega) (by omega)).trans (h.2.1.at 17 rfl n (by omega) (Nat.zero_add n) rfl).symm
  rw [eM]
  have hb : og_bd (101 + n) = some (0, 9) := by
    have key : ∀ i : Fin 6, og_bd (101 + i.val) = some (0, 9) := by decide +kernel
    exact key ⟨n, by omega⟩
  rw [fa_le] at c d
  exact K _ _ _ _ ((hS.cell 17 rfl n (by omega) (Nat.zero_add n) rfl y (by omega) (by omega) hb c d).stat 0)
theorem pFame {Γ : OgG} {α : Nat → Int32} {σM : OgS} {σC : OgC} {x y : Int32} {Q : Int32 → Int32 → OgC → OgS → Prop} (h : Row α σM σC) (K : ∀ (r : Int32) (α' : Nat → Int32) (σC' : OgC) (σM' : OgS), St α σM σC α' σM' σC' → Q r r σC' σM') : wX0_fame Γ (fun r σC' => wX5_fame (fun r' σM' => Q r r' σC' σM') x y σM) x y σC := by
  have hS := (St.rf h).thrown 0
  have bad : ¬ ((0 ≤ x ∧ x ≤ 3) ∧ 0 ≤ y ∧ y ≤ 100) → wX0_fame_17 Γ (fun r σC' => wX5_fame (fun r' σM' => Q r r' σC' σM') x y σM) σC := by
    intro g
    refine hS.ref K (-1) 1 (by decide) (by decide) (by decide) (fun σC' ht s1 e1 => ?_)
    rw [e1]
    refine mInW (a' := 0) (b' := 3) (by decide) (by decide) (fun a b => ⟨fun e => absurd e (by decide), fun _ => ?_⟩) (fun _ => ⟨fun _ => ht, fun e => absurd rfl e⟩)
    exact mInW (a' := 0) (b' := 100) (by decide) (by decide) (fun c d => absurd ⟨⟨a, b⟩, c, d⟩ g) (fun _ => ⟨fun e => absurd rfl e, fun _ => ht⟩)
  unfold wX0_fame wX0_isGeneral
  refine cIn (fun a b => ⟨Or.inr rfl, fun e => absurd e (by decide), fun _ => ?_⟩) (fun g => ⟨Or.inl rfl, fun _ => bad (fun z => g z.1), fun e => absurd rfl e⟩)
  refine cIn (fun c d => ⟨fun _ => ?_, fun e => absurd e (by decide)⟩) (fun g => ⟨fun e => absurd rfl e, fun _ => bad (fun z => g z.2)⟩)
  obtain ⟨n, hn, rfl⟩ := i_nat (b := 3) (by decide) a b
  refine ⟨vp_in_nI (by omega) (by decide), fun v7 e7 => ⟨vp_in_nI (by omega) (by decide), fun s8 e8 => cSettled (fun s1 e1 => ?_)⟩⟩
  rw [nI_clamp (by omega)] at e7 e8
  subst e7 e8 e1
  refine mInW (a' := 0) (b' := 3) (by decide) (by decide) (fun _ _ => ⟨fun e => absurd e (by decide), fun _ => ?_⟩) (fun g => absurd ⟨a, b⟩ g)
  refine mInW (a' := 0) (b' := 100) (by decide) (by decide) (fun _ _ => ⟨fun _ s8 e8 => ?_, fun e => absurd e (by decide)⟩) (fun g => absurd ⟨c, d⟩ g)
  rw [e8]
  refine mChange (9 + n) (by omega) (nI_add 9 n) ?_
  have eM : ((σM.sI 0 0 0).sI 0 8 0).I 2 (9 + n) = σC.I 6 n := (h.1.1 (9 + n) (by omega) (by omega)).trans (h.2.1.at 8 rfl n (by omega) (Nat.zero_add n) rfl).symm
  rw [eM]
  have hb : og_bd (9 + n) = some (0, 100) := by
    have key : ∀ i : Fin 4, og_bd (9 + i.val) = some (0, 100) := by decide +kernel
    exact key ⟨n, by omega⟩
  rw [fa_le] at c d
  have hz := (hS.cell 8 rfl n (by omega) (Nat.zero_add n) rfl y (by omega) (by omega) hb c d).undo0.stat 0
  have sw : ((σM.sI 0 0 0).sI 2 (9 + n) y).sI 0 8 0 = ((σM.sI 0 0 0).sI 0 8 0).sI 2 (9 + n) y := by
    show (og_up (og_up _ 2 (9 + n) y) 0 8 0, _, _) = (og_up (og_up _ 0 8 0) 2 (9 + n) y, _, _)
    congr 1
    funext a j
    simp only [og_up]
    split
    · rename_i e
      subst e
      simp
    · rfl
  rw [sw] at hz
  exact K _ _ _ _ hz
