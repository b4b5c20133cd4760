theorem pForget {Γ : OgG} {α : Nat → Int32} {σM : OgS} {σC : OgC} {Q : Int32 → Int32 → OgC → OgS → Prop} (h : Row α σM σC) (K : ∀ (r : Int32) (α' : Nat → Int32) (σC' : OgC) (σM' : OgS), St α σM σC α' σM' σC' → Q r r σC' σM') : wX0_forget Γ (fun r σC' => wX5_forget (fun r' σM' => Q r r' σC' σM') σM) σC := by
  have hS := (St.rf h).thrown 0
  have e1 : σC.I 2 14 = α 1 := h.2.1.at 1 rfl 0 (by omega) rfl rfl
  have e2 : σC.I 2 12 = α 2 := h.2.1.at 2 rfl 0 (by omega) rfl rfl
  have e3 : σC.I 2 13 = α 3 := h.2.1.at 3 rfl 0 (by omega) rfl rfl
  have m1 : (σM.sI 0 0 0).I 2 1 = α 1 := h.1.1 1 (by omega) (by omega)
  have m2 : (σM.sI 0 0 0).I 2 2 = α 2 := h.1.1 2 (by omega) (by omega)
  have m3 : (σM.sI 0 0 0).I 2 3 = α 3 := h.1.1 3 (by omega) (by omega)
  intro v1 a1 s2 a2 s3 a3 s4 a4 t1 b1 v2 b2 t3 b3 t4 b4 t5 b5
  rw [e1, e2, e3] at a1
  subst b1
  rw [m1, m2, m3] at b2
  subst a1 a2 a3 a4 b2 b3 b4 b5
  exact K _ _ _ _ (((hS.cell 1 rfl 0 (by omega) rfl rfl 0 (by omega) (by omega) (lo := 0) (up := 8) rfl (by decide) (by decide)).cell 2 rfl 0 (by omega) rfl rfl 0 (by omega) (by omega) (lo := 0) (up := 10) rfl (by decide) (by decide)).cell 3 rfl 0 (by omega) rfl rfl 0 (by omega) (by omega) (lo := 0) (up := 8) rfl (by decide) (by decide))
