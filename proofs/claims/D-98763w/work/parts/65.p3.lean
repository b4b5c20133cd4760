theorem S_ext {σ τ : OgS} (h1 : ∀ x y, σ.I x y = τ.I x y) (h2 : σ.L = τ.L) (h3 : σ.top = τ.top) : σ = τ := by
  obtain ⟨a, b, c⟩ := σ
  obtain ⟨a', b', c'⟩ := τ
  have e1 : a = a' := funext fun x => funext fun y => h1 x y
  have e2 : b = b' := h2
  have e3 : c = c' := h3
  rw [e1, e2, e3]
theorem S_swap (σ : OgS) {a k b j : Nat} (v w : Int32) (h : a ≠ b ∨ k ≠ j) : (σ.sI a k v).sI b j w = (σ.sI b j w).sI a k v := by
  refine S_ext (fun x y => ?_) rfl rfl
  rw [S_II, S_II, S_II, S_II]
  by_cases e1 : x = a
  · by_cases e2 : x = b
    · rw [if_pos e2, if_pos e1, if_pos e1, if_pos e2]
      by_cases e3 : y = k
      · rw [if_neg (by omega), if_pos e3, if_pos e3]
      · rw [if_neg e3, if_neg e3]
    · rw [if_neg e2, if_pos e1, if_pos e1, if_neg e2]
  · rw [if_neg e1, if_neg e1]
theorem pFire {Γ : OgG} {α : Nat → Int32} {σM : OgS} {σC : OgC} {x : Int32} {Q : Int32 → Int32 → OgC → OgS → Prop} (h : Row α σM σC) (K : ∀ (r : Int32) (α' : Nat → Int32) (σC' : OgC) (σM' : OgS), St α σM σC α' σM' σC' → Q r r σC' σM') : wX0_fire Γ (fun r σC' => wX5_fire (fun r' σM' => Q r r' σC' σM') x σM) x σC := by
  have hS := (St.rf h).thrown 0
  obtain ⟨n, hn, hα⟩ := h.2.2.2.nat 2 (hi := 10) rfl
  have hC : σC.I 2 12 = nI n := (h.2.1.at 2 rfl 0 (by omega) rfl rfl).trans hα
  have hM : (σM.sI 0 0 0).I 2 2 = nI n := ((h.1.1 2 (by omega) (by omega)).trans hα)
  unfold wX0_fire
  refine cIn (fun a b => ⟨fun _ => ?_, fun e => absurd e (by decide)⟩) (fun g => ⟨fun e => absurd rfl e, fun _ => ?_⟩)
  · by_cases h10 : n = 10
    · refine ⟨fun g => absurd (by rw [hC, h10]; rfl) g, fun _ => ?_⟩
      refine hS.ref K (-5) 5 (by decide) (by decide) (by decide) (fun σC' ht s1 e1 => ?_)
      rw [e1]
      refine mInW (a' := 0) (b' := 63) (by decide) (by decide) (fun _ _ => ⟨fun _ v5 e5 => ?_, fun e => absurd e (by decide)⟩) (fun g => absurd ⟨a, b⟩ g)
      rw [hM, h10] at e5
      exact ⟨fun g => absurd e5 g, fun _ => ht⟩
    · have hne : ¬ nI n = 10 := fun g => h10 ((nI_eq (a := n) (b := 10) (by omega) (by omega)).mp g)
      refine ⟨fun _ => ?_, fun g => absurd (hC.symm.trans g) hne⟩
      refine ⟨vp_inN hC (by omega) (by omega), fun s5 e5 s6 e6 => cDone (fun s1 e1 => ?_)⟩
      rw [hC, nI_clamp (by omega)] at e5
      subst e5
      rw [C_II, if_neg (by decide), hC] at e6
      subst e6 e1
      have er : (((σC.sI 12 n x).sI 2 12 (nI n + 1)).I 2 12) - 1 = nI n := by
        rw [C_II, if_pos rfl, if_pos rfl]
        simp
      rw [er]
      refine mInW (a' := 0) (b' := 63) (by decide) (by decide) (fun _ _ => ⟨fun _ v5 e5 => ?_, fun e => absurd e (by decide)⟩) (fun g => absurd ⟨a, b⟩ g)
      rw [hM] at e5
      subst e5
      refine ⟨fun _ => ⟨vp_c 91 n (by omega) (by omega), fun s7 e7 s8 e8 => ?_⟩, fun g => absurd g hne⟩
      rw [show ((91 : Int32) + nI n).toNatClampNeg = 91 + n from nI_c 91 n (by omega)] at e7
      subst e7
      rw [S_II, if_pos rfl, if_neg (by omega), hM] at e8
      subst e8
      refine mTell0 (by rw [fa_le, nI_toInt (by omega)]; show (0 : Int) ≤ _; omega) ?_
      have hb : og_bd (91 + n) = some (0, 63) := by
        have key : ∀ i : Fin 10, og_bd (91 + i.val) = some (0, 63) := by decide +kernel
        exact key ⟨n, by omega⟩
      rw [fa_le] at a b
      have z6 : (nI n + 1).toInt = n + 1 := by
        have : nI n + 1 = nI (n + 1) := nI_add n 1
        rw [this, nI_toInt (by omega)]
        omega
      exact K _ _ _ _ (((hS.cell 16 rfl n (by omega) (Nat.zero_add n) rfl x (by omega) (by omega) hb a b).cell 2 rfl 0 (by omega) rfl rfl (nI n + 1) (by omega) (by omega) (lo := 0) (up := 10) rfl (by omega) (by omega)).stat 0)
  · refine hS.ref K (-1) 1 (by decide) (by decide) (by decide) (fun σC' ht s1 e1 => ?_)
    rw [e1]
    exact mInW (a' := 0) (b' := 63) (by decide) (by decide) (fun c d => absurd ⟨c, d⟩ g) (fun _ => ⟨fun e => absurd rfl e, fun _ => ht⟩)
