/-! ===== counts, the law in force ===== -/
theorem b_63 : ∀ i : Fin 32, bt 63 i.val = decide (i.val < 6) := by decide +kernel
theorem w64 {w : Int32} (h : ∀ f, 6 ≤ f → f < 32 → bt w f = false) : ∃ m, m < 64 ∧ w = nI m := by
  obtain ⟨n, hn, e⟩ := wb_of32 w
  refine ⟨n % 2 ^ 6, Nat.mod_lt _ (by decide), ?_⟩
  rw [← fa_mask n 6, ← e]
  refine b_ext (fun i hi => ?_)
  rw [b_and]
  have b6 := b_63 ⟨i, hi⟩
  show _ = (bt w i && bt 63 i)
  rw [b6]
  by_cases c : i < 6
  · simp [c]
  · rw [h i (by omega) hi]
    rfl
theorem cnt_z {p : Nat → Bool} {a : Nat} : ∀ b, a ≤ b → (∀ i, a ≤ i → i < b → p i = false) → fa_cnt p b = fa_cnt p a
  | 0, h, _ => by
    obtain rfl : a = 0 := by omega
    rfl
  | b + 1, h, hz => by
    by_cases e : a = b + 1
    · rw [e]
    · rw [fa_cnt_no (hz b (by omega) (by omega)), cnt_z b (by omega) (fun i h1 h2 => hz i h1 (by omega))]
section Cnt
variable {Z : Nat → Prop} {Γ : OgG} {α : Nat → Int32} {nl : Nat} {T : Nat → Int32 → (Nat → Int64) → Option Int64} {σM : OgS} {σC : OgC}
theorem cTk {Q : Int32 → OgC → Prop} {n : Nat} (h : Row α σM σC) (ht : TkZ α) (hn : n ≤ 6) (hα : α 0 = nI n) (K : Q (nI (fa_cnt (bt (σC.I 3 3)) n)) σC) : wX0_ones Γ Q (σC.I 3 3) σC := by
  obtain ⟨m, hm, e⟩ := w64 h.2.2.1.2
  have hz : fa_cnt (bt (σC.I 3 3)) 10 = fa_cnt (bt (σC.I 3 3)) n := by
    refine cnt_z 10 (by omega) (fun i h1 h2 => ?_)
    by_cases c : i < 6
    · have := h.2.2.1.1 i c
      rw [ht i c (by rw [hα, nI_toInt (by omega)]; omega), bt_sh _ (by omega)] at this
      by_cases b : bt (σC.I 3 3) i = true
      · rw [if_pos b] at this
        exact absurd this (by decide)
      · simpa using b
    · exact h.2.2.1.2 i (by omega) (by omega)
  rw [← hz] at K
  rw [e] at K ⊢
  exact cOnes (by omega) K
theorem mTk {Q : Int32 → OgS → Prop} {n : Nat} {σ : OgS} (hF : FlM α σ) (hK : FlK α σC) (hn : n ≤ 6) (hα : α 0 = nI n) (K : Q (nI (fa_cnt (bt (σC.I 3 3)) n)) σ) : wX5_takenForts Q σ := by
  have h0 : σ.I 2 0 = nI n := (hF.1 0 (by omega) (by omega)).trans hα
  refine for3 n (fun k => nI (fa_cnt (bt (σC.I 3 3)) k)) nI (fun _ => σ) (fun _ => True) (fun K' k hk _ hK' => ?_) trivial
  unfold wX5_takenForts_B4
  rw [h0, nI_lei (by omega) (by omega)]
  by_cases c : n ≤ k
  · obtain rfl : k = n := by omega
    exact ⟨fun _ => K, fun e => absurd c e⟩
  · refine ⟨fun e => absurd e c, fun _ => ?_⟩
    have hK'' := hK' (by omega) trivial
    have l := fa_cnt_le (bt (σC.I 3 3)) k
    rw [show (25 : Int32) + nI k = nI (25 + k) from nI_add 25 k, nI_clamp (by omega), hF.1 (25 + k) (by omega) (by omega), hK.1 k (by omega), bt_sh _ (by omega)]
    refine ⟨vp_in_nI (by omega) (by decide), fun v2 e2 x2 e3 => ?_⟩
    subst e2 e3
    rw [nI_s]
    by_cases b : bt (σC.I 3 3) k = true
    · rw [fa_cnt_yes b] at hK''
      rw [if_pos b, nI_s]
      exact hK''
    · rw [fa_cnt_no (by simpa using b)] at hK''
      rw [if_neg b, show nI (fa_cnt (bt (σC.I 3 3)) k) + 0 = nI (fa_cnt (bt (σC.I 3 3)) k) from nI_add _ 0]
      exact hK''
theorem pCount {x : Int32} {Q : Int32 → Int32 → OgC → OgS → Prop} (h : Lw Z Γ α nl T σM σC) (ht : TkZ α) (K : ∀ (r : Int32), Q r r σC (σM.sI 0 0 0)) : wX0_count Γ (fun r σC' => wX5_count (fun r' σM' => Q r r' σC' σM') x σM) x σC := by
  have hF := h.1.2.1
  have hM := (h.m.thrown 0).1
  obtain ⟨n, hn, hα⟩ := h.1.2.2.2.nat 0 (hi := 6) rfl
  have e0 : (σM.sI 0 0 0).I 2 0 = σC.I 2 11 := (hM.1 0 (by decide) (by decide)).trans (hF.at 0 rfl 0 (by decide) rfl rfl).symm
  have e2 : (σM.sI 0 0 0).I 2 1 = σC.I 2 14 := (hM.1 1 (by decide) (by decide)).trans (hF.at 1 rfl 0 (by decide) rfl rfl).symm
  have e3 : (σM.sI 0 0 0).I 2 2 = σC.I 2 12 := (hM.1 2 (by decide) (by decide)).trans (hF.at 2 rfl 0 (by decide) rfl rfl).symm
  have e4 : (σM.sI 0 0 0).I 2 3 = σC.I 2 13 := (hM.1 3 (by decide) (by decide)).trans (hF.at 3 rfl 0 (by decide) rfl rfl).symm
  have e6 : (σM.sI 0 0 0).I 0 8 = σC.I 0 14 := (hM.2.1 8 (by decide)).trans (hF.at 25 rfl 0 (by decide) rfl rfl).symm
  have e7 : (σM.sI 0 0 0).I 0 13 = σC.I 0 10 := (hM.2.1 13 (by decide)).trans (hF.at 21 rfl 0 (by decide) rfl rfl).symm
  have e8 : (σM.sI 0 0 0).I 1 1 = σC.I 1 1 := (hM.2.2 1 (by decide)).trans (hF.at 26 rfl 1 (by decide) rfl rfl).symm
  have e9 : (σM.sI 0 0 0).I 1 2 = σC.I 1 2 := (hM.2.2 2 (by decide)).trans (hF.at 26 rfl 2 (by decide) rfl rfl).symm
  have e10 : (σM.sI 0 0 0).I 1 3 = σC.I 1 3 := (hM.2.2 3 (by decide)).trans (hF.at 26 rfl 3 (by decide) rfl rfl).symm
  have e11 : (σM.sI 0 0 0).I 1 5 = σC.I 1 5 := (hM.2.2 5 (by decide)).trans (hF.at 26 rfl 5 (by decide) rfl rfl).symm
  have e12 : (σM.sI 0 0 0).I 1 6 = σC.I 1 6 := (hM.2.2 6 (by decide)).trans (hF.at 26 rfl 6 (by decide) rfl rfl).symm
  have e13 : (σM.sI 0 0 0).I 2 5 = σC.I 2 17 := (hM.1 5 (by decide) (by decide)).trans (hF.at 4 rfl 0 (by decide) rfl rfl).symm
  have e14 : (σM.sI 0 0 0).I 2 6 = σC.I 3 4 := (hM.1 6 (by decide) (by decide)).trans (hF.at 5 rfl 0 (by decide) rfl rfl).symm
  have e15 : (σM.sI 0 0 0).I 2 7 = σC.I 2 15 := (hM.1 7 (by decide) (by decide)).trans (hF.at 6 rfl 0 (by decide) rfl rfl).symm
  have e16 : (σM.sI 0 0 0).I 2 8 = σC.I 2 16 := (hM.1 8 (by decide) (by decide)).trans (hF.at 7 rfl 0 (by decide) rfl rfl).symm
  have e17 : (σM.sI 0 0 0).I 2 9 = σC.I 6 0 := (hM.1 9 (by decide) (by decide)).trans (hF.at 8 rfl 0 (by decide) rfl rfl).symm
  have e18 : (σM.sI 0 0 0).I 2 10 = σC.I 6 1 := (hM.1 10 (by decide) (by decide)).trans (hF.at 8 rfl 1 (by decide) rfl rfl).symm
  have e19 : (σM.sI 0 0 0).I 2 11 = σC.I 6 2 := (hM.1 11 (by decide) (by decide)).trans (hF.at 8 rfl 2 (by decide) rfl rfl).symm
  have e20 : (σM.sI 0 0 0).I 2 12 = σC.I 6 3 := (hM.1 12 (by decide) (by decide)).trans (hF.at 8 rfl 3 (by decide) rfl rfl).symm
  have e5 : (σM.sI 0 0 0).I 2 4 = σC.I 16 2 := by
    have a := (h.m.thrown 0).2.1
    rw [Nat.zero_add] at a
    rw [a]
    exact h.2.1.1.symm
  by_cases c0 : x = 0
  · subst c0
    simp only [wX0_count, wX0_count_164, wX0_count_174, wX0_count_216, wJ2_size, wX5_count, mIn_eq, forall_eq]
    refine ⟨fun _ => ?_, fun e => absurd (by first | trivial | rfl) e⟩
    refine ⟨fun _ => ?_, fun e => absurd (by first | trivial | rfl) e⟩
    first | (rw [e0]; exact K _) | (show Q (σC.I 2 11) ((σM.sI 0 0 0).I 2 0) σC (σM.sI 0 0 0); rw [e0]; exact K _)
  by_cases c1 : x = 1
  · subst c1
    simp only [wX0_count, wX5_count, forall_eq]
    refine ⟨fun e => absurd e (by decide), fun _ => ⟨fun _ => cTk h.1 ht hn hα ?_, fun e => absurd (by first | trivial | rfl) e⟩⟩
    refine ⟨fun e => absurd e (by decide), fun _ => ⟨fun _ => mTk hM h.1.2.2.1 hn hα (K _), fun e => absurd (by first | trivial | rfl) e⟩⟩
  by_cases c2 : x = 2
  · subst c2
    simp only [wX0_count, wX0_count_164, wX0_count_174, wX0_count_216, wJ2_size, wX5_count, mIn_eq, forall_eq]
    refine ⟨fun e => absurd e (by decide), fun _ => ⟨fun e => absurd e (by decide), fun _ => ⟨fun _ => ?_, fun e => absurd (by first | trivial | rfl) e⟩⟩⟩
    refine ⟨fun e => absurd e (by decide), fun _ => ⟨fun e => absurd e (by decide), fun _ => ⟨fun _ => ?_, fun e => absurd (by first | trivial | rfl) e⟩⟩⟩
    first | (rw [e2]; exact K _) | (show Q (σC.I 2 14) ((σM.sI 0 0 0).I 2 1) σC (σM.sI 0 0 0); rw [e2]; exact K _)
  by_cases c3 : x = 3
  · subst c3
    simp only [wX0_count, wX0_count_164, wX0_count_174, wX0_count_216, wJ2_size, wX5_count, mIn_eq, forall_eq]
    refine ⟨fun e => absurd e (by decide), fun _ => ⟨fun e => absurd e (by decide), fun _ => ⟨fun e => absurd e (by decide), fun _ => ⟨fun _ => ?_, fun e => absurd (by first | trivial | rfl) e⟩⟩⟩⟩
    refine ⟨fun e => absurd e (by decide), fun _ => ⟨fun e => absurd e (by decide), fun _ => ⟨fun e => absurd e (by decide), fun _ => ⟨fun _ => ?_, fun e => absurd (by first | trivial | rfl) e⟩⟩⟩⟩
    first | (rw [e3]; exact K _) | (show Q (σC.I 2 12) ((σM.sI 0 0 0).I 2 2) σC (σM.sI 0 0 0); rw [e3]; exact K _)
  by_cases c4 : x = 4
  · subst c4
    simp only [wX0_count, wX0_count_164, wX0_count_174, wX0_count_216, wJ2_size, wX5_count, mIn_eq, forall_eq]
    refine ⟨fun e => absurd e (by decide), fun _ => ⟨fun e => absurd e (by decide), fun _ => ⟨fun e => absurd e (by decide), fun _ => ⟨fun e => absurd e (by decide), fun _ => ⟨fun _ => ?_, fun e => absurd (by first | trivial | rfl) e⟩⟩⟩⟩⟩
    refine ⟨fun e => absurd e (by decide), fun _ => ⟨fun e => absurd e (by decide), fun _ => ⟨fun e => absurd e (by decide), fun _ => ⟨fun e => absurd e (by decide), fun _ => ⟨fun _ => ?_, fun e => absurd (by first | trivial | rfl) e⟩⟩⟩⟩⟩
    first | (rw [e4]; exact K _) | (show Q (σC.I 2 13) ((σM.sI 0 0 0).I 2 3) σC (σM.sI 0 0 0); rw [e4]; exact K _)
  by_cases c5 : x = 5
  · subst c5
    simp only [wX0_count, wX0_count_164, wX0_count_174, wX0_count_216, wJ2_size, wX5_count, mIn_eq, forall_eq]
    refine ⟨fun e => absurd e (by decide), fun _ => ⟨fun e => absurd e (by decide), fun _ => ⟨fun e => absurd e (by decide), fun _ => ⟨fun e => absurd e (by decide), fun _ => ⟨fun e => absurd e (by decide), fun _ => ⟨fun _ => ?_, fun e => absurd (by first | trivial | rfl) e⟩⟩⟩⟩⟩⟩
    refine ⟨fun e => absurd e (by decide), fun _ => ⟨fun e => absurd e (by decide), fun _ => ⟨fun e => absurd e (by decide), fun _ => ⟨fun e => absurd e (by decide), fun _ => ⟨fun e => absurd e (by decide), fun _ => ⟨fun _ => ?_, fun e => absurd (by first | trivial | rfl) e⟩⟩⟩⟩⟩⟩
    first | (rw [e5]; exact K _) | (show Q (σC.I 16 2) ((σM.sI 0 0 0).I 2 4) σC (σM.sI 0 0 0); rw [e5]; exact K _)
  by_cases c6 : x = 6
  · subst c6
    simp only [wX0_count, wX0_count_164, wX0_count_174, wX0_count_216, wJ2_size, wX5_count, mIn_eq, forall_eq]
    refine ⟨fun e => absurd e (by decide), fun _ => ⟨fun e => absurd e (by decide), fun _ => ⟨fun e => absurd e (by decide), fun _ => ⟨fun e => absurd e (by decide), fun _ => ⟨fun e => absurd e (by decide), fun _ => ⟨fun e => absurd e (by decide), fun _ => ⟨fun _ => ?_, fun e => absurd (by first | trivial | rfl) e⟩⟩⟩⟩⟩⟩⟩
    refine ⟨fun e => absurd e (by decide), fun _ => ⟨fun e => absurd e (by decide), fun _ => ⟨fun e => absurd e (by decide), fun _ => ⟨fun e => absurd e (by decide), fun _ => ⟨fun e => absurd e (by decide), fun _ => ⟨fun e => absurd e (by decide), fun _ => ⟨fun _ => ?_, fun e => absurd (by first | trivial | rfl) e⟩⟩⟩⟩⟩⟩⟩
    first | (rw [e6]; exact K _) | (show Q (σC.I 0 14) ((σM.sI 0 0 0).I 0 8) σC (σM.sI 0 0 0); rw [e6]; exact K _)
  by_cases c7 : x = 7
  · subst c7
    simp only [wX0_count, wX0_count_164, wX0_count_174, wX0_count_216, wJ2_size, wX5_count, mIn_eq, forall_eq]
    refine ⟨fun e => absurd e (by decide), fun _ => ⟨fun e => absurd e (by decide), fun _ => ⟨fun e => absurd e (by decide), fun _ => ⟨fun e => absurd e (by decide), fun _ => ⟨fun e => absurd e (by decide), fun _ => ⟨fun e => absurd e (by decide), fun _ => ⟨fun e => absurd e (by decide), fun _ => ⟨fun _ => ?_, fun e => absurd (by first | trivial | rfl) e⟩⟩⟩⟩⟩⟩⟩⟩
    refine ⟨fun e => absurd e (by decide), fun _ => ⟨fun e => absurd e (by decide), fun _ => ⟨fun e => absurd e (by decide), fun _ => ⟨fun e => absurd e (by decide), fun _ => ⟨fun e => absurd e (by decide), fun _ => ⟨fun e => absurd e (by decide), fun _ => ⟨fun e => absurd e (by decide), fun _ => ⟨fun _ => ?_, fun e => absurd (by first | trivial | rfl) e⟩⟩⟩⟩⟩⟩⟩⟩
    first | (rw [e7]; exact K _) | (show Q (σC.I 0 10) ((σM.sI 0 0 0).I 0 13) σC (σM.sI 0 0 0); rw [e7]; exact K _)
  by_cases c8 : x = 8
  · subst c8
    simp only [wX0_count, wX0_count_164, wX0_count_174, wX0_count_216, wJ2_size, wX5_count, mIn_eq, forall_eq]
    refine ⟨fun e => absurd e (by decide), fun _ => ⟨fun e => absurd e (by decide), fun _ => ⟨fun e => absurd e (by decide), fun _ => ⟨fun e => absurd e (by decide), fun _ => ⟨fun e => absurd e (by decide), fun _ => ⟨fun e => absurd e (by decide), fun _ => ⟨fun e => absurd e (by decide), fun _ => ⟨fun e => absurd e (by decide), fun _ => ⟨fun _ => ⟨by unfold vp_in; decide, ?_⟩, fun e => absurd (by first | trivial | rfl) e⟩⟩⟩⟩⟩⟩⟩⟩⟩
    refine ⟨fun e => absurd e (by decide), fun _ => ⟨fun e => absurd e (by decide), fun _ => ⟨fun e => absurd e (by decide), fun _ => ⟨fun e => absurd e (by decide), fun _ => ⟨fun e => absurd e (by decide), fun _ => ⟨fun e => absurd e (by decide), fun _ => ⟨fun e => absurd e (by decide), fun _ => ⟨fun e => absurd e (by decide), fun _ => ⟨fun _ => ?_, fun e => absurd (by first | trivial | rfl) e⟩⟩⟩⟩⟩⟩⟩⟩⟩
    first | (rw [e8]; exact K _) | (show Q (σC.I 1 1) ((σM.sI 0 0 0).I 1 1) σC (σM.sI 0 0 0); rw [e8]; exact K _)
  by_cases c9 : x = 9
  · subst c9
    simp only [wX0_count, wX0_count_164, wX0_count_174, wX0_count_216, wJ2_size, wX5_count, mIn_eq, forall_eq]
    refine ⟨fun e => absurd e (by decide), fun _ => ⟨fun e => absurd e (by decide), fun _ => ⟨fun e => absurd e (by decide), fun _ => ⟨fun e => absurd e (by decide), fun _ => ⟨fun e => absurd e (by decide), fun _ => ⟨fun e => absurd e (by decide), fun _ => ⟨fun e => absurd e (by decide), fun _ => ⟨fun e => absurd e (by decide), fun _ => ⟨fun e => absurd e (by decide), fun _ => ⟨fun _ => ⟨by unfold vp_in; decide, ?_⟩, fun e => absurd (by first | trivial | rfl) e⟩⟩⟩⟩⟩⟩⟩⟩⟩⟩
    refine ⟨fun e => absurd e (by decide), fun _ => ⟨fun e => absurd e (by decide), fun _ => ⟨fun e => absurd e (by decide), fun _ => ⟨fun e => absurd e (by decide), fun _ => ⟨fun e => absurd e (by decide), fun _ => ⟨fun e => absurd e (by decide), fun _ => ⟨fun e => absurd e (by decide), fun _ => ⟨fun e => absurd e (by decide), fun _ => ⟨fun e => absurd e (by decide), fun _ => ⟨fun _ => ?_, fun e => absurd (by first | trivial | rfl) e⟩⟩⟩⟩⟩⟩⟩⟩⟩⟩
    first | (rw [e9]; exact K _) | (show Q (σC.I 1 2) ((σM.sI 0 0 0).I 1 2) σC (σM.sI 0 0 0); rw [e9]; exact K _)
  by_cases c10 : x = 10
  · subst c10
    simp only [wX0_count, wX0_count_164, wX0_count_174, wX0_count_216, wJ2_size, wX5_count, mIn_eq, forall_eq]
    refine ⟨fun e => absurd e (by decide), fun _ => ⟨fun e => absurd e (by decide), fun _ => ⟨fun e => absurd e (by decide), fun _ => ⟨fun e => absurd e (by decide), fun _ => ⟨fun e => absurd e (by decide), fun _ => ⟨fun e => absurd e (by decide), fun _ => ⟨fun e => absurd e (by decide), fun _ => ⟨fun e => absurd e (by decide), fun _ => ⟨fun e => absurd e (by decide), fun _ => ⟨fun e => absurd e (by decide), fun _ => ⟨fun _ => ⟨by unfold vp_in; decide, ?_⟩, fun e => absurd (by first | trivial | rfl) e⟩⟩⟩⟩⟩⟩⟩⟩⟩⟩⟩
    refine ⟨fun e => absurd e (by decide), fun _ => ⟨fun e => absurd e (by decide), fun _ => ⟨fun e => absurd e (by decide), fun _ => ⟨fun e => absurd e (by decide), fun _ => ⟨fun e => absurd e (by decide), fun _ => ⟨fun e => absurd e (by decide), fun _ => ⟨fun e => absurd e (by decide), fun _ => ⟨fun e => absurd e (by decide), fun _ => ⟨fun e => absurd e (by decide), fun _ => ⟨fun e => absurd e (by decide), fun _ => ⟨fun _ => ?_, fun e => absurd (by first | trivial | rfl) e⟩⟩⟩⟩⟩⟩⟩⟩⟩⟩⟩
    first | (rw [e10]; exact K _) | (show Q (σC.I 1 3) ((σM.sI 0 0 0).I 1 3) σC (σM.sI 0 0 0); rw [e10]; exact K _)
  by_cases c11 : x = 11
  · subst c11
    simp only [wX0_count, wX0_count_164, wX0_count_174, wX0_count_216, wJ2_size, wX5_count, mIn_eq, forall_eq]
    refine ⟨fun e => absurd e (by decide), fun _ => ⟨fun e => absurd e (by decide), fun _ => ⟨fun e => absurd e (by decide), fun _ => ⟨fun e => absurd e (by decide), fun _ => ⟨fun e => absurd e (by decide), fun _ => ⟨fun e => absurd e (by decide), fun _ => ⟨fun e => absurd e (by decide), fun _ => ⟨fun e => absurd e (by decide), fun _ => ⟨fun e => absurd e (by decide), fun _ => ⟨fun e => absurd e (by decide), fun _ => ⟨fun e => absurd e (by decide), fun _ => ⟨fun _ => ⟨by unfold vp_in; decide, ?_⟩, fun e => absurd (by first | trivial | rfl) e⟩⟩⟩⟩⟩⟩⟩⟩⟩⟩⟩⟩
    refine ⟨fun e => absurd e (by decide), fun _ => ⟨fun e => absurd e (by decide), fun _ => ⟨fun e => absurd e (by decide), fun _ => ⟨fun e => absurd e (by decide), fun _ => ⟨fun e => absurd e (by decide), fun _ => ⟨fun e => absurd e (by decide), fun _ => ⟨fun e => absurd e (by decide), fun _ => ⟨fun e => absurd e (by decide), fun _ => ⟨fun e => absurd e (by decide), fun _ => ⟨fun e => absurd e (by decide), fun _ => ⟨fun e => absurd e (by decide), fun _ => ⟨fun _ => ?_, fun e => absurd (by first | trivial | rfl) e⟩⟩⟩⟩⟩⟩⟩⟩⟩⟩⟩⟩
    first | (rw [e11]; exact K _) | (show Q (σC.I 1 5) ((σM.sI 0 0 0).I 1 5) σC (σM.sI 0 0 0); rw [e11]; exact K _)
  by_cases c12 : x = 12
  · subst c12
    simp only [wX0_count, wX0_count_164, wX0_count_174, wX0_count_216, wJ2_size, wX5_count, mIn_eq, forall_eq]
    refine ⟨fun e => absurd e (by decide), fun _ => ⟨fun e => absurd e (by decide), fun _ => ⟨fun e => absurd e (by decide), fun _ => ⟨fun e => absurd e (by decide), fun _ => ⟨fun e => absurd e (by decide), fun _ => ⟨fun e => absurd e (by decide), fun _ => ⟨fun e => absurd e (by decide), fun _ => ⟨fun e => absurd e (by decide), fun _ => ⟨fun e => absurd e (by decide), fun _ => ⟨fun e => absurd e (by decide), fun _ => ⟨fun e => absurd e (by decide), fun _ => ⟨fun e => absurd e (by decide), fun _ => ⟨fun _ => ⟨by unfold vp_in; decide, ?_⟩, fun e => absurd (by first | trivial | rfl) e⟩⟩⟩⟩⟩⟩⟩⟩⟩⟩⟩⟩⟩
    refine ⟨fun e => absurd e (by decide), fun _ => ⟨fun e => absurd e (by decide), fun _ => ⟨fun e => absurd e (by decide), fun _ => ⟨fun e => absurd e (by decide), fun _ => ⟨fun e => absurd e (by decide), fun _ => ⟨fun e => absurd e (by decide), fun _ => ⟨fun e => absurd e (by decide), fun _ => ⟨fun e => absurd e (by decide), fun _ => ⟨fun e => absurd e (by decide), fun _ => ⟨fun e => absurd e (by decide), fun _ => ⟨fun e => absurd e (by decide), fun _ => ⟨fun e => absurd e (by decide), fun _ => ⟨fun _ => ?_, fun e => absurd (by first | trivial | rfl) e⟩⟩⟩⟩⟩⟩⟩⟩⟩⟩⟩⟩⟩
    first | (rw [e12]; exact K _) | (show Q (σC.I 1 6) ((σM.sI 0 0 0).I 1 6) σC (σM.sI 0 0 0); rw [e12]; exact K _)
  by_cases c13 : x = 13
  · subst c13
    simp only [wX0_count, wX0_count_164, wX0_count_174, wX0_count_216, wJ2_size, wX5_count, mIn_eq, forall_eq]
    refine ⟨fun e => absurd e (by decide), fun _ => ⟨fun e => absurd e (by decide), fun _ => ⟨fun e => absurd e (by decide), fun _ => ⟨fun e => absurd e (by decide), fun _ => ⟨fun e => absurd e (by decide), fun _ => ⟨fun e => absurd e (by decide), fun _ => ⟨fun e => absurd e (by decide), fun _ => ⟨fun e => absurd e (by decide), fun _ => ⟨fun e => absurd e (by decide), fun _ => ⟨fun e => absurd e (by decide), fun _ => ⟨fun e => absurd e (by decide), fun _ => ⟨fun e => absurd e (by decide), fun _ => ⟨fun e => absurd e (by decide), fun _ => ⟨fun _ => ?_, fun e => absurd (by first | trivial | rfl) e⟩⟩⟩⟩⟩⟩⟩⟩⟩⟩⟩⟩⟩⟩
    refine ⟨fun e => absurd e (by decide), fun _ => ⟨fun e => absurd e (by decide), fun _ => ⟨fun e => absurd e (by decide), fun _ => ⟨fun e => absurd e (by decide), fun _ => ⟨fun e => absurd e (by decide), fun _ => ⟨fun e => absurd e (by decide), fun _ => ⟨fun e => absurd e (by decide), fun _ => ⟨fun e => absurd e (by decide), fun _ => ⟨fun e => absurd e (by decide), fun _ => ⟨fun e => absurd e (by decide), fun _ => ⟨fun e => absurd e (by decide), fun _ => ⟨fun e => absurd e (by decide), fun _ => ⟨fun e => absurd e (by decide), fun _ => ⟨fun _ => ?_, fun e => absurd (by first | trivial | rfl) e⟩⟩⟩⟩⟩⟩⟩⟩⟩⟩⟩⟩⟩⟩
    first | (rw [e13]; exact K _) | (show Q (σC.I 2 17) ((σM.sI 0 0 0).I 2 5) σC (σM.sI 0 0 0); rw [e13]; exact K _)
  by_cases c14 : x = 14
  · subst c14
    simp only [wX0_count, wX0_count_164, wX0_count_174, wX0_count_216, wJ2_size, wX5_count, mIn_eq, forall_eq]
    refine ⟨fun e => absurd e (by decide), fun _ => ⟨fun e => absurd e (by decide), fun _ => ⟨fun e => absurd e (by decide), fun _ => ⟨fun e => absurd e (by decide), fun _ => ⟨fun e => absurd e (by decide), fun _ => ⟨fun e => absurd e (by decide), fun _ => ⟨fun e => absurd e (by decide), fun _ => ⟨fun e => absurd e (by decide), fun _ => ⟨fun e => absurd e (by decide), fun _ => ⟨fun e => absurd e (by decide), fun _ => ⟨fun e => absurd e (by decide), fun _ => ⟨fun e => absurd e (by decide), fun _ => ⟨fun e => absurd e (by decide), fun _ => ⟨fun e => absurd e (by decide), fun _ => ⟨fun _ => ?_, fun e => absurd (by first | trivial | rfl) e⟩⟩⟩⟩⟩⟩⟩⟩⟩⟩⟩⟩⟩⟩⟩
    refine ⟨fun e => absurd e (by decide), fun _ => ⟨fun e => absurd e (by decide), fun _ => ⟨fun e => absurd e (by decide), fun _ => ⟨fun e => absurd e (by decide), fun _ => ⟨fun e => absurd e (by decide), fun _ => ⟨fun e => absurd e (by decide), fun _ => ⟨fun e => absurd e (by decide), fun _ => ⟨fun e => absurd e (by decide), fun _ => ⟨fun e => absurd e (by decide), fun _ => ⟨fun e => absurd e (by decide), fun _ => ⟨fun e => absurd e (by decide), fun _ => ⟨fun e => absurd e (by decide), fun _ => ⟨fun e => absurd e (by decide), fun _ => ⟨fun e => absurd e (by decide), fun _ => ⟨fun e => absurd e (by decide), fun _ => ⟨by unfold vp_in; decide, ?_⟩⟩⟩⟩⟩⟩⟩⟩⟩⟩⟩⟩⟩⟩⟩⟩
    first | (rw [e14]; exact K _) | (show Q (σC.I 3 4) ((σM.sI 0 0 0).I 2 6) σC (σM.sI 0 0 0); rw [e14]; exact K _)
  by_cases c15 : x = 15
  · subst c15
    simp only [wX0_count, wX0_count_164, wX0_count_174, wX0_count_216, wJ2_size, wX5_count, mIn_eq, forall_eq]
    refine ⟨fun e => absurd e (by decide), fun _ => ⟨fun e => absurd e (by decide), fun _ => ⟨fun e => absurd e (by decide), fun _ => ⟨fun e => absurd e (by decide), fun _ => ⟨fun e => absurd e (by decide), fun _ => ⟨fun e => absurd e (by decide), fun _ => ⟨fun e => absurd e (by decide), fun _ => ⟨fun e => absurd e (by decide), fun _ => ⟨fun e => absurd e (by decide), fun _ => ⟨fun e => absurd e (by decide), fun _ => ⟨fun e => absurd e (by decide), fun _ => ⟨fun e => absurd e (by decide), fun _ => ⟨fun e => absurd e (by decide), fun _ => ⟨fun e => absurd e (by decide), fun _ => ⟨fun e => absurd e (by decide), fun _ => ⟨fun _ => ?_, fun e => absurd (by first | trivial | rfl) e⟩⟩⟩⟩⟩⟩⟩⟩⟩⟩⟩⟩⟩⟩⟩⟩
    refine ⟨fun e => absurd e (by decide), fun _ => ⟨fun e => absurd e (by decide), fun _ => ⟨fun e => absurd e (by decide), fun _ => ⟨fun e => absurd e (by decide), fun _ => ⟨fun e => absurd e (by decide), fun _ => ⟨fun e => absurd e (by decide), fun _ => ⟨fun e => absurd e (by decide), fun _ => ⟨fun e => absurd e (by decide), fun _ => ⟨fun e => absurd e (by decide), fun _ => ⟨fun e => absurd e (by decide), fun _ => ⟨fun e => absurd e (by decide), fun _ => ⟨fun e => absurd e (by decide), fun _ => ⟨fun e => absurd e (by decide), fun _ => ⟨fun e => absurd e (by decide), fun _ => ⟨fun e => absurd e (by decide), fun _ => ⟨by unfold vp_in; decide, ?_⟩⟩⟩⟩⟩⟩⟩⟩⟩⟩⟩⟩⟩⟩⟩⟩
    first | (rw [e15]; exact K _) | (show Q (σC.I 2 15) ((σM.sI 0 0 0).I 2 7) σC (σM.sI 0 0 0); rw [e15]; exact K _)
  by_cases c16 : x = 16
  · subst c16
    simp only [wX0_count, wX0_count_164, wX0_count_174, wX0_count_216, wJ2_size, wX5_count, mIn_eq, forall_eq]
    refine ⟨fun e => absurd e (by decide), fun _ => ⟨fun e => absurd e (by decide), fun _ => ⟨fun e => absurd e (by decide), fun _ => ⟨fun e => absurd e (by decide), fun _ => ⟨fun e => absurd e (by decide), fun _ => ⟨fun e => absurd e (by decide), fun _ => ⟨fun e => absurd e (by decide), fun _ => ⟨fun e => absurd e (by decide), fun _ => ⟨fun e => absurd e (by decide), fun _ => ⟨fun e => absurd e (by decide), fun _ => ⟨fun e => absurd e (by decide), fun _ => ⟨fun e => absurd e (by decide), fun _ => ⟨fun e => absurd e (by decide), fun _ => ⟨fun e => absurd e (by decide), fun _ => ⟨fun e => absurd e (by decide), fun _ => ⟨fun e => absurd e (by decide), fun _ => ⟨fun _ => ?_, fun e => absurd (by first | trivial | rfl) e⟩⟩⟩⟩⟩⟩⟩⟩⟩⟩⟩⟩⟩⟩⟩⟩⟩
    refine ⟨fun e => absurd e (by decide), fun _ => ⟨fun e => absurd e (by decide), fun _ => ⟨fun e => absurd e (by decide), fun _ => ⟨fun e => absurd e (by decide), fun _ => ⟨fun e => absurd e (by decide), fun _ => ⟨fun e => absurd e (by decide), fun _ => ⟨fun e => absurd e (by decide), fun _ => ⟨fun e => absurd e (by decide), fun _ => ⟨fun e => absurd e (by decide), fun _ => ⟨fun e => absurd e (by decide), fun _ => ⟨fun e => absurd e (by decide), fun _ => ⟨fun e => absurd e (by decide), fun _ => ⟨fun e => absurd e (by decide), fun _ => ⟨fun e => absurd e (by decide), fun _ => ⟨fun e => absurd e (by decide), fun _ => ⟨by unfold vp_in; decide, ?_⟩⟩⟩⟩⟩⟩⟩⟩⟩⟩⟩⟩⟩⟩⟩⟩
    first | (rw [e16]; exact K _) | (show Q (σC.I 2 16) ((σM.sI 0 0 0).I 2 8) σC (σM.sI 0 0 0); rw [e16]; exact K _)
  by_cases c17 : x = 17
  · subst c17
    simp only [wX0_count, wX0_count_164, wX0_count_174, wX0_count_216, wJ2_size, wX5_count, mIn_eq, forall_eq]
    refine ⟨fun e => absurd e (by decide), fun _ => ⟨fun e => absurd e (by decide), fun _ => ⟨fun e => absurd e (by decide), fun _ => ⟨fun e => absurd e (by decide), fun _ => ⟨fun e => absurd e (by decide), fun _ => ⟨fun e => absurd e (by decide), fun _ => ⟨fun e => absurd e (by decide), fun _ => ⟨fun e => absurd e (by decide), fun _ => ⟨fun e => absurd e (by decide), fun _ => ⟨fun e => absurd e (by decide), fun _ => ⟨fun e => absurd e (by decide), fun _ => ⟨fun e => absurd e (by decide), fun _ => ⟨fun e => absurd e (by decide), fun _ => ⟨fun e => absurd e (by decide), fun _ => ⟨fun e => absurd e (by decide), fun _ => ⟨fun e => absurd e (by decide), fun _ => ⟨fun e => absurd e (by decide), fun _ => ⟨fun _ => ⟨by unfold vp_in; decide, ?_⟩, fun e => absurd (by first | trivial | rfl) e⟩⟩⟩⟩⟩⟩⟩⟩⟩⟩⟩⟩⟩⟩⟩⟩⟩⟩
    refine ⟨fun e => absurd e (by decide), fun _ => ⟨fun e => absurd e (by decide), fun _ => ⟨fun e => absurd e (by decide), fun _ => ⟨fun e => absurd e (by decide), fun _ => ⟨fun e => absurd e (by decide), fun _ => ⟨fun e => absurd e (by decide), fun _ => ⟨fun e => absurd e (by decide), fun _ => ⟨fun e => absurd e (by decide), fun _ => ⟨fun e => absurd e (by decide), fun _ => ⟨fun e => absurd e (by decide), fun _ => ⟨fun e => absurd e (by decide), fun _ => ⟨fun e => absurd e (by decide), fun _ => ⟨fun e => absurd e (by decide), fun _ => ⟨fun e => absurd e (by decide), fun _ => ⟨fun _ => ⟨fun e => absurd e (by decide), fun _ => ⟨by unfold vp_in; decide, ?_⟩⟩, fun e => absurd (by decide) e⟩⟩⟩⟩⟩⟩⟩⟩⟩⟩⟩⟩⟩⟩⟩
    first | (rw [e17]; exact K _) | (show Q (σC.I 6 0) ((σM.sI 0 0 0).I 2 9) σC (σM.sI 0 0 0); rw [e17]; exact K _)
  by_cases c18 : x = 18
  · subst c18
    simp only [wX0_count, wX0_count_164, wX0_count_174, wX0_count_216, wJ2_size, wX5_count, mIn_eq, forall_eq]
    refine ⟨fun e => absurd e (by decide), fun _ => ⟨fun e => absurd e (by decide), fun _ => ⟨fun e => absurd e (by decide), fun _ => ⟨fun e => absurd e (by decide), fun _ => ⟨fun e => absurd e (by decide), fun _ => ⟨fun e => absurd e (by decide), fun _ => ⟨fun e => absurd e (by decide), fun _ => ⟨fun e => absurd e (by decide), fun _ => ⟨fun e => absurd e (by decide), fun _ => ⟨fun e => absurd e (by decide), fun _ => ⟨fun e => absurd e (by decide), fun _ => ⟨fun e => absurd e (by decide), fun _ => ⟨fun e => absurd e (by decide), fun _ => ⟨fun e => absurd e (by decide), fun _ => ⟨fun e => absurd e (by decide), fun _ => ⟨fun e => absurd e (by decide), fun _ => ⟨fun e => absurd e (by decide), fun _ => ⟨fun e => absurd e (by decide), fun _ => ⟨fun _ => ⟨by unfold vp_in; decide, ?_⟩, fun e => absurd (by first | trivial | rfl) e⟩⟩⟩⟩⟩⟩⟩⟩⟩⟩⟩⟩⟩⟩⟩⟩⟩⟩⟩
    refine ⟨fun e => absurd e (by decide), fun _ => ⟨fun e => absurd e (by decide), fun _ => ⟨fun e => absurd e (by decide), fun _ => ⟨fun e => absurd e (by decide), fun _ => ⟨fun e => absurd e (by decide), fun _ => ⟨fun e => absurd e (by decide), fun _ => ⟨fun e => absurd e (by decide), fun _ => ⟨fun e => absurd e (by decide), fun _ => ⟨fun e => absurd e (by decide), fun _ => ⟨fun e => absurd e (by decide), fun _ => ⟨fun e => absurd e (by decide), fun _ => ⟨fun e => absurd e (by decide), fun _ => ⟨fun e => absurd e (by decide), fun _ => ⟨fun e => absurd e (by decide), fun _ => ⟨fun _ => ⟨fun e => absurd e (by decide), fun _ => ⟨by unfold vp_in; decide, ?_⟩⟩, fun e => absurd (by decide) e⟩⟩⟩⟩⟩⟩⟩⟩⟩⟩⟩⟩⟩⟩⟩
    first | (rw [e18]; exact K _) | (show Q (σC.I 6 1) ((σM.sI 0 0 0).I 2 10) σC (σM.sI 0 0 0); rw [e18]; exact K _)
  by_cases c19 : x = 19
  · subst c19
    simp only [wX0_count, wX0_count_164, wX0_count_174, wX0_count_216, wJ2_size, wX5_count, mIn_eq, forall_eq]
    refine ⟨fun e => absurd e (by decide), fun _ => ⟨fun e => absurd e (by decide), fun _ => ⟨fun e => absurd e (by decide), fun _ => ⟨fun e => absurd e (by decide), fun _ => ⟨fun e => absurd e (by decide), fun _ => ⟨fun e => absurd e (by decide), fun _ => ⟨fun e => absurd e (by decide), fun _ => ⟨fun e => absurd e (by decide), fun _ => ⟨fun e => absurd e (by decide), fun _ => ⟨fun e => absurd e (by decide), fun _ => ⟨fun e => absurd e (by decide), fun _ => ⟨fun e => absurd e (by decide), fun _ => ⟨fun e => absurd e (by decide), fun _ => ⟨fun e => absurd e (by decide), fun _ => ⟨fun e => absurd e (by decide), fun _ => ⟨fun e => absurd e (by decide), fun _ => ⟨fun e => absurd e (by decide), fun _ => ⟨fun e => absurd e (by decide), fun _ => ⟨fun e => absurd e (by decide), fun _ => ⟨fun _ => ⟨by unfold vp_in; decide, ?_⟩, fun e => absurd (by first | trivial | rfl) e⟩⟩⟩⟩⟩⟩⟩⟩⟩⟩⟩⟩⟩⟩⟩⟩⟩⟩⟩⟩
    refine ⟨fun e => absurd e (by decide), fun _ => ⟨fun e => absurd e (by decide), fun _ => ⟨fun e => absurd e (by decide), fun _ => ⟨fun e => absurd e (by decide), fun _ => ⟨fun e => absurd e (by decide), fun _ => ⟨fun e => absurd e (by decide), fun _ => ⟨fun e => absurd e (by decide), fun _ => ⟨fun e => absurd e (by decide), fun _ => ⟨fun e => absurd e (by decide), fun _ => ⟨fun e => absurd e (by decide), fun _ => ⟨fun e => absurd e (by decide), fun _ => ⟨fun e => absurd e (by decide), fun _ => ⟨fun e => absurd e (by decide), fun _ => ⟨fun e => absurd e (by decide), fun _ => ⟨fun _ => ⟨fun e => absurd e (by decide), fun _ => ⟨by unfold vp_in; decide, ?_⟩⟩, fun e => absurd (by decide) e⟩⟩⟩⟩⟩⟩⟩⟩⟩⟩⟩⟩⟩⟩⟩
    first | (rw [e19]; exact K _) | (show Q (σC.I 6 2) ((σM.sI 0 0 0).I 2 11) σC (σM.sI 0 0 0); rw [e19]; exact K _)
  by_cases c20 : x = 20
  · subst c20
    simp only [wX0_count, wX0_count_164, wX0_count_174, wX0_count_216, wJ2_size, wX5_count, mIn_eq, forall_eq]
    refine ⟨fun e => absurd e (by decide), fun _ => ⟨fun e => absurd e (by decide), fun _ => ⟨fun e => absurd e (by decide), fun _ => ⟨fun e => absurd e (by decide), fun _ => ⟨fun e => absurd e (by decide), fun _ => ⟨fun e => absurd e (by decide), fun _ => ⟨fun e => absurd e (by decide), fun _ => ⟨fun e => absurd e (by decide), fun _ => ⟨fun e => absurd e (by decide), fun _ => ⟨fun e => absurd e (by decide), fun _ => ⟨fun e => absurd e (by decide), fun _ => ⟨fun e => absurd e (by decide), fun _ => ⟨fun e => absurd e (by decide), fun _ => ⟨fun e => absurd e (by decide), fun _ => ⟨fun e => absurd e (by decide), fun _ => ⟨fun e => absurd e (by decide), fun _ => ⟨fun e => absurd e (by decide), fun _ => ⟨fun e => absurd e (by decide), fun _ => ⟨fun e => absurd e (by decide), fun _ => ⟨fun e => absurd e (by decide), fun _ => ⟨fun _ => ⟨by unfold vp_in; decide, ?_⟩, fun e => absurd (by first | trivial | rfl) e⟩⟩⟩⟩⟩⟩⟩⟩⟩⟩⟩⟩⟩⟩⟩⟩⟩⟩⟩⟩⟩
    refine ⟨fun e => absurd e (by decide), fun _ => ⟨fun e => absurd e (by decide), fun _ => ⟨fun e => absurd e (by decide), fun _ => ⟨fun e => absurd e (by decide), fun _ => ⟨fun e => absurd e (by decide), fun _ => ⟨fun e => absurd e (by decide), fun _ => ⟨fun e => absurd e (by decide), fun _ => ⟨fun e => absurd e (by decide), fun _ => ⟨fun e => absurd e (by decide), fun _ => ⟨fun e => absurd e (by decide), fun _ => ⟨fun e => absurd e (by decide), fun _ => ⟨fun e => absurd e (by decide), fun _ => ⟨fun e => absurd e (by decide), fun _ => ⟨fun e => absurd e (by decide), fun _ => ⟨fun _ => ⟨fun e => absurd e (by decide), fun _ => ⟨by unfold vp_in; decide, ?_⟩⟩, fun e => absurd (by decide) e⟩⟩⟩⟩⟩⟩⟩⟩⟩⟩⟩⟩⟩⟩⟩
    first | (rw [e20]; exact K _) | (show Q (σC.I 6 3) ((σM.sI 0 0 0).I 2 12) σC (σM.sI 0 0 0); rw [e20]; exact K _)
  have hx : ¬ (14 ≤ x.toInt ∧ x.toInt ≤ 16) ∧ ¬ (17 ≤ x.toInt ∧ x.toInt ≤ 20) := by
    have q14 : ¬ x.toInt = 14 := fun e => c14 (by rw [fa_eq, e]; decide)
    have q15 : ¬ x.toInt = 15 := fun e => c15 (by rw [fa_eq, e]; decide)
    have q16 : ¬ x.toInt = 16 := fun e => c16 (by rw [fa_eq, e]; decide)
    have q17 : ¬ x.toInt = 17 := fun e => c17 (by rw [fa_eq, e]; decide)
    have q18 : ¬ x.toInt = 18 := fun e => c18 (by rw [fa_eq, e]; decide)
    have q19 : ¬ x.toInt = 19 := fun e => c19 (by rw [fa_eq, e]; decide)
    have q20 : ¬ x.toInt = 20 := fun e => c20 (by rw [fa_eq, e]; decide)
    omega
  simp only [wX0_count, wX5_count, mIn_eq, forall_eq, Int64.reduceToInt, Int32.toInt_toInt64, if10, if10n]
  exact ⟨fun e => absurd e c0, fun _ => ⟨fun e => absurd e c1, fun _ => ⟨fun e => absurd e c2, fun _ => ⟨fun e => absurd e c3, fun _ => ⟨fun e => absurd e c4, fun _ => ⟨fun e => absurd e c5, fun _ => ⟨fun e => absurd e c6, fun _ => ⟨fun e => absurd e c7, fun _ => ⟨fun e => absurd e c8, fun _ => ⟨fun e => absurd e c9, fun _ => ⟨fun e => absurd e c10, fun _ => ⟨fun e => absurd e c11, fun _ => ⟨fun e => absurd e c12, fun _ => ⟨fun e => absurd e c13, fun _ => ⟨fun e => absurd e c14, fun _ => ⟨fun e => absurd e c15, fun _ => ⟨fun e => absurd e c16, fun _ => ⟨fun e => absurd e c17, fun _ => ⟨fun e => absurd e c18, fun _ => ⟨fun e => absurd e c19, fun _ => ⟨fun e => absurd e c20, fun _ => ⟨fun e => absurd e c0, fun _ => ⟨fun e => absurd e c1, fun _ => ⟨fun e => absurd e c2, fun _ => ⟨fun e => absurd e c3, fun _ => ⟨fun e => absurd e c4, fun _ => ⟨fun e => absurd e c5, fun _ => ⟨fun e => absurd e c6, fun _ => ⟨fun e => absurd e c7, fun _ => ⟨fun e => absurd e c8, fun _ => ⟨fun e => absurd e c9, fun _ => ⟨fun e => absurd e c10, fun _ => ⟨fun e => absurd e c11, fun _ => ⟨fun e => absurd e c12, fun _ => ⟨fun e => absurd e c13, fun _ => ⟨fun _ => ⟨fun _ => K _, fun e => absurd e hx.2⟩, fun e => absurd e hx.1⟩⟩⟩⟩⟩⟩⟩⟩⟩⟩⟩⟩⟩⟩⟩⟩⟩⟩⟩⟩⟩⟩⟩⟩⟩⟩⟩⟩⟩⟩⟩⟩⟩⟩⟩⟩
theorem pForce {x : Int32} {Q : Int32 → Int32 → OgC → OgS → Prop} (h : Lw Z Γ α nl T σM σC) (K : ∀ (r : Int32) (α' : Nat → Int32) (σC' : OgC) (σM' : OgS), Row α' σM' σC' → OnlyC σC σC' → OnlyM σM σM' → (α' 5).toInt < nl → (∀ j, j ≠ 5 → j ≠ 201 → j < 300 → α' j = α j) → Q r r σC' σM') : wX0_force Γ (fun r σC' => wX5_force (fun r' σM' => Q r r' σC' σM') x σM) x σC := by
  have hS := (St.rf h.1).thrown 0
  have nl6 := h.2.2.2.1.1
  have c16 : σC.I 16 2 = nI nl := h.2.1.1
  have m4 : (σM.sI 0 0 0).I 2 4 = nI nl := by
    have a := (h.m.thrown 0).2.1
    rw [Nat.zero_add] at a
    exact a
  have z1 : (1 : Int64).toInt = 1 := by decide
  have w4 : (nI nl).toInt64.toInt = nl := by rw [Int32.toInt_toInt64, nI_toInt (by omega)]
  have s4 : ((nI nl).toInt64 - 1).toInt = nl - 1 := by rw [l_sub (by omega) (by omega), w4, z1]
  have s3 : (nI nl - 1).toInt = nl - 1 := by
    have z : (1 : Int32).toInt = 1 := by decide
    have w := nI_toInt (n := nl) (by omega)
    rw [i_sub (by omega) (by omega), w, z]
  have c5 : σC.I 2 17 = α 5 := h.1.2.1.at 4 rfl 0 (by omega) rfl rfl
  have m5 : (σM.sI 0 0 0).I 2 5 = α 5 := (h.m.thrown 0).1.1 5 (by omega) (by omega)
  have r5 := h.o.1.at 5 (lo := -1) (hi := 5) rfl
  -- the law is put in force
  have go : -1 ≤ x.toInt → x.toInt < nl → wX0_force_32 Γ (fun r σC' => wX5_force_28 (fun r' σM' => Q r r' σC' σM') x (σM.sI 0 0 0)) x σC := by
    intro h1 h2
    unfold wX0_force_32
    simp only [forall_eq]
    rw [c5]
    refine cDone (mChange 5 (by decide) rfl ?_)
    rw [m5]
    have hR' : Row (upd α 5 x) ((σM.sI 0 0 0).sI 2 5 x) (σC.sI 2 17 x) := ⟨hS.1.1.row (by decide) (by decide) x, h.1.2.1.set 4 rfl 0 (by omega) rfl rfl x, (h.1.2.2.1.al 5 x (by omega)).sI 2 17 x (Or.inl (by decide)), h.o.1.set 5 x (lo := -1) (hi := 5) rfl h1 (by omega)⟩
    refine K _ _ _ _ (hR'.stat 0) (((OnlyC.rf σC).put 2 17 x (by decide)).put 0 0 0 (by decide)) ((hS.2.2.1.put 2 5 x (Or.inr (by decide))).put 0 1 0 (Or.inl (by decide))) ?_ (fun j h5 h201 h300 => ?_)
    · rw [pk_un (by decide), pk_us]
      exact h2
    · rw [pk_un h201, pk_un h5]
  have no : wX0_refuse Γ (fun r σC' => wX5_tell (fun r' σM' => Q r r' σC' σM') (-2) (σM.sI 0 0 0)) (-2) σC := by
    refine cRefuse 2 (by decide) (by decide) (mTellN 2 (by decide) (by decide) (by decide) ?_)
    have r := hS.refuse 2 (by decide) (-2)
    refine K _ _ _ _ r.1 r.2.1 r.2.2.1 ?_ (fun j h5 h201 h300 => ?_)
    · rw [pk_un (by decide), pk_un (by decide)]
      exact h.o.2.2
    · rw [pk_un (by omega), pk_un h201]
  unfold wX0_force wX5_force wJ2_size
  simp only [forall_eq, cIn_eq, mIn_eq, Int32.reduceToInt, Int64.reduceToInt, Int32.toInt_toInt64, if10, if10n]
  rw [c16, m4, s4, s3]
  by_cases c : x = -1
  · have hx : x.toInt = -1 := by rw [c]; decide
    refine ⟨fun _ => ?_, fun e => absurd c e⟩
    have g := go (by omega) (by omega)
    unfold wX0_force_32 at g ⊢
    simp only [forall_eq] at g ⊢
    refine cDone ?_
    have g2 := g _ rfl
    exact ⟨fun _ => g2, fun e => absurd c e⟩
  · refine ⟨fun e => absurd e c, fun _ => ?_⟩
    by_cases d : 0 ≤ x.toInt ∧ x.toInt ≤ (nl : Int) - 1
    · refine ⟨fun _ => ?_, fun e => absurd d e⟩
      have g := go (by omega) (by omega)
      unfold wX0_force_32 at g ⊢
      simp only [forall_eq] at g ⊢
      refine cDone ?_
      have g2 := g _ rfl
      exact ⟨fun e => absurd e c, fun _ => ⟨fun e => absurd d e, fun _ => g2⟩⟩
    · refine ⟨fun e => absurd e d, fun _ => ?_⟩
      refine cRefuse 2 (by decide) (by decide) ⟨fun e => absurd e c, fun _ => ⟨fun _ => ?_, fun e => absurd e d⟩⟩
      have r := hS.refuse 2 (by decide) (-2)
      refine mTellN 2 (by decide) (by decide) (by decide) (K _ _ _ _ r.1 r.2.1 r.2.2.1 ?_ (fun j h5 h201 h300 => ?_))
      · rw [pk_un (by decide), pk_un (by decide)]
        exact h.o.2.2
      · rw [pk_un (by omega), pk_un h201]
end Cnt
