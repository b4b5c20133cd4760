/-- row and laws on both sides -/
def Lw (Z : Nat → Prop) (Γ : OgG) (α : Nat → Int32) (nl : Nat) (T : Nat → Int32 → (Nat → Int64) → Option Int64) (σM : OgS) (σC : OgC) : Prop := Row α σM σC ∧ LsC Z Γ σC 16 nl T ∧ LsM σM 2 0 nl T ∧ LsO nl T ∧ (α 5).toInt < nl
section LwS
variable {Z : Nat → Prop} {Γ : OgG} {α : Nat → Int32} {nl : Nat} {T : Nat → Int32 → (Nat → Int64) → Option Int64} {σM : OgS} {σC : OgC}
theorem Lw.c (h : Lw Z Γ α nl T σM σC) : LtC Z Γ 3 α nl T σC := ⟨RdT.of h.1.2.1 h.1.2.2.1, h.2.1⟩
theorem Lw.m (h : Lw Z Γ α nl T σM σC) : LtM α nl T σM := ⟨h.1.1, h.2.2.1⟩
theorem Lw.o (h : Lw Z Γ α nl T σM σC) : LtO α nl T := ⟨h.1.2.2.2, h.2.2.2.1, h.2.2.2.2⟩
theorem LtM.thrown (h : LtM α nl T σM) (x : Int32) : LtM α nl T (σM.sI 0 0 x) := by
  refine ⟨h.1.fskip (by decide) x, ?_⟩
  have e : (σM.sI 0 0 x).I 2 = σM.I 2 := by
    funext j
    rw [S_II, if_neg (by decide)]
  unfold LsM
  rw [e]
  exact h.2
theorem pAsks {x y z : Int32} {Q : Int32 → Int32 → OgC → OgS → Prop} (h : Lw Z Γ α nl T σM σC) (K : ∀ (r : Int32) (σC' : OgC) (σM' : OgS), EvC σC σC' → EvM (σM.sI 0 0 0) σM' → Q r r σC' σM') : wX0_asks Γ (fun r σC' => wX5_asks (fun r' σM' => Q r r' σC' σM') x y z σM) x y z σC := by
  have hc := h.c
  have ho := h.o
  have hm := h.m.thrown 0
  have hR := ho.1
  obtain ⟨n, hn, hα⟩ := hR.nat 0 (hi := 6) rfl
  have hC : σC.I 2 11 = nI n := hc.1.2.2.2.2.2.trans hα
  have hM : (σM.sI 0 0 0).I 2 0 = nI n := (hm.1.1 0 (by omega) (by omega)).trans hα
  have K0 := K (-1) _ _ (EvC.rf _) (EvM.rf _)
  have z2 : (2 : Int32) ≤ z ↔ 2 ≤ z.toInt := fa_le 2 z
  have zz : ∀ c : Int32, z = c ↔ z.toInt = c.toInt := fun c => fa_eq z c
  unfold wX0_asks
  refine cFort hn hC (fun f hf ex => ⟨fun e => absurd e (by decide), fun _ => ?_⟩) (fun g => ⟨fun _ => ?_, fun e => absurd rfl e⟩)
  · subst ex
    have vf : vp_in (nI f) 6 := vp_in_nI (by omega) (by decide)
    -- the model, at a question that can be asked
    have mo : ∀ r σC', (0 ≤ z.toInt ∧ z.toInt ≤ 3) → (2 ≤ z.toInt → 1 ≤ y.toInt ∧ y.toInt ≤ 99) → (¬ 2 ≤ z.toInt → 0 ≤ y.toInt ∧ y.toInt ≤ 5) → wX5_asks_54 (fun r' σM' => Q r r' σC' σM') (nI f) y z (σM.sI 0 0 0) → wX5_asks (fun r' σM' => Q r r' σC' σM') (nI f) y z σM := by
      intro r σC' h1 h2 h3 q
      unfold wX5_asks wX5_isOne
      simp only [cIn_eq, mIn_eq, forall_eq, Int32.reduceToInt, Int64.reduceToInt, Int32.toInt_toInt64, if10, if11, if10n]
      refine mFort hn hM (fun _ _ _ => ⟨fun e => absurd e (by decide), fun _ => ?_⟩) (fun g => absurd ⟨f, hf, rfl⟩ g)
      rw [z2]
      refine ⟨fun e => absurd h1 e, fun _ => ⟨fun c => ⟨fun _ => q, fun e => absurd (h2 c) e⟩, fun c => ⟨?_, fun _ => q, fun e => absurd (h3 c) e⟩⟩⟩
      exact Or.inr (h3 c)
    have mbad : ∀ r σC', (¬ (0 ≤ z.toInt ∧ z.toInt ≤ 3) ∨ (2 ≤ z.toInt ∧ ¬ (1 ≤ y.toInt ∧ y.toInt ≤ 99)) ∨ (¬ 2 ≤ z.toInt ∧ ¬ (0 ≤ y.toInt ∧ y.toInt ≤ 5))) → Q r (-1) σC' (σM.sI 0 0 0) → wX5_asks (fun r' σM' => Q r r' σC' σM') (nI f) y z σM := by
      intro r σC' h1 q
      unfold wX5_asks wX5_isOne
      simp only [cIn_eq, mIn_eq, forall_eq, Int32.reduceToInt, Int64.reduceToInt, Int32.toInt_toInt64, if10, if11, if10n]
      refine mFort hn hM (fun _ _ _ => ⟨fun e => absurd e (by decide), fun _ => ?_⟩) (fun g => absurd ⟨f, hf, rfl⟩ g)
      rw [z2]
      grind only
    have mshown : (σM.sI 0 0 0).I 2 ((19 : Int32) + nI f).toNatClampNeg = α (19 + f) ∧ vp_in ((19 : Int32) + nI f) 5550 := by
      rw [show (19 : Int32) + nI f = nI (19 + f) from nI_add 19 f, nI_clamp (by omega), hm.1.1 _ (by omega) (by omega)]
      exact ⟨rfl, vp_in_nI (by omega) (by decide)⟩
    have cshown : σC.I 5 (nI f).toNatClampNeg = α (19 + f) := by
      rw [nI_clamp (by omega)]
      exact hc.1.1.2.1 f (by omega)
    -- the class's switch, at a question that can be asked
    have co : (2 ≤ z.toInt → 1 ≤ y.toInt ∧ y.toInt ≤ 99) → (¬ 2 ≤ z.toInt → 0 ≤ y.toInt ∧ y.toInt ≤ 5) → wX0_asks_32 Γ (fun r σC' => wX5_asks (fun r' σM' => Q r r' σC' σM') (nI f) y z σM) (nI f) y z σC := by
      intro h2 h3
      unfold wX0_asks_32
      rw [cshown]
      refine ⟨fun e0 => ?_, fun e0 => ⟨fun e1 => ?_, fun e1 => ⟨fun e2 => ⟨vf, ?_⟩, fun e2 => ⟨fun e3 => ⟨vf, ?_⟩, fun e3 => ?_⟩⟩⟩⟩
      · have zv : z.toInt = 0 := (zz 0).mp e0
        obtain ⟨s, hs, rfl⟩ := x_nat (b := 5) (by decide) (h3 (by omega))
        refine cPays hc ho (by omega) (by omega) (fun σC' hE => mo _ _ (by omega) h2 h3 ⟨fun _ => mPays hm ho (by omega) (by omega) (fun σM' hE' => K _ _ _ hE hE'), fun e => absurd e0 e⟩)
      · have zv : z.toInt = 1 := (zz 1).mp e1
        obtain ⟨s, hs, rfl⟩ := x_nat (b := 5) (by decide) (h3 (by omega))
        refine cBar hc ho (by omega) (fun σC' hE => ?_)
        have fin : ∀ c : Int32, c = (if og_bar α T f s then 1 else 0) → wX5_asks (fun r' σM' => Q c r' σC' σM') (nI f) (nI s) z σM := by
          intro c hcc
          refine mo _ _ (by omega) h2 h3 ⟨fun e => absurd e e0, fun _ => ⟨fun _ => mBar hm ho (by omega) (fun σM' hE' => ?_), fun e => absurd e1 e⟩⟩
          have KK := K c σC' σM' hE hE'
          cases hb : og_bar α T f s with
          | true =>
            rw [hb] at hcc
            exact ⟨fun e => absurd e (by decide), fun _ => by rw [hcc] at KK ⊢; exact KK⟩
          | false =>
            rw [hb] at hcc
            exact ⟨fun _ => by rw [hcc] at KK ⊢; exact KK, fun e => absurd rfl e⟩
        cases hb : og_bar α T f s with
        | true => exact ⟨fun e => absurd e (by decide), fun _ => fin _ (by rw [hb]; rfl)⟩
        | false => exact ⟨fun _ => fin _ (by rw [hb]; rfl), fun e => absurd rfl e⟩
      · have zv : z.toInt = 2 := (zz 2).mp e2
        refine cBelief hc.1 hR (by omega) ?_
        rw [(hun_eq hR (by omega) _).1]
        refine cNeed hc ho (by omega) (fun σC' hE => mo _ _ (by omega) h2 h3 ⟨fun e => absurd e e0, fun _ => ⟨fun e => absurd e e1, fun _ => ⟨fun _ => ⟨mshown.2, ?_⟩, fun e => absurd e2 e⟩⟩⟩)
        rw [mshown.1]
        exact mNeed hm ho (by omega) (fun σM' hE' => K _ _ _ hE hE')
      · have zv : z.toInt = 3 := (zz 3).mp e3
        refine cTurn hc ho (by omega) (fun σC' hE => ?_)
        have fin : ∀ c : Int32, c = (if og_turn α T f y (α (19 + f)) then 1 else 0) → wX5_asks (fun r' σM' => Q c r' σC' σM') (nI f) y z σM := by
          intro c hcc
          refine mo _ _ (by omega) h2 h3 ⟨fun e => absurd e e0, fun _ => ⟨fun e => absurd e e1, fun _ => ⟨fun e => absurd e e2, fun _ => ⟨mshown.2, ?_⟩⟩⟩⟩
          rw [mshown.1]
          refine mTurn hm ho (by omega) (fun σM' hE' => ?_)
          have KK := K c σC' σM' hE hE'
          cases hb : og_turn α T f y (α (19 + f)) with
          | true =>
            rw [hb] at hcc
            exact ⟨fun e => absurd e (by decide), fun _ => by rw [hcc] at KK ⊢; exact KK⟩
          | false =>
            rw [hb] at hcc
            exact ⟨fun _ => by rw [hcc] at KK ⊢; exact KK, fun e => absurd rfl e⟩
        cases hb : og_turn α T f y (α (19 + f)) with
        | true => exact ⟨fun e => absurd e (by decide), fun _ => fin _ (by rw [hb]; rfl)⟩
        | false => exact ⟨fun _ => fin _ (by rw [hb]; rfl), fun e => absurd rfl e⟩
      · refine mbad _ _ (Or.inl ?_) K0
        have q0 := (not_congr (zz 0)).mp e0
        have q1 := (not_congr (zz 1)).mp e1
        have q2 := (not_congr (zz 2)).mp e2
        have q3 := (not_congr (zz 3)).mp e3
        have w0 : (0 : Int32).toInt = 0 := by decide
        have w1 : (1 : Int32).toInt = 1 := by decide
        have w2 : (2 : Int32).toInt = 2 := by decide
        have w3 : (3 : Int32).toInt = 3 := by decide
        omega
    unfold wX0_isArmy wX0_isSign
    simp only [cIn_eq, mIn_eq, forall_eq, Int32.reduceToInt, Int64.reduceToInt, Int32.toInt_toInt64, if10, if11, if10n]
    rw [z2]
    refine ⟨fun c => ?_, fun c => ?_⟩
    · by_cases g : 1 ≤ y.toInt ∧ y.toInt ≤ 99
      · exact ⟨Or.inr g, fun _ => co (fun _ => g) (fun e => absurd c e), fun e => absurd g e⟩
      · exact ⟨Or.inl g, fun e => absurd e g, fun _ => mbad _ _ (Or.inr (Or.inl ⟨c, g⟩)) K0⟩
    · by_cases g : 0 ≤ y.toInt ∧ y.toInt ≤ 5
      · exact ⟨Or.inr g, fun e => absurd g e, fun _ => co (fun e => absurd e c) (fun _ => g)⟩
      · exact ⟨Or.inl g, fun _ => mbad _ _ (Or.inr (Or.inr ⟨c, g⟩)) K0, fun e => absurd e g⟩
  · unfold wX5_asks
    simp only [forall_eq]
    exact mFort hn hM (fun k hk e => absurd ⟨k, hk, e⟩ g) (fun _ => ⟨fun _ => K0, fun e => absurd rfl e⟩)
end LwS
