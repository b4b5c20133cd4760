/-! ===== what was drawn ===== -/
def DrT (σM : OgS) (σC : OgC) : Prop := σC.I 0 20 = -1 ∨ ∃ m, m ≤ 6 ∧ σC.I 0 20 = nI m ∧ (∀ f, f < m → σM.I 26 (3 * f) = σC.I 35 f ∧ σM.I 26 (3 * f + 1) = ((σC.I 34 3 >>> (nI f &&& 31)) &&& 1) ∧ σM.I 26 (3 * f + 2) = σC.I 36 f) ∧ ∀ g, g < 4 → σM.I 26 (18 + g) = σC.I 37 g
theorem DrT.of {σM σM' : OgS} {σC σC' : OgC} (h : DrT σM σC) (e26 : σM'.I 26 = σM.I 26) (e : ∀ a, 34 ≤ a → a < 38 → σC'.I a = σC.I a) (e20 : σC'.I 0 20 = σC.I 0 20) : DrT σM' σC' := by
  unfold DrT at h ⊢
  rw [e26, e20, e 34 (by decide) (by decide), e 35 (by decide) (by decide), e 36 (by decide) (by decide), e 37 (by decide) (by decide)]
  exact h
section Dr
variable {Z : Nat → Prop} {Γ : OgG} {nl : Nat} {T : Nat → Int32 → (Nat → Int64) → Option Int64} {A : OgA}
theorem pDrawn {α : Nat → Int32} {σM : OgS} {σC : OgC} {x y : Int32} {Q : Int32 → Int32 → OgC → OgS → Prop} (h : Row α σM σC) (hD : DrT σM σC) (K : ∀ r, Q r r σC (σM.sI 0 0 0)) : wX0_drawn Γ (fun r σC' => wX5_drawn (fun r' σM' => Q r r' σC' σM') x y σM) x y σC := by
  have e52 : (σM.sI 0 0 0).I 0 52 = σC.I 0 20 := ((h.thrown 0).1.2.1 52 (by decide)).trans (h.2.1.at 27 rfl 0 (by decide) rfl rfl).symm
  have i26 : (σM.sI 0 0 0).I 26 = σM.I 26 := by
    funext j
    rw [S_II, if_neg (by decide)]
  have zy : ∀ c : Int32, y = c ↔ y.toInt = c.toInt := fun c => fa_eq y c
  unfold wX0_drawn wX5_drawn wX0_isGeneral wX5_drawn_46 wX0_drawn_39
  simp only [forall_eq, cIn_eq, mIn_eq, Int32.reduceToInt, Int64.reduceToInt, Int32.toInt_toInt64, if10, if11, if10n]
  rw [e52]
  rcases hD with hD | ⟨m, hm, hD, hd, hg⟩
  · exact ⟨fun _ => ⟨fun _ => K _, fun e => absurd hD e⟩, fun e => absurd hD e⟩
  · rw [hD]
    have nm : ¬ nI m = -1 := nI_m1 (by omega)
    have z1 : (1 : Int32).toInt = 1 := by decide
    have z1' : (1 : Int64).toInt = 1 := by decide
    have wm := nI_toInt (n := m) (by omega)
    have sm : (nI m - 1).toInt = m - 1 := by rw [i_sub (by omega) (by omega), wm, z1]
    have sm' : ((nI m).toInt64 - 1).toInt = m - 1 := by
      have w : (nI m).toInt64.toInt = m := by rw [Int32.toInt_toInt64, wm]
      rw [l_sub (by omega) (by omega), w, z1']
    rw [sm, sm', i26]
    refine ⟨fun e => absurd e nm, fun _ => ?_⟩
    by_cases y3 : y = 3
    · have hy : y.toInt = 3 := by rw [y3]; decide
      have n0 : ¬ y = 0 := fun e => by rw [y3] at e; exact absurd e (by decide)
      have n1 : ¬ y = 1 := fun e => by rw [y3] at e; exact absurd e (by decide)
      have n2 : ¬ y = 2 := fun e => by rw [y3] at e; exact absurd e (by decide)
      refine ⟨fun e => absurd y3 e, fun _ => ?_⟩
      by_cases cx : 0 ≤ x.toInt ∧ x.toInt ≤ 3
      · obtain ⟨g, hgg, rfl⟩ := x_nat (b := 3) (by decide) cx
        refine ⟨Or.inr cx, fun e => absurd cx e, fun _ => ⟨fun e => absurd e n0, fun _ => ⟨fun e => absurd e n1, fun _ => ⟨fun e => absurd e n2, fun _ => ⟨fun _ => ⟨vp_in_nI (by omega) (by decide), ?_⟩, fun e => absurd y3 e⟩⟩⟩⟩⟩
        refine ⟨fun e => absurd e nm, fun _ => ⟨fun e => absurd (by omega) e, fun _ => ⟨fun e => absurd y3 e, fun _ => ⟨fun _ => ⟨fun e => absurd y3 e, fun _ => ?_⟩, fun e => absurd cx e⟩⟩⟩⟩
        rw [show (18 : Int32) + nI g = nI (18 + g) from nI_add 18 g, nI_clamp (by omega), nI_clamp (by omega), hg g (by omega)]
        exact ⟨vp_in_nI (by omega) (by decide), K _⟩
      · refine ⟨Or.inl cx, fun _ => ?_, fun e => absurd e cx⟩
        exact ⟨fun e => absurd e nm, fun _ => ⟨fun e => absurd (by omega) e, fun _ => ⟨fun e => absurd y3 e, fun _ => ⟨fun e => absurd e cx, fun _ => K _⟩⟩⟩⟩
    · refine ⟨fun _ => ?_, fun e => absurd e y3⟩
      have y3' : ¬ y.toInt = 3 := fun e => y3 (by rw [fa_eq, e]; decide)
      by_cases cx : 0 ≤ x.toInt ∧ x.toInt ≤ (m : Int) - 1
      · obtain ⟨f, hf, rfl⟩ := og_nat (x := x) (hi := m) cx.1 (by omega)
        have hfm : f < m := by
          have := cx.2
          rw [nI_toInt (by omega)] at this
          omega
        obtain ⟨d0, d1, d2⟩ := hd f hfm
        have vf : vp_in (nI f) 6 := vp_in_nI (by omega) (by decide)
        have mo : ∀ (c : Nat) (r : Int32), c ≤ 2 → y = nI c → r = σM.I 26 (3 * f + c) → (nI m = -1 → Q r (-1) σC (σM.sI 0 0 0)) ∧ (¬ nI m = -1 → (¬ (0 ≤ y.toInt ∧ y.toInt ≤ 3) → Q r (-1) σC (σM.sI 0 0 0)) ∧ (0 ≤ y.toInt ∧ y.toInt ≤ 3 → (¬ y = 3 → (0 ≤ (nI f).toInt ∧ (nI f).toInt ≤ (m : Int) - 1 → (¬ y = 3 → vp_in ((3 : Int32) * nI f + y) 22 ∧ Q r (σM.I 26 ((3 : Int32) * nI f + y).toNatClampNeg) σC (σM.sI 0 0 0)) ∧ (y = 3 → vp_in ((18 : Int32) + nI f) 22 ∧ Q r (σM.I 26 ((18 : Int32) + nI f).toNatClampNeg) σC (σM.sI 0 0 0))) ∧ (¬ (0 ≤ (nI f).toInt ∧ (nI f).toInt ≤ (m : Int) - 1) → Q r (-1) σC (σM.sI 0 0 0))) ∧ (y = 3 → (0 ≤ (nI f).toInt ∧ (nI f).toInt ≤ 3 → (¬ y = 3 → vp_in ((3 : Int32) * nI f + y) 22 ∧ Q r (σM.I 26 ((3 : Int32) * nI f + y).toNatClampNeg) σC (σM.sI 0 0 0)) ∧ (y = 3 → vp_in ((18 : Int32) + nI f) 22 ∧ Q r (σM.I 26 ((18 : Int32) + nI f).toNatClampNeg) σC (σM.sI 0 0 0))) ∧ (¬ (0 ≤ (nI f).toInt ∧ (nI f).toInt ≤ 3) → Q r (-1) σC (σM.sI 0 0 0))))) := by
          intro c r hc ey er
          have hy : 0 ≤ y.toInt ∧ y.toInt ≤ 3 := by
            rw [ey, nI_toInt (by omega)]
            omega
          have e3 : (3 : Int32) * nI f + y = nI (3 * f + c) := by rw [ey, show (3 : Int32) * nI f = nI (3 * f) from nI_m 3 f, nI_add]
          refine ⟨fun e => absurd e nm, fun _ => ⟨fun e => absurd hy e, fun _ => ⟨fun _ => ⟨fun _ => ⟨fun _ => ?_, fun e => absurd e y3⟩, fun e => absurd cx e⟩, fun e => absurd e y3⟩⟩⟩
          rw [e3, nI_clamp (by omega), ← er]
          exact ⟨vp_in_nI (by omega) (by decide), K _⟩
        refine ⟨fun _ => ?_, fun e => absurd cx e⟩
        rw [nI_clamp (by omega)]
        refine ⟨fun e0 => ⟨vf, ?_⟩, fun e0 => ⟨fun e1 => ?_, fun e1 => ⟨fun e2 => ⟨vf, ?_⟩, fun e2 => ⟨fun e => absurd e y3, fun _ => ?_⟩⟩⟩⟩
        · exact mo 0 _ (by decide) e0 d0.symm
        · unfold wX2_isTaken
          rw [cIs (by omega)]
          rw [bt_sh _ (by omega)] at d1
          cases hb : bt (σC.I 34 3) f with
          | true =>
            rw [hb] at d1
            exact ⟨by simp, fun e => absurd e (by decide), fun _ => mo 1 _ (by decide) e1 d1.symm⟩
          | false =>
            rw [hb] at d1
            exact ⟨by simp, fun _ => mo 1 _ (by decide) e1 d1.symm, fun e => absurd rfl e⟩
        · exact mo 2 _ (by decide) e2 d2.symm
        · have q0 := (not_congr (zy 0)).mp e0
          have q1 := (not_congr (zy 1)).mp e1
          have q2 := (not_congr (zy 2)).mp e2
          have w0 : (0 : Int32).toInt = 0 := by decide
          have w1 : (1 : Int32).toInt = 1 := by decide
          have w2 : (2 : Int32).toInt = 2 := by decide
          exact ⟨fun e => absurd e nm, fun _ => ⟨fun _ => K _, fun e => absurd e (by omega)⟩⟩
      · refine ⟨fun e => absurd e cx, fun _ => ?_⟩
        exact ⟨fun e => absurd e nm, fun _ => ⟨fun _ => K _, fun _ => ⟨fun _ => ⟨fun e => absurd e cx, fun _ => K _⟩, fun e => absurd e y3⟩⟩⟩
/-- frames of sieges -/
def FrCs (σ σ' : OgC) : Prop := σ'.R = σ.R ∧ ∀ a, 16 ≤ a → ¬ (34 ≤ a ∧ a < 38) → σ'.I a = σ.I a
def FrPs (σ σ' : OgS) : Prop := σ'.top = σ.top ∧ (∀ a, 3 ≤ a → a ≠ 5 → a ≠ 26 → σ'.I a = σ.I a) ∧ (∀ x, x < 400 → σ'.I 5 x = σ.I 5 x) ∧ (∀ j, 150 ≤ j ∨ j = 4 → σ'.I 2 j = σ.I 2 j) ∧ ∀ a, a ≠ 0 → a ≠ 18 → a ≠ 20 → σ'.L a = σ.L a
theorem pSieges {x y : Int32} {σC : OgC} {σM : OgS} {Q : Int32 → Int32 → OgC → OgS → Prop} (hZ : ZO Z) (hC : HC Z Γ nl T A σC) (hM : HM nl T A σM) (hO : HO nl T A) (hD : DrT σM σC) (K : ∀ r A' σC' σM', HC Z Γ nl T A' σC' → HM nl T A' σM' → HO nl T A' → DrT σM' σC' → FrCs σC σC' → FrPs σM σM' → Q r r σC' σM') : wX0_sieges Γ (fun r σC' => wX5_sieges (fun r' σM' => Q r r' σC' σM') x y σM) x y σC := by
  have hM0 := hM.thrown 0
  obtain ⟨n, hn, hα⟩ := hO.1.1.nat 0 (hi := 6) rfl
  have c11 : σC.I 2 11 = nI n := hC.lt.1.2.2.2.2.2.trans hα
  have m0 : (σM.sI 0 0 0).I 2 0 = nI n := (hM0.1.1 0 (by omega) (by omega)).trans hα
  have nz : nI n = 0 ↔ n = 0 := nI_eq (b := 0) (by omega) (by decide)
  -- a refusal on both sides
  have ref : ∀ (r : Int32) (m : Nat), 1 ≤ m → m < 4 → -r = nI m → ¬ 0 ≤ r → Q r r ((σC.sI 0 0 r).sI 1 m (σC.I 1 m + 1)) (((σM.sI 0 0 0).sI 0 1 r).sI 1 m ((σM.sI 0 0 0).I 1 m + 1)) := by
    intro r m h1 h4 hm h0
    have c1 := hC.fld hZ 20 rfl 0 (by omega) rfl rfl r (by decide) (by decide)
    have ev : σC.I 1 m = A.r (300 + m) := hC.1.at 26 rfl m (by omega) (Nat.zero_add m) rfl
    have em : (σM.sI 0 0 0).I 1 m = A.r (300 + m) := hM0.1.2.2 m (by omega)
    have c2 := c1.fld hZ 26 rfl m (by omega) (Nat.zero_add m) rfl (A.r (300 + m) + 1) (by decide) (by omega)
    have m2 := (hM0.fld 1 (by decide) (by decide) r).ref m (A.r (300 + m) + 1)
    have hb : og_bd (300 + m) = none := by
      have key : ∀ i : Fin 7, og_bd (300 + i.val) = none := by decide +kernel
      exact key ⟨m, by omega⟩
    rw [ev, em]
    refine K _ _ _ _ c2 m2 ((hO.free 201 r (by decide) (by decide)).free (300 + m) _ (by omega) hb) (hD.of ?_ (fun a h34 h38 => ?_) ?_) ⟨rfl, fun a h16 _ => ?_⟩ ⟨rfl, fun a h3 _ _ => ?_, fun z _ => ?_, fun j _ => ?_, fun a _ _ _ => rfl⟩
    · funext j
      rw [S_II, if_neg (by decide), S_II, if_neg (by decide), S_II, if_neg (by decide)]
    · funext j
      rw [C_II, if_neg (by omega), C_II, if_neg (by omega)]
    · rw [C_II, if_neg (by decide), C_II, if_pos rfl, if_neg (by decide)]
    · funext j
      rw [C_II, if_neg (by omega), C_II, if_neg (by omega)]
    · funext j
      rw [S_II, if_neg (by omega), S_II, if_neg (by omega), S_II, if_neg (by omega)]
    · rw [S_II, if_neg (by decide), S_II, if_neg (by decide), S_II, if_neg (by decide)]
    · rw [S_II, if_neg (by decide), S_II, if_neg (by decide), S_II, if_neg (by decide)]
  unfold wX0_sieges wX5_sieges wX0_sieges_21 wX5_sieges_29
  simp only [forall_eq, cIn_eq, mIn_eq, Int32.reduceToInt, Int64.reduceToInt, Int32.toInt_toInt64, if10, if11, if10n]
  rw [c11, m0, nz]
  by_cases cx : 0 ≤ x.toInt ∧ x.toInt ≤ 1000000
  · by_cases cy : 1 ≤ y.toInt ∧ y.toInt ≤ 60
    · by_cases cn : n = 0
      · refine ⟨fun e => absurd cx e, fun _ => ⟨fun _ => ⟨fun e => absurd cn e, fun _ => cRefuse 3 (by decide) (by decide) ?_⟩, fun e => absurd cy e⟩⟩
        exact ⟨fun e => absurd cx e, fun _ => ⟨fun _ => ⟨fun e => absurd cn e, fun _ => mTellN 3 (by decide) (by decide) (by decide) (ref (-3) 3 (by decide) (by decide) (by decide) (by decide))⟩, fun e => absurd cy e⟩⟩
      · obtain ⟨seed, hse, rfl⟩ := x_nat (b := 1000000) (by decide) cx
        obtain ⟨N, hNN, rfl⟩ := x_nat (x := y) (b := 60) (by decide) ⟨by omega, cy.2⟩
        refine ⟨fun e => absurd cx e, fun _ => ⟨fun _ => ⟨fun _ => ?_, fun e => absurd e cn⟩, fun e => absurd cy e⟩⟩
        -- the class's side
        have e211 : (σC.sI 0 21 (nI seed)).I 2 11 = nI n := by rw [C_II, if_neg (by decide)]; exact c11
        rw [e211]
        have oth : ∀ a, a ≠ 0 → ((σC.sI 0 21 (nI seed)).sI 0 20 (nI n)).I a = σC.I a := by
          intro a ha
          funext j
          rw [C_II, if_neg ha, C_II, if_neg ha]
        have tb : TbR 3 A.r ((σC.sI 0 21 (nI seed)).sI 0 20 (nI n)) := (TbR.main hC.1 hC.2.1).of (fun a h3 h7 => oth a (by omega))
        refine cTakes tb (by decide) (fun σ1 hT1 eR eL eI => ?_)
        have hL1 : LtC Z Γ 34 A.r nl T σ1 := by
          refine ⟨⟨hT1, ?_⟩, hC.2.2.1.keep hZ (fun a ha => ⟨?_, by rw [eR]; rfl⟩)⟩
          · rw [eI 7 (by omega), eI 8 (by omega), eI 9 (by omega), eI 10 (by omega), eI 2 (by omega), oth 7 (by decide), oth 8 (by decide), oth 9 (by decide), oth 10 (by decide), oth 2 (by decide)]
            exact hC.lt.1.2
          · rw [eI a (by omega), oth a (by omega)]
        have d1 : σ1.I 0 21 = nI seed := by rw [eI 0 (by omega), C_II, if_pos rfl, if_neg (by decide), C_II, if_pos rfl, if_pos rfl]
        refine cSgL hZ hO.1 hn (by omega) hα (by omega) hNN hL1 d1 (⟨rfl, fun _ _ _ => rfl, fun _ _ => rfl⟩ : SgC σ1 σ1) (fun σ2 hL2 hf2 => cDone ?_)
        obtain ⟨oB, oD, oV, oJ⟩ := sq_ok (T := T) hO.1 hn (by omega) (show seed < 1000003 by omega) N
        -- the class at the end
        have i16 : ∀ a, a ≠ 0 → ¬ (34 ≤ a ∧ a < 38) → σ2.I a = σC.I a := fun a h0 h34 => by rw [hf2.2.1 a h0 h34, eI a (by omega), oth a h0]
        have i0 : ∀ k, k ≠ 21 → k ≠ 20 → σ2.I 0 k = σC.I 0 k := fun k h21 h20 => by rw [hf2.2.2 k h21, eI 0 (by omega), C_II, if_pos rfl, if_neg h20, C_II, if_pos rfl, if_neg h21]
        have i20 : σ2.I 0 20 = nI n := by rw [hf2.2.2 20 (by decide), eI 0 (by omega), C_II, if_pos rfl, if_pos rfl]
        have hRR : σ2.R = σC.R := by rw [hf2.1, eR]; rfl
        have key : ∀ q ∈ og_fam, q.1 < 16 ∧ (q.1 = 0 → q.2.1 + q.2.2.2 ≤ 21) := by decide
        have hF2 : FlF (upd A.r 252 (nI n)) σ2 := by
          have hF' := (hC.1.skip2 (a := 0) (k := 21) (by decide) (nI seed)).set 27 rfl 0 (by decide) rfl rfl (nI n)
          intro i q hq k hk
          have kq := key q (List.mem_of_getElem? hq)
          rw [← hF' i q hq k hk]
          by_cases z : q.1 = 0
          · rw [z, hf2.2.2 _ (by omega), eI 0 (by omega)]
          · rw [hf2.2.1 q.1 z (by omega), eI q.1 (by omega)]
        have hK2 : FlK (upd A.r 252 (nI n)) σ2 := (hC.2.1.al 252 _ (by omega)).of (by rw [i16 3 (by decide) (by omega)])
        have n2 : (A.wr (upd A.r 252 (nI n))).n = A.n := by
          unfold OgA.n
          show ((upd A.r 252 (nI n)) 208).toNatClampNeg = _
          rw [pk_un (by decide)]
        have hC2 : HC Z Γ nl T (A.wr (upd A.r 252 (nI n))) σ2 := by
          refine ⟨hF2, hK2, hL2.2, ?_⟩
          rw [n2]
          exact hC.2.2.2.of (by rw [hRR]) (i16 21 (by decide) (by omega)) (fun a ha => i16 a (by unfold UT at ha; omega) (by unfold UT at ha; omega))
        have hC3 := hC2.fld hZ 20 rfl 0 (by omega) rfl rfl 0 (by decide) (by decide)
        have hO2 : HO nl T (A.wr (upd A.r 252 (nI n))) := hO.free 252 _ (by decide) (by decide)
        have hO3 : HO nl T ((A.wr (upd A.r 252 (nI n))).wr (upd (A.wr (upd A.r 252 (nI n))).r 201 0)) := hO2.free 201 0 (by decide) (by decide)
        -- the model's side
        refine ⟨fun e => absurd cx e, fun _ => ⟨fun _ => ⟨fun _ => ?_, fun e => absurd e cn⟩, fun e => absurd cy e⟩⟩
        refine mKeepAll (k := 16) (by decide) (fun τ1 hO1 hx1 => ?_)
        have lt1 : LtM A.r nl T (τ1.sL 0 50 (nI seed).toInt64) := by
          refine ⟨(hO1.fl (by decide) hM0.1).skipL 0 50 _, hM0.2.1.keep (fun j _ => ?_)⟩
          show τ1.I 2 j = _
          rw [hO1.2.2 2 (by decide)]
        refine mSgL (seed := seed) hO.1 hn (by omega) hα (by omega) hNN lt1 (by rw [S_LL, if_pos rfl, if_pos rfl, Int32.toInt_toInt64, nI_toInt (by omega)]) (⟨rfl, fun _ _ _ => rfl, fun _ _ _ => rfl, fun _ _ => rfl, fun _ _ _ _ => rfl⟩ : SgM (τ1.sL 0 50 (nI seed).toInt64) (τ1.sL 0 50 (nI seed).toInt64)) (fun τ2 hM2 hf2m => ?_)
        have t5 : ∀ i, τ2.I 5 i = τ1.I 5 i := fun i => by rw [hf2m.2.1 5 (by decide) (by decide)]; rfl
        refine mSgE (β := (og_sq A.r T n seed N).1) (α := A.r) hn (by omega) (fun j h6 h31 => by rw [S_II, if_neg (by decide)]; exact hM2.1.1 j (by omega) (by omega)) (by rw [S_II, if_pos rfl, if_pos rfl]) (fun i hi => ?_) (fun τ3 etop eL3 eI3 e23 e26 e26g => ?_)
        · rw [S_II, if_neg (by decide), t5, hx1, if_pos (by omega), show 400 + i - 25 * 16 = i by omega]
          exact hM0.1.1 (6 + i) (by omega) (by omega)
        · have row3 : ∀ j, τ3.I 2 j = σM.I 2 j := by
            intro j
            rw [e23]
            by_cases q : 6 ≤ j ∧ j < 31
            · rw [if_pos q]
              have := hM.1.1 j (by omega) (by omega)
              exact this.symm
            · rw [if_neg q, S_II, if_neg (by decide), hf2m.2.2.2.1 j (by omega)]
              show τ1.I 2 j = _
              rw [hO1.2.2 2 (by decide), S_II, if_neg (by decide)]
          have oth3 : ∀ a, a ≠ 0 → a ≠ 2 → a ≠ 26 → a ≠ 5 → τ3.I a = σM.I a := by
            intro a h0 h2 h26 h5
            rw [eI3 a h2 h26]
            funext j
            rw [S_II, if_neg h0, hf2m.2.1 a h0 h2]
            show τ1.I a j = _
            rw [hO1.2.2 a h5, S_II, if_neg h0]
          have five3 : ∀ z, z < 400 → τ3.I 5 z = σM.I 5 z := by
            intro z hz
            rw [eI3 5 (by decide) (by decide), S_II, if_neg (by decide), t5, hx1, if_neg (by omega), S_II, if_neg (by decide)]
          have zero3 : ∀ k, k ≠ 0 → k ≠ 34 → k ≠ 38 → k ≠ 52 → τ3.I 0 k = σM.I 0 k := by
            intro k h0 h34 h38 h52
            rw [eI3 0 (by decide) (by decide), S_II, if_pos rfl, if_neg h52, hf2m.2.2.1 k h34 h38]
            show τ1.I 0 k = _
            rw [hO1.2.2 0 (by decide), S_II, if_pos rfl, if_neg h0]
          have z52 : τ3.I 0 52 = nI n := by rw [eI3 0 (by decide) (by decide), S_II, if_pos rfl, if_pos rfl]
          have mk : ∀ k ∈ og_mfl, k ≠ 0 ∧ k ≠ 34 ∧ k ≠ 38 := by decide
          have hM3 : HM nl T (A.wr (upd A.r 252 (nI n))) τ3 := by
            refine ⟨⟨fun j hj h4 => ?_, fun k hk => ?_, fun k hk => ?_⟩, hM.2.1.keep (fun j _ => row3 j), ?_⟩
            · show τ3.I 2 j = (upd A.r 252 (nI n)) j
              rw [row3, pk_un (by omega)]
              exact hM.1.1 j hj h4
            · show τ3.I 0 k = (upd A.r 252 (nI n)) (200 + k)
              by_cases e : k = 52
              · subst e
                rw [z52, pk_us]
              · rw [zero3 k (mk k hk).1 (mk k hk).2.1 (mk k hk).2.2 e, pk_un (by omega)]
                exact hM.1.2.1 k hk
            · show τ3.I 1 k = (upd A.r 252 (nI n)) (300 + k)
              rw [oth3 1 (by decide) (by decide) (by decide) (by decide), pk_un (by omega)]
              exact hM.1.2.2 k hk
            · rw [n2]
              intro k hk
              have hn16 := (A_n hO).1
              refine ⟨fun i hi => ?_, ?_⟩
              · rw [five3 _ (by omega)]
                exact (hM.2.2 k hk).1 i hi
              · rw [oth3 6 (by decide) (by decide) (by decide) (by decide)]
                exact (hM.2.2 k hk).2
          refine mTell0 (nI_nn _ (by omega)) (K _ _ _ _ hC3 (hM3.fld 1 (by decide) (by decide) 0) hO3 (Or.inr ⟨n, hn, ?_, fun f hf => ?_, fun g hg => ?_⟩) ⟨hRR, fun a h16 h34 => ?_⟩ ⟨?_, fun a h3 h5 h26 => ?_, fun z hz => ?_, fun j _ => ?_, fun a h0 h18 h20 => ?_⟩)
          · rw [C_II, if_pos rfl, if_neg (by decide)]
            exact i20
          · obtain ⟨a, b, c⟩ := e26 f hf
            have t2 := hL2.1.1
            rw [S_II, if_neg (by decide), S_II, if_neg (by decide), S_II, if_neg (by decide), C_II, if_neg (by decide), C_II, if_neg (by decide), C_II, if_neg (by decide), a, b, c]
            exact ⟨(t2.1 f (by omega)).symm, t2.2.2.2.2.1 f (by omega), (t2.2.1 f (by omega)).symm⟩
          · rw [S_II, if_neg (by decide), C_II, if_neg (by decide), e26g g hg]
            exact (hL2.1.1.2.2.1 g hg).symm
          · funext j
            rw [C_II, if_neg (by omega), i16 a (by omega) h34]
          · show τ3.top = _
            rw [etop]
            show τ2.top = _
            rw [hf2m.1]
            show τ1.top = _
            rw [hO1.2.1]
            rfl
          · funext j
            rw [S_II, if_neg (by omega), oth3 a (by omega) (by omega) h26 h5]
          · rw [S_II, if_neg (by decide)]
            exact five3 z hz
          · rw [S_II, if_neg (by decide)]
            exact row3 j
          · show τ3.L a = _
            rw [eL3]
            show τ2.L a = _
            rw [hf2m.2.2.2.2 a h0 h18 h20]
            funext j
            rw [S_LL, if_neg h0, hO1.1]
            rfl
    · refine ⟨fun e => absurd cx e, fun _ => ⟨fun e => absurd e cy, fun _ => cRefuse 1 (by decide) (by decide) ?_⟩⟩
      exact ⟨fun e => absurd cx e, fun _ => ⟨fun e => absurd e cy, fun _ => mTellN 1 (by decide) (by decide) (by decide) (ref (-1) 1 (by decide) (by decide) (by decide) (by decide))⟩⟩
  · refine ⟨fun _ => cRefuse 1 (by decide) (by decide) ?_, fun e => absurd e cx⟩
    exact ⟨fun _ => mTellN 1 (by decide) (by decide) (by decide) (ref (-1) 1 (by decide) (by decide) (by decide) (by decide)), fun e => absurd e cx⟩
end Dr
