/-! ===== what is read of a table at t, and of the state ===== -/
def RdT (t : Nat) (α : Nat → Int32) (σ : OgC) : Prop :=
  ((∀ k, k < 6 → σ.I (t + 1) k = α (13 + k)) ∧ (∀ k, k < 6 → σ.I (t + 2) k = α (19 + k)) ∧ (∀ k, k < 4 → σ.I (t + 3) k = α (9 + k)) ∧ σ.I t 4 = α 6 ∧ ((∀ f, f < 6 → α (25 + f) = (σ.I t 3 >>> (nI f &&& 31)) &&& 1) ∧ ∀ f, 6 ≤ f → f < 32 → bt (σ.I t 3) f = false)) ∧
  ((∀ k, k < 6 → σ.I 7 k = α (31 + k)) ∧ (∀ k, k < 6 → σ.I 8 k = α (37 + k)) ∧ (∀ k, k < 6 → σ.I 9 k = α (43 + k)) ∧ (∀ k, k < 6 → σ.I 10 k = α (49 + k))) ∧
  (σ.I 2 15 = α 7 ∧ σ.I 2 16 = α 8 ∧ σ.I 2 17 = α 5 ∧ σ.I 2 11 = α 0)
theorem RdT.of {α : Nat → Int32} {σ : OgC} (hF : FlF α σ) (hK : FlK α σ) : RdT 3 α σ := by
  refine ⟨⟨fun k hk => hF.at 9 rfl k hk (Nat.zero_add k) rfl, fun k hk => hF.at 10 rfl k hk (Nat.zero_add k) rfl, fun k hk => hF.at 8 rfl k hk (Nat.zero_add k) rfl, hF.at 5 rfl 0 (by omega) rfl rfl, hK⟩, ⟨fun k hk => hF.at 11 rfl k hk (Nat.zero_add k) rfl, fun k hk => hF.at 12 rfl k hk (Nat.zero_add k) rfl, fun k hk => hF.at 13 rfl k hk (Nat.zero_add k) rfl, fun k hk => hF.at 14 rfl k hk (Nat.zero_add k) rfl⟩, hF.at 6 rfl 0 (by omega) rfl rfl, hF.at 7 rfl 0 (by omega) rfl rfl, hF.at 4 rfl 0 (by omega) rfl rfl, hF.at 0 rfl 0 (by omega) rfl rfl⟩
/-! ===== beliefs ===== -/
def og_fac (α : Nat → Int32) (p : Nat) (s : Int32) (k : Nat) : Int64 := if bt s k then (α (p + k)).toInt64 else ((10 : Int32) - α (p + k)).toInt64
def og_pr (α : Nat → Int32) (p : Nat) (s : Int32) (v : Int64) : Nat → Int64 := fun k => k.rec v (fun k r => r * og_fac α p s k)
theorem pr_s (α : Nat → Int32) (p : Nat) (s : Int32) (v : Int64) (k : Nat) : og_pr α p s v (k + 1) = og_pr α p s v k * og_fac α p s k := rfl
def og_full (α : Nat → Int32) (s : Int32) : Nat → Int64 := og_pr α 37 s (α 7).toInt64
def og_empty (α : Nat → Int32) (s : Int32) : Nat → Int64 := og_pr α 43 s (1000 - (α 7).toInt64)
def og_even (α : Nat → Int32) : Int64 := (α 7).toInt64 * 1000
def og_by (α : Nat → Int32) (s : Int32) : Int64 := if og_full α s 6 + og_empty α s 6 = 0 then og_even α else og_full α s 6 * 1000000 / (og_full α s 6 + og_empty α s 6)
def og_known (α : Nat → Int32) (f : Nat) : Int32 := α (9 + (α (31 + f)).toNatClampNeg)
def og_bel (α : Nat → Int32) (f : Nat) (s : Int32) : Int64 := ((og_known α f).toInt64 * og_by α s + ((100 : Int32) - og_known α f).toInt64 * og_even α) / 100
theorem cBelief {Γ : OgG} {Q : Int32 → OgC → Prop} {t : Nat} {α : Nat → Int32} {σ : OgC} (hT : RdT t α σ) (hR : Rng α) {f : Nat} (hf : f < 6) {s : Int32} (K : Q (og_bel α f s).toInt32 σ) : wX0_belief Γ Q t (nI f) s σ := by
  obtain ⟨⟨_, _, h6, _, _⟩, ⟨h7, h8, h9, _⟩, ⟨hp, _, _, _⟩⟩ := hT
  unfold wX0_belief
  simp only [forall_eq]
  rw [hp]
  refine for4 6 (og_full α s) (og_empty α s) nI (fun _ => σ) (fun _ => True) (fun K' k hk _ hK => ?_) trivial
  unfold wX0_belief_B27
  rw [show (6 : Int32) = nI 6 from rfl, nI_lei (by omega) (by omega)]
  by_cases g : 6 ≤ k
  · obtain rfl : k = 6 := by omega
    refine ⟨fun _ v2 e2 => ?_, fun e => absurd g e⟩
    rw [hp] at e2
    obtain ⟨n, hn, e⟩ := hR.nat (31 + f) (hi := 3) (bd_gen hf)
    have fin : ∀ b, b = og_by α s → wX0_belief_165 Γ Q t (nI f) v2 b σ := by
      intro b hb
      unfold wX0_belief_165
      rw [nI_clamp (by omega), h7 f hf, e, nI_clamp (by omega)]
      refine ⟨vp_in_nI hf (by decide), vp_in_nI (by omega) (by decide), fun v1 e1 => ?_⟩
      rw [h6 n (by omega)] at e1
      have : og_bel α f s = (v1.toInt64 * b + ((100 : Int32) - v1).toInt64 * v2) / 100 := by
        unfold og_bel og_known og_even
        rw [e, nI_clamp (by omega), e1, e2, hb]
      rw [← this]
      exact K
    refine ⟨fun c => ⟨c, fin _ ?_⟩, fun c => fin _ ?_⟩
    · unfold og_by
      rw [if_neg c]
    · unfold og_by
      rw [if_pos c, e2]
      rfl
  · refine ⟨fun e => absurd e g, fun _ => ?_⟩
    have hK := hK (by omega) trivial
    unfold og_full og_empty at hK
    rw [pr_s, pr_s] at hK
    unfold og_fac at hK
    rw [cIs (by omega)]
    unfold wX0_belief_73 wX0_belief_115
    simp only [forall_eq, nI_s]
    simp only [cIs (show k < 32 by omega), nI_clamp (show k < 2 ^ 31 by omega), h8 k (by omega), h9 k (by omega)]
    have vi : vp_in (nI k) 6 := vp_in_nI (by omega) (by decide)
    by_cases b : bt s k = true
    · simp only [b, if_true] at hK ⊢
      exact ⟨fun e => absurd e (by decide), fun _ => ⟨vi, fun e => absurd e (by decide), fun _ => ⟨vi, hK⟩⟩⟩
    · simp only [b, if_false] at hK ⊢
      exact ⟨fun _ => ⟨vi, fun _ => ⟨vi, hK⟩, fun e => absurd rfl e⟩, fun e => absurd rfl e⟩
theorem mFame {Q : Int32 → OgS → Prop} {α : Nat → Int32} {σ : OgS} (hF : FlM α σ) (hR : Rng α) {f : Nat} (hf : f < 6) (K : Q (og_known α f) σ) : wX5_fameOf Q (nI f) σ := by
  obtain ⟨n, hn, e⟩ := hR.nat (31 + f) (hi := 3) (bd_gen hf)
  unfold wX5_fameOf
  rw [show (31 : Int32) + nI f = nI (31 + f) from nI_add 31 f, nI_clamp (by omega), hF.1 _ (by omega) (by omega), e, show (9 : Int32) + nI n = nI (9 + n) from nI_add 9 n, nI_clamp (by omega), hF.1 _ (by omega) (by omega)]
  refine ⟨vp_in_nI (by omega) (by decide), vp_in_nI (by omega) (by decide), ?_⟩
  unfold og_known at K
  rw [e, nI_clamp (by omega)] at K
  exact K
theorem mBelief {Q : Int64 → OgS → Prop} {α : Nat → Int32} {σ : OgS} (hF : FlM α σ) (hR : Rng α) {f : Nat} (hf : f < 6) {s : Int32} (K : Q (og_bel α f s) σ) : wX5_beliefBy Q (nI f) s σ := by
  have hp : σ.I 2 7 = α 7 := hF.1 7 (by omega) (by omega)
  unfold wX5_beliefBy
  simp only [forall_eq]
  rw [hp]
  refine for4 6 (og_full α s) (og_empty α s) nI (fun _ => σ) (fun _ => True) (fun K' k hk _ hK => ?_) trivial
  unfold wX5_beliefBy_B26
  rw [show (6 : Int32) = nI 6 from rfl, nI_lei (by omega) (by omega)]
  by_cases g : 6 ≤ k
  · obtain rfl : k = 6 := by omega
    refine ⟨fun _ => ?_, fun e => absurd g e⟩
    have fin : ∀ b, b = og_by α s → wX5_beliefBy_145 Q (nI f) (og_even α) b σ := by
      intro b hb
      refine mFame hF hR hf (mFame hF hR hf ?_)
      rw [hb]
      exact K
    refine ⟨fun c => ⟨c, fin _ ?_⟩, fun c => fin _ ?_⟩
    · unfold og_by
      rw [if_neg c]
    · unfold og_by
      rw [if_pos c]
      rfl
  · refine ⟨fun e => absurd e g, fun _ => ?_⟩
    have hK := hK (by omega) trivial
    unfold og_full og_empty at hK
    rw [pr_s, pr_s] at hK
    unfold og_fac at hK
    rw [mIs (by omega)]
    unfold wX5_beliefBy_71 wX5_beliefBy_112
    simp only [forall_eq, nI_s]
    simp only [mIs (show k < 32 by omega), show (37 : Int32) + nI k = nI (37 + k) from nI_add 37 k, show (43 : Int32) + nI k = nI (43 + k) from nI_add 43 k, nI_clamp (show 37 + k < 2 ^ 31 by omega), nI_clamp (show 43 + k < 2 ^ 31 by omega), hF.1 (37 + k) (by omega) (by omega), hF.1 (43 + k) (by omega) (by omega)]
    have v1 : vp_in (nI (37 + k)) 5550 := vp_in_nI (by omega) (by decide)
    have v2 : vp_in (nI (43 + k)) 5550 := vp_in_nI (by omega) (by decide)
    by_cases b : bt s k = true
    · simp only [b, if_true] at hK ⊢
      exact ⟨fun e => absurd e (by decide), fun _ => ⟨v1, fun e => absurd e (by decide), fun _ => ⟨v2, hK⟩⟩⟩
    · simp only [b, if_false] at hK ⊢
      exact ⟨fun _ => ⟨v1, fun _ => ⟨v2, hK⟩, fun e => absurd rfl e⟩, fun e => absurd rfl e⟩
theorem cTaken {Γ : OgG} {Q : Int32 → OgC → Prop} {t : Nat} {α : Nat → Int32} {σ : OgC} (hT : RdT t α σ) (hR : Rng α) {f : Nat} (hf : f < 6) (K : Q (α (25 + f)) σ) : wX2_isTaken Γ Q t (nI f) σ := by
  unfold wX2_isTaken
  have h := hT.1.2.2.2.2.1 f hf
  rw [bt_sh _ (by omega)] at h
  rw [cIs (by omega), ← h]
  refine ⟨?_, K⟩
  rw [h]
  cases bt (σ.I t 3) f <;> simp
theorem pOf {Γ : OgG} {α : Nat → Int32} {σM : OgS} {σC : OgC} {x y : Int32} {Q : Int32 → Int32 → OgC → OgS → Prop} (h : Row α σM σC) (K : ∀ (r : Int32) (α' : Nat → Int32) (σC' : OgC) (σM' : OgS), St α σM σC α' σM' σC' → Q r r σC' σM') : wX0_of Γ (fun r σC' => wX5_of (fun r' σM' => Q r r' σC' σM') x y σM) x y σC := by
  have hS := (St.rf h).thrown 0
  have hR := h.2.2.2
  have hT := RdT.of h.2.1 h.2.2.1
  have hMF := hS.1.1
  obtain ⟨n, hn, hα⟩ := hR.nat 0 (hi := 6) rfl
  have hC : σC.I 2 11 = nI n := (h.2.1.at 0 rfl 0 (by omega) rfl rfl).trans hα
  have hM : (σM.sI 0 0 0).I 2 0 = nI n := ((h.1.1 0 (by omega) (by omega)).trans hα)
  have mm : ∀ r σC', ¬ (∃ k, k < n ∧ x = nI k) → Q r (-1) σC' (σM.sI 0 0 0) → wX5_of (fun r' σM' => Q r r' σC' σM') x y σM := by
    intro r σC' g hq
    unfold wX5_of
    simp only [forall_eq]
    exact mFort hn hM (fun k hk e => absurd ⟨k, hk, e⟩ g) (fun _ => ⟨fun e => absurd rfl e, fun _ => hq⟩)
  unfold wX0_of
  refine cFort hn hC (fun f hf ex => ⟨fun _ => ?_, fun e => absurd e (by decide)⟩) (fun g => ⟨fun e => absurd rfl e, fun _ => mm _ _ g (K _ _ _ _ hS)⟩)
  subst ex
  have vi : ∀ p, p ≤ 31 → (nI p + nI f).toNatClampNeg = p + f ∧ vp_in (nI p + nI f) 5550 := by
    intro p hp
    rw [nI_add, nI_clamp (by omega)]
    exact ⟨rfl, vp_in_nI (by omega) (by decide)⟩
  have v13 := vi 13 (by omega)
  have v31 := vi 31 (by omega)
  have v19 := vi 19 (by omega)
  have v25 := vi 25 (by omega)
  have vf : vp_in (nI f) 6 := vp_in_nI (by omega) (by decide)
  have mo : ∀ r σC', (∀ r', r' = (if y = 0 then α (13 + f) else if y = 1 then α (31 + f) else if y = 2 then α (19 + f) else if y = 3 then α (25 + f) else if y = 4 then (og_bel α f (α (19 + f))).toInt32 else -1) → Q r r' σC' (σM.sI 0 0 0)) → wX5_of (fun r' σM' => Q r r' σC' σM') (nI f) y σM := by
    intro r σC' hq
    unfold wX5_of
    simp only [forall_eq]
    refine mFort hn hM (fun k hk e => ⟨fun _ => ?_, fun e => absurd e (by decide)⟩) (fun g => absurd ⟨f, hf, rfl⟩ g)
    rw [show (13 : Int32) = nI 13 from rfl, show (31 : Int32) = nI 31 from rfl, show (19 : Int32) = nI 19 from rfl, show (25 : Int32) = nI 25 from rfl, v13.1, v31.1, v19.1, v25.1, hMF.1 _ (by omega) (by omega), hMF.1 _ (by omega) (by omega), hMF.1 _ (by omega) (by omega), hMF.1 _ (by omega) (by omega)]
    refine ⟨fun e0 => ⟨v13.2, hq _ ?_⟩, fun e0 => ⟨fun e1 => ⟨v31.2, hq _ ?_⟩, fun e1 => ⟨fun e2 => ⟨v19.2, hq _ ?_⟩, fun e2 => ⟨fun e3 => ⟨v25.2, hq _ ?_⟩, fun e3 => ⟨fun e4 => ⟨v19.2, mBelief hMF hR (by omega) (hq _ ?_)⟩, fun e4 => hq _ ?_⟩⟩⟩⟩⟩
    · rw [if_pos e0]
    · rw [if_neg e0, if_pos e1]
    · rw [if_neg e0, if_neg e1, if_pos e2]
    · rw [if_neg e0, if_neg e1, if_neg e2, if_pos e3]
    · rw [if_neg e0, if_neg e1, if_neg e2, if_neg e3, if_pos e4]
    · rw [if_neg e0, if_neg e1, if_neg e2, if_neg e3, if_neg e4]
  rw [nI_clamp (by omega), hT.1.1 f (by omega), hT.1.2.1 f (by omega), hT.2.1.1 f (by omega)]
  refine ⟨fun e0 => ⟨vf, ?_⟩, fun e0 => ⟨fun e1 => ⟨vf, ?_⟩, fun e1 => ⟨fun e2 => ⟨vf, ?_⟩, fun e2 => ⟨fun e3 => cTaken hT hR (by omega) ?_, fun e3 => ⟨fun e4 => ⟨vf, cBelief hT hR (by omega) ?_⟩, fun e4 => ?_⟩⟩⟩⟩⟩
  · refine mo _ _ (fun r' e => ?_)
    rw [if_pos e0] at e
    rw [e]
    exact K _ _ _ _ hS
  · refine mo _ _ (fun r' e => ?_)
    rw [if_neg e0, if_pos e1] at e
    rw [e]
    exact K _ _ _ _ hS
  · refine mo _ _ (fun r' e => ?_)
    rw [if_neg e0, if_neg e1, if_pos e2] at e
    rw [e]
    exact K _ _ _ _ hS
  · obtain ⟨b, hb, eb⟩ := hR.nat (25 + f) (hi := 1) (bd_taken (by omega))
    have hq : ∀ c, c = α (25 + f) → wX5_of (fun r' σM' => Q c r' σC σM') (nI f) y σM := by
      intro c hc
      refine mo _ _ (fun r' e => ?_)
      rw [if_neg e0, if_neg e1, if_neg e2, if_pos e3] at e
      rw [e, hc]
      exact K _ _ _ _ hS
    rw [eb] at hq ⊢
    rcases (show b = 0 ∨ b = 1 by omega) with rfl | rfl
    · exact ⟨fun _ => hq _ rfl, fun e => absurd rfl e⟩
    · exact ⟨fun e => absurd e (by decide), fun _ => hq _ rfl⟩
  · refine mo _ _ (fun r' e => ?_)
    rw [if_neg e0, if_neg e1, if_neg e2, if_neg e3, if_pos e4] at e
    rw [e]
    exact K _ _ _ _ hS
  · refine mo _ _ (fun r' e => ?_)
    rw [if_neg e0, if_neg e1, if_neg e2, if_neg e3, if_neg e4] at e
    rw [e]
    exact K _ _ _ _ hS
