theorem i64_sub32 (a b : Int64) : (a - b).toInt32 = a.toInt32 - b.toInt32 := by simp
theorem i32_ngA (d : Int32) : 0 - d = -d := by simp
def og_dif (α : Nat → Int32) (f : Nat) (s : Int32) (k : Nat) : Int32 :=
  if 0 ≤ (og_bel α f (s ||| ((1 : Int32) <<< (nI k &&& 31)))).toInt32 - (og_bel α f (s &&& (((1 : Int32) <<< (nI k &&& 31)) ^^^ (-1)))).toInt32 then (og_bel α f (s ||| ((1 : Int32) <<< (nI k &&& 31)))).toInt32 - (og_bel α f (s &&& (((1 : Int32) <<< (nI k &&& 31)) ^^^ (-1)))).toInt32 else 0 - ((og_bel α f (s ||| ((1 : Int32) <<< (nI k &&& 31)))).toInt32 - (og_bel α f (s &&& (((1 : Int32) <<< (nI k &&& 31)) ^^^ (-1)))).toInt32)
def og_sc (α : Nat → Int32) (f : Nat) (s : Int32) : Nat → Int32 × Int32 := fun k => k.rec (-1, -1) (fun k r => if r.2 < og_dif α f s k then (nI k, og_dif α f s k) else r)
theorem sc_s (α : Nat → Int32) (f : Nat) (s : Int32) (k : Nat) : og_sc α f s (k + 1) = if (og_sc α f s k).2 < og_dif α f s k then (nI k, og_dif α f s k) else og_sc α f s k := rfl
theorem or_sub {s : Int32} (h : 0 ≤ s.toInt ∧ s.toInt ≤ 63) {k : Nat} (hk : k < 6) : (s ||| ((1 : Int32) <<< (nI k &&& 31))) - ((1 : Int32) <<< (nI k &&& 31)) = s &&& (((1 : Int32) <<< (nI k &&& 31)) ^^^ (-1)) := by
  have key : ∀ n : Fin 64, ∀ k : Fin 6, (nI n.val ||| ((1 : Int32) <<< (nI k.val &&& 31))) - ((1 : Int32) <<< (nI k.val &&& 31)) = nI n.val &&& (((1 : Int32) <<< (nI k.val &&& 31)) ^^^ (-1)) := by decide +kernel
  obtain ⟨n, hn, rfl⟩ := x_nat (b := 63) (by decide) h
  exact key ⟨n, by omega⟩ ⟨k, hk⟩
theorem cScout {Γ : OgG} {Q : Int32 → OgC → Prop} {α : Nat → Int32} {σ : OgC} (hT : RdT 3 α σ) (hR : Rng α) {f : Nat} (hf : f < 6) {s y : Int32} (K : Q (if y = 0 then (og_sc α f s 6).1 else (og_sc α f s 6).2) σ) : wX0_scout_38 Γ Q (nI f) y s (-1) (-1) (nI 0) σ := by
  refine for4 6 (fun k => (og_sc α f s k).1) (fun k => (og_sc α f s k).2) nI (fun _ => σ) (fun _ => True) (fun K' k hk _ hK => ?_) trivial
  unfold wX0_scout_B38 wX0_scout_101
  rw [show (6 : Int32) = nI 6 from rfl, nI_lei (by omega) (by omega)]
  by_cases g : 6 ≤ k
  · obtain rfl : k = 6 := by omega
    refine ⟨fun _ => ⟨fun e => ?_, fun e => ?_⟩, fun e => absurd g e⟩
    · rw [if_neg e] at K
      exact K
    · rw [if_pos e] at K
      exact K
  · have hK := hK (by omega) trivial
    rw [sc_s] at hK
    refine ⟨fun e => absurd e g, fun _ => cBelief hT hR hf (cBelief hT hR hf (fun v e => ?_))⟩
    have e' : v = og_dif α f s k := e
    rw [e', nI_s]
    refine ⟨fun c x6 e6 => ?_, fun c x6 e6 => ?_⟩
    · rw [if_pos c] at hK
      rw [e6]
      exact hK
    · rw [if_neg c] at hK
      rw [e6]
      exact hK
theorem mScout {Q : Int32 → OgS → Prop} {α : Nat → Int32} {σ : OgS} (hF : FlM α σ) (hR : Rng α) {f : Nat} (hf : f < 6) {y : Int32} (K : Q (if y = 0 then (og_sc α f (α (19 + f)) 6).1 else (og_sc α f (α (19 + f)) 6).2) σ) : wX5_scout_33 Q (nI f) y (-1) (-1) (nI 0) σ := by
  refine for4 6 (fun k => (og_sc α f (α (19 + f)) k).2) (fun k => (og_sc α f (α (19 + f)) k).1) nI (fun _ => σ) (fun _ => True) (fun K' k hk _ hK => ?_) trivial
  unfold wX5_scout_B33
  rw [show (6 : Int32) = nI 6 from rfl, nI_lei (by omega) (by omega)]
  by_cases g : 6 ≤ k
  · obtain rfl : k = 6 := by omega
    refine ⟨fun _ => ⟨fun e => ?_, fun e => ?_⟩, fun e => absurd g e⟩
    · rw [if_neg e] at K
      exact K
    · rw [if_pos e] at K
      exact K
  · have hK := hK (by omega) trivial
    rw [sc_s] at hK
    refine ⟨fun e => absurd e g, fun _ => ?_⟩
    rw [show (19 : Int32) + nI f = nI (19 + f) from nI_add 19 f, nI_clamp (by omega), hF.1 _ (by omega) (by omega)]
    refine ⟨vp_in_nI (by omega) (by decide), fun v3 e3 => ?_⟩
    subst e3
    rw [or_sub (hR.at (19 + f) (bd_shown hf)) (by omega)]
    refine mBelief hF hR hf (mBelief hF hR hf (fun v8 e8 => ?_))
    rw [i64_sub32] at e8
    have fin : ∀ t, t = og_dif α f (α (19 + f)) k → wX5_scout_92 Q K' (nI f) y (og_sc α f (α (19 + f)) k).2 (og_sc α f (α (19 + f)) k).1 (nI k) t σ := by
      intro t ht
      rw [ht]
      unfold wX5_scout_92 wX5_scout_107 wX5_scout_121
      rw [nI_s]
      by_cases c : (og_sc α f (α (19 + f)) k).2 < og_dif α f (α (19 + f)) k
      · rw [if_pos c] at hK
        have c' : ¬ og_dif α f (α (19 + f)) k ≤ (og_sc α f (α (19 + f)) k).2 := by
          rw [fa_lt] at c
          rw [fa_le]
          omega
        refine ⟨fun e => absurd e c', fun _ => ⟨fun e => absurd e c', fun _ x5 e5 => ?_⟩⟩
        rw [e5]
        exact hK
      · rw [if_neg c] at hK
        have c' : og_dif α f (α (19 + f)) k ≤ (og_sc α f (α (19 + f)) k).2 := by
          rw [fa_lt] at c
          rw [fa_le]
          omega
        refine ⟨fun _ => ⟨fun _ x5 e5 => ?_, fun e => absurd c' e⟩, fun e => absurd c' e⟩
        rw [e5]
        exact hK
    refine ⟨fun c => fin _ ?_, fun c => fin _ ?_⟩
    · unfold og_dif
      rw [← e8, if_pos c]
    · unfold og_dif
      rw [← e8, if_neg c, i32_ngA]
theorem pScout {Γ : OgG} {α : Nat → Int32} {σM : OgS} {σC : OgC} {x y : Int32} {Q : Int32 → Int32 → OgC → OgS → Prop} (h : Row α σM σC) (K : ∀ (r : Int32) (α' : Nat → Int32) (σC' : OgC) (σM' : OgS), St α σM σC α' σM' σC' → Q r r σC' σM') : wX0_scout Γ (fun r σC' => wX5_scout (fun r' σM' => Q r r' σC' σM') x y σM) x y σC := by
  have hS := (St.rf h).thrown 0
  have hR := h.2.2.2
  have hT := RdT.of h.2.1 h.2.2.1
  obtain ⟨n, hn, hα⟩ := hR.nat 0 (hi := 6) rfl
  have hC : σC.I 2 11 = nI n := (h.2.1.at 0 rfl 0 (by omega) rfl rfl).trans hα
  have hM : (σM.sI 0 0 0).I 2 0 = nI n := ((h.1.1 0 (by omega) (by omega)).trans hα)
  unfold wX0_scout wX5_scout
  simp only [cIn_eq, mIn_eq, forall_eq, Int32.reduceToInt, Int64.reduceToInt, Int32.toInt_toInt64, if10, if11, if10n]
  refine cFort hn hC (fun f hf ex => ⟨fun e => absurd e (by decide), fun _ => ?_⟩) (fun g => ⟨fun _ => ?_, fun e => absurd rfl e⟩)
  · subst ex
    by_cases c : 0 ≤ y.toInt ∧ y.toInt ≤ 1
    · refine ⟨fun _ => ⟨vp_in_nI (by omega) (by decide), ?_⟩, fun e => absurd c e⟩
      rw [nI_clamp (by omega), hT.1.2.1 f (by omega)]
      refine cScout hT hR (by omega) (mFort hn hM (fun k hk e => ⟨fun e => absurd e (by decide), fun _ => ⟨fun _ => mScout hS.1.1 hR (by omega) (K _ _ _ _ hS), fun e => absurd c e⟩⟩) (fun g => absurd ⟨f, hf, rfl⟩ g))
    · exact ⟨fun e => absurd e c, fun _ => mFort hn hM (fun k hk e => ⟨fun e => absurd e (by decide), fun _ => ⟨fun e => absurd e c, fun _ => K _ _ _ _ hS⟩⟩) (fun g => absurd ⟨f, hf, rfl⟩ g)⟩
  · exact mFort hn hM (fun k hk e => absurd ⟨k, hk, e⟩ g) (fun _ => ⟨fun _ => K _ _ _ _ hS, fun e => absurd rfl e⟩)
