/-! ===== holding, bluffing ===== -/
theorem clm_b {v : Int64} {lo hi : Int32} (h : lo.toInt ≤ hi.toInt) : lo.toInt ≤ (og_clm v lo hi).toInt ∧ (og_clm v lo hi).toInt ≤ hi.toInt := by
  have a1 : lo.toInt64.toInt = lo.toInt := Int32.toInt_toInt64 _
  have a2 : hi.toInt64.toInt = hi.toInt := Int32.toInt_toInt64 _
  have b1 := Int32.toInt_lt hi
  have b2 := Int32.le_toInt lo
  unfold og_clm
  simp only [fa_lt64]
  split
  · omega
  · split
    · omega
    · rw [Int64.toInt_toInt32, bm32 (by omega) (by omega)]
      omega
section Bl
variable {Z : Nat → Prop} {Γ : OgG} {α : Nat → Int32} {nl : Nat} {T : Nat → Int32 → (Nat → Int64) → Option Int64} {σM : OgS} {σC : OgC}
def og_pn (α : Nat → Int32) (T : Nat → Int32 → (Nat → Int64) → Option Int64) (f s : Nat) : Nat := (og_pays α T f s).toNatClampNeg
theorem pn_ok (hR : Rng α) {f s : Nat} (hs : s < 6) : og_pays α T f s = nI (og_pn α T f s) ∧ og_pn α T f s ≤ 99 := by
  have b : 0 ≤ (og_pays α T f s).toInt ∧ (og_pays α T f s).toInt ≤ 99 := by
    unfold og_pays og_or
    split
    · exact hR.at (49 + s) (bd_full hs).2.2
    · exact clm_b (by decide)
  obtain ⟨n, hn, e⟩ := og_nat (hi := 99) b.1 b.2
  unfold og_pn
  rw [e, nI_clamp (by omega)]
  exact ⟨rfl, hn⟩
def og_gd (α : Nat → Int32) (T : Nat → Int32 → (Nat → Int64) → Option Int64) (f k : Nat) : Bool := decide (nI (9 + 10 * k) ≤ α (13 + f)) || og_turn α T f (nI (9 + 10 * k)) (α (19 + f))
def og_hd (α : Nat → Int32) (T : Nat → Int32 → (Nat → Int64) → Option Int64) (f : Nat) : Nat → Nat := fa_cnt (og_gd α T f)
def og_ptA (g : Nat) : Nat → Int64 := fun m => m.rec 1000000000000 (fun _ p => p * (nI g).toInt64 / 10)
theorem cPt {Q : Int64 → OgC → Prop} {σ : OgC} {g m : Nat} (hm : m ≤ 30) (K : Q (og_ptA g m) σ) : wX0_holds_105 Γ Q (nI m) (nI g) 1000000000000 (nI 0) σ := by
  refine for3 m (og_ptA g) nI (fun _ => σ) (fun _ => True) (fun K' k hk _ hK => ?_) trivial
  unfold wX0_holds_B105
  rw [nI_lei (by omega) (by omega)]
  by_cases c : m ≤ k
  · obtain rfl : k = m := by omega
    exact ⟨fun _ => K, fun e => absurd c e⟩
  · refine ⟨fun e => absurd e c, fun _ v2 e2 x6 e6 => ?_⟩
    rw [e2, e6, nI_s]
    exact hK (by omega) trivial
theorem mPt {Q : Int64 → OgS → Prop} {σ : OgS} {g m : Nat} (hm : m ≤ 30) (K : Q (og_ptA g m) σ) : wX5_holds_110 Q (nI m) (nI g) 1000000000000 (nI 0) σ := by
  refine for3 m (og_ptA g) nI (fun _ => σ) (fun _ => True) (fun K' k hk _ hK => ?_) trivial
  unfold wX5_holds_B110
  rw [nI_lei (by omega) (by omega)]
  by_cases c : m ≤ k
  · obtain rfl : k = m := by omega
    exact ⟨fun _ => K, fun e => absurd c e⟩
  · refine ⟨fun e => absurd e c, fun _ v2 e2 x6 e6 => ?_⟩
    rw [e2, e6, nI_s]
    exact hK (by omega) trivial
theorem hd_s (f k : Nat) : og_hd α T f (k + 1) = og_hd α T f k + (if og_gd α T f k then 1 else 0) := by
  unfold og_hd
  by_cases c : og_gd α T f k = true
  · rw [fa_cnt_yes c, if_pos c]
  · rw [fa_cnt_no (by simpa using c), if_neg c]
    rfl
theorem cHolds {Q : Int64 → OgC → Prop} {σ0 : OgC} (hC : LtC Z Γ 3 α nl T σ0) (hO : LtO α nl T) {f m : Nat} (hf : f < 6) (hm : m ≤ 30) (K : ∀ σ, EvC σ0 σ → Q (og_ptA (og_hd α T f 10) m) σ) : wX0_holds_39 Γ Q (nI f) (nI m) (nI 0) (nI 9) σ0 := by
  refine forE3 10 (fun k x3 x4 σ => x3 = nI (og_hd α T f k) ∧ x4 = nI (9 + 10 * k) ∧ EvC σ0 σ) (fun K' k x3 x4 σ hk hr hK => ?_) ⟨rfl, rfl, EvC.rf σ0⟩
  obtain ⟨rfl, rfl, hE⟩ := hr
  have hc := hE.lt hC
  have vf : vp_in (nI f) 6 := vp_in_nI hf (by decide)
  unfold wX0_holds_B39 wX0_holds_88 wX0_holds_89
  rw [show (99 : Int32) = nI 99 from rfl, nI_lti (by omega) (by omega), nI_clamp (by omega), hc.1.1.1 f hf, hc.1.1.2.1 f hf]
  by_cases c : 99 < 9 + 10 * k
  · obtain rfl : k = 10 := by omega
    exact ⟨fun _ => cPt hm (K σ hE), fun e => absurd c e⟩
  · refine ⟨fun e => absurd e c, fun _ => ⟨vf, ?_⟩⟩
    have yes : og_gd α T f k = true → ∀ σ', EvC σ0 σ' → K' (nI (og_hd α T f k) + 1) (nI (9 + 10 * k) + 10) σ' := by
      intro g σ' hE'
      refine hK _ _ _ (by omega) ⟨?_, nI_add (9 + 10 * k) 10, hE'⟩
      rw [hd_s, if_pos g, nI_s]
    have no : og_gd α T f k = false → ∀ σ', EvC σ0 σ' → K' (nI (og_hd α T f k) + 0) (nI (9 + 10 * k) + 10) σ' := by
      intro g σ' hE'
      refine hK _ _ _ (by omega) ⟨?_, nI_add (9 + 10 * k) 10, hE'⟩
      rw [hd_s, g]
      exact nI_add _ 0
    refine ⟨fun d v1 e1 x4 e4 => ?_, fun d => ⟨vf, cTurn hc hO hf (fun σ' hE' => ?_)⟩⟩
    · rw [e1, e4]
      refine yes ?_ σ hE
      unfold og_gd
      simp [d]
    · cases ht : og_turn α T f (nI (9 + 10 * k)) (α (19 + f)) with
      | true =>
        refine ⟨fun _ v1 e1 x4 e4 => ?_, fun e => absurd e (by decide)⟩
        rw [e1, e4]
        refine yes ?_ σ' (hE.tr hE')
        unfold og_gd
        simp [ht]
      | false =>
        refine ⟨fun e => absurd rfl e, fun _ v1 e1 x4 e4 => ?_⟩
        rw [e1, e4]
        refine no ?_ σ' (hE.tr hE')
        unfold og_gd
        simp [ht, d]
theorem mHolds {Q : Int64 → OgS → Prop} {σ0 : OgS} (hM : LtM α nl T σ0) (hO : LtO α nl T) {f m : Nat} (hf : f < 6) (hm : m ≤ 30) (K : ∀ σ, EvM σ0 σ → Q (og_ptA (og_hd α T f 10) m) σ) : wX5_holds_48 Q (nI f) (nI m) (nI 0) (nI 9) σ0 := by
  refine forE3 10 (fun k x3 x4 σ => x3 = nI (og_hd α T f k) ∧ x4 = nI (9 + 10 * k) ∧ EvM σ0 σ) (fun K' k x3 x4 σ hk hr hK => ?_) ⟨rfl, rfl, EvM.rf σ0⟩
  obtain ⟨rfl, rfl, hE⟩ := hr
  have hc := hE.lt hM
  unfold wX5_holds_B48 wX5_holds_93 wX5_holds_94
  rw [show (100 : Int32) = nI 100 from rfl, nI_lei (by omega) (by omega), show (13 : Int32) + nI f = nI (13 + f) from nI_add 13 f, show (19 : Int32) + nI f = nI (19 + f) from nI_add 19 f, nI_clamp (by omega), nI_clamp (by omega), hc.1.1 (13 + f) (by omega) (by omega), hc.1.1 (19 + f) (by omega) (by omega)]
  by_cases c : 100 ≤ 9 + 10 * k
  · obtain rfl : k = 10 := by omega
    exact ⟨fun _ => mPt hm (K σ hE), fun e => absurd c e⟩
  · refine ⟨fun e => absurd e c, fun _ => ⟨vp_in_nI (by omega) (by decide), ?_⟩⟩
    have yes : og_gd α T f k = true → ∀ σ', EvM σ0 σ' → K' (nI (og_hd α T f k) + 1) (nI (9 + 10 * k) + 10) σ' := by
      intro g σ' hE'
      refine hK _ _ _ (by omega) ⟨?_, nI_add (9 + 10 * k) 10, hE'⟩
      rw [hd_s, if_pos g, nI_s]
    have no : og_gd α T f k = false → ∀ σ', EvM σ0 σ' → K' (nI (og_hd α T f k) + 0) (nI (9 + 10 * k) + 10) σ' := by
      intro g σ' hE'
      refine hK _ _ _ (by omega) ⟨?_, nI_add (9 + 10 * k) 10, hE'⟩
      rw [hd_s, g]
      exact nI_add _ 0
    refine ⟨fun d v1 e1 x4 e4 => ?_, fun d => ⟨vp_in_nI (by omega) (by decide), mTurn hc hO hf (fun σ' hE' => ?_)⟩⟩
    · rw [e1, e4]
      refine yes ?_ σ hE
      unfold og_gd
      simp [d]
    · cases ht : og_turn α T f (nI (9 + 10 * k)) (α (19 + f)) with
      | true =>
        refine ⟨fun _ v1 e1 x4 e4 => ?_, fun e => absurd e (by decide)⟩
        rw [e1, e4]
        refine yes ?_ σ' (hE.tr hE')
        unfold og_gd
        simp [ht]
      | false =>
        refine ⟨fun e => absurd rfl e, fun _ v1 e1 x4 e4 => ?_⟩
        rw [e1, e4]
        refine no ?_ σ' (hE.tr hE')
        unfold og_gd
        simp [ht, d]
theorem tk_b (hR : Rng α) {f : Nat} (hf : f < 6) : α (25 + f) = 0 ∨ α (25 + f) = 1 := by
  obtain ⟨b, hb, eb⟩ := hR.nat (25 + f) (hi := 1) (bd_taken hf)
  rw [eb]
  rcases (show b = 0 ∨ b = 1 by omega) with rfl | rfl
  · exact Or.inl rfl
  · exact Or.inr rfl
theorem pHolds {x y : Int32} {Q : Int64 → Int64 → OgC → OgS → Prop} (h : Lw Z Γ α nl T σM σC) (K : ∀ (r : Int64) (σC' : OgC) (σM' : OgS), EvC σC σC' → EvM (σM.sI 0 0 0) σM' → Q r r σC' σM') : wX0_holds Γ (fun r σC' => wX5_holds (fun r' σM' => Q r r' σC' σM') x y σM) x y σC := by
  have hc := h.c
  have ho := h.o
  have hm := h.m.thrown 0
  have hR := ho.1
  obtain ⟨n, hn, hα⟩ := hR.nat 0 (hi := 6) rfl
  have hC : σC.I 2 11 = nI n := hc.1.2.2.2.2.2.trans hα
  have hM : (σM.sI 0 0 0).I 2 0 = nI n := (hm.1.1 0 (by omega) (by omega)).trans hα
  have K0 := K (-1) _ _ (EvC.rf _) (EvM.rf _)
  have n10 : ¬ (1 : Int32) = 0 := by decide
  have n01 : ¬ (0 : Int32) = 1 := by decide
  unfold wX0_holds wX5_holds wX0_holds_29 wX5_holds_38
  simp only [cIn_eq, mIn_eq, forall_eq, Int32.reduceToInt, Int64.reduceToInt, Int32.toInt_toInt64, if10, if11, if10n]
  refine cFort hn hC (fun f hf ex => ⟨fun e => absurd e (by decide), fun _ => ?_⟩) (fun g => ⟨fun _ => ?_, fun e => absurd rfl e⟩)
  · subst ex
    have e25 : (25 : Int32) + nI f = nI (25 + f) := nI_add 25 f
    have v25 : vp_in (nI (25 + f)) 5550 := vp_in_nI (by omega) (by decide)
    have mfo : ∀ P : Int32 → OgS → Prop, P 1 (σM.sI 0 0 0) → wX5_isFort P (nI f) (σM.sI 0 0 0) := fun P hp => mFort hn hM (fun _ _ _ => hp) (fun g => absurd ⟨f, hf, rfl⟩ g)
    have i25 : (σM.sI 0 0 0).I 2 (25 + f) = α (25 + f) := hm.1.1 _ (by omega) (by omega)
    by_cases cy : 0 ≤ y.toInt ∧ y.toInt ≤ 30
    · obtain ⟨m, hmm, rfl⟩ := x_nat (b := 30) (by decide) cy
      refine ⟨fun e => absurd cy e, fun _ => cTaken hc.1 hR (by omega) ?_⟩
      rcases tk_b hR (show f < 6 by omega) with tk | tk
      · rw [tk]
        refine ⟨fun _ => cHolds hc ho (by omega) hmm (fun σC' hE => mfo _ ?_), fun e => absurd rfl e⟩
        rw [e25, nI_clamp (by omega), i25, tk]
        exact ⟨fun e => absurd e n10, fun _ => ⟨v25, fun e => absurd e n01, fun _ => ⟨fun _ => mHolds hm ho (by omega) hmm (fun σM' hE' => K _ _ _ hE hE'), fun e => absurd cy e⟩⟩⟩
      · rw [tk]
        refine ⟨fun e => absurd e n10, fun _ => mfo _ ?_⟩
        rw [e25, nI_clamp (by omega), i25, tk]
        exact ⟨fun e => absurd e n10, fun _ => ⟨v25, fun _ => K0, fun e => absurd rfl e⟩⟩
    · refine ⟨fun _ => mfo _ ?_, fun e => absurd e cy⟩
      rw [e25, nI_clamp (by omega), i25]
      exact ⟨fun e => absurd e n10, fun _ => ⟨v25, fun _ => K0, fun _ => ⟨fun e => absurd e cy, fun _ => K0⟩⟩⟩
  · exact mFort hn hM (fun k hk e => absurd ⟨k, hk, e⟩ g) (fun _ => ⟨fun _ => K0, fun e => absurd rfl e⟩)
/-! ===== bluffs ===== -/
def og_can1 (α : Nat → Int32) (T : Nat → Int32 → (Nat → Int64) → Option Int64) (f : Nat) (x : Int32) (s : Nat) : Bool := !bt x s || (bt (α (19 + f)) s || !og_bar α T f s)
def og_can (α : Nat → Int32) (T : Nat → Int32 → (Nat → Int64) → Option Int64) (f : Nat) (x : Int32) : Nat → Bool := og_all (og_can1 α T f x)
def og_sm (α : Nat → Int32) (T : Nat → Int32 → (Nat → Int64) → Option Int64) (f : Nat) (x : Int32) : Nat → Nat := fun k => k.rec 0 (fun k s => s + (if bt x k then og_pn α T f k else 0))
theorem sm_s (f : Nat) (x : Int32) (k : Nat) : og_sm α T f x (k + 1) = og_sm α T f x k + (if bt x k then og_pn α T f k else 0) := rfl
theorem sm_b (hR : Rng α) (f : Nat) (x : Int32) : ∀ k, k ≤ 6 → og_sm α T f x k ≤ 99 * k
  | 0, _ => Nat.le_refl _
  | k + 1, hk => by
    have h1 := sm_b hR f x k (by omega)
    have h2 := (pn_ok (T := T) hR (f := f) (show k < 6 by omega)).2
    rw [sm_s]
    split <;> omega
def og_bl (α : Nat → Int32) (T : Nat → Int32 → (Nat → Int64) → Option Int64) (f : Nat) (ar : Int32) : Nat → Option Nat := fun k => k.rec none (fun k r => if og_can α T f (nI k) 6 = true ∧ (∀ j, r = some j → og_sm α T f (nI k) 6 < og_sm α T f (nI j) 6) ∧ og_turn α T f ar (nI k) = true then some k else r)
theorem bl_s (f : Nat) (ar : Int32) (k : Nat) : og_bl α T f ar (k + 1) = if og_can α T f (nI k) 6 = true ∧ (∀ j, og_bl α T f ar k = some j → og_sm α T f (nI k) 6 < og_sm α T f (nI j) 6) ∧ og_turn α T f ar (nI k) = true then some k else og_bl α T f ar k := by
  show (if _ then _ else _) = _
  congr
theorem bl_lt (f : Nat) (ar : Int32) : ∀ k j, og_bl α T f ar k = some j → j < k
  | 0, j, e => by cases e
  | k + 1, j, e => by
    rw [bl_s] at e
    split at e
    · cases e
      omega
    · have := bl_lt f ar k j e
      omega
def og_blL (α : Nat → Int32) (T : Nat → Int32 → (Nat → Int64) → Option Int64) (f far : Nat) (o : Option Nat) : Int32 := match o with
  | none => nI far
  | some j => nI (og_sm α T f (nI j) 6)
theorem blL_le (hR : Rng α) {f far k : Nat} (o : Option Nat) (hf : 1000 ≤ far) (hf2 : far < 2 ^ 31) : (og_blL α T f far o ≤ nI (og_sm α T f (nI k) 6)) ↔ ¬ ∀ j, o = some j → og_sm α T f (nI k) 6 < og_sm α T f (nI j) 6 := by
  have b1 := sm_b (T := T) hR f (nI k) 6 (by omega)
  cases o with
  | none =>
    show nI far ≤ _ ↔ _
    rw [nI_lei (by omega) (by omega)]
    exact ⟨fun z => absurd z (by omega), fun z => absurd (fun j e => by cases e) z⟩
  | some j =>
    have b2 := sm_b (T := T) hR f (nI j) 6 (by omega)
    show nI _ ≤ nI _ ↔ _
    rw [nI_lei (by omega) (by omega)]
    constructor
    · intro z q
      have := q j rfl
      omega
    · intro z
      by_cases q : og_sm α T f (nI k) 6 < og_sm α T f (nI j) 6
      · exact absurd (fun i e => by cases e; exact q) z
      · omega
def og_blR (α : Nat → Int32) (T : Nat → Int32 → (Nat → Int64) → Option Int64) (f : Nat) (ar w : Int32) : Int32 := match og_bl α T f ar 64 with
  | none => -1
  | some j => if w = 1 then nI j else nI (og_sm α T f (nI j) 6)
theorem mBluff {Q : Int32 → OgS → Prop} {σ0 : OgS} (hM : LtM α nl T σ0) (hO : LtO α nl T) {f : Nat} (hf : f < 6) {ar w : Int32} (K : ∀ σ, EvM σ0 σ → Q (og_blR α T f ar w) σ) : wX5_bluff_61 Q (nI f) ar w (nI 100000000) (-1) (nI 0) σ0 := by
  refine forE4 64 (fun k x4 x5 x6 σ => x4 = og_blL α T f 100000000 (og_bl α T f ar k) ∧ x5 = og_eI (og_bl α T f ar k) ∧ x6 = nI k ∧ EvM σ0 σ) (fun K' k x4 x5 x6 σ hk hr hK => ?_) ⟨rfl, rfl, rfl, EvM.rf σ0⟩
  obtain ⟨rfl, rfl, rfl, hE⟩ := hr
  unfold wX5_bluff_B61 wX5_bluff_199
  rw [show (64 : Int32) = nI 64 from rfl, nI_lei (by omega) (by omega)]
  by_cases c : 64 ≤ k
  · obtain rfl : k = 64 := by omega
    refine ⟨fun _ => ?_, fun e => absurd c e⟩
    have KK := K σ hE
    unfold og_blR at KK
    cases e : og_bl α T f ar 64 with
    | none =>
      rw [e] at KK
      exact ⟨fun _ => KK, fun z => absurd rfl z⟩
    | some j =>
      rw [e] at KK
      have := bl_lt f ar 64 j e
      dsimp only at KK
      refine ⟨fun z => absurd z (nI_m1 (by omega)), fun _ => ⟨fun z => ?_, fun z => ?_⟩⟩
      · rw [if_neg z] at KK
        exact KK
      · rw [if_pos z] at KK
        exact KK
  · refine ⟨fun e => absurd e c, fun _ => ?_⟩
    refine forE4 6 (fun s x7 x8 x9 σ => x9 = nI s ∧ EvM σ0 σ ∧ x8 = (if og_can α T f (nI k) s then 1 else 0) ∧ (og_can α T f (nI k) s = true → x7 = nI (og_sm α T f (nI k) s))) (fun K2 s x7 x8 x9 σ hs hr hK2 => ?_) ⟨rfl, hE, rfl, fun _ => rfl⟩
    obtain ⟨rfl, hE, rfl, h7⟩ := hr
    have hm := hE.lt hM
    have nx : ∀ σ', EvM σ0 σ' → (og_bl α T f ar (k + 1) = og_bl α T f ar k) → wX5_bluff_182 Q K' (nI f) ar w (og_blL α T f 100000000 (og_bl α T f ar k)) (og_eI (og_bl α T f ar k)) (nI k) σ' := by
      intro σ' hE' e x6 e6
      rw [e6, nI_s]
      exact hK _ _ _ _ (by omega) ⟨by rw [e], by rw [e], rfl, hE'⟩
    have out : (s = 6 ∨ og_can α T f (nI k) s = false) → wX5_bluff_151 Q K' (nI f) ar w (og_blL α T f 100000000 (og_bl α T f ar k)) (og_eI (og_bl α T f ar k)) (nI k) x7 (if og_can α T f (nI k) s then 1 else 0) σ := by
      intro hout
      unfold wX5_bluff_151
      rw [if10]
      refine ⟨fun z => nx σ hE ?_, fun z => ?_⟩
      · have z' : og_can α T f (nI k) s = false := by simpa using z
        have : og_can α T f (nI k) 6 = false := all_f z' 6 (by omega)
        rw [bl_s, if_neg (fun q => by rw [this] at q; exact absurd q.1 (by decide))]
      · have z' : og_can α T f (nI k) s = true := by simpa using z
        obtain rfl : s = 6 := hout.resolve_right (by rw [z']; decide)
        rw [h7 z', blL_le hO.1 _ (by decide) (by decide)]
        refine ⟨fun q => nx σ hE ?_, fun q => mTurn hm hO hf (fun σ' hE' => ?_)⟩
        · rw [bl_s, if_neg (fun y => q y.2.1)]
        · cases ht : og_turn α T f ar (nI k) with
          | true =>
            refine ⟨fun e => absurd e (by decide), fun _ x6 e6 => ?_⟩
            rw [e6, nI_s]
            have eb : og_bl α T f ar (k + 1) = some k := by rw [bl_s, if_pos ⟨z', Classical.not_not.mp q, ht⟩]
            exact hK _ _ _ _ (by omega) ⟨by rw [eb]; rfl, by rw [eb]; rfl, rfl, hE.tr hE'⟩
          | false =>
            refine ⟨fun _ => nx σ' (hE.tr hE') ?_, fun e => absurd rfl e⟩
            rw [bl_s, if_neg (fun y => by rw [ht] at y; exact absurd y.2.2 (by decide))]
    unfold wX5_bluff_B77
    rw [show (6 : Int32) = nI 6 from rfl, nI_lei (by omega) (by omega), if10]
    by_cases c6 : 6 ≤ s
    · exact ⟨fun _ => out (Or.inl (by omega)), fun e => absurd c6 e⟩
    · refine ⟨fun e => absurd e c6, fun _ => ⟨fun z => out (Or.inr (by simpa using z)), fun z => ?_⟩⟩
      have z' : og_can α T f (nI k) s = true := by simpa using z
      have pk := pn_ok (T := T) hO.1 (f := f) (show s < 6 by omega)
      have sb := sm_b (T := T) hO.1 f (nI k) s (by omega)
      rw [mIs (by omega)]
      have next : ∀ (b : Bool) (v : Int32) σ', EvM σ0 σ' → og_can1 α T f (nI k) s = b → (b = true → v = nI (og_sm α T f (nI k) (s + 1))) → ∀ t0 : Int32, t0 = (if b then 1 else 0) → wX5_bluff_145 Q K' K2 (nI f) ar w (og_blL α T f 100000000 (og_bl α T f ar k)) (og_eI (og_bl α T f ar k)) (nI k) v t0 (nI s) σ' := by
        intro b v σ' hE' hb hv t0 ht x9 e9
        have ec : og_can α T f (nI k) (s + 1) = b := by
          unfold og_can at z' ⊢
          rw [all_s, z', hb]
          rfl
        rw [e9, nI_s]
        exact hK2 _ _ _ _ (by omega) ⟨rfl, hE', by rw [ec]; exact ht, fun y => hv (by rw [← ec]; exact y)⟩
      cases hb : bt (nI k) s with
      | false =>
        refine ⟨fun _ => ?_, fun e => absurd rfl e⟩
        rw [z']
        refine next true x7 σ hE (by unfold og_can1; simp [hb]) (fun _ => ?_) 1 rfl
        rw [sm_s, hb, h7 z']
        rfl
      | true =>
        refine ⟨fun e => absurd e (by decide), fun _ => ?_⟩
        have e19 : (19 : Int32) + nI f = nI (19 + f) := nI_add 19 f
        rw [e19, nI_clamp (by omega), hm.1.1 _ (by omega) (by omega)]
        refine ⟨vp_in_nI (by omega) (by decide), ?_⟩
        rw [mIs (by omega)]
        have pay : ∀ (b : Bool) (t0 : Int32) σ', EvM σ0 σ' → og_can1 α T f (nI k) s = b → t0 = (if b then 1 else 0) → wX5_bluff_131 Q K' K2 (nI f) ar w (og_blL α T f 100000000 (og_bl α T f ar k)) (og_eI (og_bl α T f ar k)) (nI k) x7 (nI s) t0 σ' := by
          intro b t0 σ' hE' hbb ht
          refine mPays (hE'.lt hM) hO hf (by omega) (fun σ'' hE'' v3 e3 => ?_)
          refine next b v3 σ'' (hE'.tr hE'') hbb (fun _ => ?_) t0 ht
          rw [e3, h7 z', pk.1, nI_add, sm_s, if_pos hb]
        cases hs2 : bt (α (19 + f)) s with
        | true =>
          exact ⟨fun _ => pay true 1 σ hE (by unfold og_can1; simp [hb, hs2]) rfl, fun e => absurd e (by decide)⟩
        | false =>
          refine ⟨fun e => absurd rfl e, fun _ => mBar hm hO hf (fun σ' hE' => ?_)⟩
          cases hbar : og_bar α T f s with
          | true => exact ⟨fun _ => pay false 0 σ' (hE.tr hE') (by unfold og_can1; simp [hb, hs2, hbar]) rfl, fun e => absurd e (by decide)⟩
          | false => exact ⟨fun e => absurd rfl e, fun _ => pay true 1 σ' (hE.tr hE') (by unfold og_can1; simp [hb, hs2, hbar]) rfl⟩
end Bl
