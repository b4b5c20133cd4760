section Bl2
variable {Z : Nat → Prop} {Γ : OgG} {α : Nat → Int32} {nl : Nat} {T : Nat → Int32 → (Nat → Int64) → Option Int64} {σM : OgS} {σC : OgC}
theorem bt_nI64 : ∀ k : Fin 64, ∀ i : Fin 32, 6 ≤ i.val → bt (nI k.val) i.val = false := by decide +kernel
theorem all_t {p : Nat → Bool} : ∀ n, og_all p n = true ↔ ∀ i, i < n → p i = true
  | 0 => ⟨fun _ i hi => absurd hi (by omega), fun _ => rfl⟩
  | n + 1 => by
    rw [all_s, Bool.and_eq_true, all_t n]
    constructor
    · rintro ⟨a, b⟩ i hi
      by_cases e : i = n
      · rw [e]
        exact b
      · exact a i (by omega)
    · intro h
      exact ⟨fun i hi => h i (by omega), h n (by omega)⟩
theorem may_can {f k : Nat} (hk : k < 64) {m : Int32} (hm : ∀ i, i < 32 → bt m i = (bt (α (19 + f)) i || (decide (i < 6) && !og_bar α T f i))) : (nI k &&& (m ^^^ (-1 : Int32))) = 0 ↔ og_can α T f (nI k) 6 = true := by
  unfold og_can
  rw [all_t]
  constructor
  · intro h i hi
    have hb : bt (nI k &&& (m ^^^ (-1 : Int32))) i = false := by rw [h, b_0]
    rw [b_and, b_m1x _ (by omega), hm i (by omega)] at hb
    unfold og_can1
    simp [hi] at hb
    cases h1 : bt (nI k) i <;> cases h2 : bt (α (19 + f)) i <;> cases h3 : og_bar α T f i <;> simp_all
  · intro h
    refine b_ext (fun i hi => ?_)
    rw [b_and, b_m1x _ hi, hm i hi, b_0]
    by_cases h6 : i < 6
    · have := h i h6
      unfold og_can1 at this
      cases h1 : bt (nI k) i <;> cases h2 : bt (α (19 + f)) i <;> cases h3 : og_bar α T f i <;> simp_all
    · rw [bt_nI64 ⟨k, hk⟩ ⟨i, hi⟩ (by show 6 ≤ i; omega)]
      rfl
theorem cBluffL {Q : Int32 → OgC → Prop} {σ0 : OgC} (hC : LtC Z Γ 3 α nl T σ0) (hO : LtO α nl T) {f : Nat} (hf : f < 6) {ar w m : Int32} (hm : ∀ i, i < 32 → bt m i = (bt (α (19 + f)) i || (decide (i < 6) && !og_bar α T f i))) (K : ∀ σ, EvC σ0 σ → Q (og_blR α T f ar w) σ) : wX0_bluff_102 Γ Q (nI f) ar w m (-1) (nI 1000000) (nI 0) σ0 := by
  refine forE4 64 (fun k x5 x6 x7 σ => x5 = og_eI (og_bl α T f ar k) ∧ x6 = og_blL α T f 1000000 (og_bl α T f ar k) ∧ x7 = nI k ∧ EvC σ0 σ) (fun K' k x5 x6 x7 σ hk hr hK => ?_) ⟨rfl, rfl, rfl, EvC.rf σ0⟩
  obtain ⟨rfl, rfl, rfl, hE⟩ := hr
  unfold wX0_bluff_B102 wX0_bluff_217
  rw [show (64 : Int32) = nI 64 from rfl, nI_lei (by omega) (by omega)]
  by_cases c : 64 ≤ k
  · obtain rfl : k = 64 := by omega
    refine ⟨fun _ => ?_, fun e => absurd c e⟩
    have KK := K σ hE
    unfold og_blR at KK
    cases e : og_bl α T f ar 64 with
    | none =>
      rw [e] at KK
      exact ⟨fun _ => KK, fun z => absurd rfl z⟩
    | some j =>
      rw [e] at KK
      have := bl_lt f ar 64 j e
      dsimp only at KK
      refine ⟨fun z => absurd z (nI_m1 (by omega)), fun _ => ⟨fun z => ?_, fun z => ?_⟩⟩
      · rw [if_neg z] at KK
        exact KK
      · rw [if_pos z] at KK
        exact KK
  · refine ⟨fun e => absurd e c, fun _ => ?_⟩
    have nx : ∀ σ', EvC σ0 σ' → (og_bl α T f ar (k + 1) = og_bl α T f ar k) → wX0_bluff_200 Γ Q K' (nI f) ar w m (og_eI (og_bl α T f ar k)) (og_blL α T f 1000000 (og_bl α T f ar k)) (nI k) σ' := by
      intro σ' hE' e x6 e6
      rw [e6, nI_s]
      exact hK _ _ _ _ (by omega) ⟨by rw [e], by rw [e], rfl, hE'⟩
    rw [may_can (show k < 64 by omega) hm]
    refine ⟨fun z => ?_, fun z => nx σ hE ?_⟩
    · refine forE3 6 (fun s x8 x9 σ => x9 = nI s ∧ EvC σ0 σ ∧ x8 = nI (og_sm α T f (nI k) s)) (fun K2 s x8 x9 σ hs hr hK2 => ?_) ⟨rfl, hE, rfl⟩
      obtain ⟨rfl, hE, rfl⟩ := hr
      have hc := hE.lt hC
      unfold wX0_bluff_B128 wX0_bluff_158
      rw [show (6 : Int32) = nI 6 from rfl, nI_lei (by omega) (by omega)]
      by_cases c6 : 6 ≤ s
      · obtain rfl : s = 6 := by omega
        refine ⟨fun _ => ?_, fun e => absurd c6 e⟩
        rw [blL_le hO.1 _ (by decide) (by decide)]
        refine ⟨fun q => nx σ hE ?_, fun q => cTurn hc hO hf (fun σ' hE' => ?_)⟩
        · rw [bl_s, if_neg (fun y => q y.2.1)]
        · cases ht : og_turn α T f ar (nI k) with
          | true =>
            refine ⟨fun _ x6 e6 => ?_, fun e => absurd e (by decide)⟩
            rw [e6, nI_s]
            have eb : og_bl α T f ar (k + 1) = some k := by rw [bl_s, if_pos ⟨z, Classical.not_not.mp q, ht⟩]
            exact hK _ _ _ _ (by omega) ⟨by rw [eb]; rfl, by rw [eb]; rfl, rfl, hE.tr hE'⟩
          | false =>
            refine ⟨fun e => absurd rfl e, fun _ => nx σ' (hE.tr hE') ?_⟩
            rw [bl_s, if_neg (fun y => by rw [ht] at y; exact absurd y.2.2 (by decide))]
      · have pk := pn_ok (T := T) hO.1 (f := f) (show s < 6 by omega)
        have sb := sm_b (T := T) hO.1 f (nI k) s (by omega)
        refine ⟨fun e => absurd e c6, fun _ => ?_⟩
        rw [cIs (by omega)]
        cases hb : bt (nI k) s with
        | false =>
          refine ⟨fun _ v1 e1 x9 e9 => ?_, fun e => absurd rfl e⟩
          rw [e1, e9, nI_s]
          refine hK2 _ _ _ (by omega) ⟨rfl, hE, ?_⟩
          rw [sm_s, hb]
          exact nI_add _ 0
        | true =>
          refine ⟨fun e => absurd e (by decide), fun _ => cPays hc hO hf (by omega) (fun σ' hE' v1 e1 x9 e9 => ?_)⟩
          rw [e1, e9, nI_s]
          refine hK2 _ _ _ (by omega) ⟨rfl, hE.tr hE', ?_⟩
          rw [sm_s, if_pos hb, pk.1, nI_add]
    · rw [bl_s, if_neg (fun y => z y.1)]
theorem cBluff {Q : Int32 → OgC → Prop} {σ0 : OgC} (hC : LtC Z Γ 3 α nl T σ0) (hO : LtO α nl T) {f : Nat} (hf : f < 6) {ar w : Int32} (K : ∀ σ, EvC σ0 σ → Q (og_blR α T f ar w) σ) : wX0_bluff_51 Γ Q (nI f) ar w (α (19 + f)) (nI 0) σ0 := by
  refine forE3 6 (fun k x4 x5 σ => x5 = nI k ∧ EvC σ0 σ ∧ ∀ i, i < 32 → bt x4 i = (bt (α (19 + f)) i || (decide (i < k) && !og_bar α T f i))) (fun K' k x4 x5 σ hk hr hK => ?_) ⟨rfl, EvC.rf σ0, fun i hi => by simp⟩
  obtain ⟨rfl, hE, hm⟩ := hr
  have hc := hE.lt hC
  unfold wX0_bluff_B51 wX0_bluff_82
  rw [show (6 : Int32) = nI 6 from rfl, nI_lei (by omega) (by omega)]
  by_cases c : 6 ≤ k
  · obtain rfl : k = 6 := by omega
    exact ⟨fun _ => cBluffL hc hO hf hm (fun σ' hE' => K σ' (hE.tr hE')), fun e => absurd c e⟩
  · refine ⟨fun e => absurd e c, fun _ => cBar hc hO hf (fun σ' hE' => ?_)⟩
    cases hb : og_bar α T f k with
    | true =>
      refine ⟨fun e => absurd e (by decide), fun _ v1 e1 x5 e5 => ?_⟩
      rw [e1, e5, nI_s]
      refine hK _ _ _ (by omega) ⟨rfl, hE.tr hE', fun i hi => ?_⟩
      rw [b_or, b_0, hm i hi, Bool.or_false]
      by_cases e : i = k
      · subst e
        simp [hb]
      · have : decide (i < k + 1) = decide (i < k) := by
          by_cases q : i < k
          · simp [q, show i < k + 1 by omega]
          · simp [q, show ¬ i < k + 1 by omega]
        rw [this]
    | false =>
      refine ⟨fun _ v1 e1 x5 e5 => ?_, fun e => absurd rfl e⟩
      rw [e1, e5, nI_s]
      refine hK _ _ _ (by omega) ⟨rfl, hE.tr hE', fun i hi => ?_⟩
      rw [b_or, bt_one (by omega) hi, hm i hi]
      by_cases e : i = k
      · subst e
        simp [hb]
      · have : decide (i < k + 1) = decide (i < k) := by
          by_cases q : i < k
          · simp [q, show i < k + 1 by omega]
          · simp [q, show ¬ i < k + 1 by omega]
        rw [this]
        simp [e]
theorem pBluff {x y z : Int32} {Q : Int32 → Int32 → OgC → OgS → Prop} (h : Lw Z Γ α nl T σM σC) (K : ∀ (r : Int32) (σC' : OgC) (σM' : OgS), EvC σC σC' → EvM (σM.sI 0 0 0) σM' → Q r r σC' σM') : wX0_bluff Γ (fun r σC' => wX5_bluff (fun r' σM' => Q r r' σC' σM') x y z σM) x y z σC := by
  have hc := h.c
  have ho := h.o
  have hm := h.m.thrown 0
  have hR := ho.1
  obtain ⟨n, hn, hα⟩ := hR.nat 0 (hi := 6) rfl
  have hC : σC.I 2 11 = nI n := hc.1.2.2.2.2.2.trans hα
  have hM : (σM.sI 0 0 0).I 2 0 = nI n := (hm.1.1 0 (by omega) (by omega)).trans hα
  have K0 := K (-1) _ _ (EvC.rf _) (EvM.rf _)
  have n10 : ¬ (1 : Int32) = 0 := by decide
  have n01 : ¬ (0 : Int32) = 1 := by decide
  unfold wX0_bluff wX5_bluff wX0_isArmy
  simp only [cIn_eq, mIn_eq, forall_eq, Int32.reduceToInt, Int64.reduceToInt, Int32.toInt_toInt64, if10, if11, if10n]
  refine cFort hn hC (fun f hf ex => ⟨fun e => absurd e (by decide), fun _ => ?_⟩) (fun g => ⟨fun _ => ?_, fun e => absurd rfl e⟩)
  · subst ex
    have e25 : (25 : Int32) + nI f = nI (25 + f) := nI_add 25 f
    have v25 : vp_in (nI (25 + f)) 5550 := vp_in_nI (by omega) (by decide)
    have mfo : ∀ P : Int32 → OgS → Prop, P 1 (σM.sI 0 0 0) → wX5_isFort P (nI f) (σM.sI 0 0 0) := fun P hp => mFort hn hM (fun _ _ _ => hp) (fun g => absurd ⟨f, hf, rfl⟩ g)
    have i25 : (σM.sI 0 0 0).I 2 (25 + f) = α (25 + f) := hm.1.1 _ (by omega) (by omega)
    by_cases cy : 1 ≤ y.toInt ∧ y.toInt ≤ 99
    · by_cases cz : 0 ≤ z.toInt ∧ z.toInt ≤ 1
      · refine ⟨Or.inr cy, fun e => absurd cy e, fun _ => ⟨fun e => absurd cz e, fun _ => cTaken hc.1 hR (by omega) ?_⟩⟩
        rcases tk_b hR (show f < 6 by omega) with tk | tk
        · rw [tk]
          refine ⟨fun _ => ⟨vp_in_nI (by omega) (by decide), ?_⟩, fun e => absurd rfl e⟩
          rw [nI_clamp (by omega), hc.1.1.2.1 f (by omega)]
          refine cBluff hc ho (by omega) (fun σC' hE => mfo _ ?_)
          rw [e25, nI_clamp (by omega), i25, tk]
          exact ⟨fun e => absurd e n10, fun _ => ⟨v25, fun e => absurd e n01, fun _ => ⟨fun e => absurd cy e, fun _ => ⟨fun _ => mBluff hm ho (by omega) (fun σM' hE' => K _ _ _ hE hE'), fun e => absurd cz e⟩⟩⟩⟩
        · rw [tk]
          refine ⟨fun e => absurd e n10, fun _ => mfo _ ?_⟩
          rw [e25, nI_clamp (by omega), i25, tk]
          exact ⟨fun e => absurd e n10, fun _ => ⟨v25, fun _ => K0, fun e => absurd rfl e⟩⟩
      · refine ⟨Or.inr cy, fun e => absurd cy e, fun _ => ⟨fun _ => mfo _ ?_, fun e => absurd e cz⟩⟩
        rw [e25, nI_clamp (by omega), i25]
        exact ⟨fun e => absurd e n10, fun _ => ⟨v25, fun _ => K0, fun _ => ⟨fun e => absurd cy e, fun _ => ⟨fun e => absurd e cz, fun _ => K0⟩⟩⟩⟩
    · refine ⟨Or.inl cy, fun _ => mfo _ ?_, fun e => absurd e cy⟩
      rw [e25, nI_clamp (by omega), i25]
      exact ⟨fun e => absurd e n10, fun _ => ⟨v25, fun _ => K0, fun _ => ⟨fun _ => K0, fun e => absurd e cy⟩⟩⟩
  · exact mFort hn hM (fun k hk e => absurd ⟨k, hk, e⟩ g) (fun _ => ⟨fun _ => K0, fun e => absurd rfl e⟩)
end Bl2
