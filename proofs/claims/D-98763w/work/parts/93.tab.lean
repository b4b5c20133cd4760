/-! ===== steps on a table at t ===== -/
/-- a table's cells alone are other -/
def TabFr (t : Nat) (σ σ' : OgC) : Prop := σ'.R = σ.R ∧ (∀ a, ¬ (t ≤ a ∧ a < t + 4) → σ'.I a = σ.I a) ∧ ∀ k, k ≠ 3 → k ≠ 4 → σ'.I t k = σ.I t k
theorem TabFr.rf (t : Nat) (σ : OgC) : TabFr t σ σ := ⟨rfl, fun _ _ => rfl, fun _ _ _ => rfl⟩
theorem TabFr.tr {t : Nat} {a b c : OgC} (h : TabFr t a b) (h' : TabFr t b c) : TabFr t a c := ⟨h'.1.trans h.1, fun x hx => (h'.2.1 x hx).trans (h.2.1 x hx), fun k h1 h2 => (h'.2.2 k h1 h2).trans (h.2.2 k h1 h2)⟩
theorem EvC.tf {σ σ' : OgC} (h : EvC σ σ') (t : Nat) : TabFr t σ σ' := ⟨h.2.1, fun a _ => by rw [h.1], fun k _ _ => by rw [h.1]⟩
theorem TabFr.put {t : Nat} {σ σ' : OgC} (h : TabFr t σ σ') (a k : Nat) (v : Int32) (ha : t ≤ a ∧ a < t + 4) (hk : a = t → k = 3 ∨ k = 4) : TabFr t σ (σ'.sI a k v) := by
  refine ⟨h.1, fun x hx => ?_, fun j h3 h4 => ?_⟩
  · funext j
    rw [C_II, if_neg (by omega), h.2.1 x hx]
  · rw [C_II]
    split
    · rw [if_neg (by omega)]
      exact h.2.2 j h3 h4
    · exact h.2.2 j h3 h4
/-- where tables may lie: away from the state's cells -/
def TOk (t : Nat) : Prop := t = 3 ∨ 18 ≤ t
/-- a place of the table is put, on the class's side -/
theorem RdT.put {t : Nat} {α : Nat → Int32} {σ : OgC} (h : RdT t α σ) (ht : TOk t) {c p k : Nat} (hc : (c = 1 ∧ p = 13 ∧ k < 6) ∨ (c = 2 ∧ p = 19 ∧ k < 6) ∨ (c = 3 ∧ p = 9 ∧ k < 4)) (v : Int32) : RdT t (upd α (p + k) v) (σ.sI (t + c) k v) := by
  obtain ⟨⟨h1, h2, h3, h4, h5⟩, ⟨g1, g2, g3, g4⟩, ⟨s1, s2, s3, s4⟩⟩ := h
  have ht' : t = 3 ∨ 18 ≤ t := ht
  refine ⟨⟨fun j hj => ?_, fun j hj => ?_, fun j hj => ?_, ?_, ⟨fun f hf => ?_, fun f h6 h32 => ?_⟩⟩, ⟨fun j hj => ?_, fun j hj => ?_, fun j hj => ?_, fun j hj => ?_⟩, ?_, ?_, ?_, ?_⟩
  · rw [C_II]
    by_cases e : c = 1
    · by_cases e2 : j = k
      · rw [if_pos (by omega), if_pos e2, show 13 + j = p + k by omega, pk_us]
      · rw [if_pos (by omega), if_neg e2, pk_un (by omega)]
        exact h1 j hj
    · rw [if_neg (by omega), pk_un (by omega)]
      exact h1 j hj
  · rw [C_II]
    by_cases e : c = 2
    · by_cases e2 : j = k
      · rw [if_pos (by omega), if_pos e2, show 19 + j = p + k by omega, pk_us]
      · rw [if_pos (by omega), if_neg e2, pk_un (by omega)]
        exact h2 j hj
    · rw [if_neg (by omega), pk_un (by omega)]
      exact h2 j hj
  · rw [C_II]
    by_cases e : c = 3
    · by_cases e2 : j = k
      · rw [if_pos (by omega), if_pos e2, show 9 + j = p + k by omega, pk_us]
      · rw [if_pos (by omega), if_neg e2, pk_un (by omega)]
        exact h3 j hj
    · rw [if_neg (by omega), pk_un (by omega)]
      exact h3 j hj
  · rw [C_II, if_neg (by omega), pk_un (by omega)]
    exact h4
  · rw [C_II, if_neg (by omega), pk_un (by omega)]
    exact h5.1 f hf
  · rw [C_II, if_neg (by omega)]
    exact h5.2 f h6 h32
  · rw [C_II, if_neg (by omega), pk_un (by omega)]
    exact g1 j hj
  · rw [C_II, if_neg (by omega), pk_un (by omega)]
    exact g2 j hj
  · rw [C_II, if_neg (by omega), pk_un (by omega)]
    exact g3 j hj
  · rw [C_II, if_neg (by omega), pk_un (by omega)]
    exact g4 j hj
  · rw [C_II, if_neg (by omega), pk_un (by omega)]
    exact s1
  · rw [C_II, if_neg (by omega), pk_un (by omega)]
    exact s2
  · rw [C_II, if_neg (by omega), pk_un (by omega)]
    exact s3
  · rw [C_II, if_neg (by omega), pk_un (by omega)]
    exact s4
theorem RdT.day {t : Nat} {α : Nat → Int32} {σ : OgC} (h : RdT t α σ) (ht : TOk t) (v : Int32) : RdT t (upd α 6 v) (σ.sI t 4 v) := by
  obtain ⟨⟨h1, h2, h3, h4, h5⟩, ⟨g1, g2, g3, g4⟩, ⟨s1, s2, s3, s4⟩⟩ := h
  have ht' : t = 3 ∨ 18 ≤ t := ht
  refine ⟨⟨fun j hj => ?_, fun j hj => ?_, fun j hj => ?_, ?_, ⟨fun f hf => ?_, fun f h6 h32 => ?_⟩⟩, ⟨fun j hj => ?_, fun j hj => ?_, fun j hj => ?_, fun j hj => ?_⟩, ?_, ?_, ?_, ?_⟩
  · rw [C_II, if_neg (by omega), pk_un (by omega)]
    exact h1 j hj
  · rw [C_II, if_neg (by omega), pk_un (by omega)]
    exact h2 j hj
  · rw [C_II, if_neg (by omega), pk_un (by omega)]
    exact h3 j hj
  · rw [C_II, if_pos rfl, if_pos rfl, pk_us]
  · rw [C_II, if_pos rfl, if_neg (by omega), pk_un (by omega)]
    exact h5.1 f hf
  · rw [C_II, if_pos rfl, if_neg (by omega)]
    exact h5.2 f h6 h32
  · rw [C_II, if_neg (by omega), pk_un (by omega)]
    exact g1 j hj
  · rw [C_II, if_neg (by omega), pk_un (by omega)]
    exact g2 j hj
  · rw [C_II, if_neg (by omega), pk_un (by omega)]
    exact g3 j hj
  · rw [C_II, if_neg (by omega), pk_un (by omega)]
    exact g4 j hj
  · rw [C_II, if_neg (by omega), pk_un (by omega)]
    exact s1
  · rw [C_II, if_neg (by omega), pk_un (by omega)]
    exact s2
  · rw [C_II, if_neg (by omega), pk_un (by omega)]
    exact s3
  · rw [C_II, if_neg (by omega), pk_un (by omega)]
    exact s4
theorem RdT.fill {t : Nat} {α : Nat → Int32} {σ : OgC} (h : RdT t α σ) (ht : TOk t) {n : Nat} (hn : n < 6) : RdT t (upd α (25 + n) 1) (σ.sI t 3 ((σ.I t 3) ||| ((1 : Int32) <<< (nI n &&& 31)))) := by
  obtain ⟨⟨h1, h2, h3, h4, h5⟩, ⟨g1, g2, g3, g4⟩, ⟨s1, s2, s3, s4⟩⟩ := h
  have ht' : t = 3 ∨ 18 ≤ t := ht
  refine ⟨⟨fun j hj => ?_, fun j hj => ?_, fun j hj => ?_, ?_, ⟨fun f hf => ?_, fun f h6 h32 => ?_⟩⟩, ⟨fun j hj => ?_, fun j hj => ?_, fun j hj => ?_, fun j hj => ?_⟩, ?_, ?_, ?_, ?_⟩
  · rw [C_II, if_neg (by omega), pk_un (by omega)]
    exact h1 j hj
  · rw [C_II, if_neg (by omega), pk_un (by omega)]
    exact h2 j hj
  · rw [C_II, if_neg (by omega), pk_un (by omega)]
    exact h3 j hj
  · rw [C_II, if_pos rfl, if_neg (by omega), pk_un (by omega)]
    exact h4
  · rw [C_II, if_pos rfl, if_pos rfl, bt_sh _ (by omega), b_or, bt_one (by omega) (by omega)]
    by_cases e : f = n
    · subst e
      rw [pk_us]
      simp
    · rw [pk_un (by omega), h5.1 f hf, bt_sh _ (by omega)]
      simp [e]
  · rw [C_II, if_pos rfl, if_pos rfl, b_or, h5.2 f h6 h32, bt_one (by omega) h32]
    simp
    omega
  · rw [C_II, if_neg (by omega), pk_un (by omega)]
    exact g1 j hj
  · rw [C_II, if_neg (by omega), pk_un (by omega)]
    exact g2 j hj
  · rw [C_II, if_neg (by omega), pk_un (by omega)]
    exact g3 j hj
  · rw [C_II, if_neg (by omega), pk_un (by omega)]
    exact g4 j hj
  · rw [C_II, if_neg (by omega), pk_un (by omega)]
    exact s1
  · rw [C_II, if_neg (by omega), pk_un (by omega)]
    exact s2
  · rw [C_II, if_neg (by omega), pk_un (by omega)]
    exact s3
  · rw [C_II, if_neg (by omega), pk_un (by omega)]
    exact s4
/-- laws stay where they are -/
def Agr (σ σ' : OgC) : Prop := ∀ a, (a = 16 ∨ a = 17 ∨ 193 ≤ a) → σ'.I a = σ.I a ∧ σ'.R a = σ.R a
def ZO (Z : Nat → Prop) : Prop := ∀ x, Z x → 193 ≤ x
theorem LsC.keep {Z : Nat → Prop} {Γ : OgG} {σ σ' : OgC} {nl : Nat} {T : Nat → Int32 → (Nat → Int64) → Option Int64} (hL : LsC Z Γ σ 16 nl T) (hZ : ZO Z) (hA : Agr σ σ') : LsC Z Γ σ' 16 nl T := by
  obtain ⟨h1, b, m, h2, h3, h4, h5, h6⟩ := hL
  have hb : b = 16 ∨ b = 17 ∨ 193 ≤ b := h2.2.elim (fun e => Or.inr (Or.inl e)) (fun e => Or.inr (Or.inr e))
  refine ⟨by rw [(hA 16 (Or.inl rfl)).1]; exact h1, b, m, ⟨by rw [(hA 16 (Or.inl rfl)).2]; exact h2.1, h2.2⟩, h3, h4, h5, fun i hi => ?_⟩
  obtain ⟨a, ha, hd⟩ := h6 i hi
  exact ⟨a, by rw [(hA b hb).2]; exact ha, hd.ag (fun x hx => ⟨rfl, hA x (Or.inr (Or.inr (hZ x hx)))⟩)⟩
theorem TabFr.agr {t : Nat} {σ σ' : OgC} (h : TabFr t σ σ') (ht : t = 3 ∨ t = 34) : Agr σ σ' := fun a ha => ⟨h.2.1 a (by omega), by rw [h.1]⟩
theorem xr_or : ∀ x : Fin 64, ∀ k : Fin 6, (bt (nI x.val) k.val = false → nI x.val ^^^ ((1 : Int32) <<< (nI k.val &&& 31)) = nI x.val ||| ((1 : Int32) <<< (nI k.val &&& 31))) ∧ (bt (nI x.val) k.val = true → nI x.val ^^^ ((1 : Int32) <<< (nI k.val &&& 31)) = nI x.val - ((1 : Int32) <<< (nI k.val &&& 31))) ∧ 0 ≤ (nI x.val ^^^ ((1 : Int32) <<< (nI k.val &&& 31))).toInt ∧ (nI x.val ^^^ ((1 : Int32) <<< (nI k.val &&& 31))).toInt ≤ 63 := by decide +kernel
theorem xr_ok {x : Int32} (h : 0 ≤ x.toInt ∧ x.toInt ≤ 63) {k : Nat} (hk : k < 6) : (bt x k = false → x ^^^ ((1 : Int32) <<< (nI k &&& 31)) = x ||| ((1 : Int32) <<< (nI k &&& 31))) ∧ (bt x k = true → x ^^^ ((1 : Int32) <<< (nI k &&& 31)) = x - ((1 : Int32) <<< (nI k &&& 31))) ∧ 0 ≤ (x ^^^ ((1 : Int32) <<< (nI k &&& 31))).toInt ∧ (x ^^^ ((1 : Int32) <<< (nI k &&& 31))).toInt ≤ 63 := by
  obtain ⟨n, hn, rfl⟩ := x_nat (b := 63) (by decide) h
  exact xr_or ⟨n, by omega⟩ ⟨k, hk⟩
/-- a sign is turned -/
def og_flip (α : Nat → Int32) (f s : Nat) : Nat → Int32 := upd α (19 + f) (α (19 + f) ^^^ ((1 : Int32) <<< (nI s &&& 31)))
section Tab
variable {Z : Nat → Prop} {Γ : OgG} {t : Nat} {α : Nat → Int32} {nl : Nat} {T : Nat → Int32 → (Nat → Int64) → Option Int64}
theorem cFlip {Q : OgC → Prop} {σ : OgC} (hC : LtC Z Γ t α nl T σ) (hZ : ZO Z) (ht : t = 3 ∨ t = 34) {f s : Nat} (hf : f < 6) (K : ∀ σ', LtC Z Γ t (og_flip α f s) nl T σ' → TabFr t σ σ' → Q σ') : wX2_turns Γ Q t (nI f) (nI s) σ := by
  have tk : TOk t := by
    unfold TOk
    omega
  unfold wX2_turns
  rw [nI_clamp (by omega), hC.1.1.2.1 f hf]
  refine ⟨vp_in_nI hf (by decide), fun v1 e1 => ⟨vp_in_nI hf (by decide), fun s2 e2 => ?_⟩⟩
  subst e1 e2
  have fr : TabFr t σ (σ.sI (t + 2) f (α (19 + f) ^^^ ((1 : Int32) <<< (nI s &&& 31)))) := (TabFr.rf t σ).put (t + 2) f _ (by omega) (by omega)
  exact K _ ⟨hC.1.put tk (Or.inr (Or.inl ⟨rfl, rfl, hf⟩)) _, hC.2.keep hZ (fr.agr ht)⟩ fr
theorem Rng.flip (h : Rng α) {f s : Nat} (hf : f < 6) (hs : s < 6) : Rng (og_flip α f s) := by
  have b := xr_ok (h.at (19 + f) (bd_shown hf)) hs
  exact h.set (19 + f) _ (bd_shown hf) b.2.2.1 b.2.2.2
def og_cs (α : Nat → Int32) (T : Nat → Int32 → (Nat → Int64) → Option Int64) (f s : Nat) : Bool := decide (α (25 + f) = 0) && (!bt (α (19 + f)) s && !og_bar α T f s)
theorem cCanShow {Q : Int32 → OgC → Prop} {σ : OgC} (hC : LtC Z Γ t α nl T σ) (hO : LtO α nl T) {f s : Nat} (hf : f < 6) (hs : s < 6) (K : ∀ σ', EvC σ σ' → Q (if og_cs α T f s then 1 else 0) σ') : wX0_canShow Γ Q t (nI f) (nI s) σ := by
  unfold wX0_canShow
  refine cTaken hC.1 hO.1 hf ?_
  have hh := hC.1.1.2.1 f hf
  rcases tk_b hO.1 hf with tk | tk
  · rw [tk, nI_clamp (by omega), hh, cIs (by omega)]
    refine ⟨fun e => absurd rfl e, fun _ => ⟨vp_in_nI hf (by decide), ?_⟩⟩
    cases hb : bt (α (19 + f)) s with
    | true =>
      have KK := K σ (EvC.rf σ)
      unfold og_cs at KK
      simp [hb] at KK
      exact ⟨fun _ => KK, fun e => absurd e (by decide)⟩
    | false =>
      refine ⟨fun e => absurd rfl e, fun _ => cBar hC hO hf (fun σ' hE => ?_)⟩
      have KK := K σ' hE
      unfold og_cs at KK
      simp [hb, tk] at KK
      cases hr : og_bar α T f s with
      | true =>
        simp [hr] at KK
        exact ⟨fun _ => KK, fun e => absurd e (by decide)⟩
      | false =>
        simp [hr] at KK
        exact ⟨fun e => absurd rfl e, fun _ => KK⟩
  · rw [tk]
    have KK := K σ (EvC.rf σ)
    unfold og_cs at KK
    simp [tk] at KK
    exact ⟨fun _ => KK, fun e => absurd e (by decide)⟩
theorem mCanShow {Q : Int32 → OgS → Prop} {σ : OgS} (hM : LtM α nl T σ) (hO : LtO α nl T) {f s : Nat} (hf : f < 6) (hs : s < 6) (K : ∀ σ', EvM σ σ' → Q (if og_cs α T f s then 1 else 0) σ') : wX5_canShow Q (nI f) (nI s) σ := by
  unfold wX5_canShow
  rw [show (25 : Int32) + nI f = nI (25 + f) from nI_add 25 f, show (19 : Int32) + nI f = nI (19 + f) from nI_add 19 f, nI_clamp (by omega), nI_clamp (by omega), hM.1.1 (25 + f) (by omega) (by omega), hM.1.1 (19 + f) (by omega) (by omega)]
  refine ⟨vp_in_nI (by omega) (by decide), ?_⟩
  rcases tk_b hO.1 hf with tk | tk
  · rw [tk, mIs (by omega)]
    refine ⟨fun e => absurd rfl e, fun _ => ⟨vp_in_nI (by omega) (by decide), ?_⟩⟩
    cases hb : bt (α (19 + f)) s with
    | true =>
      have KK := K σ (EvM.rf σ)
      unfold og_cs at KK
      simp [hb] at KK
      exact ⟨fun _ => KK, fun e => absurd e (by decide)⟩
    | false =>
      refine ⟨fun e => absurd rfl e, fun _ => mBar hM hO hf (fun σ' hE => ?_)⟩
      have KK := K σ' hE
      unfold og_cs at KK
      simp [hb, tk] at KK
      cases hr : og_bar α T f s with
      | true =>
        simp [hr] at KK
        exact ⟨fun _ => KK, fun e => absurd e (by decide)⟩
      | false =>
        simp [hr] at KK
        exact ⟨fun e => absurd rfl e, fun _ => KK⟩
  · rw [tk]
    have KK := K σ (EvM.rf σ)
    unfold og_cs at KK
    simp [tk] at KK
    exact ⟨fun _ => KK, fun e => absurd e (by decide)⟩
/-! a march -/
def og_end (α : Nat → Int32) (T : Nat → Int32 → (Nat → Int64) → Option Int64) (ar : Int32) (f : Nat) : Int32 := if og_turn α T f ar (α (19 + f)) then 1 else if ar ≤ α (13 + f) then 0 else 2
def og_mr1 (α : Nat → Int32) (ar : Int32) (f : Nat) (e : Int32) : Nat → Int32 := if e = 2 then upd α (25 + f) 1 else if e = 0 then upd α (13 + f) (og_clm (α (13 + f) - ar / 3).toInt64 0 99) else α
def og_mr2 (α : Nat → Int32) (T : Nat → Int32 → (Nat → Int64) → Option Int64) (ar : Int32) (f : Nat) (e : Int32) : Nat → Int32 := upd (upd α (9 + (α (31 + f)).toNatClampNeg) (og_clm (og_known α f + og_or (og_says α T 2 f (-1) ar (og_hun α f (α (19 + f))) e) (-20) 20 0).toInt64 0 100)) 6 (α 6 + 1)
def og_mar (α : Nat → Int32) (T : Nat → Int32 → (Nat → Int64) → Option Int64) (ar : Int32) (f : Nat) : Nat → Int32 := og_mr2 (og_mr1 α ar f (og_end α T ar f)) T ar f (og_end α T ar f)
end Tab
