theorem clm99 (v : Int64) : 0 ≤ (og_clm v 0 99).toInt ∧ (og_clm v 0 99).toInt ≤ 99 := clm_b (lo := 0) (hi := 99) (by decide)
theorem clm100 (v : Int64) : 0 ≤ (og_clm v 0 100).toInt ∧ (og_clm v 0 100).toInt ≤ 100 := clm_b (lo := 0) (hi := 100) (by decide)
section Mar
variable {Z : Nat → Prop} {Γ : OgG} {t : Nat} {α : Nat → Int32} {nl : Nat} {T : Nat → Int32 → (Nat → Int64) → Option Int64}
theorem LtO.put (h : LtO α nl T) (q : Nat) (v : Int32) (hq : q ≠ 5) {lo hi : Int} (hb : og_bd q = some (lo, hi)) (h1 : lo ≤ v.toInt) (h2 : v.toInt ≤ hi) : LtO (upd α q v) nl T := ⟨h.1.set q v hb h1 h2, h.2.1, by rw [pk_un (Ne.symm hq)]; exact h.2.2⟩
theorem cM80 {Q : Int32 → OgC → Prop} {σ0 σ : OgC} (hC : LtC Z Γ t α nl T σ) (hO : LtO α nl T) (hZ : ZO Z) (ht : t = 3 ∨ t = 34) {f : Nat} (hf : f < 6) {ar e : Int32} (hfr : TabFr t σ0 σ) (K : ∀ σ', LtC Z Γ t (og_mr2 α T ar f e) nl T σ' → TabFr t σ0 σ' → Q e σ') : wX0_marches_80 Γ Q t ar (nI f) e σ := by
  have tk : TOk t := by
    unfold TOk
    omega
  obtain ⟨n, hn, eg⟩ := hO.1.nat (31 + f) (hi := 3) (bd_gen hf)
  have ek : og_known α f = α (9 + n) := by
    unfold og_known
    rw [eg, nI_clamp (by omega)]
  have vf : vp_in (nI f) 6 := vp_in_nI hf (by decide)
  have vn : vp_in (nI n) 4 := vp_in_nI (by omega) (by decide)
  unfold wX0_marches_80
  rw [nI_clamp (by omega), hC.1.2.1.1 f hf, eg, hC.1.1.2.1 f hf]
  refine ⟨vf, fun v1 e1 => ?_⟩
  subst e1
  rw [nI_clamp (by omega), hC.1.1.2.2.1 n (by omega), ← ek]
  refine ⟨vn, vf, cBelief hC.1 hO.1 hf ?_⟩
  rw [(hun_eq hO.1 hf _).1]
  refine cSays hC.1 hO.1 hC.2 hO.2.1 hO.2.2 hf (fun s5 hE => cOr (says_ok hO.1 hO.2.1 hO.2.2).1 (by decide) (cNear (by decide) ⟨vn, fun s10 e10 s11 e11 => ?_⟩))
  subst e10
  have hC5 := hE.lt hC
  have p1 := hC5.1.put tk (c := 3) (p := 9) (k := n) (Or.inr (Or.inr ⟨rfl, rfl, by omega⟩)) (og_clm (og_known α f + og_or (og_says α T 2 f (-1) ar (og_hun α f (α (19 + f))) e) (-20) 20 0).toInt64 0 100)
  have d4 := p1.1.2.2.2.1
  rw [pk_un (by omega)] at d4
  rw [d4] at e11
  subst e11
  have p2 := p1.day tk (α 6 + 1)
  have fr : TabFr t σ0 ((s5.sI (t + 3) n (og_clm (og_known α f + og_or (og_says α T 2 f (-1) ar (og_hun α f (α (19 + f))) e) (-20) 20 0).toInt64 0 100)).sI t 4 (α 6 + 1)) := ((hfr.tr (hE.tf t)).put (t + 3) n _ (by omega) (by omega)).put t 4 _ (by omega) (by omega)
  have fr' : TabFr t σ ((s5.sI (t + 3) n (og_clm (og_known α f + og_or (og_says α T 2 f (-1) ar (og_hun α f (α (19 + f))) e) (-20) 20 0).toInt64 0 100)).sI t 4 (α 6 + 1)) := ((hE.tf t).put (t + 3) n _ (by omega) (by omega)).put t 4 _ (by omega) (by omega)
  refine K _ ⟨?_, hC.2.keep hZ (fr'.agr ht)⟩ fr
  unfold og_mr2
  rw [eg, nI_clamp (by omega)]
  exact p2
theorem mx_clm {m : Int32} (h : m.toInt ≤ 99) : (if (0 : Int32) < m then m else 0) = og_clm m.toInt64 0 99 := by
  unfold og_clm
  have z0 : (0 : Int32).toInt64.toInt = 0 := by decide
  have z99 : (99 : Int32).toInt64.toInt = 99 := by decide
  have z : (0 : Int32).toInt = 0 := by decide
  have w : m.toInt64.toInt = m.toInt := Int32.toInt_toInt64 _
  simp only [fa_lt64, fa_lt]
  by_cases c : (0 : Int32).toInt < m.toInt
  · rw [if_pos c, if_neg (by omega), if_neg (by omega)]
    simp
  · rw [if_neg c]
    by_cases d : m.toInt64.toInt < (0 : Int32).toInt64.toInt
    · rw [if_pos d]
    · rw [if_neg d, if_neg (by omega)]
      have : m = 0 := by rw [fa_eq]; omega
      rw [this]
      decide
theorem men_b {a x : Int32} (ha : 0 ≤ a.toInt ∧ a.toInt ≤ 99) (hx : 1 ≤ x.toInt ∧ x.toInt ≤ 99) : (a - x / 3).toInt ≤ 99 := by
  have z3 : (3 : Int32).toInt = 3 := by decide
  have e1 : (x / 3).toInt = x.toInt / 3 := by rw [lg_idiv_nonneg (by omega) (by omega), z3]
  have e2 := i_sub (a := a) (b := x / 3) (by omega) (by omega)
  omega
theorem end_v (ar : Int32) (f : Nat) : og_end α T ar f = 0 ∨ og_end α T ar f = 1 ∨ og_end α T ar f = 2 := by
  unfold og_end
  split
  · exact Or.inr (Or.inl rfl)
  · split
    · exact Or.inl rfl
    · exact Or.inr (Or.inr rfl)
theorem LtO.mr1 (h : LtO α nl T) {f : Nat} (hf : f < 6) (ar e : Int32) : LtO (og_mr1 α ar f e) nl T := by
  unfold og_mr1
  split
  · exact h.put (25 + f) 1 (by omega) (bd_taken hf) (by decide) (by decide)
  · split
    · exact h.put (13 + f) (og_clm _ 0 99) (by omega) (bd_men hf) (clm99 _).1 (clm99 _).2
    · exact h
theorem LtO.mr2 (h : LtO α nl T) {f : Nat} (hf : f < 6) (hd : (α 6).toInt < 999) (ar e : Int32) : LtO (og_mr2 α T ar f e) nl T := by
  obtain ⟨n, hn, eg⟩ := h.1.nat (31 + f) (hi := 3) (bd_gen hf)
  have d0 := h.1.at 6 (lo := 0) (hi := 999) rfl
  have z1 : (1 : Int32).toInt = 1 := by decide
  have e6 := i_add (a := α 6) (b := 1) (by omega) (by omega)
  unfold og_mr2
  rw [eg, nI_clamp (by omega)]
  exact (h.put (9 + n) (og_clm _ 0 100) (by omega) (bd_fame (by omega)) (clm100 _).1 (clm100 _).2).put 6 _ (by omega) (lo := 0) (hi := 999) rfl (by omega) (by omega)
theorem mr1_6 {ar e : Int32} {f j : Nat} (hf : f < 6) (hj : j < 13 ∨ 31 ≤ j) : og_mr1 α ar f e j = α j := by
  unfold og_mr1
  split
  · exact pk_un (by omega)
  · split
    · exact pk_un (by omega)
    · rfl
theorem LtO.mar (h : LtO α nl T) {f : Nat} (hf : f < 6) (hd : (α 6).toInt < 999) (ar : Int32) : LtO (og_mar α T ar f) nl T := by
  unfold og_mar
  exact (h.mr1 hf ar _).mr2 hf (by rw [mr1_6 hf (by omega)]; exact hd) ar _
theorem mar_out (hR : Rng α) {ar : Int32} {f j : Nat} (hf : f < 6) (hj : j < 6 ∨ j = 7 ∨ j = 8 ∨ 31 ≤ j) : og_mar α T ar f j = α j := by
  obtain ⟨n, hn, eg⟩ := hR.nat (31 + f) (hi := 3) (bd_gen hf)
  unfold og_mar og_mr2
  rw [mr1_6 hf (show 31 + f < 13 ∨ 31 ≤ 31 + f by omega), eg, nI_clamp (by omega), pk_un (by omega), pk_un (by omega), mr1_6 hf (by omega)]
theorem TkZ.mar (hR : Rng α) (h : TkZ α) {f : Nat} (hf : f < 6) (h0 : (f : Int) < (α 0).toInt) (ar : Int32) : TkZ (og_mar α T ar f) := by
  intro i hi hz
  rw [mar_out hR hf (by omega)] at hz
  obtain ⟨n, hn, eg⟩ := hR.nat (31 + f) (hi := 3) (bd_gen hf)
  unfold og_mar og_mr2
  rw [mr1_6 hf (show 31 + f < 13 ∨ 31 ≤ 31 + f by omega), eg, nI_clamp (by omega), pk_un (by omega), pk_un (by omega)]
  unfold og_mr1
  split
  · rw [pk_un (by omega)]
    exact h i hi hz
  · split
    · rw [pk_un (by omega)]
      exact h i hi hz
    · exact h i hi hz
theorem cMarches {Q : Int32 → OgC → Prop} {σ : OgC} (hC : LtC Z Γ t α nl T σ) (hO : LtO α nl T) (hZ : ZO Z) (ht : t = 3 ∨ t = 34) {f : Nat} (hf : f < 6) {ar : Int32} (har : 1 ≤ ar.toInt ∧ ar.toInt ≤ 99) (K : ∀ σ', LtC Z Γ t (og_mar α T ar f) nl T σ' → TabFr t σ σ' → Q (og_end α T ar f) σ') : wX0_marches Γ Q t ar (nI f) σ := by
  have tk : TOk t := by
    unfold TOk
    omega
  have vf : vp_in (nI f) 6 := vp_in_nI hf (by decide)
  have mb := men_b (hO.1.at (13 + f) (bd_men hf)) har
  have fin : ∀ s, EvC σ s → wX0_marches_35 Γ Q t ar (nI f) (og_end α T ar f) s := by
    intro s hE
    have hCs := hE.lt hC
    unfold og_mar at K
    have K' := K
    unfold og_mr1 at K'
    rcases end_v (α := α) (T := T) ar f with e | e | e
    · rw [e] at K'
      rw [e]
      rw [if_neg (by decide), if_pos rfl] at K'
      refine ⟨fun _ => ?_, fun z => absurd z (by decide)⟩
      refine ⟨fun z => absurd rfl z, fun _ => ⟨vf, fun v2 e2 => ⟨vf, fun s3 e3 => ?_⟩⟩⟩
      rw [nI_clamp (by omega), hCs.1.1.1 f hf, mx_clm mb] at e2
      rw [nI_clamp (by omega)] at e3
      subst e2 e3
      have fr : TabFr t σ (s.sI (t + 1) f (og_clm (α (13 + f) - ar / 3).toInt64 0 99)) := (hE.tf t).put (t + 1) f _ (by omega) (by omega)
      refine cM80 ⟨hCs.1.put tk (Or.inl ⟨rfl, rfl, hf⟩) _, hC.2.keep hZ (fr.agr ht)⟩ (hO.put (13 + f) (og_clm _ 0 99) (by omega) (bd_men hf) (clm99 _).1 (clm99 _).2) hZ ht hf fr K'
    · rw [e] at K'
      rw [e]
      rw [if_neg (by decide), if_neg (by decide)] at K'
      refine ⟨fun _ => ⟨fun _ => cM80 hCs hO hZ ht hf (hE.tf t) K', fun z => absurd z (by decide)⟩, fun z => absurd z (by decide)⟩
    · rw [e] at K'
      rw [e]
      rw [if_pos rfl] at K'
      refine ⟨fun z => absurd rfl z, fun _ v2 e2 s3 e3 => ⟨fun _ => ?_, fun z => absurd z (by decide)⟩⟩
      subst e2 e3
      have fr : TabFr t σ (s.sI t 3 (s.I t 3 ||| ((1 : Int32) <<< (nI f &&& 31)))) := (hE.tf t).put t 3 _ (by omega) (by omega)
      exact cM80 ⟨hCs.1.fill tk hf, hC.2.keep hZ (fr.agr ht)⟩ (hO.put (25 + f) 1 (by omega) (bd_taken hf) (by decide) (by decide)) hZ ht hf fr K'
  unfold wX0_marches
  rw [nI_clamp (by omega), hC.1.1.2.1 f hf]
  refine ⟨vf, cTurn hC hO hf (fun s hE => ?_)⟩
  rw [(hE.lt hC).1.1.1 f hf]
  have ff := fin s hE
  unfold og_end at ff
  cases htn : og_turn α T f ar (α (19 + f)) with
  | true =>
    rw [htn] at ff
    exact ⟨fun e => absurd e (by decide), fun _ => ff⟩
  | false =>
    rw [htn] at ff
    refine ⟨fun _ => ⟨vf, fun c => ?_, fun c => ?_⟩, fun e => absurd rfl e⟩
    · rw [if_neg (by decide), if_pos c] at ff
      exact ff
    · rw [if_neg (by decide), if_neg c] at ff
      exact ff
/-! the model's side -/
/-- the model's row alone is other -/
def RowFr (σ σ' : OgS) : Prop := σ'.top = σ.top ∧ (∀ a, a ≠ 0 → a ≠ 2 → σ'.I a = σ.I a) ∧ (∀ k, k ≠ 34 → k ≠ 38 → σ'.I 0 k = σ.I 0 k) ∧ (∀ j, j < 6 ∨ 31 ≤ j → σ'.I 2 j = σ.I 2 j) ∧ LK σ σ'
theorem EvM.rw {σ σ' : OgS} (h : EvM σ σ') : RowFr σ σ' := ⟨h.1, fun a h0 _ => h.2.1 a h0, h.2.2.1, fun j _ => by rw [h.2.1 2 (by decide)], h.2.2.2⟩
theorem RowFr.tr {a b c : OgS} (h : RowFr a b) (h' : RowFr b c) : RowFr a c := ⟨h'.1.trans h.1, fun x h0 h2 => (h'.2.1 x h0 h2).trans (h.2.1 x h0 h2), fun k h1 h2 => (h'.2.2.1 k h1 h2).trans (h.2.2.1 k h1 h2), fun j hj => (h'.2.2.2.1 j hj).trans (h.2.2.2.1 j hj), h.2.2.2.2.tr h'.2.2.2.2⟩
theorem RowFr.put {σ σ' : OgS} (h : RowFr σ σ') (q : Nat) (v : Int32) (hq : 6 ≤ q ∧ q < 31) : RowFr σ (σ'.sI 2 q v) := by
  refine ⟨h.1, fun a h0 h2 => ?_, fun k h1 h2 => ?_, fun j hj => ?_, h.2.2.2.2⟩
  · funext j
    rw [S_II, if_neg h2, h.2.1 a h0 h2]
  · rw [S_II, if_neg (by decide)]
    exact h.2.2.1 k h1 h2
  · rw [S_II, if_pos rfl, if_neg (by omega)]
    exact h.2.2.2.1 j hj
theorem LsM.keep {σ σ' : OgS} (h : LsM σ 2 0 nl T) (e : ∀ j, 150 ≤ j ∨ j = 4 → σ'.I 2 j = σ.I 2 j) : LsM σ' 2 0 nl T := by
  refine ⟨by rw [e _ (by omega)]; exact h.1, fun i hi => ?_⟩
  have eq : (fun j => σ'.I 2 (0 + 150 + 900 * i + j)) = fun j => σ.I 2 (0 + 150 + 900 * i + j) := by
    funext j
    exact e _ (by omega)
  rw [eq]
  exact h.2 i hi
theorem LtM.put {σ : OgS} (h : LtM α nl T σ) (q : Nat) (v : Int32) (hq : 6 ≤ q ∧ q < 31) : LtM (upd α q v) nl T (σ.sI 2 q v) := by
  refine ⟨h.1.row (by omega) (by omega) v, h.2.keep (fun j hj => ?_)⟩
  rw [S_II, if_pos rfl, if_neg (by omega)]
theorem mM89 {Q : Int32 → OgS → Prop} {σ0 σ : OgS} (hM : LtM α nl T σ) (hO : LtO α nl T) {f : Nat} (hf : f < 6) {ar e : Int32} (hfr : RowFr σ0 σ) (K : ∀ σ', LtM (og_mr2 α T ar f e) nl T σ' → RowFr σ0 σ' → Q e σ') : wX5_marchIt_89 Q ar (nI f) e σ := by
  obtain ⟨n, hn, eg⟩ := hO.1.nat (31 + f) (hi := 3) (bd_gen hf)
  have ek : og_known α f = α (9 + n) := by
    unfold og_known
    rw [eg, nI_clamp (by omega)]
  unfold wX5_marchIt_89
  rw [show (19 : Int32) + nI f = nI (19 + f) from nI_add 19 f, nI_clamp (by omega), hM.1.1 (19 + f) (by omega) (by omega)]
  refine ⟨vp_in_nI (by omega) (by decide), mHun hM hO hf (mTells hM.1 hO.1 hM.2 hO.2.1 hO.2.2 hf (fun s4 hE => ?_))⟩
  have hM4 := hE.lt hM
  have KK : wX5_within (fun r_5 s_6 => (vp_in ((31 : Int32) + nI f) 5550 ∧ (∀ v_7 : Int32, v_7 = ((9 : Int32) + (s_6.I 2 (((31 : Int32) + nI f).toNatClampNeg))) → (vp_in v_7 5550 ∧ (wX5_within (fun r_8 s_9 => (vp_in v_7 5550 ∧ (∀ s_10 : OgS, s_10 = (s_9.sI 2 (v_7.toNatClampNeg) r_8) → (∀ s_11 : OgS, s_11 = (s_10.sI 2 6 ((s_10.I 2 6) + (1 : Int32))) → (Q e s_11))))) ((s_6.I 2 (v_7.toNatClampNeg)) + r_5).toInt64 (0 : Int32) (100 : Int32) s_6))))) ((og_says α T 2 f (-1) ar (og_hun α f (α (19 + f))) e).getD (0 : Int32).toInt64) (-20) 20 s4 := by
    refine mOr (by decide) (by decide) ?_
    rw [show (31 : Int32) + nI f = nI (31 + f) from nI_add 31 f, nI_clamp (by omega), hM4.1.1 (31 + f) (by omega) (by omega), eg, show (9 : Int32) + nI n = nI (9 + n) from nI_add 9 n]
    refine ⟨vp_in_nI (by omega) (by decide), fun v7 e7 => ?_⟩
    subst e7
    rw [nI_clamp (by omega), hM4.1.1 (9 + n) (by omega) (by omega), ← ek]
    refine ⟨vp_in_nI (by omega) (by decide), mWithin ⟨vp_in_nI (by omega) (by decide), fun s10 e10 s11 e11 => ?_⟩⟩
    subst e10
    have p1 := hM4.put (9 + n) (og_clm (og_known α f + og_or (og_says α T 2 f (-1) ar (og_hun α f (α (19 + f))) e) (-20) 20 0).toInt64 0 100) (by omega)
    have d6 := p1.1.1 6 (by omega) (by omega)
    rw [pk_un (by omega)] at d6
    rw [d6] at e11
    subst e11
    refine K _ ?_ (((hfr.tr hE.rw).put (9 + n) _ (by omega)).put 6 _ (by omega))
    unfold og_mr2
    rw [eg, nI_clamp (by omega)]
    exact p1.put 6 _ (by omega)
  exact KK
theorem mMarchIt {Q : Int32 → OgS → Prop} {σ : OgS} (hM : LtM α nl T σ) (hO : LtO α nl T) {f : Nat} (hf : f < 6) {ar : Int32} (K : ∀ σ', LtM (og_mar α T ar f) nl T σ' → RowFr σ σ' → Q (og_end α T ar f) σ') : wX5_marchIt Q ar (nI f) σ := by
  have e13 : (13 : Int32) + nI f = nI (13 + f) := nI_add 13 f
  have e19 : (19 : Int32) + nI f = nI (19 + f) := nI_add 19 f
  have e25 : (25 : Int32) + nI f = nI (25 + f) := nI_add 25 f
  have v13 : vp_in (nI (13 + f)) 5550 := vp_in_nI (by omega) (by decide)
  have fin : ∀ s, EvM σ s → wX5_marchIt_40 Q ar (nI f) (og_end α T ar f) s := by
    intro s hE
    have hMs := hE.lt hM
    unfold og_mar at K
    have K' := K
    unfold og_mr1 at K'
    rcases end_v (α := α) (T := T) ar f with e | e | e
    · rw [e] at K'
      rw [e]
      rw [if_neg (by decide), if_pos rfl] at K'
      refine ⟨fun _ => ⟨fun z => absurd rfl z, fun _ => ?_⟩, fun z => absurd z (by decide)⟩
      rw [e13, nI_clamp (by omega), hMs.1.1 (13 + f) (by omega) (by omega)]
      refine ⟨v13, mWithin ⟨v13, fun s4 e4 => ?_⟩⟩
      subst e4
      exact mM89 (hMs.put (13 + f) _ (by omega)) (hO.put (13 + f) (og_clm _ 0 99) (by omega) (bd_men hf) (clm99 _).1 (clm99 _).2) hf (hE.rw.put (13 + f) _ (by omega)) K'
    · rw [e] at K'
      rw [e]
      rw [if_neg (by decide), if_neg (by decide)] at K'
      exact ⟨fun _ => ⟨fun _ => mM89 hMs hO hf hE.rw K', fun z => absurd z (by decide)⟩, fun z => absurd z (by decide)⟩
    · rw [e] at K'
      rw [e]
      rw [if_pos rfl] at K'
      refine ⟨fun z => absurd rfl z, fun _ => ?_⟩
      rw [e25, nI_clamp (by omega)]
      refine ⟨vp_in_nI (by omega) (by decide), fun s2 e2 => ⟨fun _ => ?_, fun z => absurd z (by decide)⟩⟩
      subst e2
      exact mM89 (hMs.put (25 + f) 1 (by omega)) (hO.put (25 + f) 1 (by omega) (bd_taken hf) (by decide) (by decide)) hf (hE.rw.put (25 + f) _ (by omega)) K'
  unfold wX5_marchIt
  rw [e19, e13, nI_clamp (by omega), nI_clamp (by omega), hM.1.1 (19 + f) (by omega) (by omega)]
  refine ⟨vp_in_nI (by omega) (by decide), mTurn hM hO hf (fun s hE => ?_)⟩
  rw [(hE.lt hM).1.1 (13 + f) (by omega) (by omega)]
  have ff := fin s hE
  unfold og_end at ff
  cases htn : og_turn α T f ar (α (19 + f)) with
  | true =>
    rw [htn] at ff
    exact ⟨fun e => absurd e (by decide), fun _ => ff⟩
  | false =>
    rw [htn] at ff
    refine ⟨fun _ => ⟨v13, fun c => ?_, fun c => ?_⟩, fun e => absurd rfl e⟩
    · rw [if_neg (by decide), if_pos c] at ff
      exact ff
    · rw [if_neg (by decide), if_neg c] at ff
      exact ff
end Mar
