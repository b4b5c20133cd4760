/-! ===== laws: what they tell, as functions of head and setting ===== -/
/-- what asking a law may change -/
def EvC (σ σ' : OgC) : Prop := σ'.I = σ.I ∧ σ'.R = σ.R ∧ ∀ a, a ≠ 30 → σ'.L a = σ.L a
def LK (σ σ' : OgS) : Prop := (∀ a, a ≠ 0 → a ≠ 18 → a ≠ 20 → σ'.L a = σ.L a) ∧ ∀ k, k ≠ 39 → k ≠ 40 → σ'.L 0 k = σ.L 0 k
theorem LK.rf (σ : OgS) : LK σ σ := ⟨fun _ _ _ _ => rfl, fun _ _ _ => rfl⟩
theorem LK.tr {a b c : OgS} (h : LK a b) (h' : LK b c) : LK a c := ⟨fun x h1 h2 h3 => (h'.1 x h1 h2 h3).trans (h.1 x h1 h2 h3), fun k h1 h2 => (h'.2 k h1 h2).trans (h.2 k h1 h2)⟩
def EvM (σ σ' : OgS) : Prop := σ'.top = σ.top ∧ (∀ a, a ≠ 0 → σ'.I a = σ.I a) ∧ (∀ k, k ≠ 34 → k ≠ 38 → σ'.I 0 k = σ.I 0 k) ∧ LK σ σ'
theorem EvC.rf (σ : OgC) : EvC σ σ := ⟨rfl, rfl, fun _ _ => rfl⟩
theorem EvM.rf (σ : OgS) : EvM σ σ := ⟨rfl, fun _ _ => rfl, fun _ _ _ => rfl, LK.rf σ⟩
theorem EvC.tr {a b c : OgC} (h : EvC a b) (h' : EvC b c) : EvC a c := ⟨h'.1.trans h.1, h'.2.1.trans h.2.1, fun x hx => (h'.2.2 x hx).trans (h.2.2 x hx)⟩
theorem EvM.tr {a b c : OgS} (h : EvM a b) (h' : EvM b c) : EvM a c := ⟨h'.1.trans h.1, fun x hx => (h'.2.1 x hx).trans (h.2.1 x hx), fun k h1 h2 => (h'.2.2.1 k h1 h2).trans (h.2.2.1 k h1 h2), h.2.2.2.tr h'.2.2.2⟩
theorem EvC.sL {σ σ' : OgC} (h : EvC σ σ') (k : Nat) (v : Int64) : EvC σ (σ'.sL 30 k v) := by
  refine ⟨h.1, h.2.1, fun a ha => ?_⟩
  funext j
  rw [C_LL, if_neg ha, h.2.2 a ha]
theorem EvM.sL {σ σ' : OgS} (h : EvM σ σ') (a k : Nat) (v : Int64) (ha : (a = 0 ∧ (k = 39 ∨ k = 40)) ∨ a = 18 ∨ a = 20) : EvM σ (σ'.sL a k v) := by
  refine ⟨h.1, h.2.1, h.2.2.1, fun x h0 h1 h2 => ?_, fun j h1 h2 => ?_⟩
  · funext j
    rw [S_LL, if_neg (by omega), h.2.2.2.1 x h0 h1 h2]
  · rw [S_LL]
    split
    · rw [if_neg (by omega)]
      exact h.2.2.2.2 j h1 h2
    · exact h.2.2.2.2 j h1 h2
theorem EvM.sI {σ σ' : OgS} (h : EvM σ σ') (k : Nat) (v : Int32) (hk : k = 34 ∨ k = 38) : EvM σ (σ'.sI 0 k v) := by
  refine ⟨h.1, fun a ha => ?_, fun j h1 h2 => ?_, h.2.2.2⟩
  · funext j
    rw [S_II, if_neg ha, h.2.1 a ha]
  · rw [S_II, if_pos rfl, if_neg (by omega), h.2.2.1 j h1 h2]
theorem EvC.fl {α : Nat → Int32} {σ σ' : OgC} (h : EvC σ σ') (hF : FlF α σ) : FlF α σ' := by
  intro i q hq k hk
  rw [h.1]
  exact hF i q hq k hk
theorem EvC.fk {α : Nat → Int32} {σ σ' : OgC} (h : EvC σ σ') (hF : FlK α σ) : FlK α σ' := hF.of (by rw [h.1])
theorem EvM.fl {α : Nat → Int32} {σ σ' : OgS} (h : EvM σ σ') (hF : FlM α σ) : FlM α σ' := by
  have key : ∀ z ∈ og_mfl, z ≠ 34 ∧ z ≠ 38 := by decide
  refine ⟨fun j hj h4 => ?_, fun k hk => ?_, fun k hk => ?_⟩
  · rw [h.2.1 2 (by decide)]
    exact hF.1 j hj h4
  · rw [h.2.2.1 k (key k hk).1 (key k hk).2]
    exact hF.2.1 k hk
  · rw [h.2.1 1 (by decide)]
    exact hF.2.2 k hk
theorem EvC.rd {t : Nat} {α : Nat → Int32} {σ σ' : OgC} (h : EvC σ σ') (hT : RdT t α σ) : RdT t α σ' := by
  unfold RdT at hT ⊢
  rw [h.1]
  exact hT
/-- frozen addresses are as they were -/
def AgZ (Z : Nat → Prop) (Γ : OgG) (σ : OgC) (Γ' : OgG) (σ' : OgC) : Prop := ∀ x, Z x → Γ'.G x = Γ.G x ∧ σ'.I x = σ.I x ∧ σ'.R x = σ.R x
theorem AgZ.rf (Z : Nat → Prop) (Γ : OgG) (σ : OgC) : AgZ Z Γ σ Γ σ := fun _ _ => ⟨rfl, rfl, rfl⟩
theorem AgZ.tr {Z : Nat → Prop} {Γ Γ1 Γ2 : OgG} {σ σ1 σ2 : OgC} (h : AgZ Z Γ σ Γ1 σ1) (h' : AgZ Z Γ1 σ1 Γ2 σ2) : AgZ Z Γ σ Γ2 σ2 := fun x hx => ⟨(h' x hx).1.trans (h x hx).1, (h' x hx).2.1.trans (h x hx).2.1, (h' x hx).2.2.trans (h x hx).2.2⟩
theorem EvC.ag {σ σ' : OgC} (h : EvC σ σ') (Z : Nat → Prop) (Γ : OgG) : AgZ Z Γ σ Γ σ' := fun x _ => ⟨rfl, by rw [h.1], by rw [h.2.1]⟩
/-- the law at a tells F -/
def DenL (Z : Nat → Prop) (Γ : OgG) (σ : OgC) (a : Nat) (F : Int32 → (Nat → Int64) → Option Int64) : Prop := ∀ (Γ' : OgG) (σ' : OgC), AgZ Z Γ σ Γ' σ' → Γ'.G a = (17, 0) ∧ ∀ (h : Int32) (Q : Int64 → OgC → Prop), Q ((F h (σ'.L 30)).getD (-4000000000)) σ' → wX19_told Γ' Q a h σ'
theorem DenL.ag {Z : Nat → Prop} {Γ Γ' : OgG} {σ σ' : OgC} {a : Nat} {F : Int32 → (Nat → Int64) → Option Int64} (h : DenL Z Γ σ a F) (hA : AgZ Z Γ σ Γ' σ') : DenL Z Γ' σ' a F := fun Γ2 σ2 h2 => h Γ2 σ2 (hA.tr h2)
theorem DenL.more {Z Z' : Nat → Prop} {Γ : OgG} {σ : OgC} {a : Nat} {F : Int32 → (Nat → Int64) → Option Int64} (h : DenL Z Γ σ a F) (hZ : ∀ x, Z x → Z' x) : DenL Z' Γ σ a F := fun Γ2 σ2 h2 => h Γ2 σ2 (fun x hx => h2 x (hZ x hx))
/-- a block of the model's row tells F -/
def DenB (c : Nat → Int32) (F : Int32 → (Nat → Int64) → Option Int64) : Prop := ∀ (σ : OgS) (p : Nat) (Q : Int64 → OgS → Prop) (h : Int32) (wo : Int64), p + 900 ≤ 5550 → σ.I 0 34 = nI p → σ.I 0 20 = 0 → (∀ j, j < 900 → σ.I 2 (p + j) = c j) → (∀ σ', EvM σ σ' → Q ((F h (fun k => σ.L 18 (k + 1))).getD wo) σ') → wX5_tells_158 Q h wo (nI 0) σ
/-- sums are no nothing; bars tell 1; ten values are looked at -/
def LawOk (F : Int32 → (Nat → Int64) → Option Int64) : Prop := (∀ h v, F h v ≠ some (-4000000000)) ∧ (∀ v w, F 3 v = some w → w = 1) ∧ ∀ h v v', (∀ k, k < 10 → v k = v' k) → F h v = F h v'
/-- a list of laws on the class's side, at l -/
def LsC (Z : Nat → Prop) (Γ : OgG) (σ : OgC) (l nl : Nat) (T : Nat → Int32 → (Nat → Int64) → Option Int64) : Prop := σ.I l 2 = nI nl ∧ ∃ b m, (σ.R l 1 = some b ∧ (b = 17 ∨ 193 ≤ b)) ∧ Γ.G b = (106, m) ∧ nl ≤ m ∧ m < 2 ^ 31 ∧ ∀ i, i < nl → ∃ a, σ.R b i = some a ∧ DenL Z Γ σ a (T i)
def LsM (σ : OgS) (b p nl : Nat) (T : Nat → Int32 → (Nat → Int64) → Option Int64) : Prop := σ.I b (p + 4) = nI nl ∧ ∀ i, i < nl → DenB (fun j => σ.I b (p + 150 + 900 * i + j)) (T i)
def LsO (nl : Nat) (T : Nat → Int32 → (Nat → Int64) → Option Int64) : Prop := nl ≤ 6 ∧ ∀ i, i < nl → LawOk (T i)
theorem EvC.ls {Z : Nat → Prop} {Γ : OgG} {σ σ' : OgC} {l nl : Nat} {T : Nat → Int32 → (Nat → Int64) → Option Int64} (h : EvC σ σ') (hL : LsC Z Γ σ l nl T) : LsC Z Γ σ' l nl T := by
  obtain ⟨h1, b, m, h2, h3, h4, h5, h6⟩ := hL
  refine ⟨by rw [h.1]; exact h1, b, m, ⟨by rw [h.2.1]; exact h2.1, h2.2⟩, h3, h4, h5, fun i hi => ?_⟩
  obtain ⟨a, ha, hd⟩ := h6 i hi
  exact ⟨a, by rw [h.2.1]; exact ha, hd.ag (h.ag Z Γ)⟩
theorem EvM.ls {σ σ' : OgS} {b p nl : Nat} {T : Nat → Int32 → (Nat → Int64) → Option Int64} (h : EvM σ σ') (hb : b ≠ 0) (hL : LsM σ b p nl T) : LsM σ' b p nl T := by
  unfold LsM at hL ⊢
  rw [h.2.1 b hb]
  exact hL
theorem cGet {Γ : OgG} {Q : Nat → OgC → Prop} {σ : OgC} {l nl b m i a : Nat} (h1 : σ.I l 2 = nI nl) (hi : i < nl) (hm : nl < 2 ^ 31) (h2 : σ.R l 1 = some b) (h3 : Γ.G b = (106, m)) (h4 : m < 2 ^ 31) (h5 : i < m) (h6 : σ.R b i = some a) (K : Q a σ) : wJ2_get Γ Q l (nI i) σ := by
  unfold wJ2_get wJ5_checkIndex wJ6_checkIndex
  rw [h1]
  refine ⟨fun e => absurd e (nneg (by omega)), fun _ => ⟨fun _ => ?_, fun e => absurd ((nI_lti (by omega) (by omega)).mpr hi) e⟩⟩
  refine ⟨b, h2, m, h3, vp_in_nI h5 h4, a, ?_, K⟩
  rw [nI_clamp (by omega)]
  exact h6
def og_vals (α : Nat → Int32) (f : Nat) (sg ar be en : Int32) : Nat → Int64 := fun k => match k with
  | 0 => (nI f).toInt64
  | 1 => (α (13 + f)).toInt64
  | 2 => (α (31 + f)).toInt64
  | 3 => (og_known α f).toInt64
  | 4 => sg.toInt64
  | 5 => ar.toInt64
  | 6 => be.toInt64
  | 7 => en.toInt64
  | 8 => (α 6).toInt64
  | _ => (α 8).toInt64
def og_says (α : Nat → Int32) (T : Nat → Int32 → (Nat → Int64) → Option Int64) (h : Int32) (f : Nat) (sg ar be en : Int32) : Option Int64 := if α 5 = -1 then none else T (α 5).toNatClampNeg h (og_vals α f sg ar be en)
theorem cSays {Z : Nat → Prop} {Γ : OgG} {Q : Int64 → OgC → Prop} {t : Nat} {α : Nat → Int32} {σ : OgC} {nl : Nat} {T : Nat → Int32 → (Nat → Int64) → Option Int64} (hT : RdT t α σ) (hR : Rng α) (hL : LsC Z Γ σ 16 nl T) (hO : LsO nl T) (h5 : (α 5).toInt < nl) {h : Int32} {f : Nat} (hf : f < 6) {sg ar be en : Int32} (K : ∀ σ', EvC σ σ' → Q ((og_says α T h f sg ar be en).getD (-4000000000)) σ') : wX0_says Γ Q h t (nI f) sg ar be en σ := by
  obtain ⟨⟨hm, _, hfm, hd, _⟩, ⟨hg, _, _, _⟩, ⟨_, hmd, hfo, _⟩⟩ := hT
  obtain ⟨hl1, b, m, hl2, hl3, hl4, hl5, hl6⟩ := hL
  unfold wX0_says
  simp only [forall_eq]
  rw [hfo]
  unfold og_says at K
  refine ⟨fun c => ?_, fun c => ?_⟩
  · simp only [if_neg c] at K
    have r5 := hR.at 5 (lo := -1) (hi := 5) rfl
    have c5 : ¬ (α 5).toInt = -1 := fun z => c (by rw [fa_eq, z]; decide)
    obtain ⟨i, hi, e5⟩ := og_nat (x := α 5) (hi := 5) (by omega) r5.2
    rw [e5, nI_toInt (by omega)] at h5
    rw [e5, nI_clamp (by omega)] at K
    obtain ⟨n, hn, eg⟩ := hR.nat (31 + f) (hi := 3) (bd_gen hf)
    have ek : og_known α f = α (9 + n) := by
      unfold og_known
      rw [eg, nI_clamp (by omega)]
    have vf : vp_in (nI f) 6 := vp_in_nI hf (by decide)
    simp only [C_LI, nI_clamp (show f < 2 ^ 31 by omega), hm f hf, hg f hf, eg, nI_clamp (show n < 2 ^ 31 by omega), hfm n (by omega), hd, hmd, hfo, e5]
    refine ⟨vf, vf, vf, vp_in_nI (by omega) (by decide), ?_⟩
    have hE : EvC σ ((((((((((σ.sL 30 0 (nI f).toInt64).sL 30 1 (α (13 + f)).toInt64).sL 30 2 (nI n).toInt64).sL 30 3 (α (9 + n)).toInt64).sL 30 4 sg.toInt64).sL 30 5 ar.toInt64).sL 30 6 be.toInt64).sL 30 7 en.toInt64).sL 30 8 (α 6).toInt64).sL 30 9 (α 8).toInt64) := ((((((((((EvC.rf σ).sL 0 _).sL 1 _).sL 2 _).sL 3 _).sL 4 _).sL 5 _).sL 6 _).sL 7 _).sL 8 _).sL 9 _
    revert hE
    generalize hs : ((((((((((σ.sL 30 0 (nI f).toInt64).sL 30 1 (α (13 + f)).toInt64).sL 30 2 (nI n).toInt64).sL 30 3 (α (9 + n)).toInt64).sL 30 4 sg.toInt64).sL 30 5 ar.toInt64).sL 30 6 be.toInt64).sL 30 7 en.toInt64).sL 30 8 (α 6).toInt64).sL 30 9 (α 8).toInt64) = s
    intro hE
    obtain ⟨a, ha, hden⟩ := hl6 i (by omega)
    obtain ⟨hG, hden⟩ := hden Γ s (hE.ag Z Γ)
    have hv : ∀ k, k < 10 → s.L 30 k = og_vals α f sg ar be en k := by
      intro k hk
      rw [← hs]
      rcases (show k = 0 ∨ k = 1 ∨ k = 2 ∨ k = 3 ∨ k = 4 ∨ k = 5 ∨ k = 6 ∨ k = 7 ∨ k = 8 ∨ k = 9 by omega) with rfl | rfl | rfl | rfl | rfl | rfl | rfl | rfl | rfl | rfl <;> simp [C_LL, og_vals, ek, eg]
    have KK := K s hE
    rw [← (hO.2 i (by omega)).2.2 h (s.L 30) _ hv] at KK
    exact cGet (by rw [hE.1]; exact hl1) (by omega) (by omega) (by rw [hE.2.1]; exact hl2.1) hl3 hl5 (by omega) (by rw [hE.2.1]; exact ha) ⟨hG, hden h Q KK⟩
  · rw [if_pos c] at K
    exact K σ (EvC.rf σ)
theorem mTells {Q : Int64 → OgS → Prop} {α : Nat → Int32} {σ : OgS} {nl : Nat} {T : Nat → Int32 → (Nat → Int64) → Option Int64} (hF : FlM α σ) (hR : Rng α) (hL : LsM σ 2 0 nl T) (hO : LsO nl T) (h5 : (α 5).toInt < nl) {h : Int32} {f : Nat} (hf : f < 6) {sg ar be en : Int32} {wo : Int64} (K : ∀ σ', EvM σ σ' → Q ((og_says α T h f sg ar be en).getD wo) σ') : wX5_tells Q h (nI f) sg ar be en wo σ := by
  have e5' : σ.I 2 5 = α 5 := hF.1 5 (by omega) (by omega)
  have e6' : σ.I 2 6 = α 6 := hF.1 6 (by omega) (by omega)
  have e8' : σ.I 2 8 = α 8 := hF.1 8 (by omega) (by omega)
  have e20 : σ.I 0 20 = 0 := by
    rw [hF.2.1 20 (by decide)]
    have := hR.at 220 (lo := 0) (hi := 0) rfl
    rw [fa_eq]
    show (α 220).toInt = (0 : Int)
    omega
  unfold wX5_tells
  simp only [forall_eq]
  rw [e5']
  unfold og_says at K
  refine ⟨fun c => ?_, fun c => ?_⟩
  · simp only [if_neg c] at K
    have r5 := hR.at 5 (lo := -1) (hi := 5) rfl
    have c5 : ¬ (α 5).toInt = -1 := fun z => c (by rw [fa_eq, z]; decide)
    obtain ⟨i, hi, e5⟩ := og_nat (x := α 5) (hi := 5) (by omega) r5.2
    rw [e5, nI_toInt (by omega)] at h5
    rw [e5, nI_clamp (by omega)] at K
    have e9 : (150 : Int32) + (900 : Int32) * nI i = nI (150 + 900 * i) := by rw [show (900 : Int32) * nI i = nI (900 * i) from nI_m 900 i]; exact nI_add 150 _
    simp only [S_LI, e5, e9, show (13 : Int32) + nI f = nI (13 + f) from nI_add 13 f, show (31 : Int32) + nI f = nI (31 + f) from nI_add 31 f, nI_clamp (show 13 + f < 2 ^ 31 by omega), nI_clamp (show 31 + f < 2 ^ 31 by omega)]
    have i2 : ∀ v, (σ.sI 0 34 v).I 2 = σ.I 2 := by
      intro v
      funext j
      rw [S_II, if_neg (by decide)]
    rw [i2, hF.1 (13 + f) (by omega) (by omega), hF.1 (31 + f) (by omega) (by omega)]
    refine ⟨vp_in_nI (by omega) (by decide), vp_in_nI (by omega) (by decide), ?_⟩
    have hE1 : EvM σ ((((σ.sI 0 34 (nI (150 + 900 * i))).sL 18 1 (nI f).toInt64).sL 18 2 (α (13 + f)).toInt64).sL 18 3 (α (31 + f)).toInt64) := ((((EvM.rf σ).sI 34 _ (Or.inl rfl)).sL 18 1 _ (by decide)).sL 18 2 _ (by decide)).sL 18 3 _ (by decide)
    refine mFame (hE1.fl hF) hR hf ?_
    simp only [S_LI, i2, e6', e8']
    have hE : EvM σ (((((((((((σ.sI 0 34 (nI (150 + 900 * i))).sL 18 1 (nI f).toInt64).sL 18 2 (α (13 + f)).toInt64).sL 18 3 (α (31 + f)).toInt64).sL 18 4 (og_known α f).toInt64).sL 18 5 sg.toInt64).sL 18 6 ar.toInt64).sL 18 7 be.toInt64).sL 18 8 en.toInt64).sL 18 9 (α 6).toInt64).sL 18 10 (α 8).toInt64) := ((((((hE1.sL 18 4 _ (by decide)).sL 18 5 _ (by decide)).sL 18 6 _ (by decide)).sL 18 7 _ (by decide)).sL 18 8 _ (by decide)).sL 18 9 _ (by decide)).sL 18 10 _ (by decide)
    have h34 : (((((((((((σ.sI 0 34 (nI (150 + 900 * i))).sL 18 1 (nI f).toInt64).sL 18 2 (α (13 + f)).toInt64).sL 18 3 (α (31 + f)).toInt64).sL 18 4 (og_known α f).toInt64).sL 18 5 sg.toInt64).sL 18 6 ar.toInt64).sL 18 7 be.toInt64).sL 18 8 en.toInt64).sL 18 9 (α 6).toInt64).sL 18 10 (α 8).toInt64).I 0 34 = nI (150 + 900 * i) := by
      show (σ.sI 0 34 (nI (150 + 900 * i))).I 0 34 = _
      rw [S_II, if_pos rfl, if_pos rfl]
    have hv : ∀ k, k < 10 → (((((((((((σ.sI 0 34 (nI (150 + 900 * i))).sL 18 1 (nI f).toInt64).sL 18 2 (α (13 + f)).toInt64).sL 18 3 (α (31 + f)).toInt64).sL 18 4 (og_known α f).toInt64).sL 18 5 sg.toInt64).sL 18 6 ar.toInt64).sL 18 7 be.toInt64).sL 18 8 en.toInt64).sL 18 9 (α 6).toInt64).sL 18 10 (α 8).toInt64).L 18 (k + 1) = og_vals α f sg ar be en k := by
      intro k hk
      rcases (show k = 0 ∨ k = 1 ∨ k = 2 ∨ k = 3 ∨ k = 4 ∨ k = 5 ∨ k = 6 ∨ k = 7 ∨ k = 8 ∨ k = 9 by omega) with rfl | rfl | rfl | rfl | rfl | rfl | rfl | rfl | rfl | rfl <;> simp [S_LL, og_vals]
    revert hE h34 hv
    generalize (((((((((((σ.sI 0 34 (nI (150 + 900 * i))).sL 18 1 (nI f).toInt64).sL 18 2 (α (13 + f)).toInt64).sL 18 3 (α (31 + f)).toInt64).sL 18 4 (og_known α f).toInt64).sL 18 5 sg.toInt64).sL 18 6 ar.toInt64).sL 18 7 be.toInt64).sL 18 8 en.toInt64).sL 18 9 (α 6).toInt64).sL 18 10 (α 8).toInt64) = s
    intro hE h34 hv
    refine hL.2 i (by omega) s (150 + 900 * i) Q h wo (by omega) h34 (by rw [hE.2.2.1 20 (by decide) (by decide)]; exact e20) (fun j hj => ?_) (fun σ' hE' => ?_)
    · rw [hE.2.1 2 (by decide), Nat.zero_add]
    · rw [(hO.2 i (by omega)).2.2 h (fun k => s.L 18 (k + 1)) _ hv]
      exact K σ' (hE.tr hE')
  · rw [if_pos c] at K
    exact K σ (EvM.rf σ)
/-! ===== what is paid, barred, needed ===== -/
def og_clm (v : Int64) (lo hi : Int32) : Int32 := if v < lo.toInt64 then lo else if hi.toInt64 < v then hi else v.toInt32
theorem mWithin {Q : Int32 → OgS → Prop} {σ : OgS} {v : Int64} {lo hi : Int32} (K : Q (og_clm v lo hi) σ) : wX5_within Q v lo hi σ := by
  unfold og_clm at K
  unfold wX5_within
  simp only [fa_lt64, fa_le64] at K ⊢
  refine ⟨fun c => ⟨fun d => ?_, fun d => ?_⟩, fun c => ?_⟩
  · rw [if_neg (by omega), if_neg (by omega)] at K
    exact K
  · rw [if_neg (by omega), if_pos (by omega)] at K
    exact K
  · rw [if_pos (by omega)] at K
    exact K
theorem cNear {Γ : OgG} {Q : Int32 → OgC → Prop} {σ : OgC} {v : Int64} {lo hi : Int32} (hl : lo.toInt ≤ hi.toInt) (K : Q (og_clm v lo hi) σ) : wX0_near Γ Q v lo hi σ := by
  have a1 : lo.toInt64.toInt = lo.toInt := Int32.toInt_toInt64 _
  have a2 : hi.toInt64.toInt = hi.toInt := Int32.toInt_toInt64 _
  have b1 : lo.toInt64.toInt32 = lo := by simp
  have b2 : hi.toInt64.toInt32 = hi := by simp
  unfold wX0_near
  simp only [forall_eq]
  unfold og_clm at K
  simp only [fa_lt64] at K ⊢
  by_cases c : v.toInt < hi.toInt64.toInt
  · rw [if_pos c]
    by_cases d : v.toInt < lo.toInt64.toInt
    · rw [if_pos d] at K ⊢
      rw [b1]
      exact K
    · rw [if_neg d] at K ⊢
      rw [if_neg (by omega)] at K
      exact K
  · rw [if_neg c, if_neg (by omega), b2]
    rw [if_neg (by omega)] at K
    by_cases d : hi.toInt64.toInt < v.toInt
    · rw [if_pos d] at K
      exact K
    · rw [if_neg d] at K
      have : v = hi.toInt64 := by rw [fa_eq64]; omega
      rw [this, b2] at K
      exact K
def og_or (o : Option Int64) (lo hi wo : Int32) : Int32 := match o with
  | none => wo
  | some v => og_clm v lo hi
theorem cOr {Γ : OgG} {Q : Int32 → OgC → Prop} {σ : OgC} {o : Option Int64} {lo hi wo : Int32} (ho : o ≠ some (-4000000000)) (hl : lo.toInt ≤ hi.toInt) (K : Q (og_or o lo hi wo) σ) : wX0_or Γ Q (o.getD (-4000000000)) lo hi wo σ := by
  cases o with
  | none => exact ⟨fun e => absurd rfl e, fun _ => K⟩
  | some v =>
    refine ⟨fun _ => cNear hl K, fun e => absurd ?_ ho⟩
    have e' : v = -4000000000 := e
    rw [e']
theorem mOr {Q : Int32 → OgS → Prop} {σ : OgS} {o : Option Int64} {lo hi wo : Int32} (h1 : lo.toInt ≤ wo.toInt) (h2 : wo.toInt ≤ hi.toInt) (K : Q (og_or o lo hi wo) σ) : wX5_within Q (o.getD wo.toInt64) lo hi σ := by
  cases o with
  | some v => exact mWithin K
  | none =>
    refine mWithin ?_
    have : og_clm wo.toInt64 lo hi = wo := by
      unfold og_clm
      simp only [fa_lt64, Int32.toInt_toInt64]
      rw [if_neg (by omega), if_neg (by omega)]
      simp
    show Q (og_clm wo.toInt64 lo hi) σ
    rw [this]
    exact K
theorem says_ok {α : Nat → Int32} {T : Nat → Int32 → (Nat → Int64) → Option Int64} {nl : Nat} (hR : Rng α) (hO : LsO nl T) (h5 : (α 5).toInt < nl) {h : Int32} {f : Nat} {sg ar be en : Int32} : og_says α T h f sg ar be en ≠ some (-4000000000) ∧ (h = 3 → ∀ w, og_says α T h f sg ar be en = some w → w = 1) := by
  unfold og_says
  by_cases c : α 5 = -1
  · rw [if_pos c]
    exact ⟨fun e => (by cases e), fun _ w e => (by cases e)⟩
  · rw [if_neg c]
    have r5 := hR.at 5 (lo := -1) (hi := 5) rfl
    have c5 : ¬ (α 5).toInt = -1 := fun z => c (by rw [fa_eq, z]; decide)
    obtain ⟨i, hi, e5⟩ := og_nat (x := α 5) (hi := 5) (by omega) r5.2
    rw [e5, nI_toInt (by omega)] at h5
    rw [e5, nI_clamp (by omega)]
    refine ⟨(hO.2 i (by omega)).1 h _, fun e w => ?_⟩
    rw [e]
    exact (hO.2 i (by omega)).2.1 _ w
/-- the class's side stands at row α with laws T -/
def LtC (Z : Nat → Prop) (Γ : OgG) (t : Nat) (α : Nat → Int32) (nl : Nat) (T : Nat → Int32 → (Nat → Int64) → Option Int64) (σ : OgC) : Prop := RdT t α σ ∧ LsC Z Γ σ 16 nl T
def LtM (α : Nat → Int32) (nl : Nat) (T : Nat → Int32 → (Nat → Int64) → Option Int64) (σ : OgS) : Prop := FlM α σ ∧ LsM σ 2 0 nl T
/-- what holds of row and laws alone -/
def LtO (α : Nat → Int32) (nl : Nat) (T : Nat → Int32 → (Nat → Int64) → Option Int64) : Prop := Rng α ∧ LsO nl T ∧ (α 5).toInt < nl
theorem EvC.lt {Z : Nat → Prop} {Γ : OgG} {t : Nat} {α : Nat → Int32} {nl : Nat} {T : Nat → Int32 → (Nat → Int64) → Option Int64} {σ σ' : OgC} (h : EvC σ σ') (hL : LtC Z Γ t α nl T σ) : LtC Z Γ t α nl T σ' := ⟨h.rd hL.1, h.ls hL.2⟩
theorem EvM.lt {α : Nat → Int32} {nl : Nat} {T : Nat → Int32 → (Nat → Int64) → Option Int64} {σ σ' : OgS} (h : EvM σ σ') (hL : LtM α nl T σ) : LtM α nl T σ' := ⟨h.fl hL.1, h.ls (by decide) hL.2⟩
section Ask
variable {Z : Nat → Prop} {Γ : OgG} {t : Nat} {α : Nat → Int32} {nl : Nat} {T : Nat → Int32 → (Nat → Int64) → Option Int64}
def og_pays (α : Nat → Int32) (T : Nat → Int32 → (Nat → Int64) → Option Int64) (f s : Nat) : Int32 := og_or (og_says α T 1 f (nI s) (-1) (-1) (-1)) 0 99 (α (49 + s))
def og_bar (α : Nat → Int32) (T : Nat → Int32 → (Nat → Int64) → Option Int64) (f s : Nat) : Bool := (og_says α T 3 f (nI s) (-1) (-1) (-1)).isSome
def og_need (α : Nat → Int32) (T : Nat → Int32 → (Nat → Int64) → Option Int64) (f : Nat) (ar be : Int32) : Int32 := og_or (og_says α T 0 f (-1) ar be (-1)) 0 100 50
def og_turn (α : Nat → Int32) (T : Nat → Int32 → (Nat → Int64) → Option Int64) (f : Nat) (ar s : Int32) : Bool := decide (¬ og_hun α f s < og_need α T f ar (og_hun α f s))
theorem cPays {Q : Int32 → OgC → Prop} {σ : OgC} (hC : LtC Z Γ 3 α nl T σ) (hO : LtO α nl T) {f s : Nat} (hf : f < 6) (hs : s < 6) (K : ∀ σ', EvC σ σ' → Q (og_pays α T f s) σ') : wX0_pays Γ Q (nI f) (nI s) σ := by
  unfold wX0_pays
  refine cSays hC.1 hO.1 hC.2 hO.2.1 hO.2.2 hf (fun σ' hE => ⟨vp_in_nI hs (by decide), ?_⟩)
  rw [nI_clamp (by omega), (hE.rd hC.1).2.1.2.2.2 s hs]
  exact cOr (says_ok hO.1 hO.2.1 hO.2.2).1 (by decide) (K σ' hE)
theorem mPays {Q : Int32 → OgS → Prop} {σ : OgS} (hM : LtM α nl T σ) (hO : LtO α nl T) {f s : Nat} (hf : f < 6) (hs : s < 6) (K : ∀ σ', EvM σ σ' → Q (og_pays α T f s) σ') : wX5_paysOf Q (nI f) (nI s) σ := by
  have hp := hO.1.at (49 + s) (bd_full hs).2.2
  unfold wX5_paysOf
  rw [show (49 : Int32) + nI s = nI (49 + s) from nI_add 49 s, nI_clamp (by omega), hM.1.1 _ (by omega) (by omega)]
  exact ⟨vp_in_nI (by omega) (by decide), mTells hM.1 hO.1 hM.2 hO.2.1 hO.2.2 hf (fun σ' hE => mOr hp.1 hp.2 (K σ' hE))⟩
theorem cBar {Q : Int32 → OgC → Prop} {σ : OgC} (hC : LtC Z Γ t α nl T σ) (hO : LtO α nl T) {f s : Nat} (hf : f < 6) (K : ∀ σ', EvC σ σ' → Q (if og_bar α T f s then 1 else 0) σ') : wX0_isBarred Γ Q t (nI f) (nI s) σ := by
  unfold wX0_isBarred
  refine cSays hC.1 hO.1 hC.2 hO.2.1 hO.2.2 hf (fun σ' hE => ?_)
  have KK := K σ' hE
  have ok := (says_ok (h := 3) (f := f) (sg := nI s) (ar := -1) (be := -1) (en := -1) hO.1 hO.2.1 hO.2.2)
  unfold og_bar at KK
  cases e : og_says α T 3 f (nI s) (-1) (-1) (-1) with
  | none =>
    rw [e] at KK
    exact ⟨fun _ => KK, fun z => absurd rfl z⟩
  | some w =>
    rw [e] at KK ok
    refine ⟨fun z => absurd ?_ ok.1, fun _ => KK⟩
    have z' : w = -4000000000 := z
    rw [z']
theorem mBar {Q : Int32 → OgS → Prop} {σ : OgS} (hM : LtM α nl T σ) (hO : LtO α nl T) {f s : Nat} (hf : f < 6) (K : ∀ σ', EvM σ σ' → Q (if og_bar α T f s then 1 else 0) σ') : wX5_isBarred Q (nI f) (nI s) σ := by
  unfold wX5_isBarred
  refine mTells hM.1 hO.1 hM.2 hO.2.1 hO.2.2 hf (fun σ' hE => ?_)
  have KK := K σ' hE
  have ok := (says_ok (h := 3) (f := f) (sg := nI s) (ar := -1) (be := -1) (en := -1) hO.1 hO.2.1 hO.2.2).2 rfl
  unfold og_bar at KK
  cases e : og_says α T 3 f (nI s) (-1) (-1) (-1) with
  | none =>
    rw [e] at KK
    exact ⟨fun _ => KK, fun z => absurd z (by decide)⟩
  | some w =>
    rw [e] at KK
    have hw := ok w e
    exact ⟨fun z => absurd hw z, fun _ => KK⟩
theorem cNeed {Q : Int32 → OgC → Prop} {σ : OgC} (hC : LtC Z Γ t α nl T σ) (hO : LtO α nl T) {f : Nat} (hf : f < 6) {ar be : Int32} (K : ∀ σ', EvC σ σ' → Q (og_need α T f ar be) σ') : wX0_needed Γ Q t (nI f) ar be σ := by
  unfold wX0_needed
  exact cSays hC.1 hO.1 hC.2 hO.2.1 hO.2.2 hf (fun σ' hE => cOr (says_ok hO.1 hO.2.1 hO.2.2).1 (by decide) (K σ' hE))
theorem mHun {Q : Int32 → OgS → Prop} {σ : OgS} (hM : LtM α nl T σ) (hO : LtO α nl T) {f : Nat} (hf : f < 6) {s : Int32} (K : Q (og_hun α f s) σ) : wX5_hundredths Q (nI f) s σ := mBelief hM.1 hO.1 hf K
theorem mNeed {Q : Int32 → OgS → Prop} {σ : OgS} (hM : LtM α nl T σ) (hO : LtO α nl T) {f : Nat} (hf : f < 6) {ar s : Int32} (K : ∀ σ', EvM σ σ' → Q (og_need α T f ar (og_hun α f s)) σ') : wX5_turnsAt Q (nI f) ar s σ := by
  unfold wX5_turnsAt
  refine mHun hM hO hf (mTells hM.1 hO.1 hM.2 hO.2.1 hO.2.2 hf (fun σ' hE => ?_))
  have := mOr (Q := Q) (σ := σ') (o := og_says α T 0 f (-1) ar (og_hun α f s) (-1)) (lo := 0) (hi := 100) (wo := 50) (by decide) (by decide) (K σ' hE)
  exact this
theorem cTurn {Q : Int32 → OgC → Prop} {σ : OgC} (hC : LtC Z Γ t α nl T σ) (hO : LtO α nl T) {f : Nat} (hf : f < 6) {ar s : Int32} (K : ∀ σ', EvC σ σ' → Q (if og_turn α T f ar s then 1 else 0) σ') : wX0_turns Γ Q t (nI f) ar s σ := by
  unfold wX0_turns
  refine cBelief hC.1 hO.1 hf ?_
  simp only [forall_eq]
  rw [(hun_eq hO.1 hf s).1]
  refine cNeed hC hO hf (fun σ' hE => ?_)
  have KK := K σ' hE
  unfold og_turn at KK
  refine ⟨fun c => ?_, fun c => ?_⟩
  · simpa [c] using KK
  · simpa [c] using KK
theorem mTurn {Q : Int32 → OgS → Prop} {σ : OgS} (hM : LtM α nl T σ) (hO : LtO α nl T) {f : Nat} (hf : f < 6) {ar s : Int32} (K : ∀ σ', EvM σ σ' → Q (if og_turn α T f ar s then 1 else 0) σ') : wX5_isTurned Q (nI f) ar s σ := by
  unfold wX5_isTurned
  refine mHun hM hO hf (mNeed hM hO hf (fun σ' hE => ?_))
  have KK := K σ' hE
  unfold og_turn at KK
  refine ⟨fun c => ?_, fun c => ?_⟩
  · simpa [c] using KK
  · simpa [c] using KK
end Ask
