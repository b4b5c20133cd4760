theorem nI_c (c n : Nat) (h : c + n < 2 ^ 31) : (nI c + nI n).toNatClampNeg = c + n := by rw [nI_add, nI_clamp h]
theorem vp_c (c n : Nat) {m : Nat} (h : c + n < m) (hm : m < 2 ^ 31) : vp_in (nI c + nI n) m := vp_inN (nI_add c n) h hm
/-- what a flat step leaves as it was -/
def OnlyC (σ σ' : OgC) : Prop := σ'.R = σ.R ∧ σ'.L = σ.L ∧ ∀ a, 16 ≤ a → σ'.I a = σ.I a
def OnlyM (σ σ' : OgS) : Prop := σ'.L = σ.L ∧ σ'.top = σ.top ∧ (∀ a, 3 ≤ a → σ'.I a = σ.I a) ∧ ∀ j, 150 ≤ j ∨ j = 4 → σ'.I 2 j = σ.I 2 j
theorem OnlyC.rf (σ : OgC) : OnlyC σ σ := ⟨rfl, rfl, fun _ _ => rfl⟩
theorem OnlyM.rf (σ : OgS) : OnlyM σ σ := ⟨rfl, rfl, fun _ _ => rfl, fun _ _ => rfl⟩
theorem OnlyC.put {σ σ' : OgC} (h : OnlyC σ σ') (a k : Nat) (v : Int32) (ha : a < 16) : OnlyC σ (σ'.sI a k v) := by
  refine ⟨h.1, h.2.1, fun x hx => ?_⟩
  funext j
  rw [C_II, if_neg (by omega), h.2.2 x hx]
theorem OnlyM.put {σ σ' : OgS} (h : OnlyM σ σ') (a k : Nat) (v : Int32) (ha : a < 2 ∨ (a = 2 ∧ k < 150 ∧ k ≠ 4)) : OnlyM σ (σ'.sI a k v) := by
  refine ⟨h.1, h.2.1, fun x hx => ?_, fun j hj => ?_⟩
  · funext j
    rw [S_II, if_neg (by omega), h.2.2.1 x hx]
  · rw [S_II]
    split
    · rw [if_neg (by omega), h.2.2.2 j hj]
    · exact h.2.2.2 j hj
/-- a fort that isn't there isn't taken -/
def TkZ (α : Nat → Int32) : Prop := ∀ f : Nat, f < 6 → (α 0).toInt ≤ (f : Int) → α (25 + f) = 0
theorem TkZ.al {α : Nat → Int32} (h : TkZ α) (j : Nat) (v : Int32) (hj : j ≠ 0 ∧ (j < 25 ∨ 31 ≤ j)) : TkZ (upd α j v) := by
  intro f hf h0
  rw [pk_un (by omega)] at h0
  rw [pk_un (by omega)]
  exact h f hf h0
def Keep (α α' : Nat → Int32) : Prop := ((α' 208 = 0 ∨ (α' 208 = α 208 ∧ α' 7 = α 7 ∧ α' 8 = α 8 ∧ α' 0 = α 0)) ∧ (TkZ α → TkZ α')) ∧ α' 5 = α 5
theorem mCome {Q : Int32 → OgS → Prop} {x y : Int32} {σ : OgS} (n : Nat) (hn : n ≤ 6) (hf : σ.I 2 0 = nI n) (h1 : ¬ ((0 ≤ x ∧ x ≤ 99) ∧ 0 ≤ y ∧ y ≤ 3) → Q (-1) σ) (h2 : (0 ≤ x ∧ x ≤ 99) ∧ 0 ≤ y ∧ y ≤ 3 → n = 6 → Q (-5) σ)
    (h3 : (0 ≤ x ∧ x ≤ 99) ∧ 0 ≤ y ∧ y ≤ 3 → n < 6 → Q (nI n) ((((((σ.sI 2 (13 + n) x).sI 2 (31 + n) y).sI 2 (19 + n) 0).sI 2 (25 + n) 0).sI 2 0 (nI n + 1)).sI 0 8 0)) : wX5_come Q x y σ := by
  have w : ∀ (v : Int32) (a b : Int64) (a' b' : Int32), a = a'.toInt64 → b = b'.toInt64 → ((a ≤ v.toInt64 ∧ v.toInt64 ≤ b) ↔ (a' ≤ v ∧ v ≤ b')) := by
    intro v a b a' b' ha hb
    rw [ha, hb, fa_wide_le, fa_wide_le]
  have w1 := w x 0 99 0 99 (by decide) (by decide)
  have w2 := w y 0 3 0 3 (by decide) (by decide)
  unfold wX5_come
  refine mIn (fun a b => ⟨fun e => absurd e (by decide), fun _ => ?_⟩) (fun m => ⟨fun _ => h1 (fun z => m (w1.mpr z.1)), fun e => absurd rfl e⟩)
  refine mIn (fun c d => ⟨fun _ => ?_, fun e => absurd e (by decide)⟩) (fun m => ⟨fun e => absurd rfl e, fun _ => h1 (fun z => m (w2.mpr z.2))⟩)
  have hb := And.intro (w1.mp ⟨a, b⟩) (w2.mp ⟨c, d⟩)
  intro v7 e7
  rw [hf] at e7
  subst e7
  by_cases h6 : n = 6
  · refine ⟨fun g => absurd (by rw [h6]; rfl) g, fun _ => h2 hb h6⟩
  · refine ⟨fun _ => ?_, fun g => ?_⟩
    · have e13 : ((13 : Int32) + nI n).toNatClampNeg = 13 + n := nI_c 13 n (by omega)
      have e31 : ((31 : Int32) + nI n).toNatClampNeg = 31 + n := nI_c 31 n (by omega)
      have e19 : ((19 : Int32) + nI n).toNatClampNeg = 19 + n := nI_c 19 n (by omega)
      have e25 : ((25 : Int32) + nI n).toNatClampNeg = 25 + n := nI_c 25 n (by omega)
      refine ⟨vp_c 13 n (by omega) (by omega), fun s9 e9 => ⟨vp_c 31 n (by omega) (by omega), fun s10 e10 => ⟨vp_c 19 n (by omega) (by omega), fun s11 e11 => ⟨vp_c 25 n (by omega) (by omega), fun s12 e12 s13 e13' s14 e14 => ?_⟩⟩⟩⟩
      rw [e13] at e9
      rw [e31] at e10
      rw [e19] at e11
      rw [e25] at e12
      subst e9 e10 e11 e12
      have e0 : ((((σ.sI 2 (13 + n) x).sI 2 (31 + n) y).sI 2 (19 + n) 0).sI 2 (25 + n) 0).I 2 0 = nI n := by
        simp only [S_II, if_pos, if_neg (show ¬ 0 = 25 + n by omega), if_neg (show ¬ 0 = 19 + n by omega), if_neg (show ¬ 0 = 31 + n by omega), if_neg (show ¬ 0 = 13 + n by omega), hf]
      rw [e0] at e13'
      subst e13' e14
      exact h3 hb (by omega)
    · exfalso
      have : nI n = nI 6 := g
      rw [nI_eq (by omega) (by omega)] at this
      exact h6 this
