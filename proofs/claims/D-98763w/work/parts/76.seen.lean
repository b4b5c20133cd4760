/-! ===== fires: what is seen, what fits ===== -/
theorem nI_lei {a b : Nat} (ha : a < 2 ^ 31) (hb : b < 2 ^ 31) : nI a ≤ nI b ↔ a ≤ b := by
  rw [fa_le, nI_toInt ha, nI_toInt hb]
  omega
theorem nI_s (n : Nat) : nI n + 1 = nI (n + 1) := nI_add n 1
theorem nI_nn (n : Nat) (h : n < 2 ^ 31) : 0 ≤ nI n := by
  rw [fa_le, nI_toInt h]
  show (0 : Int) ≤ _
  omega
theorem cIs {Γ : OgG} {Q : Int32 → OgC → Prop} {x : Int32} {σ : OgC} {k : Nat} (hk : k < 32) : wX0_isOf Γ Q x (nI k) σ = Q (if bt x k then 1 else 0) σ := by
  unfold wX0_isOf
  rw [bt_sh x hk]
  by_cases h : bt x k = true <;> simp [h]
theorem mIs {Q : Int32 → OgS → Prop} {x : Int32} {σ : OgS} {k : Nat} (hk : k < 32) : wX5_is Q x (nI k) σ = Q (if bt x k then 1 else 0) σ := by
  unfold wX5_is
  rw [bt_sh x hk]
  by_cases h : bt x k = true <;> simp [h]
def og_seen (α : Nat → Int32) (n h : Nat) (s : Int32) : Nat := fa_cnt (fun k => bt s k && bt (α (91 + k)) h) n
theorem seen_le (α : Nat → Int32) (n h : Nat) (s : Int32) : og_seen α n h s ≤ n := fa_cnt_le _ _
theorem cSeen {Γ : OgG} {Q : Int32 → OgC → Prop} {α : Nat → Int32} {σ : OgC} (hF : FlF α σ) {n : Nat} (hn : n ≤ 10) (hα : α 2 = nI n) {h : Nat} (hh : h < 32) {s : Int32} (K : Q (nI (og_seen α n h s)) σ) : wX0_seenFrom Γ Q (nI h) s σ := by
  have hC : σ.I 2 12 = nI n := (hF.at 2 rfl 0 (by omega) rfl rfl).trans hα
  refine for3 n (fun k => nI (og_seen α k h s)) nI (fun _ => σ) (fun _ => True) (fun K' k hk _ hK => ?_) trivial
  have hle := seen_le α k h s
  unfold wX0_seenFrom_B5 wX0_seenFrom_48 wX0_seenFrom_49
  rw [hC, nI_lei (by omega) (by omega)]
  by_cases g : n ≤ k
  · obtain rfl : k = n := by omega
    exact ⟨fun _ => K, fun e => absurd (Nat.le_refl _) e⟩
  · refine ⟨fun e => absurd e g, fun _ => ?_⟩
    have hF' : σ.I 12 k = α (91 + k) := hF.at 16 rfl k (by omega) (Nat.zero_add k) rfl
    have hK := hK (by omega) trivial
    rw [cIs (by omega), nI_clamp (by omega), hF', cIs hh, nI_s]
    unfold og_seen at hK ⊢
    by_cases b1 : bt s k = true
    · by_cases b2 : bt (α (91 + k)) h = true
      · rw [fa_cnt_yes (by simp [b1, b2])] at hK
        simp only [b1, b2, if_true]
        refine ⟨fun e => absurd e (by decide), fun _ => ⟨vp_in_nI (by omega) (by decide), fun e => absurd e (by decide), fun _ v1 e1 x4 e4 => ?_⟩⟩
        subst e1 e4
        rw [nI_s]
        exact hK
      · rw [fa_cnt_no (by simp [b2])] at hK
        simp only [b1, b2, if_true, if_false]
        refine ⟨fun e => absurd e (by decide), fun _ => ⟨vp_in_nI (by omega) (by decide), fun _ v1 e1 x4 e4 => ?_, fun e => absurd rfl e⟩⟩
        subst e1 e4
        rw [show nI (fa_cnt (fun k => bt s k && bt (α (91 + k)) h) k) + 0 = nI (fa_cnt (fun k => bt s k && bt (α (91 + k)) h) k) from nI_add _ 0]
        exact hK
    · rw [fa_cnt_no (by simp [b1])] at hK
      simp only [b1, if_false]
      refine ⟨fun _ v1 e1 x4 e4 => ?_, fun e => absurd rfl e⟩
      subst e1 e4
      rw [show nI (fa_cnt (fun k => bt s k && bt (α (91 + k)) h) k) + 0 = nI (fa_cnt (fun k => bt s k && bt (α (91 + k)) h) k) from nI_add _ 0]
      exact hK
theorem mSeen {Q : Int32 → OgS → Prop} {α : Nat → Int32} {σ : OgS} (hF : FlM α σ) {n : Nat} (hn : n ≤ 10) (hα : α 2 = nI n) {h : Nat} (hh : h < 32) {s : Int32} (K : Q (nI (og_seen α n h s)) σ) : wX5_seenFrom Q (nI h) s σ := by
  have hC : σ.I 2 2 = nI n := (hF.1 2 (by omega) (by omega)).trans hα
  refine for3 n (fun k => nI (og_seen α k h s)) nI (fun _ => σ) (fun _ => True) (fun K' k hk _ hK => ?_) trivial
  have hle := seen_le α k h s
  unfold wX5_seenFrom_B5 wX5_seenFrom_47 wX5_seenFrom_48
  rw [hC, nI_lei (by omega) (by omega)]
  by_cases g : n ≤ k
  · obtain rfl : k = n := by omega
    exact ⟨fun _ => K, fun e => absurd (Nat.le_refl _) e⟩
  · refine ⟨fun e => absurd e g, fun _ => ?_⟩
    have e91 : (91 : Int32) + nI k = nI (91 + k) := nI_add 91 k
    have hF' : σ.I 2 (91 + k) = α (91 + k) := hF.1 (91 + k) (by omega) (by omega)
    have hK := hK (by omega) trivial
    rw [mIs (by omega), e91, nI_clamp (by omega), hF', mIs hh, nI_s]
    unfold og_seen at hK ⊢
    by_cases b1 : bt s k = true
    · by_cases b2 : bt (α (91 + k)) h = true
      · rw [fa_cnt_yes (by simp [b1, b2])] at hK
        simp only [b1, b2, if_true]
        refine ⟨fun e => absurd e (by decide), fun _ => ⟨vp_in_nI (by omega) (by decide), fun e => absurd e (by decide), fun _ v1 e1 x4 e4 => ?_⟩⟩
        subst e1 e4
        rw [nI_s]
        exact hK
      · rw [fa_cnt_no (by simp [b2])] at hK
        simp only [b1, b2, if_true, if_false]
        refine ⟨fun e => absurd e (by decide), fun _ => ⟨vp_in_nI (by omega) (by decide), fun _ v1 e1 x4 e4 => ?_, fun e => absurd rfl e⟩⟩
        subst e1 e4
        rw [show nI (fa_cnt (fun k => bt s k && bt (α (91 + k)) h) k) + 0 = nI (fa_cnt (fun k => bt s k && bt (α (91 + k)) h) k) from nI_add _ 0]
        exact hK
    · rw [fa_cnt_no (by simp [b1])] at hK
      simp only [b1, if_false]
      refine ⟨fun _ v1 e1 x4 e4 => ?_, fun e => absurd rfl e⟩
      subst e1 e4
      rw [show nI (fa_cnt (fun k => bt s k && bt (α (91 + k)) h) k) + 0 = nI (fa_cnt (fun k => bt s k && bt (α (91 + k)) h) k) from nI_add _ 0]
      exact hK
/-- all of the first n -/
def og_all (p : Nat → Bool) : Nat → Bool := fun n => n.rec true (fun k b => b && p k)
theorem all_s (p : Nat → Bool) (n : Nat) : og_all p (n + 1) = (og_all p n && p n) := rfl
theorem all_f {p : Nat → Bool} {k : Nat} (h : og_all p k = false) : ∀ n, k ≤ n → og_all p n = false
  | 0, hn => by obtain rfl : k = 0 := by omega
                exact h
  | n + 1, hn => by
    by_cases e : k = n + 1
    · subst e
      exact h
    · rw [all_s, all_f h n (by omega)]
      rfl
/-- a counting's row fits a set -/
def og_fit1 (α : Nat → Int32) (n : Nat) (s : Int32) (k : Nat) : Bool := decide (nI (og_seen α n (α (107 + 2 * k)).toNatClampNeg s) = α (107 + 2 * k + 1))
def og_fit (α : Nat → Int32) (n m : Nat) (s : Int32) : Bool := og_all (og_fit1 α n s) m
theorem bd_cnt {k : Nat} (h : k < 16) : og_bd (107 + k) = some (0, 9) := by
  have key : ∀ i : Fin 16, og_bd (107 + i.val) = some (0, 9) := by decide +kernel
  exact key ⟨k, h⟩
theorem cFit {Γ : OgG} {Q : Int32 → OgC → Prop} {α : Nat → Int32} {σ : OgC} (hF : FlF α σ) (hR : Rng α) {n m : Nat} (hn : n ≤ 10) (hα : α 2 = nI n) (hm : m ≤ 8) (hβ : α 3 = nI m) {s : Int32} (K : Q (if og_fit α n m s then 1 else 0) σ) : wX0_isFitting Γ Q s σ := by
  have hC : σ.I 2 13 = nI m := (hF.at 3 rfl 0 (by omega) rfl rfl).trans hβ
  refine for2 m nI (fun _ => σ) (fun k => og_fit α n k s = true) (fun K' k hk p hK => ?_) rfl
  unfold wX0_isFitting_B2
  rw [hC, nI_lei (by omega) (by omega)]
  by_cases g : m ≤ k
  · obtain rfl : k = m := by omega
    rw [if_pos p] at K
    exact ⟨fun _ => K, fun e => absurd (Nat.le_refl _) e⟩
  · refine ⟨fun e => absurd e g, fun _ => ?_⟩
    have m2 : (2 : Int32) * nI k = nI (2 * k) := nI_m 2 k
    have m21 : nI (2 * k) + 1 = nI (2 * k + 1) := nI_add (2 * k) 1
    have f1 : σ.I 14 (2 * k) = α (107 + 2 * k) := hF.at 18 rfl (2 * k) (by omega) (Nat.zero_add _) rfl
    have f2 : σ.I 14 (2 * k + 1) = α (107 + 2 * k + 1) := hF.at 18 rfl (2 * k + 1) (by omega) (Nat.zero_add _) rfl
    obtain ⟨h, hh, e⟩ := hR.nat (107 + 2 * k) (hi := 9) (bd_cnt (by omega))
    have e1 : og_fit1 α n s k = decide (nI (og_seen α n h s) = α (107 + 2 * k + 1)) := by
      unfold og_fit1
      rw [e, nI_clamp (by omega)]
    rw [m2, m21, nI_clamp (by omega), nI_clamp (by omega), f1, e]
    refine ⟨vp_in_nI (by omega) (by decide), cSeen hF hn hα (by omega) ⟨vp_in_nI (by omega) (by decide), fun q x2 e2 => ?_, fun q => ?_⟩⟩
    · rw [f2] at q
      subst e2
      rw [nI_s]
      refine hK (by omega) ?_
      unfold og_fit at p ⊢
      rw [all_s, p, e1]
      simpa using q
    · rw [f2] at q
      have : og_fit α n m s = false := by
        unfold og_fit
        refine all_f (k := k + 1) ?_ m (by omega)
        rw [all_s, e1]
        simp [q]
      rw [this] at K
      exact K
theorem mFit {Q : Int32 → OgS → Prop} {α : Nat → Int32} {σ : OgS} (hF : FlM α σ) (hR : Rng α) {n m : Nat} (hn : n ≤ 10) (hα : α 2 = nI n) (hm : m ≤ 8) (hβ : α 3 = nI m) {s : Int32} (K : Q (if og_fit α n m s then 1 else 0) σ) : wX5_isFitting Q s σ := by
  have hC : σ.I 2 3 = nI m := (hF.1 3 (by omega) (by omega)).trans hβ
  refine for3 m (fun k => if og_fit α n k s then 1 else 0) nI (fun _ => σ) (fun _ => True) (fun K' k hk _ hK => ?_) trivial
  unfold wX5_isFitting_B4 wX5_isFitting_55
  rw [hC, nI_lei (by omega) (by omega), if10, if11]
  by_cases g : m ≤ k
  · obtain rfl : k = m := by omega
    exact ⟨fun _ => ⟨by cases og_fit α n k s <;> simp, K⟩, fun e => absurd (Nat.le_refl _) e⟩
  · refine ⟨fun e => absurd e g, fun _ => ⟨fun q => ?_, fun q => ?_⟩⟩
    · have : og_fit α n m s = false := all_f (k := k) (by unfold og_fit at q; simpa using q) m (by omega)
      rw [this] at K
      refine ⟨Or.inl q, ?_⟩
      rw [if_neg q]
      exact K
    · have p : og_fit α n k s = true := by simpa using q
      have hK := hK (by omega) trivial
      have m2 : (107 : Int32) + (2 : Int32) * nI k = nI (107 + 2 * k) := by rw [show (2 : Int32) * nI k = nI (2 * k) from nI_m 2 k]; exact nI_add 107 (2 * k)
      have m21 : nI (107 + 2 * k) + 1 = nI (107 + 2 * k + 1) := nI_add _ 1
      have f1 : σ.I 2 (107 + 2 * k) = α (107 + 2 * k) := hF.1 _ (by omega) (by omega)
      have f2 : σ.I 2 (107 + 2 * k + 1) = α (107 + 2 * k + 1) := hF.1 _ (by omega) (by omega)
      obtain ⟨h, hh, e⟩ := hR.nat (107 + 2 * k) (hi := 9) (bd_cnt (by omega))
      have e1 : og_fit1 α n s k = decide (nI (og_seen α n h s) = α (107 + 2 * k + 1)) := by
        unfold og_fit1
        rw [e, nI_clamp (by omega)]
      unfold og_fit at hK p
      rw [all_s, p, e1] at hK
      rw [m2, m21, nI_clamp (by omega), nI_clamp (by omega), f1, e]
      refine ⟨vp_in_nI (by omega) (by decide), mSeen hF hn hα (by omega) ⟨vp_in_nI (by omega) (by decide), fun q x2 e2 => ?_, fun q x2 e2 => ?_⟩⟩
      · rw [f2] at q
        subst e2
        rw [nI_s]
        simpa [q] using hK
      · rw [f2] at q
        subst e2
        rw [nI_s]
        simpa [q] using hK
