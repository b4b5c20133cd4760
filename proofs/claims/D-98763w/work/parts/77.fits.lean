theorem shl1 : ∀ n, n ≤ 10 → (1 : Int32) <<< (nI n &&& 31) = nI (2 ^ n) := by
  have key : ∀ n : Fin 11, (1 : Int32) <<< (nI n.val &&& 31) = nI (2 ^ n.val) := by decide +kernel
  exact fun n hn => key ⟨n, by omega⟩
theorem pow10 {n : Nat} (h : n ≤ 10) : 2 ^ n ≤ 1024 := Nat.pow_le_pow_right (by decide) h
theorem pow1 (n : Nat) : 1 ≤ 2 ^ n := Nat.one_le_two_pow
def og_fc (α : Nat → Int32) (n m k : Nat) : Nat := fa_cnt (fun s => og_fit α n m (nI s)) k
def og_its (α : Nat → Int32) (n m : Nat) (i : Int32) : Nat → Int32 := fun k => k.rec (-1) (fun k r => if og_fit α n m (nI k) = true ∧ nI (og_fc α n m k) = i then nI k else r)
theorem its_s (α : Nat → Int32) (n m : Nat) (i : Int32) (k : Nat) : og_its α n m i (k + 1) = if og_fit α n m (nI k) = true ∧ nI (og_fc α n m k) = i then nI k else og_its α n m i k := rfl
theorem fc_le (α : Nat → Int32) (n m k : Nat) : og_fc α n m k ≤ k := fa_cnt_le _ _
theorem fc_s (α : Nat → Int32) (n m k : Nat) : og_fc α n m (k + 1) = if og_fit α n m (nI k) = true then og_fc α n m k + 1 else og_fc α n m k := by
  unfold og_fc
  by_cases h : og_fit α n m (nI k) = true
  · rw [fa_cnt_yes (p := fun s => og_fit α n m (nI s)) h, if_pos h]
  · rw [fa_cnt_no (p := fun s => og_fit α n m (nI s)) (by simpa using h), if_neg h]
theorem fc_mono (α : Nat → Int32) (n m : Nat) {a : Nat} : ∀ b, a ≤ b → og_fc α n m a ≤ og_fc α n m b
  | 0, h => by
    obtain rfl : a = 0 := by omega
    exact Nat.le_refl _
  | b + 1, h => by
    by_cases e : a = b + 1
    · subst e
      exact Nat.le_refl _
    · have := fc_mono α n m (a := a) b (by omega)
      rw [fc_s]
      split <;> omega
theorem its_k {α : Nat → Int32} {n m k : Nat} {i : Int32} (hk : k < 2000) (hf : og_fit α n m (nI k) = true) (hi : nI (og_fc α n m k) = i) : ∀ j, k < j → j < 2000 → og_its α n m i j = nI k
  | 0, h, _ => absurd h (by omega)
  | j + 1, h, hj => by
    rw [its_s]
    by_cases e : k = j
    · subst e
      rw [if_pos ⟨hf, hi⟩]
    · have h1 := fc_mono α n m (a := k + 1) j (by omega)
      rw [fc_s, if_pos hf] at h1
      have h2 := fc_le α n m j
      rw [if_neg, its_k hk hf hi j (by omega) (by omega)]
      rintro ⟨_, e2⟩
      rw [← hi, nI_eq (by omega) (by omega)] at e2
      omega
theorem cFitsL {Γ : OgG} {Q : Int32 → OgC → Prop} {α : Nat → Int32} {σ : OgC} (hF : FlF α σ) (hR : Rng α) {n m : Nat} (hn : n ≤ 10) (hα : α 2 = nI n) (hm : m ≤ 8) (hβ : α 3 = nI m) {i : Int32} (K : Q (if i = -1 then nI (og_fc α n m (2 ^ n)) else og_its α n m i (2 ^ n)) σ) : wX0_fits_11 Γ Q i (nI 0) (nI 0) σ := by
  have hC : σ.I 2 12 = nI n := (hF.at 2 rfl 0 (by omega) rfl rfl).trans hα
  have hp := pow10 hn
  refine for3 (2 ^ n) (fun k => nI (og_fc α n m k)) nI (fun _ => σ) (fun k => og_its α n m i k = -1) (fun K' k hk p hK => ?_) rfl
  have hle := fc_le α n m k
  unfold wX0_fits_B11 wX0_fits_45
  rw [hC, shl1 n hn, nI_lei (by omega) (by omega)]
  by_cases g : 2 ^ n ≤ k
  · obtain rfl : k = 2 ^ n := by omega
    rw [p] at K
    refine ⟨fun _ => ⟨fun e => ?_, fun e => ?_⟩, fun e => absurd g e⟩
    · rw [if_neg e] at K
      exact K
    · rw [if_pos e] at K
      exact K
  · refine ⟨fun e => absurd e g, fun _ => cFit hF hR hn hα hm hβ ?_⟩
    have hK := hK (by omega)
    rw [its_s, fc_s] at hK
    by_cases f : og_fit α n m (nI k) = true
    · rw [if_pos f]
      refine ⟨fun _ => ⟨fun e x2 e2 x3 e3 => ?_, fun e => ?_⟩, fun e => absurd e (by decide)⟩
      · subst e2 e3
        rw [nI_s, nI_s]
        rw [if_pos f, if_neg (fun z => e z.2)] at hK
        exact hK p
      · have hne : ¬ i = -1 := by
          intro z
          have z2 : (nI (og_fc α n m k)).toInt = -1 := by rw [e, z]; decide
          rw [nI_toInt (by omega)] at z2
          omega
        rw [if_neg hne, its_k (by omega) f e (2 ^ n) (by omega) (by omega)] at K
        exact K
    · rw [if_neg f]
      refine ⟨fun e => absurd rfl e, fun _ x3 e3 => ?_⟩
      subst e3
      rw [nI_s]
      rw [if_neg f, if_neg (fun z => f z.1)] at hK
      exact hK p
theorem mFitsL {Q : Int32 → OgS → Prop} {α : Nat → Int32} {σ : OgS} (hF : FlM α σ) (hR : Rng α) {n m : Nat} (hn : n ≤ 10) (hα : α 2 = nI n) (hm : m ≤ 8) (hβ : α 3 = nI m) {i : Int32} (K : Q (if i = -1 then nI (og_fc α n m (2 ^ n)) else og_its α n m i (2 ^ n)) σ) : wX5_fits_12 Q i (nI 0) (-1) (nI 0) σ := by
  have hC : σ.I 2 2 = nI n := (hF.1 2 (by omega) (by omega)).trans hα
  have hp := pow10 hn
  refine for4 (2 ^ n) (fun k => nI (og_fc α n m k)) (og_its α n m i) nI (fun _ => σ) (fun _ => True) (fun K' k hk _ hK => ?_) trivial
  have hle := fc_le α n m k
  unfold wX5_fits_B12 wX5_fits_45 wX5_fits_49
  rw [hC, shl1 n hn, nI_lei (by omega) (by omega)]
  by_cases g : 2 ^ n ≤ k
  · obtain rfl : k = 2 ^ n := by omega
    refine ⟨fun _ => ⟨fun e => ?_, fun e => ?_⟩, fun e => absurd g e⟩
    · rw [if_neg e] at K
      exact K
    · rw [if_pos e] at K
      exact K
  · refine ⟨fun e => absurd e g, fun _ => mFit hF hR hn hα hm hβ ?_⟩
    have hK := hK (by omega) trivial
    rw [its_s, fc_s] at hK
    by_cases f : og_fit α n m (nI k) = true
    · rw [if_pos f]
      refine ⟨fun e => absurd e (by decide), fun _ => ⟨fun e x2 e2 x3 e3 => ?_, fun e x2 e2 x3 e3 => ?_⟩⟩
      · subst e2 e3
        rw [nI_s, nI_s]
        rw [if_pos f, if_neg (fun z => e z.2)] at hK
        exact hK
      · subst e2 e3
        rw [nI_s, nI_s]
        rw [if_pos f, if_pos ⟨f, e⟩] at hK
        exact hK
    · rw [if_neg f]
      refine ⟨fun _ x3 e3 => ?_, fun e => absurd rfl e⟩
      subst e3
      rw [nI_s]
      rw [if_neg f, if_neg (fun z => f z.1)] at hK
      exact hK
theorem its_low {α : Nat → Int32} {n m : Nat} {i : Int32} (h : i.toInt < -1) : ∀ k, k < 2000 → og_its α n m i k = -1
  | 0, _ => rfl
  | k + 1, hk => by
    rw [its_s, if_neg, its_low h k (by omega)]
    rintro ⟨_, e⟩
    have := fc_le α n m k
    rw [← e, nI_toInt (by omega)] at h
    omega
theorem pFits {Γ : OgG} {α : Nat → Int32} {σM : OgS} {σC : OgC} {i : Int32} {Q : Int32 → Int32 → OgC → OgS → Prop} (h : Row α σM σC) (K : ∀ (r : Int32) (α' : Nat → Int32) (σC' : OgC) (σM' : OgS), St α σM σC α' σM' σC' → Q r r σC' σM') : wX0_fits Γ (fun r σC' => wX5_fits (fun r' σM' => Q r r' σC' σM') i σM) i σC := by
  have hS := (St.rf h).thrown 0
  obtain ⟨n, hn, hα⟩ := h.2.2.2.nat 2 (hi := 10) rfl
  obtain ⟨m, hm, hβ⟩ := h.2.2.2.nat 3 (hi := 8) rfl
  have hp := pow10 hn
  have fin : ∀ r, r = (if i = -1 then nI (og_fc α n m (2 ^ n)) else og_its α n m i (2 ^ n)) → wX5_fits (fun r' σM' => Q r r' σC σM') i σM := by
    intro r hr
    unfold wX5_fits
    simp only [forall_eq]
    refine mFitsL hS.1.1 h.2.2.2 hn hα hm hβ ?_
    rw [← hr]
    exact K _ _ _ _ hS
  unfold wX0_fits
  by_cases g : (-1 : Int32) ≤ i
  · exact ⟨fun _ => cFitsL h.2.1 h.2.2.2 hn hα hm hβ (fin _ rfl), fun e => absurd g e⟩
  · refine ⟨fun e => absurd e g, fun _ => fin _ ?_⟩
    have g' : i.toInt < -1 := by
      rw [fa_le] at g
      have : (-1 : Int32).toInt = -1 := by decide
      omega
    rw [if_neg, its_low g' _ (by omega)]
    intro e
    rw [e] at g'
    exact absurd g' (by decide)
/-! ===== the fewest fires that are enough ===== -/
def og_bc (x0 : Int32) : Int32 :=
  let v1 := (x0.toUInt32 >>> ((1 : Int32).toUInt32 &&& Int32.toUInt32 31)).toInt32
  let v2 := x0 - (v1 &&& (1431655765 : Int32))
  let v3 := (v2.toUInt32 >>> ((2 : Int32).toUInt32 &&& Int32.toUInt32 31)).toInt32
  let v4 := (v2 &&& (858993459 : Int32)) + (v3 &&& (858993459 : Int32))
  let v5 := (v4.toUInt32 >>> ((4 : Int32).toUInt32 &&& Int32.toUInt32 31)).toInt32
  let v6 := (v4 + v5) &&& (252645135 : Int32)
  let v7 := (v6.toUInt32 >>> ((8 : Int32).toUInt32 &&& Int32.toUInt32 31)).toInt32
  let v8 := v6 + v7
  let v9 := (v8.toUInt32 >>> ((16 : Int32).toUInt32 &&& Int32.toUInt32 31)).toInt32
  (v8 + v9) &&& (63 : Int32)
def og_pc (k : Nat) : Nat := fa_cnt (fun j => bt (nI k) j) 10
theorem bc_pc : ∀ k, k < 1024 → og_bc (nI k) = nI (og_pc k) := by
  have key : ∀ k : Fin 1024, og_bc (nI k.val) = nI (og_pc k.val) := by decide +kernel
  exact fun k hk => key ⟨k, hk⟩
theorem cOnes {Γ : OgG} {Q : Int32 → OgC → Prop} {σ : OgC} {k : Nat} (hk : k < 1024) (K : Q (nI (og_pc k)) σ) : wX0_ones Γ Q (nI k) σ := by
  unfold wX0_ones wJ13_bitCount
  simp only [forall_eq]
  rw [← bc_pc k hk] at K
  exact K
theorem mOnes {Q : Int32 → OgS → Prop} {σ : OgS} {k : Nat} (K : Q (nI (og_pc k)) σ) : wX5_ones Q (nI k) σ := by
  refine for3 10 (fun j => nI (fa_cnt (fun j => bt (nI k) j) j)) nI (fun _ => σ) (fun _ => True) (fun K' j hj _ hK => ?_) trivial
  unfold wX5_ones_B4
  rw [show (10 : Int32) = nI 10 from rfl, nI_lei (by omega) (by omega)]
  by_cases g : 10 ≤ j
  · obtain rfl : j = 10 := by omega
    exact ⟨fun _ => K, fun e => absurd g e⟩
  · refine ⟨fun e => absurd e g, fun _ v2 e2 x2 e3 => ?_⟩
    have hK := hK (by omega) trivial
    rw [bt_sh _ (by omega)] at e2
    subst e2 e3
    rw [nI_s]
    by_cases b : bt (nI k) j = true
    · rw [fa_cnt_yes b] at hK
      rw [if_pos b, nI_s]
      exact hK
    · rw [fa_cnt_no (by simpa using b)] at hK
      rw [if_neg b, show nI (fa_cnt (fun j => bt (nI k) j) j) + 0 = nI (fa_cnt (fun j => bt (nI k) j) j) from nI_add _ 0]
      exact hK
