/-! ===== retreats ===== -/
def og_rr (α : Nat → Int32) (f o : Nat) : Nat := (α (55 + (6 * f + o))).toNatClampNeg
def og_ao (α : Nat → Int32) (t f o : Nat) : Bool := decide (og_rr α f o ≠ 0) && (decide (o = t) || decide (α (25 + o) = 0))
def og_hcd (α : Nat → Int32) (t : Nat) (h : Nat → Nat) (f o : Nat) : Nat := og_cd 1000000 (og_ao α t) (og_rr α) h f o
def og_hmn (α : Nat → Int32) (t : Nat) (h : Nat → Nat) (f k : Nat) : Nat := og_mn 1000000 (og_ao α t) (og_rr α) h f k
theorem rr_ok {α : Nat → Int32} (hR : Rng α) {f o : Nat} (hf : f < 6) (ho : o < 6) : α (55 + (6 * f + o)) = nI (og_rr α f o) ∧ og_rr α f o ≤ 99 := by
  have key : ∀ i : Fin 36, og_bd (55 + i.val) = some (0, 99) := by decide +kernel
  obtain ⟨n, hn, e⟩ := hR.nat (55 + (6 * f + o)) (hi := 99) (key ⟨6 * f + o, by omega⟩)
  unfold og_rr
  rw [e, nI_clamp (by omega)]
  exact ⟨rfl, hn⟩
def HB (h : Nat → Nat) (u : Nat) : Prop := ∀ f, f < 6 → h f = 1000000 ∨ h f ≤ 99 * u
theorem HB.le {h : Nat → Nat} {u v : Nat} (hb : HB h u) (huv : u ≤ v) : HB h v := fun f hf => (hb f hf).imp id (fun z => by omega)
theorem hcd_v {α : Nat → Int32} (hR : Rng α) {t f o u : Nat} {h : Nat → Nat} (hf : f < 6) (ho : o < 6) (hb : HB h u) (hu : u ≤ 40) : og_hcd α t h f o = (if og_ao α t f o = true ∧ h o ≠ 1000000 then og_rr α f o + h o else 1000000) ∧ (og_ao α t f o = true → h o ≠ 1000000 → og_rr α f o + h o ≤ 99 * (u + 1)) := by
  have hr := (rr_ok hR hf ho).2
  unfold og_hcd og_cd
  have hb' := hb o ho
  constructor
  · by_cases c : og_ao α t f o = true
    · rw [if_pos c]
      by_cases e : h o = 1000000
      · rw [if_neg (fun z => z.2 e)]
        omega
      · rw [if_pos ⟨c, e⟩]
        omega
    · rw [if_neg c, if_neg (fun z => c z.1)]
  · intro c e
    omega
/-- the first of the quickest ways on -/
def og_am (α : Nat → Int32) (t : Nat) (h : Nat → Nat) (f : Nat) : Nat → Option Nat := fun k => k.rec none (fun k r => if og_hcd α t h f k < 1000000 ∧ (∀ j, r = some j → og_hcd α t h f k < og_hcd α t h f j) then some k else r)
theorem am_s (α : Nat → Int32) (t : Nat) (h : Nat → Nat) (f k : Nat) : og_am α t h f (k + 1) = if og_hcd α t h f k < 1000000 ∧ (∀ j, og_am α t h f k = some j → og_hcd α t h f k < og_hcd α t h f j) then some k else og_am α t h f k := by
  show (if _ then _ else _) = _
  congr
theorem hmn_s (α : Nat → Int32) (t : Nat) (h : Nat → Nat) (f k : Nat) : og_hmn α t h f (k + 1) = min (og_hmn α t h f k) (og_hcd α t h f k) := rfl
theorem am_ok (α : Nat → Int32) (t : Nat) (h : Nat → Nat) (f : Nat) : ∀ k, (og_am α t h f k = none → og_hmn α t h f k = 1000000) ∧ ∀ j, og_am α t h f k = some j → j < k ∧ og_hcd α t h f j = og_hmn α t h f k ∧ og_hmn α t h f k < 1000000 ∧ ∀ i, i < j → og_hmn α t h f k < og_hcd α t h f i
  | 0 => ⟨fun _ => rfl, fun j e => by cases e⟩
  | k + 1 => by
    obtain ⟨h1, h2⟩ := am_ok α t h f k
    have hM : og_hcd α t h f k ≤ 1000000 := cd_le _ _ _ _ _ _
    rw [am_s, hmn_s]
    cases e : og_am α t h f k with
    | none =>
      rw [h1 e]
      by_cases c : og_hcd α t h f k < 1000000
      · rw [if_pos ⟨c, fun j z => by cases z⟩]
        refine ⟨fun z => (by cases z), fun j z => ?_⟩
        cases z
        refine ⟨by omega, by omega, by omega, fun i hi => ?_⟩
        have : og_hmn α t h f k ≤ og_hcd α t h f i := mn_le k hi
        rw [h1 e] at this
        omega
      · rw [if_neg (fun z => c z.1)]
        exact ⟨fun _ => by omega, fun j z => by cases z⟩
    | some j =>
      obtain ⟨a, b, c, d⟩ := h2 j e
      by_cases q : og_hcd α t h f k < og_hcd α t h f j
      · rw [if_pos ⟨by omega, fun i z => by cases z; exact q⟩]
        refine ⟨fun z => (by cases z), fun i z => ?_⟩
        cases z
        refine ⟨by omega, by omega, by omega, fun i hi => ?_⟩
        have : og_hmn α t h f k ≤ og_hcd α t h f i := mn_le k hi
        omega
      · rw [if_neg (fun z => q (z.2 j rfl))]
        refine ⟨fun z => (by cases z), fun i z => ?_⟩
        cases z
        refine ⟨by omega, by omega, by omega, fun i hi => ?_⟩
        have := d i hi
        omega
theorem ao_0 {α : Nat → Int32} (hR : Rng α) {t f o : Nat} (hf : f < 6) (ho : o < 6) (h : α (55 + (6 * f + o)) = 0) : og_ao α t f o = false := by
  have := (rr_ok hR hf ho).1
  rw [h] at this
  have l := (rr_ok hR hf ho).2
  have : og_rr α f o = 0 := ((nI_eq (a := 0) (by omega) (by omega)).mp this).symm
  unfold og_ao
  simp [this]
theorem ao_1 {α : Nat → Int32} (hR : Rng α) {t f o : Nat} (hf : f < 6) (ho : o < 6) (h : ¬ α (55 + (6 * f + o)) = 0) : og_ao α t f o = (decide (o = t) || decide (α (25 + o) = 0)) := by
  have e := (rr_ok hR hf ho).1
  have l := (rr_ok hR hf ho).2
  have : ¬ og_rr α f o = 0 := by
    intro z
    rw [z] at e
    exact h e
  unfold og_ao
  simp [this]
theorem cGoes {Γ : OgG} {Q : Int32 → OgC → Prop} {α : Nat → Int32} {σ : OgC} (hF : FlF α σ) (hT : RdT 3 α σ) (hR : Rng α) {n t f u : Nat} (hn : n ≤ 6) (hα : α 0 = nI n) (ht : t < n) (hf : f < 6) {h : Nat → Nat} (hb : HB h u) (hu : u ≤ 40) (hh : ∀ o, o < 6 → σ.I 31 o = nI (h o)) (K : Q (og_eI (og_am α t h f n)) σ) : wX0_goesOn Γ Q (nI f) (nI t) σ := by
  have hC : σ.I 2 11 = nI n := hT.2.2.2.2.2.trans hα
  refine for3 n (fun k => og_eI (og_am α t h f k)) nI (fun _ => σ) (fun _ => True) (fun K' k hk _ hK => ?_) trivial
  unfold wX0_goesOn_B5
  rw [hC, nI_lei (by omega) (by omega)]
  by_cases g : n ≤ k
  · obtain rfl : k = n := by omega
    exact ⟨fun _ => K, fun e => absurd g e⟩
  refine ⟨fun e => absurd e g, fun _ => ?_⟩
  have hK := hK (by omega) trivial
  have v := hcd_v (t := t) (h := h) hR hf (show k < 6 by omega) hb hu
  have e6 : (6 : Int32) * nI f + nI k = nI (6 * f + k) := by rw [show (6 : Int32) * nI f = nI (6 * f) from nI_m 6 f, nI_add]
  have eR : σ.I 11 (6 * f + k) = α (55 + (6 * f + k)) := hF.at 15 rfl (6 * f + k) (by omega) (Nat.zero_add _) rfl
  have skip : ¬ (og_ao α t f k = true ∧ h k ≠ 1000000) → wX0_goesOn_115 Γ Q K' (nI f) (nI t) (og_eI (og_am α t h f k)) (nI k) σ := by
    intro q x4 e4
    subst e4
    rw [nI_s]
    rw [am_s, if_neg (fun z => by have := z.1; rw [v.1, if_neg q] at this; omega)] at hK
    exact hK
  rw [e6, nI_clamp (by omega), eR]
  refine ⟨vp_in_nI (by omega) (by decide), fun v2 e2 => ?_⟩
  subst e2
  refine ⟨fun z => skip (fun q => ?_), fun z => ⟨vp_in_nI (by omega) (by decide), ?_⟩⟩
  · rw [ao_0 hR hf (by omega) z] at q
    exact absurd q.1 (by decide)
  have ao := ao_1 (t := t) hR hf (show k < 6 by omega) z
  have hb' := hb k (by omega)
  rw [nI_clamp (by omega), hh k (by omega), show nI (h k) = 1000000 ↔ h k = 1000000 from nI_eq (b := 1000000) (by omega) (by omega)]
  refine ⟨fun z2 => skip (fun q => q.2 z2), fun z2 => ?_⟩
  have take : og_ao α t f k = true → wX0_goesOn_73 Γ Q K' (nI f) (nI t) (og_eI (og_am α t h f k)) (nI k) (α (55 + (6 * f + k))) σ := by
    intro q
    have er := rr_ok hR hf (show k < 6 by omega)
    have vv : og_hcd α t h f k = og_rr α f k + h k := by rw [v.1, if_pos ⟨q, z2⟩]
    have vl := v.2 q z2
    unfold wX0_goesOn_73 wX0_goesOn_112 wX0_goesOn_115
    rw [nI_s]
    rw [am_s] at hK
    cases e : og_am α t h f k with
    | none =>
      rw [if_pos ⟨by omega, fun j w => by rw [e] at w; cases w⟩] at hK
      refine ⟨fun _ x4 e4 => ?_, fun w => absurd rfl w⟩
      rw [e4]
      exact hK
    | some j =>
      obtain ⟨a, b, c, d⟩ := (am_ok α t h f k).2 j e
      have hj := hcd_v (t := t) (h := h) hR hf (show j < 6 by omega) hb hu
      have erj := rr_ok hR hf (show j < 6 by omega)
      have qj : og_ao α t f j = true ∧ h j ≠ 1000000 := by
        apply Classical.byContradiction
        intro w
        rw [hj.1, if_neg w] at b
        omega
      have vj : og_hcd α t h f j = og_rr α f j + h j := by rw [hj.1, if_pos qj]
      have vlj := hj.2 qj.1 qj.2
      have ej : (6 : Int32) * nI f + nI j = nI (6 * f + j) := by rw [show (6 : Int32) * nI f = nI (6 * f) from nI_m 6 f, nI_add]
      have eRj : σ.I 11 (6 * f + j) = α (55 + (6 * f + j)) := hF.at 15 rfl (6 * f + j) (by omega) (Nat.zero_add _) rfl
      refine ⟨fun w => absurd w (nI_m1 (by omega)), fun _ => ⟨vp_in_nI (by omega) (by decide), ?_⟩⟩
      rw [show og_eI (some j) = nI j from rfl]
      rw [ej, nI_clamp (by omega), nI_clamp (by omega), nI_clamp (by omega), eRj, erj.1, er.1, hh j (by omega), hh k (by omega), nI_add, nI_add, nI_lei (by omega) (by omega)]
      refine ⟨vp_in_nI (by omega) (by decide), vp_in_nI (by omega) (by decide), fun w x4 e4 => ?_, fun w x4 e4 => ?_⟩
      · have nl : ¬ og_hcd α t h f k < og_hcd α t h f j := by omega
        rw [if_neg (fun y => nl (y.2 j e)), e] at hK
        rw [e4]
        exact hK
      · have nl : og_hcd α t h f k < og_hcd α t h f j := by omega
        rw [if_pos ⟨by omega, fun i y => by rw [e] at y; cases y; exact nl⟩] at hK
        rw [e4]
        exact hK
  refine ⟨fun z3 => take ?_, fun z3 => cTaken hT hR (by omega) ⟨fun z4 => take ?_, fun z4 => skip (fun q => ?_)⟩⟩
  · have := (nI_eq (by omega) (by omega)).mp z3
    rw [ao]
    simp [this]
  · rw [ao]
    simp [z4]
  · rw [ao] at q
    have n3 : ¬ k = t := fun w => z3 (by rw [w])
    simp [n3, z4] at q
/-- rounds -/
def og_ds (α : Nat → Int32) (n t : Nat) : Nat → Nat → Nat := og_dk 1000000 (og_ao α t) (og_rr α) n t
def HW (α : Nat → Int32) (n t ρ f : Nat) (h : Nat → Nat) : Prop := (∀ x, x < n → og_ds α n t (n - 1) x ≤ h x ∧ h x ≤ og_ds α n t ρ x ∧ (x < f → h x ≤ og_ds α n t (ρ + 1) x)) ∧ HB h (6 * ρ + f) ∧ h t = 0
theorem ds_fix {α : Nat → Int32} {n t : Nat} (ht : t < n) {x : Nat} (hx : x < n) (hxt : x ≠ t) : og_ds α n t (n - 1) x = og_hmn α t (og_ds α n t (n - 1)) x n := by
  have h1 := dk_fix 1000000 (og_ao α t) (og_rr α) n t ht x hx (j := n - 1 + 1) (by omega)
  have h2 := dk_s 1000000 (og_ao α t) (og_rr α) n t (n - 1) x
  rw [if_neg hxt] at h2
  unfold og_ds og_hmn
  rw [← h2, h1]
theorem HW.next {α : Nat → Int32} {n t ρ f : Nat} {h h' : Nat → Nat} (ht : t < n) (hW : HW α n t ρ f h) (hf : f < n) (hn : n ≤ 6) (ho : ∀ x, x ≠ f → h' x = h x) (hb : HB h' (6 * ρ + f + 1)) (hft : f = t → h' f = h f) (h1 : f ≠ t → og_ds α n t (n - 1) f ≤ h' f ∧ h' f ≤ og_ds α n t (ρ + 1) f) : HW α n t ρ (f + 1) h' := by
  obtain ⟨hx, hbb, h0⟩ := hW
  refine ⟨fun x hxn => ?_, hb, ?_⟩
  · obtain ⟨a, b, c⟩ := hx x hxn
    by_cases e : x = f
    · subst e
      by_cases et : x = t
      · rw [hft et]
        refine ⟨a, b, fun _ => ?_⟩
        rw [et, h0]
        exact Nat.zero_le _
      · obtain ⟨p, q⟩ := h1 et
        exact ⟨p, Nat.le_trans q (dk_dec _ _ _ _ _ _ _), fun _ => q⟩
    · rw [ho x e]
      exact ⟨a, b, fun w => c (by omega)⟩
  · by_cases e : t = f
    · rw [e, hft e.symm, ← e]
      exact h0
    · rw [ho t e]
      exact h0
theorem HW.round {α : Nat → Int32} {n t ρ : Nat} {h : Nat → Nat} (hn : n ≤ 6) (hW : HW α n t ρ n h) : HW α n t (ρ + 1) 0 h := by
  obtain ⟨hx, hbb, h0⟩ := hW
  refine ⟨fun x hxn => ?_, hbb.le (by omega), h0⟩
  obtain ⟨a, b, c⟩ := hx x hxn
  exact ⟨a, c hxn, fun w => absurd w (by omega)⟩
theorem HW.lo {α : Nat → Int32} {n t ρ f : Nat} {h : Nat → Nat} (ht : t < n) (hW : HW α n t ρ f h) (hf : f < n) (hft : f ≠ t) : og_ds α n t (n - 1) f ≤ og_hmn α t h f n ∧ og_hmn α t h f n ≤ og_ds α n t (ρ + 1) f := by
  refine ⟨?_, ?_⟩
  · rw [ds_fix ht hf hft]
    exact mn_mono n (fun o ho => (hW.1 o ho).1)
  · unfold og_ds
    rw [dk_s, if_neg hft]
    exact mn_mono n (fun o ho => (hW.1 o ho).2.1)
theorem HW.init {α : Nat → Int32} {n t : Nat} (ht : t < n) : HW α n t 0 0 (fun f => if f = t then 0 else 1000000) := by
  refine ⟨fun x hx => ⟨?_, Nat.le_refl _, fun w => absurd w (by omega)⟩, fun f hf => ?_, if_pos rfl⟩
  · exact dk_anti 1000000 (og_ao α t) (og_rr α) n t x (i := 0) (n - 1) (by omega)
  · by_cases e : f = t
    · right
      show (if f = t then 0 else 1000000) ≤ _
      rw [if_pos e]
      omega
    · left
      exact if_neg e
theorem HW.fin {α : Nat → Int32} {n t ρ : Nat} {h : Nat → Nat} (ht : t < n) (hρ : n - 1 ≤ ρ) (hW : HW α n t ρ 0 h) (x : Nat) (hx : x < n) : h x = og_ds α n t (n - 1) x := by
  obtain ⟨a, b, _⟩ := hW.1 x hx
  have := dk_fix 1000000 (og_ao α t) (og_rr α) n t ht x hx hρ
  unfold og_ds at *
  omega
