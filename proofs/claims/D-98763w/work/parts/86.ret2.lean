/-- the way on: fort by fort, to step i -/
def og_nx2 (α : Nat → Int32) (n t : Nat) (f : Nat) : Nat := match og_am α t (og_ds α n t (n - 1)) f n with
  | some j => j
  | none => 0
def og_wk (α : Nat → Int32) (n t i : Nat) : Nat → Nat → Nat → Int32 := fun F => F.rec (fun _ _ => -1) (fun _ w at_ k => if i < k then nI at_ else if at_ = t then -1 else w (og_nx2 α n t at_) (k + 1))
theorem wk_s (α : Nat → Int32) (n t i F a k : Nat) : og_wk α n t i (F + 1) a k = if i < k then nI a else if a = t then -1 else og_wk α n t i F (og_nx2 α n t a) (k + 1) := rfl
theorem hcd_cong {α : Nat → Int32} {t n f o : Nat} {h h' : Nat → Nat} (e : ∀ x, x < n → h x = h' x) (ho : o < n) : og_hcd α t h f o = og_hcd α t h' f o := by
  unfold og_hcd og_cd
  rw [e o ho]
theorem am_cong {α : Nat → Int32} {t n f : Nat} {h h' : Nat → Nat} (e : ∀ x, x < n → h x = h' x) : ∀ k, k ≤ n → og_am α t h f k = og_am α t h' f k
  | 0, _ => rfl
  | k + 1, hk => by
    have ih := am_cong (α := α) (t := t) (f := f) e k (by omega)
    rw [am_s, am_s, ih, hcd_cong e (show k < n by omega)]
    have c : (∀ j, og_am α t h' f k = some j → og_hcd α t h' f k < og_hcd α t h f j) ↔ (∀ j, og_am α t h' f k = some j → og_hcd α t h' f k < og_hcd α t h' f j) := by
      constructor
      · intro z j ej
        have := z j ej
        rw [hcd_cong e (show j < n by have := ((am_ok α t h' f k).2 j ej).1; omega)] at this
        exact this
      · intro z j ej
        rw [hcd_cong e (show j < n by have := ((am_ok α t h' f k).2 j ej).1; omega)]
        exact z j ej
    simp only [c]
def og_ret (α : Nat → Int32) (n f t : Nat) (i : Int32) : Int32 := if og_ds α n t (n - 1) f = 1000000 then -1 else if i = -1 then nI (og_ds α n t (n - 1) f) else og_wk α n t i.toNatClampNeg 4000 f 0
theorem HB.fin {α : Nat → Int32} {n t : Nat} {h : Nat → Nat} (hb : HB h 36) (hn : n ≤ 6) (e : ∀ x, x < n → h x = og_ds α n t (n - 1) x) : ∀ x, x < n → og_ds α n t (n - 1) x = 1000000 ∨ og_ds α n t (n - 1) x ≤ 3564 := by
  intro x hx
  rw [← e x hx]
  have := hb x (by omega)
  omega
/-- forts without a number: beyond n nothing is read -/
def og_cut (n : Nat) (h : Nat → Nat) : Nat → Nat := fun x => if x < n then h x else 1000000
theorem cRetE {Γ : OgG} {Q : Int32 → OgC → Prop} {α : Nat → Int32} {σ : OgC} (hF : FlF α σ) (hT : RdT 3 α σ) (hR : Rng α) {n t f : Nat} (hn : n ≤ 6) (hα : α 0 = nI n) (ht : t < n) (hf : f < n) {h : Nat → Nat} (hb : HB h 36) (hh : ∀ o, o < 6 → σ.I 31 o = nI (h o)) (hd : ∀ x, x < n → h x = og_ds α n t (n - 1) x) {i : Int32} (hi : 0 ≤ i.toInt) (hfin : og_ds α n t (n - 1) f < 1000000) (K : Q (og_wk α n t i.toNatClampNeg 4000 f 0) σ) : wX0_retreat_203 Γ Q (nI t) i (nI f) (nI 0) σ := by
  obtain ⟨im, him, rfl⟩ := og_nat (x := i) (hi := 2147483647) hi (by have := Int32.toInt_lt i; omega)
  rw [nI_clamp (by omega)] at K
  have bd := hb.fin hn hd
  refine og_lp3_intro (fun F x y s => ∃ a k, a < n ∧ og_ds α n t (n - 1) a < F ∧ og_ds α n t (n - 1) a < 1000000 ∧ k + F = 4000 ∧ x = nI a ∧ y = nI k ∧ s = σ ∧ Q (og_wk α n t im F a k) σ) (fun K' F x y s hx hk => ?_) 4000 _ _ _ ⟨f, 0, hf, by have := bd f hf; omega, hfin, rfl, rfl, rfl, rfl, K⟩
  obtain ⟨a, k, ha, haF, hafin, hkF, rfl, rfl, rfl, hQ⟩ := hx
  obtain ⟨F', rfl⟩ : ∃ F', F = F' + 1 := ⟨F - 1, by omega⟩
  rw [wk_s] at hQ
  unfold wX0_retreat_B203
  rw [nI_lti (by omega) (by omega), nI_eq (by omega) (by omega)]
  by_cases c : im < k
  · rw [if_pos c] at hQ
    exact ⟨fun _ => hQ, fun e => absurd c e⟩
  rw [if_neg c] at hQ
  refine ⟨fun e => absurd e c, fun _ => ⟨fun e => ?_, fun e => ?_⟩⟩
  · rw [if_neg e] at hQ
    have hb2 : HB (og_cut n (og_ds α n t (n - 1))) 36 := by
      intro x hx
      unfold og_cut
      split
      · rename_i l
        have := bd x l
        omega
      · exact Or.inl rfl
    have hb3 : ∀ x, x < n → og_cut n (og_ds α n t (n - 1)) x = og_ds α n t (n - 1) x := fun x hx => if_pos hx
    refine cGoes hF hT hR hn hα ht (by omega) hb (by omega) hh (fun x5 e5 => ?_)
    rw [am_cong hd n (Nat.le_refl _)]
    have ok : og_am α t (og_ds α n t (n - 1)) a n = some (og_nx2 α n t a) ∧ og_nx2 α n t a < n ∧ og_ds α n t (n - 1) (og_nx2 α n t a) < og_ds α n t (n - 1) a := by
      have fx := ds_fix (α := α) ht ha e
      obtain ⟨h1, h2⟩ := am_ok α t (og_ds α n t (n - 1)) a n
      cases em : og_am α t (og_ds α n t (n - 1)) a n with
      | none =>
        have := h1 em
        omega
      | some j =>
        have en : og_nx2 α n t a = j := by
          unfold og_nx2
          rw [em]
        obtain ⟨p, b, c, d⟩ := h2 j em
        rw [en]
        refine ⟨rfl, p, ?_⟩
        have v := hcd_v (t := t) (h := og_cut n (og_ds α n t (n - 1))) hR (show a < 6 by omega) (show j < 6 by omega) hb2 (by omega)
        rw [hcd_cong hb3 p, hb3 j p] at v
        have q : og_ao α t a j = true ∧ og_ds α n t (n - 1) j ≠ 1000000 := by
          apply Classical.byContradiction
          intro w
          rw [v.1, if_neg w] at b
          omega
        rw [v.1, if_pos q] at b
        have : og_rr α a j ≠ 0 := by
          have := q.1
          unfold og_ao at this
          simp at this
          exact this.1
        omega
    rw [ok.1, e5, nI_s]
    exact hk F' _ _ _ (by omega) ⟨og_nx2 α n t a, k + 1, ok.2.1, by omega, by omega, by omega, rfl, rfl, rfl, hQ⟩
  · rw [if_pos e] at hQ
    exact hQ
theorem cRet {Γ : OgG} {Q : Int32 → OgC → Prop} {α : Nat → Int32} {σ0 : OgC} (hF0 : FlF α σ0) (hK0 : FlK α σ0) (hR : Rng α) {n t f : Nat} (hn : n ≤ 6) (hα : α 0 = nI n) (ht : t < n) (hf : f < n) {i : Int32} (hi : -1 ≤ i.toInt) (K : ∀ σ, OneC 31 σ0 σ → Q (og_ret α n f t i) σ) : wX0_retreat_31 Γ Q (nI f) (nI t) i (nI 0) σ0 := by
  refine forE2 6 (fun k x4 σ => x4 = nI k ∧ OneC 31 σ0 σ ∧ ∀ o, o < k → σ.I 31 o = nI (if o = t then 0 else 1000000)) (fun K' k x4 σ hk hr hK' => ?_) ⟨rfl, OneC.rf 31 σ0, fun o ho => absurd ho (by omega)⟩
  obtain ⟨rfl, hO, hh⟩ := hr
  unfold wX0_retreat_B31 wX0_retreat_57
  rw [show (6 : Int32) = nI 6 from rfl, nI_lei (by omega) (by omega), nI_eq (by omega) (by omega), nI_clamp (by omega), nI_s]
  by_cases g : 6 ≤ k
  · obtain rfl : k = 6 := by omega
    refine ⟨fun _ => ?_, fun e => absurd g e⟩
    refine forE2 6 (fun ρ x4 σ => x4 = nI ρ ∧ OneC 31 σ0 σ ∧ ∃ h, (∀ o, o < 6 → σ.I 31 o = nI (h o)) ∧ HW α n t ρ 0 h) (fun K2 ρ x4 σ hρ hr hK2 => ?_) ⟨rfl, hO, _, hh, HW.init ht⟩
    obtain ⟨rfl, hO, h, hh, hW⟩ := hr
    have hF := hO.fl (by decide) hF0
    have hT := RdT.of hF (hO.fk (by decide) hK0)
    unfold wX0_retreat_B67 wX0_retreat_174
    rw [show (6 : Int32) = nI 6 from rfl, nI_lei (by omega) (by omega)]
    by_cases gρ : 6 ≤ ρ
    · obtain rfl : ρ = 6 := by omega
      have hd := fun x hx => hW.fin ht (show n - 1 ≤ 6 by omega) x hx
      have hbf : HB h 36 := hW.2.1
      have bd := hbf.fin hn hd
      have KK := K σ hO
      unfold og_ret at KK
      have hb' := bd f hf
      have vf : vp_in (nI f) 6 := vp_in_nI (by omega) (by decide)
      rw [nI_clamp (by omega), hh f (by omega), hd f hf, show nI (og_ds α n t (n - 1) f) = 1000000 ↔ og_ds α n t (n - 1) f = 1000000 from nI_eq (b := 1000000) (by omega) (by omega)]
      refine ⟨fun _ => ⟨vf, fun z => ⟨vf, fun y => absurd z y, fun _ => ?_⟩, fun z => ⟨fun y => ?_, fun y => ⟨vf, fun _ => ⟨vf, ?_⟩, fun w => absurd w z⟩⟩⟩, fun e => absurd gρ e⟩
      · rw [if_pos z] at KK
        exact KK
      · rw [if_neg z, if_neg y] at KK
        refine cRetE hF hT hR hn hα ht hf hbf hh hd ?_ (by omega) KK
        have : ¬ i.toInt = -1 := fun w => y (by rw [fa_eq, w]; decide)
        omega
      · rw [if_neg z, if_pos y] at KK
        exact KK
    · refine ⟨fun e => absurd e gρ, fun _ => ?_⟩
      refine forE2 n (fun a x5 σ => x5 = nI a ∧ OneC 31 σ0 σ ∧ ∃ h, (∀ o, o < 6 → σ.I 31 o = nI (h o)) ∧ HW α n t ρ a h) (fun K3 a x5 σ ha hr hK3 => ?_) ⟨rfl, hO, h, hh, hW⟩
      obtain ⟨rfl, hO, h, hh, hW⟩ := hr
      have hF := hO.fl (by decide) hF0
      have hT := RdT.of hF (hO.fk (by decide) hK0)
      have hC : σ.I 2 11 = nI n := hT.2.2.2.2.2.trans hα
      unfold wX0_retreat_B77
      rw [hC, nI_lei (by omega) (by omega), nI_eq (by omega) (by omega)]
      by_cases ga : n ≤ a
      · obtain rfl : a = n := by omega
        refine ⟨fun _ x4 e4 => ?_, fun e => absurd ga e⟩
        rw [e4, nI_s]
        exact hK2 _ _ (by omega) ⟨rfl, hO, h, hh, hW.round hn⟩
      · have stay : HW α n t ρ (a + 1) h → wX0_retreat_106 Γ Q K2 K3 (nI f) (nI t) i (nI ρ) (nI a) (-1) σ := by
          intro hW'
          refine ⟨fun _ x5 e5 => ?_, fun e => absurd rfl e⟩
          rw [e5, nI_s]
          exact hK3 _ _ (by omega) ⟨rfl, hO, h, hh, hW'⟩
        refine ⟨fun e => absurd e ga, fun _ => ⟨fun e => cGoes hF hT hR hn hα ht (by omega) hW.2.1 (by omega) hh ?_, fun e => stay ?_⟩⟩
        · have lo := hW.lo ht (show a < n by omega) e
          cases em : og_am α t h a n with
          | none =>
            have hm := (am_ok α t h a n).1 em
            refine stay (hW.next ht (by omega) hn (fun _ _ => rfl) (hW.2.1.le (by omega)) (fun _ => rfl) (fun _ => ⟨(hW.1 a (by omega)).1, ?_⟩))
            have h1 := (hW.1 a (by omega)).2.1
            have h2 : og_ds α n t ρ a ≤ 1000000 := dk_M _ _ _ _ _ _ _
            omega
          | some j =>
            obtain ⟨p, b, c, d⟩ := (am_ok α t h a n).2 j em
            have v := hcd_v (t := t) (h := h) hR (show a < 6 by omega) (show j < 6 by omega) hW.2.1 (by omega)
            have q : og_ao α t a j = true ∧ h j ≠ 1000000 := by
              apply Classical.byContradiction
              intro w
              rw [v.1, if_neg w] at b
              omega
            have vl := v.2 q.1 q.2
            have ev : og_rr α a j + h j = og_hmn α t h a n := by rw [← b, v.1, if_pos q]
            have er := rr_ok hR (show a < 6 by omega) (show j < 6 by omega)
            have ej : (6 : Int32) * nI a + nI j = nI (6 * a + j) := by rw [show (6 : Int32) * nI a = nI (6 * a) from nI_m 6 a, nI_add]
            have eRj : σ.I 11 (6 * a + j) = α (55 + (6 * a + j)) := hF.at 15 rfl (6 * a + j) (by omega) (Nat.zero_add _) rfl
            refine ⟨fun w => absurd w (nI_m1 (by omega)), fun _ => ?_⟩
            rw [show og_eI (some j) = nI j from rfl, ej, nI_clamp (by omega), nI_clamp (by omega), eRj, er.1, hh j (by omega), nI_add, ev, nI_clamp (by omega)]
            refine ⟨vp_in_nI (by omega) (by decide), vp_in_nI (by omega) (by decide), fun v2 e2 => ⟨vp_in_nI (by omega) (by decide), fun s3 e3 x5 e5 => ?_⟩⟩
            rw [e3, e5, e2, nI_s]
            refine hK3 _ _ (by omega) ⟨rfl, hO.put _ _, fun x => if x = a then og_hmn α t h a n else h x, fun o ho => ?_, ?_⟩
            · show _ = nI (if o = a then og_hmn α t h a n else h o)
              rw [C_II, if_pos rfl]
              by_cases eo : o = a
              · rw [if_pos eo, if_pos eo]
              · rw [if_neg eo, if_neg eo]
                exact hh o ho
            · refine hW.next ht (by omega) hn (fun x hx => if_neg hx) (fun x hx => ?_) (fun w => absurd w e) (fun _ => by show _ ≤ (if a = a then _ else h a) ∧ (if a = a then _ else h a) ≤ _; rw [if_pos rfl]; exact lo)
              by_cases eo : x = a
              · right
                show (if x = a then _ else h x) ≤ _
                rw [if_pos eo]
                omega
              · show (if x = a then _ else h x) = _ ∨ (if x = a then _ else h x) ≤ _
                rw [if_neg eo]
                have := hW.2.1 x hx
                omega
        · exact hW.next ht (by omega) hn (fun _ _ => rfl) (hW.2.1.le (by omega)) (fun _ => rfl) (fun w => absurd e w)
  · refine ⟨fun e => absurd e g, fun _ => ?_⟩
    have fin : ∀ v, v = nI (if k = t then 0 else 1000000) → vp_in (nI k) 6 ∧ (∀ s_1 : OgC, s_1 = (σ.sI 31 k v) → (∀ x4_2 : Int32, x4_2 = nI (k + 1) → (K' x4_2 s_1))) := by
      intro v hv
      refine ⟨vp_in_nI (by omega) (by decide), fun s1 e1 x4 e4 => ?_⟩
      rw [e1, e4]
      refine hK' _ _ (by omega) ⟨rfl, hO.put _ _, fun o ho => ?_⟩
      rw [C_II, if_pos rfl]
      by_cases eo : o = k
      · rw [if_pos eo, hv, eo]
      · rw [if_neg eo]
        exact hh o (by omega)
    exact ⟨fun e => fin _ (by rw [if_neg e]; rfl), fun e => fin _ (by rw [if_pos e]; rfl)⟩
/-! the model's side: far is written 100000000 there -/
def og_rp (x : Nat) : Nat := if x = 1000000 then 100000000 else x
theorem mHB {Q : Int32 → OgS → Prop} {α : Nat → Int32} {σ : OgS} (hF : FlM α σ) (hR : Rng α) {t f o u : Nat} (ht : t < 6) (hf : f < 6) (ho : o < 6) {h : Nat → Nat} (hb : HB h u) (hu : u ≤ 40) (hh : σ.I 21 o = nI (og_rp (h o))) (K : Q (nI (og_rp (og_hcd α t h f o))) σ) : wX5_hoursBy Q (nI f) (nI o) (nI t) σ := by
  have er := rr_ok hR hf ho
  have v := hcd_v (t := t) (h := h) hR hf ho hb hu
  have hb' := hb o ho
  have e55 : (55 : Int32) + (6 : Int32) * nI f + nI o = nI (55 + (6 * f + o)) := by rw [show (6 : Int32) * nI f = nI (6 * f) from nI_m 6 f, show (55 : Int32) + nI (6 * f) = nI (55 + 6 * f) from nI_add 55 _, nI_add, Nat.add_assoc]
  have e25 : (25 : Int32) + nI o = nI (25 + o) := nI_add 25 o
  have far : ¬ (og_ao α t f o = true ∧ h o ≠ 1000000) → Q 100000000 σ := by
    intro q
    rw [v.1, if_neg q] at K
    exact K
  have go : og_ao α t f o = true → wX5_hoursBy_33 Q (nI o) (α (55 + (6 * f + o))) σ := by
    intro q
    unfold wX5_hoursBy_33 wX5_hoursBy_38 wX5_hoursBy_62
    have vo : vp_in (nI o) 6 := vp_in_nI (by omega) (by decide)
    rw [nI_clamp (by omega), hh, er.1]
    have e1 : nI (og_rp (h o)) = 100000000 ↔ h o = 1000000 := by
      unfold og_rp
      by_cases c : h o = 1000000
      · rw [if_pos c]
        exact ⟨fun _ => c, fun _ => rfl⟩
      · rw [if_neg c, show nI (h o) = 100000000 ↔ h o = 100000000 from nI_eq (b := 100000000) (by omega) (by omega)]
        omega
    rw [e1]
    have nz : ¬ nI (og_rr α f o) = 0 := by
      intro z
      rw [← er.1] at z
      rw [ao_0 hR hf ho z] at q
      exact absurd q (by decide)
    refine ⟨fun z => absurd z nz, fun _ => ⟨fun z => absurd z (by decide), fun _ => ⟨vo, fun z => ⟨vo, ?_⟩, fun z => far (fun w => w.2 z)⟩⟩⟩
    rw [v.1, if_pos ⟨q, z⟩] at K
    have vl := v.2 q z
    unfold og_rp at K ⊢
    rw [if_neg (by omega)] at K
    rw [if_neg z, nI_add]
    exact K
  have no : og_ao α t f o = false → ∀ t0, wX5_hoursBy_38 Q (nI o) (α (55 + (6 * f + o))) t0 σ ∨ True := fun _ _ => Or.inr trivial
  unfold wX5_hoursBy
  rw [e55, e25, nI_clamp (by omega), nI_clamp (by omega), hF.1 _ (by omega) (by omega), hF.1 _ (by omega) (by omega), nI_eq (by omega) (by omega)]
  refine ⟨vp_in_nI (by omega) (by decide), fun v1 e1 => ?_⟩
  subst e1
  by_cases z : α (55 + (6 * f + o)) = 0
  · have q := ao_0 (t := t) hR hf ho z
    have fr : Q 100000000 σ := far (fun w => by rw [q] at w; exact absurd w.1 (by decide))
    unfold wX5_hoursBy_33 wX5_hoursBy_38 wX5_hoursBy_62
    exact ⟨fun _ => ⟨fun _ => fr, fun w => absurd z w⟩, fun _ => ⟨vp_in_nI (by omega) (by decide), fun _ => ⟨fun _ => fr, fun w => absurd z w⟩, fun _ => ⟨fun _ => fr, fun w => absurd z w⟩⟩⟩
  · have ao := ao_1 (t := t) hR hf ho z
    refine ⟨fun w => go ?_, fun w => ⟨vp_in_nI (by omega) (by decide), fun y => ?_, fun y => go ?_⟩⟩
    · rw [ao]
      simp [w]
    · have fr : Q 100000000 σ := far (fun q => by rw [ao] at q; simp [w, y] at q)
      exact ⟨fun e => absurd e z, fun _ => ⟨fun _ => fr, fun e => absurd rfl e⟩⟩
    · rw [ao]
      simp [y]
theorem rp_le {a b : Nat} (ha : a = 1000000 ∨ a ≤ 5000) (hb : b = 1000000 ∨ b ≤ 5000) : (nI (og_rp a) ≤ nI (og_rp b) ↔ a ≤ b) ∧ (nI (og_rp a) = nI (og_rp b) ↔ a = b) ∧ og_rp a < 2 ^ 31 := by
  have la : og_rp a < 2 ^ 31 := by
    unfold og_rp
    split <;> omega
  have lb : og_rp b < 2 ^ 31 := by
    unfold og_rp
    split <;> omega
  rw [nI_lei la lb, nI_eq la lb]
  refine ⟨?_, ?_, la⟩
  · unfold og_rp
    split <;> split <;> omega
  · unfold og_rp
    split <;> split <;> omega
theorem hcd_b {α : Nat → Int32} (hR : Rng α) {t f o u : Nat} {h : Nat → Nat} (hf : f < 6) (ho : o < 6) (hb : HB h u) (hu : u ≤ 40) : og_hcd α t h f o = 1000000 ∨ og_hcd α t h f o ≤ 99 * (u + 1) := by
  have v := hcd_v (t := t) (h := h) hR hf ho hb hu
  by_cases c : og_ao α t f o = true ∧ h o ≠ 1000000
  · right
    rw [v.1, if_pos c]
    exact v.2 c.1 c.2
  · left
    rw [v.1, if_neg c]
theorem hmn_b {α : Nat → Int32} (hR : Rng α) {t f u : Nat} {h : Nat → Nat} (hf : f < 6) (hb : HB h u) (hu : u ≤ 40) : ∀ k, k ≤ 6 → og_hmn α t h f k = 1000000 ∨ og_hmn α t h f k ≤ 99 * (u + 1)
  | 0, _ => Or.inl rfl
  | k + 1, hk => by
    have h1 := hmn_b hR (t := t) hf hb hu k (by omega)
    have h2 := hcd_b hR (t := t) hf (show k < 6 by omega) hb hu
    rw [hmn_s]
    omega
theorem mLay {Q : OgS → Prop} {α : Nat → Int32} {σ0 : OgS} (hF0 : FlM α σ0) (hR : Rng α) {n t f : Nat} (hn : n ≤ 6) (hα : α 0 = nI n) (ht : t < n) (K : ∀ σ, OneM 21 σ0 σ → (∃ h, HB h 36 ∧ (∀ o, o < n → σ.I 21 o = nI (og_rp (h o))) ∧ ∀ x, x < n → h x = og_ds α n t (n - 1) x) → Q σ) : wX5_layHours Q (nI f) (nI t) σ0 := by
  unfold wX5_layHours
  simp only [forall_eq]
  rw [hF0.1 0 (by omega) (by omega), hα]
  refine forE2 n (fun k x4 σ => x4 = nI k ∧ OneM 21 σ0 σ ∧ ∀ o, o < k → σ.I 21 o = nI (og_rp (if o = t then 0 else 1000000))) (fun K' k x4 σ hk hr hK' => ?_) ⟨rfl, OneM.rf 21 σ0, fun o ho => absurd ho (by omega)⟩
  obtain ⟨rfl, hO, hh⟩ := hr
  unfold wX5_layHours_B10 wX5_layHours_35
  rw [nI_lei (by omega) (by omega), nI_eq (by omega) (by omega), nI_clamp (by omega), nI_s]
  by_cases g : n ≤ k
  · obtain rfl : k = n := by omega
    refine ⟨fun _ => ?_, fun e => absurd g e⟩
    refine forE2 k (fun ρ x4 σ => x4 = nI ρ ∧ OneM 21 σ0 σ ∧ ∃ h, (∀ o, o < k → σ.I 21 o = nI (og_rp (h o))) ∧ HW α k t ρ 0 h) (fun K2 ρ x4 σ hρ hr hK2 => ?_) ⟨rfl, hO, _, hh, HW.init ht⟩
    obtain ⟨rfl, hO, h, hh, hW⟩ := hr
    unfold wX5_layHours_B45
    rw [nI_lei (by omega) (by omega)]
    by_cases gρ : k ≤ ρ
    · obtain rfl : ρ = k := by omega
      exact ⟨fun _ => K σ hO ⟨h, hW.2.1.le (by omega), hh, fun x hx => hW.fin ht (by omega) x hx⟩, fun e => absurd gρ e⟩
    · refine ⟨fun e => absurd e gρ, fun _ => ?_⟩
      refine forE2 k (fun a x5 σ => x5 = nI a ∧ OneM 21 σ0 σ ∧ ∃ h, (∀ o, o < k → σ.I 21 o = nI (og_rp (h o))) ∧ HW α k t ρ a h) (fun K3 a x5 σ ha hr hK3 => ?_) ⟨rfl, hO, h, hh, hW⟩
      obtain ⟨rfl, hO, h, hh, hW⟩ := hr
      unfold wX5_layHours_B54
      rw [nI_lei (by omega) (by omega)]
      by_cases ga : k ≤ a
      · obtain rfl : a = k := by omega
        refine ⟨fun _ x4 e4 => ?_, fun e => absurd ga e⟩
        rw [e4, nI_s]
        exact hK2 _ _ (by omega) ⟨rfl, hO, h, hh, hW.round hn⟩
      · refine ⟨fun e => absurd e ga, fun _ => ?_⟩
        have hu : 6 * ρ + a ≤ 40 := by omega
        refine forE2 k (fun b x6 σ => x6 = nI b ∧ OneM 21 σ0 σ ∧ (a = t → b = 0) ∧ ∀ o, o < k → σ.I 21 o = nI (og_rp (if o = a then min (h a) (og_hmn α t h a b) else h o))) (fun K4 b x6 σ hb6 hr hK4 => ?_) ⟨rfl, hO, fun _ => rfl, fun o ho => ?_⟩
        · obtain ⟨rfl, hO, hat, hh⟩ := hr
          have hF := hO.fl (by decide) hF0
          have done : (b = k ∨ a = t) → wX5_layHours_123 Q K2 K3 (nI t) (nI k) (nI ρ) (nI a) σ := by
            intro hd x5 e5
            rw [e5, nI_s]
            refine hK3 _ _ (by omega) ⟨rfl, hO, fun x => if x = a then min (h a) (og_hmn α t h a b) else h x, hh, ?_⟩
            have hmb := hmn_b hR (t := t) (show a < 6 by omega) hW.2.1 hu b (by omega)
            have hab := hW.2.1 a (by omega)
            have hm1 : og_hmn α t h a b ≤ 1000000 := mn_M b
            refine hW.next ht (by omega) hn (fun x hx => if_neg hx) (fun x hx => ?_) (fun w => ?_) (fun w => ?_)
            · show (if x = a then _ else h x) = _ ∨ (if x = a then _ else h x) ≤ _
              by_cases ex : x = a
              · rw [if_pos ex]
                omega
              · rw [if_neg ex]
                have := hW.2.1 x hx
                omega
            · show (if a = a then _ else h a) = _
              rw [if_pos rfl, hat w]
              have : og_hmn α t h a 0 = 1000000 := rfl
              omega
            · show _ ≤ (if a = a then _ else h a) ∧ (if a = a then _ else h a) ≤ _
              rw [if_pos rfl]
              obtain rfl : b = k := hd.resolve_right w
              have lo := hW.lo ht (show a < b by omega) w
              have := (hW.1 a (by omega)).1
              omega
          unfold wX5_layHours_B63
          rw [nI_lei (by omega) (by omega), nI_eq (by omega) (by omega)]
          by_cases gb : k ≤ b
          · exact ⟨fun _ => done (Or.inl (by omega)), fun e => absurd gb e⟩
          refine ⟨fun e => absurd e gb, fun _ => ⟨fun e => done (Or.inr e), fun e => ?_⟩⟩
          -- the array as it is now
          have hmb := hmn_b hR (t := t) (show a < 6 by omega) hW.2.1 hu b (by omega)
          have hab := hW.2.1 a (by omega)
          have hm1 : og_hmn α t h a b ≤ 1000000 := mn_M b
          have hbn : HB (fun o => if o = a then min (h a) (og_hmn α t h a b) else h o) (6 * ρ + a + 1) := by
            intro x hx
            show (if x = a then _ else h x) = _ ∨ (if x = a then _ else h x) ≤ _
            by_cases ex : x = a
            · rw [if_pos ex]
              omega
            · rw [if_neg ex]
              have := hW.2.1 x hx
              omega
          refine mHB hF hR (by omega) (by omega) (by omega) hbn (by omega) (hh b (by omega)) ?_
          -- the new candidate against the old array's
          have cdn : min (min (h a) (og_hmn α t h a b)) (og_hcd α t (fun o => if o = a then min (h a) (og_hmn α t h a b) else h o) a b) = min (h a) (og_hmn α t h a (b + 1)) := by
            rw [hmn_s]
            by_cases eb : b = a
            · have v1 := hcd_v (t := t) (h := fun o => if o = a then min (h a) (og_hmn α t h a b) else h o) hR (show a < 6 by omega) (show b < 6 by omega) hbn (by omega)
              have v2 := hcd_v (t := t) (h := h) hR (show a < 6 by omega) (show b < 6 by omega) hW.2.1 hu
              have ge1 : min (h a) (og_hmn α t h a b) ≤ og_hcd α t (fun o => if o = a then min (h a) (og_hmn α t h a b) else h o) a b := by
                rw [v1.1]
                (repeat' split) <;> omega
              have ge2 : h a ≤ og_hcd α t h a b := by
                rw [v2.1]
                split
                · rw [eb]
                  omega
                · omega
              omega
            · have : og_hcd α t (fun o => if o = a then min (h a) (og_hmn α t h a b) else h o) a b = og_hcd α t h a b := by
                unfold og_hcd og_cd
                show (if og_ao α t a b then min 1000000 (og_rr α a b + (if b = a then _ else h b)) else _) = _
                rw [if_neg eb]
              rw [this]
              omega
          have hcb := hcd_b hR (t := t) (show a < 6 by omega) (show b < 6 by omega) hbn (by omega)
          have cur := hh a (by omega)
          rw [if_pos rfl] at cur
          have rl := rp_le (a := min (h a) (og_hmn α t h a b)) (b := og_hcd α t (fun o => if o = a then min (h a) (og_hmn α t h a b) else h o) a b) (by omega) (by omega)
          rw [nI_clamp (by omega), cur, rl.1]
          have va : vp_in (nI a) 6 := vp_in_nI (by omega) (by decide)
          have fin : ∀ v, v = nI (og_rp (min (h a) (og_hmn α t h a (b + 1)))) → wX5_layHours_116 Q K2 K3 K4 (nI t) (nI k) (nI ρ) (nI a) (nI b) v (nI a) σ := by
            intro v hv
            refine ⟨va, fun s1 e1 x6 e6 => ?_⟩
            rw [e1, e6, nI_s, nI_clamp (by omega), hv]
            refine hK4 _ _ (by omega) ⟨rfl, hO.put _ _, fun w => absurd w e, fun o ho => ?_⟩
            rw [S_II, if_pos rfl]
            by_cases eo : o = a
            · rw [if_pos eo, if_pos eo]
            · rw [if_neg eo, if_neg eo]
              have := hh o ho
              rw [if_neg eo] at this
              exact this
          refine ⟨va, fun c => ⟨va, fin _ ?_⟩, fun c => fin _ ?_⟩
          · congr 2
            omega
          · congr 2
            omega
        · by_cases eo : o = a
          · rw [if_pos eo, eo, hh a (by omega)]
            congr 2
            have : og_hmn α t h a 0 = 1000000 := rfl
            have := hW.2.1 a (by omega)
            omega
          · rw [if_neg eo]
            exact hh o ho
  · refine ⟨fun e => absurd e g, fun _ => ?_⟩
    have fin : ∀ v, v = nI (og_rp (if k = t then 0 else 1000000)) → vp_in (nI k) 6 ∧ (∀ s_1 : OgS, s_1 = (σ.sI 21 k v) → (∀ x4_2 : Int32, x4_2 = nI (k + 1) → (K' x4_2 s_1))) := by
      intro v hv
      refine ⟨vp_in_nI (by omega) (by decide), fun s1 e1 x4 e4 => ?_⟩
      rw [e1, e4]
      refine hK' _ _ (by omega) ⟨rfl, hO.put _ _, fun o ho => ?_⟩
      rw [S_II, if_pos rfl]
      by_cases eo : o = k
      · rw [if_pos eo, hv, eo]
      · rw [if_neg eo]
        exact hh o (by omega)
    exact ⟨fun e => fin _ (by rw [if_neg e]; rfl), fun e => fin _ (by rw [if_pos e]; rfl)⟩
theorem mRetE {Q : Int32 → OgS → Prop} {α : Nat → Int32} {σ : OgS} (hF : FlM α σ) (hR : Rng α) {n t f : Nat} (hn : n ≤ 6) (ht : t < n) (hf : f < n) {h : Nat → Nat} (hb : HB h 36) (hh : ∀ o, o < n → σ.I 21 o = nI (og_rp (h o))) (hd : ∀ x, x < n → h x = og_ds α n t (n - 1) x) {i : Int32} (hi : 0 ≤ i.toInt) (hfin : og_ds α n t (n - 1) f < 1000000) (K : Q (og_wk α n t i.toNatClampNeg 4000 f 0) σ) : wX5_retreat_85 Q (nI t) i (nI f) (nI 0) σ := by
  obtain ⟨im, him, rfl⟩ := og_nat (x := i) (hi := 2147483647) hi (by have := Int32.toInt_lt i; omega)
  rw [nI_clamp (by omega)] at K
  have bd := hb.fin hn hd
  refine og_lp3_intro (fun F x y s => ∃ a k, a < n ∧ og_ds α n t (n - 1) a < F ∧ og_ds α n t (n - 1) a < 1000000 ∧ k + F = 4000 ∧ x = nI a ∧ y = nI k ∧ s = σ ∧ Q (og_wk α n t im F a k) σ) (fun K' F x y s hx hk => ?_) 4000 _ _ _ ⟨f, 0, hf, by have := bd f hf; omega, hfin, rfl, rfl, rfl, rfl, K⟩
  obtain ⟨a, k, ha, haF, hafin, hkF, rfl, rfl, rfl, hQ⟩ := hx
  obtain ⟨F', rfl⟩ : ∃ F', F = F' + 1 := ⟨F - 1, by omega⟩
  rw [wk_s] at hQ
  unfold wX5_retreat_B85
  rw [nI_lti (by omega) (by omega), nI_eq (by omega) (by omega)]
  by_cases c : im < k
  · rw [if_pos c] at hQ
    exact ⟨fun _ => hQ, fun e => absurd c e⟩
  rw [if_neg c] at hQ
  refine ⟨fun e => absurd e c, fun _ => ⟨fun e => ?_, fun e => ?_⟩⟩
  · rw [if_neg e] at hQ
    have fx := ds_fix (α := α) ht ha e
    obtain ⟨h1, h2⟩ := am_ok α t (og_ds α n t (n - 1)) a n
    obtain ⟨j, em⟩ : ∃ j, og_am α t (og_ds α n t (n - 1)) a n = some j := by
      cases em : og_am α t (og_ds α n t (n - 1)) a n with
      | none =>
        have := h1 em
        omega
      | some j => exact ⟨j, rfl⟩
    have en : og_nx2 α n t a = j := by
      unfold og_nx2
      rw [em]
    obtain ⟨p, b, c', d⟩ := h2 j em
    have v := hcd_v (t := t) (h := h) hR (show a < 6 by omega) (show j < 6 by omega) hb (by omega)
    have near : og_ds α n t (n - 1) j < og_ds α n t (n - 1) a := by
      rw [hcd_cong hd p, hd j p] at v
      have q : og_ao α t a j = true ∧ og_ds α n t (n - 1) j ≠ 1000000 := by
        apply Classical.byContradiction
        intro w
        rw [v.1, if_neg w] at b
        omega
      rw [v.1, if_pos q] at b
      have : og_rr α a j ≠ 0 := by
        have := q.1
        unfold og_ao at this
        simp at this
        exact this.1
      omega
    rw [en] at hQ
    have hba := bd a ha
    refine for2 j nI (fun _ => s) (fun _ => True) (fun K2 l hl _ hK2 => ?_) trivial
    refine mHB hF hR (by omega) (by omega) (by omega) hb (by omega) (hh l (by omega)) ⟨vp_in_nI (by omega) (by decide), ?_⟩
    have hcb := hcd_b hR (t := t) (show a < 6 by omega) (show l < 6 by omega) hb (by omega)
    rw [nI_clamp (by omega), hh a ha, hd a ha, (rp_le (by omega) (by omega)).2.1, hcd_cong hd (show l < n by omega)]
    by_cases el : l = j
    · subst el
      refine ⟨fun _ x5 e5 => ?_, fun w => absurd (by omega) w⟩
      rw [e5, nI_s]
      exact hk F' _ _ _ (by omega) ⟨l, k + 1, p, by omega, by omega, by omega, rfl, rfl, rfl, hQ⟩
    · have := d l (by omega)
      refine ⟨fun w => absurd w (by omega), fun _ x6 e6 => ?_⟩
      rw [e6, nI_s]
      exact hK2 (by omega) trivial
  · rw [if_pos e] at hQ
    exact hQ
theorem pRetreat {Γ : OgG} {α : Nat → Int32} {σM : OgS} {σC : OgC} {x y z : Int32} {Q : Int32 → Int32 → OgC → OgS → Prop} (h : Row α σM σC) (K : ∀ (r : Int32) (α' : Nat → Int32) (σC' : OgC) (σM' : OgS), StX [31] [21] α σM σC α' σM' σC' → Q r r σC' σM') : wX0_retreat Γ (fun r σC' => wX5_retreat (fun r' σM' => Q r r' σC' σM') x y z σM) x y z σC := by
  have hS := (St.rf h).thrown 0
  have hR := h.2.2.2
  obtain ⟨n, hn, hα⟩ := hR.nat 0 (hi := 6) rfl
  have hC : σC.I 2 11 = nI n := (h.2.1.at 0 rfl 0 (by omega) rfl rfl).trans hα
  have hM : (σM.sI 0 0 0).I 2 0 = nI n := ((h.1.1 0 (by omega) (by omega)).trans hα)
  have K0 := K (-1) _ _ _ (hS.toX [31] [21])
  have m1 : (-1 : Int32) ≤ z ↔ -1 ≤ z.toInt := by
    rw [fa_le]
    exact Iff.rfl
  unfold wX0_retreat wX5_retreat
  simp only [forall_eq]
  refine cFort hn hC (fun f hf ex => ⟨fun e => absurd e (by decide), fun _ => ?_⟩) (fun g => ⟨fun _ => ?_, fun e => absurd rfl e⟩)
  · refine cFort hn hC (fun t ht ey => ⟨fun e => absurd e (by decide), fun _ => ?_⟩) (fun g => ⟨fun _ => ?_, fun e => absurd rfl e⟩)
    · subst ex ey
      have mo : ∀ r σC', (¬ f = t → -1 ≤ z.toInt → ∀ σM', OneM 21 (σM.sI 0 0 0) σM' → Q r (og_ret α n f t z) σC' σM') → (f = t ∨ ¬ -1 ≤ z.toInt → Q r (-1) σC' (σM.sI 0 0 0)) → wX5_isFort (fun r_2 s_3 => ((r_2 = 0 → (Q r (-1 : Int32) σC' s_3)) ∧ (¬ r_2 = 0 → (wX5_isFort (fun r_5 s_6 => ((r_5 = 0 → (Q r (-1 : Int32) σC' s_6)) ∧ (¬ r_5 = 0 → ((nI f = nI t → (Q r (-1 : Int32) σC' s_6)) ∧ (¬ nI f = nI t → (((-1 : Int32) ≤ z → (wX5_layHours (fun s_10 => (vp_in (nI f) 6 ∧ (((s_10.I 21 ((nI f).toNatClampNeg)) = (100000000 : Int32) → (wX5_retreat_56 (fun r' σM' => Q r r' σC' σM') (nI f) s_10)) ∧ (¬ (s_10.I 21 ((nI f).toNatClampNeg)) = (100000000 : Int32) → ((¬ z = (-1 : Int32) → (wX5_retreat_85 (fun r' σM' => Q r r' σC' σM') (nI t) z (nI f) (0 : Int32) s_10)) ∧ (z = (-1 : Int32) → (wX5_retreat_56 (fun r' σM' => Q r r' σC' σM') (nI f) s_10))))))) (nI f) (nI t) s_6)) ∧ (¬ (-1 : Int32) ≤ z → (Q r (-1 : Int32) σC' s_6)))))))) (nI t) s_3)))) (nI f) (σM.sI 0 0 0) := by
        intro r σC' q1 q2
        refine mFort hn hM (fun _ _ _ => ⟨fun e => absurd e (by decide), fun _ => ?_⟩) (fun g => absurd ⟨f, hf, rfl⟩ g)
        refine mFort hn hM (fun _ _ _ => ⟨fun e => absurd e (by decide), fun _ => ?_⟩) (fun g => absurd ⟨t, ht, rfl⟩ g)
        rw [nI_eq (by omega) (by omega), m1]
        refine ⟨fun e => q2 (Or.inl e), fun e => ⟨fun g => ?_, fun g => q2 (Or.inr g)⟩⟩
        refine mLay hS.1.1 hR hn hα ht (fun σ hO hd => ?_)
        obtain ⟨hh, hb, hr, hd⟩ := hd
        have hF := hO.fl (by decide) hS.1.1
        have qq := q1 e g σ hO
        have bd := hb.fin hn hd
        have hbf := bd f hf
        have vf : vp_in (nI f) 6 := vp_in_nI (by omega) (by decide)
        unfold og_ret at qq
        unfold wX5_retreat_56
        have far : nI (og_rp (og_ds α n t (n - 1) f)) = 100000000 ↔ og_ds α n t (n - 1) f = 1000000 := by
          have := (rp_le (a := og_ds α n t (n - 1) f) (b := 1000000) (by omega) (by omega)).2.1
          exact this
        rw [nI_clamp (by omega), hr f hf, hd f hf, far]
        refine ⟨vf, fun c => ⟨vf, fun w => absurd c w, fun _ => ?_⟩, fun c => ⟨fun w => ?_, fun w => ⟨vf, fun _ => ⟨vf, ?_⟩, fun v => absurd v c⟩⟩⟩
        · rw [if_pos c] at qq
          exact qq
        · rw [if_neg c, if_neg w] at qq
          refine mRetE hF hR hn ht hf hb hr hd ?_ (by omega) qq
          have : ¬ z.toInt = -1 := fun v => w (by rw [fa_eq, v]; decide)
          omega
        · rw [if_neg c, if_pos w] at qq
          have : og_rp (og_ds α n t (n - 1) f) = og_ds α n t (n - 1) f := if_neg c
          rw [this]
          exact qq
      have fe : nI f = nI t ↔ f = t := nI_eq (by omega) (by omega)
      refine ⟨fun e => ?_, fun e => ⟨fun g => ?_, fun g => ?_⟩⟩
      · exact mo _ _ (fun w => absurd (fe.mp e) w) (fun _ => K0)
      · refine cRet h.2.1 h.2.2.1 hR hn hα ht hf (m1.mp g) (fun σC' hO => mo _ _ (fun _ _ σM' hO' => K _ _ _ _ (StX.one hS hO hO' (by decide) (by decide))) (fun w => (w.elim (fun w => e (fe.mpr w)) (fun w => w (m1.mp g))).elim))
      · exact mo _ _ (fun _ w => absurd (m1.mpr w) g) (fun _ => K0)
    · subst ex
      refine mFort hn hM (fun _ _ _ => ⟨fun e => absurd e (by decide), fun _ => ?_⟩) (fun g => absurd ⟨f, hf, rfl⟩ g)
      exact mFort hn hM (fun k hk e => absurd ⟨k, hk, e⟩ g) (fun _ => ⟨fun _ => K0, fun e => absurd rfl e⟩)
  · exact mFort hn hM (fun k hk e => absurd ⟨k, hk, e⟩ g) (fun _ => ⟨fun _ => K0, fun e => absurd rfl e⟩)
