/-! ===== acts: on the row, and what was kept ===== -/
/-- row; tables kept; of what sort -/
def OgA : Type := (Nat → Int32) × (Nat → Nat → Int32) × (Nat → Int32)
def OgA.r (A : OgA) : Nat → Int32 := A.1
def OgA.u (A : OgA) : Nat → Nat → Int32 := A.2.1
def OgA.w (A : OgA) : Nat → Int32 := A.2.2
def OgA.n (A : OgA) : Nat := (A.r 208).toNatClampNeg
/-- another row -/
def OgA.wr (A : OgA) (α : Nat → Int32) : OgA := (α, A.u, A.w)
def HC (Z : Nat → Prop) (Γ : OgG) (nl : Nat) (T : Nat → Int32 → (Nat → Int64) → Option Int64) (A : OgA) (σ : OgC) : Prop := FlF A.r σ ∧ FlK A.r σ ∧ LsC Z Γ σ 16 nl T ∧ UnC A.u A.w A.n σ
def HM (nl : Nat) (T : Nat → Int32 → (Nat → Int64) → Option Int64) (A : OgA) (σ : OgS) : Prop := FlM A.r σ ∧ LsM σ 2 0 nl T ∧ UnM A.u A.w A.n σ
/-- what holds of the tables kept alone -/
def UnO (A : OgA) : Prop := (∀ k, k < A.n → ((∀ j lo hi, 6 ≤ j → j < 31 → og_bd j = some (lo, hi) → lo ≤ (A.u k j).toInt ∧ (A.u k j).toInt ≤ hi) ∧ ∀ f : Nat, f < 6 → (A.r 0).toInt ≤ (f : Int) → A.u k (25 + f) = 0) ∧ A.u k 7 = A.r 7 ∧ A.u k 8 = A.r 8 ∧ 0 ≤ (A.w k).toInt ∧ (A.w k).toInt ≤ 3) ∧ TkZ A.r
def HO (nl : Nat) (T : Nat → Int32 → (Nat → Int64) → Option Int64) (A : OgA) : Prop := LtO A.r nl T ∧ UnO A
def FrC (σ σ' : OgC) : Prop := (∀ a, a ≠ 19 → σ'.R a = σ.R a) ∧ ∀ a, 16 ≤ a → a ≠ 21 → ¬ UT a → σ'.I a = σ.I a
def FrM (σ σ' : OgS) : Prop := σ'.top = σ.top ∧ (∀ a, 3 ≤ a → a ≠ 5 → a ≠ 6 → σ'.I a = σ.I a) ∧ (∀ x, 400 ≤ x → σ'.I 5 x = σ.I 5 x) ∧ (∀ k, k ≠ 8 → k ≠ 34 → k ≠ 38 → σ'.I 0 k = σ.I 0 k) ∧ (∀ j, 150 ≤ j ∨ j = 4 → σ'.I 2 j = σ.I 2 j) ∧ (∀ j, σ'.I 1 j = σ.I 1 j) ∧ LK σ σ'
theorem FrC.rf (σ : OgC) : FrC σ σ := ⟨fun _ _ => rfl, fun _ _ _ _ => rfl⟩
theorem FrM.rf (σ : OgS) : FrM σ σ := ⟨rfl, fun _ _ _ _ => rfl, fun _ _ => rfl, fun _ _ _ _ => rfl, fun _ _ => rfl, fun _ => rfl, LK.rf σ⟩
theorem FrC.tr {a b c : OgC} (h : FrC a b) (h' : FrC b c) : FrC a c := ⟨fun x hx => (h'.1 x hx).trans (h.1 x hx), fun x h1 h2 h3 => (h'.2 x h1 h2 h3).trans (h.2 x h1 h2 h3)⟩
theorem FrM.tr {a b c : OgS} (h : FrM a b) (h' : FrM b c) : FrM a c := ⟨h'.1.trans h.1, fun x h1 h2 h3 => (h'.2.1 x h1 h2 h3).trans (h.2.1 x h1 h2 h3), fun x hx => (h'.2.2.1 x hx).trans (h.2.2.1 x hx), fun k h1 h2 h3 => (h'.2.2.2.1 k h1 h2 h3).trans (h.2.2.2.1 k h1 h2 h3), fun j hj => (h'.2.2.2.2.1 j hj).trans (h.2.2.2.2.1 j hj), fun j => (h'.2.2.2.2.2.1 j).trans (h.2.2.2.2.2.1 j), h.2.2.2.2.2.2.tr h'.2.2.2.2.2.2⟩
theorem KpC.fr {σ σ' : OgC} (h : KpC σ σ') : FrC σ σ' := ⟨h.2.1, fun a h16 h21 hu => h.2.2 a (by omega) h21 hu⟩
theorem EvC.fr {σ σ' : OgC} (h : EvC σ σ') : FrC σ σ' := ⟨fun a _ => by rw [h.2.1], fun a _ _ _ => by rw [h.1]⟩
theorem EvM.fr {σ σ' : OgS} (h : EvM σ σ') : FrM σ σ' := ⟨h.1, fun a h3 _ _ => h.2.1 a (by omega), fun x _ => by rw [h.2.1 5 (by decide)], fun k _ h1 h2 => h.2.2.1 k h1 h2, fun j _ => by rw [h.2.1 2 (by decide)], fun j => by rw [h.2.1 1 (by decide)], h.2.2.2⟩
theorem TabFr.fr {σ σ' : OgC} (h : TabFr 3 σ σ') : FrC σ σ' := ⟨fun a _ => by rw [h.1], fun a h16 _ _ => h.2.1 a (by omega)⟩
theorem RowFr.fr {σ σ' : OgS} (h : RowFr σ σ') : FrM σ σ' := ⟨h.1, fun a h3 _ _ => h.2.1 a (by omega) (by omega), fun x _ => by rw [h.2.1 5 (by decide) (by decide)], fun k _ h1 h2 => h.2.2.1 k h1 h2, fun j hj => h.2.2.2.1 j (by omega), fun j => by rw [h.2.1 1 (by decide) (by decide)], h.2.2.2.2⟩
theorem FrC.agr {σ σ' : OgC} (h : FrC σ σ') : Agr σ σ' := fun a ha => ⟨h.2 a (by omega) (by omega) (fun z => by unfold UT at z; omega), h.1 a (by omega)⟩
section Acts
variable {Z : Nat → Prop} {Γ : OgG} {nl : Nat} {T : Nat → Int32 → (Nat → Int64) → Option Int64} {A : OgA}
theorem HC.lt {σ : OgC} (h : HC Z Γ nl T A σ) : LtC Z Γ 3 A.r nl T σ := ⟨RdT.of h.1 h.2.1, h.2.2.1⟩
theorem HM.lt {σ : OgS} (h : HM nl T A σ) : LtM A.r nl T σ := ⟨h.1, h.2.1⟩
theorem HC.ev {σ σ' : OgC} (h : HC Z Γ nl T A σ) (hE : EvC σ σ') : HC Z Γ nl T A σ' := ⟨hE.fl h.1, hE.fk h.2.1, hE.ls h.2.2.1, h.2.2.2.of (by rw [hE.2.1]) (by rw [hE.1]) (fun a _ => by rw [hE.1])⟩
theorem UnM.of {U : Nat → Nat → Int32} {W : Nat → Int32} {n : Nat} {σ σ' : OgS} (h : UnM U W n σ) (h5 : σ'.I 5 = σ.I 5) (h6 : σ'.I 6 = σ.I 6) : UnM U W n σ' := fun k hk => ⟨fun i hi => by rw [h5]; exact (h k hk).1 i hi, by rw [h6]; exact (h k hk).2⟩
theorem HM.ev {σ σ' : OgS} (h : HM nl T A σ) (hE : EvM σ σ') : HM nl T A σ' := ⟨hE.fl h.1, hE.ls (by decide) h.2.1, h.2.2.of (hE.2.1 5 (by decide)) (hE.2.1 6 (by decide))⟩
theorem A_n (h : HO nl T A) : A.n ≤ 16 ∧ A.r 208 = nI A.n := by
  obtain ⟨n, hn, e⟩ := h.1.1.nat 208 (hi := 16) rfl
  unfold OgA.n
  rw [e, nI_clamp (by omega)]
  exact ⟨hn, rfl⟩
/-- the table's places of the row are other, on the class's side -/
theorem HC.tab {σ σ' : OgC} {α' : Nat → Int32} (h : HC Z Γ nl T A σ) (hL : LtC Z Γ 3 α' nl T σ') (hf : TabFr 3 σ σ') (hα : ∀ j, j < 6 ∨ j = 7 ∨ j = 8 ∨ 31 ≤ j → α' j = A.r j) : HC Z Γ nl T (A.wr α') σ' := by
  have em : og_mix α' A.r = α' := by
    funext j
    unfold og_mix
    split
    · rfl
    · exact (hα j (by omega)).symm
  have hF := h.1.tab hL.1.1 (fun a _ ha => hf.2.1 a (by omega)) (hα 7 (by omega)) (hα 8 (by omega))
  have hK := FlK.tab (α := A.r) hL.1.1
  rw [em] at hF hK
  refine ⟨hF, hK, hL.2, ?_⟩
  have en : (A.wr α').n = A.n := by
    unfold OgA.n
    show (α' 208).toNatClampNeg = _
    rw [hα 208 (by omega)]
  rw [en]
  exact h.2.2.2.of (by rw [hf.1]) (hf.2.1 21 (by omega)) (fun a ha => hf.2.1 a (by unfold UT at ha; omega))
theorem HM.tab {σ σ' : OgS} {α' : Nat → Int32} (h : HM nl T A σ) (hL : LtM α' nl T σ') (hf : RowFr σ σ') (hα : α' 208 = A.r 208) : HM nl T (A.wr α') σ' := by
  refine ⟨hL.1, hL.2, ?_⟩
  have en : (A.wr α').n = A.n := by
    unfold OgA.n
    show (α' 208).toNatClampNeg = _
    rw [hα]
  rw [en]
  exact h.2.2.of (hf.2.1 5 (by decide) (by decide)) (hf.2.1 6 (by decide) (by decide))
theorem HO.tab {α' : Nat → Int32} (h : HO nl T A) (hL : LtO α' nl T) (h8 : α' 208 = A.r 208) (e7 : α' 7 = A.r 7) (e8 : α' 8 = A.r 8) (e0 : α' 0 = A.r 0) (ht : TkZ α') : HO nl T (A.wr α') := by
  refine ⟨hL, fun k hk => ?_, ht⟩
  have en : (A.wr α').n = A.n := by
    unfold OgA.n
    show (α' 208).toNatClampNeg = _
    rw [h8]
  rw [en] at hk
  obtain ⟨a, b, c, d⟩ := h.2.1 k hk
  exact ⟨⟨a.1, fun f hf hz => a.2 f hf (by rw [← e0]; exact hz)⟩, b.trans e7.symm, c.trans e8.symm, d⟩
/-! keeping -/
def og_kp (A : OgA) (x : Int32) : OgA := (upd A.r 208 (nI (og_pn1 A.n)), og_psh A.u A.n A.r, og_psh A.w A.n x)
theorem pn1_le (n : Nat) (h : n ≤ 16) : og_pn1 n ≤ 16 := by
  unfold og_pn1
  split <;> omega
theorem kp_n (x : Int32) (h : A.n ≤ 16) : (og_kp A x).n = og_pn1 A.n := by
  unfold OgA.n
  show ((upd A.r 208 (nI (og_pn1 A.n))) 208).toNatClampNeg = _
  have := pn1_le A.n h
  rw [pk_us, nI_clamp (by omega)]
  rfl
theorem cKp {Q : OgC → Prop} {σ : OgC} (hG : GK Γ) (hZ : ZO Z) (h : HC Z Γ nl T A σ) (hO : HO nl T A) {x : Int32} (K : ∀ σ', HC Z Γ nl T (og_kp A x) σ' → FrC σ σ' → Q σ') : wX0_keeps Γ Q x σ := by
  obtain ⟨hn, hα⟩ := A_n hO
  refine cKeeps hG h.1 h.2.1 hα h.2.2.2 (fun σ' a b c d => K σ' ⟨a, b.al 208 _ (by omega), h.2.2.1.keep hZ d.fr.agr, ?_⟩ d.fr)
  rw [kp_n x hn]
  exact c
theorem KpM.fr {σ σ' : OgS} (h : KpM σ σ') : FrM σ σ' := ⟨h.2.1, fun a h3 h5 h6 => h.2.2.1 a (by omega) h5 h6, h.2.2.2.1, fun k h8 _ _ => h.2.2.2.2 k h8, fun j _ => by rw [h.2.2.1 2 (by decide) (by decide) (by decide)], fun j => by rw [h.2.2.1 1 (by decide) (by decide) (by decide)], ⟨fun a _ _ _ => by rw [h.1], fun k _ _ => by rw [h.1]⟩⟩
theorem mKp {Q : OgS → Prop} {σ : OgS} (h : HM nl T A σ) (hO : HO nl T A) {x : Int32} (K : ∀ σ', HM nl T (og_kp A x) σ' → FrM σ σ' → Q σ') : wX5_remember Q x σ := by
  obtain ⟨hn, hα⟩ := A_n hO
  refine mRemember h.1 hα hn h.2.2 (fun σ' a c d => K σ' ⟨a, h.2.1.keep d.fr.2.2.2.2.1, ?_⟩ d.fr)
  rw [kp_n x hn]
  exact c
theorem HO.kp (hO : HO nl T A) {x : Int32} (hx : 0 ≤ x.toInt ∧ x.toInt ≤ 3) : HO nl T (og_kp A x) := by
  obtain ⟨hn, hα⟩ := A_n hO
  have hp := pn1_le A.n hn
  refine ⟨⟨hO.1.1.set 208 _ (lo := 0) (hi := 16) rfl ?_ ?_, hO.1.2.1, ?_⟩, fun k hk => ?_, hO.2.2.al 208 _ (by omega)⟩
  · rw [nI_toInt (by omega)]
    omega
  · rw [nI_toInt (by omega)]
    omega
  · show ((upd A.r 208 (nI (og_pn1 A.n))) 5).toInt < _
    rw [pk_un (by decide)]
    exact hO.1.2.2
  · rw [kp_n x hn] at hk
    have cur : (∀ j lo hi, 6 ≤ j → j < 31 → og_bd j = some (lo, hi) → lo ≤ (A.r j).toInt ∧ (A.r j).toInt ≤ hi) ∧ ∀ f : Nat, f < 6 → (A.r 0).toInt ≤ (f : Int) → A.r (25 + f) = 0 := ⟨fun j lo hi _ _ hb => hO.1.1 j lo hi hb, hO.2.2⟩
    have e0 : (og_kp A x).r 0 = A.r 0 := by
      show (upd A.r 208 (nI (og_pn1 A.n))) 0 = _
      exact pk_un (by decide)
    have e7 : (og_kp A x).r 7 = A.r 7 := by
      show (upd A.r 208 (nI (og_pn1 A.n))) 7 = _
      exact pk_un (by decide)
    have e8 : (og_kp A x).r 8 = A.r 8 := by
      show (upd A.r 208 (nI (og_pn1 A.n))) 8 = _
      exact pk_un (by decide)
    rw [e7, e8, e0]
    show ((∀ j lo hi, 6 ≤ j → j < 31 → og_bd j = some (lo, hi) → lo ≤ (og_psh A.u A.n A.r k j).toInt ∧ (og_psh A.u A.n A.r k j).toInt ≤ hi) ∧ ∀ f : Nat, f < 6 → (A.r 0).toInt ≤ (f : Int) → og_psh A.u A.n A.r k (25 + f) = 0) ∧ og_psh A.u A.n A.r k 7 = A.r 7 ∧ og_psh A.u A.n A.r k 8 = A.r 8 ∧ 0 ≤ (og_psh A.w A.n x k).toInt ∧ (og_psh A.w A.n x k).toInt ≤ 3
    unfold og_psh
    unfold og_pn1 at hk
    by_cases c : A.n < 16
    · rw [if_pos c] at hk
      simp only [if_pos c]
      by_cases e : k = A.n
      · simp only [if_pos e]
        exact ⟨cur, trivial, trivial, hx⟩
      · simp only [if_neg e]
        exact hO.2.1 k (by omega)
    · rw [if_neg c] at hk
      simp only [if_neg c]
      by_cases e : k = 15
      · simp only [if_pos e]
        exact ⟨cur, trivial, trivial, hx⟩
      · simp only [if_neg e]
        exact hO.2.1 (k + 1) (by omega)
/-! the four acts -/
def og_fn (α : Nat → Int32) (x : Int32) : Bool := decide (0 ≤ x.toInt ∧ x.toInt < (α 0).toInt)
def og_sn (x : Int32) : Bool := decide (0 ≤ x.toInt ∧ x.toInt ≤ 5)
/-- show at fort x the sign y -/
def sShow (T : Nat → Int32 → (Nat → Int64) → Option Int64) (x y : Int32) (A : OgA) : Int32 × OgA :=
  if og_sn y then (if og_fn A.r x then (if og_cs A.r T x.toNatClampNeg y.toNatClampNeg then (og_pays (og_kp A 0).r T x.toNatClampNeg y.toNatClampNeg, (og_kp A 0).wr (og_flip (og_kp A 0).r x.toNatClampNeg y.toNatClampNeg)) else (-3, A)) else (-2, A)) else (-1, A)
def sHide (x y : Int32) (A : OgA) : Int32 × OgA :=
  if og_sn y then (if og_fn A.r x then (if A.r (25 + x.toNatClampNeg) = 0 ∧ bt (A.r (19 + x.toNatClampNeg)) y.toNatClampNeg = true then (og_flip (og_kp A 1).r x.toNatClampNeg y.toNatClampNeg (19 + x.toNatClampNeg), (og_kp A 1).wr (og_flip (og_kp A 1).r x.toNatClampNeg y.toNatClampNeg)) else (-3, A)) else (-2, A)) else (-1, A)
def sMan (x y : Int32) (A : OgA) : Int32 × OgA :=
  if -99 ≤ y.toInt ∧ y.toInt ≤ 99 then (if og_fn A.r x then (if A.r (25 + x.toNatClampNeg) = 0 ∧ 0 ≤ (A.r (13 + x.toNatClampNeg) + y).toInt ∧ (A.r (13 + x.toNatClampNeg) + y).toInt ≤ 99 then (A.r (13 + x.toNatClampNeg) + y, (og_kp A 2).wr (upd (og_kp A 2).r (13 + x.toNatClampNeg) (A.r (13 + x.toNatClampNeg) + y))) else (-3, A)) else (-2, A)) else (-1, A)
/-- army x to fort y -/
def sMarch (T : Nat → Int32 → (Nat → Int64) → Option Int64) (x y : Int32) (A : OgA) : Int32 × OgA :=
  if 1 ≤ x.toInt ∧ x.toInt ≤ 99 then (if og_fn A.r y then (if A.r (25 + y.toNatClampNeg) = 0 ∧ (A.r 6).toInt < 999 then (og_end (og_kp A 3).r T x y.toNatClampNeg, (og_kp A 3).wr (og_mar (og_kp A 3).r T x y.toNatClampNeg)) else (-3, A)) else (-2, A)) else (-1, A)
theorem fn_k {α : Nat → Int32} {n : Nat} (hn : n ≤ 6) (hα : α 0 = nI n) {k : Nat} (hk : k < n) : og_fn α (nI k) = true := by
  unfold og_fn
  rw [hα, nI_toInt (by omega), nI_toInt (by omega)]
  simp
  omega
theorem fn_no {α : Nat → Int32} {n : Nat} (hn : n ≤ 6) (hα : α 0 = nI n) {x : Int32} (h : ¬ ∃ k, k < n ∧ x = nI k) : og_fn α x = false := by
  unfold og_fn
  rw [hα, nI_toInt (by omega)]
  apply decide_eq_false
  intro z
  obtain ⟨m, hm, e⟩ := og_nat (x := x) (hi := 6) z.1 (by omega)
  rw [e, nI_toInt (by omega)] at z
  exact h ⟨m, by omega, e⟩
theorem kp_r (x : Int32) {j : Nat} (hj : j ≠ 208) : (og_kp A x).r j = A.r j := by
  show (upd A.r 208 (nI (og_pn1 A.n))) j = _
  exact pk_un hj
theorem flip_o (α : Nat → Int32) (f s : Nat) (hf : f < 6) {j : Nat} (hj : j < 19 ∨ 25 ≤ j) : og_flip α f s j = α j := pk_un (by omega)
theorem mFlip {σ : OgS} {f s : Nat} (h : HM nl T A σ) (hf : f < 6) : HM nl T (A.wr (og_flip A.r f s)) (σ.sI 2 (19 + f) (A.r (19 + f) ^^^ ((1 : Int32) <<< (nI s &&& 31)))) ∧ FrM σ (σ.sI 2 (19 + f) (A.r (19 + f) ^^^ ((1 : Int32) <<< (nI s &&& 31)))) := by
  have rf : RowFr σ (σ.sI 2 (19 + f) (A.r (19 + f) ^^^ ((1 : Int32) <<< (nI s &&& 31)))) := (EvM.rf σ).rw.put (19 + f) _ (by omega)
  exact ⟨h.tab (h.lt.put (19 + f) _ (by omega)) rf (flip_o _ _ _ hf (by omega)), rf.fr⟩
theorem HO.flip (h : HO nl T A) {f s : Nat} (hf : f < 6) (hs : s < 6) : HO nl T (A.wr (og_flip A.r f s)) :=
  h.tab ⟨h.1.1.flip hf hs, h.1.2.1, by rw [flip_o _ _ _ hf (by omega)]; exact h.1.2.2⟩ (flip_o _ _ _ hf (by omega)) (flip_o _ _ _ hf (by omega)) (flip_o _ _ _ hf (by omega)) (flip_o _ _ _ hf (by omega)) (h.2.2.al _ _ (by omega))
theorem cShow {Q : Int32 → OgC → Prop} {σ : OgC} {x y : Int32} (hG : GK Γ) (hZ : ZO Z) (h : HC Z Γ nl T A σ) (hO : HO nl T A) (K : ∀ σ', HC Z Γ nl T (sShow T x y A).2 σ' → FrC σ σ' → Q (sShow T x y A).1 σ') : wX0_showsKept Γ Q x y σ := by
  obtain ⟨n, hn, hα⟩ := hO.1.1.nat 0 (hi := 6) rfl
  have hC : σ.I 2 11 = nI n := h.lt.1.2.2.2.2.2.trans hα
  unfold wX0_showsKept wX0_isSign
  simp only [cIn_eq, Int32.reduceToInt, if10, if11, if10n]
  unfold sShow og_sn at K
  by_cases cy : 0 ≤ y.toInt ∧ y.toInt ≤ 5
  · rw [if_pos (by simpa using cy)] at K
    obtain ⟨s, hs, rfl⟩ := x_nat (b := 5) (by decide) cy
    refine ⟨Or.inr cy, fun _ => ?_, fun e => absurd cy e⟩
    refine cFort hn hC (fun f hf ex => ⟨fun _ => ?_, fun e => absurd e (by decide)⟩) (fun g => ⟨fun e => absurd rfl e, fun _ => ?_⟩)
    · subst ex
      rw [if_pos (fn_k hn hα hf), nI_clamp (by omega), nI_clamp (by omega)] at K
      refine cCanShow h.lt hO.1 (by omega) (by omega) (fun σ1 hE => ?_)
      cases hcs : og_cs A.r T f s with
      | false =>
        rw [hcs] at K
        exact ⟨fun e => absurd rfl e, fun _ => K σ1 (h.ev hE) hE.fr⟩
      | true =>
        rw [hcs] at K
        refine ⟨fun _ => cKp hG hZ (h.ev hE) hO (fun σ2 h2 f2 => ?_), fun e => absurd e (by decide)⟩
        have hO2 := hO.kp (x := 0) (by decide)
        refine cPays h2.lt hO2.1 (by omega) (by omega) (fun σ3 hE3 => ?_)
        have h3 := h2.ev hE3
        refine cFlip h3.lt hZ (Or.inl rfl) (by omega) (fun σ4 hL4 hf4 => K σ4 (h3.tab hL4 hf4 (fun j hj => flip_o _ _ _ (by omega) (by omega))) ?_)
        exact ((hE.fr.tr f2).tr hE3.fr).tr hf4.fr
    · rw [if_neg (by rw [fn_no hn hα g]; decide)] at K
      exact K σ h (FrC.rf σ)
  · rw [if_neg (by simpa using cy)] at K
    exact ⟨Or.inl cy, fun e => absurd e cy, fun _ => K σ h (FrC.rf σ)⟩
theorem mShow {Q : Int32 → OgS → Prop} {σ : OgS} {x y : Int32} (h : HM nl T A σ) (hO : HO nl T A) (K : ∀ σ', HM nl T (sShow T x y A).2 σ' → FrM σ σ' → Q (sShow T x y A).1 σ') : wX5_showNow Q x y σ := by
  obtain ⟨n, hn, hα⟩ := hO.1.1.nat 0 (hi := 6) rfl
  have hM : σ.I 2 0 = nI n := (h.1.1 0 (by omega) (by omega)).trans hα
  unfold wX5_showNow wX5_isOne
  simp only [mIn_eq, Int32.reduceToInt, Int64.reduceToInt, Int32.toInt_toInt64, if10, if11, if10n, forall_eq]
  unfold sShow og_sn at K
  by_cases cy : 0 ≤ y.toInt ∧ y.toInt ≤ 5
  · rw [if_pos (by simpa using cy)] at K
    obtain ⟨s, hs, rfl⟩ := x_nat (b := 5) (by decide) cy
    refine ⟨Or.inr cy, fun _ => ?_, fun e => absurd cy e⟩
    refine mFort hn hM (fun f hf ex => ⟨fun _ => ?_, fun e => absurd e (by decide)⟩) (fun g => ⟨fun e => absurd rfl e, fun _ => ?_⟩)
    · subst ex
      rw [if_pos (fn_k hn hα hf), nI_clamp (by omega), nI_clamp (by omega)] at K
      refine mCanShow h.lt hO.1 (by omega) (by omega) (fun σ1 hE => ?_)
      cases hcs : og_cs A.r T f s with
      | false =>
        rw [hcs] at K
        exact ⟨fun e => absurd rfl e, fun _ => K σ1 (h.ev hE) hE.fr⟩
      | true =>
        rw [hcs] at K
        refine ⟨fun _ => mKp (h.ev hE) hO (fun σ2 h2 f2 => ?_), fun e => absurd e (by decide)⟩
        have hO2 := hO.kp (x := 0) (by decide)
        refine mPays h2.lt hO2.1 (by omega) (by omega) (fun σ3 hE3 => ?_)
        have h3 := h2.ev hE3
        have nb : bt ((og_kp A 0).r (19 + f)) s = false := by
          rw [kp_r 0 (by omega)]
          unfold og_cs at hcs
          simp at hcs
          exact hcs.2.1
        rw [show (19 : Int32) + nI f = nI (19 + f) from nI_add 19 f, nI_clamp (by omega), h3.1.1 _ (by omega) (by omega), ← (xr_ok (hO2.1.1.at (19 + f) (bd_shown (by omega))) (show s < 6 by omega)).1 nb]
        have m4 := mFlip (s := s) h3 (show f < 6 by omega)
        exact ⟨vp_in_nI (by omega) (by decide), vp_in_nI (by omega) (by decide), K _ m4.1 (((hE.fr.tr f2).tr hE3.fr).tr m4.2)⟩
    · rw [if_neg (by rw [fn_no hn hα g]; decide)] at K
      exact K σ h (FrM.rf σ)
  · rw [if_neg (by simpa using cy)] at K
    exact ⟨Or.inl cy, fun e => absurd e cy, fun _ => K σ h (FrM.rf σ)⟩
theorem og_sn_s {y : Int32} (h : og_sn y = true) : ∃ s, s < 6 ∧ y = nI s := by
  unfold og_sn at h
  obtain ⟨s, hs, e⟩ := x_nat (x := y) (b := 5) (by decide) (by simpa using h)
  exact ⟨s, by omega, e⟩
theorem og_fn_f {α : Nat → Int32} (hR : Rng α) {x : Int32} (h : og_fn α x = true) : ∃ f, f < 6 ∧ x = nI f := by
  have h0 := hR.at 0 (lo := 0) (hi := 6) rfl
  unfold og_fn at h
  have h' : 0 ≤ x.toInt ∧ x.toInt < (α 0).toInt := by simpa using h
  obtain ⟨s, hs, e⟩ := x_nat (x := x) (b := 5) (by decide) ⟨h'.1, by omega⟩
  exact ⟨s, by omega, e⟩
theorem oShow (hO : HO nl T A) (x y : Int32) : HO nl T (sShow T x y A).2 := by
  unfold sShow
  split
  · rename_i c1
    obtain ⟨s, hs, rfl⟩ := og_sn_s c1
    split
    · rename_i c2
      obtain ⟨f, hf, rfl⟩ := og_fn_f hO.1.1 c2
      split
      · rw [nI_clamp (by omega), nI_clamp (by omega)]
        exact (hO.kp (x := 0) (by decide)).flip hf hs
      · exact hO
    · exact hO
  · exact hO
/-! hide -/
theorem cHide {Q : Int32 → OgC → Prop} {σ : OgC} {x y : Int32} (hG : GK Γ) (hZ : ZO Z) (h : HC Z Γ nl T A σ) (hO : HO nl T A) (K : ∀ σ', HC Z Γ nl T (sHide x y A).2 σ' → FrC σ σ' → Q (sHide x y A).1 σ') : wX0_hidesKept Γ Q x y σ := by
  obtain ⟨n, hn, hα⟩ := hO.1.1.nat 0 (hi := 6) rfl
  have hC : σ.I 2 11 = nI n := h.lt.1.2.2.2.2.2.trans hα
  unfold wX0_hidesKept wX0_isSign
  simp only [cIn_eq, Int32.reduceToInt, if10, if11, if10n]
  unfold sHide og_sn at K
  by_cases cy : 0 ≤ y.toInt ∧ y.toInt ≤ 5
  · rw [if_pos (by simpa using cy)] at K
    obtain ⟨s, hs, rfl⟩ := x_nat (b := 5) (by decide) cy
    refine ⟨Or.inr cy, fun _ => ?_, fun e => absurd cy e⟩
    refine cFort hn hC (fun f hf ex => ⟨fun _ => ?_, fun e => absurd e (by decide)⟩) (fun g => ⟨fun e => absurd rfl e, fun _ => ?_⟩)
    · subst ex
      rw [if_pos (fn_k hn hα hf), nI_clamp (by omega), nI_clamp (by omega)] at K
      have vf : vp_in (nI f) 6 := vp_in_nI (by omega) (by decide)
      refine cTaken h.lt.1 hO.1.1 (by omega) ?_
      rcases tk_b hO.1.1 (show f < 6 by omega) with tk | tk
      · rw [tk]
        refine ⟨fun e => absurd rfl e, fun _ => ⟨vf, ?_⟩⟩
        rw [nI_clamp (by omega), h.lt.1.1.2.1 f (by omega), cIs (by omega)]
        cases hb : bt (A.r (19 + f)) s with
        | false =>
          rw [if_neg (fun z => by rw [hb] at z; exact absurd z.2 (by decide))] at K
          exact ⟨fun e => absurd rfl e, fun _ => K σ h (FrC.rf σ)⟩
        | true =>
          rw [if_pos ⟨tk, hb⟩] at K
          refine ⟨fun _ => cKp hG hZ h hO (fun σ2 h2 f2 => ?_), fun e => absurd e (by decide)⟩
          refine cFlip h2.lt hZ (Or.inl rfl) (by omega) (fun σ4 hL4 hf4 => ⟨vf, ?_⟩)
          rw [hL4.1.1.2.1 f (by omega)]
          exact K σ4 (h2.tab hL4 hf4 (fun j hj => flip_o _ _ _ (by omega) (by omega))) (f2.tr hf4.fr)
      · rw [tk]
        rw [if_neg (fun z => by rw [tk] at z; exact absurd z.1 (by decide))] at K
        exact ⟨fun _ => K σ h (FrC.rf σ), fun e => absurd e (by decide)⟩
    · rw [if_neg (by rw [fn_no hn hα g]; decide)] at K
      exact K σ h (FrC.rf σ)
  · rw [if_neg (by simpa using cy)] at K
    exact ⟨Or.inl cy, fun e => absurd e cy, fun _ => K σ h (FrC.rf σ)⟩
theorem mHide {Q : Int32 → OgS → Prop} {σ : OgS} {x y : Int32} (h : HM nl T A σ) (hO : HO nl T A) (K : ∀ σ', HM nl T (sHide x y A).2 σ' → FrM σ σ' → Q (sHide x y A).1 σ') : wX5_hideNow Q x y σ := by
  obtain ⟨n, hn, hα⟩ := hO.1.1.nat 0 (hi := 6) rfl
  have hM : σ.I 2 0 = nI n := (h.1.1 0 (by omega) (by omega)).trans hα
  unfold wX5_hideNow wX5_isOne
  simp only [mIn_eq, Int32.reduceToInt, Int64.reduceToInt, Int32.toInt_toInt64, if10, if11, if10n, forall_eq]
  unfold sHide og_sn at K
  by_cases cy : 0 ≤ y.toInt ∧ y.toInt ≤ 5
  · rw [if_pos (by simpa using cy)] at K
    obtain ⟨s, hs, rfl⟩ := x_nat (b := 5) (by decide) cy
    refine ⟨Or.inr cy, fun _ => ?_, fun e => absurd cy e⟩
    refine mFort hn hM (fun f hf ex => ⟨fun _ => ?_, fun e => absurd e (by decide)⟩) (fun g => ⟨fun e => absurd rfl e, fun _ => ?_⟩)
    · subst ex
      rw [if_pos (fn_k hn hα hf), nI_clamp (by omega), nI_clamp (by omega)] at K
      rw [show (25 : Int32) + nI f = nI (25 + f) from nI_add 25 f, show (19 : Int32) + nI f = nI (19 + f) from nI_add 19 f, nI_clamp (by omega), nI_clamp (by omega), h.1.1 (25 + f) (by omega) (by omega), h.1.1 (19 + f) (by omega) (by omega)]
      have v19 : vp_in (nI (19 + f)) 5550 := vp_in_nI (by omega) (by decide)
      refine ⟨vp_in_nI (by omega) (by decide), ?_⟩
      rcases tk_b hO.1.1 (show f < 6 by omega) with tk | tk
      · rw [tk]
        refine ⟨fun e => absurd e (by decide), fun _ => ⟨v19, ?_⟩⟩
        rw [mIs (by omega)]
        cases hb : bt (A.r (19 + f)) s with
        | false =>
          rw [if_neg (fun z => by rw [hb] at z; exact absurd z.2 (by decide))] at K
          exact ⟨fun e => absurd rfl e, fun _ => K σ h (FrM.rf σ)⟩
        | true =>
          rw [if_pos ⟨tk, hb⟩] at K
          refine ⟨fun _ => mKp h hO (fun σ2 h2 f2 => ?_), fun e => absurd e (by decide)⟩
          have hO2 := hO.kp (x := 1) (by decide)
          have nb : bt ((og_kp A 1).r (19 + f)) s = true := by
            rw [kp_r 1 (by omega)]
            exact hb
          rw [h2.1.1 (19 + f) (by omega) (by omega), ← (xr_ok (hO2.1.1.at (19 + f) (bd_shown (by omega))) (show s < 6 by omega)).2.1 nb]
          have m4 := mFlip (s := s) h2 (show f < 6 by omega)
          refine ⟨v19, v19, v19, ?_⟩
          rw [m4.1.1.1 (19 + f) (by omega) (by omega)]
          exact K _ m4.1 (f2.tr m4.2)
      · rw [tk]
        rw [if_neg (fun z => by rw [tk] at z; exact absurd z.1 (by decide))] at K
        exact ⟨fun _ => K σ h (FrM.rf σ), fun e => absurd rfl e⟩
    · rw [if_neg (by rw [fn_no hn hα g]; decide)] at K
      exact K σ h (FrM.rf σ)
  · rw [if_neg (by simpa using cy)] at K
    exact ⟨Or.inl cy, fun e => absurd e cy, fun _ => K σ h (FrM.rf σ)⟩
theorem oHide (hO : HO nl T A) (x y : Int32) : HO nl T (sHide x y A).2 := by
  unfold sHide
  split
  · rename_i c1
    obtain ⟨s, hs, rfl⟩ := og_sn_s c1
    split
    · rename_i c2
      obtain ⟨f, hf, rfl⟩ := og_fn_f hO.1.1 c2
      split
      · rw [nI_clamp (by omega), nI_clamp (by omega)]
        exact (hO.kp (x := 1) (by decide)).flip hf hs
      · exact hO
    · exact hO
  · exact hO
end Acts
