section Acts2
variable {Z : Nat → Prop} {Γ : OgG} {nl : Nat} {T : Nat → Int32 → (Nat → Int64) → Option Int64} {A : OgA}
theorem cMan {Q : Int32 → OgC → Prop} {σ : OgC} {x y : Int32} (hG : GK Γ) (hZ : ZO Z) (h : HC Z Γ nl T A σ) (hO : HO nl T A) (K : ∀ σ', HC Z Γ nl T (sMan x y A).2 σ' → FrC σ σ' → Q (sMan x y A).1 σ') : wX0_mansKept Γ Q x y σ := by
  obtain ⟨n, hn, hα⟩ := hO.1.1.nat 0 (hi := 6) rfl
  have hC : σ.I 2 11 = nI n := h.lt.1.2.2.2.2.2.trans hα
  unfold wX0_mansKept
  simp only [cIn_eq, Int32.reduceToInt, if10, if11, if10n]
  unfold sMan at K
  by_cases cy : -99 ≤ y.toInt ∧ y.toInt ≤ 99
  · rw [if_pos cy] at K
    refine ⟨fun _ => ?_, fun e => absurd cy e⟩
    refine cFort hn hC (fun f hf ex => ⟨fun _ => ?_, fun e => absurd e (by decide)⟩) (fun g => ⟨fun e => absurd rfl e, fun _ => ?_⟩)
    · subst ex
      rw [if_pos (fn_k hn hα hf), nI_clamp (by omega)] at K
      have vf : vp_in (nI f) 6 := vp_in_nI (by omega) (by decide)
      refine cTaken h.lt.1 hO.1.1 (by omega) ?_
      rcases tk_b hO.1.1 (show f < 6 by omega) with tk | tk
      · rw [tk]
        refine ⟨fun e => absurd rfl e, fun _ => ⟨vf, ?_⟩⟩
        rw [nI_clamp (by omega), h.lt.1.1.1 f (by omega)]
        by_cases cm : 0 ≤ (A.r (13 + f) + y).toInt ∧ (A.r (13 + f) + y).toInt ≤ 99
        · rw [if_pos ⟨tk, cm⟩] at K
          refine ⟨fun _ => cKp hG hZ h hO (fun σ2 h2 f2 => ?_), fun e => absurd cm e⟩
          have r13 : σ2.I 4 f = A.r (13 + f) := by rw [h2.lt.1.1.1 f (by omega), kp_r 2 (by omega)]
          rw [r13]
          refine ⟨vf, vf, fun s20 e20 => ⟨vf, ?_⟩⟩
          subst e20
          rw [C_II, if_pos rfl, if_pos rfl]
          have fr : TabFr 3 σ2 (σ2.sI 4 f (A.r (13 + f) + y)) := (TabFr.rf 3 σ2).put 4 f _ (by omega) (by omega)
          have hp := h2.lt.1.put (c := 1) (p := 13) (k := f) (Or.inl rfl) (Or.inl ⟨rfl, rfl, by omega⟩) (A.r (13 + f) + y)
          exact K _ (h2.tab ⟨hp, h2.lt.2.keep hZ (fr.agr (Or.inl rfl))⟩ fr (fun j hj => pk_un (by omega))) (f2.tr fr.fr)
        · rw [if_neg (fun z => cm z.2)] at K
          exact ⟨fun e => absurd e cm, fun _ => K σ h (FrC.rf σ)⟩
      · rw [tk]
        rw [if_neg (fun z => by rw [tk] at z; exact absurd z.1 (by decide))] at K
        exact ⟨fun _ => K σ h (FrC.rf σ), fun e => absurd e (by decide)⟩
    · rw [if_neg (by rw [fn_no hn hα g]; decide)] at K
      exact K σ h (FrC.rf σ)
  · rw [if_neg cy] at K
    exact ⟨fun e => absurd e cy, fun _ => K σ h (FrC.rf σ)⟩
theorem mMan {Q : Int32 → OgS → Prop} {σ : OgS} {x y : Int32} (h : HM nl T A σ) (hO : HO nl T A) (K : ∀ σ', HM nl T (sMan x y A).2 σ' → FrM σ σ' → Q (sMan x y A).1 σ') : wX5_manNow Q x y σ := by
  obtain ⟨n, hn, hα⟩ := hO.1.1.nat 0 (hi := 6) rfl
  have hM : σ.I 2 0 = nI n := (h.1.1 0 (by omega) (by omega)).trans hα
  unfold wX5_manNow
  simp only [mIn_eq, Int32.reduceToInt, Int64.reduceToInt, Int32.toInt_toInt64, if10, if11, if10n, forall_eq]
  unfold sMan at K
  by_cases cy : -99 ≤ y.toInt ∧ y.toInt ≤ 99
  · rw [if_pos cy] at K
    refine ⟨fun _ => ?_, fun e => absurd cy e⟩
    refine mFort hn hM (fun f hf ex => ⟨fun _ => ?_, fun e => absurd e (by decide)⟩) (fun g => ⟨fun e => absurd rfl e, fun _ => ?_⟩)
    · subst ex
      rw [if_pos (fn_k hn hα hf), nI_clamp (by omega)] at K
      rw [show (25 : Int32) + nI f = nI (25 + f) from nI_add 25 f, show (13 : Int32) + nI f = nI (13 + f) from nI_add 13 f, nI_clamp (by omega), nI_clamp (by omega), h.1.1 (25 + f) (by omega) (by omega), h.1.1 (13 + f) (by omega) (by omega)]
      have v13 : vp_in (nI (13 + f)) 5550 := vp_in_nI (by omega) (by decide)
      refine ⟨vp_in_nI (by omega) (by decide), ?_⟩
      rcases tk_b hO.1.1 (show f < 6 by omega) with tk | tk
      · rw [tk]
        refine ⟨fun e => absurd e (by decide), fun _ => ⟨v13, ?_⟩⟩
        by_cases cm : 0 ≤ (A.r (13 + f) + y).toInt ∧ (A.r (13 + f) + y).toInt ≤ 99
        · rw [if_pos ⟨tk, cm⟩] at K
          refine ⟨fun _ => mKp h hO (fun σ2 h2 f2 => ?_), fun e => absurd cm e⟩
          have r13 : σ2.I 2 (13 + f) = A.r (13 + f) := by rw [h2.1.1 _ (by omega) (by omega), kp_r 2 (by omega)]
          rw [r13, S_II, if_pos rfl, if_pos rfl]
          have fr : RowFr σ2 (σ2.sI 2 (13 + f) (A.r (13 + f) + y)) := (EvM.rf σ2).rw.put (13 + f) _ (by omega)
          exact ⟨v13, v13, v13, K _ (h2.tab (h2.lt.put (13 + f) _ (by omega)) fr (pk_un (by omega))) (f2.tr fr.fr)⟩
        · rw [if_neg (fun z => cm z.2)] at K
          exact ⟨fun e => absurd e cm, fun _ => K σ h (FrM.rf σ)⟩
      · rw [tk]
        rw [if_neg (fun z => by rw [tk] at z; exact absurd z.1 (by decide))] at K
        exact ⟨fun _ => K σ h (FrM.rf σ), fun e => absurd rfl e⟩
    · rw [if_neg (by rw [fn_no hn hα g]; decide)] at K
      exact K σ h (FrM.rf σ)
  · rw [if_neg cy] at K
    exact ⟨fun e => absurd e cy, fun _ => K σ h (FrM.rf σ)⟩
theorem oMan (hO : HO nl T A) (x y : Int32) : HO nl T (sMan x y A).2 := by
  unfold sMan
  split
  · split
    · rename_i c2
      obtain ⟨f, hf, rfl⟩ := og_fn_f hO.1.1 c2
      rw [nI_clamp (by omega)]
      split
      · rename_i c3
        have h2 := hO.kp (x := 2) (by decide)
        exact h2.tab (h2.1.put (13 + f) _ (by omega) (bd_men hf) c3.2.1 c3.2.2) (pk_un (by omega)) (pk_un (by omega)) (pk_un (by omega)) (pk_un (by omega)) (h2.2.2.al _ _ (by omega))
      · exact hO
    · exact hO
  · exact hO
theorem d999 {α : Nat → Int32} (hR : Rng α) : (α 6 = 999 ↔ ¬ (α 6).toInt < 999) ∧ ((999 : Int32) ≤ α 6 ↔ ¬ (α 6).toInt < 999) := by
  have h := hR.at 6 (lo := 0) (hi := 999) rfl
  have z : (999 : Int32).toInt = 999 := by decide
  rw [fa_eq, fa_le, z]
  omega
theorem cMarch {Q : Int32 → OgC → Prop} {σ : OgC} {x y : Int32} (hG : GK Γ) (hZ : ZO Z) (h : HC Z Γ nl T A σ) (hO : HO nl T A) (K : ∀ σ', HC Z Γ nl T (sMarch T x y A).2 σ' → FrC σ σ' → Q (sMarch T x y A).1 σ') : wX0_marchesKept Γ Q x y σ := by
  obtain ⟨n, hn, hα⟩ := hO.1.1.nat 0 (hi := 6) rfl
  have hC : σ.I 2 11 = nI n := h.lt.1.2.2.2.2.2.trans hα
  unfold wX0_marchesKept wX0_isArmy
  simp only [cIn_eq, Int32.reduceToInt, if10, if11, if10n]
  unfold sMarch at K
  by_cases cx : 1 ≤ x.toInt ∧ x.toInt ≤ 99
  · rw [if_pos cx] at K
    refine ⟨Or.inr cx, fun _ => ?_, fun e => absurd cx e⟩
    refine cFort hn hC (fun f hf ex => ⟨fun _ => ?_, fun e => absurd e (by decide)⟩) (fun g => ⟨fun e => absurd rfl e, fun _ => ?_⟩)
    · subst ex
      rw [if_pos (fn_k hn hα hf), nI_clamp (by omega)] at K
      refine cTaken h.lt.1 hO.1.1 (by omega) ?_
      rcases tk_b hO.1.1 (show f < 6 by omega) with tk | tk
      · rw [tk]
        refine ⟨fun e => absurd rfl e, fun _ => ?_⟩
        rw [h.lt.1.1.2.2.2.1, (d999 hO.1.1).1]
        by_cases cd : (A.r 6).toInt < 999
        · rw [if_pos ⟨tk, cd⟩] at K
          refine ⟨fun _ => cKp hG hZ h hO (fun σ2 h2 f2 => ?_), fun e => absurd cd e⟩
          have hO2 := hO.kp (x := 3) (by decide)
          refine cMarches h2.lt hO2.1 hZ (Or.inl rfl) (by omega) cx (fun σ' hL hfr => K σ' (h2.tab hL hfr (fun j hj => mar_out hO2.1.1 (by omega) hj)) (f2.tr hfr.fr))
        · rw [if_neg (fun z => cd z.2)] at K
          exact ⟨fun e => absurd cd e, fun _ => K σ h (FrC.rf σ)⟩
      · rw [tk]
        rw [if_neg (fun z => by rw [tk] at z; exact absurd z.1 (by decide))] at K
        exact ⟨fun _ => K σ h (FrC.rf σ), fun e => absurd e (by decide)⟩
    · rw [if_neg (by rw [fn_no hn hα g]; decide)] at K
      exact K σ h (FrC.rf σ)
  · rw [if_neg cx] at K
    exact ⟨Or.inl cx, fun e => absurd e cx, fun _ => K σ h (FrC.rf σ)⟩
theorem mMarch {Q : Int32 → OgS → Prop} {σ : OgS} {x y : Int32} (h : HM nl T A σ) (hO : HO nl T A) (K : ∀ σ', HM nl T (sMarch T x y A).2 σ' → FrM σ σ' → Q (sMarch T x y A).1 σ') : wX5_marchNow Q x y σ := by
  obtain ⟨n, hn, hα⟩ := hO.1.1.nat 0 (hi := 6) rfl
  have hM : σ.I 2 0 = nI n := (h.1.1 0 (by omega) (by omega)).trans hα
  unfold wX5_marchNow wX5_canMarch
  simp only [mIn_eq, Int32.reduceToInt, Int64.reduceToInt, Int32.toInt_toInt64, if10, if11, if10n, forall_eq]
  unfold sMarch at K
  by_cases cx : 1 ≤ x.toInt ∧ x.toInt ≤ 99
  · rw [if_pos cx] at K
    refine ⟨fun _ => ?_, fun e => absurd cx e⟩
    refine mFort hn hM (fun f hf ex => ⟨fun _ => ?_, fun e => absurd e (by decide)⟩) (fun g => ⟨fun e => absurd rfl e, fun _ => ?_⟩)
    · subst ex
      rw [if_pos (fn_k hn hα hf), nI_clamp (by omega)] at K
      rw [show (25 : Int32) + nI f = nI (25 + f) from nI_add 25 f, nI_clamp (by omega), h.1.1 (25 + f) (by omega) (by omega), h.1.1 6 (by omega) (by omega), (d999 hO.1.1).2]
      have n10 : ¬ (1 : Int32) = 0 := by decide
      refine ⟨vp_in_nI (by omega) (by decide), ?_⟩
      rcases tk_b hO.1.1 (show f < 6 by omega) with tk | tk
      · rw [tk]
        refine ⟨fun e => absurd rfl e, fun _ => ?_⟩
        by_cases cd : (A.r 6).toInt < 999
        · rw [if_pos ⟨tk, cd⟩] at K
          refine ⟨fun e => absurd cd e, fun _ => ⟨fun _ => mKp h hO (fun σ2 h2 f2 => ?_), fun e => absurd e n10⟩⟩
          have hO2 := hO.kp (x := 3) (by decide)
          exact mMarchIt h2.lt hO2.1 (by omega) (fun σ' hL hfr => K σ' (h2.tab hL hfr (mar_out hO2.1.1 (by omega) (by omega))) (f2.tr hfr.fr))
        · rw [if_neg (fun z => cd z.2)] at K
          exact ⟨fun _ => ⟨fun e => absurd trivial e, fun _ => K σ h (FrM.rf σ)⟩, fun e => absurd cd e⟩
      · rw [tk]
        rw [if_neg (fun z => by rw [tk] at z; exact absurd z.1 (by decide))] at K
        exact ⟨fun _ => ⟨fun e => absurd trivial e, fun _ => K σ h (FrM.rf σ)⟩, fun e => absurd e n10⟩
    · rw [if_neg (by rw [fn_no hn hα g]; decide)] at K
      exact K σ h (FrM.rf σ)
  · rw [if_neg cx] at K
    exact ⟨fun e => absurd e cx, fun _ => K σ h (FrM.rf σ)⟩
theorem oMarch (hO : HO nl T A) (x y : Int32) : HO nl T (sMarch T x y A).2 := by
  unfold sMarch
  split
  · split
    · rename_i c2
      obtain ⟨f, hf, rfl⟩ := og_fn_f hO.1.1 c2
      rw [nI_clamp (by omega)]
      split
      · rename_i c3
        have h2 := hO.kp (x := 3) (by decide)
        exact h2.tab (h2.1.mar hf (by rw [kp_r 3 (by omega)]; exact c3.2) x) (mar_out h2.1.1 hf (by omega)) (mar_out h2.1.1 hf (by omega)) (mar_out h2.1.1 hf (by omega)) (mar_out h2.1.1 hf (by omega)) (h2.2.2.mar h2.1.1 hf (by
          unfold og_fn at c2
          rw [nI_toInt (by omega)] at c2
          rw [kp_r 3 (by omega)]
          simp at c2
          omega) x)
      · exact hO
    · exact hO
  · exact hO
/-- what an act answers: done, or one of three refusals -/
def ActV (r : Int32) : Prop := 0 ≤ r ∨ r = -1 ∨ r = -2 ∨ r = -3
theorem i_nn {r : Int32} (h : 0 ≤ r.toInt) : ActV r := Or.inl (by rw [fa_le]; exact h)
theorem vShow (hO : HO nl T A) (x y : Int32) : ActV (sShow T x y A).1 := by
  unfold sShow
  split
  · rename_i c1
    obtain ⟨s, hs, rfl⟩ := og_sn_s c1
    split
    · split
      · rw [nI_clamp (show s < 2 ^ 31 by omega)]
        have p := pn_ok (T := T) (hO.kp (x := 0) (by decide)).1.1 (f := x.toNatClampNeg) hs
        refine i_nn ?_
        show 0 ≤ (og_pays _ T _ _).toInt
        rw [p.1, nI_toInt (by omega)]
        omega
      · exact Or.inr (Or.inr (Or.inr rfl))
    · exact Or.inr (Or.inr (Or.inl rfl))
  · exact Or.inr (Or.inl rfl)
theorem vHide (hO : HO nl T A) (x y : Int32) : ActV (sHide x y A).1 := by
  unfold sHide
  split
  · rename_i c1
    obtain ⟨s, hs, rfl⟩ := og_sn_s c1
    split
    · rename_i c2
      obtain ⟨f, hf, rfl⟩ := og_fn_f hO.1.1 c2
      split
      · rw [nI_clamp (by omega), nI_clamp (by omega)]
        have b := (xr_ok ((hO.kp (x := 1) (by decide)).1.1.at (19 + f) (bd_shown hf)) hs).2.2.1
        refine i_nn ?_
        show 0 ≤ (upd _ (19 + f) _ (19 + f)).toInt
        rw [pk_us]
        exact b
      · exact Or.inr (Or.inr (Or.inr rfl))
    · exact Or.inr (Or.inr (Or.inl rfl))
  · exact Or.inr (Or.inl rfl)
theorem vMan (hO : HO nl T A) (x y : Int32) : ActV (sMan x y A).1 := by
  unfold sMan
  split
  · split
    · split
      · rename_i c3
        exact i_nn c3.2.1
      · exact Or.inr (Or.inr (Or.inr rfl))
    · exact Or.inr (Or.inr (Or.inl rfl))
  · exact Or.inr (Or.inl rfl)
theorem vMarch (x y : Int32) : ActV (sMarch T x y A).1 := by
  unfold sMarch
  split
  · split
    · split
      · rcases end_v (α := (og_kp A 3).r) (T := T) x y.toNatClampNeg with e | e | e
        · left
          show (0 : Int32) ≤ og_end _ T x _
          rw [e]
          decide
        · left
          show (0 : Int32) ≤ og_end _ T x _
          rw [e]
          decide
        · left
          show (0 : Int32) ≤ og_end _ T x _
          rw [e]
          decide
      · exact Or.inr (Or.inr (Or.inr rfl))
    · exact Or.inr (Or.inr (Or.inl rfl))
  · exact Or.inr (Or.inl rfl)
/-- frames of a whole call on the model's side -/
def FrP (σ σ' : OgS) : Prop := σ'.top = σ.top ∧ (∀ a, 3 ≤ a → a ≠ 5 → a ≠ 6 → σ'.I a = σ.I a) ∧ (∀ j, 150 ≤ j ∨ j = 4 → σ'.I 2 j = σ.I 2 j) ∧ ∀ a, a ≠ 0 → a ≠ 18 → a ≠ 20 → σ'.L a = σ.L a
theorem FrM.p {σ σ' : OgS} (h : FrM σ σ') : FrP σ σ' := ⟨h.1, h.2.1, h.2.2.2.2.1, h.2.2.2.2.2.2.1⟩
theorem FrP.put {σ σ' : OgS} (h : FrP σ σ') (a k : Nat) (v : Int32) (ha : a < 2) : FrP σ (σ'.sI a k v) := by
  refine ⟨h.1, fun x h3 h5 h6 => ?_, fun j hj => ?_, h.2.2.2⟩
  · funext j
    rw [S_II, if_neg (by omega), h.2.1 x h3 h5 h6]
  · rw [S_II, if_neg (by omega)]
    exact h.2.2.1 j hj
theorem FrP.tr {a b c : OgS} (h : FrP a b) (h' : FrP b c) : FrP a c := ⟨h'.1.trans h.1, fun x h1 h2 h3 => (h'.2.1 x h1 h2 h3).trans (h.2.1 x h1 h2 h3), fun j hj => (h'.2.2.1 j hj).trans (h.2.2.1 j hj), fun x h1 h2 h3 => (h'.2.2.2 x h1 h2 h3).trans (h.2.2.2 x h1 h2 h3)⟩
theorem FrC.put {σ σ' : OgC} (h : FrC σ σ') (a k : Nat) (v : Int32) (ha : a < 16) : FrC σ (σ'.sI a k v) := by
  refine ⟨h.1, fun x h16 h21 hu => ?_⟩
  funext j
  rw [C_II, if_neg (by omega), h.2 x h16 h21 hu]
/-- a tracked field, on both sides -/
theorem HC.fld {σ : OgC} (hZ : ZO Z) (h : HC Z Γ nl T A σ) (i : Nat) {a o p n : Nat} (hi : og_fam[i]? = some (a, o, p, n)) (k : Nat) (hk : k < n) {j q : Nat} (ej : o + k = j) (eq : p + k = q) (v : Int32) (ha : a < 2) (hq : 200 ≤ q ∧ q ≠ 208) : HC Z Γ nl T (A.wr (upd A.r q v)) (σ.sI a j v) := by
  have fr : FrC σ (σ.sI a j v) := (FrC.rf σ).put a j v (by omega)
  refine ⟨h.1.set i hi k hk ej eq v, (h.2.1.al q v (by omega)).sI a j v (Or.inl (by omega)), h.2.2.1.keep hZ fr.agr, ?_⟩
  have en : (A.wr (upd A.r q v)).n = A.n := by
    unfold OgA.n
    show ((upd A.r q v) 208).toNatClampNeg = _
    rw [pk_un (by omega)]
  rw [en]
  refine h.2.2.2.of rfl ?_ (fun x hx => ?_)
  · funext y
    rw [C_II, if_neg (by omega)]
  · funext y
    rw [C_II, if_neg (by unfold UT at hx; omega)]
theorem HM.fld {σ : OgS} (h : HM nl T A σ) (k : Nat) (hk : k < 100) (hk8 : k ≠ 8) (v : Int32) : HM nl T (A.wr (upd A.r (200 + k) v)) (σ.sI 0 k v) := by
  refine ⟨h.1.fld k hk v, h.2.1.keep (fun j _ => by rw [S_II, if_neg (by decide)]), ?_⟩
  have en : (A.wr (upd A.r (200 + k) v)).n = A.n := by
    unfold OgA.n
    show ((upd A.r (200 + k) v) 208).toNatClampNeg = _
    rw [pk_un (by omega)]
  rw [en]
  refine h.2.2.of ?_ ?_
  · funext y
    rw [S_II, if_neg (by decide)]
  · funext y
    rw [S_II, if_neg (by decide)]
theorem HM.ref {σ : OgS} (h : HM nl T A σ) (k : Nat) (v : Int32) : HM nl T (A.wr (upd A.r (300 + k) v)) (σ.sI 1 k v) := by
  refine ⟨h.1.ref k v, h.2.1.keep (fun j _ => by rw [S_II, if_neg (by decide)]), ?_⟩
  have en : (A.wr (upd A.r (300 + k) v)).n = A.n := by
    unfold OgA.n
    show ((upd A.r (300 + k) v) 208).toNatClampNeg = _
    rw [pk_un (by omega)]
  rw [en]
  refine h.2.2.of ?_ ?_
  · funext y
    rw [S_II, if_neg (by decide)]
  · funext y
    rw [S_II, if_neg (by decide)]
theorem HM.thrown {σ : OgS} (h : HM nl T A σ) (v : Int32) : HM nl T A (σ.sI 0 0 v) := by
  refine ⟨h.1.fskip (by decide) v, h.2.1.keep (fun j _ => by rw [S_II, if_neg (by decide)]), ?_⟩
  refine h.2.2.of ?_ ?_
  · funext y
    rw [S_II, if_neg (by decide)]
  · funext y
    rw [S_II, if_neg (by decide)]
theorem HO.free (h : HO nl T A) (q : Nat) (v : Int32) (hq : 200 ≤ q ∧ q ≠ 208) (hb : og_bd q = none) : HO nl T (A.wr (upd A.r q v)) :=
  h.tab ⟨h.1.1.free q v hb, h.1.2.1, by rw [pk_un (by omega)]; exact h.1.2.2⟩ (pk_un (by omega)) (pk_un (by omega)) (pk_un (by omega)) (pk_un (by omega)) (h.2.2.al q v (by omega))
/-- the end of an act: done, or refused -/
def og_fin (r : Int32) (A : OgA) : OgA := if 0 ≤ r then A.wr (upd A.r 201 0) else A.wr (upd (upd A.r 201 r) (300 + (-r).toNatClampNeg) (A.r (300 + (-r).toNatClampNeg) + 1))
theorem act_m {r : Int32} (h : ActV r) : 0 ≤ r ∨ (¬ 0 ≤ r ∧ ∃ m, 1 ≤ m ∧ m < 4 ∧ -r = nI m) := by
  rcases h with h0 | rfl | rfl | rfl
  · exact Or.inl h0
  · exact Or.inr ⟨by decide, 1, by decide, by decide, by decide⟩
  · exact Or.inr ⟨by decide, 2, by decide, by decide, by decide⟩
  · exact Or.inr ⟨by decide, 3, by decide, by decide, by decide⟩
theorem cFin {Q : Int32 → OgC → Prop} {σ : OgC} {r : Int32} (hZ : ZO Z) (h : HC Z Γ nl T A σ) (hr : ActV r) (K : ∀ σ', HC Z Γ nl T (og_fin r A) σ' → FrC σ σ' → Q r σ') : wX0_doneOr Γ Q r σ := by
  unfold og_fin at K
  rcases act_m hr with h0 | ⟨h0, m, h1, h4, hm⟩
  · rw [if_pos h0] at K
    exact ⟨fun _ => cDone (K _ (h.fld hZ 20 rfl 0 (by omega) rfl rfl 0 (by decide) (by decide)) ((FrC.rf σ).put 0 0 0 (by decide))), fun e => absurd h0 e⟩
  · rw [if_neg h0, hm, nI_clamp (by omega)] at K
    refine ⟨fun e => absurd e h0, fun _ => cRefuse m (by omega) hm ?_⟩
    have c1 := h.fld hZ 20 rfl 0 (by omega) rfl rfl r (by decide) (by decide)
    have ev : σ.I 1 m = A.r (300 + m) := h.1.at 26 rfl m (by omega) (Nat.zero_add m) rfl
    have c2 := c1.fld hZ 26 rfl m (by omega) (Nat.zero_add m) rfl (A.r (300 + m) + 1) (by decide) (by omega)
    rw [ev]
    exact K _ c2 (((FrC.rf σ).put 0 0 r (by decide)).put 1 m _ (by decide))
theorem mFin {Q : Int32 → OgS → Prop} {σ : OgS} {r : Int32} (h : HM nl T A σ) (hr : ActV r) (K : ∀ σ', HM nl T (og_fin r A) σ' → FrP σ σ' → Q r σ') : wX5_tell Q r σ := by
  unfold og_fin at K
  rcases act_m hr with h0 | ⟨h0, m, h1, h4, hm⟩
  · rw [if_pos h0] at K
    exact mTell0 h0 (K _ (h.fld 1 (by decide) (by decide) 0) ((FrM.rf σ).p.put 0 1 0 (by decide)))
  · rw [if_neg h0, hm, nI_clamp (by omega)] at K
    refine mTellN m h1 (by omega) hm ?_
    have ev : σ.I 1 m = A.r (300 + m) := h.1.2.2 m (by omega)
    rw [ev]
    exact K _ ((h.fld 1 (by decide) (by decide) r).ref m _) (((FrM.rf σ).p.put 0 1 r (by decide)).put 1 m _ (by decide))
theorem oFin {r : Int32} (h : HO nl T A) (hr : ActV r) : HO nl T (og_fin r A) := by
  unfold og_fin
  rcases act_m hr with h0 | ⟨h0, m, h1, h4, hm⟩
  · rw [if_pos h0]
    exact h.free 201 0 (by decide) (by decide)
  · rw [if_neg h0, hm, nI_clamp (by omega)]
    have hb : og_bd (300 + m) = none := by
      have key : ∀ i : Fin 7, og_bd (300 + i.val) = none := by decide +kernel
      exact key ⟨m, by omega⟩
    exact (h.free 201 r (by decide) (by decide)).free (300 + m) _ (by omega) hb
theorem th_fr (σ : OgS) (v : Int32) : FrP σ (σ.sI 0 0 v) := (FrM.rf σ).p.put 0 0 v (by decide)
theorem pShow {x y : Int32} {σC : OgC} {σM : OgS} {Q : Int32 → Int32 → OgC → OgS → Prop} (hG : GK Γ) (hZ : ZO Z) (hC : HC Z Γ nl T A σC) (hM : HM nl T A σM) (hO : HO nl T A) (K : ∀ r A' σC' σM', HC Z Γ nl T A' σC' → HM nl T A' σM' → HO nl T A' → FrC σC σC' → FrP σM σM' → Q r r σC' σM') : wX0_show Γ (fun r σC' => wX5_show (fun r' σM' => Q r r' σC' σM') x y σM) x y σC := by
  unfold wX0_show wX5_show
  simp only [forall_eq]
  refine cShow hG hZ hC hO (fun σC1 hC1 fC1 => cFin hZ hC1 (vShow hO x y) (fun σC2 hC2 fC2 => ?_))
  exact mShow (hM.thrown 0) hO (fun σM1 hM1 fM1 => mFin hM1 (vShow hO x y) (fun σM2 hM2 fM2 => K _ _ _ _ hC2 hM2 (oFin (oShow hO x y) (vShow hO x y)) (fC1.tr fC2) (((th_fr σM 0).tr fM1.p).tr fM2)))
theorem pHide {x y : Int32} {σC : OgC} {σM : OgS} {Q : Int32 → Int32 → OgC → OgS → Prop} (hG : GK Γ) (hZ : ZO Z) (hC : HC Z Γ nl T A σC) (hM : HM nl T A σM) (hO : HO nl T A) (K : ∀ r A' σC' σM', HC Z Γ nl T A' σC' → HM nl T A' σM' → HO nl T A' → FrC σC σC' → FrP σM σM' → Q r r σC' σM') : wX0_hide Γ (fun r σC' => wX5_hide (fun r' σM' => Q r r' σC' σM') x y σM) x y σC := by
  unfold wX0_hide wX5_hide
  simp only [forall_eq]
  refine cHide hG hZ hC hO (fun σC1 hC1 fC1 => cFin hZ hC1 (vHide hO x y) (fun σC2 hC2 fC2 => ?_))
  exact mHide (hM.thrown 0) hO (fun σM1 hM1 fM1 => mFin hM1 (vHide hO x y) (fun σM2 hM2 fM2 => K _ _ _ _ hC2 hM2 (oFin (oHide hO x y) (vHide hO x y)) (fC1.tr fC2) (((th_fr σM 0).tr fM1.p).tr fM2)))
theorem pMan {x y : Int32} {σC : OgC} {σM : OgS} {Q : Int32 → Int32 → OgC → OgS → Prop} (hG : GK Γ) (hZ : ZO Z) (hC : HC Z Γ nl T A σC) (hM : HM nl T A σM) (hO : HO nl T A) (K : ∀ r A' σC' σM', HC Z Γ nl T A' σC' → HM nl T A' σM' → HO nl T A' → FrC σC σC' → FrP σM σM' → Q r r σC' σM') : wX0_man Γ (fun r σC' => wX5_man (fun r' σM' => Q r r' σC' σM') x y σM) x y σC := by
  unfold wX0_man wX5_man
  simp only [forall_eq]
  refine cMan hG hZ hC hO (fun σC1 hC1 fC1 => cFin hZ hC1 (vMan hO x y) (fun σC2 hC2 fC2 => ?_))
  exact mMan (hM.thrown 0) hO (fun σM1 hM1 fM1 => mFin hM1 (vMan hO x y) (fun σM2 hM2 fM2 => K _ _ _ _ hC2 hM2 (oFin (oMan hO x y) (vMan hO x y)) (fC1.tr fC2) (((th_fr σM 0).tr fM1.p).tr fM2)))
theorem pMarch {x y : Int32} {σC : OgC} {σM : OgS} {Q : Int32 → Int32 → OgC → OgS → Prop} (hG : GK Γ) (hZ : ZO Z) (hC : HC Z Γ nl T A σC) (hM : HM nl T A σM) (hO : HO nl T A) (K : ∀ r A' σC' σM', HC Z Γ nl T A' σC' → HM nl T A' σM' → HO nl T A' → FrC σC σC' → FrP σM σM' → Q r r σC' σM') : wX0_march Γ (fun r σC' => wX5_march (fun r' σM' => Q r r' σC' σM') x y σM) x y σC := by
  unfold wX0_march wX5_march
  simp only [forall_eq]
  refine cMarch hG hZ hC hO (fun σC1 hC1 fC1 => cFin hZ hC1 (vMarch x y) (fun σC2 hC2 fC2 => ?_))
  exact mMarch (hM.thrown 0) hO (fun σM1 hM1 fM1 => mFin hM1 (vMarch x y) (fun σM2 hM2 fM2 => K _ _ _ _ hC2 hM2 (oFin (oMarch hO x y) (vMarch x y)) (fC1.tr fC2) (((th_fr σM 0).tr fM1.p).tr fM2)))
/-! undo -/
theorem pUndo {σC : OgC} {σM : OgS} {Q : Int32 → Int32 → OgC → OgS → Prop} (hG : GK Γ) (hZ : ZO Z) (hC : HC Z Γ nl T A σC) (hM : HM nl T A σM) (hO : HO nl T A) (K : ∀ r A' σC' σM', HC Z Γ nl T A' σC' → HM nl T A' σM' → HO nl T A' → FrC σC σC' → FrP σM σM' → Q r r σC' σM') : wX0_undo Γ (fun r σC' => wX5_undo (fun r' σM' => Q r r' σC' σM') σM) σC := by
  obtain ⟨hn, hα⟩ := A_n hO
  have hM0 := hM.thrown 0
  have c14 : σC.I 0 14 = nI A.n := (hC.1.at 25 rfl 0 (by omega) rfl rfl (q := 208)).trans hα
  have m8 : (σM.sI 0 0 0).I 0 8 = nI A.n := (hM0.1.2.1 8 (by decide)).trans hα
  have z0 : nI A.n = 0 ↔ A.n = 0 := nI_eq (b := 0) (by omega) (by omega)
  unfold wX0_undo wX5_undo
  simp only [forall_eq]
  rw [c14, m8, z0]
  by_cases c : A.n = 0
  · refine ⟨fun e => absurd c e, fun _ => ?_⟩
    have key : wX0_doneOr Γ (fun r σC' => (¬ A.n = 0 → (wX5_putBack (fun s_4 => (vp_in (s_4.I 0 8) 16 ∧ (wX5_tell (fun r_5 s_6 => (Q r r_5 σC' s_6)) (s_4.I 6 ((s_4.I 0 8).toNatClampNeg)) s_4))) (((σM.sI 0 0 0).sI 0 8 (nI A.n - 1)).I 0 8) ((σM.sI 0 0 0).sI 0 8 (nI A.n - 1)))) ∧ (A.n = 0 → (wX5_tell (fun r_7 s_8 => (Q r r_7 σC' s_8)) (-3 : Int32) (σM.sI 0 0 0)))) (-3) σC := by
      refine cFin hZ hC (Or.inr (Or.inr (Or.inr rfl))) (fun σC' hC' fC' => ⟨fun e => absurd c e, fun _ => ?_⟩)
      exact mFin hM0 (Or.inr (Or.inr (Or.inr rfl))) (fun σM' hM' fM' => K _ _ _ _ hC' hM' (oFin hO (Or.inr (Or.inr (Or.inr rfl)))) fC' ((th_fr σM 0).tr fM'))
    exact key.2 (by decide)
  · refine ⟨fun _ => ?_, fun e => absurd e c⟩
    obtain ⟨k, hk⟩ : ∃ k, A.n = k + 1 := ⟨A.n - 1, by omega⟩
    have ek : nI A.n - 1 = nI k := by rw [hk, nI_p]
    rw [ek]
    obtain ⟨_, u, h1, h2, h3⟩ := hC.2.2.2
    obtain ⟨j, hj, eu⟩ := (h1 k (by omega)).2
    obtain ⟨tb, w21⟩ := h3 k (by omega)
    have k14 : (σC.sI 0 14 (nI k)).I 0 14 = nI k := by rw [C_II, if_pos rfl, if_pos rfl]
    rw [k14, nI_clamp (by omega)]
    refine ⟨vp_in_nI (by omega) (by decide), u k, (h1 k (by omega)).1, by rw [eu]; exact (hG j hj).1, ?_⟩
    have tb1 : TbR (u k) (A.u k) (σC.sI 0 14 (nI k)) := tb.of (fun a ha hb => by funext i; rw [C_II, if_neg (by omega)])
    refine cTakes tb1 (by omega) (fun σ1 hT1 eR eL eI => ?_)
    have c1 : σ1.I 0 14 = nI k := by rw [eI 0 (by omega)]; exact k14
    have w1 : σ1.I 21 k = A.w k := by
      rw [eI 21 (by omega), C_II, if_neg (by decide)]
      exact w21
    rw [c1, nI_clamp (by omega), w1]
    obtain ⟨⟨o1, oz⟩, o7, o8, ow⟩ := hO.2.1 k (by omega)
    -- the row that comes back
    have hα' : ∀ j, ¬ (6 ≤ j ∧ j < 31) → og_mix (A.u k) (upd A.r 208 (nI k)) j = (upd A.r 208 (nI k)) j := fun j hj => if_neg hj
    have hF1 : FlF (og_mix (A.u k) (upd A.r 208 (nI k))) σ1 := (hC.1.set 25 rfl 0 (by omega) rfl rfl (nI k)).tab hT1 (fun a _ ha => eI a (by omega)) (by rw [pk_un (by decide)]; exact o7) (by rw [pk_un (by decide)]; exact o8)
    have hK1 : FlK (og_mix (A.u k) (upd A.r 208 (nI k))) σ1 := FlK.tab hT1
    have fr1 : FrC σC σ1 := by
      refine ⟨fun a _ => by rw [eR]; rfl, fun a h16 _ _ => ?_⟩
      rw [eI a (by omega)]
      funext i
      rw [C_II, if_neg (by omega)]
    have n1 : (A.wr (og_mix (A.u k) (upd A.r 208 (nI k)))).n = k := by
      unfold OgA.n
      show (og_mix (A.u k) (upd A.r 208 (nI k)) 208).toNatClampNeg = k
      rw [hα' 208 (by omega), pk_us, nI_clamp (by omega)]
    have hC1 : HC Z Γ nl T (A.wr (og_mix (A.u k) (upd A.r 208 (nI k)))) σ1 := by
      refine ⟨hF1, hK1, hC.2.2.1.keep hZ fr1.agr, ?_⟩
      rw [n1]
      refine (hC.2.2.2.cut (show k ≤ A.n by omega)).of (by rw [eR]; rfl) ?_ (fun a ha => ?_)
      · rw [eI 21 (by omega)]
        funext i
        rw [C_II, if_neg (by decide)]
      · rw [eI a (by unfold UT at ha; omega)]
        funext i
        rw [C_II, if_neg (by unfold UT at ha; omega)]
    have hO1 : HO nl T (A.wr (og_mix (A.u k) (upd A.r 208 (nI k)))) := by
      have e00 : og_mix (A.u k) (upd A.r 208 (nI k)) 0 = A.r 0 := by
        rw [hα' 0 (by omega), pk_un (by omega)]
      refine ⟨⟨fun j lo hi hb => ?_, hO.1.2.1, ?_⟩, fun i hi => ?_, fun f hf hz => ?_⟩
      · show lo ≤ (og_mix (A.u k) (upd A.r 208 (nI k)) j).toInt ∧ (og_mix (A.u k) (upd A.r 208 (nI k)) j).toInt ≤ hi
        by_cases q : 6 ≤ j ∧ j < 31
        · unfold og_mix
          rw [if_pos q]
          exact o1 j lo hi q.1 q.2 hb
        · rw [hα' j q]
          refine Rng.set hO.1.1 208 (nI k) (lo := 0) (hi := 16) rfl ?_ ?_ j lo hi hb
          · rw [nI_toInt (by omega)]
            omega
          · rw [nI_toInt (by omega)]
            omega
      · show (og_mix (A.u k) (upd A.r 208 (nI k)) 5).toInt < _
        rw [hα' 5 (by omega), pk_un (by omega)]
        exact hO.1.2.2
      · rw [n1] at hi
        obtain ⟨⟨p1, pz⟩, p7, p8, pw⟩ := hO.2.1 i (by omega)
        refine ⟨⟨p1, fun f hf hz => pz f hf ?_⟩, ?_, ?_, pw⟩
        · rw [← e00]
          exact hz
        · show A.u i 7 = og_mix (A.u k) (upd A.r 208 (nI k)) 7
          unfold og_mix
          rw [if_pos (by omega), o7]
          exact p7
        · show A.u i 8 = og_mix (A.u k) (upd A.r 208 (nI k)) 8
          unfold og_mix
          rw [if_pos (by omega), o8]
          exact p8
      · have hz' : (A.r 0).toInt ≤ (f : Int) := by
          rw [← e00]
          exact hz
        show og_mix (A.u k) (upd A.r 208 (nI k)) (25 + f) = 0
        unfold og_mix
        rw [if_pos (by omega)]
        exact oz f hf hz'
    have hw : ActV (A.w k) := i_nn ow.1
    have w0 : 0 ≤ A.w k := by
      rw [fa_le]
      exact ow.1
    have key : wX0_doneOr Γ (fun r σC' => (¬ A.n = 0 → (wX5_putBack (fun s_4 => (vp_in (s_4.I 0 8) 16 ∧ (wX5_tell (fun r_5 s_6 => (Q r r_5 σC' s_6)) (s_4.I 6 ((s_4.I 0 8).toNatClampNeg)) s_4))) (((σM.sI 0 0 0).sI 0 8 (nI k)).I 0 8) ((σM.sI 0 0 0).sI 0 8 (nI k)))) ∧ (A.n = 0 → (wX5_tell (fun r_7 s_8 => (Q r r_7 σC' s_8)) (-3 : Int32) (σM.sI 0 0 0)))) (A.w k) σ1 := by
      refine cFin hZ hC1 hw (fun σC' hC' fC' => ⟨fun _ => ?_, fun e => absurd e c⟩)
      have k8 : ((σM.sI 0 0 0).sI 0 8 (nI k)).I 0 8 = nI k := by rw [S_II, if_pos rfl, if_pos rfl]
      rw [k8]
      refine mPutBack (by omega) (fun s4 hO4 hx4 => ?_)
      have s8 : s4.I 0 8 = nI k := by rw [hO4.2.2 0 (by decide)]; exact k8
      have i5 : ∀ i, ((σM.sI 0 0 0).sI 0 8 (nI k)).I 5 i = σM.I 5 i := fun i => by rw [S_II, if_neg (by decide), S_II, if_neg (by decide)]
      have i6 : s4.I 6 = σM.I 6 := by
        rw [hO4.2.2 6 (by decide)]
        funext i
        rw [S_II, if_neg (by decide), S_II, if_neg (by decide)]
      have u6 := (hM.2.2 k (by omega))
      rw [s8, nI_clamp (by omega), i6, u6.2]
      refine ⟨vp_in_nI (by omega) (by decide), ?_⟩
      have hFM := hM0.1.fld 8 (by omega) (nI k)
      have hM4 : HM nl T (A.wr (og_mix (A.u k) (upd A.r 208 (nI k)))) s4 := by
        refine ⟨⟨fun j hj h4 => ?_, fun q hq => ?_, fun q hq => ?_⟩, hM.2.1.keep (fun j hj => ?_), ?_⟩
        · show s4.I 2 j = og_mix (A.u k) (upd A.r 208 (nI k)) j
          rw [hx4]
          unfold og_mix
          by_cases q : 6 ≤ j ∧ j < 31
          · rw [if_pos q, if_pos q, i5, u6.1 (j - 6) (by omega), show 6 + (j - 6) = j by omega]
          · rw [if_neg q, if_neg q]
            exact hFM.1 j hj h4
        · show s4.I 0 q = og_mix (A.u k) (upd A.r 208 (nI k)) (200 + q)
          rw [hα' _ (by omega), hO4.2.2 0 (by decide)]
          exact hFM.2.1 q hq
        · show s4.I 1 q = og_mix (A.u k) (upd A.r 208 (nI k)) (300 + q)
          rw [hα' _ (by omega), hO4.2.2 1 (by decide)]
          exact hFM.2.2 q hq
        · rw [hx4, if_neg (by omega), S_II, if_neg (by decide), S_II, if_neg (by decide)]
        · rw [n1]
          intro i hi
          obtain ⟨a, b⟩ := hM.2.2 i (by omega)
          refine ⟨fun y hy => ?_, by rw [i6]; exact b⟩
          rw [hO4.2.2 5 (by decide), i5]
          exact a y hy
      have frM : FrP σM s4 := by
        refine ⟨?_, fun a h3 h5 h6 => ?_, fun j hj => ?_, fun a h0 h18 h20 => ?_⟩
        · rw [hO4.2.1]
          rfl
        · rw [hO4.2.2 a (by omega)]
          funext i
          rw [S_II, if_neg (by omega), S_II, if_neg (by omega)]
        · rw [hx4, if_neg (by omega), S_II, if_neg (by decide), S_II, if_neg (by decide)]
        · rw [hO4.1]
          rfl
      exact mFin hM4 hw (fun σM' hM' fM' => K _ _ _ _ hC' hM' (oFin hO1 hw) (fr1.tr fC') (frM.tr fM'))
    exact ⟨vp_in_nI (by omega) (by decide), key.1 w0⟩
end Acts2
