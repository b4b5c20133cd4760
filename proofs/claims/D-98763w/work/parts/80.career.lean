/-! ===== careers ===== -/
def og_m10 (r : Nat) : Nat := if r < 9 then r + 1 else 10
theorem m10_le (r : Nat) : og_m10 r ≤ 10 := by
  unfold og_m10
  split <;> omega
theorem mWithin1 {Q : Int32 → OgS → Prop} {σ : OgS} {r : Nat} (hr : r ≤ 10) (K : Q (nI (og_m10 r)) σ) : wX5_within Q ((nI r).toInt64 + 1) 0 10 σ := by
  have key : ∀ r : Fin 11, ((0 : Int32).toInt64 ≤ (nI r.val).toInt64 + 1) ∧ (((nI r.val).toInt64 + 1 ≤ (10 : Int32).toInt64 ∧ ((nI r.val).toInt64 + 1).toInt32 = nI (og_m10 r.val)) ∨ (¬ (nI r.val).toInt64 + 1 ≤ (10 : Int32).toInt64 ∧ 10 = nI (og_m10 r.val))) := by decide +kernel
  obtain ⟨h1, h2⟩ := key ⟨r, by omega⟩
  refine ⟨fun _ => ?_, fun e => absurd h1 e⟩
  rcases h2 with ⟨a, b⟩ | ⟨a, b⟩
  · refine ⟨fun _ => ?_, fun e => absurd a e⟩
    rw [b]
    exact K
  · refine ⟨fun e => absurd e a, fun _ => ?_⟩
    rw [b]
    exact K
theorem m10_c {r : Nat} (hr : r ≤ 10) : (if nI r + 1 < (10 : Int32) then nI r + 1 else 10) = nI (og_m10 r) := by
  have key : ∀ r : Fin 11, (if nI r.val + 1 < (10 : Int32) then nI r.val + 1 else 10) = nI (og_m10 r.val) := by decide +kernel
  exact key ⟨r, by omega⟩
/-- behind siege k, out of the row behind it -/
def og_care (α : Nat → Int32) (row : Nat → Int32) (k v : Nat) : Int32 := row (og_m10 v) - α (123 + 3 * k)
def og_bold (α : Nat → Int32) (row : Nat → Int32) (k v : Nat) : Int32 := if nI v < α (123 + 3 * k + 1) then row 0 + -(α (123 + 3 * k + 2)) else row 0 + α (123 + 3 * k + 2)
def og_mxI (a b : Int32) : Int32 := if a < b then b else a
def og_tb (α : Nat → Int32) (n : Nat) : Nat → Nat → Int32 := fun d => d.rec (fun _ => 0) (fun d row v => og_mxI (og_care α row (n - 1 - d) v) (og_bold α row (n - 1 - d) v))
theorem tb_s (α : Nat → Int32) (n d v : Nat) : og_tb α n (d + 1) v = og_mxI (og_care α (og_tb α n d) (n - 1 - d) v) (og_bold α (og_tb α n d) (n - 1 - d) v) := rfl
theorem cCare {Γ : OgG} {Q : Int32 → OgC → Prop} {α : Nat → Int32} {σ : OgC} (hF : FlF α σ) {row : Nat → Int32} {k v : Nat} (hk : k < 8) (hv : v ≤ 10) (hr : ∀ j, j < 11 → σ.I 32 (11 * (k + 1) + j) = row j) (K : Q (og_care α row k v) σ) : wX0_careful Γ Q (nI k) (nI v) σ := by
  have l := m10_le v
  have e1 : (11 : Int32) * nI (k + 1) + nI (og_m10 v) = nI (11 * (k + 1) + og_m10 v) := by rw [show (11 : Int32) * nI (k + 1) = nI (11 * (k + 1)) from nI_m 11 _, nI_add]
  have e2 : (3 : Int32) * nI k = nI (3 * k) := nI_m 3 k
  unfold wX0_careful
  simp only [forall_eq]
  rw [m10_c hv, nI_s, e1, e2, nI_clamp (by omega), nI_clamp (by omega)]
  refine ⟨vp_in_nI (by omega) (by decide), vp_in_nI (by omega) (by decide), ?_⟩
  rw [hr _ (by omega), hF.at 19 rfl (3 * k) (by omega) (Nat.zero_add _) rfl (q := 123 + 3 * k)]
  exact K
theorem cBold {Γ : OgG} {Q : Int32 → OgC → Prop} {α : Nat → Int32} {σ : OgC} (hF : FlF α σ) {row : Nat → Int32} {k v : Nat} (hk : k < 8) (hr : ∀ j, j < 11 → σ.I 32 (11 * (k + 1) + j) = row j) (K : Q (og_bold α row k v) σ) : wX0_bold Γ Q (nI k) (nI v) σ := by
  have e1 : (11 : Int32) * nI (k + 1) = nI (11 * (k + 1)) := nI_m 11 _
  have e2 : (3 : Int32) * nI k = nI (3 * k) := nI_m 3 k
  have e3 : nI (3 * k) + 1 = nI (3 * k + 1) := nI_add _ 1
  have e4 : nI (3 * k) + 2 = nI (3 * k + 2) := nI_add _ 2
  have h0 := hr 0 (by omega)
  rw [Nat.add_zero] at h0
  unfold wX0_bold wX0_bold_58
  rw [nI_s, e1, e2, e3, e4, nI_clamp (by omega), nI_clamp (by omega), nI_clamp (by omega), h0, hF.at 19 rfl (3 * k + 1) (by omega) (Nat.zero_add _) rfl (q := 123 + 3 * k + 1), hF.at 19 rfl (3 * k + 2) (by omega) (Nat.zero_add _) rfl (q := 123 + 3 * k + 2)]
  unfold og_bold at K
  refine ⟨vp_in_nI (by omega) (by decide), vp_in_nI (by omega) (by decide), fun c => ⟨vp_in_nI (by omega) (by decide), ?_⟩, fun c => ⟨vp_in_nI (by omega) (by decide), ?_⟩⟩
  · rw [if_pos c] at K
    exact K
  · rw [if_neg c] at K
    exact K
theorem mCare {Q : Int32 → OgS → Prop} {α : Nat → Int32} {σ : OgS} (hF : FlM α σ) {row : Nat → Int32} {k v : Nat} (hk : k < 8) (hv : v ≤ 10) (hr : ∀ j, j < 11 → σ.I 22 (11 * (k + 1) + j) = row j) (K : Q (og_care α row k v) σ) : wX5_careful Q (nI k) (nI v) σ := by
  have l := m10_le v
  have e1 : (11 : Int32) * nI k + 11 + nI (og_m10 v) = nI (11 * (k + 1) + og_m10 v) := by rw [show (11 : Int32) * nI k = nI (11 * k) from nI_m 11 _, show nI (11 * k) + 11 = nI (11 * k + 11) from nI_add _ 11, nI_add]; rfl
  have e2 : (123 : Int32) + (3 : Int32) * nI k = nI (123 + 3 * k) := by rw [show (3 : Int32) * nI k = nI (3 * k) from nI_m 3 k]; exact nI_add 123 _
  unfold wX5_careful
  refine mWithin1 hv ?_
  rw [e1, e2, nI_clamp (by omega), nI_clamp (by omega)]
  refine ⟨vp_in_nI (by omega) (by decide), vp_in_nI (by omega) (by decide), ?_⟩
  rw [hr _ (by omega), hF.1 _ (by omega) (by omega)]
  exact K
theorem mBold {Q : Int32 → OgS → Prop} {α : Nat → Int32} {σ : OgS} (hF : FlM α σ) {row : Nat → Int32} {k v : Nat} (hk : k < 8) (hr : ∀ j, j < 11 → σ.I 22 (11 * (k + 1) + j) = row j) (K : Q (og_bold α row k v) σ) : wX5_bold Q (nI k) (nI v) σ := by
  have e1 : (11 : Int32) * nI k + 11 = nI (11 * (k + 1)) := by rw [show (11 : Int32) * nI k = nI (11 * k) from nI_m 11 _]; exact nI_add _ 11
  have e2 : (123 : Int32) + (3 : Int32) * nI k = nI (123 + 3 * k) := by rw [show (3 : Int32) * nI k = nI (3 * k) from nI_m 3 k]; exact nI_add 123 _
  have e3 : nI (123 + 3 * k) + 1 = nI (123 + 3 * k + 1) := nI_add _ 1
  have e4 : nI (123 + 3 * k) + 2 = nI (123 + 3 * k + 2) := nI_add _ 2
  have h0 := hr 0 (by omega)
  rw [Nat.add_zero] at h0
  unfold wX5_bold wX5_bold_49
  simp only [forall_eq]
  rw [e1, e2, e3, e4, nI_clamp (by omega), nI_clamp (by omega), nI_clamp (by omega), h0, hF.1 (123 + 3 * k + 1) (by omega) (by omega), hF.1 (123 + 3 * k + 2) (by omega) (by omega)]
  unfold og_bold at K
  refine ⟨vp_in_nI (by omega) (by decide), vp_in_nI (by omega) (by decide), vp_in_nI (by omega) (by decide), fun c => ?_, fun c => ?_⟩
  · rw [if_pos c] at K
    exact K
  · rw [if_neg c] at K
    exact K
/-- the names on the way -/
def og_rs (α : Nat → Int32) (n name : Nat) : Nat → Nat := fun k => k.rec name (fun k r => if og_care α (og_tb α n (n - 1 - k)) k r < og_bold α (og_tb α n (n - 1 - k)) k r then 0 else og_m10 r)
theorem rs_s (α : Nat → Int32) (n name k : Nat) : og_rs α n name (k + 1) = if og_care α (og_tb α n (n - 1 - k)) k (og_rs α n name k) < og_bold α (og_tb α n (n - 1 - k)) k (og_rs α n name k) then 0 else og_m10 (og_rs α n name k) := rfl
theorem rs_le {α : Nat → Int32} {n name : Nat} (h : name ≤ 10) : ∀ k, og_rs α n name k ≤ 10
  | 0 => h
  | k + 1 => by
    have := m10_le (og_rs α n name k)
    rw [rs_s]
    split <;> omega
def og_ct (α : Nat → Int32) (n name k : Nat) : Int32 := if og_care α (og_tb α n (n - 1 - k)) k (og_rs α n name k) < og_bold α (og_tb α n (n - 1 - k)) k (og_rs α n name k) then 1 else 0
def og_car (α : Nat → Int32) (n name w : Nat) : Int32 := if w = 0 then og_tb α n n name else og_ct α n name (w - 1)
theorem nI_p (k : Nat) : nI (k + 1) - 1 = nI k := by
  rw [← nI_s]
  simp
theorem nI_p1 (k : Nat) : nI k + (-1 : Int32) = nI k - 1 := by
  rw [Int32.sub_eq_add_neg]
theorem neg1 : ((nI 0 - 1 : Int32)) < 0 := by decide
theorem nneg {k : Nat} (h : k < 2 ^ 31) : ¬ nI k < 0 := by
  rw [fa_lt, nI_toInt h]
  show ¬ _ < (0 : Int)
  omega
theorem cCareerW {Γ : OgG} {Q : Int32 → OgC → Prop} {α : Nat → Int32} {σ : OgC} (hF : FlF α σ) {n name w : Nat} (hn : n ≤ 8) (hm : name ≤ 10) (hw : w ≤ n) (hw0 : 0 < w) (hT : ∀ k v, k ≤ n → v < 11 → σ.I 32 (11 * k + v) = og_tb α n (n - k) v) (K : Q (og_ct α n name (w - 1)) σ) : wX0_career_142 Γ Q (nI w) (nI name) (nI 0) σ := by
  refine for3 (w - 1) (fun k => nI (og_rs α n name k)) nI (fun _ => σ) (fun _ => True) (fun K' k hk _ hK => ?_) trivial
  have hr := rs_le (α := α) (n := n) hm k
  have row : ∀ j, j < 11 → σ.I 32 (11 * (k + 1) + j) = og_tb α n (n - 1 - k) j := by
    intro j hj
    rw [hT (k + 1) j (by omega) hj, show n - (k + 1) = n - 1 - k by omega]
  have e1 : nI w - 1 = nI (w - 1) := by
    rw [← nI_p (w - 1)]
    congr 2
    omega
  refine cCare hF (by omega) hr row (cBold hF (by omega) row ?_)
  unfold wX0_career_164 wX0_career_202
  rw [e1, nI_eq (by omega) (by omega)]
  unfold og_ct at K
  by_cases g : k = w - 1
  · subst g
    refine ⟨fun c => ?_, fun c => ?_⟩
    · rw [if_pos c] at K
      exact ⟨fun e => absurd rfl e, fun _ => ⟨fun _ => K, fun e => absurd rfl e⟩⟩
    · rw [if_neg c] at K
      exact ⟨fun e => absurd rfl e, fun _ => ⟨fun e => absurd e (by decide), fun _ => K⟩⟩
  · have hK := hK (by omega) trivial
    rw [rs_s] at hK
    refine ⟨fun c => ⟨fun _ => ⟨fun _ x4 e4 => ?_, fun e => absurd rfl e⟩, fun e => absurd e g⟩, fun c => ⟨fun _ => ⟨fun e => absurd e (by decide), fun _ v3 e3 x4 e4 => ?_⟩, fun e => absurd e g⟩⟩
    · subst e4
      rw [nI_s]
      rw [if_pos c] at hK
      exact hK
    · subst e4
      rw [nI_s, e3, m10_c hr]
      rw [if_neg c] at hK
      exact hK
theorem cCareer {Γ : OgG} {Q : Int32 → OgC → Prop} {α : Nat → Int32} {σ0 : OgC} (hF0 : FlF α σ0) {n name w : Nat} (hn : n ≤ 8) (hα : α 1 = nI n) (hm : name ≤ 10) (hw : w ≤ n) (K : ∀ σ, OneC 32 σ0 σ → Q (og_car α n name w) σ) : wX0_career_31 Γ Q (nI name) (nI w) (nI 0) σ0 := by
  refine forE2 11 (fun v x3 σ => x3 = nI v ∧ OneC 32 σ0 σ ∧ ∀ j, j < v → σ.I 32 (11 * n + j) = 0) (fun K' v x3 σ hv hr hK => ?_) ⟨rfl, OneC.rf 32 σ0, fun j hj => absurd hj (by omega)⟩
  obtain ⟨rfl, hO, hz⟩ := hr
  have hF := hO.fl (by decide) hF0
  have hC : σ.I 2 14 = nI n := (hF.at 1 rfl 0 (by omega) rfl rfl).trans hα
  unfold wX0_career_B31
  rw [show (10 : Int32) = nI 10 from rfl, nI_lti (by omega) (by omega), hC]
  by_cases g : 10 < v
  · obtain rfl : v = 11 := by omega
    refine ⟨fun _ v2 e2 => ?_, fun e => absurd g e⟩
    subst e2
    refine forE2 n (fun j x3 σ => x3 = nI (n - j) - 1 ∧ OneC 32 σ0 σ ∧ ∀ k v, n - j ≤ k → k ≤ n → v < 11 → σ.I 32 (11 * k + v) = og_tb α n (n - k) v) (fun K2 j x3 σ hj hr hK2 => ?_) ⟨rfl, hO, fun k v h1 h2 h3 => ?_⟩
    · obtain ⟨rfl, hO, hT⟩ := hr
      have hF := hO.fl (by decide) hF0
      unfold wX0_career_B71
      by_cases e : n = j
      · subst e
        rw [Nat.sub_self] at hT ⊢
        refine ⟨fun _ => ?_, fun e => absurd neg1 e⟩
        have KK := K σ hO
        unfold og_car at KK
        rw [show (0 : Int32) = nI 0 from rfl, nI_eq (by omega) (by omega)]
        refine ⟨fun e => ?_, fun e => ?_⟩
        · rw [if_neg e] at KK
          exact cCareerW hF hn hm hw (by omega) (fun k v h1 h2 => hT k v (by omega) h1 h2) KK
        · rw [if_pos e] at KK
          refine ⟨vp_in_nI (by omega) (by decide), ?_⟩
          have := hT 0 name (by omega) (by omega) (by omega)
          rw [Nat.mul_zero, Nat.zero_add, Nat.sub_zero] at this
          rw [nI_clamp (by omega), this]
          exact KK
      · have e1 : nI (n - j) - 1 = nI (n - j - 1) := by
          rw [← nI_p (n - j - 1)]
          congr 2
          omega
        rw [e1]
        refine ⟨fun e => absurd e (nneg (by omega)), fun _ => ?_⟩
        refine forE2 11 (fun v x4 σ => x4 = nI v ∧ OneC 32 σ0 σ ∧ (∀ k v, n - j ≤ k → k ≤ n → v < 11 → σ.I 32 (11 * k + v) = og_tb α n (n - k) v) ∧ ∀ i, i < v → σ.I 32 (11 * (n - j - 1) + i) = og_tb α n (j + 1) i) (fun K3 v x4 σ hv hr hK3 => ?_) ⟨rfl, hO, hT, fun i hi => absurd hi (by omega)⟩
        obtain ⟨rfl, hO, hT, hi⟩ := hr
        have hF := hO.fl (by decide) hF0
        unfold wX0_career_B78
        rw [show (10 : Int32) = nI 10 from rfl, nI_lti (by omega) (by omega)]
        by_cases gv : 10 < v
        · obtain rfl : v = 11 := by omega
          refine ⟨fun _ x3 e3 => ?_, fun e => absurd gv e⟩
          subst e3
          refine hK2 _ _ (by omega) ⟨?_, hO, fun k v h1 h2 h3 => ?_⟩
          · rw [nI_p1, show n - (j + 1) = n - j - 1 by omega]
          · by_cases ek : k = n - j - 1
            · subst ek
              rw [hi v h3, show n - (n - j - 1) = j + 1 by omega]
            · exact hT k v (by omega) h2 h3
        · refine ⟨fun e => absurd e gv, fun _ => ?_⟩
          have row : ∀ i, i < 11 → σ.I 32 (11 * (n - j - 1 + 1) + i) = og_tb α n j i := by
            intro i h3
            rw [hT (n - j - 1 + 1) i (by omega) (by omega) h3, show n - (n - j - 1 + 1) = j by omega]
          refine cCare hF (by omega) (by omega) row (cBold hF (by omega) row (fun v7 e7 => ?_))
          have e11 : (11 : Int32) * nI (n - j - 1) + nI v = nI (11 * (n - j - 1) + v) := by rw [show (11 : Int32) * nI (n - j - 1) = nI (11 * (n - j - 1)) from nI_m 11 _, nI_add]
          rw [e11, nI_clamp (by omega)]
          refine ⟨vp_in_nI (by omega) (by decide), fun s8 e8 x4 e4 => ?_⟩
          subst e8 e4
          rw [nI_s]
          have e7' : v7 = og_tb α n (j + 1) v := by
            rw [e7, tb_s, show n - 1 - j = n - j - 1 by omega]
            rfl
          refine hK3 _ _ (by omega) ⟨rfl, hO.put _ _, fun k v' h1 h2 h3 => ?_, fun i h1 => ?_⟩
          · rw [C_II, if_pos rfl, if_neg (by omega)]
            exact hT k v' h1 h2 h3
          · rw [C_II, if_pos rfl]
            by_cases ei : i = v
            · rw [if_pos (by omega), ei, e7']
            · rw [if_neg (by omega)]
              exact hi i (by omega)
    · obtain rfl : k = n := by omega
      rw [Nat.sub_self]
      exact hz v h3
  · refine ⟨fun e => absurd e g, fun _ => ?_⟩
    have e11 : (11 : Int32) * nI n + nI v = nI (11 * n + v) := by rw [show (11 : Int32) * nI n = nI (11 * n) from nI_m 11 _, nI_add]
    rw [e11, nI_clamp (by omega)]
    refine ⟨vp_in_nI (by omega) (by decide), fun s3 e3 x3 ex => ?_⟩
    subst e3 ex
    rw [nI_s]
    refine hK _ _ (by omega) ⟨rfl, hO.put _ _, fun j hj => ?_⟩
    rw [C_II, if_pos rfl]
    by_cases e : j = v
    · rw [if_pos (by omega)]
    · rw [if_neg (by omega)]
      exact hz j (by omega)
theorem mxI_c {a b : Int32} : a = og_mxI a b ↔ ¬ a < b := by
  unfold og_mxI
  by_cases c : a < b
  · rw [if_pos c]
    constructor
    · intro e
      rw [← e, fa_lt] at c
      omega
    · intro e
      exact absurd c e
  · rw [if_neg c]
    exact ⟨fun _ => c, fun _ => rfl⟩
theorem mCareerW {Q : Int32 → OgS → Prop} {α : Nat → Int32} {σ : OgS} (hF : FlM α σ) {n name w : Nat} (hn : n ≤ 8) (hm : name ≤ 10) (hw : w ≤ n) (hT : ∀ k v, k ≤ n → v < 11 → σ.I 22 (11 * k + v) = og_tb α n (n - k) v) (K : Q (og_car α n name w) σ) : wX5_career_160 Q (nI name) (nI w) (nI name) 0 (nI 0) σ := by
  refine for4 w (fun k => nI (og_rs α n name k)) (fun k => if k = 0 then 0 else og_ct α n name (k - 1)) nI (fun _ => σ) (fun _ => True) (fun K' k hk _ hK => ?_) trivial
  have hr := rs_le (α := α) (n := n) hm k
  unfold wX5_career_B160
  rw [nI_lei (by omega) (by omega), show nI w = 0 ↔ w = 0 from nI_eq (b := 0) (by omega) (by omega)]
  by_cases g : w ≤ k
  · obtain rfl : k = w := by omega
    unfold og_car at K
    refine ⟨fun _ => ⟨fun e => ?_, fun e => ?_⟩, fun e => absurd g e⟩
    · rw [if_neg e] at K
      rw [if_neg e]
      exact K
    · rw [if_pos e] at K
      refine ⟨vp_in_nI (by omega) (by decide), ?_⟩
      have := hT 0 name (by omega) (by omega)
      rw [Nat.mul_zero, Nat.zero_add, Nat.sub_zero] at this
      rw [nI_clamp (by omega), this]
      exact K
  · refine ⟨fun e => absurd e g, fun _ => ?_⟩
    have row : ∀ j, j < 11 → σ.I 22 (11 * (k + 1) + j) = og_tb α n (n - 1 - k) j := by
      intro j hj
      rw [hT (k + 1) j (by omega) hj, show n - (k + 1) = n - 1 - k by omega]
    have e11 : (11 : Int32) * nI k + nI (og_rs α n name k) = nI (11 * k + og_rs α n name k) := by rw [show (11 : Int32) * nI k = nI (11 * k) from nI_m 11 _, nI_add]
    have hK := hK (by omega) trivial
    rw [show (if k + 1 = 0 then (0 : Int32) else og_ct α n name (k + 1 - 1)) = og_ct α n name k from if_neg (by omega), rs_s] at hK
    unfold og_ct at hK
    refine mCare hF (by omega) hr row ?_
    rw [e11, nI_clamp (by omega), hT k _ (by omega) (by omega), show n - k = n - 1 - k + 1 by omega, tb_s, show n - 1 - (n - 1 - k) = k by omega, mxI_c]
    unfold wX5_career_195 wX5_career_217
    refine ⟨vp_in_nI (by omega) (by decide), fun c => ?_, fun c => ?_⟩
    · have c' := Classical.not_not.mp c
      refine ⟨fun _ x6 e6 => ?_, fun e => absurd e (by decide)⟩
      subst e6
      rw [nI_s]
      rw [if_pos c', if_pos c'] at hK
      exact hK
    · refine ⟨fun e => absurd rfl e, fun _ => mWithin1 hr (fun x6 e6 => ?_)⟩
      subst e6
      rw [nI_s]
      rw [if_neg c, if_neg c] at hK
      exact hK
theorem mCareer {Q : Int32 → OgS → Prop} {α : Nat → Int32} {σ0 : OgS} (hF0 : FlM α σ0) {n name w : Nat} (hn : n ≤ 8) (hm : name ≤ 10) (hw : w ≤ n) (K : ∀ σ, OneM 22 σ0 σ → Q (og_car α n name w) σ) : wX5_career_42 Q (nI name) (nI w) (nI n) (nI 0) σ0 := by
  refine forE2 11 (fun v x3 σ => x3 = nI v ∧ OneM 22 σ0 σ ∧ ∀ j, j < v → σ.I 22 (11 * n + j) = 0) (fun K' v x3 σ hv hr hK => ?_) ⟨rfl, OneM.rf 22 σ0, fun j hj => absurd hj (by omega)⟩
  obtain ⟨rfl, hO, hz⟩ := hr
  have hF := hO.fl (by decide) hF0
  have e11 : (11 : Int32) * nI n + nI v = nI (11 * n + v) := by rw [show (11 : Int32) * nI n = nI (11 * n) from nI_m 11 _, nI_add]
  unfold wX5_career_B42
  rw [e11]
  rw [show (11 : Int32) = nI 11 from rfl, nI_lei (by omega) (by omega)]
  by_cases g : 11 ≤ v
  · obtain rfl : v = 11 := by omega
    refine ⟨fun _ v2 e2 => ?_, fun e => absurd g e⟩
    subst e2
    refine forE2 n (fun j x3 σ => x3 = nI (n - j) - 1 ∧ OneM 22 σ0 σ ∧ ∀ k v, n - j ≤ k → k ≤ n → v < 11 → σ.I 22 (11 * k + v) = og_tb α n (n - k) v) (fun K2 j x3 σ hj hr hK2 => ?_) ⟨rfl, hO, fun k v h1 h2 h3 => ?_⟩
    · obtain ⟨rfl, hO, hT⟩ := hr
      have hF := hO.fl (by decide) hF0
      unfold wX5_career_B73
      by_cases e : n = j
      · subst e
        rw [Nat.sub_self] at hT ⊢
        exact ⟨fun _ => mCareerW hF hn hm hw (fun k v h1 h2 => hT k v (by omega) h1 h2) (K σ hO), fun e => absurd neg1 e⟩
      · have e1 : nI (n - j) - 1 = nI (n - j - 1) := by
          rw [← nI_p (n - j - 1)]
          congr 2
          omega
        rw [e1]
        refine ⟨fun e => absurd e (nneg (by omega)), fun _ => ?_⟩
        refine forE2 11 (fun v x4 σ => x4 = nI v ∧ OneM 22 σ0 σ ∧ (∀ k v, n - j ≤ k → k ≤ n → v < 11 → σ.I 22 (11 * k + v) = og_tb α n (n - k) v) ∧ ∀ i, i < v → σ.I 22 (11 * (n - j - 1) + i) = og_tb α n (j + 1) i) (fun K3 v x4 σ hv hr hK3 => ?_) ⟨rfl, hO, hT, fun i hi => absurd hi (by omega)⟩
        obtain ⟨rfl, hO, hT, hi⟩ := hr
        have hF := hO.fl (by decide) hF0
        have e11 : (11 : Int32) * nI (n - j - 1) + nI v = nI (11 * (n - j - 1) + v) := by rw [show (11 : Int32) * nI (n - j - 1) = nI (11 * (n - j - 1)) from nI_m 11 _, nI_add]
        unfold wX5_career_B81 wX5_career_138
        rw [e11]
        rw [show (11 : Int32) = nI 11 from rfl, nI_lei (by omega) (by omega)]
        by_cases gv : 11 ≤ v
        · obtain rfl : v = 11 := by omega
          refine ⟨fun _ x3 e3 => ?_, fun e => absurd gv e⟩
          subst e3
          refine hK2 _ _ (by omega) ⟨?_, hO, fun k v h1 h2 h3 => ?_⟩
          · rw [nI_p1, show n - (j + 1) = n - j - 1 by omega]
          · by_cases ek : k = n - j - 1
            · subst ek
              rw [hi v h3, show n - (n - j - 1) = j + 1 by omega]
            · exact hT k v (by omega) h2 h3
        · refine ⟨fun e => absurd e gv, fun _ => ?_⟩
          have row : ∀ i, i < 11 → σ.I 22 (11 * (n - j - 1 + 1) + i) = og_tb α n j i := by
            intro i h3
            rw [hT (n - j - 1 + 1) i (by omega) (by omega) h3, show n - (n - j - 1 + 1) = j by omega]
          have fin : ∀ t, t = og_tb α n (j + 1) v → vp_in (nI (11 * (n - j - 1) + v)) 99 ∧ (∀ s_1 : OgS, s_1 = (σ.sI 22 ((nI (11 * (n - j - 1) + v)).toNatClampNeg) t) → (∀ x5_2 : Int32, x5_2 = nI v + (1 : Int32) → (K3 x5_2 s_1))) := by
            intro t et
            rw [nI_clamp (by omega)]
            refine ⟨vp_in_nI (by omega) (by decide), fun s8 e8 x4 e4 => ?_⟩
            subst e8 e4
            rw [nI_s]
            refine hK3 _ _ (by omega) ⟨rfl, hO.put _ _, fun k v' h1 h2 h3 => ?_, fun i h1 => ?_⟩
            · rw [S_II, if_pos rfl, if_neg (by omega)]
              exact hT k v' h1 h2 h3
            · rw [S_II, if_pos rfl]
              by_cases ei : i = v
              · rw [if_pos (by omega), ei, et]
              · rw [if_neg (by omega)]
                exact hi i (by omega)
          have et : og_tb α n (j + 1) v = og_mxI (og_care α (og_tb α n j) (n - j - 1) v) (og_bold α (og_tb α n j) (n - j - 1) v) := by
            rw [tb_s, show n - 1 - j = n - j - 1 by omega]
          unfold og_mxI at et
          refine mCare hF (by omega) (by omega) row (mBold hF (by omega) row ⟨fun c => mBold hF (by omega) row (fin _ ?_), fun c => mCare hF (by omega) (by omega) row (fin _ ?_)⟩)
          · rw [et, if_pos c]
          · rw [et, if_neg c]
    · obtain rfl : k = n := by omega
      rw [Nat.sub_self]
      exact hz v h3
  · refine ⟨fun e => absurd e g, fun _ => ?_⟩
    rw [nI_clamp (by omega)]
    refine ⟨vp_in_nI (by omega) (by decide), fun s3 e3 x3 ex => ?_⟩
    subst e3 ex
    rw [nI_s]
    refine hK _ _ (by omega) ⟨rfl, hO.put _ _, fun j hj => ?_⟩
    rw [S_II, if_pos rfl]
    by_cases e : j = v
    · rw [if_pos (by omega)]
    · rw [if_neg (by omega)]
      exact hz j (by omega)
theorem pCareer {Γ : OgG} {α : Nat → Int32} {σM : OgS} {σC : OgC} {x y : Int32} {Q : Int32 → Int32 → OgC → OgS → Prop} (h : Row α σM σC) (K : ∀ (r : Int32) (α' : Nat → Int32) (σC' : OgC) (σM' : OgS), StX [32] [22] α σM σC α' σM' σC' → Q r r σC' σM') : wX0_career Γ (fun r σC' => wX5_career (fun r' σM' => Q r r' σC' σM') x y σM) x y σC := by
  have hS := (St.rf h).thrown 0
  obtain ⟨n, hn, hα⟩ := h.2.2.2.nat 1 (hi := 8) rfl
  have hC : σC.I 2 14 = nI n := (h.2.1.at 1 rfl 0 (by omega) rfl rfl).trans hα
  have hM : (σM.sI 0 0 0).I 2 1 = nI n := ((h.1.1 1 (by omega) (by omega)).trans hα)
  unfold wX0_career wX5_career wX0_career_25 wX5_career_35
  simp only [cIn_eq, mIn_eq, forall_eq, Int32.reduceToInt, Int64.reduceToInt, Int32.toInt_toInt64, if10, if11, if10n]
  rw [hC, hM, nI_toInt (by omega)]
  by_cases g : 0 ≤ x.toInt ∧ x.toInt ≤ 10
  · by_cases g2 : 0 ≤ y.toInt ∧ y.toInt ≤ (n : Int)
    · obtain ⟨name, hm, rfl⟩ := x_nat (b := 10) (by decide) g
      obtain ⟨w, hw, rfl⟩ := x_nat (b := n) (by omega) g2
      refine ⟨fun e => absurd g e, fun _ => ⟨fun _ => cCareer h.2.1 hn hα hm hw (fun σC' hO => ⟨fun e => absurd g e, fun _ => ⟨fun _ => mCareer hS.1.1 hn hm hw (fun σM' hO' => K _ _ _ _ (StX.one hS hO hO' (by decide) (by decide))), fun e => absurd g2 e⟩⟩), fun e => absurd g2 e⟩⟩
    · exact ⟨fun e => absurd g e, fun _ => ⟨fun e => absurd e g2, fun _ => ⟨fun e => absurd g e, fun _ => ⟨fun e => absurd e g2, fun _ => K _ _ _ _ (hS.toX _ _)⟩⟩⟩⟩
  · exact ⟨fun _ => ⟨fun _ => K _ _ _ _ (hS.toX _ _), fun e => absurd e g⟩, fun e => absurd e g⟩
