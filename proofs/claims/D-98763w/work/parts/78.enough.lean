theorem nI_lti {a b : Nat} (ha : a < 2 ^ 31) (hb : b < 2 ^ 31) : nI a < nI b ↔ a < b := by
  rw [fa_lt, nI_toInt ha, nI_toInt hb]
  omega
def og_ok1 (α : Nat → Int32) (n : Nat) (s : Int32) (h : Nat) : Bool := decide (¬ nI (og_seen α n h s) < α (101 + h))
def og_okn (α : Nat → Int32) (n : Nat) (s : Int32) : Bool := og_all (og_ok1 α n s) 6
def og_eI (o : Option Nat) : Int32 := match o with
  | none => -1
  | some k => nI k
def og_en (α : Nat → Int32) (n : Nat) : Nat → Option Nat := fun k => k.rec none (fun k r => if og_okn α n (nI k) = true ∧ (∀ j, r = some j → og_pc k < og_pc j) then some k else r)
theorem en_s (α : Nat → Int32) (n k : Nat) : og_en α n (k + 1) = if og_okn α n (nI k) = true ∧ (∀ j, og_en α n k = some j → og_pc k < og_pc j) then some k else og_en α n k := by
  show (if _ then _ else _) = _
  congr
theorem en_lt (α : Nat → Int32) (n : Nat) : ∀ k j, og_en α n k = some j → j < k
  | 0, j, h => by cases h
  | k + 1, j, h => by
    rw [en_s] at h
    split at h
    · cases h
      omega
    · have := en_lt α n k j h
      omega
theorem pc_le (k : Nat) : og_pc k ≤ 10 := fa_cnt_le _ _
theorem nI_m1 {k : Nat} (h : k < 2 ^ 31) : ¬ nI k = -1 := by
  intro e
  have e2 : (nI k).toInt = -1 := by rw [e]; decide
  rw [nI_toInt h] at e2
  omega
theorem cEnI {Γ : OgG} {Q : Int32 → OgC → Prop} {K15 : Int32 → Int32 → OgC → Prop} {α : Nat → Int32} {σ : OgC} (hF : FlF α σ) {n : Nat} (hn : n ≤ 10) (hα : α 2 = nI n) {x1 x2 : Int32} {k : Nat} (K : K15 (if og_okn α n (nI k) then nI k else x2) (nI (k + 1)) σ) : wX0_enough_47 Γ Q K15 x1 x2 (nI k) σ := by
  refine for3 6 (fun h => if og_all (og_ok1 α n (nI k)) h then 1 else 0) nI (fun _ => σ) (fun _ => True) (fun K' h hh _ hK => ?_) trivial
  have out : og_all (og_ok1 α n (nI k)) h = og_okn α n (nI k) → wX0_enough_98 Γ Q K15 x1 x2 (nI k) (if og_all (og_ok1 α n (nI k)) h then 1 else 0) σ := by
    intro e
    rw [e]
    unfold wX0_enough_98 wX0_enough_105
    rw [if10]
    refine ⟨fun g x3 e3 => ?_, fun g x3 e3 => ?_⟩
    · subst e3
      rw [nI_s]
      rw [if_neg g] at K
      exact K
    · subst e3
      rw [nI_s]
      rw [if_pos (Classical.not_not.mp g)] at K
      exact K
  unfold wX0_enough_B53
  rw [show (6 : Int32) = nI 6 from rfl, nI_lei (by omega) (by omega), if10]
  by_cases g : 6 ≤ h
  · obtain rfl : h = 6 := by omega
    exact ⟨fun _ => out rfl, fun e => absurd g e⟩
  · refine ⟨fun e => absurd e g, fun _ => ⟨fun q => out ?_, fun q => cSeen hF hn hα (by omega) ⟨vp_in_nI (by omega) (by decide), ?_⟩⟩⟩
    · have q' : og_all (og_ok1 α n (nI k)) h = false := by simpa using q
      rw [q']
      exact (all_f q' 6 (by omega)).symm
    · have q' : og_all (og_ok1 α n (nI k)) h = true := by simpa using q
      have hK := hK (by omega) trivial
      rw [all_s, q'] at hK
      have f : σ.I 13 h = α (101 + h) := hF.at 17 rfl h (by omega) (Nat.zero_add h) rfl
      rw [nI_clamp (by omega), f]
      unfold wX0_enough_90
      refine ⟨fun c x5 e5 => ?_, fun c x5 e5 => ?_⟩
      · subst e5
        rw [nI_s]
        have : og_ok1 α n (nI k) h = false := by simp [og_ok1, c]
        rw [this] at hK
        exact hK
      · subst e5
        rw [nI_s]
        have : og_ok1 α n (nI k) h = true := by simp [og_ok1, c]
        rw [this] at hK
        exact hK
theorem en_next {α : Nat → Int32} {n k : Nat} (c : ∀ j, og_en α n k = some j → og_pc k < og_pc j) : og_eI (og_en α n (k + 1)) = if og_okn α n (nI k) then nI k else og_eI (og_en α n k) := by
  rw [en_s]
  by_cases g : og_okn α n (nI k) = true
  · rw [if_pos ⟨g, c⟩, if_pos g]
    rfl
  · rw [if_neg (fun z => g z.1), if_neg g]
theorem cEnough {Γ : OgG} {Q : Int32 → OgC → Prop} {α : Nat → Int32} {σ : OgC} (hF : FlF α σ) {n : Nat} (hn : n ≤ 10) (hα : α 2 = nI n) {x1 : Int32} (K : Q (match og_en α n (2 ^ n) with | none => -1 | some j => if x1 = 1 then nI j else nI (og_pc j)) σ) : wX0_enough_15 Γ Q x1 (-1) (nI 0) σ := by
  have hC : σ.I 2 12 = nI n := (hF.at 2 rfl 0 (by omega) rfl rfl).trans hα
  have hp := pow10 hn
  refine for3 (2 ^ n) (fun k => og_eI (og_en α n k)) nI (fun _ => σ) (fun _ => True) (fun K' k hk _ hK => ?_) trivial
  unfold wX0_enough_B15 wX0_enough_121 wX0_enough_105
  rw [hC, shl1 n hn, nI_lei (by omega) (by omega)]
  by_cases g : 2 ^ n ≤ k
  · obtain rfl : k = 2 ^ n := by omega
    refine ⟨fun _ => ?_, fun e => absurd g e⟩
    cases he : og_en α n (2 ^ n) with
    | none =>
      rw [he] at K
      exact ⟨fun _ => K, fun e => absurd rfl e⟩
    | some j =>
      rw [he] at K
      have := en_lt α n _ j he
      refine ⟨fun e => absurd e (nI_m1 (by omega)), fun _ => ⟨fun e => ?_, fun e => ?_⟩⟩
      · dsimp only at K
        rw [if_neg e] at K
        exact cOnes (by omega) K
      · dsimp only at K
        rw [if_pos e] at K
        exact K
  · refine ⟨fun e => absurd e g, fun _ => ?_⟩
    have hK := hK (by omega) trivial
    cases he : og_en α n k with
    | none =>
      refine ⟨fun _ => cEnI hF hn hα ?_, fun e => absurd rfl e⟩
      rw [en_next (by rw [he]; intro j z; cases z), he] at hK
      exact hK
    | some j =>
      have hj := en_lt α n _ j he
      have l1 := pc_le k
      have l2 := pc_le j
      refine ⟨fun e => absurd e (nI_m1 (by omega)), fun _ => cOnes (by omega) (cOnes (by omega) ?_)⟩
      rw [nI_lti (by omega) (by omega)]
      refine ⟨fun c => cEnI hF hn hα ?_, fun c x3 e3 => ?_⟩
      · rw [en_next (by rw [he]; intro i z; cases z; exact c), he] at hK
        exact hK
      · subst e3
        rw [nI_s]
        rw [en_s, if_neg (fun z => c (z.2 j he)), he] at hK
        exact hK
theorem mEnI {Q : Int32 → OgS → Prop} {K26 : Int32 → Int32 → Int32 → OgS → Prop} {α : Nat → Int32} {σ : OgS} (hF : FlM α σ) {n : Nat} (hn : n ≤ 10) (hα : α 2 = nI n) {x1 x2 x3 : Int32} {k : Nat} {c : Bool} (K : K26 (if c && og_okn α n (nI k) then nI (og_pc k) else x2) (if c && og_okn α n (nI k) then nI k else x3) (nI (k + 1)) σ) : wX5_enough_53 Q K26 x1 x2 x3 (nI k) (if c then 1 else 0) σ := by
  have z0 : (if c then (1 : Int32) else 0) = if c && og_all (og_ok1 α n (nI k)) 0 then 1 else 0 := by
    rw [show og_all (og_ok1 α n (nI k)) 0 = true from rfl, Bool.and_true]
  rw [z0]
  refine for3 6 (fun h => if c && og_all (og_ok1 α n (nI k)) h then 1 else 0) nI (fun _ => σ) (fun _ => True) (fun K' h hh _ hK => ?_) trivial
  have out : (c && og_all (og_ok1 α n (nI k)) h) = (c && og_okn α n (nI k)) → wX5_enough_104 Q K26 x1 x2 x3 (nI k) (if c && og_all (og_ok1 α n (nI k)) h then 1 else 0) σ := by
    intro e
    rw [e]
    unfold wX5_enough_104 wX5_enough_115 wX5_enough_130
    rw [if10]
    refine ⟨fun g => ⟨fun _ x3 e3 => ?_, fun z => absurd g z⟩, fun g => ⟨fun z => absurd z g, fun _ => mOnes (fun x3 e3 => ?_)⟩⟩
    · subst e3
      rw [nI_s]
      rw [if_neg g, if_neg g] at K
      exact K
    · subst e3
      rw [nI_s]
      rw [if_pos (Classical.not_not.mp g), if_pos (Classical.not_not.mp g)] at K
      exact K
  unfold wX5_enough_B58
  rw [show (6 : Int32) = nI 6 from rfl, nI_lei (by omega) (by omega), if10]
  by_cases g : 6 ≤ h
  · obtain rfl : h = 6 := by omega
    exact ⟨fun _ => out rfl, fun e => absurd g e⟩
  · refine ⟨fun e => absurd e g, fun _ => ⟨fun q => out ?_, fun q => mSeen hF hn hα (by omega) ⟨?_, ?_⟩⟩⟩
    · have q' : (c && og_all (og_ok1 α n (nI k)) h) = false := by simpa using q
      rw [q']
      cases c
      · rfl
      · simp only [Bool.true_and] at q' ⊢
        exact (all_f q' 6 (by omega)).symm
    · rw [show (101 : Int32) + nI h = nI (101 + h) from nI_add 101 h]
      exact vp_in_nI (by omega) (by decide)
    · have q' : (c && og_all (og_ok1 α n (nI k)) h) = true := by simpa using q
      have hK := hK (by omega) trivial
      rw [all_s, ← Bool.and_assoc, q'] at hK
      have f : σ.I 2 (101 + h) = α (101 + h) := hF.1 _ (by omega) (by omega)
      rw [show (101 : Int32) + nI h = nI (101 + h) from nI_add 101 h, nI_clamp (by omega), f]
      unfold wX5_enough_96
      refine ⟨fun c x5 e5 => ?_, fun c x5 e5 => ?_⟩
      · subst e5
        rw [nI_s]
        have : og_ok1 α n (nI k) h = false := by simp [og_ok1, c]
        rw [this] at hK
        exact hK
      · subst e5
        rw [nI_s]
        have : og_ok1 α n (nI k) h = true := by simp [og_ok1, c]
        rw [this] at hK
        exact hK
def og_few (o : Option Nat) : Int32 := match o with
  | none => 100000000
  | some k => nI (og_pc k)
theorem mEnough {Q : Int32 → OgS → Prop} {α : Nat → Int32} {σ : OgS} (hF : FlM α σ) {n : Nat} (hn : n ≤ 10) (hα : α 2 = nI n) {x1 : Int32} (K : Q (match og_en α n (2 ^ n) with | none => -1 | some j => if x1 = 1 then nI j else nI (og_pc j)) σ) : wX5_enough_26 Q x1 100000000 (-1) (nI 0) σ := by
  have hC : σ.I 2 2 = nI n := (hF.1 2 (by omega) (by omega)).trans hα
  have hp := pow10 hn
  refine for4 (2 ^ n) (fun k => og_few (og_en α n k)) (fun k => og_eI (og_en α n k)) nI (fun _ => σ) (fun _ => True) (fun K' k hk _ hK => ?_) trivial
  unfold wX5_enough_B26 wX5_enough_147
  rw [hC, shl1 n hn, nI_lei (by omega) (by omega)]
  by_cases g : 2 ^ n ≤ k
  · obtain rfl : k = 2 ^ n := by omega
    refine ⟨fun _ => ?_, fun e => absurd g e⟩
    cases he : og_en α n (2 ^ n) with
    | none =>
      rw [he] at K
      exact ⟨fun _ => K, fun e => absurd rfl e⟩
    | some j =>
      rw [he] at K
      have := en_lt α n _ j he
      refine ⟨fun e => absurd e (nI_m1 (by omega)), fun _ => ⟨fun e => ?_, fun e => ?_⟩⟩
      · dsimp only at K
        rw [if_neg e] at K
        exact K
      · dsimp only at K
        rw [if_pos e] at K
        exact K
  · refine ⟨fun e => absurd e g, fun _ => mOnes ?_⟩
    have hK := hK (by omega) trivial
    have l1 := pc_le k
    have cc : (og_few (og_en α n k) ≤ nI (og_pc k)) ↔ ¬ ∀ j, og_en α n k = some j → og_pc k < og_pc j := by
      cases he : og_en α n k with
      | none =>
        show nI 100000000 ≤ _ ↔ _
        rw [nI_lei (by omega) (by omega)]
        constructor
        · intro z
          omega
        · intro z
          exact absurd (fun j e => by cases e) z
      | some j =>
        have l2 := pc_le j
        show nI (og_pc j) ≤ _ ↔ _
        rw [nI_lei (by omega) (by omega)]
        constructor
        · intro z q
          have := q j rfl
          omega
        · intro z
          by_cases q : og_pc k < og_pc j
          · exact absurd (fun i e => by cases e; exact q) z
          · omega
    rw [cc]
    refine ⟨fun c => ?_, fun c => ?_⟩
    · refine mEnI (c := false) hF hn hα ?_
      simp only [Bool.false_and]
      rw [en_s, if_neg (fun z => c z.2)] at hK
      exact hK
    · have c' := Classical.not_not.mp c
      refine mEnI (c := true) hF hn hα ?_
      simp only [Bool.true_and]
      rw [en_s] at hK
      by_cases o : og_okn α n (nI k) = true
      · rw [if_pos ⟨o, c'⟩] at hK
        rw [if_pos o, if_pos o]
        exact hK
      · rw [if_neg (fun z => o z.1)] at hK
        rw [if_neg o, if_neg o]
        exact hK
theorem pEnough {Γ : OgG} {α : Nat → Int32} {σM : OgS} {σC : OgC} {x : Int32} {Q : Int32 → Int32 → OgC → OgS → Prop} (h : Row α σM σC) (K : ∀ (r : Int32) (α' : Nat → Int32) (σC' : OgC) (σM' : OgS), St α σM σC α' σM' σC' → Q r r σC' σM') : wX0_enough Γ (fun r σC' => wX5_enough (fun r' σM' => Q r r' σC' σM') x σM) x σC := by
  have hS := (St.rf h).thrown 0
  obtain ⟨n, hn, hα⟩ := h.2.2.2.nat 2 (hi := 10) rfl
  unfold wX0_enough wX5_enough
  simp only [cIn_eq, mIn_eq, forall_eq, Int32.reduceToInt, Int64.reduceToInt, Int32.toInt_toInt64, if10, if11, if10n]
  by_cases g : 0 ≤ x.toInt ∧ x.toInt ≤ 1
  · refine ⟨fun _ => cEnough h.2.1 hn hα ⟨fun _ => mEnough hS.1.1 hn hα (K _ _ _ _ hS), fun e => absurd g e⟩, fun e => absurd g e⟩
  · exact ⟨fun e => absurd e g, fun _ => ⟨fun e => absurd e g, fun _ => K _ _ _ _ hS⟩⟩
