/-! ===== the next hill to look at ===== -/
def StX (X Y : List Nat) (α0 : Nat → Int32) (σM0 : OgS) (σC0 : OgC) (α : Nat → Int32) (σM : OgS) (σC : OgC) : Prop := Row α σM σC ∧ OnC X σC0 σC ∧ OnM Y σM0 σM ∧ Keep α0 α
theorem St.toX {α0 α : Nat → Int32} {σM0 σM : OgS} {σC0 σC : OgC} (h : St α0 σM0 σC0 α σM σC) (X Y : List Nat) : StX X Y α0 σM0 σC0 α σM σC := ⟨h.1, h.2.1.to X, h.2.2.1.to Y, h.2.2.2⟩
/-- one cell alone may be other -/
def OneC (c : Nat) (σ σ' : OgC) : Prop := σ'.R = σ.R ∧ σ'.L = σ.L ∧ ∀ a, a ≠ c → σ'.I a = σ.I a
def OneM (c : Nat) (σ σ' : OgS) : Prop := σ'.L = σ.L ∧ σ'.top = σ.top ∧ ∀ a, a ≠ c → σ'.I a = σ.I a
theorem OneC.rf (c : Nat) (σ : OgC) : OneC c σ σ := ⟨rfl, rfl, fun _ _ => rfl⟩
theorem OneM.rf (c : Nat) (σ : OgS) : OneM c σ σ := ⟨rfl, rfl, fun _ _ => rfl⟩
theorem OneC.put {c : Nat} {σ σ' : OgC} (h : OneC c σ σ') (k : Nat) (v : Int32) : OneC c σ (σ'.sI c k v) := by
  refine ⟨h.1, h.2.1, fun a ha => ?_⟩
  funext j
  rw [C_II, if_neg ha, h.2.2 a ha]
theorem OneM.put {c : Nat} {σ σ' : OgS} (h : OneM c σ σ') (k : Nat) (v : Int32) : OneM c σ (σ'.sI c k v) := by
  refine ⟨h.1, h.2.1, fun a ha => ?_⟩
  funext j
  rw [S_II, if_neg ha, h.2.2 a ha]
theorem OneC.fl {c : Nat} {σ σ' : OgC} (h : OneC c σ σ') (hc : 16 ≤ c) {α : Nat → Int32} (hF : FlF α σ) : FlF α σ' := by
  intro i q hq k hk
  have key : ∀ q ∈ og_fam, q.1 < 16 := by decide
  rw [h.2.2 q.1 (by have := key q (List.mem_of_getElem? hq); omega)]
  exact hF i q hq k hk
theorem OneC.fk {c : Nat} {σ σ' : OgC} (h : OneC c σ σ') (hc : 16 ≤ c) {α : Nat → Int32} (hF : FlK α σ) : FlK α σ' := by
  exact hF.of (by rw [h.2.2 3 (by omega)])
theorem OneM.fl {c : Nat} {σ σ' : OgS} (h : OneM c σ σ') (hc : 3 ≤ c) {α : Nat → Int32} (hF : FlM α σ) : FlM α σ' := by
  refine ⟨fun j hj h4 => ?_, fun k hk => ?_, fun k hk => ?_⟩
  · rw [h.2.2 2 (by omega)]
    exact hF.1 j hj h4
  · rw [h.2.2 0 (by omega)]
    exact hF.2.1 k hk
  · rw [h.2.2 1 (by omega)]
    exact hF.2.2 k hk
/-- scratch cells of both sides are other -/
theorem StX.one {c d : Nat} {α : Nat → Int32} {σM σM1 σM' : OgS} {σC σC' : OgC} (h : St α σM σC α σM1 σC) (hC : OneC c σC σC') (hM : OneM d σM1 σM') (hc : 16 ≤ c) (hd : 3 ≤ d) : StX [c] [d] α σM σC α σM' σC' := by
  refine ⟨⟨hM.fl hd h.1.1, hC.fl hc h.1.2.1, hC.fk hc h.1.2.2.1, h.1.2.2.2⟩, ⟨hC.1, hC.2.1, fun a ha hX => hC.2.2 a (by simpa using hX)⟩, ⟨?_, ?_, fun a ha hX => ?_, fun j hj => ?_⟩, h.2.2.2⟩
  · rw [hM.1]
    exact h.2.2.1.1
  · rw [hM.2.1]
    exact h.2.2.1.2.1
  · rw [hM.2.2 a (by simpa using hX)]
    exact h.2.2.1.2.2.1 a ha
  · rw [hM.2.2 2 (by omega)]
    exact h.2.2.1.2.2.2 j hj
def og_incA (α : Nat → Int32) (n : Nat) (s : Int32) (f : Nat → Nat) : Nat → Nat → Nat := fun h => h.rec f (fun h g => fun i => if i = 11 * h + og_seen α n h s then g i + 1 else g i)
theorem inc_s (α : Nat → Int32) (n : Nat) (s : Int32) (f : Nat → Nat) (h i : Nat) : og_incA α n s f (h + 1) i = if i = 11 * h + og_seen α n h s then og_incA α n s f h i + 1 else og_incA α n s f h i := rfl
theorem inc_b (α : Nat → Int32) (n : Nat) (s : Int32) (f : Nat → Nat) (i : Nat) : ∀ h, f i ≤ og_incA α n s f h i ∧ og_incA α n s f h i ≤ f i + h
  | 0 => ⟨Nat.le_refl _, Nat.le_refl _⟩
  | h + 1 => by
    have := inc_b α n s f i h
    rw [inc_s]
    split <;> omega
theorem inc_pos (α : Nat → Int32) (n : Nat) (s : Int32) (f : Nat → Nat) {j : Nat} : ∀ h, j < h → 0 < og_incA α n s f h (11 * j + og_seen α n j s)
  | 0, hj => absurd hj (by omega)
  | h + 1, hj => by
    rw [inc_s]
    by_cases e : j = h
    · subst e
      rw [if_pos rfl]
      omega
    · have := inc_pos α n s f h (j := j) (by omega)
      split <;> omega
def og_al (α : Nat → Int32) (n m : Nat) : Nat → Nat → Nat := fun k => k.rec (fun _ => 0) (fun k f => if og_fit α n m (nI k) then og_incA α n (nI k) f 6 else f)
theorem al_s (α : Nat → Int32) (n m k : Nat) : og_al α n m (k + 1) = if og_fit α n m (nI k) then og_incA α n (nI k) (og_al α n m k) 6 else og_al α n m k := rfl
theorem al_le (α : Nat → Int32) (n m i : Nat) : ∀ k, og_al α n m k i ≤ 6 * k
  | 0 => Nat.le_refl _
  | k + 1 => by
    have h1 := al_le α n m i k
    have h2 := inc_b α n (nI k) (og_al α n m k) i 6
    rw [al_s]
    split <;> omega
theorem al_0 (α : Nat → Int32) (n m i : Nat) : ∀ k, og_fc α n m k = 0 → og_al α n m k i = 0
  | 0, _ => rfl
  | k + 1, h => by
    rw [fc_s] at h
    rw [al_s]
    by_cases f : og_fit α n m (nI k) = true
    · rw [if_pos f] at h
      omega
    · rw [if_neg f] at h
      rw [if_neg f]
      exact al_0 α n m i k h
theorem al_pos (α : Nat → Int32) (n m : Nat) (hn : n ≤ 10) {j : Nat} (hj : j < 6) : ∀ k, 0 < og_fc α n m k → ∃ i, i < 11 ∧ 0 < og_al α n m k (11 * j + i)
  | 0, h => absurd h (by show ¬ 0 < 0; omega)
  | k + 1, h => by
    rw [fc_s] at h
    rw [al_s]
    by_cases f : og_fit α n m (nI k) = true
    · rw [if_pos f]
      have := seen_le α n j (nI k)
      exact ⟨og_seen α n j (nI k), by omega, inc_pos α n (nI k) _ 6 hj⟩
    · rw [if_neg f] at h
      rw [if_neg f]
      exact al_pos α n m hn hj k h
theorem cNxI {Γ : OgG} {Q : Int32 → OgC → Prop} {K39 : Int32 → Int32 → OgC → Prop} {α : Nat → Int32} {σ0 σ : OgC} (hF : FlF α σ) (hO : OneC 33 σ0 σ) {n : Nat} (hn : n ≤ 10) (hα : α 2 = nI n) {x1 x2 : Int32} {k : Nat} {f : Nat → Nat} (hf : ∀ i, i < 66 → σ.I 33 i = nI (f i)) (K : ∀ σ', FlF α σ' → OneC 33 σ0 σ' → (∀ i, i < 66 → σ'.I 33 i = nI (og_incA α n (nI k) f 6 i)) → K39 x2 (nI (k + 1)) σ') : wX0_next_69 Γ Q K39 x1 x2 (nI k) (nI 0) σ := by
  refine forE2 6 (fun h x4 σ => x4 = nI h ∧ FlF α σ ∧ OneC 33 σ0 σ ∧ ∀ i, i < 66 → σ.I 33 i = nI (og_incA α n (nI k) f h i)) (fun K' h x4 σ hh hr hK => ?_) ⟨rfl, hF, hO, hf⟩
  obtain ⟨rfl, hF, hO, hf⟩ := hr
  unfold wX0_next_B69 wX0_next_104
  rw [show (6 : Int32) = nI 6 from rfl, nI_lei (by omega) (by omega)]
  by_cases g : 6 ≤ h
  · obtain rfl : h = 6 := by omega
    refine ⟨fun _ x3 e3 => ?_, fun e => absurd g e⟩
    subst e3
    rw [nI_s]
    exact K σ hF hO hf
  · refine ⟨fun e => absurd e g, fun _ => cSeen hF hn hα (by omega) (fun v4 e4 => ?_)⟩
    have hs := seen_le α n h (nI k)
    have e4' : v4 = nI (11 * h + og_seen α n h (nI k)) := by rw [e4, show (11 : Int32) * nI h = nI (11 * h) from nI_m 11 h, nI_add]
    rw [e4', nI_clamp (by omega)]
    refine ⟨vp_in_nI (by omega) (by decide), fun v5 e5 => ⟨vp_in_nI (by omega) (by decide), fun s6 e6 x4 ex => ?_⟩⟩
    subst e5 e6 ex
    rw [nI_s]
    refine hK _ _ (by omega) ⟨rfl, hF.skip (by decide) _ _, hO.put _ _, fun i hi => ?_⟩
    rw [C_II, if_pos rfl, inc_s, hf _ (by omega)]
    by_cases e : i = 11 * h + og_seen α n h (nI k)
    · rw [if_pos e, if_pos e, e, nI_s]
    · rw [if_neg e, if_neg e, hf i hi]
theorem mNxI {Q : Int32 → OgS → Prop} {K40 : Int32 → OgS → Prop} {α : Nat → Int32} {σ0 σ : OgS} (hF : FlM α σ) (hR : Rng α) (hO : OneM 23 σ0 σ) {n m : Nat} (hn : n ≤ 10) (hα : α 2 = nI n) (hm : m ≤ 8) (hβ : α 3 = nI m) {x1 : Int32} {k : Nat} {f : Nat → Nat} (hf : ∀ i, i < 66 → σ.I 23 i = nI (f i)) (K : ∀ σ', FlM α σ' → OneM 23 σ0 σ' → (∀ i, i < 66 → σ'.I 23 i = nI ((if og_fit α n m (nI k) then og_incA α n (nI k) f 6 else f) i)) → K40 (nI (k + 1)) σ') : wX5_next_54 Q K40 x1 (nI k) (nI 0) σ := by
  refine forE2 6 (fun h x4 σ => x4 = nI h ∧ FlM α σ ∧ OneM 23 σ0 σ ∧ (0 < h → og_fit α n m (nI k) = true) ∧ ∀ i, i < 66 → σ.I 23 i = nI (og_incA α n (nI k) f h i)) (fun K' h x4 σ hh hr hK => ?_) ⟨rfl, hF, hO, fun z => absurd z (by omega), hf⟩
  obtain ⟨rfl, hF, hO, hft, hf⟩ := hr
  unfold wX5_next_B54 wX5_next_94
  rw [show (6 : Int32) = nI 6 from rfl, nI_lei (by omega) (by omega)]
  by_cases g : 6 ≤ h
  · obtain rfl : h = 6 := by omega
    refine ⟨fun _ x3 e3 => ?_, fun e => absurd g e⟩
    subst e3
    rw [nI_s]
    refine K σ hF hO ?_
    rw [if_pos (hft (by omega))]
    exact hf
  · refine ⟨fun e => absurd e g, fun _ => mFit hF hR hn hα hm hβ ?_⟩
    rw [if10]
    refine ⟨fun q x2 e2 => ?_, fun q => mSeen hF hn hα (by omega) (fun v4 e4 => ?_)⟩
    · subst e2
      rw [nI_s]
      obtain rfl : h = 0 := by
        by_cases z : 0 < h
        · exact absurd (hft z) q
        · omega
      refine K σ hF hO ?_
      rw [if_neg q]
      exact hf
    · have hs := seen_le α n h (nI k)
      have e4' : v4 = nI (11 * h + og_seen α n h (nI k)) := by rw [e4, show (11 : Int32) * nI h = nI (11 * h) from nI_m 11 h, nI_add]
      rw [e4', nI_clamp (by omega)]
      refine ⟨vp_in_nI (by omega) (by decide), fun v5 e5 => ⟨vp_in_nI (by omega) (by decide), fun s6 e6 x4 ex => ?_⟩⟩
      subst e5 e6 ex
      rw [nI_s]
      refine hK _ _ (by omega) ⟨rfl, hF.skip (by decide) _ _, hO.put _ _, fun _ => Classical.not_not.mp q, fun i hi => ?_⟩
      rw [S_II, if_pos rfl, inc_s, hf _ (by omega)]
      by_cases e : i = 11 * h + og_seen α n h (nI k)
      · rw [if_pos e, if_pos e, e, nI_s]
      · rw [if_neg e, if_neg e, hf i hi]
/-- the most of a row of eleven -/
def og_mx (f : Nat → Nat) (h : Nat) : Nat → Nat := fun j => j.rec 0 (fun j r => if r < f (11 * h + j) then f (11 * h + j) else r)
theorem mx_s (f : Nat → Nat) (h j : Nat) : og_mx f h (j + 1) = if og_mx f h j < f (11 * h + j) then f (11 * h + j) else og_mx f h j := rfl
theorem mx_le (f : Nat → Nat) (h b : Nat) (hb : ∀ i, f i ≤ b) : ∀ j, og_mx f h j ≤ b
  | 0 => Nat.zero_le _
  | j + 1 => by
    have := mx_le f h b hb j
    have := hb (11 * h + j)
    rw [mx_s]
    split <;> omega
theorem mx_pos (f : Nat → Nat) (h : Nat) {i : Nat} (hf : 0 < f (11 * h + i)) : ∀ j, i < j → 0 < og_mx f h j
  | 0, hj => absurd hj (by omega)
  | j + 1, hj => by
    rw [mx_s]
    by_cases e : i = j
    · subst e
      split <;> omega
    · have := mx_pos f h hf j (by omega)
      split <;> omega
theorem mx_0 (f : Nat → Nat) (h : Nat) (hf : ∀ i, f i = 0) : ∀ j, og_mx f h j = 0
  | 0 => rfl
  | j + 1 => by
    rw [mx_s, hf, mx_0 f h hf j]
    rfl
def og_sel (f : Nat → Nat) : Nat → Option Nat := fun h => h.rec none (fun h r => if 0 < og_mx f h 11 ∧ (∀ j, r = some j → og_mx f h 11 < og_mx f j 11) then some h else r)
theorem sel_s (f : Nat → Nat) (h : Nat) : og_sel f (h + 1) = if 0 < og_mx f h 11 ∧ (∀ j, og_sel f h = some j → og_mx f h 11 < og_mx f j 11) then some h else og_sel f h := by
  show (if _ then _ else _) = _
  congr
theorem sel_0 (f : Nat → Nat) (hf : ∀ i, f i = 0) : ∀ h, og_sel f h = none
  | 0 => rfl
  | h + 1 => by
    rw [sel_s, if_neg (fun z => by have := z.1; rw [mx_0 f h hf] at this; omega), sel_0 f hf h]
theorem sel_lt (f : Nat → Nat) : ∀ h j, og_sel f h = some j → j < h
  | 0, j, e => by cases e
  | h + 1, j, e => by
    rw [sel_s] at e
    split at e
    · cases e
      omega
    · have := sel_lt f h j e
      omega
def og_lst (f : Nat → Nat) (far : Nat) (o : Option Nat) : Int32 := match o with
  | none => nI far
  | some j => nI (og_mx f j 11)
theorem lst_lt {f : Nat → Nat} {far h : Nat} (o : Option Nat) (hb : ∀ i, f i < far) (hfar : far < 2 ^ 31) : (nI (og_mx f h 11) < og_lst f far o) ↔ ∀ j, o = some j → og_mx f h 11 < og_mx f j 11 := by
  have b : ∀ j, og_mx f j 11 ≤ far - 1 := fun j => mx_le f j (far - 1) (fun i => by have := hb i; omega) 11
  have b1 := b h
  have b0 := hb 0
  cases o with
  | none =>
    show nI _ < nI far ↔ _
    rw [nI_lti (by omega) (by omega)]
    exact ⟨fun _ j e => (by cases e), fun _ => (by omega)⟩
  | some j =>
    have b2 := b j
    show nI _ < nI _ ↔ _
    rw [nI_lti (by omega) (by omega)]
    exact ⟨fun z i e => by cases e; exact z, fun z => z j rfl⟩
def og_nx (f : Nat → Nat) (x1 : Int32) : Int32 := match og_sel f 6 with
  | none => -1
  | some j => if x1 = 0 then nI j else nI (og_mx f j 11)
theorem cNxE {Γ : OgG} {Q : Int32 → OgC → Prop} {σ : OgC} {f : Nat → Nat} {x1 : Int32} {a : Nat} (ha : a < 2 ^ 31) (hb : ∀ i, f i < 1000000) (hf : ∀ i, i < 66 → σ.I 33 i = nI (f i)) (h0 : a = 0 → ∀ i, f i = 0) (h1 : 0 < a → ∀ h, h < 6 → 0 < og_mx f h 11) (K : Q (og_nx f x1) σ) : wX0_next_120 Γ Q x1 (nI a) (-1) (nI 1000000) (nI 0) σ := by
  refine for4 6 (fun h => og_eI (og_sel f h)) (fun h => og_lst f 1000000 (og_sel f h)) nI (fun _ => σ) (fun _ => True) (fun K' h hh _ hK => ?_) trivial
  have out : og_sel f h = og_sel f 6 → wX0_next_193 Γ Q x1 (og_eI (og_sel f h)) (og_lst f 1000000 (og_sel f h)) σ := by
    intro e
    rw [e]
    unfold og_nx at K
    unfold wX0_next_193 wX0_next_202
    cases he : og_sel f 6 with
    | none =>
      rw [he] at K
      exact ⟨fun _ => K, fun e => absurd rfl e⟩
    | some j =>
      rw [he] at K
      have := sel_lt f 6 j he
      dsimp only at K
      refine ⟨fun e => absurd e (nI_m1 (by omega)), fun _ => ⟨fun z => ?_, fun z => ?_⟩⟩
      · rw [if_neg z] at K
        exact K
      · rw [if_pos z] at K
        exact K
  unfold wX0_next_B120
  rw [show (6 : Int32) = nI 6 from rfl, nI_lei (by omega) (by omega), show (0 : Int32) = nI 0 from rfl, nI_lei (by omega) (by omega)]
  by_cases g : 6 ≤ h
  · obtain rfl : h = 6 := by omega
    exact ⟨fun _ => out rfl, fun e => absurd g e⟩
  · refine ⟨fun e => absurd e g, fun _ => ⟨fun z => out ?_, fun z => ?_⟩⟩
    · rw [sel_0 f (h0 (by omega)), sel_0 f (h0 (by omega))]
    · have hK := hK (by omega) trivial
      rw [sel_s] at hK
      refine for3 11 (fun j => nI (og_mx f h j)) nI (fun _ => σ) (fun _ => True) (fun K2 j hj _ hK2 => ?_) trivial
      unfold wX0_next_B137 wX0_next_187
      rw [show (10 : Int32) = nI 10 from rfl, nI_lti (by omega) (by omega)]
      by_cases gj : 10 < j
      · obtain rfl : j = 11 := by omega
        refine ⟨fun _ => ?_, fun e => absurd gj e⟩
        rw [lst_lt (og_sel f h) hb (by decide)]
        refine ⟨fun c x5 e5 => ?_, fun c x5 e5 => ?_⟩
        · subst e5
          rw [nI_s]
          rw [if_pos ⟨h1 (by omega) h (by omega), c⟩] at hK
          exact hK
        · subst e5
          rw [nI_s]
          rw [if_neg (fun z => c z.2)] at hK
          exact hK
      · refine ⟨fun e => absurd e gj, fun _ => ?_⟩
        have hK2 := hK2 (by omega) trivial
        have e11 : (11 : Int32) * nI h + nI j = nI (11 * h + j) := by rw [show (11 : Int32) * nI h = nI (11 * h) from nI_m 11 h, nI_add]
        have b1 := mx_le f h 1000000 (fun i => by have := hb i; omega) j
        have b2 := hb (11 * h + j)
        rw [e11, nI_clamp (by omega), hf _ (by omega)]
        refine ⟨vp_in_nI (by omega) (by decide), fun v3 e3 x7 e7 => ?_⟩
        subst e7
        rw [nI_s]
        rw [mx_s] at hK2
        have e3' : v3 = nI (if og_mx f h j < f (11 * h + j) then f (11 * h + j) else og_mx f h j) := by
          rw [e3]
          by_cases c : og_mx f h j < f (11 * h + j)
          · rw [if_pos c, if_pos ((nI_lti (by omega) (by omega)).mpr c)]
          · rw [if_neg c, if_neg (fun z => c ((nI_lti (by omega) (by omega)).mp z))]
        rw [e3']
        exact hK2
theorem mNxE {Q : Int32 → OgS → Prop} {σ : OgS} {f : Nat → Nat} {x1 : Int32} (hb : ∀ i, f i < 100000000) (hf : ∀ i, i < 66 → σ.I 23 i = nI (f i)) (K : Q (og_nx f x1) σ) : wX5_next_109 Q x1 (nI 100000000) (-1) (nI 0) σ := by
  refine for4 6 (fun h => og_lst f 100000000 (og_sel f h)) (fun h => og_eI (og_sel f h)) nI (fun _ => σ) (fun _ => True) (fun K' h hh _ hK => ?_) trivial
  unfold wX5_next_B109
  rw [show (6 : Int32) = nI 6 from rfl, nI_lei (by omega) (by omega)]
  by_cases g : 6 ≤ h
  · obtain rfl : h = 6 := by omega
    refine ⟨fun _ => ?_, fun e => absurd g e⟩
    unfold og_nx at K
    unfold wX5_next_224
    cases he : og_sel f 6 with
    | none =>
      rw [he] at K
      exact ⟨fun _ => K, fun e => absurd rfl e⟩
    | some j =>
      rw [he] at K
      have := sel_lt f 6 j he
      dsimp only at K
      refine ⟨fun e => absurd e (nI_m1 (by omega)), fun _ => ⟨fun z => ?_, fun z => ?_⟩⟩
      · rw [if_neg z] at K
        exact K
      · rw [if_pos z] at K
        exact K
  · refine ⟨fun e => absurd e g, fun _ => ?_⟩
    have hK := hK (by omega) trivial
    rw [sel_s] at hK
    refine for3 11 (fun j => nI (og_mx f h j)) nI (fun _ => σ) (fun _ => True) (fun K2 j hj _ hK2 => ?_) trivial
    have b1 := mx_le f h 100000000 (fun i => by have := hb i; omega) j
    unfold wX5_next_B122
    rw [show (11 : Int32) = nI 11 from rfl, nI_lei (by omega) (by omega)]
    by_cases gj : 11 ≤ j
    · obtain rfl : j = 11 := by omega
      refine ⟨fun _ => ?_, fun e => absurd gj e⟩
      unfold wX5_next_189 wX5_next_190 wX5_next_207 wX5_next_208
      rw [show (0 : Int32) = nI 0 from rfl, nI_lei (by omega) (by omega)]
      have nl : (og_lst f 100000000 (og_sel f h) ≤ nI (og_mx f h 11)) ↔ ¬ ∀ j, og_sel f h = some j → og_mx f h 11 < og_mx f j 11 := by
        rw [← lst_lt (og_sel f h) hb (by decide), fa_le, fa_lt]
        omega
      rw [nl]
      by_cases c0 : og_mx f h 11 ≤ 0
      · rw [if_neg (fun z => by omega)] at hK
        refine ⟨fun _ => ⟨fun _ x4 e4 => ?_, fun z => absurd c0 z⟩, fun z => absurd c0 z⟩
        subst e4
        rw [nI_s]
        exact hK
      · refine ⟨fun z => absurd z c0, fun _ => ⟨fun c => ⟨fun z => absurd z c0, fun _ => ⟨fun _ x4 e4 => ?_, fun z => absurd c z⟩⟩, fun c => ⟨fun z => absurd z c0, fun _ => ⟨fun z => absurd z c, fun _ x4 e4 => ?_⟩⟩⟩⟩
        · subst e4
          rw [nI_s]
          rw [if_neg (fun z => c z.2)] at hK
          exact hK
        · subst e4
          rw [nI_s]
          rw [if_pos ⟨by omega, Classical.not_not.mp c⟩] at hK
          exact hK
    · refine ⟨fun e => absurd e gj, fun _ => ?_⟩
      have hK2 := hK2 (by omega) trivial
      have e11 : nI 11 * nI h + nI j = nI (11 * h + j) := by rw [nI_m 11 h, nI_add]
      have b2 := hb (11 * h + j)
      rw [e11, nI_clamp (by omega), hf _ (by omega), nI_lei (by omega) (by omega)]
      unfold wX5_next_165
      rw [mx_s] at hK2
      refine ⟨vp_in_nI (by omega) (by decide), fun c x6 e6 => ?_, fun c => ⟨vp_in_nI (by omega) (by decide), fun x6 e6 => ?_⟩⟩
      · subst e6
        rw [nI_s]
        rw [if_neg (by omega)] at hK2
        exact hK2
      · subst e6
        rw [nI_s]
        rw [if_pos (by omega)] at hK2
        exact hK2
theorem cNext {Γ : OgG} {Q : Int32 → OgC → Prop} {α : Nat → Int32} {σ0 : OgC} (hF : FlF α σ0) (hR : Rng α) {n m : Nat} (hn : n ≤ 10) (hα : α 2 = nI n) (hm : m ≤ 8) (hβ : α 3 = nI m) {x1 : Int32} (K : ∀ σ, FlF α σ → OneC 33 σ0 σ → Q (og_nx (og_al α n m (2 ^ n)) x1) σ) : wX0_next_13 Γ Q x1 (nI 0) σ0 := by
  have hp := pow10 hn
  refine forE2 66 (fun k x2 σ => x2 = nI k ∧ FlF α σ ∧ OneC 33 σ0 σ ∧ ∀ i, i < k → σ.I 33 i = nI 0) (fun K' k x2 σ hk hr hK => ?_) ⟨rfl, hF, OneC.rf 33 σ0, fun i hi => absurd hi (by omega)⟩
  obtain ⟨rfl, hF, hO, hf⟩ := hr
  unfold wX0_next_B13
  rw [show (66 : Int32) = nI 66 from rfl, nI_lei (by omega) (by omega)]
  by_cases g : 66 ≤ k
  · obtain rfl : k = 66 := by omega
    refine ⟨fun _ => ?_, fun e => absurd g e⟩
    refine forE3 (2 ^ n) (fun k x2 x3 σ => x2 = nI (og_fc α n m k) ∧ x3 = nI k ∧ FlF α σ ∧ OneC 33 σ0 σ ∧ ∀ i, i < 66 → σ.I 33 i = nI (og_al α n m k i)) (fun K2 k x2 x3 σ hk hr hK2 => ?_) ⟨rfl, rfl, hF, hO, hf⟩
    obtain ⟨rfl, rfl, hF, hO, hf⟩ := hr
    have hC : σ.I 2 12 = nI n := (hF.at 2 rfl 0 (by omega) rfl rfl).trans hα
    have hle := fc_le α n m k
    unfold wX0_next_B39 wX0_next_104
    rw [hC, shl1 n hn, nI_lei (by omega) (by omega)]
    by_cases gk : 2 ^ n ≤ k
    · obtain rfl : k = 2 ^ n := by omega
      refine ⟨fun _ => cNxE (by omega) (fun i => by have := al_le α n m i (2 ^ n); omega) hf (fun z i => al_0 α n m i _ z) (fun z h hh => ?_) (K σ hF hO), fun e => absurd gk e⟩
      obtain ⟨i, hi, hp⟩ := al_pos α n m hn hh _ z
      exact mx_pos _ h hp 11 hi
    · refine ⟨fun e => absurd e gk, fun _ => cFit hF hR hn hα hm hβ ?_⟩
      rw [if10]
      refine ⟨fun q x2 e2 => ?_, fun q x3 e3 => ?_⟩
      · subst e2
        have q' := Classical.not_not.mp q
        refine cNxI hF hO hn hα hf (fun σ' hF' hO' hf' => hK2 _ _ _ (by omega) ⟨?_, rfl, hF', hO', ?_⟩)
        · rw [fc_s, if_pos q', nI_s]
        · rw [al_s, if_pos q']
          exact hf'
      · subst e3
        rw [nI_s]
        refine hK2 _ _ _ (by omega) ⟨?_, rfl, hF, hO, ?_⟩
        · rw [fc_s, if_neg q]
        · rw [al_s, if_neg q]
          exact hf
  · refine ⟨fun e => absurd e g, fun _ => ⟨vp_in_nI (by omega) (by decide), fun s2 e2 x2 e3 => ?_⟩⟩
    subst e2 e3
    rw [nI_s, nI_clamp (by omega)]
    refine hK _ _ (by omega) ⟨rfl, hF.skip (by decide) _ _, hO.put _ _, fun i hi => ?_⟩
    rw [C_II, if_pos rfl]
    by_cases e : i = k
    · rw [if_pos e]
      rfl
    · rw [if_neg e]
      exact hf i (by omega)
theorem mNext {Q : Int32 → OgS → Prop} {α : Nat → Int32} {σ0 : OgS} (hF : FlM α σ0) (hR : Rng α) {n m : Nat} (hn : n ≤ 10) (hα : α 2 = nI n) (hm : m ≤ 8) (hβ : α 3 = nI m) {x1 : Int32} (K : ∀ σ, FlM α σ → OneM 23 σ0 σ → Q (og_nx (og_al α n m (2 ^ n)) x1) σ) : wX5_next_19 Q x1 (nI 0) σ0 := by
  have hp := pow10 hn
  refine forE2 66 (fun k x2 σ => x2 = nI k ∧ FlM α σ ∧ OneM 23 σ0 σ ∧ ∀ i, i < k → σ.I 23 i = nI 0) (fun K' k x2 σ hk hr hK => ?_) ⟨rfl, hF, OneM.rf 23 σ0, fun i hi => absurd hi (by omega)⟩
  obtain ⟨rfl, hF, hO, hf⟩ := hr
  unfold wX5_next_B19
  rw [show (66 : Int32) = nI 66 from rfl, nI_lei (by omega) (by omega)]
  by_cases g : 66 ≤ k
  · obtain rfl : k = 66 := by omega
    refine ⟨fun _ => ?_, fun e => absurd g e⟩
    refine forE2 (2 ^ n) (fun k x3 σ => x3 = nI k ∧ FlM α σ ∧ OneM 23 σ0 σ ∧ ∀ i, i < 66 → σ.I 23 i = nI (og_al α n m k i)) (fun K2 k x3 σ hk hr hK2 => ?_) ⟨rfl, hF, hO, hf⟩
    obtain ⟨rfl, hF, hO, hf⟩ := hr
    have hC : σ.I 2 2 = nI n := (hF.1 2 (by omega) (by omega)).trans hα
    unfold wX5_next_B40
    rw [hC, shl1 n hn, nI_lei (by omega) (by omega)]
    by_cases gk : 2 ^ n ≤ k
    · obtain rfl : k = 2 ^ n := by omega
      exact ⟨fun _ => mNxE (fun i => by have := al_le α n m i (2 ^ n); omega) hf (K σ hF hO), fun e => absurd gk e⟩
    · refine ⟨fun e => absurd e gk, fun _ => mNxI hF hR hO hn hα hm hβ hf (fun σ' hF' hO' hf' => hK2 _ _ (by omega) ⟨rfl, hF', hO', ?_⟩)⟩
      rw [al_s]
      exact hf'
  · refine ⟨fun e => absurd e g, fun _ => ⟨vp_in_nI (by omega) (by decide), fun s2 e2 x2 e3 => ?_⟩⟩
    subst e2 e3
    rw [nI_s, nI_clamp (by omega)]
    refine hK _ _ (by omega) ⟨rfl, hF.skip (by decide) _ _, hO.put _ _, fun i hi => ?_⟩
    rw [S_II, if_pos rfl]
    by_cases e : i = k
    · rw [if_pos e]
      rfl
    · rw [if_neg e]
      exact hf i (by omega)
theorem pNext {Γ : OgG} {α : Nat → Int32} {σM : OgS} {σC : OgC} {x : Int32} {Q : Int32 → Int32 → OgC → OgS → Prop} (h : Row α σM σC) (K : ∀ (r : Int32) (α' : Nat → Int32) (σC' : OgC) (σM' : OgS), StX [33] [23] α σM σC α' σM' σC' → Q r r σC' σM') : wX0_next Γ (fun r σC' => wX5_next (fun r' σM' => Q r r' σC' σM') x σM) x σC := by
  have hS := (St.rf h).thrown 0
  obtain ⟨n, hn, hα⟩ := h.2.2.2.nat 2 (hi := 10) rfl
  obtain ⟨m, hm, hβ⟩ := h.2.2.2.nat 3 (hi := 8) rfl
  unfold wX0_next wX5_next
  simp only [cIn_eq, mIn_eq, forall_eq, Int32.reduceToInt, Int64.reduceToInt, Int32.toInt_toInt64, if10, if11, if10n]
  by_cases g : 0 ≤ x.toInt ∧ x.toInt ≤ 1
  · refine ⟨fun _ => cNext h.2.1 h.2.2.2 hn hα hm hβ (fun σC' _ hC => ⟨fun _ => mNext hS.1.1 h.2.2.2 hn hα hm hβ (fun σM' _ hM => K _ _ _ _ (StX.one hS hC hM (by decide) (by decide))), fun e => absurd g e⟩), fun e => absurd g e⟩
  · exact ⟨fun e => absurd e g, fun _ => ⟨fun e => absurd e g, fun _ => K _ _ _ _ (hS.toX _ _)⟩⟩
