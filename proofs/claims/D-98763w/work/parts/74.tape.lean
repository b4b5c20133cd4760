/-! ===== loops whose whole state is a function of the round ===== -/
theorem for1 {α : Type} {B : (α → Prop) → α → Prop} (n : Nat) (a : Nat → α) (P : Nat → Prop) (h : ∀ K k, k ≤ n → P k → (k < n → P (k + 1) → K (a (k + 1))) → B K (a k)) (p0 : P 0) : og_lp1 B (a 0) :=
  og_lp1_intro (fun m x => ∃ k, k ≤ n ∧ m = n - k ∧ P k ∧ x = a k) (fun K m x hx hk => by
    obtain ⟨k, hkn, rfl, pk, rfl⟩ := hx
    exact h K k hkn pk (fun h1 h2 => hk (n - (k + 1)) _ (by omega) ⟨k + 1, by omega, rfl, h2, rfl⟩)) n (a 0) ⟨0, by omega, rfl, p0, rfl⟩
theorem for2 {α β : Type} {B : (α → β → Prop) → α → β → Prop} (n : Nat) (a : Nat → α) (b : Nat → β) (P : Nat → Prop) (h : ∀ K k, k ≤ n → P k → (k < n → P (k + 1) → K (a (k + 1)) (b (k + 1))) → B K (a k) (b k)) (p0 : P 0) : og_lp2 B (a 0) (b 0) :=
  og_lp2_intro (fun m x y => ∃ k, k ≤ n ∧ m = n - k ∧ P k ∧ x = a k ∧ y = b k) (fun K m x y hx hk => by
    obtain ⟨k, hkn, rfl, pk, rfl, rfl⟩ := hx
    exact h K k hkn pk (fun h1 h2 => hk (n - (k + 1)) _ _ (by omega) ⟨k + 1, by omega, rfl, h2, rfl, rfl⟩)) n (a 0) (b 0) ⟨0, by omega, rfl, p0, rfl, rfl⟩
theorem for3 {α β γ : Type} {B : (α → β → γ → Prop) → α → β → γ → Prop} (n : Nat) (a : Nat → α) (b : Nat → β) (c : Nat → γ) (P : Nat → Prop) (h : ∀ K k, k ≤ n → P k → (k < n → P (k + 1) → K (a (k + 1)) (b (k + 1)) (c (k + 1))) → B K (a k) (b k) (c k)) (p0 : P 0) : og_lp3 B (a 0) (b 0) (c 0) :=
  og_lp3_intro (fun m x y z => ∃ k, k ≤ n ∧ m = n - k ∧ P k ∧ x = a k ∧ y = b k ∧ z = c k) (fun K m x y z hx hk => by
    obtain ⟨k, hkn, rfl, pk, rfl, rfl, rfl⟩ := hx
    exact h K k hkn pk (fun h1 h2 => hk (n - (k + 1)) _ _ _ (by omega) ⟨k + 1, by omega, rfl, h2, rfl, rfl, rfl⟩)) n (a 0) (b 0) (c 0) ⟨0, by omega, rfl, p0, rfl, rfl, rfl⟩
theorem for4 {α β γ δ : Type} {B : (α → β → γ → δ → Prop) → α → β → γ → δ → Prop} (n : Nat) (a : Nat → α) (b : Nat → β) (c : Nat → γ) (d : Nat → δ) (P : Nat → Prop) (h : ∀ K k, k ≤ n → P k → (k < n → P (k + 1) → K (a (k + 1)) (b (k + 1)) (c (k + 1)) (d (k + 1))) → B K (a k) (b k) (c k) (d k)) (p0 : P 0) : og_lp4 B (a 0) (b 0) (c 0) (d 0) :=
  og_lp4_intro (fun m x y z u => ∃ k, k ≤ n ∧ m = n - k ∧ P k ∧ x = a k ∧ y = b k ∧ z = c k ∧ u = d k) (fun K m x y z u hx hk => by
    obtain ⟨k, hkn, rfl, pk, rfl, rfl, rfl, rfl⟩ := hx
    exact h K k hkn pk (fun h1 h2 => hk (n - (k + 1)) _ _ _ _ (by omega) ⟨k + 1, by omega, rfl, h2, rfl, rfl, rfl, rfl⟩)) n (a 0) (b 0) (c 0) (d 0) ⟨0, by omega, rfl, p0, rfl, rfl, rfl, rfl⟩
/-! ===== the tape ===== -/
/-- what is left as it was, but for some cells -/
def OnC (X : List Nat) (σ σ' : OgC) : Prop := σ'.R = σ.R ∧ σ'.L = σ.L ∧ ∀ a, 16 ≤ a → a ∉ X → σ'.I a = σ.I a
def OnM (X : List Nat) (σ σ' : OgS) : Prop := σ'.L = σ.L ∧ σ'.top = σ.top ∧ (∀ a, 3 ≤ a → a ∉ X → σ'.I a = σ.I a) ∧ ∀ j, 150 ≤ j ∨ j = 4 → σ'.I 2 j = σ.I 2 j
theorem OnC.put {X : List Nat} {σ σ' : OgC} (h : OnC X σ σ') (a k : Nat) (v : Int32) (ha : a < 16 ∨ a ∈ X) : OnC X σ (σ'.sI a k v) := by
  refine ⟨h.1, h.2.1, fun x hx hX => ?_⟩
  funext j
  rw [C_II, if_neg (by rintro rfl; rcases ha with e | e; omega; exact hX e), h.2.2 x hx hX]
theorem OnM.put {X : List Nat} {σ σ' : OgS} (h : OnM X σ σ') (a k : Nat) (v : Int32) (ha : a < 2 ∨ (a = 2 ∧ k < 150 ∧ k ≠ 4) ∨ (3 ≤ a ∧ a ∈ X)) : OnM X σ (σ'.sI a k v) := by
  refine ⟨h.1, h.2.1, fun x hx hX => ?_, fun j hj => ?_⟩
  · funext j
    rw [S_II, if_neg (by rintro rfl; rcases ha with e | e | e; omega; omega; exact hX e.2), h.2.2.1 x hx hX]
  · rw [S_II]
    split
    · rw [if_neg (by omega), h.2.2.2 j hj]
    · exact h.2.2.2 j hj
theorem OnlyC.to {σ σ' : OgC} (h : OnlyC σ σ') (X : List Nat) : OnC X σ σ' := ⟨h.1, h.2.1, fun a ha _ => h.2.2 a ha⟩
theorem OnlyM.to {σ σ' : OgS} (h : OnlyM σ σ') (X : List Nat) : OnM X σ σ' := ⟨h.1, h.2.1, fun a ha _ => h.2.2.1 a ha, h.2.2.2⟩
def Tape (σM : OgS) (σC : OgC) : Prop := ∀ k, k < 400 → σC.I 27 k = (σM.I 9 k).toInt8.toInt32 ∧ 0 ≤ (σM.I 9 k).toInt ∧ (σM.I 9 k).toInt ≤ 255
/-- on the way, the tape too -/
def Sy (α0 : Nat → Int32) (σM0 : OgS) (σC0 : OgC) (α : Nat → Int32) (σM : OgS) (σC : OgC) : Prop := Row α σM σC ∧ OnC [27] σC0 σC ∧ OnM [9] σM0 σM ∧ Keep α0 α ∧ Tape σM σC
theorem Tape.of {σM σM' : OgS} {σC σC' : OgC} (h : Tape σM σC) (e1 : σM'.I 9 = σM.I 9) (e2 : σC'.I 27 = σC.I 27) : Tape σM' σC' := by
  intro k hk
  rw [e1, e2]
  exact h k hk
theorem Sy.of {α0 α : Nat → Int32} {σM0 σM : OgS} {σC0 σC : OgC} (h : St α0 σM0 σC0 α σM σC) (ht : Tape σM0 σC0) : Sy α0 σM0 σC0 α σM σC :=
  ⟨h.1, h.2.1.to _, h.2.2.1.to _, h.2.2.2, ht.of (h.2.2.1.2.2.1 9 (by decide)) (h.2.1.2.2 27 (by decide))⟩
theorem Row.taped {α : Nat → Int32} {σM : OgS} {σC : OgC} (h : Row α σM σC) (n : Nat) (hn : n ≤ 400) : Row (upd α 213 (nI n)) (σM.sI 0 13 (nI n)) (σC.sI 0 10 (nI n)) := by
  refine ⟨h.1.fld 13 (by omega) _, h.2.1.set 21 rfl 0 (by omega) rfl rfl _, (h.2.2.1.al 213 _ (by omega)).sI 0 10 _ (Or.inl (by decide)), h.2.2.2.set 213 _ (lo := 0) (hi := 400) rfl ?_ ?_⟩ <;> rw [nI_toInt (by omega)] <;> omega
theorem Sy.byte {α0 α : Nat → Int32} {σM0 σM : OgS} {σC0 σC : OgC} (h : Sy α0 σM0 σC0 α σM σC) (n : Nat) (hn : n < 400) (u b : Int32) (hb : b = u.toInt8.toInt32) (h0 : 0 ≤ u.toInt) (h1 : u.toInt ≤ 255) : Sy α0 σM0 σC0 (upd α 213 (nI (n + 1))) ((σM.sI 9 n u).sI 0 13 (nI (n + 1))) ((σC.sI 27 n b).sI 0 10 (nI (n + 1))) := by
  have r1 : Row α (σM.sI 9 n u) (σC.sI 27 n b) := ⟨h.1.1.skip (by decide) n u, h.1.2.1.skip (by decide) n b, h.1.2.2.1.sI 27 n b (Or.inl (by decide)), h.1.2.2.2⟩
  refine ⟨r1.taped (n + 1) (by omega), (h.2.1.put 27 n b (Or.inr (by decide))).put 0 10 _ (Or.inl (by decide)), (h.2.2.1.put 9 n u (Or.inr (Or.inr (by decide)))).put 0 13 _ (Or.inl (by decide)), h.2.2.2.1.al 213 _ (by decide), ?_⟩
  intro k hk
  rw [C_II, if_neg (by decide), S_II, if_neg (by decide), C_II, if_pos rfl, S_II, if_pos rfl]
  by_cases e : k = n
  · rw [if_pos e, if_pos e]
    exact ⟨hb, h0, h1⟩
  · rw [if_neg e, if_neg e]
    exact h.2.2.2.2 k hk
def og_sft (j : Nat) : Int32 := if j = 0 then 24 else if j = 1 then 16 else if j = 2 then 8 else if j = 3 then 0 else -8
def og_fC (x : Int32) (n : Nat) (σ : OgC) : Nat → OgC := fun j => j.rec σ (fun j s => (s.sI 27 (n + j) (x >>> (og_sft j &&& 31)).toInt8.toInt32.toInt8.toInt32).sI 0 10 (nI (n + j + 1)))
def og_fM (x : Int32) (n : Nat) (σ : OgS) : Nat → OgS := fun j => j.rec σ (fun j s => (s.sI 9 (n + j) ((x >>> (og_sft j &&& 31)) &&& 255)).sI 0 13 (nI (n + j + 1)))
theorem fC_n (x : Int32) (n : Nat) (σ : OgC) (h : σ.I 0 10 = nI n) : ∀ j, (og_fC x n σ j).I 0 10 = nI (n + j)
  | 0 => h
  | j + 1 => by
    show ((_ : OgC).sI 0 10 _).I 0 10 = _
    rw [C_II, if_pos rfl, if_pos rfl, Nat.add_assoc]
theorem fM_n (x : Int32) (n : Nat) (σ : OgS) (h : σ.I 0 13 = nI n) : ∀ j, (og_fM x n σ j).I 0 13 = nI (n + j)
  | 0 => h
  | j + 1 => by
    show ((_ : OgS).sI 0 13 _).I 0 13 = _
    rw [S_II, if_pos rfl, if_pos rfl, Nat.add_assoc]
theorem sft_s : ∀ j, j < 4 → ¬ og_sft j < 0 ∧ og_sft j + (-8) = og_sft (j + 1) := by decide
theorem cFour {Γ : OgG} {Q : OgC → Prop} {x : Int32} {σ : OgC} (n : Nat) (hn : n + 4 ≤ 400) (h : σ.I 0 10 = nI n) (K : Q (og_fC x n σ 4)) : wX0_four Γ Q x σ := by
  refine for2 4 og_sft (og_fC x n σ) (fun _ => True) (fun K' k hk _ hK => ?_) trivial
  by_cases e : k = 4
  · subst e
    exact ⟨fun _ => K, fun g => absurd (by decide) g⟩
  · have hs := sft_s k (by omega)
    have hf := fC_n x n σ h k
    refine ⟨fun g => absurd g hs.1, fun _ => ⟨vp_inN hf (by omega) (by decide), fun s2 e2 s3 e3 x4 e4 => ?_⟩⟩
    subst e2 e3 e4
    rw [C_II, if_neg (by decide), hf, nI_clamp (by omega), hs.2, show nI (n + k) + 1 = nI (n + k + 1) from nI_add (n + k) 1]
    exact hK (by omega) trivial
theorem mFour {Q : OgS → Prop} {x : Int32} {σ : OgS} (n : Nat) (hn : n + 4 ≤ 400) (h : σ.I 0 13 = nI n) (K : Q (og_fM x n σ 4)) : wX5_four Q x σ := by
  refine for2 4 og_sft (og_fM x n σ) (fun _ => True) (fun K' k hk _ hK => ?_) trivial
  by_cases e : k = 4
  · subst e
    exact ⟨fun _ => K, fun g => absurd (by decide) g⟩
  · have hs := sft_s k (by omega)
    have hf := fM_n x n σ h k
    refine ⟨fun g => absurd g hs.1, fun _ => ⟨vp_inN hf (by omega) (by decide), fun s2 e2 s3 e3 x4 e4 => ?_⟩⟩
    subst e2 e3 e4
    rw [S_II, if_neg (by decide), hf, nI_clamp (by omega), hs.2, show nI (n + k) + 1 = nI (n + k + 1) from nI_add (n + k) 1]
    exact hK (by omega) trivial
theorem by_rng (x : Int32) : 0 ≤ (x &&& 255).toInt ∧ (x &&& 255).toInt ≤ 255 := by
  obtain ⟨n, hn, rfl⟩ := wb_of32 x
  have e : nI n &&& 255 = nI (n &&& 255) := nx_and n 255
  have : n &&& 255 < 256 := Nat.lt_of_le_of_lt Nat.and_le_right (by decide)
  rw [e, nI_toInt (by omega)]
  omega
theorem by_eq (x : Int32) : x.toInt8.toInt32.toInt8.toInt32 = (x &&& 255).toInt8.toInt32 := by
  rw [fa_byte_low]
  congr 1
  simp
theorem Sy.four {α0 α : Nat → Int32} {σM0 σM : OgS} {σC0 σC : OgC} (x : Int32) (n : Nat) (hn : n + 4 ≤ 400) (h : Sy α0 σM0 σC0 α σM σC) : ∀ j, j ≤ 4 → ∃ α', Sy α0 σM0 σC0 α' (og_fM x n σM j) (og_fC x n σC j)
  | 0, _ => ⟨α, h⟩
  | j + 1, hj => by
    obtain ⟨α', h'⟩ := Sy.four x n hn h j (by omega)
    exact ⟨_, h'.byte (n + j) (by omega) _ _ (by_eq _) (by_rng _).1 (by_rng _).2⟩
theorem pFeed {Γ : OgG} {α : Nat → Int32} {σM : OgS} {σC : OgC} {a b c d e : Int32} {Q : Int32 → Int32 → OgC → OgS → Prop} (h : Row α σM σC) (ht : Tape σM σC) (K : ∀ (r : Int32) (α' : Nat → Int32) (σC' : OgC) (σM' : OgS), Sy α σM σC α' σM' σC' → Q r r σC' σM') : wX0_feed Γ (fun r σC' => wX5_feed (fun r' σM' => Q r r' σC' σM') a b c d e σM) a b c d e σC := by
  have hS := Sy.of ((St.rf h).thrown 0) ht
  obtain ⟨n, hn, hα⟩ := h.2.2.2.nat 213 (hi := 400) rfl
  have hC : σC.I 0 10 = nI n := (h.2.1.at 21 rfl 0 (by omega) rfl rfl).trans hα
  have hM : (σM.sI 0 0 0).I 0 13 = nI n := ((h.1.2.1 13 (by decide)).trans hα)
  have hle : nI n + 20 ≤ 400 ↔ n + 20 ≤ 400 := by
    rw [show nI n + 20 = nI (n + 20) from nI_add n 20, fa_le, nI_toInt (by omega)]
    show _ ≤ (400 : Int) ↔ _
    omega
  unfold wX0_feed wX5_feed
  simp only [forall_eq]
  rw [hC, hM, hle]
  by_cases g : n + 20 ≤ 400
  · refine ⟨fun _ => ?_, fun e => absurd g e⟩
    obtain ⟨α1, h1⟩ := Sy.four a n (by omega) hS 4 (by omega)
    have c1 := fC_n a n σC hC 4
    have m1 := fM_n a n (σM.sI 0 0 0) hM 4
    obtain ⟨α2, h2⟩ := Sy.four b (n + 4) (by omega) h1 4 (by omega)
    have c2 := fC_n b _ _ c1 4
    have m2 := fM_n b _ _ m1 4
    obtain ⟨α3, h3⟩ := Sy.four c (n + 4 + 4) (by omega) h2 4 (by omega)
    have c3 := fC_n c _ _ c2 4
    have m3 := fM_n c _ _ m2 4
    obtain ⟨α4, h4⟩ := Sy.four d (n + 4 + 4 + 4) (by omega) h3 4 (by omega)
    have c4 := fC_n d _ _ c3 4
    have m4 := fM_n d _ _ m3 4
    obtain ⟨α5, h5⟩ := Sy.four e (n + 4 + 4 + 4 + 4) (by omega) h4 4 (by omega)
    have c5 := fC_n e _ _ c4 4
    have m5 := fM_n e _ _ m4 4
    refine cFour n (by omega) hC (cFour _ (by omega) c1 (cFour _ (by omega) c2 (cFour _ (by omega) c3 (cFour _ (by omega) c4 ⟨fun _ => ?_, fun e => absurd g e⟩))))
    refine mFour n (by omega) hM (mFour _ (by omega) m1 (mFour _ (by omega) m2 (mFour _ (by omega) m3 (mFour _ (by omega) m4 ?_))))
    rw [c5, m5]
    exact K _ _ _ _ h5
  · exact ⟨fun e => absurd e g, fun _ => ⟨fun e => absurd e g, fun _ => K _ _ _ _ hS⟩⟩
theorem pEnd {Γ : OgG} {α : Nat → Int32} {σM : OgS} {σC : OgC} {x : Int32} {Q : Int32 → Int32 → OgC → OgS → Prop} (h : Row α σM σC) (K : ∀ (r : Int32) (α' : Nat → Int32) (σC' : OgC) (σM' : OgS), St α σM σC α' σM' σC' → Q r r σC' σM') : wX0_end Γ (fun r σC' => wX5_end (fun r' σM' => Q r r' σC' σM') x σM) x σC := by
  have hS := (St.rf h).thrown 0
  obtain ⟨n, hn, hα⟩ := h.2.2.2.nat 213 (hi := 400) rfl
  have hC : σC.I 0 10 = nI n := (h.2.1.at 21 rfl 0 (by omega) rfl rfl).trans hα
  have hM : (σM.sI 0 0 0).I 0 13 = nI n := ((h.1.2.1 13 (by decide)).trans hα)
  unfold wX0_end wX5_end
  simp only [forall_eq]
  rw [hC, hM]
  by_cases g : x < 0
  · exact ⟨fun _ => ⟨fun _ => K _ _ _ _ hS, fun e => absurd g e⟩, fun e => absurd g e⟩
  · by_cases g2 : x ≤ nI n
    · have g0 : 0 ≤ x := by
        rw [fa_lt] at g
        rw [fa_le]
        omega
      obtain ⟨m, hm, rfl⟩ := i_nat (by omega) g0 g2
      refine ⟨fun e => absurd e g, fun _ => ⟨fun _ => ⟨fun e => absurd e g, fun _ => ⟨fun _ => ?_, fun e => absurd g2 e⟩⟩, fun e => absurd g2 e⟩⟩
      exact K _ _ _ _ ⟨hS.1.taped m (by omega), hS.2.1.put 0 10 _ (by decide), hS.2.2.1.put 0 13 _ (Or.inl (by decide)), hS.2.2.2.al 213 _ (by decide)⟩
    · exact ⟨fun e => absurd e g, fun _ => ⟨fun e => absurd e g2, fun _ => ⟨fun e => absurd e g, fun _ => ⟨fun e => absurd e g2, fun _ => K _ _ _ _ hS⟩⟩⟩⟩
