/-! ===== loops by a relation that each round hands on ===== -/
theorem forE1 {α : Type} {B : (α → Prop) → α → Prop} (n : Nat) (R : Nat → α → Prop) (h : ∀ (K : α → Prop) k a, k ≤ n → R k a → (∀ a, k < n → R (k + 1) a → K a) → B K a) {a : α} (r : R 0 a) : og_lp1 B a :=
  og_lp1_intro (fun m x => ∃ k, k ≤ n ∧ m = n - k ∧ R k x) (fun K m x hx hk => by
    obtain ⟨k, hkn, rfl, pk⟩ := hx
    exact h K k x hkn pk (fun a h1 h2 => hk (n - (k + 1)) a (by omega) ⟨k + 1, by omega, rfl, h2⟩)) n a ⟨0, by omega, rfl, r⟩
theorem forE2 {α β : Type} {B : (α → β → Prop) → α → β → Prop} (n : Nat) (R : Nat → α → β → Prop) (h : ∀ (K : α → β → Prop) k a b, k ≤ n → R k a b → (∀ a b, k < n → R (k + 1) a b → K a b) → B K a b) {a : α} {b : β} (r : R 0 a b) : og_lp2 B a b :=
  og_lp2_intro (fun m x y => ∃ k, k ≤ n ∧ m = n - k ∧ R k x y) (fun K m x y hx hk => by
    obtain ⟨k, hkn, rfl, pk⟩ := hx
    exact h K k x y hkn pk (fun a b h1 h2 => hk (n - (k + 1)) a b (by omega) ⟨k + 1, by omega, rfl, h2⟩)) n a b ⟨0, by omega, rfl, r⟩
theorem forE3 {α β γ : Type} {B : (α → β → γ → Prop) → α → β → γ → Prop} (n : Nat) (R : Nat → α → β → γ → Prop) (h : ∀ (K : α → β → γ → Prop) k a b c, k ≤ n → R k a b c → (∀ a b c, k < n → R (k + 1) a b c → K a b c) → B K a b c) {a : α} {b : β} {c : γ} (r : R 0 a b c) : og_lp3 B a b c :=
  og_lp3_intro (fun m x y z => ∃ k, k ≤ n ∧ m = n - k ∧ R k x y z) (fun K m x y z hx hk => by
    obtain ⟨k, hkn, rfl, pk⟩ := hx
    exact h K k x y z hkn pk (fun a b c h1 h2 => hk (n - (k + 1)) a b c (by omega) ⟨k + 1, by omega, rfl, h2⟩)) n a b c ⟨0, by omega, rfl, r⟩
theorem forE4 {α β γ δ : Type} {B : (α → β → γ → δ → Prop) → α → β → γ → δ → Prop} (n : Nat) (R : Nat → α → β → γ → δ → Prop) (h : ∀ (K : α → β → γ → δ → Prop) k a b c d, k ≤ n → R k a b c d → (∀ a b c d, k < n → R (k + 1) a b c d → K a b c d) → B K a b c d) {a : α} {b : β} {c : γ} {d : δ} (r : R 0 a b c d) : og_lp4 B a b c d :=
  og_lp4_intro (fun m x y z u => ∃ k, k ≤ n ∧ m = n - k ∧ R k x y z u) (fun K m x y z u hx hk => by
    obtain ⟨k, hkn, rfl, pk⟩ := hx
    exact h K k x y z u hkn pk (fun a b c d h1 h2 => hk (n - (k + 1)) a b c d (by omega) ⟨k + 1, by omega, rfl, h2⟩)) n a b c d ⟨0, by omega, rfl, r⟩
/-! ===== forts out of the tape ===== -/
def og_come (α : Nat → Int32) (n : Nat) (x y : Int32) : Nat → Int32 := upd (upd (upd (upd (upd α (31 + n) y) (13 + n) x) (19 + n) 0) (25 + n) 0) 0 (nI n + 1)
def og_comC (σ : OgC) (n : Nat) (x y : Int32) : OgC := ((((σ.sI 7 n y).sI 4 n x).sI 5 n 0).sI 3 3 ((σ.I 3 3) &&& (((1 : Int32) <<< (nI n &&& 31)) ^^^ (-1 : Int32)))).sI 2 11 (nI n + 1)
def og_comM (σ : OgS) (n : Nat) (x y : Int32) : OgS := (((((σ.sI 2 (13 + n) x).sI 2 (31 + n) y).sI 2 (19 + n) 0).sI 2 (25 + n) 0).sI 2 0 (nI n + 1)).sI 0 8 0
theorem cAddsC {Γ : OgG} {Q : OgC → Prop} {x y : Int32} {σ : OgC} (n : Nat) (hn : n < 6) (hf : σ.I 2 11 = nI n) (h : Q (og_comC σ n x y)) : wX0_adds Γ Q x y σ := cAdds n hn hf h
theorem FlF.come {α : Nat → Int32} {σ : OgC} (h : FlF α σ) {n : Nat} (hn : n < 6) (x y : Int32) : FlF (og_come α n x y) (og_comC σ n x y) :=
  ((((((h.set 11 rfl n (by omega) (Nat.zero_add n) rfl y).set 9 rfl n (by omega) (Nat.zero_add n) rfl x).set 10 rfl n (by omega) (Nat.zero_add n) rfl 0).skip2 (by decide) _).al (25 + n) 0 (og_takenj (by omega))).set 0 rfl 0 (by omega) rfl rfl _)
theorem FlK.come {α : Nat → Int32} {σ : OgC} (h : FlK α σ) {n : Nat} (hn : n < 6) (x y : Int32) : FlK (og_come α n x y) (og_comC σ n x y) := by
  have k3 : FlK (upd (upd (upd α (31 + n) y) (13 + n) x) (19 + n) 0) (((σ.sI 7 n y).sI 4 n x).sI 5 n 0) := (((((h.al (31 + n) y (by omega)).al (13 + n) x (by omega)).al (19 + n) 0 (by omega)).sI 7 n y (Or.inl (by decide))).sI 4 n x (Or.inl (by decide))).sI 5 n 0 (Or.inl (by decide))
  have k4 := k3.clear (n := n) (by omega)
  have e33 : (((σ.sI 7 n y).sI 4 n x).sI 5 n 0).I 3 3 = σ.I 3 3 := by
    rw [C_II, if_neg (by decide), C_II, if_neg (by decide), C_II, if_neg (by decide)]
  rw [e33] at k4
  exact (k4.al 0 _ (by omega)).sI 2 11 _ (Or.inl (by decide))
theorem FlM.come {α : Nat → Int32} {σ : OgS} (h : FlM α σ) {n : Nat} (hn : n < 6) (x y : Int32) : FlM (upd (og_come α n x y) 208 0) (og_comM σ n x y) := by
  unfold og_come
  rw [fa_upd_swap α (show 31 + n ≠ 13 + n by omega)]
  exact (((((h.row (by omega) (by omega) x).row (by omega) (by omega) y).row (by omega) (by omega) 0).row (by omega) (by omega) 0).row (by omega) (by omega) _).fld 8 (by omega) 0
theorem Rng.come {α : Nat → Int32} (h : Rng α) {n : Nat} (hn : n < 6) {x y : Int32} (hx : 0 ≤ x.toInt ∧ x.toInt ≤ 99) (hy : 0 ≤ y.toInt ∧ y.toInt ≤ 3) : Rng (og_come α n x y) := by
  have hs := i_succ (n := n) (by omega)
  exact (((((h.set (31 + n) y (bd_gen (by omega)) hy.1 hy.2).set (13 + n) x (bd_men (by omega)) hx.1 hx.2).set (19 + n) 0 (bd_shown (by omega)) (by decide) (by decide)).set (25 + n) 0 (bd_taken (by omega)) (by decide) (by decide)).set 0 _ (lo := 0) (hi := 6) rfl (by omega) (by omega))
theorem OnlyC.come {σ σ' : OgC} (h : OnlyC σ σ') (n : Nat) (x y : Int32) : OnlyC σ (og_comC σ' n x y) :=
  ((((h.put 7 n y (by decide)).put 4 n x (by decide)).put 5 n 0 (by decide)).put 3 3 _ (by decide)).put 2 11 _ (by decide)
theorem OnlyM.come {σ σ' : OgS} (h : OnlyM σ σ') {n : Nat} (hn : n < 6) (x y : Int32) : OnlyM σ (og_comM σ' n x y) :=
  (((((h.put 2 (13 + n) x (Or.inr ⟨rfl, by omega⟩)).put 2 (31 + n) y (Or.inr ⟨rfl, by omega⟩)).put 2 (19 + n) 0 (Or.inr ⟨rfl, by omega⟩)).put 2 (25 + n) 0 (Or.inr ⟨rfl, by omega⟩)).put 2 0 _ (Or.inr ⟨rfl, by omega⟩)).put 0 8 0 (Or.inl (by decide))
/-- a byte of the tape, signed and unsigned -/
theorem by_in {u : Int32} (h0 : 0 ≤ u.toInt) (h1 : u.toInt ≤ 255) {c : Int} (hc : c ≤ 127) : ((0 ≤ u.toInt8.toInt32.toInt ∧ u.toInt8.toInt32.toInt ≤ c) ↔ u.toInt ≤ c) ∧ (u.toInt ≤ c → u.toInt8.toInt32 = u) := by
  obtain ⟨n, hn, rfl⟩ := og_nat (hi := 255) h0 h1
  rw [nI_toInt (by omega)]
  by_cases g : n < 128
  · rw [fa_byte_small g, nI_toInt (by omega)]
    exact ⟨by omega, fun _ => rfl⟩
  · have key : ∀ j : Fin 128, (nI (128 + j.val)).toInt8.toInt32.toInt < 0 := by decide +kernel
    have := key ⟨n - 128, by omega⟩
    rw [show 128 + (n - 128) = n by omega] at this
    exact ⟨by omega, by omega⟩
/-- pairs of the tape that come: the row behind j of them, how many came -/
def og_rowS (tp : Nat → Int32) (α : Nat → Int32) : Nat → (Nat → Int32) × Nat := fun j => j.rec (α, 0) (fun j s =>
  if (s.1 0).toInt < 6 ∧ (tp (2 * j)).toInt ≤ 99 ∧ (tp (2 * j + 1)).toInt ≤ 3 then (og_come s.1 (s.1 0).toNatClampNeg (tp (2 * j)) (tp (2 * j + 1)), s.2 + 1) else s)
theorem rowS_s (tp α : Nat → Int32) (j : Nat) : og_rowS tp α (j + 1) = if ((og_rowS tp α j).1 0).toInt < 6 ∧ (tp (2 * j)).toInt ≤ 99 ∧ (tp (2 * j + 1)).toInt ≤ 3 then (og_come (og_rowS tp α j).1 ((og_rowS tp α j).1 0).toNatClampNeg (tp (2 * j)) (tp (2 * j + 1)), (og_rowS tp α j).2 + 1) else og_rowS tp α j := rfl
theorem rowS_le (tp α : Nat → Int32) : ∀ j, (og_rowS tp α j).2 ≤ j
  | 0 => Nat.le_refl 0
  | j + 1 => by
    rw [rowS_s]
    have := rowS_le tp α j
    split
    · show _ + 1 ≤ _; omega
    · omega
theorem rowS_rng {tp α : Nat → Int32} (h : Rng α) (N : Nat) (ht : ∀ k, k < 2 * N → 0 ≤ (tp k).toInt) : ∀ j, j ≤ N → Rng (og_rowS tp α j).1
  | 0, _ => h
  | j + 1, hj => by
    rw [rowS_s]
    have hr := rowS_rng h N ht j (by omega)
    split
    · rename_i c
      obtain ⟨n, hn, e⟩ := hr.nat 0 (hi := 6) rfl
      rw [e, nI_toInt (by omega)] at c
      rw [e, nI_clamp (by omega)]
      exact hr.come (by omega) ⟨ht _ (by omega), c.2.1⟩ ⟨ht _ (by omega), c.2.2⟩
    · exact hr
theorem TkZ.come {α : Nat → Int32} (ht : TkZ α) {n : Nat} (hn : n < 6) (hα : α 0 = nI n) (x y : Int32) : TkZ (og_come α n x y) := by
  intro f hf h0
  unfold og_come at h0 ⊢
  have hs := i_succ (n := n) (by omega)
  rw [pk_us] at h0
  rw [pk_un (by omega)]
  by_cases e : f = n
  · omega
  · rw [pk_un (by omega), pk_un (by omega), pk_un (by omega), pk_un (by omega)]
    exact ht f hf (by rw [hα, nI_toInt (by omega)]; omega)
theorem rowS_tk {tp α : Nat → Int32} (h : Rng α) (ht : TkZ α) (N : Nat) (hT : ∀ k, k < 2 * N → 0 ≤ (tp k).toInt) : ∀ j, j ≤ N → TkZ (og_rowS tp α j).1
  | 0, _ => ht
  | j + 1, hj => by
    rw [rowS_s]
    have hr := rowS_rng h N hT j (by omega)
    have ih := rowS_tk h ht N hT j (by omega)
    split
    · rename_i c
      obtain ⟨n, hn, e⟩ := hr.nat 0 (hi := 6) rfl
      rw [e, nI_toInt (by omega)] at c
      rw [e, nI_clamp (by omega)]
      exact ih.come (by omega) e _ _
    · exact ih
theorem come_out (α : Nat → Int32) (n : Nat) (hn : n < 6) (x y : Int32) (q : Nat) (hq : 150 ≤ q ∨ q = 5) : og_come α n x y q = α q := by
  unfold og_come
  rw [pk_un (by omega), pk_un (by omega), pk_un (by omega), pk_un (by omega), pk_un (by omega)]
theorem come_upd (α : Nat → Int32) (n : Nat) (hn : n < 6) (x y : Int32) (q : Nat) (v : Int32) (hq : 150 ≤ q) : og_come (upd α q v) n x y = upd (og_come α n x y) q v := by
  unfold og_come
  rw [fa_upd_swap α (show q ≠ 31 + n by omega), fa_upd_swap _ (show q ≠ 13 + n by omega), fa_upd_swap _ (show q ≠ 19 + n by omega), fa_upd_swap _ (show q ≠ 25 + n by omega), fa_upd_swap _ (show q ≠ 0 by omega)]
theorem rowS_out (tp : Nat → Int32) {α : Nat → Int32} (h : Rng α) (N : Nat) (ht : ∀ k, k < 2 * N → 0 ≤ (tp k).toInt) (q : Nat) (hq : 150 ≤ q ∨ q = 5) : ∀ j, j ≤ N → (og_rowS tp α j).1 q = α q
  | 0, _ => rfl
  | j + 1, hj => by
    have hr := rowS_rng (tp := tp) h N ht j (by omega)
    have ih := rowS_out tp h N ht q hq j (by omega)
    rw [rowS_s]
    split
    · rename_i c
      obtain ⟨n, hn, e⟩ := hr.nat 0 (hi := 6) rfl
      rw [e, nI_toInt (by omega)] at c
      rw [e, nI_clamp (by omega)]
      show og_come _ _ _ _ q = _
      rw [come_out _ _ (by omega) _ _ _ hq, ih]
    · exact ih
theorem cRowL {Γ : OgG} {Q : Int32 → OgC → Prop} {α : Nat → Int32} {σ0 σ : OgC} {tp : Nat → Int32} {s : Nat} (hs : s ≤ 400) (hF : FlF (upd α 211 (nI (s % 2))) σ) (hK : FlK α σ) (hR : Rng α) (hO : OnlyC σ0 σ) (ht : ∀ k, k < 400 → σ0.I 27 k = (tp k).toInt8.toInt32 ∧ 0 ≤ (tp k).toInt ∧ (tp k).toInt ≤ 255)
    (K : ∀ σ', FlF (upd (og_rowS tp α (s / 2)).1 211 (nI (s % 2 + (s / 2 - (og_rowS tp α (s / 2)).2)))) σ' → FlK (og_rowS tp α (s / 2)).1 σ' → OnlyC σ0 σ' → wX0_settled Γ Q (nI (og_rowS tp α (s / 2)).2) σ') : wX0_row_32 Γ Q (nI s) (nI 0) (nI 0) σ := by
  refine forE3 (s / 2) (fun j x2 x3 σ => x2 = nI (og_rowS tp α j).2 ∧ x3 = nI (2 * j) ∧ FlF (upd (og_rowS tp α j).1 211 (nI (s % 2 + (j - (og_rowS tp α j).2)))) σ ∧ FlK (og_rowS tp α j).1 σ ∧ OnlyC σ0 σ) (fun K' j x2 x3 σ hj hr hK' => ?_) ⟨rfl, rfl, hF, hK, hO⟩
  obtain ⟨e2, e3, hF, hK, hO⟩ := hr
  have hle := rowS_le tp α j
  have hrg := rowS_rng (tp := tp) hR (s / 2) (fun k hk => (ht k (by omega)).2.1) j hj
  obtain ⟨n, hn, hα⟩ := hrg.nat 0 (hi := 6) rfl
  have hC : σ.I 2 11 = nI n := by
    rw [hF.at 0 rfl 0 (by omega) rfl rfl (q := 0), pk_un (by omega), hα]
  have hB : σ.I 0 12 = nI (s % 2 + (j - (og_rowS tp α j).2)) := by
    rw [hF.at 23 rfl 0 (by omega) rfl rfl (q := 211), pk_us]
  subst e2 e3
  have e22 : nI (2 * j) + 2 = nI (2 * j + 2) := nI_add (2 * j) 2
  have e21 : nI (2 * j) + 1 = nI (2 * j + 1) := nI_add (2 * j) 1
  have lt : nI s < nI (2 * j + 2) ↔ s < 2 * j + 2 := by
    rw [fa_lt, nI_toInt (by omega), nI_toInt (by omega)]
    omega
  unfold wX0_row_B32
  rw [e22, lt]
  by_cases ge : s < 2 * j + 2
  · have ej : s / 2 = j := by omega
    refine ⟨fun _ => ?_, fun g => absurd ge g⟩
    have := K σ
    rw [ej] at this
    exact this hF hK hO
  refine ⟨fun g => absurd g ge, fun _ => ?_⟩
  have t1 := ht (2 * j) (by omega)
  have t2 := ht (2 * j + 1) (by omega)
  have i1 := by_in (c := 99) t1.2.1 t1.2.2 (by decide)
  have i2 := by_in (c := 3) t2.2.1 t2.2.2 (by decide)
  have c1 : σ.I 27 (2 * j) = (tp (2 * j)).toInt8.toInt32 := by rw [hO.2.2 27 (by decide), t1.1]
  have c2 : σ.I 27 (2 * j + 1) = (tp (2 * j + 1)).toInt8.toInt32 := by rw [hO.2.2 27 (by decide), t2.1]
  have le6 : (6 : Int32) ≤ nI n ↔ n = 6 := by
    rw [fa_le, nI_toInt (by omega)]
    show (6 : Int) ≤ _ ↔ _
    omega
  have hcl : ((og_rowS tp α j).1 0).toInt = n := by rw [hα, nI_toInt (by omega)]
  have skip : ¬ (n < 6 ∧ (tp (2 * j)).toInt ≤ 99 ∧ (tp (2 * j + 1)).toInt ≤ 3) → wX0_row_75 Γ Q K' (nI s) (nI (og_rowS tp α j).2) (nI (2 * j)) σ := by
    intro g
    have es : og_rowS tp α (j + 1) = og_rowS tp α j := by
      rw [rowS_s, hcl, if_neg (by omega)]
    unfold wX0_row_75 wX0_row_76
    refine ⟨fun _ => ?_, fun e => absurd rfl e⟩
    unfold wX0_row_101
    refine ⟨fun _ => ?_, fun e => absurd rfl e⟩
    intro v1 f1
    refine ⟨fun _ => ?_, fun e => absurd rfl e⟩
    intro s1 g1 x3 g3
    subst f1 g1 g3
    refine hK' _ _ _ (by omega) ?_
    rw [es, e22, hB, show nI (s % 2 + (j - (og_rowS tp α j).2)) + 1 = nI (s % 2 + (j - (og_rowS tp α j).2) + 1) from nI_add _ 1]
    refine ⟨?_, rfl, ?_, hK.sI 0 12 _ (Or.inl (by decide)), hO.put 0 12 _ (by decide)⟩
    · simp
    · have := hF.set 23 rfl 0 (by omega) rfl rfl (nI (s % 2 + (j - (og_rowS tp α j).2) + 1))
      rw [fa_upd_twice] at this
      rw [show s % 2 + (j + 1 - (og_rowS tp α j).2) = s % 2 + (j - (og_rowS tp α j).2) + 1 by omega]
      exact this
  rw [hC, le6]
  by_cases g6 : n = 6
  · exact ⟨fun _ => skip (by omega), fun g => absurd g6 g⟩
  refine ⟨fun g => absurd g g6, fun _ => ⟨vp_in_nI (by omega) (by decide), ?_⟩⟩
  rw [e21]
  refine ⟨vp_in_nI (by omega) (by decide), ?_⟩
  rw [nI_clamp (by omega), nI_clamp (by omega), c1, c2]
  refine cCanBe (fun a b c d => ⟨fun e => absurd e (by decide), fun _ => ?_⟩) (fun g => ⟨fun _ => skip ?_, fun e => absurd rfl e⟩)
  · rw [fa_le] at a b c d
    have l1 := i1.1.mp ⟨a, b⟩
    have l2 := i2.1.mp ⟨c, d⟩
    unfold wX0_row_76
    refine ⟨fun e => absurd e (by decide), fun _ => ⟨vp_in_nI (by omega) (by decide), ?_⟩⟩
    rw [e21]
    refine ⟨vp_in_nI (by omega) (by decide), ?_⟩
    rw [nI_clamp (by omega), nI_clamp (by omega), c1, c2, i1.2 l1, i2.2 l2]
    refine cAddsC n (by omega) hC ?_
    have es : og_rowS tp α (j + 1) = (og_come (og_rowS tp α j).1 n (tp (2 * j)) (tp (2 * j + 1)), (og_rowS tp α j).2 + 1) := by
      rw [rowS_s, hcl, if_pos (by omega), hα, nI_clamp (by omega)]
    unfold wX0_row_101
    refine ⟨fun e => absurd e (by decide), fun _ => ?_⟩
    intro v1 f1
    refine ⟨fun e => absurd e (by decide), fun _ => ?_⟩
    intro s1 g1 x3 g3
    subst f1 g1 g3
    have hF' := hF.come (n := n) (by omega) (tp (2 * j)) (tp (2 * j + 1))
    have hB' : (og_comC σ n (tp (2 * j)) (tp (2 * j + 1))).I 0 12 = nI (s % 2 + (j - (og_rowS tp α j).2)) := by
      rw [hF'.at 23 rfl 0 (by omega) rfl rfl (q := 211), come_upd _ _ (by omega) _ _ _ _ (by omega), pk_us]
    refine hK' _ _ _ (by omega) ?_
    rw [es, e22, hB', show nI (og_rowS tp α j).2 + 1 = nI ((og_rowS tp α j).2 + 1) from nI_add _ 1]
    refine ⟨rfl, rfl, ?_, (hK.come (by omega) _ _).sI 0 12 _ (Or.inl (by decide)), (hO.come _ _ _).put 0 12 _ (by decide)⟩
    have := hF'.set 23 rfl 0 (by omega) rfl rfl (nI (s % 2 + (j - (og_rowS tp α j).2)) + 0)
    rw [come_upd _ _ (by omega) _ _ _ _ (by omega), fa_upd_twice] at this
    show FlF (upd (og_come (og_rowS tp α j).1 n (tp (2 * j)) (tp (2 * j + 1))) 211 (nI (s % 2 + (j + 1 - ((og_rowS tp α j).2 + 1))))) _
    rw [show s % 2 + (j + 1 - ((og_rowS tp α j).2 + 1)) = s % 2 + (j - (og_rowS tp α j).2) by omega]
    have e0 : nI (s % 2 + (j - (og_rowS tp α j).2)) + 0 = nI (s % 2 + (j - (og_rowS tp α j).2)) := nI_add _ 0
    rw [e0] at this
    rw [e0]
    exact this
  · rw [fa_le, fa_le, fa_le, fa_le] at g
    intro z
    exact g ⟨i1.1.mpr z.2.1, i2.1.mpr z.2.2⟩

theorem mRowL {Q : Int32 → OgS → Prop} {α : Nat → Int32} {σ0 σ : OgS} {s : Nat} (hs : s ≤ 400) (hF : FlM (upd α 211 (nI 0)) σ) (hR : Rng α) (hO : OnlyM σ0 σ) (ht : ∀ k, k < 400 → 0 ≤ (σ0.I 9 k).toInt ∧ (σ0.I 9 k).toInt ≤ 255)
    (K : ∀ σ', FlM (upd (upd (og_rowS (σ0.I 9) α (s / 2)).1 211 (nI (s % 2 + (s / 2 - (og_rowS (σ0.I 9) α (s / 2)).2)))) 208 0) σ' → OnlyM σ0 σ' → wX5_tell Q (nI (og_rowS (σ0.I 9) α (s / 2)).2) σ') : wX5_row_35 Q (nI s) (nI 0) (nI 0) σ := by
  have key : ∀ (K' : Int32 → Int32 → OgS → Prop) (σ : OgS) (b : Nat), FlM (upd (og_rowS (σ0.I 9) α (s / 2)).1 211 (nI (s % 2 + (s / 2 - (og_rowS (σ0.I 9) α (s / 2)).2)))) σ ∨ (∃ u, FlM (upd (upd (og_rowS (σ0.I 9) α (s / 2)).1 211 (nI (s % 2 + (s / 2 - (og_rowS (σ0.I 9) α (s / 2)).2)))) 208 u) σ) → OnlyM σ0 σ → s ≤ b → b < 1000 → wX5_row_B35 Q (nI s) K' (nI (og_rowS (σ0.I 9) α (s / 2)).2) (nI b) σ := by
    intro K' σ b hF hO hb hb2
    have le : nI s ≤ nI b := by
      rw [fa_le, nI_toInt (by omega), nI_toInt (by omega)]
      omega
    refine ⟨fun _ s2 e2 => ?_, fun g => absurd le g⟩
    subst e2
    refine K _ ?_ (hO.put 0 8 0 (Or.inl (by decide)))
    rcases hF with hF | ⟨u, hF⟩
    · exact hF.fld 8 (by omega) 0
    · have := hF.fld 8 (by omega) 0
      rw [fa_upd_twice] at this
      exact this
  -- rounds: the pairs, then an odd byte
  refine forE3 (s / 2 + s % 2) (fun j x2 x3 σ => x3 = nI (2 * j) ∧ OnlyM σ0 σ ∧ ((j ≤ s / 2 ∧ x2 = nI (og_rowS (σ0.I 9) α j).2 ∧ ∃ u, FlM (upd (upd (og_rowS (σ0.I 9) α j).1 211 (nI (j - (og_rowS (σ0.I 9) α j).2))) 208 u) σ) ∨ (s / 2 < j ∧ x2 = nI (og_rowS (σ0.I 9) α (s / 2)).2 ∧ ∃ u, FlM (upd (upd (og_rowS (σ0.I 9) α (s / 2)).1 211 (nI (s % 2 + (s / 2 - (og_rowS (σ0.I 9) α (s / 2)).2)))) 208 u) σ))) (fun K' j x2 x3 σ hj hr hK' => ?_) ⟨rfl, hO, Or.inl ⟨Nat.zero_le _, rfl, (upd α 211 (nI 0)) 208, by rw [show upd (upd (og_rowS (σ0.I 9) α 0).1 211 (nI (0 - (og_rowS (σ0.I 9) α 0).2))) 208 ((upd α 211 (nI 0)) 208) = upd α 211 (nI 0) from fa_upd_same rfl]; exact hF⟩⟩
  obtain ⟨e3, hO, hr⟩ := hr
  subst e3
  rcases hr with ⟨hj2, e2, u, hF⟩ | ⟨hj2, e2, u, hF⟩
  · subst e2
    have hle := rowS_le (σ0.I 9) α j
    have hrg := rowS_rng (tp := σ0.I 9) hR (s / 2) (fun k hk => (ht k (by omega)).1) j hj2
    obtain ⟨n, hn, hα⟩ := hrg.nat 0 (hi := 6) rfl
    have hM : σ.I 2 0 = nI n := by
      rw [hF.1 0 (by omega) (by omega), pk_un (by omega), pk_un (by omega), hα]
    have hB : σ.I 0 11 = nI (j - (og_rowS (σ0.I 9) α j).2) := by
      rw [hF.2.1 11 (by decide), pk_un (by omega), pk_us]
    have e22 : nI (2 * j) + 2 = nI (2 * j + 2) := nI_add (2 * j) 2
    have e21 : nI (2 * j) + 1 = nI (2 * j + 1) := nI_add (2 * j) 1
    have le : nI s ≤ nI (2 * j) ↔ s ≤ 2 * j := by
      rw [fa_le, nI_toInt (by omega), nI_toInt (by omega)]
      omega
    have le1 : nI s ≤ nI (2 * j + 1) ↔ s ≤ 2 * j + 1 := by
      rw [fa_le, nI_toInt (by omega), nI_toInt (by omega)]
      omega
    by_cases g1 : s ≤ 2 * j
    · have ej : s / 2 = j := by omega
      have es : s % 2 = 0 := by omega
      subst ej
      refine key K' σ _ (Or.inr ⟨u, ?_⟩) hO (by omega) (by omega)
      rw [es, Nat.zero_add]
      exact hF
    unfold wX5_row_B35
    rw [le, e21, le1]
    refine ⟨fun g => absurd g g1, fun _ => ?_⟩
    have hF1 := hF.fld 11 (by omega) (nI (j - (og_rowS (σ0.I 9) α j).2 + 1))
    rw [fa_upd_swap _ (show 208 ≠ 200 + 11 by decide), fa_upd_twice] at hF1
    have eb : nI (j - (og_rowS (σ0.I 9) α j).2) + 1 = nI (j - (og_rowS (σ0.I 9) α j).2 + 1) := nI_add _ 1
    by_cases g2 : s ≤ 2 * j + 1
    · have ej : s / 2 = j := by omega
      have es : s % 2 = 1 := by omega
      refine ⟨fun _ => ?_, fun g => absurd g2 g⟩
      intro s1 f1 x3 f3
      subst f1 f3
      rw [hB, eb]
      refine hK' _ _ _ (by omega) ⟨by rw [e22]; rfl, hO.put 0 11 _ (Or.inl (by decide)), Or.inr ⟨by omega, ?_, u, ?_⟩⟩
      · rw [ej]
      · rw [es, ej, Nat.add_comm 1]
        exact hF1
    · refine ⟨fun g => absurd g g2, fun _ => ⟨vp_in_nI (by omega) (by decide), vp_in_nI (by omega) (by decide), ?_⟩⟩
      have hcl : ((og_rowS (σ0.I 9) α j).1 0).toInt = n := by rw [hα, nI_toInt (by omega)]
      have t1 := ht (2 * j) (by omega)
      have t2 := ht (2 * j + 1) (by omega)
      have z0 : (0 : Int32).toInt = 0 := by decide
      have z99 : (99 : Int32).toInt = 99 := by decide
      have z3 : (3 : Int32).toInt = 3 := by decide
      have skip : ∀ r : Int32, r < 0 → ¬ (n < 6 ∧ (σ0.I 9 (2 * j)).toInt ≤ 99 ∧ (σ0.I 9 (2 * j + 1)).toInt ≤ 3) → ((r < 0 → (wX5_row_74 Q K' (nI s) (nI (og_rowS (σ0.I 9) α j).2) (nI (2 * j)) σ)) ∧ (¬ r < 0 → (∀ x2_9 : Int32, x2_9 = nI (og_rowS (σ0.I 9) α j).2 + (1 : Int32) → (wX5_row_84 Q K' (nI s) x2_9 (nI (2 * j)) σ)))) := by
        intro r hr0 g
        have es : og_rowS (σ0.I 9) α (j + 1) = og_rowS (σ0.I 9) α j := by
          rw [rowS_s, hcl, if_neg (by omega)]
        refine ⟨fun _ => ?_, fun e => absurd hr0 e⟩
        intro s1 f1 x3 f3
        subst f1 f3
        rw [hB, eb]
        refine hK' _ _ _ (by omega) ⟨by rw [e22]; rfl, hO.put 0 11 _ (Or.inl (by decide)), Or.inl ⟨by omega, ?_, u, ?_⟩⟩
        · rw [es]
        · rw [es, show j + 1 - (og_rowS (σ0.I 9) α j).2 = j - (og_rowS (σ0.I 9) α j).2 + 1 by omega]
          exact hF1
      rw [nI_clamp (by omega), nI_clamp (by omega), hO.2.2.1 9 (by decide)]
      refine mCome n hn hM (fun g => skip (-1) (by decide) ?_) (fun _ g => skip (-5) (by decide) (by omega)) (fun c hlt => ?_)
      · simp only [fa_le, z0, z99, z3] at g
        omega
      · simp only [fa_le, z0, z99, z3] at c
        have es : og_rowS (σ0.I 9) α (j + 1) = (og_come (og_rowS (σ0.I 9) α j).1 n (σ0.I 9 (2 * j)) (σ0.I 9 (2 * j + 1)), (og_rowS (σ0.I 9) α j).2 + 1) := by
          rw [rowS_s, hcl, if_pos (by omega), hα, nI_clamp (by omega)]
        refine ⟨fun e => absurd e ?_, fun _ x2 f2 x3 f3 => ?_⟩
        · rw [fa_lt, nI_toInt (by omega)]
          show ¬ _ < (0 : Int)
          omega
        subst f2 f3
        refine hK' _ _ _ (by omega) ⟨by rw [e22]; rfl, hO.come hlt _ _, Or.inl ⟨by omega, ?_, 0, ?_⟩⟩
        · rw [es]
          exact nI_add _ 1
        · rw [es, show j + 1 - ((og_rowS (σ0.I 9) α j).2 + 1) = j - (og_rowS (σ0.I 9) α j).2 by omega]
          have := hF.come (n := n) hlt (σ0.I 9 (2 * j)) (σ0.I 9 (2 * j + 1))
          rw [come_upd _ _ hlt _ _ _ _ (by omega), come_upd _ _ hlt _ _ _ _ (by omega), fa_upd_twice] at this
          exact this
  · subst e2
    exact key K' σ _ (Or.inr ⟨u, hF⟩) hO (by omega) (by omega)
theorem pRow {Γ : OgG} {α : Nat → Int32} {σM : OgS} {σC : OgC} {Q : Int32 → Int32 → OgC → OgS → Prop} (h : Row α σM σC) (ht : Tape σM σC) (K : ∀ (r : Int32) (α' : Nat → Int32) (σC' : OgC) (σM' : OgS), St α σM σC α' σM' σC' → Q r r σC' σM') : wX0_row Γ (fun r σC' => wX5_row (fun r' σM' => Q r r' σC' σM') σM) σC := by
  have hS := (St.rf h).thrown 0
  obtain ⟨s, hs, hα⟩ := h.2.2.2.nat 213 (hi := 400) rfl
  have hC : σC.I 0 10 = nI s := (h.2.1.at 21 rfl 0 (by omega) rfl rfl).trans hα
  have hM : (σM.sI 0 0 0).I 0 13 = nI s := ((h.1.2.1 13 (by decide)).trans hα)
  have hT : St α σM σC (upd α 213 0) ((σM.sI 0 0 0).sI 0 13 0) (σC.sI 0 10 0) := ⟨hS.1.taped 0 (by omega), hS.2.1.put 0 10 0 (by decide), hS.2.2.1.put 0 13 0 (Or.inl (by decide)), hS.2.2.2.al 213 0 (by decide)⟩
  unfold wX0_row
  simp only [forall_eq]
  rw [hC]
  by_cases g : s = 0
  · have g' : nI s = 0 := by rw [g]; rfl
    refine ⟨fun e => absurd g' e, fun _ => cRefuse 6 (by decide) (by decide) ?_⟩
    unfold wX5_row
    simp only [forall_eq]
    rw [hM]
    exact ⟨fun e => absurd g' e, fun _ => hT.ref1 K (-6) 6 (by decide) (by decide) (by decide)⟩
  · have g' : ¬ nI s = 0 := fun e => g ((nI_eq (b := 0) (by omega) (by omega)).mp e)
    refine ⟨fun _ => ?_, fun e => absurd e g'⟩
    have hrg : Rng (upd α 213 0) := hT.1.2.2.2
    have tO : ∀ k, k < 2 * (s / 2) → 0 ≤ (σM.I 9 k).toInt := fun k hk => (ht k (by omega)).2.1
    have hle := rowS_le (σM.I 9) (upd α 213 0) (s / 2)
    have er : nI s - nI s / 2 * 2 = nI (s % 2) := pk_rem (d := 2) (by omega) (by decide) (by decide)
    rw [er]
    refine cRowL (α := upd α 213 0) (σ0 := σC) (tp := σM.I 9) hs ?_ ?_ hrg ?_ ht (fun σC' hF hK hO => cSettled ?_)
    · exact hT.1.2.1.set 23 rfl 0 (by omega) rfl rfl _
    · exact hT.1.2.2.1.sI 0 12 _ (Or.inl (by decide))
    · exact hT.2.1.put 0 12 _ (by decide)
    · unfold wX5_row
      simp only [forall_eq]
      rw [hM]
      refine ⟨fun _ => ?_, fun e => absurd e g'⟩
      refine mRowL (α := upd α 213 0) (σ0 := σM) hs ?_ hrg ?_ (fun k hk => (ht k hk).2) (fun σM' hFM hOM => mTell0 ?_ ?_)
      · exact hT.1.1.fld 11 (by omega) 0
      · exact hT.2.2.1.put 0 11 _ (Or.inl (by decide))
      · rw [fa_le, nI_toInt (by omega)]
        show (0 : Int) ≤ _
        omega
      · have hrf := rowS_rng (tp := σM.I 9) hrg (s / 2) tO (s / 2) (Nat.le_refl _)
        refine K _ (upd (upd (upd (og_rowS (σM.I 9) (upd α 213 0) (s / 2)).1 211 (nI (s % 2 + (s / 2 - (og_rowS (σM.I 9) (upd α 213 0) (s / 2)).2)))) 208 0) 201 0) _ _ ⟨⟨hFM.fld 1 (by omega) 0, (hF.set 25 rfl 0 (by omega) rfl rfl 0).set 20 rfl 0 (by omega) rfl rfl 0, ?_, ?_⟩, (hO.put 0 14 0 (by decide)).put 0 0 0 (by decide), hOM.put 0 1 0 (Or.inl (by decide)), ?_⟩
        · exact ((((hK.al 211 _ (by omega)).al 208 0 (by omega)).al 201 0 (by omega)).sI 0 14 0 (Or.inl (by decide))).sI 0 0 0 (Or.inl (by decide))
        · exact ((hrf.free 211 _ (by decide)).set 208 0 (lo := 0) (hi := 16) rfl (by decide) (by decide)).free 201 0 (by decide)
        · refine ⟨⟨Or.inl ?_, fun z => ?_⟩, ?_⟩
          · rw [pk_un (by omega), pk_us]
          · exact (((rowS_tk hrg (z.al 213 0 (by omega)) (s / 2) tO (s / 2) (Nat.le_refl _)).al 211 _ (by omega)).al 208 0 (by omega)).al 201 0 (by omega)
          · rw [pk_un (by omega), pk_un (by omega), pk_un (by omega), rowS_out (σM.I 9) hrg (s / 2) tO 5 (Or.inr rfl) (s / 2) (Nat.le_refl _), pk_un (by omega)]
