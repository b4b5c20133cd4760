/-! ===== the abstract row: cells of both sides by one numbering (the model's row up to 150; 200 + field; 300 + refusal) ===== -/
/-- families of the class's cells: (cell, first slot, first place of the row, how many) -/
def og_fam : List (Nat × Nat × Nat × Nat) := [(2, 11, 0, 1), (2, 14, 1, 1), (2, 12, 2, 1), (2, 13, 3, 1), (2, 17, 5, 1), (3, 4, 6, 1), (2, 15, 7, 1), (2, 16, 8, 1), (6, 0, 9, 4), (4, 0, 13, 6), (5, 0, 19, 6), (7, 0, 31, 6), (8, 0, 37, 6), (9, 0, 43, 6), (10, 0, 49, 6), (11, 0, 55, 36), (12, 0, 91, 10), (13, 0, 101, 6), (14, 0, 107, 16), (15, 0, 123, 24), (0, 0, 201, 1), (0, 10, 213, 1), (0, 11, 218, 1), (0, 12, 211, 1), (0, 13, 248, 1), (0, 14, 208, 1), (1, 0, 300, 7), (0, 20, 252, 1)]
def FlF (α : Nat → Int32) (σ : OgC) : Prop := ∀ (i : Nat) (q : Nat × Nat × Nat × Nat), og_fam[i]? = some q → ∀ k, k < q.2.2.2 → σ.I q.1 (q.2.1 + k) = α (q.2.2.1 + k)
def og_famok : Bool := (List.range 28).all fun i => (List.range 28).all fun j => i == j || (match og_fam[i]?, og_fam[j]? with
  | some p, some q => (p.1 != q.1 || p.2.1 + p.2.2.2 ≤ q.2.1 || q.2.1 + q.2.2.2 ≤ p.2.1) && (p.2.2.1 + p.2.2.2 ≤ q.2.2.1 || q.2.2.1 + q.2.2.2 ≤ p.2.2.1)
  | _, _ => true)
theorem og_famok_t : og_famok = true := by decide +kernel
theorem og_fam_apart {i j : Nat} {p q : Nat × Nat × Nat × Nat} (hi : og_fam[i]? = some p) (hj : og_fam[j]? = some q) (h : i ≠ j) : (p.1 ≠ q.1 ∨ p.2.1 + p.2.2.2 ≤ q.2.1 ∨ q.2.1 + q.2.2.2 ≤ p.2.1) ∧ (p.2.2.1 + p.2.2.2 ≤ q.2.2.1 ∨ q.2.2.1 + q.2.2.2 ≤ p.2.2.1) := by
  have li : i < 28 := (List.getElem?_eq_some_iff.mp hi).1
  have lj : j < 28 := (List.getElem?_eq_some_iff.mp hj).1
  have h1 := og_famok_t
  unfold og_famok at h1
  have h2 := List.all_eq_true.mp (List.all_eq_true.mp h1 i (List.mem_range.mpr li)) j (List.mem_range.mpr lj)
  rw [hi, hj] at h2
  simp [h] at h2
  obtain ⟨h3, h4⟩ := h2
  refine ⟨?_, h4⟩
  rcases h3 with (a | b) | c
  · exact Or.inl a
  · exact Or.inr (Or.inl b)
  · exact Or.inr (Or.inr c)
theorem FlF.get {α : Nat → Int32} {σ : OgC} (h : FlF α σ) (i : Nat) {a o p n : Nat} (hi : og_fam[i]? = some (a, o, p, n)) (k : Nat) (hk : k < n) : σ.I a (o + k) = α (p + k) := h i _ hi k hk
/-- a cell of family i is put -/
theorem FlF.put {α : Nat → Int32} {σ : OgC} (h : FlF α σ) (i : Nat) {a o p n : Nat} (hi : og_fam[i]? = some (a, o, p, n)) (k : Nat) (hk : k < n) (v : Int32) : FlF (upd α (p + k) v) (σ.sI a (o + k) v) := by
  intro j q hj k' hk'
  rw [C_II]
  by_cases e : i = j
  · subst e
    rw [hi] at hj
    cases hj
    by_cases e2 : k' = k
    · subst e2
      rw [if_pos rfl, if_pos rfl, pk_us]
    · rw [if_pos rfl, if_neg (by show ¬ o + k' = o + k; omega), pk_un (by show ¬ p + k' = p + k; omega)]
      exact h i _ hi k' hk'
  · obtain ⟨h1, h2⟩ := og_fam_apart hi hj e
    dsimp only at h1 h2
    rw [pk_un (by omega), ← h j q hj k' hk']
    split
    · rename_i e1
      rw [if_neg (by omega)]
    · rfl
/-- a cell of no family is put -/
theorem FlF.skip {α : Nat → Int32} {σ : OgC} (h : FlF α σ) {a : Nat} (ha : ∀ q ∈ og_fam, q.1 ≠ a) (j : Nat) (v : Int32) : FlF α (σ.sI a j v) := by
  intro i q hq k hk
  rw [C_II, if_neg (ha q (List.mem_of_getElem? hq))]
  exact h i q hq k hk
/-- the taken forts: bits on the class's side -/
def FlK (α : Nat → Int32) (σ : OgC) : Prop := (∀ f, f < 6 → α (25 + f) = (σ.I 3 3 >>> (nI f &&& 31)) &&& 1) ∧ ∀ f, 6 ≤ f → f < 32 → bt (σ.I 3 3) f = false
/-- the model's side -/
def og_mfl : List Nat := [1, 8, 11, 13, 18, 48, 20, 52]
def FlM (α : Nat → Int32) (σ : OgS) : Prop := (∀ j, j < 150 → j ≠ 4 → σ.I 2 j = α j) ∧ (∀ k ∈ og_mfl, σ.I 0 k = α (200 + k)) ∧ ∀ k, k < 7 → σ.I 1 k = α (300 + k)
theorem FlM.row {α : Nat → Int32} {σ : OgS} (h : FlM α σ) {j : Nat} (hj : j < 150) (h4 : j ≠ 4) (v : Int32) : FlM (upd α j v) (σ.sI 2 j v) := by
  refine ⟨fun x hx hx4 => ?_, fun k hk => ?_, fun k hk => ?_⟩
  · rw [S_II, if_pos rfl]
    by_cases e : x = j
    · subst e
      rw [if_pos rfl, pk_us]
    · rw [if_neg e, pk_un e]
      exact h.1 x hx hx4
  · rw [S_II, if_neg (by decide), pk_un (by omega)]
    exact h.2.1 k hk
  · rw [S_II, if_neg (by decide), pk_un (by omega)]
    exact h.2.2 k hk
theorem FlM.fld {α : Nat → Int32} {σ : OgS} (h : FlM α σ) (k : Nat) (hk : k < 100) (v : Int32) : FlM (upd α (200 + k) v) (σ.sI 0 k v) := by
  refine ⟨fun x hx hx4 => ?_, fun j hj => ?_, fun j hj => ?_⟩
  · rw [S_II, if_neg (by decide), pk_un (by omega)]
    exact h.1 x hx hx4
  · rw [S_II, if_pos rfl]
    by_cases e : j = k
    · subst e
      rw [if_pos rfl, pk_us]
    · rw [if_neg e, pk_un (by omega)]
      exact h.2.1 j hj
  · rw [S_II, if_neg (by decide), pk_un (by omega)]
    exact h.2.2 j hj
theorem FlM.fskip {α : Nat → Int32} {σ : OgS} (h : FlM α σ) {k : Nat} (hk : k ∉ og_mfl) (v : Int32) : FlM α (σ.sI 0 k v) := by
  refine ⟨fun x hx hx4 => ?_, fun j hj => ?_, fun j hj => ?_⟩
  · rw [S_II, if_neg (by decide)]
    exact h.1 x hx hx4
  · rw [S_II, if_pos rfl, if_neg (show ¬ j = k from fun e => hk (e ▸ hj))]
    exact h.2.1 j hj
  · rw [S_II, if_neg (by decide)]
    exact h.2.2 j hj
theorem FlM.ref {α : Nat → Int32} {σ : OgS} (h : FlM α σ) (k : Nat) (v : Int32) : FlM (upd α (300 + k) v) (σ.sI 1 k v) := by
  refine ⟨fun x hx hx4 => ?_, fun j hj => ?_, fun j hj => ?_⟩
  · rw [S_II, if_neg (by decide), pk_un (by omega)]
    exact h.1 x hx hx4
  · rw [S_II, if_neg (by decide), pk_un (by
      have : ∀ z ∈ og_mfl, z < 100 := by decide
      have := this j hj
      omega)]
    exact h.2.1 j hj
  · rw [S_II, if_pos rfl]
    by_cases e : j = k
    · subst e
      rw [if_pos rfl, pk_us]
    · rw [if_neg e, pk_un (by omega)]
      exact h.2.2 j hj
theorem FlM.skip {α : Nat → Int32} {σ : OgS} (h : FlM α σ) {a : Nat} (ha : 3 ≤ a) (j : Nat) (v : Int32) : FlM α (σ.sI a j v) := by
  refine ⟨fun x hx hx4 => ?_, fun k hk => ?_, fun k hk => ?_⟩
  · rw [S_II, if_neg (by omega)]
    exact h.1 x hx hx4
  · rw [S_II, if_neg (by omega)]
    exact h.2.1 k hk
  · rw [S_II, if_neg (by omega)]
    exact h.2.2 k hk
theorem FlM.skipL {α : Nat → Int32} {σ : OgS} (h : FlM α σ) (a j : Nat) (v : Int64) : FlM α (σ.sL a j v) := h
