/-! ===== ranges of the abstract row; taken forts ===== -/
def og_bd (j : Nat) : Option (Int × Int) := if j = 0 then some (0, 6) else if j = 1 then some (0, 8) else if j = 2 then some (0, 10) else if j = 3 then some (0, 8) else if j = 5 then some (-1, 5) else if j = 6 then some (0, 999) else if j = 7 then some (0, 1000) else if j = 8 then some (0, 9) else if j < 9 then none else if j < 13 then some (0, 100) else if j < 19 then some (0, 99) else if j < 25 then some (0, 63) else if j < 31 then some (0, 1) else if j < 37 then some (0, 3) else if j < 49 then some (0, 10) else if j < 91 then some (0, 99) else if j < 101 then some (0, 63) else if j < 123 then some (0, 9) else if j < 147 then some (0, 999) else if j = 208 then some (0, 16) else if j = 213 then some (0, 400) else if j = 220 then some (0, 0) else none
def Rng (α : Nat → Int32) : Prop := ∀ (j : Nat) (lo hi : Int), og_bd j = some (lo, hi) → lo ≤ (α j).toInt ∧ (α j).toInt ≤ hi
theorem Rng.at {α : Nat → Int32} (h : Rng α) (j : Nat) {lo hi : Int} (hb : og_bd j = some (lo, hi)) : lo ≤ (α j).toInt ∧ (α j).toInt ≤ hi := h j lo hi hb
theorem Rng.put {α : Nat → Int32} (h : Rng α) (j : Nat) (v : Int32) (hv : ∀ lo hi, og_bd j = some (lo, hi) → lo ≤ v.toInt ∧ v.toInt ≤ hi) : Rng (upd α j v) := by
  intro x lo hi hb
  by_cases e : x = j
  · subst e
    rw [pk_us]
    exact hv lo hi hb
  · rw [pk_un e]
    exact h x lo hi hb
theorem Rng.free {α : Nat → Int32} (h : Rng α) (j : Nat) (v : Int32) (hj : og_bd j = none) : Rng (upd α j v) := h.put j v (fun lo hi hb => by rw [hj] at hb; cases hb)
theorem Rng.set {α : Nat → Int32} (h : Rng α) (j : Nat) (v : Int32) {lo hi : Int} (hj : og_bd j = some (lo, hi)) (h1 : lo ≤ v.toInt) (h2 : v.toInt ≤ hi) : Rng (upd α j v) := h.put j v (fun a b hb => by rw [hj] at hb; cases hb; exact ⟨h1, h2⟩)
/-- a number from 0 on -/
theorem og_nat {x : Int32} {hi : Nat} (h0 : 0 ≤ x.toInt) (h1 : x.toInt ≤ hi) : ∃ n, n ≤ hi ∧ x = nI n := by
  have hlt : x.toInt < 2 ^ 31 := Int32.toInt_lt x
  refine ⟨x.toInt.toNat, by omega, ?_⟩
  rw [fa_eq, nI_toInt (by omega)]
  omega
theorem Rng.nat {α : Nat → Int32} (h : Rng α) (j : Nat) {hi : Nat} (hb : og_bd j = some (0, (hi : Int))) : ∃ n, n ≤ hi ∧ α j = nI n := og_nat (h.at j hb).1 (h.at j hb).2
theorem bd_men {n : Nat} (h : n < 6) : og_bd (13 + n) = some (0, 99) := by
  have key : ∀ i : Fin 6, og_bd (13 + i.val) = some (0, 99) := by decide +kernel
  exact key ⟨n, h⟩
theorem bd_shown {n : Nat} (h : n < 6) : og_bd (19 + n) = some (0, 63) := by
  have key : ∀ i : Fin 6, og_bd (19 + i.val) = some (0, 63) := by decide +kernel
  exact key ⟨n, h⟩
theorem bd_taken {n : Nat} (h : n < 6) : og_bd (25 + n) = some (0, 1) := by
  have key : ∀ i : Fin 6, og_bd (25 + i.val) = some (0, 1) := by decide +kernel
  exact key ⟨n, h⟩
theorem bd_gen {n : Nat} (h : n < 6) : og_bd (31 + n) = some (0, 3) := by
  have key : ∀ i : Fin 6, og_bd (31 + i.val) = some (0, 3) := by decide +kernel
  exact key ⟨n, h⟩
/-- a place that no family holds -/
theorem FlF.al {α : Nat → Int32} {σ : OgC} (h : FlF α σ) (j : Nat) (v : Int32) (hj : ∀ q ∈ og_fam, j < q.2.2.1 ∨ q.2.2.1 + q.2.2.2 ≤ j) : FlF (upd α j v) σ := by
  intro i q hq k hk
  rw [pk_un (by have := hj q (List.mem_of_getElem? hq); omega)]
  exact h i q hq k hk
theorem og_takenj {n : Nat} (h : n < 6) : ∀ q ∈ og_fam, 25 + n < q.2.2.1 ∨ q.2.2.1 + q.2.2.2 ≤ 25 + n := by
  have key : ∀ i : Fin 6, ∀ q ∈ og_fam, 25 + i.val < q.2.2.1 ∨ q.2.2.1 + q.2.2.2 ≤ 25 + i.val := by decide +kernel
  exact key ⟨n, h⟩
theorem FlK.al {α : Nat → Int32} {σ : OgC} (h : FlK α σ) (j : Nat) (v : Int32) (hj : j < 25 ∨ 31 ≤ j) : FlK (upd α j v) σ := by
  refine ⟨fun f hf => ?_, h.2⟩
  rw [pk_un (by omega)]
  exact h.1 f hf
theorem FlK.of {α : Nat → Int32} {σ σ' : OgC} (h : FlK α σ) (e : σ'.I 3 3 = σ.I 3 3) : FlK α σ' := by
  unfold FlK at h ⊢
  rw [e]
  exact h
theorem FlK.sI {α : Nat → Int32} {σ : OgC} (h : FlK α σ) (a k : Nat) (v : Int32) (hj : a ≠ 3 ∨ k ≠ 3) : FlK α (σ.sI a k v) := by
  refine h.of ?_
  rw [C_II]
  rcases hj with e | e
  · rw [if_neg (Ne.symm e)]
  · by_cases e2 : 3 = a
    · rw [if_pos e2, if_neg (Ne.symm e)]
    · rw [if_neg e2]
