theorem b_1 : ∀ i, i < 32 → bt 1 i = decide (i = 0) := by decide +kernel
/-- one bit by a shift and a mask -/
theorem bt_sh (x : Int32) {f : Nat} (hf : f < 32) : (x >>> (nI f &&& 31)) &&& 1 = if bt x f then 1 else 0 := by
  refine b_ext (fun i hi => ?_)
  rw [b_and, b_1 i hi, b_sshr f hf x hi]
  by_cases e : i = 0
  · subst e
    rw [if_pos (by omega)]
    by_cases hb : bt x f = true
    · rw [if_pos hb, b_1 0 (by omega)]
      simp [hb]
    · rw [if_neg hb, b_0]
      simp [hb]
  · by_cases hb : bt x f = true
    · rw [if_pos hb, b_1 i hi]
      simp [e]
    · rw [if_neg hb, b_0]
      simp [e]
theorem b_m1x (x : Int32) {i : Nat} (hi : i < 32) : bt (x ^^^ (-1)) i = !bt x i := by
  rw [b_xor, b_m1 i hi]
  simp
theorem bt_one {n i : Nat} (hn : n < 32) (hi : i < 32) : bt ((1 : Int32) <<< (nI n &&& 31)) i = decide (i = n) := by
  rw [b_shl n hn 1 hi, b_1 (i - n) (by omega)]
  by_cases e : i = n
  · subst e
    simp
  · by_cases h : n ≤ i
    · simp [e, h, show ¬ i - n = 0 by omega]
    · simp [e, h]
theorem FlK.clear {α : Nat → Int32} {σ : OgC} (h : FlK α σ) {n : Nat} (hn : n < 6) : FlK (upd α (25 + n) 0) (σ.sI 3 3 ((σ.I 3 3) &&& (((1 : Int32) <<< (nI n &&& 31)) ^^^ (-1 : Int32)))) := by
  refine ⟨fun f hf => ?_, fun f h6 h32 => ?_⟩
  · rw [C_II, if_pos rfl, if_pos rfl, bt_sh _ (by omega), b_and, b_m1x _ (by omega), bt_one (by omega) (by omega)]
    by_cases e : f = n
    · subst e
      rw [pk_us]
      simp
    · rw [pk_un (by omega), h.1 f hf, bt_sh _ (by omega)]
      simp [e]
  · rw [C_II, if_pos rfl, if_pos rfl, b_and, h.2 f h6 h32]
    rfl
theorem FlK.fill {α : Nat → Int32} {σ : OgC} (h : FlK α σ) {n : Nat} (hn : n < 6) : FlK (upd α (25 + n) 1) (σ.sI 3 3 ((σ.I 3 3) ||| ((1 : Int32) <<< (nI n &&& 31)))) := by
  refine ⟨fun f hf => ?_, fun f h6 h32 => ?_⟩
  · rw [C_II, if_pos rfl, if_pos rfl, bt_sh _ (by omega), b_or, bt_one (by omega) (by omega)]
    by_cases e : f = n
    · subst e
      rw [pk_us]
      simp
    · rw [pk_un (by omega), h.1 f hf, bt_sh _ (by omega)]
      simp [e]
  · rw [C_II, if_pos rfl, if_pos rfl, b_or, h.2 f h6 h32, bt_one (by omega) h32]
    simp
    omega
/-- both sides hold the row -/
def Row (α : Nat → Int32) (σM : OgS) (σC : OgC) : Prop := FlM α σM ∧ FlF α σC ∧ FlK α σC ∧ Rng α
