/-! ===== beliefs lie between 0 and a million ===== -/
theorem bm64 {x : Int} (h1 : -9223372036854775808 ≤ x) (h2 : x < 9223372036854775808) : x.bmod (2 ^ 64) = x := by
  rw [Int.bmod_def]
  split <;> omega
theorem l_mul {a b : Int64} (h1 : -9223372036854775808 ≤ a.toInt * b.toInt) (h2 : a.toInt * b.toInt < 9223372036854775808) : (a * b).toInt = a.toInt * b.toInt := by rw [Int64.toInt_mul, bm64 h1 h2]
theorem l_add {a b : Int64} (h1 : -9223372036854775808 ≤ a.toInt + b.toInt) (h2 : a.toInt + b.toInt < 9223372036854775808) : (a + b).toInt = a.toInt + b.toInt := by rw [Int64.toInt_add, bm64 h1 h2]
theorem l_sub {a b : Int64} (h1 : -9223372036854775808 ≤ a.toInt - b.toInt) (h2 : a.toInt - b.toInt < 9223372036854775808) : (a - b).toInt = a.toInt - b.toInt := by rw [Int64.toInt_sub, bm64 h1 h2]
theorem l_div {a b : Int64} (h0 : 0 ≤ a.toInt) (hb : 0 < b.toInt) : (a / b).toInt = a.toInt / b.toInt := by
  have := Int64.toInt_lt a
  have e : a.toInt.tdiv b.toInt = a.toInt / b.toInt := Int.tdiv_eq_ediv_of_nonneg h0
  have l1 : 0 ≤ a.toInt / b.toInt := Int.ediv_nonneg h0 (by omega)
  have l2 : a.toInt / b.toInt ≤ a.toInt := Int.ediv_le_self _ h0
  rw [Int64.toInt_div, e, bm64 (by omega) (by omega)]
theorem mul_b {a b A B : Int} (h0 : 0 ≤ a) (h1 : a ≤ A) (h2 : 0 ≤ b) (h3 : b ≤ B) : 0 ≤ a * b ∧ a * b ≤ A * B := ⟨Int.mul_nonneg h0 h2, Int.mul_le_mul h1 h3 h2 (by omega)⟩
theorem fac_b {α : Nat → Int32} {p : Nat} {s : Int32} {k : Nat} (h : 0 ≤ (α (p + k)).toInt ∧ (α (p + k)).toInt ≤ 10) : 0 ≤ (og_fac α p s k).toInt ∧ (og_fac α p s k).toInt ≤ 10 := by
  have z : (10 : Int32).toInt = 10 := by decide
  have e := i_sub (a := 10) (b := α (p + k)) (by omega) (by omega)
  unfold og_fac
  split
  · rw [Int32.toInt_toInt64]
    exact h
  · rw [Int32.toInt_toInt64]
    omega
theorem pr_b {α : Nat → Int32} {p : Nat} {s : Int32} {v : Int64} (hv : 0 ≤ v.toInt ∧ v.toInt ≤ 1000) (h : ∀ k, k < 6 → 0 ≤ (α (p + k)).toInt ∧ (α (p + k)).toInt ≤ 10) : ∀ k, k ≤ 6 → 0 ≤ (og_pr α p s v k).toInt ∧ (og_pr α p s v k).toInt ≤ 1000 * 10 ^ k
  | 0, _ => by
    show 0 ≤ v.toInt ∧ v.toInt ≤ _
    omega
  | k + 1, hk => by
    obtain ⟨a, b⟩ := pr_b (s := s) hv h k (by omega)
    obtain ⟨c, d⟩ := fac_b (s := s) (h k (by omega))
    have m := mul_b a b c d
    have p6 : (10 : Int) ^ k ≤ 10 ^ 5 := by
      have : (10 : Nat) ^ k ≤ 10 ^ 5 := Nat.pow_le_pow_right (by decide) (by omega)
      exact_mod_cast this
    rw [pr_s, l_mul (by omega) (by omega)]
    rw [Int.pow_succ]
    omega
theorem bd_full {k : Nat} (h : k < 6) : og_bd (37 + k) = some (0, 10) ∧ og_bd (43 + k) = some (0, 10) ∧ og_bd (49 + k) = some (0, 99) := by
  have key : ∀ i : Fin 6, og_bd (37 + i.val) = some (0, 10) ∧ og_bd (43 + i.val) = some (0, 10) ∧ og_bd (49 + i.val) = some (0, 99) := by decide +kernel
  exact key ⟨k, h⟩
theorem bd_fame {k : Nat} (h : k < 4) : og_bd (9 + k) = some (0, 100) := by
  have key : ∀ i : Fin 4, og_bd (9 + i.val) = some (0, 100) := by decide +kernel
  exact key ⟨k, h⟩
theorem known_b {α : Nat → Int32} (hR : Rng α) {f : Nat} (hf : f < 6) : 0 ≤ (og_known α f).toInt ∧ (og_known α f).toInt ≤ 100 := by
  obtain ⟨n, hn, e⟩ := hR.nat (31 + f) (hi := 3) (bd_gen hf)
  unfold og_known
  rw [e, nI_clamp (by omega)]
  exact hR.at (9 + n) (bd_fame (by omega))
theorem by_b (F G E : Int64) (hF : 0 ≤ F.toInt ∧ F.toInt ≤ 1000000000) (hG : 0 ≤ G.toInt ∧ G.toInt ≤ 1000000000) (hE : 0 ≤ E.toInt ∧ E.toInt ≤ 1000000) : 0 ≤ (if F + G = 0 then E else F * 1000000 / (F + G)).toInt ∧ (if F + G = 0 then E else F * 1000000 / (F + G)).toInt ≤ 1000000 := by
  have zM : (1000000 : Int64).toInt = 1000000 := by decide
  have eS := l_add (a := F) (b := G) (by omega) (by omega)
  split
  · exact hE
  · rename_i c
    have c' : ¬ (F + G).toInt = 0 := fun z => c (by rw [fa_eq64, z]; decide)
    have eM := l_mul (a := F) (b := 1000000) (by rw [zM]; omega) (by rw [zM]; omega)
    rw [zM] at eM
    have eD := l_div (a := F * 1000000) (b := F + G) (by omega) (by omega)
    rw [eM, eS] at eD
    rw [eD]
    have q : F.toInt * 1000000 ≤ 1000000 * (F.toInt + G.toInt) := by omega
    exact ⟨Int.ediv_nonneg (by omega) (by omega), Int.ediv_le_of_le_mul (by omega) q⟩
theorem mean_b (K : Int32) (B E : Int64) (hK : 0 ≤ K.toInt ∧ K.toInt ≤ 100) (hB : 0 ≤ B.toInt ∧ B.toInt ≤ 1000000) (hE : 0 ≤ E.toInt ∧ E.toInt ≤ 1000000) : 0 ≤ ((K.toInt64 * B + ((100 : Int32) - K).toInt64 * E) / 100).toInt ∧ ((K.toInt64 * B + ((100 : Int32) - K).toInt64 * E) / 100).toInt ≤ 1000000 := by
  have z100 : (100 : Int64).toInt = 100 := by decide
  have z100' : (100 : Int32).toInt = 100 := by decide
  have eK := i_sub (a := 100) (b := K) (by omega) (by omega)
  have wk : K.toInt64.toInt = K.toInt := Int32.toInt_toInt64 _
  have wk2 : ((100 : Int32) - K).toInt64.toInt = 100 - K.toInt := by rw [Int32.toInt_toInt64, eK, z100']
  have m1 := mul_b hK.1 hK.2 hB.1 hB.2
  have m2 := mul_b (a := 100 - K.toInt) (A := 100) (by omega) (by omega) hE.1 hE.2
  have e1 := l_mul (a := K.toInt64) (b := B) (by rw [wk]; omega) (by rw [wk]; omega)
  have e2 := l_mul (a := ((100 : Int32) - K).toInt64) (b := E) (by rw [wk2]; omega) (by rw [wk2]; omega)
  rw [wk] at e1
  rw [wk2] at e2
  have e3 := l_add (a := K.toInt64 * B) (b := ((100 : Int32) - K).toInt64 * E) (by rw [e1, e2]; omega) (by rw [e1, e2]; omega)
  rw [e1, e2] at e3
  have a1 : K.toInt * B.toInt ≤ K.toInt * 1000000 := Int.mul_le_mul_of_nonneg_left hB.2 hK.1
  have a2 : (100 - K.toInt) * E.toInt ≤ (100 - K.toInt) * 1000000 := Int.mul_le_mul_of_nonneg_left hE.2 (by omega)
  have eD := l_div (a := K.toInt64 * B + ((100 : Int32) - K).toInt64 * E) (b := 100) (by rw [e3]; omega) (by decide)
  rw [e3, z100] at eD
  rw [eD]
  have q : K.toInt * B.toInt + (100 - K.toInt) * E.toInt ≤ 1000000 * 100 := by omega
  exact ⟨Int.ediv_nonneg (by omega) (by omega), Int.ediv_le_of_le_mul (by omega) q⟩
theorem even_b (P : Int32) (h : 0 ≤ P.toInt ∧ P.toInt ≤ 1000) : (0 ≤ (P.toInt64 * 1000).toInt ∧ (P.toInt64 * 1000).toInt ≤ 1000000) ∧ 0 ≤ (1000 - P.toInt64).toInt ∧ (1000 - P.toInt64).toInt ≤ 1000 := by
  have z1000 : (1000 : Int64).toInt = 1000 := by decide
  have w7 : P.toInt64.toInt = P.toInt := Int32.toInt_toInt64 _
  have eE := l_sub (a := 1000) (b := P.toInt64) (by omega) (by omega)
  have eM := l_mul (a := P.toInt64) (b := 1000) (by rw [w7, z1000]; omega) (by rw [w7, z1000]; omega)
  rw [w7, z1000] at eM eE
  omega
theorem bel_b {α : Nat → Int32} (hR : Rng α) {f : Nat} (hf : f < 6) (s : Int32) : 0 ≤ (og_bel α f s).toInt ∧ (og_bel α f s).toInt ≤ 1000000 := by
  have h7 := hR.at 7 (lo := 0) (hi := 1000) rfl
  have e : (1000 : Int) * 10 ^ 6 = 1000000000 := by decide
  have w7 : (α 7).toInt64.toInt = (α 7).toInt := Int32.toInt_toInt64 _
  have ev := even_b (α 7) h7
  have bF : 0 ≤ (og_full α s 6).toInt ∧ (og_full α s 6).toInt ≤ 1000000000 := by
    unfold og_full
    rw [← e]
    exact pr_b (by rw [w7]; exact h7) (fun k hk => hR.at (37 + k) (bd_full hk).1) 6 (by omega)
  have bE : 0 ≤ (og_empty α s 6).toInt ∧ (og_empty α s 6).toInt ≤ 1000000000 := by
    unfold og_empty
    rw [← e]
    exact pr_b ev.2 (fun k hk => hR.at (43 + k) (bd_full hk).2.1) 6 (by omega)
  unfold og_bel
  exact mean_b _ _ _ (known_b hR hf) (by_b _ _ _ bF bE ev.1) ev.1
/-- hundredths -/
def og_hun (α : Nat → Int32) (f : Nat) (s : Int32) : Int32 := (og_bel α f s / 10000).toInt32
theorem hun_eq {α : Nat → Int32} (hR : Rng α) {f : Nat} (hf : f < 6) (s : Int32) : (og_bel α f s).toInt32 / 10000 = og_hun α f s ∧ 0 ≤ (og_hun α f s).toInt ∧ (og_hun α f s).toInt ≤ 100 := by
  obtain ⟨h0, h1⟩ := bel_b hR hf s
  have z : (10000 : Int64).toInt = 10000 := by decide
  have z' : (10000 : Int32).toInt = 10000 := by decide
  have e1 : (og_bel α f s).toInt32.toInt = (og_bel α f s).toInt := by
    rw [Int64.toInt_toInt32, bm32 (by omega) (by omega)]
  have e2 : (og_bel α f s / 10000).toInt = (og_bel α f s).toInt / 10000 := by rw [l_div h0 (by decide), z]
  have e3 : (og_hun α f s).toInt = (og_bel α f s).toInt / 10000 := by
    unfold og_hun
    rw [Int64.toInt_toInt32, e2, bm32 (by omega) (by omega)]
  refine ⟨?_, by omega, by omega⟩
  rw [fa_eq, e3, lg_idiv_nonneg (by omega) (by omega), e1, z']
