/-! ===== games ===== -/
theorem bm32 {x : Int} (h1 : -2147483648 ≤ x) (h2 : x < 2147483648) : x.bmod (2 ^ 32) = x := by
  rw [Int.bmod_def]
  split <;> omega
theorem i_sub {a b : Int32} (h1 : -2147483648 ≤ a.toInt - b.toInt) (h2 : a.toInt - b.toInt < 2147483648) : (a - b).toInt = a.toInt - b.toInt := by rw [Int32.toInt_sub, bm32 h1 h2]
theorem i_add {a b : Int32} (h1 : -2147483648 ≤ a.toInt + b.toInt) (h2 : a.toInt + b.toInt < 2147483648) : (a + b).toInt = a.toInt + b.toInt := by rw [Int32.toInt_add, bm32 h1 h2]
theorem i_mul {a b : Int32} (h1 : -2147483648 ≤ a.toInt * b.toInt) (h2 : a.toInt * b.toInt < 2147483648) : (a * b).toInt = a.toInt * b.toInt := by rw [Int32.toInt_mul, bm32 h1 h2]
theorem i_neg {a : Int32} (h1 : -2147483647 ≤ a.toInt) : (-a).toInt = -a.toInt := by
  have := Int32.toInt_lt a
  rw [Int32.toInt_neg, bm32 (by omega) (by omega)]
theorem div_ng {a : Int32} {g : Nat} (hg : g < 2 ^ 31) : a / -(nI g) = -(a / nI g) := by
  refine Int32.toBitVec_inj.1 (BitVec.sdiv_neg (fun e => ?_))
  have e2 : nI g = Int32.minValue := Int32.toBitVec_inj.1 e
  have e3 : (nI g).toInt = -2147483648 := by rw [e2]; decide
  rw [nI_toInt hg] at e3
  omega
theorem gcd_st (a b : Nat) : Nat.gcd b (a % b) = Nat.gcd a b := by
  rw [Nat.gcd_comm, ← Nat.gcd_rec, Nat.gcd_comm]
theorem nI_mod {a b : Nat} (ha : a < 2 ^ 31) (h0 : 0 < b) (hb : b < 2 ^ 31) : nI a - nI a / nI b * nI b = nI (a % b) := pk_rem ha h0 hb
theorem cComm {Γ : OgG} {Q : Int32 → OgC → Prop} {σ : OgC} : ∀ (d n : Nat), 2 * d + 1 ≤ n → ∀ a b : Nat, a < 2 ^ 31 → b < 2 ^ 31 → b < 2 ^ d → Q (nI (Nat.gcd a b)) σ → wCommon Γ n Q (nI a) (nI b) σ
  | 0, n, hn, a, b, ha, hb, h, K => by
    obtain rfl : b = 0 := by simpa using h
    obtain ⟨m, rfl⟩ : ∃ m, n = m + 1 := ⟨n - 1, by omega⟩
    rw [Nat.gcd_zero_right] at K
    exact ⟨fun e => absurd rfl e, fun _ => K⟩
  | d + 1, n, hn, a, b, ha, hb, h, K => by
    obtain ⟨m, rfl⟩ : ∃ m, n = m + 1 + 1 := ⟨n - 2, by omega⟩
    by_cases e : b = 0
    · subst e
      rw [Nat.gcd_zero_right] at K
      exact ⟨fun e => absurd rfl e, fun _ => K⟩
    · have nb : ¬ nI b = 0 := fun z => e ((nI_eq (b := 0) hb (by decide)).mp z)
      refine ⟨fun _ => ⟨nb, ?_⟩, fun z => absurd z nb⟩
      rw [nI_mod ha (by omega) hb]
      have hr : a % b < b := Nat.mod_lt _ (by omega)
      by_cases e2 : a % b = 0
      · rw [← gcd_st, e2, Nat.gcd_zero_right] at K
        rw [e2]
        exact ⟨fun e => absurd rfl e, fun _ => K⟩
      · have nr : ¬ nI (a % b) = 0 := fun z => e2 ((nI_eq (b := 0) (by omega) (by decide)).mp z)
        refine ⟨fun _ => ⟨nr, ?_⟩, fun z => absurd z nr⟩
        rw [nI_mod hb (by omega) (by omega)]
        have h3 : b % (a % b) < 2 ^ d := by
          have l1 : b % (a % b) < a % b := Nat.mod_lt _ (by omega)
          have l2 := Nat.div_add_mod b (a % b)
          have l3 : 1 ≤ b / (a % b) := (Nat.one_le_div_iff (by omega)).mpr (by omega)
          have l4 : a % b * 1 ≤ a % b * (b / (a % b)) := Nat.mul_le_mul_left _ l3
          rw [Nat.pow_succ] at h
          omega
        have h5 : b % (a % b) < a % b := Nat.mod_lt _ (by omega)
        refine cComm d m (by omega) (a % b) (b % (a % b)) (by omega) (by omega) h3 ?_
        rw [gcd_st, gcd_st]
        exact K
theorem mComm {Q : Int32 → OgS → Prop} {σ : OgS} (a b : Nat) (ha : a < 2 ^ 31) (hb : b < 2 ^ 31) (K : Q (nI (Nat.gcd a b)) σ) : wX5_common_22 Q (nI a) (nI b) σ := by
  refine og_lp3_intro (fun m x y s => ∃ c d : Nat, c < 2 ^ 31 ∧ d < 2 ^ 31 ∧ x = nI c ∧ y = nI d ∧ s = σ ∧ m = d ∧ Nat.gcd c d = Nat.gcd a b) (fun K' m x y s hx hk => ?_) b (nI a) (nI b) σ ⟨a, b, ha, hb, rfl, rfl, rfl, rfl, rfl⟩
  obtain ⟨c, d, hc, hd, rfl, rfl, rfl, rfl, hg⟩ := hx
  unfold wX5_common_B22
  by_cases e : m = 0
  · subst e
    rw [← hg, Nat.gcd_zero_right] at K
    exact ⟨fun _ => K, fun e => absurd rfl e⟩
  · have nb : ¬ nI m = 0 := fun z => e ((nI_eq (b := 0) hd (by decide)).mp z)
    refine ⟨fun z => absurd z nb, fun _ => ⟨nb, fun v2 e2 => ?_⟩⟩
    rw [nI_mod hc (by omega) hd] at e2
    have hr : c % m < m := Nat.mod_lt _ (by omega)
    exact hk (c % m) _ _ _ hr ⟨m, c % m, hd, by omega, rfl, e2, rfl, rfl, by rw [gcd_st, hg]⟩
def og_abs (x : Int32) : Nat := x.toInt.natAbs
theorem abs_c {x : Int32} (h : -2147483647 ≤ x.toInt) : (if 0 ≤ x then x else 0 - x) = nI (og_abs x) ∧ (¬ 0 ≤ x → -x = nI (og_abs x)) ∧ (0 ≤ x → x = nI (og_abs x)) := by
  have hl := Int32.toInt_lt x
  have z : (0 : Int32).toInt = 0 := by decide
  have n1 := i_neg h
  have p : 0 ≤ x → x = nI (og_abs x) := by
    intro c
    rw [fa_le, z] at c
    rw [fa_eq, nI_toInt (by unfold og_abs; omega)]
    unfold og_abs
    omega
  have q : ¬ 0 ≤ x → -x = nI (og_abs x) := by
    intro c
    rw [fa_le, z] at c
    rw [fa_eq, nI_toInt (by unfold og_abs; omega), n1]
    unfold og_abs
    omega
  refine ⟨?_, q, p⟩
  by_cases c : 0 ≤ x
  · rw [if_pos c]
    exact p c
  · rw [if_neg c, i32_ngA]
    exact q c
/-- a fraction in lowest terms: above, below, which -/
def og_fr (x0 x1 x2 : Int32) : Int32 := ((if x2 = 0 then x1 else x0) / nI (Nat.gcd (og_abs x0) (og_abs x1))) * (if 0 ≤ x1 then 1 else -1)
theorem gcd_ok {x0 x1 : Int32} (h0 : -100000 ≤ x0.toInt ∧ x0.toInt ≤ 100000) (h1 : -500 ≤ x1.toInt ∧ x1.toInt ≤ 500) (hz : ¬ x1.toInt = 0) : og_abs x0 < 2 ^ 31 ∧ og_abs x1 < 512 ∧ 0 < Nat.gcd (og_abs x0) (og_abs x1) ∧ Nat.gcd (og_abs x0) (og_abs x1) < 2 ^ 31 := by
  have a : 0 < og_abs x1 := by unfold og_abs; omega
  have b : og_abs x1 < 512 := by unfold og_abs; omega
  have c := Nat.gcd_le_right (n := og_abs x1) (og_abs x0) a
  exact ⟨by unfold og_abs; omega, b, Nat.gcd_pos_of_pos_right _ a, by omega⟩
theorem cFrac {Γ : OgG} {Q : Int32 → OgC → Prop} {σ : OgC} {x0 x1 x2 : Int32} (h0 : -100000 ≤ x0.toInt ∧ x0.toInt ≤ 100000) (h1 : -500 ≤ x1.toInt ∧ x1.toInt ≤ 500) (hz : ¬ x1.toInt = 0) (K : Q (og_fr x0 x1 x2) σ) : wX0_ofFraction Γ Q x0 x1 x2 σ := by
  obtain ⟨g1, g2, g3, g4⟩ := gcd_ok h0 h1 hz
  unfold wX0_ofFraction
  simp only [forall_eq]
  rw [(abs_c (by omega)).1, (abs_c (by omega)).1]
  refine cComm 9 40 (by decide) _ _ g1 (by omega) (by omega) ?_
  unfold og_fr at K
  have ng : ¬ nI (Nat.gcd (og_abs x0) (og_abs x1)) = 0 := fun z => by
    have := (nI_eq (b := 0) g4 (by decide)).mp z
    omega
  have nn : ¬ -nI (Nat.gcd (og_abs x0) (og_abs x1)) = 0 := fun z => by
    have z2 := congrArg Int32.toInt z
    rw [i_neg (by rw [nI_toInt g4]; omega), nI_toInt g4] at z2
    have z3 : (0 : Int32).toInt = 0 := by decide
    omega
  unfold wX0_ofFraction_22
  have one : ∀ y : Int32, y * 1 = y := fun y => Int32.mul_one y
  have neg : ∀ y : Int32, y * -1 = -y := fun y => by rw [Int32.mul_neg, Int32.mul_one]
  refine ⟨fun c => ⟨fun z => ⟨ng, ?_⟩, fun z => ⟨ng, ?_⟩⟩, fun c => ⟨fun z => ⟨nn, ?_⟩, fun z => ⟨nn, ?_⟩⟩⟩
  · rw [if_pos z, if_pos c, one] at K
    exact K
  · rw [if_neg z, if_pos c, one] at K
    exact K
  · rw [if_pos z, if_neg c, neg, ← div_ng g4] at K
    exact K
  · rw [if_neg z, if_neg c, neg, ← div_ng g4] at K
    exact K
theorem mFrac {Q : Int32 → OgS → Prop} {σ : OgS} {x0 x1 x2 : Int32} (h0 : -100000 ≤ x0.toInt ∧ x0.toInt ≤ 100000) (h1 : -500 ≤ x1.toInt ∧ x1.toInt ≤ 500) (hz : ¬ x1.toInt = 0) (K : Q (og_fr x0 x1 x2) σ) : wX5_lowest Q x0 x1 x2 σ := by
  obtain ⟨g1, g2, g3, g4⟩ := gcd_ok h0 h1 hz
  have a0 := abs_c (x := x0) (by omega)
  have a1 := abs_c (x := x1) (by omega)
  have ng : ¬ nI (Nat.gcd (og_abs x0) (og_abs x1)) = 0 := fun z => by
    have := (nI_eq (b := 0) g4 (by decide)).mp z
    omega
  have fin : wX5_common_22 (fun r_1 s_2 => ((0 ≤ x1 → (wX5_lowest_15 Q x0 x1 x2 r_1 (1 : Int32) s_2)) ∧ (¬ 0 ≤ x1 → (wX5_lowest_15 Q x0 x1 x2 r_1 (-1 : Int32) s_2)))) (nI (og_abs x0)) (nI (og_abs x1)) σ := by
    refine mComm _ _ g1 (by omega) ?_
    unfold og_fr at K
    unfold wX5_lowest_15 wX5_lowest_26
    refine ⟨fun c => ⟨fun z => ⟨ng, ?_⟩, fun z => ⟨ng, ?_⟩⟩, fun c => ⟨fun z => ⟨ng, ?_⟩, fun z => ⟨ng, ?_⟩⟩⟩
    · rw [if_pos z, if_pos c] at K
      exact K
    · rw [if_neg z, if_pos c] at K
      exact K
    · rw [if_pos z, if_neg c] at K
      exact K
    · rw [if_neg z, if_neg c] at K
      exact K
  unfold wX5_lowest wX5_common wX5_common_10 wX5_common_21
  refine ⟨fun c => ⟨fun d => ?_, fun d => ?_⟩, fun c => ⟨fun d => ?_, fun d => ?_⟩⟩
  · have e0 := a0.2.2 c
    have e1 := a1.2.2 d
    rw [← e0, ← e1] at fin
    exact fin
  · have e0 := a0.2.2 c
    have e1 := a1.2.1 d
    rw [← e0, ← e1] at fin
    exact fin
  · have e0 := a0.2.1 c
    have e1 := a1.2.2 d
    rw [← e0, ← e1] at fin
    exact fin
  · have e0 := a0.2.1 c
    have e1 := a1.2.1 d
    rw [← e0, ← e1] at fin
    exact fin
/-- what comes of a saddle k with value v, of none -/
def og_sad (w : Int32) (k : Nat) (v : Int32) : Int32 := if w = 0 then (if k < 2 then 1 else 0) else if w = 2 then v else 1
def og_gm (a b c d w : Int32) : Int32 := if a ≤ b ∧ c ≤ a then og_sad w 0 a else if b ≤ a ∧ d ≤ b then og_sad w 1 b else if c ≤ d ∧ a ≤ c then og_sad w 2 c else if d ≤ c ∧ b ≤ d then og_sad w 3 d else
  if w.toInt < 2 then og_fr (d - c) (a - b + d - c) (if w = 0 then 1 else 0) else og_fr (a * d - b * c) (a - b + d - c) (if w = 2 then 1 else 0)
theorem gm_rng {a b c d : Int32} (ha : -99 ≤ a.toInt ∧ a.toInt ≤ 99) (hb : -99 ≤ b.toInt ∧ b.toInt ≤ 99) (hc : -99 ≤ c.toInt ∧ c.toInt ≤ 99) (hd : -99 ≤ d.toInt ∧ d.toInt ≤ 99) : (a - b + d - c).toInt = a.toInt - b.toInt + d.toInt - c.toInt ∧ (d - c).toInt = d.toInt - c.toInt ∧ -100000 ≤ (a * d - b * c).toInt ∧ (a * d - b * c).toInt ≤ 100000 := by
  have e1 := i_sub (a := a) (b := b) (by omega) (by omega)
  have e2 := i_add (a := a - b) (b := d) (by omega) (by omega)
  have e3 := i_sub (a := a - b + d) (b := c) (by omega) (by omega)
  have e4 := i_sub (a := d) (b := c) (by omega) (by omega)
  have pr : ∀ x y : Int, -99 ≤ x ∧ x ≤ 99 → -99 ≤ y ∧ y ≤ 99 → -9801 ≤ x * y ∧ x * y ≤ 9801 := by
    intro x y hx hy
    have h1 : (99 - x) * (99 + y) ≥ 0 := Int.mul_nonneg (by omega) (by omega)
    have h2 : (99 + x) * (99 - y) ≥ 0 := Int.mul_nonneg (by omega) (by omega)
    have h3 : (99 - x) * (99 - y) ≥ 0 := Int.mul_nonneg (by omega) (by omega)
    have h4 : (99 + x) * (99 + y) ≥ 0 := Int.mul_nonneg (by omega) (by omega)
    simp only [Int.sub_mul, Int.mul_sub, Int.add_mul, Int.mul_add] at h1 h2 h3 h4
    omega
  have p1 := pr _ _ ha hd
  have p2 := pr _ _ hb hc
  have e5 := i_mul (a := a) (b := d) (by omega) (by omega)
  have e6 := i_mul (a := b) (b := c) (by omega) (by omega)
  have e7 := i_sub (a := a * d) (b := b * c) (by omega) (by omega)
  omega
theorem nlt {a b : Int32} : (¬ a < b) ↔ b ≤ a := by
  rw [fa_lt, fa_le]
  omega
theorem mGm1 {Q : Int32 → OgS → Prop} {σ : OgS} {a b c d w x6 x7 x8 : Int32} (K : wX5_game_149 Q a b c d w x6 x7 x8 (if d ≤ c ∧ b ≤ d then 1 else 0) σ) : wX5_game_130 Q a b c d w x6 x7 x8 σ := by
  unfold wX5_game_130 wX5_game_148
  by_cases h1 : c < d
  · rw [if_neg (fun z => nlt.mpr z.1 h1)] at K
    exact ⟨fun _ => K, fun e => absurd h1 e⟩
  · by_cases h2 : d < b
    · rw [if_neg (fun z => nlt.mpr z.2 h2)] at K
      exact ⟨fun e => absurd e h1, fun _ => ⟨fun _ => K, fun e => absurd h2 e⟩⟩
    · rw [if_pos ⟨nlt.mp h1, nlt.mp h2⟩] at K
      exact ⟨fun e => absurd e h1, fun _ => ⟨fun e => absurd e h2, fun _ => K⟩⟩
theorem mGm2 {Q : Int32 → OgS → Prop} {σ : OgS} {a b c d w x6 x7 : Int32} (K : wX5_game_130 Q a b c d w x6 x7 (if c ≤ d ∧ a ≤ c then 1 else 0) σ) : wX5_game_112 Q a b c d w x6 x7 σ := by
  unfold wX5_game_112 wX5_game_129
  by_cases h1 : d < c
  · rw [if_neg (fun z => nlt.mpr z.1 h1)] at K
    exact ⟨fun _ => K, fun e => absurd h1 e⟩
  · by_cases h2 : c < a
    · rw [if_neg (fun z => nlt.mpr z.2 h2)] at K
      exact ⟨fun e => absurd e h1, fun _ => ⟨fun _ => K, fun e => absurd h2 e⟩⟩
    · rw [if_pos ⟨nlt.mp h1, nlt.mp h2⟩] at K
      exact ⟨fun e => absurd e h1, fun _ => ⟨fun e => absurd e h2, fun _ => K⟩⟩
theorem mGm3 {Q : Int32 → OgS → Prop} {σ : OgS} {a b c d w x6 : Int32} (K : wX5_game_112 Q a b c d w x6 (if b ≤ a ∧ d ≤ b then 1 else 0) σ) : wX5_game_94 Q a b c d w x6 σ := by
  unfold wX5_game_94 wX5_game_111
  by_cases h1 : a < b
  · rw [if_neg (fun z => nlt.mpr z.1 h1)] at K
    exact ⟨fun _ => K, fun e => absurd h1 e⟩
  · by_cases h2 : b < d
    · rw [if_neg (fun z => nlt.mpr z.2 h2)] at K
      exact ⟨fun e => absurd e h1, fun _ => ⟨fun _ => K, fun e => absurd h2 e⟩⟩
    · rw [if_pos ⟨nlt.mp h1, nlt.mp h2⟩] at K
      exact ⟨fun e => absurd e h1, fun _ => ⟨fun e => absurd e h2, fun _ => K⟩⟩
theorem mGm4 {Q : Int32 → OgS → Prop} {σ : OgS} {a b c d w : Int32} (K : wX5_game_94 Q a b c d w (if a ≤ b ∧ c ≤ a then 1 else 0) σ) : (b < a → (wX5_game_93 Q a b c d w σ)) ∧ (¬ b < a → ((a < c → (wX5_game_93 Q a b c d w σ)) ∧ (¬ a < c → (wX5_game_94 Q a b c d w (1 : Int32) σ)))) := by
  unfold wX5_game_93
  by_cases h1 : b < a
  · rw [if_neg (fun z => nlt.mpr z.1 h1)] at K
    exact ⟨fun _ => K, fun e => absurd h1 e⟩
  · by_cases h2 : a < c
    · rw [if_neg (fun z => nlt.mpr z.2 h2)] at K
      exact ⟨fun e => absurd e h1, fun _ => ⟨fun _ => K, fun e => absurd h2 e⟩⟩
    · rw [if_pos ⟨nlt.mp h1, nlt.mp h2⟩] at K
      exact ⟨fun e => absurd e h1, fun _ => ⟨fun e => absurd e h2, fun _ => K⟩⟩
theorem mGame {Q : Int32 → OgS → Prop} {σ : OgS} {a b c d w : Int32} (ha : -99 ≤ a.toInt ∧ a.toInt ≤ 99) (hb : -99 ≤ b.toInt ∧ b.toInt ≤ 99) (hc : -99 ≤ c.toInt ∧ c.toInt ≤ 99) (hd : -99 ≤ d.toInt ∧ d.toInt ≤ 99) (hw : 0 ≤ w.toInt ∧ w.toInt ≤ 3) (K : Q (og_gm a b c d w) σ) : (b < a → (wX5_game_93 Q a b c d w σ)) ∧ (¬ b < a → ((a < c → (wX5_game_93 Q a b c d w σ)) ∧ (¬ a < c → (wX5_game_94 Q a b c d w (1 : Int32) σ)))) := by
  obtain ⟨r1, r2, r3⟩ := gm_rng ha hb hc hd
  refine mGm4 (mGm3 (mGm2 (mGm1 ?_)))
  have w2 : (2 : Int32) ≤ w ↔ ¬ w.toInt < 2 := by
    rw [fa_le]
    show (2 : Int) ≤ _ ↔ _
    omega
  have n10 : ¬ (1 : Int32) = 0 := by decide
  unfold og_gm og_sad at K
  unfold wX5_game_149 wX5_game_171 wX5_game_200 wX5_game_217 wX5_game_270 wX5_game_297
  simp only [if10, forall_eq, w2]
  by_cases s0 : a ≤ b ∧ c ≤ a
  · rw [if_pos s0, show (if (0 : Nat) < 2 then (1 : Int32) else 0) = 1 from rfl] at K
    simp only [s0, and_self, not_true, not_false_eq_true, true_implies, false_implies, and_true, true_and, if_true]
    grind only
  rw [if_neg s0] at K
  by_cases s1 : b ≤ a ∧ d ≤ b
  · rw [if_pos s1, show (if (1 : Nat) < 2 then (1 : Int32) else 0) = 1 from rfl] at K
    simp only [s0, s1, and_self, not_true, not_false_eq_true, true_implies, false_implies, and_true, true_and]
    grind only
  rw [if_neg s1] at K
  by_cases s2 : c ≤ d ∧ a ≤ c
  · rw [if_pos s2, show (if (2 : Nat) < 2 then (1 : Int32) else 0) = 0 from rfl] at K
    simp only [s0, s1, s2, and_self, not_true, not_false_eq_true, true_implies, false_implies, and_true, true_and]
    grind only
  rw [if_neg s2] at K
  by_cases s3 : d ≤ c ∧ b ≤ d
  · rw [if_pos s3, show (if (3 : Nat) < 2 then (1 : Int32) else 0) = 0 from rfl] at K
    simp only [s0, s1, s2, s3, and_self, not_true, not_false_eq_true, true_implies, false_implies, and_true, true_and]
    grind only
  rw [if_neg s3] at K
  have hz : ¬ (a - b + d - c).toInt = 0 := by
    simp only [fa_le] at s0 s1 s2 s3
    omega
  have fA : w.toInt < 2 → wX5_lowest Q (d - c) (a - b + d - c) (if w = 0 then 1 else 0) σ := fun h => mFrac (by omega) (by omega) hz (by rw [if_pos h] at K; exact K)
  have fB : ¬ w.toInt < 2 → wX5_lowest Q (a * d - b * c) (a - b + d - c) (if w = 2 then 1 else 0) σ := fun h => mFrac (by omega) (by omega) hz (by rw [if_neg h] at K; exact K)
  simp only [s0, s1, s2, s3, not_true, not_false_eq_true, true_implies, false_implies, and_true, true_and]
  clear w2 r1 r2 r3 K hz
  grind only
def og_rw (a b c d : Int32) : Nat → Int32 := fun k => if k = 0 then a else if k = 1 then b else if k = 2 then c else d
theorem cGameL {Q : Int32 → OgG → OgC → Prop} {Γ : OgG} {σ : OgC} {t kc ks : Nat} {a b c d w : Int32} (ha : -99 ≤ a.toInt ∧ a.toInt ≤ 99) (hb : -99 ≤ b.toInt ∧ b.toInt ≤ 99) (hc : -99 ≤ c.toInt ∧ c.toInt ≤ 99) (hd : -99 ≤ d.toInt ∧ d.toInt ≤ 99) (hw : 0 ≤ w.toInt ∧ w.toInt ≤ 3) (h0 : σ.I t 0 = a) (h1 : σ.I t 1 = b) (h2 : σ.I t 2 = c) (h3 : σ.I t 3 = d) (K : Q (og_gm a b c d w) Γ σ) : wX0_game_68 Q a b c d w t (nI 0) kc ks Γ σ := by
  obtain ⟨r1, r2, r3⟩ := gm_rng ha hb hc hd
  have w2 : (2 : Int32) ≤ w ↔ ¬ w.toInt < 2 := by
    rw [fa_le]
    show (2 : Int) ≤ _ ↔ _
    omega
  have wz : w = 0 → w.toInt < 2 := fun e => by rw [e]; decide
  have wt : w = 2 → ¬ w.toInt < 2 := fun e => by rw [e]; decide
  refine og_lp5_intro (fun m x kc' ks' Γ' σ' => ∃ k, k ≤ 4 ∧ m = 4 - k ∧ x = nI k ∧ Γ' = Γ ∧ σ' = σ ∧ (0 < k → ¬ (a.toInt ≤ b.toInt ∧ c.toInt ≤ a.toInt)) ∧ (1 < k → ¬ (b.toInt ≤ a.toInt ∧ d.toInt ≤ b.toInt)) ∧ (2 < k → ¬ (c.toInt ≤ d.toInt ∧ a.toInt ≤ c.toInt)) ∧ (3 < k → ¬ (d.toInt ≤ c.toInt ∧ b.toInt ≤ d.toInt))) (fun K' m x kc' ks' Γ' σ' hx hk => ?_) 4 _ kc ks Γ σ ⟨0, by omega, rfl, rfl, rfl, rfl, by omega, by omega, by omega, by omega⟩
  obtain ⟨k, hk4, rfl, rfl, rfl, rfl, p0, p1, p2, p3⟩ := hx
  unfold wX0_game_B68 wX0_game_142 wX0_game_180 wX0_game_207
  simp only [forall_eq, nI_s, w2]
  unfold og_gm og_sad at K
  simp only [fa_lt, fa_le] at K ⊢
  have nx : ∀ q : ¬ k = 4, (0 < k + 1 → ¬ (a.toInt ≤ b.toInt ∧ c.toInt ≤ a.toInt)) → (1 < k + 1 → ¬ (b.toInt ≤ a.toInt ∧ d.toInt ≤ b.toInt)) → (2 < k + 1 → ¬ (c.toInt ≤ d.toInt ∧ a.toInt ≤ c.toInt)) → (3 < k + 1 → ¬ (d.toInt ≤ c.toInt ∧ b.toInt ≤ d.toInt)) → K' (nI (k + 1)) kc' ks' Γ' σ' := fun q a1 a2 a3 a4 => hk (4 - (k + 1)) _ _ _ _ _ (by omega) ⟨k + 1, by omega, rfl, rfl, rfl, rfl, a1, a2, a3, a4⟩
  rcases (show k = 0 ∨ k = 1 ∨ k = 2 ∨ k = 3 ∨ k = 4 by omega) with rfl | rfl | rfl | rfl | rfl
  · have c1 : ¬ (4 : Int32).toInt ≤ (nI 0).toInt := by decide
    refine ⟨fun e => absurd e c1, fun _ => ⟨by unfold vp_in; decide, by unfold vp_in; decide, ?_⟩⟩
    rw [show (nI 0 ^^^ 1).toNatClampNeg = 1 by decide, show (nI 0 ^^^ 2).toNatClampNeg = 2 by decide, show (nI 0).toNatClampNeg = 0 by decide, h0, h1, h2]
    have vp1 : vp_in (nI 0) 4 := by unfold vp_in; decide
    have vp2 : vp_in (nI 0 ^^^ 2) 4 := by unfold vp_in; decide
    have q2 : ¬ (2 : Int32).toInt ≤ (nI 0).toInt := by decide
    by_cases s0 : a.toInt ≤ b.toInt ∧ c.toInt ≤ a.toInt
    · rw [if_pos s0, show (if (0 : Nat) < 2 then (1 : Int32) else 0) = 1 from rfl] at K
      clear w2 r1 r2 r3 wz wt nx hk
      grind only
    · have n := nx (by omega) (fun _ => s0) (by omega) (by omega) (by omega)
      clear w2 r1 r2 r3 wz wt nx hk K
      grind only
  · have c1 : ¬ (4 : Int32).toInt ≤ (nI 1).toInt := by decide
    refine ⟨fun e => absurd e c1, fun _ => ⟨by unfold vp_in; decide, by unfold vp_in; decide, ?_⟩⟩
    rw [show (nI 1 ^^^ 1).toNatClampNeg = 0 by decide, show (nI 1 ^^^ 2).toNatClampNeg = 3 by decide, show (nI 1).toNatClampNeg = 1 by decide, h0, h1, h3]
    have vp1 : vp_in (nI 1) 4 := by unfold vp_in; decide
    have vp2 : vp_in (nI 1 ^^^ 2) 4 := by unfold vp_in; decide
    have q2 : ¬ (2 : Int32).toInt ≤ (nI 1).toInt := by decide
    rw [if_neg (p0 (by omega))] at K
    by_cases s0 : b.toInt ≤ a.toInt ∧ d.toInt ≤ b.toInt
    · rw [if_pos s0, show (if (1 : Nat) < 2 then (1 : Int32) else 0) = 1 from rfl] at K
      clear w2 r1 r2 r3 wz wt nx hk
      grind only
    · have n := nx (by omega) (fun _ => p0 (by omega)) (fun _ => s0) (by omega) (by omega)
      clear w2 r1 r2 r3 wz wt nx hk K
      grind only
  · have c1 : ¬ (4 : Int32).toInt ≤ (nI 2).toInt := by decide
    refine ⟨fun e => absurd e c1, fun _ => ⟨by unfold vp_in; decide, by unfold vp_in; decide, ?_⟩⟩
    rw [show (nI 2 ^^^ 1).toNatClampNeg = 3 by decide, show (nI 2 ^^^ 2).toNatClampNeg = 0 by decide, show (nI 2).toNatClampNeg = 2 by decide, h0, h2, h3]
    have vp1 : vp_in (nI 2) 4 := by unfold vp_in; decide
    have vp2 : vp_in (nI 2 ^^^ 2) 4 := by unfold vp_in; decide
    have q2 : (2 : Int32).toInt ≤ (nI 2).toInt := by decide
    rw [if_neg (p0 (by omega)), if_neg (p1 (by omega))] at K
    by_cases s0 : c.toInt ≤ d.toInt ∧ a.toInt ≤ c.toInt
    · rw [if_pos s0, show (if (2 : Nat) < 2 then (1 : Int32) else 0) = 0 from rfl] at K
      clear w2 r1 r2 r3 wz wt nx hk
      grind only
    · have n := nx (by omega) (fun _ => p0 (by omega)) (fun _ => p1 (by omega)) (fun _ => s0) (by omega)
      clear w2 r1 r2 r3 wz wt nx hk K
      grind only
  · have c1 : ¬ (4 : Int32).toInt ≤ (nI 3).toInt := by decide
    refine ⟨fun e => absurd e c1, fun _ => ⟨by unfold vp_in; decide, by unfold vp_in; decide, ?_⟩⟩
    rw [show (nI 3 ^^^ 1).toNatClampNeg = 2 by decide, show (nI 3 ^^^ 2).toNatClampNeg = 1 by decide, show (nI 3).toNatClampNeg = 3 by decide, h1, h2, h3]
    have vp1 : vp_in (nI 3) 4 := by unfold vp_in; decide
    have vp2 : vp_in (nI 3 ^^^ 2) 4 := by unfold vp_in; decide
    have q2 : (2 : Int32).toInt ≤ (nI 3).toInt := by decide
    rw [if_neg (p0 (by omega)), if_neg (p1 (by omega)), if_neg (p2 (by omega))] at K
    by_cases s0 : d.toInt ≤ c.toInt ∧ b.toInt ≤ d.toInt
    · rw [if_pos s0, show (if (3 : Nat) < 2 then (1 : Int32) else 0) = 0 from rfl] at K
      clear w2 r1 r2 r3 wz wt nx hk
      grind only
    · have n := nx (by omega) (fun _ => p0 (by omega)) (fun _ => p1 (by omega)) (fun _ => p2 (by omega)) (fun _ => s0)
      clear w2 r1 r2 r3 wz wt nx hk K
      grind only
  · have c1 : (4 : Int32).toInt ≤ (nI 4).toInt := by decide
    refine ⟨fun _ => ?_, fun e => absurd c1 e⟩
    have s0 := p0 (by omega)
    have s1 := p1 (by omega)
    have s2 := p2 (by omega)
    have s3 := p3 (by omega)
    rw [if_neg s0, if_neg s1, if_neg s2, if_neg s3] at K
    have hz : ¬ (a - b + d - c).toInt = 0 := by omega
    have fA : w.toInt < 2 → wX0_ofFraction Γ' (fun r_4 s_5 => Q r_4 Γ' s_5) (d - c) (a - b + d - c) (if w = 0 then 1 else 0) σ' := fun h => cFrac (by omega) (by omega) hz (by rw [if_pos h] at K; exact K)
    have fB : ¬ w.toInt < 2 → wX0_ofFraction Γ' (fun r_4 s_5 => Q r_4 Γ' s_5) (a * d - b * c) (a - b + d - c) (if w = 2 then 1 else 0) σ' := fun h => cFrac (by omega) (by omega) hz (by rw [if_neg h] at K; exact K)
    clear w2 r1 r2 r3 K hz nx hk
    grind only
/-- what was there is as it was; more may be there -/
def Ext (Γ : OgG) (σ : OgC) (Γ' : OgG) (σ' : OgC) : Prop := Γ.top ≤ Γ'.top ∧ ∀ x, x < Γ.top → Γ'.G x = Γ.G x ∧ σ'.I x = σ.I x ∧ σ'.L x = σ.L x ∧ σ'.R x = σ.R x
theorem Ext.rf (Γ : OgG) (σ : OgC) : Ext Γ σ Γ σ := ⟨Nat.le_refl _, fun _ _ => ⟨rfl, rfl, rfl, rfl⟩⟩
theorem Ext.al {Γ Γ' : OgG} {σ σ' : OgC} (h : Ext Γ σ Γ' σ') (k : Nat × Nat) : Ext Γ σ (Γ'.al k) (σ'.z Γ'.top) := by
  refine ⟨Nat.le_trans h.1 (Nat.le_succ _), fun x hx => ?_⟩
  have hx' : ¬ x = Γ'.top := by have := h.1; omega
  obtain ⟨a, b, c, d⟩ := h.2 x hx
  refine ⟨?_, ?_, ?_, ?_⟩
  · show (if x = Γ'.top then k else Γ'.G x) = _
    rw [if_neg hx', a]
  · show (if x = Γ'.top then _ else σ'.I x) = _
    rw [if_neg hx', b]
  · show (if x = Γ'.top then _ else σ'.L x) = _
    rw [if_neg hx', c]
  · show (if x = Γ'.top then _ else σ'.R x) = _
    rw [if_neg hx', d]
theorem Ext.sI {Γ Γ' : OgG} {σ σ' : OgC} (h : Ext Γ σ Γ' σ') (a k : Nat) (v : Int32) (ha : Γ.top ≤ a) : Ext Γ σ Γ' (σ'.sI a k v) := by
  refine ⟨h.1, fun x hx => ?_⟩
  obtain ⟨p, b, c, d⟩ := h.2 x hx
  refine ⟨p, ?_, c, d⟩
  funext j
  rw [C_II, if_neg (by omega), b]
theorem pGame {Γ : OgG} {σM : OgS} {σC : OgC} {a b c d w : Int32} {kc ks : Nat} {Q : Int32 → Int32 → OgG → OgC → OgS → Prop} (hkc : 1 ≤ kc) (hks : 4 ≤ ks) (K : ∀ (r : Int32) (Γ' : OgG) (σC' : OgC), Ext Γ σC Γ' σC' → Q r r Γ' σC' (σM.sI 0 0 0)) : wX0_game (fun r Γ' σC' => wX5_game (fun r' σM' => Q r r' Γ' σC' σM') a b c d w σM) a b c d w kc ks Γ σC := by
  have K0 := K (-100000) Γ σC (Ext.rf Γ σC)
  unfold wX0_game wX5_game wX0_isEntry wX0_game_39 wX5_game_75
  simp only [cIn_eq, mIn_eq, forall_eq, Int32.reduceToInt, Int64.reduceToInt, Int32.toInt_toInt64, if10, if11, if10n]
  by_cases ha : -99 ≤ a.toInt ∧ a.toInt ≤ 99
  · by_cases hb : -99 ≤ b.toInt ∧ b.toInt ≤ 99
    · by_cases hc : -99 ≤ c.toInt ∧ c.toInt ≤ 99
      · by_cases hd : -99 ≤ d.toInt ∧ d.toInt ≤ 99
        · by_cases hw : 0 ≤ w.toInt ∧ w.toInt ≤ 3
          · simp only [ha, hb, hc, hd, hw, and_self, not_true, not_false_eq_true, true_implies, false_implies, and_true, true_and, or_true]
            refine ⟨⟨hkc, hks⟩, fun Γ1 s1 a1 e1 e2 e3 => ?_⟩
            subst e1 e2 e3
            have hE : Ext Γ σC (Γ.al (100, 4)) ((((((σC.z Γ.top).sI Γ.top 0 a).sI Γ.top 1 b).sI Γ.top 2 c).sI Γ.top 3 d)) := (((((Ext.rf Γ σC).al (100, 4)).sI Γ.top 0 a (Nat.le_refl _)).sI Γ.top 1 b (Nat.le_refl _)).sI Γ.top 2 c (Nat.le_refl _)).sI Γ.top 3 d (Nat.le_refl _)
            refine cGameL ha hb hc hd hw ?_ ?_ ?_ ?_ (mGame ha hb hc hd hw (K _ _ _ hE))
            all_goals simp [C_II]
          · simp only [ha, hb, hc, hd, hw, and_self, not_true, not_false_eq_true, true_implies, false_implies, and_true, true_and, or_true]
            exact K0
        · simp only [ha, hb, hc, hd, and_self, not_true, not_false_eq_true, true_implies, false_implies, and_true, true_and, true_or, or_true]
          exact K0
      · simp only [ha, hb, hc, and_self, not_true, not_false_eq_true, true_implies, false_implies, and_true, true_and, true_or, or_true]
        exact K0
    · simp only [ha, hb, and_self, not_true, not_false_eq_true, true_implies, false_implies, and_true, true_and, true_or, or_true]
      exact K0
  · simp only [ha, and_self, not_true, not_false_eq_true, true_implies, false_implies, and_true, true_and, true_or, or_true]
    exact K0
