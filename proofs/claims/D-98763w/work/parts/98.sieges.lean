/-! ===== sieges by draws ===== -/
def og_dn (d : Nat) : Nat := (d * 1103 + 12345) % 1000003
theorem dn_lt (d : Nat) : og_dn d < 1000003 := Nat.mod_lt _ (by decide)
theorem l_eq {x : Int64} {n : Nat} (hn : n < 2 ^ 62) (h : x.toInt = n) : x = lN n := by
  rw [fa_eq64, h, pf_lI (by omega)]
theorem l_rem {x y : Int64} {a b : Nat} (hx : x.toInt = a) (hy : y.toInt = b) (ha : a < 2 ^ 62) (hb : 0 < b) (hb2 : b < 2 ^ 62) : (x - x / y * y).toInt = (a % b : Nat) := by
  have e1 := l_div (a := x) (b := y) (by omega) (by omega)
  rw [hx, hy] at e1
  have e1' : (x / y).toInt = (a / b : Nat) := by rw [e1]; rfl
  have hm := Nat.div_add_mod a b
  have hle : a / b * b ≤ a := Nat.div_mul_le_self a b
  have pm : ((a / b : Nat) : Int) * (b : Int) = ((a / b * b : Nat) : Int) := by
    push_cast
    rfl
  have e2 : (x / y * y).toInt = (a / b * b : Nat) := by
    rw [l_mul (by rw [e1', hy, pm]; omega) (by rw [e1', hy, pm]; omega), e1', hy, pm]
  rw [l_sub (by rw [hx, e2]; omega) (by rw [hx, e2]; omega), hx, e2]
  have : a = a / b * b + a % b := by rw [Nat.mul_comm]; exact hm.symm
  omega
theorem dr_v {x : Int64} {d : Nat} (hx : x.toInt = d) (hd : d < 1000003) : (x * 1103 + 12345 - (x * 1103 + 12345) / 1000003 * 1000003).toInt = (og_dn d : Nat) := by
  have z1 : (1103 : Int64).toInt = 1103 := by decide
  have z2 : (12345 : Int64).toInt = 12345 := by decide
  have z3 : (1000003 : Int64).toInt = (1000003 : Nat) := by decide
  have e1 : (x * 1103).toInt = (d * 1103 : Nat) := by rw [l_mul (by rw [hx, z1]; omega) (by rw [hx, z1]; omega), hx, z1]; push_cast; rfl
  have e2 : (x * 1103 + 12345).toInt = (d * 1103 + 12345 : Nat) := by rw [l_add (by rw [e1, z2]; omega) (by rw [e1, z2]; omega), e1, z2]; push_cast; rfl
  exact l_rem e2 z3 (by omega) (by decide) (by decide)
theorem cDraw {Γ : OgG} {Q : Int32 → OgC → Prop} {σ : OgC} {d n : Nat} (hd : d < 1000003) (h : σ.I 0 21 = nI d) (h0 : 0 < n) (hn : n < 1000) (K : Q (nI (og_dn d % n)) (σ.sI 0 21 (nI (og_dn d)))) : wX0_draw Γ Q (nI n) σ := by
  have hx : (σ.I 0 21).toInt64.toInt = d := by rw [Int32.toInt_toInt64, h, nI_toInt (by omega)]
  have v := dr_v hx hd
  have l := dn_lt d
  unfold wX0_draw
  simp only [forall_eq]
  have e : ((σ.I 0 21).toInt64 * 1103 + 12345 - ((σ.I 0 21).toInt64 * 1103 + 12345) / 1000003 * 1000003).toInt32 = nI (og_dn d) := by
    rw [fa_eq, Int64.toInt_toInt32, v, bm32 (by omega) (by omega), nI_toInt (by omega)]
  rw [e]
  refine ⟨fun z => by have := (nI_eq (b := 0) (by omega) (by decide)).mp z; omega, ?_⟩
  rw [C_II, if_pos rfl, if_pos rfl, nI_mod (by omega) h0 (by omega)]
  exact K
theorem mDraw {Q : Int32 → OgS → Prop} {σ : OgS} {d n : Nat} (hd : d < 1000003) (h : (σ.L 0 50).toInt = d) (h0 : 0 < n) (hn : n < 1000) (K : ∀ v : Int64, v.toInt = ((og_dn d : Nat) : Int) → Q (nI (og_dn d % n)) (σ.sL 0 50 v)) : wX5_draw Q (nI n) σ := by
  have v := dr_v h hd
  have l := dn_lt d
  unfold wX5_draw
  simp only [forall_eq]
  have hn' : (nI n).toInt64.toInt = (n : Nat) := by rw [Int32.toInt_toInt64, nI_toInt (by omega)]
  refine ⟨fun z => ?_, ?_⟩
  · have z2 := congrArg Int64.toInt z
    rw [hn'] at z2
    have : (0 : Int64).toInt = 0 := by decide
    omega
  · rw [S_LL, if_pos rfl, if_pos rfl]
    have r := l_rem v hn' (by omega) h0 (by omega)
    have ml : og_dn d % n < n := Nat.mod_lt _ h0
    have e : ((σ.L 0 50 * 1103 + 12345 - (σ.L 0 50 * 1103 + 12345) / 1000003 * 1000003) - (σ.L 0 50 * 1103 + 12345 - (σ.L 0 50 * 1103 + 12345) / 1000003 * 1000003) / (nI n).toInt64 * (nI n).toInt64).toInt32 = nI (og_dn d % n) := by
      rw [fa_eq, Int64.toInt_toInt32, r, bm32 (by omega) (by omega), nI_toInt (by omega)]
    rw [e]
    exact K _ v
/-- one draw of a siege, on paper -/
def og_sg1 (β : Nat → Int32) (T : Nat → Int32 → (Nat → Int64) → Option Int64) (f s : Nat) : Nat → Int32 := if bt (β (19 + f)) s || og_cs β T f s then og_flip β f s else β
def og_sg (β : Nat → Int32) (T : Nat → Int32 → (Nat → Int64) → Option Int64) (f : Nat) (ar : Int32) (s : Nat) : (Nat → Int32) × Nat :=
  if β (25 + f) = 0 then (if (β 6).toInt < 999 then (og_mar (og_sg1 β T f s) T ar f, if og_end (og_sg1 β T f s) T ar f = 1 then 1 else 0) else (og_sg1 β T f s, 0)) else (β, 0)
def og_sq (α : Nat → Int32) (T : Nat → Int32 → (Nat → Int64) → Option Int64) (n seed : Nat) : Nat → (Nat → Int32) × Nat × Nat := fun k => k.rec (α, seed, 0) (fun _ S =>
  ((og_sg S.1 T (og_dn S.2.1 % n) (nI (1 + og_dn (og_dn S.2.1) % 99)) (og_dn (og_dn (og_dn S.2.1)) % 6)).1, og_dn (og_dn (og_dn S.2.1)), S.2.2 + (og_sg S.1 T (og_dn S.2.1 % n) (nI (1 + og_dn (og_dn S.2.1) % 99)) (og_dn (og_dn (og_dn S.2.1)) % 6)).2))
theorem sq_s (α : Nat → Int32) (T : Nat → Int32 → (Nat → Int64) → Option Int64) (n seed k : Nat) : og_sq α T n seed (k + 1) = ((og_sg (og_sq α T n seed k).1 T (og_dn (og_sq α T n seed k).2.1 % n) (nI (1 + og_dn (og_dn (og_sq α T n seed k).2.1) % 99)) (og_dn (og_dn (og_dn (og_sq α T n seed k).2.1)) % 6)).1, og_dn (og_dn (og_dn (og_sq α T n seed k).2.1)), (og_sq α T n seed k).2.2 + (og_sg (og_sq α T n seed k).1 T (og_dn (og_sq α T n seed k).2.1 % n) (nI (1 + og_dn (og_dn (og_sq α T n seed k).2.1) % 99)) (og_dn (og_dn (og_dn (og_sq α T n seed k).2.1)) % 6)).2) := rfl
section Sg
variable {Z : Nat → Prop} {Γ : OgG} {α β : Nat → Int32} {nl : Nat} {T : Nat → Int32 → (Nat → Int64) → Option Int64}
theorem LtO.sg1 (h : LtO β nl T) {f s : Nat} (hf : f < 6) (hs : s < 6) : LtO (og_sg1 β T f s) nl T := by
  unfold og_sg1
  split
  · exact ⟨h.1.flip hf hs, h.2.1, by rw [flip_o _ _ _ hf (by omega)]; exact h.2.2⟩
  · exact h
theorem sg1_o {f s j : Nat} (hf : f < 6) (hj : j < 19 ∨ 25 ≤ j) : og_sg1 β T f s j = β j := by
  unfold og_sg1
  split
  · exact flip_o _ _ _ hf hj
  · rfl
theorem LtO.sg (h : LtO β nl T) {f s : Nat} (hf : f < 6) (hs : s < 6) (ar : Int32) : LtO (og_sg β T f ar s).1 nl T := by
  unfold og_sg
  split
  · split
    · rename_i c
      exact (h.sg1 hf hs).mar hf (by rw [sg1_o hf (by omega)]; exact c) ar
    · exact h.sg1 hf hs
  · exact h
theorem sg_o (hO : LtO β nl T) {f s j : Nat} (hf : f < 6) (hs : s < 6) (ar : Int32) (hj : j < 6 ∨ j = 7 ∨ j = 8 ∨ 31 ≤ j) : (og_sg β T f ar s).1 j = β j := by
  unfold og_sg
  split
  · split
    · show og_mar _ T ar f j = _
      rw [mar_out (hO.sg1 hf hs).1 hf hj, sg1_o hf (by omega)]
    · exact sg1_o hf (by omega)
  · rfl
theorem sg_v {f s : Nat} (ar : Int32) : (og_sg β T f ar s).2 ≤ 1 := by
  unfold og_sg
  split
  · split
    · show (if _ then 1 else 0) ≤ 1
      split <;> omega
    · exact Nat.zero_le _
  · exact Nat.zero_le _
theorem sq_ok (hO : LtO α nl T) {n seed : Nat} (hn : n ≤ 6) (h0 : 0 < n) (hs : seed < 1000003) : ∀ k, LtO (og_sq α T n seed k).1 nl T ∧ (og_sq α T n seed k).2.1 < 1000003 ∧ (og_sq α T n seed k).2.2 ≤ k ∧ ∀ j, j < 6 ∨ j = 7 ∨ j = 8 ∨ 31 ≤ j → (og_sq α T n seed k).1 j = α j
  | 0 => ⟨hO, hs, Nat.le_refl _, fun _ _ => rfl⟩
  | k + 1 => by
    obtain ⟨a, b, c, d⟩ := sq_ok hO hn h0 hs k
    have f6 : og_dn (og_sq α T n seed k).2.1 % n < 6 := Nat.lt_of_lt_of_le (Nat.mod_lt _ h0) hn
    have s6 : og_dn (og_dn (og_dn (og_sq α T n seed k).2.1)) % 6 < 6 := Nat.mod_lt _ (by decide)
    rw [sq_s]
    refine ⟨a.sg f6 s6 _, dn_lt _, ?_, fun j hj => ?_⟩
    · have := sg_v (β := (og_sq α T n seed k).1) (T := T) (f := og_dn (og_sq α T n seed k).2.1 % n) (s := og_dn (og_dn (og_dn (og_sq α T n seed k).2.1)) % 6) (nI (1 + og_dn (og_dn (og_sq α T n seed k).2.1) % 99))
      show _ + _ ≤ k + 1
      omega
    · show (og_sg _ T _ _ _).1 j = _
      rw [sg_o a f6 s6 _ hj]
      exact d j hj
/-- what sieges leave on the class's side -/
def SgC (σ σ' : OgC) : Prop := σ'.R = σ.R ∧ (∀ a, a ≠ 0 → ¬ (34 ≤ a ∧ a < 38) → σ'.I a = σ.I a) ∧ ∀ k, k ≠ 21 → σ'.I 0 k = σ.I 0 k
theorem SgC.tab {σ0 σ σ' : OgC} (h : SgC σ0 σ) (hf : TabFr 34 σ σ') : SgC σ0 σ' := ⟨hf.1.trans h.1, fun a h0 h34 => (hf.2.1 a (by omega)).trans (h.2.1 a h0 h34), fun k hk => by rw [hf.2.1 0 (by omega)]; exact h.2.2 k hk⟩
theorem SgC.d {σ0 σ : OgC} (h : SgC σ0 σ) (v : Int32) : SgC σ0 (σ.sI 0 21 v) := by
  refine ⟨h.1, fun a h0 h34 => ?_, fun k hk => ?_⟩
  · funext j
    rw [C_II, if_neg h0, h.2.1 a h0 h34]
  · rw [C_II, if_pos rfl, if_neg hk]
    exact h.2.2 k hk
theorem LtC.d {t : Nat} {σ : OgC} (h : LtC Z Γ t β nl T σ) (hZ : ZO Z) (ht : 0 < t) (v : Int32) : LtC Z Γ t β nl T (σ.sI 0 21 v) := by
  refine ⟨?_, h.2.keep hZ (fun a ha => ⟨?_, rfl⟩)⟩
  · obtain ⟨⟨h1, h2, h3, h4, h5⟩, ⟨g1, g2, g3, g4⟩, ⟨s1, s2, s3, s4⟩⟩ := h.1
    have e : ∀ a, a ≠ 0 → (σ.sI 0 21 v).I a = σ.I a := by
      intro a ha
      funext j
      rw [C_II, if_neg ha]
    unfold RdT
    rw [e (t + 1) (by omega), e (t + 2) (by omega), e (t + 3) (by omega), e t (by omega), e 7 (by decide), e 8 (by decide), e 9 (by decide), e 10 (by decide), e 2 (by decide)]
    exact h.1
  · funext j
    rw [C_II, if_neg (by omega)]
theorem cSgL {Q : Int32 → OgC → Prop} {σ0 σ : OgC} {n seed N : Nat} (hZ : ZO Z) (hO : LtO α nl T) (hn : n ≤ 6) (hn0 : 0 < n) (hα : α 0 = nI n) (hs : seed < 1000003) (hN : N ≤ 60) (hC : LtC Z Γ 34 α nl T σ) (hd : σ.I 0 21 = nI seed) (hf : SgC σ0 σ) (K : ∀ σ', LtC Z Γ 34 (og_sq α T n seed N).1 nl T σ' → SgC σ0 σ' → wX0_done Γ Q (nI (og_sq α T n seed N).2.2) σ') : wX0_sieges_79 Γ Q (nI N) (nI 0) (nI 0) σ := by
  refine forE3 N (fun k x4 x5 σ => x4 = nI (og_sq α T n seed k).2.2 ∧ x5 = nI k ∧ LtC Z Γ 34 (og_sq α T n seed k).1 nl T σ ∧ σ.I 0 21 = nI (og_sq α T n seed k).2.1 ∧ SgC σ0 σ) (fun K' k x4 x5 σ hk hr hK => ?_) ⟨rfl, rfl, hC, hd, hf⟩
  obtain ⟨rfl, rfl, hC, hd, hf⟩ := hr
  obtain ⟨oB, oD, oV, oJ⟩ := sq_ok (T := T) hO hn hn0 hs k
  unfold wX0_sieges_B79
  rw [nI_lei (by omega) (by omega)]
  by_cases c : N ≤ k
  · obtain rfl : k = N := by omega
    exact ⟨fun _ => K σ hC hf, fun e => absurd c e⟩
  refine ⟨fun e => absurd e c, fun _ => ?_⟩
  have n11 : σ.I 2 11 = nI n := by rw [hC.1.2.2.2.2.2, oJ 0 (by omega), hα]
  have hK' := hK
  simp only [sq_s] at hK'
  revert hK' oB oD oV hC hd
  generalize (og_sq α T n seed k).1 = β
  generalize (og_sq α T n seed k).2.1 = d
  generalize (og_sq α T n seed k).2.2 = v
  intro hC hd oB oD oV hK'
  have f6 : og_dn d % n < 6 := Nat.lt_of_lt_of_le (Nat.mod_lt _ hn0) hn
  have s6 : og_dn (og_dn (og_dn d)) % 6 < 6 := Nat.mod_lt _ (by decide)
  have a99 : og_dn (og_dn d) % 99 < 99 := Nat.mod_lt _ (by decide)
  rw [n11]
  refine cDraw oD hd hn0 (by omega) ?_
  refine cDraw (n := 99) (dn_lt d) (by rw [C_II, if_pos rfl, if_pos rfl]) (by decide) (by decide) ?_
  intro v8 e8
  have e8' : v8 = nI (1 + og_dn (og_dn d) % 99) := by rw [e8]; exact nI_add 1 _
  rw [e8']
  refine cDraw (n := 6) (dn_lt _) (by rw [C_II, if_pos rfl, if_pos rfl]) (by decide) (by decide) ?_
  have hC3 := ((hC.d hZ (by decide) (nI (og_dn d))).d hZ (by decide) (nI (og_dn (og_dn d)))).d hZ (by decide) (nI (og_dn (og_dn (og_dn d))))
  have hf3 := ((hf.d (nI (og_dn d))).d (nI (og_dn (og_dn d)))).d (nI (og_dn (og_dn (og_dn d))))
  have hd3 : (((σ.sI 0 21 (nI (og_dn d))).sI 0 21 (nI (og_dn (og_dn d)))).sI 0 21 (nI (og_dn (og_dn (og_dn d))))).I 0 21 = nI (og_dn (og_dn (og_dn d))) := by rw [C_II, if_pos rfl, if_pos rfl]
  revert hC3 hf3 hd3
  generalize ((σ.sI 0 21 (nI (og_dn d))).sI 0 21 (nI (og_dn (og_dn d)))).sI 0 21 (nI (og_dn (og_dn (og_dn d)))) = σ3
  intro hC3 hf3 hd3
  revert hK' f6 s6 a99
  generalize og_dn (og_dn d) % 99 = ar
  generalize hs : og_dn (og_dn (og_dn d)) % 6 = s
  generalize og_dn d % n = f
  intro hK' f6 s6 a99
  have kd : ∀ σ', TabFr 34 σ3 σ' → σ'.I 0 21 = nI (og_dn (og_dn (og_dn d))) := fun σ' h => by rw [h.2.1 0 (by omega)]; exact hd3
  have har : 1 ≤ (nI (1 + ar)).toInt ∧ (nI (1 + ar)).toInt ≤ 99 := by rw [nI_toInt (by omega)]; omega
  have v31 : v < 2 ^ 31 := by omega
  unfold og_sg at hK'
  refine cTaken hC3.1 oB.1 f6 ?_
  unfold wX0_sieges_189 wX0_sieges_155 wX0_sieges_163 wX0_sieges_189
  rcases tk_b oB.1 f6 with tk | tk
  · rw [tk]
    simp only [if_pos tk] at hK'
    refine ⟨fun _ => ⟨vp_in_nI f6 (by decide), ?_⟩, fun e => absurd rfl e⟩
    rw [nI_clamp (by omega), hC3.1.1.2.1 f f6, cIs (by omega)]
    -- behind the sign
    have mar : ∀ σ4, LtC Z Γ 34 (og_sg1 β T f s) nl T σ4 → TabFr 34 σ3 σ4 → ((999 : Int32) ≤ (σ4.I 34 4) → (∀ x5_1 : Int32, x5_1 = nI k + (1 : Int32) → (K' (nI v) x5_1 σ4))) ∧ (¬ (999 : Int32) ≤ (σ4.I 34 4) → (wX0_marches Γ (fun r_2 s_3 => ((¬ r_2 = (1 : Int32) → (∀ x5_1 : Int32, x5_1 = nI k + (1 : Int32) → (K' (nI v) x5_1 s_3))) ∧ (r_2 = (1 : Int32) → (∀ x4_5 : Int32, x4_5 = nI v + (1 : Int32) → (∀ x5_1 : Int32, x5_1 = nI k + (1 : Int32) → (K' x4_5 x5_1 s_3)))))) 34 (nI (1 + ar)) (nI f) σ4)) := by
      intro σ4 hC4 hf4
      have oB1 := oB.sg1 f6 s6
      have e6 : og_sg1 β T f s 6 = β 6 := sg1_o f6 (by omega)
      rw [hC4.1.1.2.2.2.1, e6, (d999 oB.1).2]
      by_cases cd : (β 6).toInt < 999
      · simp only [if_pos cd] at hK'
        refine ⟨fun e => absurd cd e, fun _ => cMarches hC4 oB1 hZ (Or.inr rfl) f6 har (fun σ5 hC5 hf5 => ?_)⟩
        refine ⟨fun e1 x5 e5 => ?_, fun e1 x4 e4 x5 e5 => ?_⟩
        · rw [e5, nI_s]
          refine hK' _ _ _ (by omega) ⟨?_, rfl, hC5, kd σ5 (hf4.tr hf5), hf3.tab (hf4.tr hf5)⟩
          rw [if_neg e1]
          rfl
        · rw [e4, e5, nI_s, nI_s]
          refine hK' _ _ _ (by omega) ⟨?_, rfl, hC5, kd σ5 (hf4.tr hf5), hf3.tab (hf4.tr hf5)⟩
          rw [if_pos e1]
      · simp only [if_neg cd] at hK'
        refine ⟨fun _ x5 e5 => ?_, fun e => absurd cd e⟩
        rw [e5, nI_s]
        exact hK' _ _ _ (by omega) ⟨rfl, rfl, hC4, kd σ4 hf4, hf3.tab hf4⟩
    cases hb : bt (β (19 + f)) s with
    | true =>
      have e1 : og_sg1 β T f s = og_flip β f s := by
        unfold og_sg1
        rw [hb]
        rfl
      refine ⟨fun _ => cFlip hC3 hZ (Or.inr rfl) f6 (fun σ4 hC4 hf4 => mar σ4 (by rw [e1]; exact hC4) hf4), fun e => absurd e (by decide)⟩
    | false =>
      refine ⟨fun e => absurd rfl e, fun _ => cCanShow hC3 oB f6 s6 (fun σ4 hE => ?_)⟩
      have hC4 := hE.lt hC3
      cases hcs : og_cs β T f s with
      | true =>
        have e1 : og_sg1 β T f s = og_flip β f s := by
          unfold og_sg1
          rw [hb, hcs]
          rfl
        refine ⟨fun e => absurd e (by decide), fun _ => cFlip hC4 hZ (Or.inr rfl) f6 (fun σ5 hC5 hf5 => mar σ5 (by rw [e1]; exact hC5) ((hE.tf 34).tr hf5))⟩
      | false =>
        have e1 : og_sg1 β T f s = β := by
          unfold og_sg1
          rw [hb, hcs]
          rfl
        refine ⟨fun _ => mar σ4 (by rw [e1]; exact hC4) (hE.tf 34), fun e => absurd rfl e⟩
  · rw [tk]
    have n1 : ¬ β (25 + f) = 0 := by rw [tk]; decide
    simp only [if_neg n1] at hK'
    refine ⟨fun e => absurd e (by decide), fun _ x5 e5 => ?_⟩
    rw [e5, nI_s]
    exact hK' _ _ _ (by omega) ⟨rfl, rfl, hC3, hd3, hf3⟩
end Sg
section Sg2
variable {Z : Nat → Prop} {Γ : OgG} {α β : Nat → Int32} {nl : Nat} {T : Nat → Int32 → (Nat → Int64) → Option Int64}
def SgM (σ σ' : OgS) : Prop := σ'.top = σ.top ∧ (∀ a, a ≠ 0 → a ≠ 2 → σ'.I a = σ.I a) ∧ (∀ k, k ≠ 34 → k ≠ 38 → σ'.I 0 k = σ.I 0 k) ∧ (∀ j, j < 6 ∨ 31 ≤ j → σ'.I 2 j = σ.I 2 j) ∧ ∀ a, a ≠ 0 → a ≠ 18 → a ≠ 20 → σ'.L a = σ.L a
theorem SgM.rw {σ0 σ σ' : OgS} (h : SgM σ0 σ) (hf : RowFr σ σ') : SgM σ0 σ' := ⟨hf.1.trans h.1, fun a h0 h2 => (hf.2.1 a h0 h2).trans (h.2.1 a h0 h2), fun k h1 h2 => (hf.2.2.1 k h1 h2).trans (h.2.2.1 k h1 h2), fun j hj => (hf.2.2.2.1 j hj).trans (h.2.2.2.1 j hj), fun a h0 h1 h2 => (hf.2.2.2.2.1 a h0 h1 h2).trans (h.2.2.2.2 a h0 h1 h2)⟩
theorem SgM.d {σ0 σ : OgS} (h : SgM σ0 σ) (v : Int64) : SgM σ0 (σ.sL 0 50 v) := by
  refine ⟨h.1, h.2.1, h.2.2.1, h.2.2.2.1, fun a h0 h1 h2 => ?_⟩
  funext j
  rw [S_LL, if_neg h0, h.2.2.2.2 a h0 h1 h2]
theorem LtM.d {σ : OgS} (h : LtM β nl T σ) (v : Int64) : LtM β nl T (σ.sL 0 50 v) := ⟨h.1.skipL 0 50 v, h.2⟩
theorem mSgL {Q : Int32 → OgS → Prop} {σ0 σ : OgS} {n seed N : Nat} (hO : LtO α nl T) (hn : n ≤ 6) (hn0 : 0 < n) (hα : α 0 = nI n) (hs : seed < 1000003) (hN : N ≤ 60) (hM : LtM α nl T σ) (hd : (σ.L 0 50).toInt = seed) (hf : SgM σ0 σ) (K : ∀ σ', LtM (og_sq α T n seed N).1 nl T σ' → SgM σ0 σ' → wX5_sieges_230 Q (nI (og_sq α T n seed N).2.2) (nI 0) (σ'.sI 0 52 (nI n))) : wX5_sieges_68 Q (nI N) (nI 0) (nI 0) σ := by
  refine forE3 N (fun k x4 x5 σ => x4 = nI (og_sq α T n seed k).2.2 ∧ x5 = nI k ∧ LtM (og_sq α T n seed k).1 nl T σ ∧ (σ.L 0 50).toInt = ((og_sq α T n seed k).2.1 : Nat) ∧ SgM σ0 σ) (fun K' k x4 x5 σ hk hr hK => ?_) ⟨rfl, rfl, hM, hd, hf⟩
  obtain ⟨rfl, rfl, hM, hd, hf⟩ := hr
  obtain ⟨oB, oD, oV, oJ⟩ := sq_ok (T := T) hO hn hn0 hs k
  have n0 : σ.I 2 0 = nI n := by rw [hM.1.1 0 (by omega) (by omega), oJ 0 (by omega), hα]
  unfold wX5_sieges_B68
  rw [nI_lei (by omega) (by omega), n0]
  by_cases c : N ≤ k
  · obtain rfl : k = N := by omega
    refine ⟨fun _ s2 e2 => ?_, fun e => absurd c e⟩
    rw [e2]
    exact K σ hM hf
  refine ⟨fun e => absurd e c, fun _ => ?_⟩
  have hK' := hK
  simp only [sq_s] at hK'
  revert hK' oB oD oV hM hd
  generalize (og_sq α T n seed k).1 = β
  generalize (og_sq α T n seed k).2.1 = d
  generalize (og_sq α T n seed k).2.2 = v
  intro hM hd oB oD oV hK'
  have f6 : og_dn d % n < 6 := Nat.lt_of_lt_of_le (Nat.mod_lt _ hn0) hn
  have s6 : og_dn (og_dn (og_dn d)) % 6 < 6 := Nat.mod_lt _ (by decide)
  have a99 : og_dn (og_dn d) % 99 < 99 := Nat.mod_lt _ (by decide)
  refine mDraw oD hd hn0 (by omega) (fun v1 h1 => ?_)
  refine mDraw (n := 99) (dn_lt d) (by rw [S_LL, if_pos rfl, if_pos rfl]; exact h1) (by decide) (by decide) (fun v2 h2 v7 e7 => ?_)
  have e7' : v7 = nI (1 + og_dn (og_dn d) % 99) := by rw [e7, nI_s, Nat.add_comm]
  rw [e7']
  refine mDraw (n := 6) (dn_lt _) (by rw [S_LL, if_pos rfl, if_pos rfl]; exact h2) (by decide) (by decide) (fun v3 h3 => ?_)
  have hM3 := ((hM.d v1).d v2).d v3
  have hf3 := ((hf.d v1).d v2).d v3
  have hd3 : (((((σ.sL 0 50 v1).sL 0 50 v2).sL 0 50 v3).L 0 50)).toInt = (og_dn (og_dn (og_dn d)) : Nat) := by rw [S_LL, if_pos rfl, if_pos rfl]; exact h3
  revert hM3 hf3 hd3
  generalize ((σ.sL 0 50 v1).sL 0 50 v2).sL 0 50 v3 = σ3
  intro hM3 hf3 hd3
  revert hK' f6 s6 a99
  generalize og_dn (og_dn d) % 99 = ar
  generalize hs : og_dn (og_dn (og_dn d)) % 6 = s
  generalize og_dn d % n = f
  intro hK' f6 s6 a99
  have kd : ∀ σ', RowFr σ3 σ' → (σ'.L 0 50).toInt = (og_dn (og_dn (og_dn d)) : Nat) := fun σ' h => by rw [h.2.2.2.2.2 50 (by decide) (by decide)]; exact hd3
  have v31 : v < 2 ^ 31 := by omega
  unfold og_sg at hK'
  have e25 : (25 : Int32) + nI f = nI (25 + f) := nI_add 25 f
  have e19 : (19 : Int32) + nI f = nI (19 + f) := nI_add 19 f
  have v25 : vp_in (nI (25 + f)) 5550 := vp_in_nI (by omega) (by decide)
  have v19 : vp_in (nI (19 + f)) 5550 := vp_in_nI (by omega) (by decide)
  rw [e25, e19, nI_clamp (by omega), nI_clamp (by omega), hM3.1.1 (25 + f) (by omega) (by omega), hM3.1.1 (19 + f) (by omega) (by omega)]
  refine ⟨v25, ?_⟩
  rcases tk_b oB.1 f6 with tk | tk
  · rw [tk]
    simp only [if_pos tk] at hK'
    refine ⟨fun e => absurd rfl e, fun _ => ⟨v19, fun v11 e11 => ?_⟩⟩
    subst e11
    rw [mIs (by omega)]
    have oB1 := oB.sg1 (T := T) f6 s6
    -- behind the sign
    have mar : ∀ σ4, LtM β nl T σ4 → RowFr σ3 σ4 → ∀ t0, og_sg1 β T f s = upd β (19 + f) t0 → wX5_sieges_181 Q K' (nI N) (nI v) (nI k) (nI f) (nI (1 + ar)) t0 (nI (19 + f)) σ4 := by
      intro σ4 hM4 hf4 t0 et
      refine ⟨v19, fun s1 e1 => ?_⟩
      rw [nI_clamp (by omega)] at e1
      subst e1
      have hM5 : LtM (og_sg1 β T f s) nl T (σ4.sI 2 (19 + f) t0) := by
        rw [et]
        exact hM4.put (19 + f) t0 (by omega)
      have hf5 : RowFr σ3 (σ4.sI 2 (19 + f) t0) := hf4.put (19 + f) t0 (by omega)
      revert hM5 hf5
      generalize σ4.sI 2 (19 + f) t0 = σ5
      intro hM5 hf5
      have e6 : og_sg1 β T f s 6 = β 6 := sg1_o f6 (by omega)
      unfold wX5_canMarch wX5_sieges_208 wX5_sieges_209 wX5_sieges_211
      rw [e25, nI_clamp (by omega), hM5.1.1 (25 + f) (by omega) (by omega), hM5.1.1 6 (by omega) (by omega), sg1_o f6 (by omega), e6, (d999 oB.1).2, tk]
      refine ⟨v25, fun e => absurd rfl e, fun _ => ?_⟩
      by_cases cd : (β 6).toInt < 999
      · simp only [if_pos cd] at hK'
        refine ⟨fun e => absurd cd e, fun _ => ⟨fun e => absurd e (by decide), fun _ => mMarchIt hM5 oB1 f6 (fun σ6 hM6 hf6 => ?_)⟩⟩
        refine ⟨fun e1 w1 ew x5 e5 => ?_, fun e1 w1 ew x5 e5 => ?_⟩
        · rw [e5, nI_s, ew, show nI v + 0 = nI v from nI_add v 0]
          refine hK' _ _ _ (by omega) ⟨?_, rfl, hM6, kd σ6 (hf5.tr hf6), hf3.rw (hf5.tr hf6)⟩
          rw [if_neg e1]
          rfl
        · rw [e5, nI_s, ew, nI_s]
          refine hK' _ _ _ (by omega) ⟨?_, rfl, hM6, kd σ6 (hf5.tr hf6), hf3.rw (hf5.tr hf6)⟩
          rw [if_pos e1]
      · simp only [if_neg cd] at hK'
        refine ⟨fun _ => ⟨fun _ w1 ew x5 e5 => ?_, fun e => absurd rfl e⟩, fun e => absurd cd e⟩
        rw [e5, nI_s, ew, show nI v + 0 = nI v from nI_add v 0]
        exact hK' _ _ _ (by omega) ⟨rfl, rfl, hM5, kd σ5 hf5, hf3.rw hf5⟩
    have xr := xr_ok (oB.1.at (19 + f) (bd_shown f6)) s6
    cases hb : bt (β (19 + f)) s with
    | true =>
      refine ⟨fun e => absurd e (by decide), fun _ => mar σ3 hM3 (EvM.rf σ3).rw _ ?_⟩
      unfold og_sg1
      rw [hb, ← xr.2.1 hb]
      rfl
    | false =>
      refine ⟨fun _ => mCanShow hM3 oB f6 s6 (fun σ4 hE => ?_), fun e => absurd rfl e⟩
      cases hcs : og_cs β T f s with
      | true =>
        refine ⟨fun e => absurd e (by decide), fun _ => mar σ4 (hE.lt hM3) hE.rw _ ?_⟩
        unfold og_sg1
        rw [hb, hcs, ← xr.1 hb]
        rfl
      | false =>
        refine ⟨fun _ => mar σ4 (hE.lt hM3) hE.rw _ ?_, fun e => absurd rfl e⟩
        unfold og_sg1
        rw [hb, hcs]
        exact (fa_upd_same rfl).symm
  · rw [tk]
    have n1 : ¬ β (25 + f) = 0 := by rw [tk]; decide
    simp only [if_neg n1] at hK'
    refine ⟨fun _ x5 e5 => ?_, fun e => absurd e (by decide)⟩
    rw [e5, nI_s]
    exact hK' _ _ _ (by omega) ⟨rfl, rfl, hM3, hd3, hf3⟩
/-- the end on the model's side: what was drawn is kept, the row put back -/
theorem mSgE {Q : Int32 → OgS → Prop} {σ0 : OgS} {n v : Nat} (hn : n ≤ 6) (hv : v < 2 ^ 31) (hF : ∀ j, 6 ≤ j → j < 31 → σ0.I 2 j = β j) (h52 : σ0.I 0 52 = nI n) (hs : ∀ i, i < 25 → σ0.I 5 (400 + i) = α (6 + i)) (K : ∀ σ, σ.top = σ0.top → σ.L = σ0.L → (∀ a, a ≠ 2 → a ≠ 26 → σ.I a = σ0.I a) → (∀ j, σ.I 2 j = if 6 ≤ j ∧ j < 31 then α j else σ0.I 2 j) → (∀ f, f < n → σ.I 26 (3 * f) = β (13 + f) ∧ σ.I 26 (3 * f + 1) = β (25 + f) ∧ σ.I 26 (3 * f + 2) = β (19 + f)) → (∀ g, g < 4 → σ.I 26 (18 + g) = β (9 + g)) → wX5_tell Q (nI v) σ) : wX5_sieges_230 Q (nI v) (nI 0) σ0 := by
  refine forE2 n (fun k x4 σ => x4 = nI k ∧ OneM 26 σ0 σ ∧ ∀ f, f < k → σ.I 26 (3 * f) = β (13 + f) ∧ σ.I 26 (3 * f + 1) = β (25 + f) ∧ σ.I 26 (3 * f + 2) = β (19 + f)) (fun K' k x4 σ hk hr hK => ?_) ⟨rfl, OneM.rf 26 σ0, fun f hf => absurd hf (by omega)⟩
  obtain ⟨rfl, hO, hd⟩ := hr
  have hFs : ∀ j, 6 ≤ j → j < 31 → σ.I 2 j = β j := fun j a b => by rw [hO.2.2 2 (by decide)]; exact hF j a b
  unfold wX5_sieges_B230
  rw [hO.2.2 0 (by decide), h52, nI_lei (by omega) (by omega)]
  by_cases c : n ≤ k
  · obtain rfl : k = n := by omega
    refine ⟨fun _ => ?_, fun e => absurd c e⟩
    refine forE2 4 (fun g x4 σ' => x4 = nI g ∧ OneM 26 σ0 σ' ∧ (∀ f, f < k → σ'.I 26 (3 * f) = β (13 + f) ∧ σ'.I 26 (3 * f + 1) = β (25 + f) ∧ σ'.I 26 (3 * f + 2) = β (19 + f)) ∧ ∀ i, i < g → σ'.I 26 (18 + i) = β (9 + i)) (fun K2 g x4 σ' hg hr hK2 => ?_) ⟨rfl, hO, hd, fun i hi => absurd hi (by omega)⟩
    obtain ⟨rfl, hO', hd', hg'⟩ := hr
    have hFs' : ∀ j, 6 ≤ j → j < 31 → σ'.I 2 j = β j := fun j a b => by rw [hO'.2.2 2 (by decide)]; exact hF j a b
    unfold wX5_sieges_B309
    rw [show (4 : Int32) = nI 4 from rfl, nI_lei (by omega) (by omega)]
    by_cases c4 : 4 ≤ g
    · obtain rfl : g = 4 := by omega
      refine ⟨fun _ => mPutBack (k := 16) (by decide) (fun σ2 hO2 hx2 => ?_), fun e => absurd c4 e⟩
      refine K σ2 ?_ ?_ (fun a h2 h26 => ?_) (fun j => ?_) (fun f hf => ?_) (fun i hi => ?_)
      · rw [hO2.2.1, hO'.2.1]
      · rw [hO2.1, hO'.1]
      · rw [hO2.2.2 a h2, hO'.2.2 a h26]
      · rw [hx2]
        by_cases q : 6 ≤ j ∧ j < 31
        · rw [if_pos q, if_pos q, hO'.2.2 5 (by decide)]
          have := hs (j - 6) (by omega)
          rw [show 6 + (j - 6) = j by omega] at this
          exact this
        · rw [if_neg q, if_neg q, hO'.2.2 2 (by decide)]
      · rw [hO2.2.2 26 (by decide)]
        exact hd' f hf
      · rw [hO2.2.2 26 (by decide)]
        exact hg' i hi
    · refine ⟨fun e => absurd e c4, fun _ => ?_⟩
      rw [show (9 : Int32) + nI g = nI (9 + g) from nI_add 9 g, show (18 : Int32) + nI g = nI (18 + g) from nI_add 18 g, nI_clamp (by omega), nI_clamp (by omega), hFs' (9 + g) (by omega) (by omega)]
      refine ⟨vp_in_nI (by omega) (by decide), fun v5 e5 => ⟨vp_in_nI (by omega) (by decide), fun s6 e6 x4 e7 => ?_⟩⟩
      subst e5 e6 e7
      rw [nI_s]
      refine hK2 _ _ (by omega) ⟨rfl, hO'.put _ _, fun f hf => ?_, fun i hi => ?_⟩
      · rw [S_II, if_pos rfl, if_neg (by omega), S_II, if_pos rfl, if_neg (by omega), S_II, if_pos rfl, if_neg (by omega)]
        exact hd' f hf
      · rw [S_II, if_pos rfl]
        by_cases e : i = g
        · rw [if_pos (by omega), e]
        · rw [if_neg (by omega)]
          exact hg' i (by omega)
  · refine ⟨fun e => absurd e c, fun _ => ?_⟩
    have m3 : (3 : Int32) * nI k = nI (3 * k) := nI_m 3 k
    have m31 : nI (3 * k) + 1 = nI (3 * k + 1) := nI_add _ 1
    have m32 : nI (3 * k) + 2 = nI (3 * k + 2) := nI_add _ 2
    rw [show (13 : Int32) + nI k = nI (13 + k) from nI_add 13 k, show (25 : Int32) + nI k = nI (25 + k) from nI_add 25 k, show (19 : Int32) + nI k = nI (19 + k) from nI_add 19 k, m3, m31, m32]
    simp only [nI_clamp (show 13 + k < 2 ^ 31 by omega), nI_clamp (show 25 + k < 2 ^ 31 by omega), nI_clamp (show 19 + k < 2 ^ 31 by omega), nI_clamp (show 3 * k < 2 ^ 31 by omega), nI_clamp (show 3 * k + 1 < 2 ^ 31 by omega), nI_clamp (show 3 * k + 2 < 2 ^ 31 by omega), forall_eq]
    have vi : ∀ j, j < 100 → vp_in (nI j) 5550 := fun j hj => vp_in_nI (by omega) (by decide)
    have vj : ∀ j, j < 22 → vp_in (nI j) 22 := fun j hj => vp_in_nI hj (by decide)
    rw [S_II, if_neg (by decide), S_II, if_neg (by decide), S_II, if_neg (by decide), hFs (13 + k) (by omega) (by omega), hFs (25 + k) (by omega) (by omega), hFs (19 + k) (by omega) (by omega), nI_s]
    refine ⟨vi _ (by omega), vj _ (by omega), vi _ (by omega), vj _ (by omega), vi _ (by omega), vj _ (by omega), hK _ _ (by omega) ⟨rfl, ((hO.put _ _).put _ _).put _ _, fun f hf => ?_⟩⟩
    by_cases e : f = k
    · subst e
      simp [S_II]
    · have := hd f (by omega)
      rw [S_II, if_pos rfl, if_neg (by omega), S_II, if_pos rfl, if_neg (by omega), S_II, if_pos rfl, if_neg (by omega), S_II, if_pos rfl, if_neg (by omega), S_II, if_pos rfl, if_neg (by omega), S_II, if_pos rfl, if_neg (by omega), S_II, if_pos rfl, if_neg (by omega), S_II, if_pos rfl, if_neg (by omega), S_II, if_pos rfl, if_neg (by omega)]
      exact this
end Sg2
