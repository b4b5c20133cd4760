/-! ===== tables, kept and taken back ===== -/
def TbR (t : Nat) (β : Nat → Int32) (σ : OgC) : Prop := (∀ k, k < 6 → σ.I (t + 1) k = β (13 + k)) ∧ (∀ k, k < 6 → σ.I (t + 2) k = β (19 + k)) ∧ (∀ k, k < 4 → σ.I (t + 3) k = β (9 + k)) ∧ σ.I t 4 = β 6 ∧ ((∀ f, f < 6 → β (25 + f) = (σ.I t 3 >>> (nI f &&& 31)) &&& 1) ∧ ∀ f, 6 ≤ f → f < 32 → bt (σ.I t 3) f = false)
theorem TbR.of {t : Nat} {β : Nat → Int32} {σ σ' : OgC} (h : TbR t β σ) (e : ∀ a, t ≤ a → a < t + 4 → σ'.I a = σ.I a) : TbR t β σ' := by
  obtain ⟨h1, h2, h3, h4, h5⟩ := h
  refine ⟨fun k hk => ?_, fun k hk => ?_, fun k hk => ?_, ?_, ?_⟩
  · rw [e (t + 1) (by omega) (by omega)]
    exact h1 k hk
  · rw [e (t + 2) (by omega) (by omega)]
    exact h2 k hk
  · rw [e (t + 3) (by omega) (by omega)]
    exact h3 k hk
  · rw [e t (by omega) (by omega)]
    exact h4
  · rw [e t (by omega) (by omega)]
    exact h5
theorem TbR.cong {t : Nat} {β γ : Nat → Int32} {σ : OgC} (h : TbR t β σ) (e : ∀ j, 6 ≤ j → j < 31 → j ≠ 7 → j ≠ 8 → γ j = β j) : TbR t γ σ := by
  obtain ⟨h1, h2, h3, h4, h5⟩ := h
  exact ⟨fun k hk => by rw [e _ (by omega) (by omega) (by omega) (by omega)]; exact h1 k hk, fun k hk => by rw [e _ (by omega) (by omega) (by omega) (by omega)]; exact h2 k hk, fun k hk => by rw [e _ (by omega) (by omega) (by omega) (by omega)]; exact h3 k hk, by rw [e _ (by omega) (by omega) (by omega) (by omega)]; exact h4, fun f hf => by rw [e _ (by omega) (by omega) (by omega) (by omega)]; exact h5.1 f hf, h5.2⟩
theorem TbR.main {α : Nat → Int32} {σ : OgC} (hF : FlF α σ) (hK : FlK α σ) : TbR 3 α σ := (RdT.of hF hK).1
theorem cTakes {Γ : OgG} {Q : OgC → Prop} {x0 x1 : Nat} {β : Nat → Int32} {σ : OgC} (h : TbR x1 β σ) (hd : x1 + 4 ≤ x0 ∨ x0 + 4 ≤ x1) (K : ∀ σ', TbR x0 β σ' → σ'.R = σ.R → σ'.L = σ.L → (∀ a, ¬ (x0 ≤ a ∧ a < x0 + 4) → σ'.I a = σ.I a) → Q σ') : wX2_takes Γ Q x0 x1 σ := by
  obtain ⟨h1, h2, h3, h4, h5⟩ := h
  unfold wX2_takes
  simp only [forall_eq]
  have e1 : ∀ a, a ≠ x0 → a ≠ x0 + 1 → a ≠ x0 + 2 → a ≠ x0 + 3 → ∀ j, ((((((σ.cI (x1 + 1) 0 (x0 + 1) 0 6).cI (x1 + 2) 0 (x0 + 2) 0 6).cI (x1 + 3) 0 (x0 + 3) 0 4).sI x0 3 ((((σ.cI (x1 + 1) 0 (x0 + 1) 0 6).cI (x1 + 2) 0 (x0 + 2) 0 6).cI (x1 + 3) 0 (x0 + 3) 0 4).I x1 3))).sI x0 4 (((((σ.cI (x1 + 1) 0 (x0 + 1) 0 6).cI (x1 + 2) 0 (x0 + 2) 0 6).cI (x1 + 3) 0 (x0 + 3) 0 4).sI x0 3 ((((σ.cI (x1 + 1) 0 (x0 + 1) 0 6).cI (x1 + 2) 0 (x0 + 2) 0 6).cI (x1 + 3) 0 (x0 + 3) 0 4).I x1 3)).I x1 4)).I a j = σ.I a j := by
    intro a n0 n1 n2 n3 j
    rw [C_II, if_neg n0, C_II, if_neg n0, C_cI, if_neg n3, C_cI, if_neg n2, C_cI, if_neg n1]
  refine K _ ⟨fun k hk => ?_, fun k hk => ?_, fun k hk => ?_, ?_, ?_⟩ rfl rfl (fun a ha => ?_)
  · rw [C_II, if_neg (by omega), C_II, if_neg (by omega), C_cI, if_neg (by omega), C_cI, if_neg (by omega), C_cI, if_pos rfl, if_pos (by omega), Nat.zero_add, Nat.sub_zero]
    exact h1 k hk
  · rw [C_II, if_neg (by omega), C_II, if_neg (by omega), C_cI, if_neg (by omega), C_cI, if_pos rfl, if_pos (by omega), Nat.zero_add, Nat.sub_zero, C_cI, if_neg (by omega)]
    exact h2 k hk
  · rw [C_II, if_neg (by omega), C_II, if_neg (by omega), C_cI, if_pos rfl, if_pos (by omega), Nat.zero_add, Nat.sub_zero, C_cI, if_neg (by omega), C_cI, if_neg (by omega)]
    exact h3 k hk
  · rw [C_II, if_pos rfl, if_pos rfl, C_II, if_neg (by omega), C_cI, if_neg (by omega), C_cI, if_neg (by omega), C_cI, if_neg (by omega)]
    exact h4
  · rw [C_II, if_pos rfl, if_neg (by omega), C_II, if_pos rfl, if_pos rfl, C_cI, if_neg (by omega), C_cI, if_neg (by omega), C_cI, if_neg (by omega)]
    exact h5
  · funext j
    exact e1 a (by omega) (by omega) (by omega) (by omega) j
/-- a row with the table's places of another -/
def og_mix (β α : Nat → Int32) : Nat → Int32 := fun j => if 6 ≤ j ∧ j < 31 then β j else α j
theorem fam_tab : ∀ q ∈ og_fam, q = (3, 4, 6, 1) ∨ q = (6, 0, 9, 4) ∨ q = (4, 0, 13, 6) ∨ q = (5, 0, 19, 6) ∨ ((q.1 < 3 ∨ 7 ≤ q.1) ∧ (q.2.2.1 + q.2.2.2 ≤ 6 ∨ 31 ≤ q.2.2.1 ∨ (q.2.2.1 = 7 ∧ q.2.2.2 = 1) ∨ (q.2.2.1 = 8 ∧ q.2.2.2 = 1)) ∧ q.1 < 16) := by decide
theorem FlF.tab {α β : Nat → Int32} {σ σ' : OgC} (h : FlF α σ) (hT : TbR 3 β σ') (e : ∀ a, a < 16 → (a < 3 ∨ 7 ≤ a) → σ'.I a = σ.I a) (h7 : β 7 = α 7) (h8 : β 8 = α 8) : FlF (og_mix β α) σ' := by
  obtain ⟨h1, h2, h3, h4, h5⟩ := hT
  intro i q hq k hk
  rcases fam_tab q (List.mem_of_getElem? hq) with e1 | e1 | e1 | e1 | ⟨a, b, c⟩
  · subst e1
    obtain rfl : k = 0 := by simpa using hk
    exact h4
  · subst e1
    have hk' : k < 4 := hk
    show σ'.I 6 (0 + k) = og_mix β α (9 + k)
    unfold og_mix
    rw [if_pos (by omega), Nat.zero_add]
    exact h3 k hk'
  · subst e1
    have hk' : k < 6 := hk
    show σ'.I 4 (0 + k) = og_mix β α (13 + k)
    unfold og_mix
    rw [if_pos (by omega), Nat.zero_add]
    exact h1 k hk'
  · subst e1
    have hk' : k < 6 := hk
    show σ'.I 5 (0 + k) = og_mix β α (19 + k)
    unfold og_mix
    rw [if_pos (by omega), Nat.zero_add]
    exact h2 k hk'
  · rw [e q.1 c a, h i q hq k hk]
    unfold og_mix
    split
    · rcases b with b | b | b | b
      · omega
      · omega
      · obtain rfl : k = 0 := by omega
        rw [b.1]
        exact h7.symm
      · obtain rfl : k = 0 := by omega
        rw [b.1]
        exact h8.symm
    · rfl
theorem FlK.tab {α β : Nat → Int32} {σ' : OgC} (hT : TbR 3 β σ') : FlK (og_mix β α) σ' := by
  refine ⟨fun f hf => ?_, hT.2.2.2.2.2⟩
  unfold og_mix
  rw [if_pos (by omega)]
  exact hT.2.2.2.2.1 f hf
/-- cells of tables that can be taken back -/
def UT (a : Nat) : Prop := 38 ≤ a ∧ a < 166 ∧ (a - 38) % 8 < 4
/-- the tables kept, on the class's side -/
def UnC (U : Nat → Nat → Int32) (W : Nat → Int32) (n : Nat) (σ : OgC) : Prop := n ≤ 16 ∧ ∃ u : Nat → Nat, (∀ k, k < 16 → σ.R 19 k = some (u k) ∧ ∃ j, j < 16 ∧ u k = 38 + 8 * j) ∧ (∀ i j, i < 16 → j < 16 → u i = u j → i = j) ∧ ∀ k, k < n → TbR (u k) (U k) σ ∧ σ.I 21 k = W k
def UnM (U : Nat → Nat → Int32) (W : Nat → Int32) (n : Nat) (σ : OgS) : Prop := ∀ k, k < n → (∀ i, i < 25 → σ.I 5 (25 * k + i) = U k (6 + i)) ∧ σ.I 6 k = W k
def og_psh {τ : Type} (U : Nat → τ) (n : Nat) (x : τ) : Nat → τ := fun k => if n < 16 then (if k = n then x else U k) else (if k = 15 then x else U (k + 1))
def og_pn1 (n : Nat) : Nat := if n < 16 then n + 1 else 16
/-- kinds of the tables -/
def GK (Γ : OgG) : Prop := ∀ j, j < 16 → Γ.G (38 + 8 * j) = (4, 0) ∧ Γ.G (42 + 8 * j) = (4, 0)
/-- what keeping leaves -/
def KpC (σ σ' : OgC) : Prop := σ'.L = σ.L ∧ (∀ a, a ≠ 19 → σ'.R a = σ.R a) ∧ ∀ a, a ≠ 0 → a ≠ 21 → ¬ UT a → σ'.I a = σ.I a
theorem UnC.of {U : Nat → Nat → Int32} {W : Nat → Int32} {n : Nat} {σ σ' : OgC} (h : UnC U W n σ) (hR : σ'.R 19 = σ.R 19) (h21 : σ'.I 21 = σ.I 21) (hT : ∀ a, UT a → σ'.I a = σ.I a) : UnC U W n σ' := by
  obtain ⟨hn, u, h1, h2, h3⟩ := h
  refine ⟨hn, u, fun k hk => by rw [hR]; exact h1 k hk, h2, fun k hk => ?_⟩
  obtain ⟨a, b⟩ := h3 k hk
  refine ⟨?_, by rw [h21]; exact b⟩
  obtain ⟨j, hj, e⟩ := (h1 k (by omega)).2
  exact a.of (fun x hx hx2 => hT x ⟨by omega, by omega, by omega⟩)
theorem UnC.cut {U : Nat → Nat → Int32} {W : Nat → Int32} {n m : Nat} {σ : OgC} (h : UnC U W n σ) (hm : m ≤ n) : UnC U W m σ := by
  obtain ⟨hn, u, h1, h2, h3⟩ := h
  exact ⟨by omega, u, h1, h2, fun k hk => h3 k (by omega)⟩
/-- room is there: the table is kept at n -/
theorem cKeep1 {Γ : OgG} {Q : OgC → Prop} {α : Nat → Int32} {U : Nat → Nat → Int32} {W : Nat → Int32} {n : Nat} {σ0 σ : OgC} {x : Int32} (hG : GK Γ) (hF : FlF (upd α 208 (nI n)) σ) (hK : FlK α σ) (hU : UnC U W n σ) (hn : n < 16) (hp : KpC σ0 σ) (K : ∀ σ', FlF (upd α 208 (nI (n + 1))) σ' → FlK α σ' → UnC (fun k => if k = n then α else U k) (fun k => if k = n then x else W k) (n + 1) σ' → KpC σ0 σ' → Q σ') : wX0_keeps_76 Γ Q x σ := by
  obtain ⟨hn16, u, h1, h2, h3⟩ := hU
  have h14 : σ.I 0 14 = nI n := by rw [hF.at 25 rfl 0 (by omega) rfl rfl (q := 208), pk_us]
  obtain ⟨j, hj, eu⟩ := (h1 n hn).2
  have hT : TbR 3 α σ := (TbR.main hF (hK.al 208 _ (by omega))).cong (fun i h6 h31 _ _ => (pk_un (by omega)).symm)
  unfold wX0_keeps_76
  rw [h14, nI_clamp (by omega)]
  refine ⟨vp_in_nI (by omega) (by decide), u n, (h1 n hn).1, by rw [eu]; exact (hG j hj).1, cTakes hT (by omega) (fun s4 hT4 eR eL eI => ?_)⟩
  have c14 : s4.I 0 14 = nI n := by rw [eI 0 (by omega)]; exact h14
  rw [c14, nI_clamp (by omega)]
  refine ⟨vp_in_nI (by omega) (by decide), fun s5 e5 s6 e6 => ?_⟩
  subst e5
  rw [C_II, if_neg (by decide), c14, nI_s] at e6
  subst e6
  have hF4 : FlF (upd α 208 (nI n)) s4 := by
    intro i q hq k hk
    have key : ∀ q ∈ og_fam, q.1 < 16 := by decide
    rw [eI q.1 (by have := key q (List.mem_of_getElem? hq); omega)]
    exact hF i q hq k hk
  have hF6 := (hF4.skip (a := 21) (by decide) n x).set 25 rfl 0 (by omega) rfl rfl (nI (n + 1))
  rw [fa_upd_twice] at hF6
  have i3 : s4.I 3 = σ.I 3 := eI 3 (by omega)
  refine K _ hF6 ?_ ⟨by omega, u, fun k hk => ?_, h2, fun k hk => ?_⟩ ⟨?_, fun a ha => ?_, fun a h0 h21 hu => ?_⟩
  · exact hK.of (by rw [C_II, if_neg (by decide), C_II, if_neg (by decide), i3])
  · show s4.R 19 k = _ ∧ _
    rw [eR]
    exact h1 k hk
  · have out : ∀ t, (∃ j, j < 16 ∧ t = 38 + 8 * j) → ∀ a, t ≤ a → a < t + 4 → ((s4.sI 21 n x).sI 0 14 (nI (n + 1))).I a = s4.I a := by
      intro t ht a h3 h4
      obtain ⟨j, hj, e⟩ := ht
      funext i
      rw [C_II, if_neg (by omega), C_II, if_neg (by omega)]
    by_cases e : k = n
    · subst e
      refine ⟨?_, ?_⟩
      · show TbR (u k) (if k = k then α else U k) _
        rw [if_pos rfl]
        exact hT4.of (out (u k) ⟨j, hj, eu⟩)
      · show _ = if k = k then x else W k
        rw [if_pos rfl, C_II, if_neg (by decide), C_II, if_pos rfl, if_pos rfl]
    · obtain ⟨a, b⟩ := h3 k (by omega)
      obtain ⟨i, hi, ei⟩ := (h1 k (by omega)).2
      have ne : u k ≠ u n := fun z => e (h2 k n (by omega) hn z)
      refine ⟨?_, ?_⟩
      · show TbR (u k) (if k = n then α else U k) _
        rw [if_neg e]
        exact (a.of (fun y hy hy2 => eI y (by omega))).of (out (u k) ⟨i, hi, ei⟩)
      · show _ = if k = n then x else W k
        rw [if_neg e, C_II, if_neg (by decide), C_II, if_pos rfl, if_neg e, eI 21 (by omega)]
        exact b
  · show s4.L = _
    rw [eL]
    exact hp.1
  · show s4.R a = _
    rw [eR]
    exact hp.2.1 a ha
  · rw [← hp.2.2 a h0 h21 hu, ← eI a (fun z => hu ⟨by omega, by omega, by omega⟩)]
    funext i
    rw [C_II, if_neg h0, C_II, if_neg h21]
theorem cKeeps {Γ : OgG} {Q : OgC → Prop} {α : Nat → Int32} {U : Nat → Nat → Int32} {W : Nat → Int32} {n : Nat} {σ : OgC} {x : Int32} (hG : GK Γ) (hF : FlF α σ) (hK : FlK α σ) (hα : α 208 = nI n) (hU : UnC U W n σ) (K : ∀ σ', FlF (upd α 208 (nI (og_pn1 n))) σ' → FlK α σ' → UnC (og_psh U n α) (og_psh W n x) (og_pn1 n) σ' → KpC σ σ' → Q σ') : wX0_keeps Γ Q x σ := by
  have hn16 := hU.1
  have h14 : σ.I 0 14 = nI n := (hF.at 25 rfl 0 (by omega) rfl rfl (q := 208)).trans hα
  have hs : upd α 208 (nI n) = α := fa_upd_same hα
  have kr : KpC σ σ := ⟨rfl, fun _ _ => rfl, fun _ _ _ _ => rfl⟩
  unfold wX0_keeps
  rw [h14, show nI n = 16 ↔ n = 16 from nI_eq (b := 16) (by omega) (by omega)]
  refine ⟨fun c => ?_, fun c => ?_⟩
  · have hn : n < 16 := by omega
    refine cKeep1 hG (by rw [hs]; exact hF) hK hU hn kr (fun σ' a b d e => K σ' ?_ b ?_ e)
    · unfold og_pn1
      rw [if_pos hn]
      exact a
    · unfold og_pn1 og_psh
      simp only [if_pos hn]
      exact d
  · subst c
    obtain ⟨_, u, h1, h2, h3⟩ := hU
    obtain ⟨j0, hj0, e0⟩ := (h1 0 (by omega)).2
    refine ⟨u 0, (h1 0 (by omega)).1, by rw [e0]; exact (hG j0 hj0).1, ?_⟩
    refine forE2 15 (fun k x3 s => x3 = nI (k + 1) ∧ s.L = σ.L ∧ (∀ a, a ≠ 19 → s.R a = σ.R a) ∧ (∀ a, a ≠ 21 → s.I a = σ.I a) ∧ (∀ i, i < 16 → s.R 19 i = if i < k then some (u (i + 1)) else some (u i)) ∧ ∀ i, i < 16 → s.I 21 i = if i < k then σ.I 21 (i + 1) else σ.I 21 i) (fun K' k x3 s hk hr hK' => ?_) ⟨rfl, rfl, fun _ _ => rfl, fun _ _ => rfl, fun i hi => by rw [if_neg (by omega)]; exact (h1 i hi).1, fun i hi => by rw [if_neg (by omega)]⟩
    obtain ⟨rfl, hL, hR, hI, hr19, hi21⟩ := hr
    unfold wX0_keeps_B18
    rw [show (16 : Int32) = nI 16 from rfl, nI_lei (by omega) (by omega)]
    by_cases ck : 16 ≤ k + 1
    · obtain rfl : k = 15 := by omega
      refine ⟨fun _ s2 e2 s3 e3 => ?_, fun e => absurd ck e⟩
      subst e2
      have c14 : (s.sR 19 15 (some (u 0))).I 0 14 = nI 16 := by
        show s.I 0 14 = _
        rw [hI 0 (by decide), h14]
      rw [c14, show nI 16 - 1 = nI 15 from nI_p 15] at e3
      subst e3
      have hFs : FlF α s := by
        intro i q hq k hk
        have key : ∀ q ∈ og_fam, q.1 ≠ 21 := by decide
        rw [hI q.1 (key q (List.mem_of_getElem? hq))]
        exact hF i q hq k hk
      have hFf : FlF α (s.sR 19 15 (some (u 0))) := hFs
      refine cKeep1 (U := fun k => U (k + 1)) (W := fun k => W (k + 1)) (n := 15) (σ0 := σ) hG (hFf.set 25 rfl 0 (by omega) rfl rfl (nI 15)) ?_ ⟨by omega, fun k => if k < 15 then u (k + 1) else u 0, fun k hk => ?_, fun i j hi hj e => ?_, fun k hk => ?_⟩ (by omega) ⟨hL, fun a ha => ?_, fun a h0 h21 hu => ?_⟩ (fun σ' a b d e => K σ' a b ?_ e)
      · refine hK.of ?_
        rw [C_II, if_neg (by decide)]
        show s.I 3 3 = _
        rw [hI 3 (by decide)]
      · show (s.sR 19 15 (some (u 0))).R 19 k = some (if k < 15 then u (k + 1) else u 0) ∧ ∃ j, j < 16 ∧ (if k < 15 then u (k + 1) else u 0) = 38 + 8 * j
        rw [C_RR, if_pos rfl]
        by_cases e : k = 15
        · subst e
          rw [if_pos rfl, if_neg (by omega)]
          exact ⟨rfl, j0, hj0, e0⟩
        · rw [if_neg e, hr19 k hk, if_pos (by omega), if_pos (by omega)]
          exact ⟨rfl, (h1 (k + 1) (by omega)).2⟩
      · dsimp only at e
        by_cases ei : i < 15
        · by_cases ej : j < 15
          · rw [if_pos ei, if_pos ej] at e
            have := h2 _ _ (by omega) (by omega) e
            omega
          · rw [if_pos ei, if_neg ej] at e
            have := h2 _ _ (by omega) (by omega) e
            omega
        · by_cases ej : j < 15
          · rw [if_neg ei, if_pos ej] at e
            have := h2 _ _ (by omega) (by omega) e
            omega
          · omega
      · obtain ⟨a, b⟩ := h3 (k + 1) (by omega)
        obtain ⟨i, hi, ei⟩ := (h1 (k + 1) (by omega)).2
        have oth : ∀ a, a ≠ 0 → a ≠ 21 → ((s.sR 19 15 (some (u 0))).sI 0 14 (nI 15)).I a = σ.I a := by
          intro a h0 h21
          rw [← hI a h21]
          funext i
          rw [C_II, if_neg h0]
          rfl
        refine ⟨?_, ?_⟩
        · show TbR (if k < 15 then u (k + 1) else u 0) _ _
          rw [if_pos hk]
          exact a.of (fun x hx hx2 => oth x (by omega) (by omega))
        · rw [C_II, if_neg (by decide)]
          show s.I 21 k = _
          rw [hi21 k (by omega), if_pos hk]
          exact b
      · show (s.sR 19 15 (some (u 0))).R a = _
        funext i
        rw [C_RR, if_neg ha, hR a ha]
      · funext i
        rw [C_II, if_neg h0]
        show s.I a i = _
        rw [hI a h21]
      · have eU : og_psh U 16 α = fun k => if k = 15 then α else U (k + 1) := by
          funext k
          unfold og_psh
          rw [if_neg (by decide)]
        have eW : og_psh W 16 x = fun k => if k = 15 then x else W (k + 1) := by
          funext k
          unfold og_psh
          rw [if_neg (by decide)]
        rw [eU, eW]
        exact d
    · refine ⟨fun e => absurd e ck, fun _ => ?_⟩
      obtain ⟨j, hj, ej⟩ := (h1 (k + 1) (by omega)).2
      have e1 : nI (k + 1) - 1 = nI k := nI_p k
      rw [e1, nI_clamp (by omega), nI_clamp (by omega), nI_s]
      refine ⟨vp_in_nI (by omega) (by decide), u (k + 1), by rw [hr19 (k + 1) (by omega), if_neg (by omega)], by rw [ej]; exact (hG j hj).1, vp_in_nI (by omega) (by decide), fun s5 e5 => ⟨vp_in_nI (by omega) (by decide), vp_in_nI (by omega) (by decide), fun s6 e6 x3 e3 => ?_⟩⟩
      subst e5 e6 e3
      refine hK' _ _ (by omega) ⟨rfl, hL, fun a ha => ?_, fun a ha => ?_, fun i hi => ?_, fun i hi => ?_⟩
      · show (s.sR 19 k (some (u (k + 1)))).R a = _
        funext i
        rw [C_RR, if_neg ha, hR a ha]
      · funext i
        rw [C_II, if_neg ha]
        show s.I a i = _
        rw [hI a ha]
      · show (s.sR 19 k (some (u (k + 1)))).R 19 i = _
        rw [C_RR, if_pos rfl]
        by_cases e : i = k
        · rw [if_pos e, if_pos (by omega), e]
        · rw [if_neg e, hr19 i hi]
          by_cases q : i < k
          · rw [if_pos q, if_pos (by omega)]
          · rw [if_neg q, if_neg (by omega)]
      · rw [C_II, if_pos rfl]
        by_cases e : i = k
        · rw [if_pos e, if_pos (by omega), e]
          show s.I 21 (k + 1) = _
          rw [hi21 (k + 1) (by omega), if_neg (by omega)]
        · rw [if_neg e]
          show s.I 21 i = _
          rw [hi21 i hi]
          by_cases q : i < k
          · rw [if_pos q, if_pos (by omega)]
          · rw [if_neg q, if_neg (by omega)]
/-! the model's side -/
theorem mKeepAll {Q : OgS → Prop} {σ0 : OgS} {k : Nat} (hk : k < 18) (K : ∀ σ, OneM 5 σ0 σ → (∀ x, σ.I 5 x = if 25 * k ≤ x ∧ x < 25 * k + 25 then σ0.I 2 (6 + (x - 25 * k)) else σ0.I 5 x) → Q σ) : wX5_keepAll Q (nI k) σ0 := by
  refine forE2 25 (fun i x2 σ => x2 = nI i ∧ OneM 5 σ0 σ ∧ ∀ x, σ.I 5 x = if 25 * k ≤ x ∧ x < 25 * k + i then σ0.I 2 (6 + (x - 25 * k)) else σ0.I 5 x) (fun K' i x2 σ hi hr hK => ?_) ⟨rfl, OneM.rf 5 σ0, fun x => by rw [if_neg (by omega)]⟩
  obtain ⟨rfl, hO, hx⟩ := hr
  unfold wX5_keepAll_B2
  rw [show (25 : Int32) = nI 25 from rfl, nI_lei (by omega) (by omega)]
  by_cases c : 25 ≤ i
  · obtain rfl : i = 25 := by omega
    exact ⟨fun _ => K σ hO hx, fun e => absurd c e⟩
  · have e6 : (6 : Int32) + nI i = nI (6 + i) := nI_add 6 i
    have e25 : nI 25 * nI k + nI i = nI (25 * k + i) := by rw [nI_m 25 k, nI_add]
    rw [e6, e25, nI_clamp (by omega), nI_clamp (by omega), nI_s]
    refine ⟨fun e => absurd e c, fun _ => ⟨vp_in_nI (by omega) (by decide), fun v2 e2 => ⟨vp_in_nI (by omega) (by decide), fun s3 e3 x2 ex => ?_⟩⟩⟩
    subst e2 e3 ex
    refine hK _ _ (by omega) ⟨rfl, hO.put _ _, fun x => ?_⟩
    rw [S_II, if_pos rfl, hO.2.2 2 (by decide)]
    by_cases e : x = 25 * k + i
    · rw [if_pos e, if_pos (by omega), show x - 25 * k = i by omega]
    · rw [if_neg e, hx x]
      by_cases q : 25 * k ≤ x ∧ x < 25 * k + i
      · rw [if_pos q, if_pos (by omega)]
      · rw [if_neg q, if_neg (by omega)]
/-- what keeping leaves, on the model's side -/
def KpM (σ σ' : OgS) : Prop := σ'.L = σ.L ∧ σ'.top = σ.top ∧ (∀ a, a ≠ 0 → a ≠ 5 → a ≠ 6 → σ'.I a = σ.I a) ∧ (∀ x, 400 ≤ x → σ'.I 5 x = σ.I 5 x) ∧ ∀ k, k ≠ 8 → σ'.I 0 k = σ.I 0 k
theorem mKeep1 {Q : OgS → Prop} {α : Nat → Int32} {U : Nat → Nat → Int32} {W : Nat → Int32} {n : Nat} {σ0 σ : OgS} {x : Int32} (hF : FlM (upd α 208 (nI n)) σ) (hU : UnM U W n σ) (hn : n < 16) (hp : KpM σ0 σ) (K : ∀ σ', FlM (upd α 208 (nI (n + 1))) σ' → UnM (fun k => if k = n then α else U k) (fun k => if k = n then x else W k) (n + 1) σ' → KpM σ0 σ' → Q σ') : wX5_remember_77 Q x σ := by
  have h8 : σ.I 0 8 = nI n := by rw [hF.2.1 8 (by decide), pk_us]
  unfold wX5_remember_77
  rw [h8]
  refine mKeepAll (by omega) (fun s1 hO hx => ?_)
  have c8 : s1.I 0 8 = nI n := by rw [hO.2.2 0 (by decide)]; exact h8
  rw [c8, nI_clamp (by omega)]
  refine ⟨vp_in_nI (by omega) (by decide), fun s2 e2 s3 e3 => ?_⟩
  subst e2
  rw [S_II, if_neg (by decide), c8, nI_s] at e3
  subst e3
  have hF3 := ((hO.fl (by decide) hF).skip (a := 6) (by decide) n x).fld 8 (by omega) (nI (n + 1))
  rw [fa_upd_twice] at hF3
  refine K _ hF3 (fun k hk => ⟨fun i hi => ?_, ?_⟩) ⟨?_, ?_, fun a h0 h5 h6 => ?_, fun y hy => ?_, fun k hk => ?_⟩
  · rw [S_II, if_neg (by decide), S_II, if_neg (by decide), hx]
    show _ = (if k = n then α else U k) (6 + i)
    by_cases e : k = n
    · subst e
      rw [if_pos (by omega), if_pos rfl, hF.1 _ (by omega) (by omega), pk_un (by omega), show 25 * k + i - 25 * k = i by omega]
    · rw [if_neg (by omega), if_neg e]
      exact (hU k (by omega)).1 i hi
  · rw [S_II, if_neg (by decide), S_II, if_pos rfl]
    show _ = if k = n then x else W k
    by_cases e : k = n
    · rw [if_pos e, if_pos e]
    · rw [if_neg e, if_neg e, hO.2.2 6 (by decide)]
      exact (hU k (by omega)).2
  · show s1.L = _
    rw [hO.1]
    exact hp.1
  · show s1.top = _
    rw [hO.2.1]
    exact hp.2.1
  · rw [← hp.2.2.1 a h0 h5 h6, ← hO.2.2 a h5]
    funext i
    rw [S_II, if_neg h0, S_II, if_neg h6]
  · rw [S_II, if_neg (by decide), S_II, if_neg (by decide), hx, if_neg (by omega)]
    exact hp.2.2.2.1 y hy
  · rw [S_II, if_pos rfl, if_neg hk, S_II, if_neg (by decide), hO.2.2 0 (by decide)]
    exact hp.2.2.2.2 k hk
theorem mRemember {Q : OgS → Prop} {α : Nat → Int32} {U : Nat → Nat → Int32} {W : Nat → Int32} {n : Nat} {σ : OgS} {x : Int32} (hF : FlM α σ) (hα : α 208 = nI n) (hn16 : n ≤ 16) (hU : UnM U W n σ) (K : ∀ σ', FlM (upd α 208 (nI (og_pn1 n))) σ' → UnM (og_psh U n α) (og_psh W n x) (og_pn1 n) σ' → KpM σ σ' → Q σ') : wX5_remember Q x σ := by
  have h8 : σ.I 0 8 = nI n := (hF.2.1 8 (by decide)).trans hα
  have hs : upd α 208 (nI n) = α := fa_upd_same hα
  have kr : KpM σ σ := ⟨rfl, rfl, fun _ _ _ _ => rfl, fun _ _ => rfl, fun _ _ => rfl⟩
  unfold wX5_remember
  rw [h8, show nI n = 16 ↔ n = 16 from nI_eq (b := 16) (by omega) (by omega)]
  refine ⟨fun c => ?_, fun c => ?_⟩
  · have hn : n < 16 := by omega
    refine mKeep1 (by rw [hs]; exact hF) hU hn kr (fun σ' a d e => K σ' ?_ ?_ e)
    · unfold og_pn1
      rw [if_pos hn]
      exact a
    · unfold og_pn1 og_psh
      simp only [if_pos hn]
      exact d
  · subst c
    refine forE2 375 (fun i x2 s => x2 = nI i ∧ OneM 5 σ s ∧ ∀ y, s.I 5 y = if y < i then σ.I 5 (y + 25) else σ.I 5 y) (fun K' i x2 s hi hr hK => ?_) ⟨rfl, OneM.rf 5 σ, fun y => by rw [if_neg (by omega)]⟩
    obtain ⟨rfl, hO, hx⟩ := hr
    unfold wX5_remember_B11
    rw [show (375 : Int32) = nI 375 from rfl, nI_lei (by omega) (by omega)]
    by_cases c : 375 ≤ i
    · obtain rfl : i = 375 := by omega
      refine ⟨fun _ => ?_, fun e => absurd c e⟩
      refine forE2 15 (fun i x2 s2 => x2 = nI i ∧ OneM 6 s s2 ∧ ∀ y, s2.I 6 y = if y < i then σ.I 6 (y + 1) else σ.I 6 y) (fun K2 i x2 s2 hi hr hK2 => ?_) ⟨rfl, OneM.rf 6 s, fun y => by rw [if_neg (by omega), hO.2.2 6 (by decide)]⟩
      obtain ⟨rfl, hO2, hx2⟩ := hr
      unfold wX5_remember_B41
      rw [show (15 : Int32) = nI 15 from rfl, nI_lei (by omega) (by omega)]
      by_cases c2 : 15 ≤ i
      · obtain rfl : i = 15 := by omega
        refine ⟨fun _ s3 e3 => ?_, fun e => absurd c2 e⟩
        have c8 : s2.I 0 8 = nI 16 := by rw [hO2.2.2 0 (by decide), hO.2.2 0 (by decide)]; exact h8
        rw [c8, show nI 16 - 1 = nI 15 from nI_p 15] at e3
        subst e3
        have hF2 := (hO2.fl (by decide) (hO.fl (by decide) hF)).fld 8 (by omega) (nI 15)
        refine mKeep1 (U := fun k => U (k + 1)) (W := fun k => W (k + 1)) (n := 15) (σ0 := σ) hF2 (fun k hk => ⟨fun j hj => ?_, ?_⟩) (by omega) ⟨?_, ?_, fun a h0 h5 h6 => ?_, fun y hy => ?_, fun k hk => ?_⟩ (fun σ' a d e => K σ' a ?_ e)
        · rw [S_II, if_neg (by decide), hO2.2.2 5 (by decide), hx, if_pos (by omega)]
          have := (hU (k + 1) (by omega)).1 j hj
          rw [show 25 * (k + 1) + j = 25 * k + j + 25 by omega] at this
          exact this
        · rw [S_II, if_neg (by decide), hx2, if_pos hk]
          exact (hU (k + 1) (by omega)).2
        · show s2.L = _
          rw [hO2.1, hO.1]
        · show s2.top = _
          rw [hO2.2.1, hO.2.1]
        · rw [← hO.2.2 a h5, ← hO2.2.2 a h6]
          funext i
          rw [S_II, if_neg h0]
        · rw [S_II, if_neg (by decide), hO2.2.2 5 (by decide), hx, if_neg (by omega)]
        · rw [S_II, if_pos rfl, if_neg hk, hO2.2.2 0 (by decide), hO.2.2 0 (by decide)]
        · have eU : og_psh U 16 α = fun k => if k = 15 then α else U (k + 1) := by
            funext k
            unfold og_psh
            rw [if_neg (by decide)]
          have eW : og_psh W 16 x = fun k => if k = 15 then x else W (k + 1) := by
            funext k
            unfold og_psh
            rw [if_neg (by decide)]
          rw [eU, eW]
          exact d
      · refine ⟨fun e => absurd e c2, fun _ => ?_⟩
        rw [nI_s, nI_clamp (by omega), nI_clamp (by omega)]
        refine ⟨vp_in_nI (by omega) (by decide), fun v3 e3 => ⟨vp_in_nI (by omega) (by decide), fun s4 e4 x2 ex => ?_⟩⟩
        subst e3 e4 ex
        refine hK2 _ _ (by omega) ⟨rfl, hO2.put _ _, fun y => ?_⟩
        rw [S_II, if_pos rfl]
        by_cases e : y = i
        · rw [if_pos e, if_pos (by omega), hx2, if_neg (by omega), e]
        · rw [if_neg e, hx2]
          by_cases q : y < i
          · rw [if_pos q, if_pos (by omega)]
          · rw [if_neg q, if_neg (by omega)]
    · refine ⟨fun e => absurd e c, fun _ => ?_⟩
      have e25 : nI i + 25 = nI (i + 25) := nI_add i 25
      rw [e25, nI_clamp (by omega), nI_clamp (by omega), nI_s]
      refine ⟨vp_in_nI (by omega) (by decide), fun v3 e3 => ⟨vp_in_nI (by omega) (by decide), fun s4 e4 x2 ex => ?_⟩⟩
      subst e3 e4 ex
      refine hK _ _ (by omega) ⟨rfl, hO.put _ _, fun y => ?_⟩
      rw [S_II, if_pos rfl]
      by_cases e : y = i
      · rw [if_pos e, if_pos (by omega), hx, if_neg (by omega), e]
      · rw [if_neg e, hx]
        by_cases q : y < i
        · rw [if_pos q, if_pos (by omega)]
        · rw [if_neg q, if_neg (by omega)]
theorem mPutBack {Q : OgS → Prop} {σ0 : OgS} {k : Nat} (hk : k < 18) (K : ∀ σ, OneM 2 σ0 σ → (∀ x, σ.I 2 x = if 6 ≤ x ∧ x < 31 then σ0.I 5 (25 * k + (x - 6)) else σ0.I 2 x) → Q σ) : wX5_putBack Q (nI k) σ0 := by
  refine forE2 25 (fun i x2 σ => x2 = nI i ∧ OneM 2 σ0 σ ∧ ∀ x, σ.I 2 x = if 6 ≤ x ∧ x < 6 + i then σ0.I 5 (25 * k + (x - 6)) else σ0.I 2 x) (fun K' i x2 σ hi hr hK => ?_) ⟨rfl, OneM.rf 2 σ0, fun x => by rw [if_neg (by omega)]⟩
  obtain ⟨rfl, hO, hx⟩ := hr
  unfold wX5_putBack_B2
  rw [show (25 : Int32) = nI 25 from rfl, nI_lei (by omega) (by omega)]
  by_cases c : 25 ≤ i
  · obtain rfl : i = 25 := by omega
    exact ⟨fun _ => K σ hO hx, fun e => absurd c e⟩
  · have e6 : (6 : Int32) + nI i = nI (6 + i) := nI_add 6 i
    have e25 : nI 25 * nI k + nI i = nI (25 * k + i) := by rw [nI_m 25 k, nI_add]
    rw [e6, e25, nI_clamp (by omega), nI_clamp (by omega), nI_s]
    refine ⟨fun e => absurd e c, fun _ => ⟨vp_in_nI (by omega) (by decide), fun v2 e2 => ⟨vp_in_nI (by omega) (by decide), fun s3 e3 x2 ex => ?_⟩⟩⟩
    subst e2 e3 ex
    refine hK _ _ (by omega) ⟨rfl, hO.put _ _, fun x => ?_⟩
    rw [S_II, if_pos rfl, hO.2.2 5 (by decide)]
    by_cases e : x = 6 + i
    · rw [if_pos e, if_pos (by omega), show x - 6 = i by omega]
    · rw [if_neg e, hx x]
      by_cases q : 6 ≤ x ∧ x < 6 + i
      · rw [if_pos q, if_pos (by omega)]
      · rw [if_neg q, if_neg (by omega)]
