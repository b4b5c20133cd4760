theorem FlF.at {α : Nat → Int32} {σ : OgC} (h : FlF α σ) (i : Nat) {a o p n : Nat} (hi : og_fam[i]? = some (a, o, p, n)) (k : Nat) (hk : k < n) {j q : Nat} (ej : o + k = j) (eq : p + k = q) : σ.I a j = α q := by
  subst ej eq
  exact h i _ hi k hk
theorem FlF.set {α : Nat → Int32} {σ : OgC} (h : FlF α σ) (i : Nat) {a o p n : Nat} (hi : og_fam[i]? = some (a, o, p, n)) (k : Nat) (hk : k < n) {j q : Nat} (ej : o + k = j) (eq : p + k = q) (v : Int32) : FlF (upd α q v) (σ.sI a j v) := by
  subst ej eq
  exact h.put i hi k hk v
theorem FlF.skip2 {α : Nat → Int32} {σ : OgC} (h : FlF α σ) {a k : Nat} (ha : ∀ q ∈ og_fam, q.1 ≠ a ∨ k < q.2.1 ∨ q.2.1 + q.2.2.2 ≤ k) (v : Int32) : FlF α (σ.sI a k v) := by
  intro i q hq j hj
  rw [C_II, ← h i q hq j hj]
  split
  · rename_i e
    rw [if_neg (by have := ha q (List.mem_of_getElem? hq); omega)]
  · rfl
theorem Row.stat {α : Nat → Int32} {σM : OgS} {σC : OgC} (h : Row α σM σC) (x : Int32) : Row (upd α 201 x) (σM.sI 0 1 x) (σC.sI 0 0 x) :=
  ⟨h.1.fld 1 (by omega) x, h.2.1.set 20 rfl 0 (by omega) rfl rfl x, (h.2.2.1.al 201 x (by omega)).sI 0 0 x (Or.inl (by decide)), h.2.2.2.free 201 x (by decide)⟩
theorem Row.refd {α : Nat → Int32} {σM : OgS} {σC : OgC} (h : Row α σM σC) (n : Nat) (hn : n < 7) : Row (upd α (300 + n) (α (300 + n) + 1)) (σM.sI 1 n (σM.I 1 n + 1)) (σC.sI 1 n (σC.I 1 n + 1)) := by
  have e1 : σM.I 1 n = α (300 + n) := h.1.2.2 n hn
  have e2 : σC.I 1 n = α (300 + n) := h.2.1.at 26 rfl n hn (Nat.zero_add n) rfl
  rw [e1, e2]
  have hb : og_bd (300 + n) = none := by
    have key : ∀ i : Fin 7, og_bd (300 + i.val) = none := by decide +kernel
    exact key ⟨n, hn⟩
  exact ⟨h.1.ref n _, h.2.1.set 26 rfl n hn (Nat.zero_add n) rfl _, (h.2.2.1.al (300 + n) _ (by omega)).sI 1 n _ (Or.inl (by decide)), h.2.2.2.free (300 + n) _ hb⟩
theorem Row.thrown {α : Nat → Int32} {σM : OgS} {σC : OgC} (h : Row α σM σC) (x : Int32) : Row α (σM.sI 0 0 x) σC := ⟨h.1.fskip (by decide) x, h.2⟩
/-- a refusal on both sides -/
theorem Row.refuse {α : Nat → Int32} {σM : OgS} {σC : OgC} (h : Row α σM σC) (n : Nat) (hn : n < 7) (x : Int32) : Row (upd (upd α 201 x) (300 + n) (α (300 + n) + 1)) ((σM.sI 0 1 x).sI 1 n (σM.I 1 n + 1)) ((σC.sI 0 0 x).sI 1 n (σC.I 1 n + 1)) := by
  have h1 := (h.stat x).refd n hn
  rw [pk_un (show 300 + n ≠ 201 by omega), S_II, if_neg (show ¬ (1 : Nat) = 0 by decide), C_II, if_neg (show ¬ (1 : Nat) = 0 by decide)] at h1
  exact h1
theorem Keep.refuse {α : Nat → Int32} (n : Nat) (x v : Int32) : Keep α (upd (upd α 201 x) (300 + n) v) := by
  refine ⟨⟨Or.inr ⟨?_, ?_, ?_, ?_⟩, fun ht => (ht.al 201 x (by omega)).al (300 + n) v (by omega)⟩, ?_⟩ <;> rw [pk_un (by omega), pk_un (by omega)]
theorem pFort {Γ : OgG} {α : Nat → Int32} {σM : OgS} {σC : OgC} {x y : Int32} {Q : Int32 → Int32 → OgC → OgS → Prop} (h : Row α σM σC) (K : ∀ (r : Int32) (α' : Nat → Int32) (σC' : OgC) (σM' : OgS), Row α' σM' σC' → OnlyC σC σC' → OnlyM σM σM' → Keep α α' → Q r r σC' σM') : wX0_fort Γ (fun r σC' => wX5_fort (fun r' σM' => Q r r' σC' σM') x y σM) x y σC := by
  obtain ⟨n, hn, hα⟩ := h.2.2.2.nat 0 (hi := 6) rfl
  have hC : σC.I 2 11 = nI n := (h.2.1.at 0 rfl 0 (by omega) rfl rfl).trans hα
  have hM : (σM.sI 0 0 0).I 2 0 = nI n := ((h.1.1 0 (by omega) (by omega)).trans hα)
  have hT := h.thrown 0
  have oM : OnlyM σM (σM.sI 0 0 0) := (OnlyM.rf σM).put 0 0 0 (Or.inl (by decide))
  -- a refusal of both
  have ref : ∀ (c : Int32) (m : Nat), m < 7 → 1 ≤ m → -c = nI m → ∀ Q' : Prop, (Q' → True) → wX0_refuse Γ (fun r σC' => wX5_tell (fun r' σM' => Q r r' σC' σM') c (σM.sI 0 0 0)) c σC := by
    intro c m hm h1 hc _ _
    refine cRefuse m hm hc (mTellN m h1 hm hc ?_)
    exact K c _ _ _ (hT.refuse m hm c) (((OnlyC.rf σC).put 0 0 c (by decide)).put 1 m _ (by decide)) ((oM.put 0 1 c (Or.inl (by decide))).put 1 m _ (Or.inl (by decide))) (Keep.refuse m c _)
  unfold wX0_fort
  refine cCanBe (fun a b c d => ⟨fun _ => ?_, fun e => absurd e (by decide)⟩) (fun g => ⟨fun e => absurd rfl e, fun _ => ?_⟩)
  · by_cases h6 : n = 6
    · refine ⟨fun g => absurd (by rw [hC, h6]; rfl) g, fun _ => ?_⟩
      have hcon : ∀ r σ', (wX5_tell (fun r' σM' => Q r r' σ' σM') (-5) (σM.sI 0 0 0)) → wX5_fort (fun r' σM' => Q r r' σ' σM') x y σM := by
        intro r σ' hq s1 e1
        rw [e1]
        exact mCome n hn hM (fun g => absurd ⟨⟨a, b⟩, c, d⟩ g) (fun _ _ => hq) (fun _ g => absurd g (by omega))
      refine cRefuse 5 (by decide) (by decide) (hcon _ _ (mTellN 5 (by decide) (by decide) (by decide) ?_))
      exact K _ _ _ _ (hT.refuse 5 (by decide) (-5)) (((OnlyC.rf σC).put 0 0 _ (by decide)).put 1 5 _ (by decide)) ((oM.put 0 1 _ (Or.inl (by decide))).put 1 5 _ (Or.inl (by decide))) (Keep.refuse 5 _ _)
    · refine ⟨fun _ => ?_, fun g => absurd ((nI_eq (a := n) (b := 6) (by omega) (by omega)).mp (hC.symm.trans g)) h6⟩
      refine cAdds n (by omega) hC (cSettled ?_)
      have er : (((((σC.sI 7 n y).sI 4 n x).sI 5 n 0).sI 3 3 ((σC.I 3 3) &&& (((1 : Int32) <<< (nI n &&& 31)) ^^^ (-1 : Int32)))).sI 2 11 (nI n + 1)).I 2 11 - 1 = nI n := by
        rw [C_II, if_pos rfl, if_pos rfl]
        simp
      rw [er]
      intro s1 e1
      rw [e1]
      refine mCome n hn hM (fun g => absurd ⟨⟨a, b⟩, c, d⟩ g) (fun _ g => absurd g h6) (fun _ hlt => mTell0 (by rw [fa_le, nI_toInt (by omega)]; show (0 : Int) ≤ _; omega) ?_)
      rw [fa_le, fa_le] at *
      have z0 : (0 : Int32).toInt = 0 := by decide
      have z99 : (99 : Int32).toInt = 99 := by decide
      have z3 : (3 : Int32).toInt = 3 := by decide
      have z6 : (nI n + 1).toInt = n + 1 := by
        have : nI n + 1 = nI (n + 1) := nI_add n 1
        rw [this, nI_toInt (by omega)]
        omega
      refine K (nI n) (upd (upd (upd (upd (upd (upd (upd α (31 + n) y) (13 + n) x) (19 + n) 0) (25 + n) 0) 0 (nI n + 1)) 208 0) 201 0) _ _ ⟨?_, ?_, ?_, ?_⟩ ?_ ?_ ?_
      · rw [fa_upd_swap α (show 31 + n ≠ 13 + n by omega)]
        exact ((((((hT.1.row (by omega) (by omega) x).row (by omega) (by omega) y).row (by omega) (by omega) 0).row (by omega) (by omega) 0).row (by omega) (by omega) _).fld 8 (by omega) 0).fld 1 (by omega) 0
      · exact ((((((((h.2.1.set 11 rfl n (by omega) (Nat.zero_add n) rfl y).set 9 rfl n (by omega) (Nat.zero_add n) rfl x).set 10 rfl n (by omega) (Nat.zero_add n) rfl 0).skip2 (by decide) _).al (25 + n) 0 (og_takenj (by omega))).set 0 rfl 0 (by omega) rfl rfl _).set 25 rfl 0 (by omega) rfl rfl 0).set 20 rfl 0 (by omega) rfl rfl 0)
      · have k3 : FlK (upd (upd (upd α (31 + n) y) (13 + n) x) (19 + n) 0) (((σC.sI 7 n y).sI 4 n x).sI 5 n 0) := (((((h.2.2.1.al (31 + n) y (by omega)).al (13 + n) x (by omega)).al (19 + n) 0 (by omega)).sI 7 n y (Or.inl (by decide))).sI 4 n x (Or.inl (by decide))).sI 5 n 0 (Or.inl (by decide))
        have k4 := k3.clear (n := n) (by omega)
        have e33 : (((σC.sI 7 n y).sI 4 n x).sI 5 n 0).I 3 3 = σC.I 3 3 := by
          rw [C_II, if_neg (by decide), C_II, if_neg (by decide), C_II, if_neg (by decide)]
        rw [e33] at k4
        exact (((((k4.al 0 _ (by omega)).al 208 0 (by omega)).al 201 0 (by omega)).sI 2 11 _ (Or.inl (by decide))).sI 0 14 0 (Or.inl (by decide))).sI 0 0 0 (Or.inl (by decide))
      · exact ((((((h.2.2.2.set (31 + n) y (bd_gen (by omega)) (by omega) (by omega)).set (13 + n) x (bd_men (by omega)) (by omega) (by omega)).set (19 + n) 0 (bd_shown (by omega)) (by omega) (by omega)).set (25 + n) 0 (bd_taken (by omega)) (by omega) (by omega)).set 0 _ (lo := 0) (hi := 6) rfl (by omega) (by omega)).set 208 0 (lo := 0) (hi := 16) rfl (by omega) (by omega)).free 201 0 (by decide)
      · exact ((((((((OnlyC.rf σC).put 7 n y (by decide)).put 4 n x (by decide)).put 5 n 0 (by decide)).put 3 3 _ (by decide)).put 2 11 _ (by decide)).put 0 14 _ (by decide)).put 0 0 _ (by decide))
      · exact (((((((oM.put 2 (13 + n) x (Or.inr ⟨rfl, by omega⟩)).put 2 (31 + n) y (Or.inr ⟨rfl, by omega⟩)).put 2 (19 + n) 0 (Or.inr ⟨rfl, by omega⟩)).put 2 (25 + n) 0 (Or.inr ⟨rfl, by omega⟩)).put 2 0 _ (Or.inr ⟨rfl, by omega⟩)).put 0 8 0 (Or.inl (by decide))).put 0 1 0 (Or.inl (by decide)))
      · refine ⟨⟨Or.inl ?_, fun ht => ?_⟩, ?_⟩
        · rw [pk_un (by omega), pk_us]
        · refine TkZ.al (TkZ.al (fun f hf h0 => ?_) 208 0 (by omega)) 201 0 (by omega)
          rw [pk_us] at h0
          rw [pk_un (by omega)]
          by_cases e : f = n
          · omega
          · rw [pk_un (by omega), pk_un (by omega), pk_un (by omega), pk_un (by omega)]
            exact ht f hf (by rw [hα, nI_toInt (by omega)]; omega)
        · rw [pk_un (by omega), pk_un (by omega), pk_un (by omega), pk_un (by omega), pk_un (by omega), pk_un (by omega), pk_un (by omega)]
  · have hcon : ∀ r σ', (wX5_tell (fun r' σM' => Q r r' σ' σM') (-1) (σM.sI 0 0 0)) → wX5_fort (fun r' σM' => Q r r' σ' σM') x y σM := by
      intro r σ' hq s1 e1
      rw [e1]
      exact mCome n hn hM (fun _ => hq) (fun z => absurd z g) (fun z => absurd z g)
    refine cRefuse 1 (by decide) (by decide) (hcon _ _ (mTellN 1 (by decide) (by decide) (by decide) ?_))
    exact K _ _ _ _ (hT.refuse 1 (by decide) (-1)) (((OnlyC.rf σC).put 0 0 _ (by decide)).put 1 1 _ (by decide)) ((oM.put 0 1 _ (Or.inl (by decide))).put 1 1 _ (Or.inl (by decide))) (Keep.refuse 1 _ _)
