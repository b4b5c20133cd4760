/-! ===== small steps as equations (for simp) ===== -/
theorem cIn_eq {Γ : OgG} {Q : Int32 → OgC → Prop} {v lo hi : Int32} {σ : OgC} : wX0_in Γ Q v lo hi σ = Q (if lo.toInt ≤ v.toInt ∧ v.toInt ≤ hi.toInt then 1 else 0) σ := by
  refine propext ⟨fun h => ?_, fun h => cIn (fun a b => ?_) (fun g => ?_)⟩
  · unfold wX0_in at h
    simp only [fa_le, fa_lt] at h
    split
    · rename_i c
      exact (h.2 (by omega)).2 (by omega)
    · rename_i c
      by_cases d : lo.toInt ≤ v.toInt
      · exact (h.2 (by omega)).1 (by omega)
      · exact h.1 (by omega)
  · rw [fa_le] at a b
    rwa [if_pos ⟨a, b⟩] at h
  · rw [fa_le, fa_le] at g
    rwa [if_neg g] at h
theorem mIn_eq {Q : Int32 → OgS → Prop} {v lo hi : Int64} {σ : OgS} : wX5_in Q v lo hi σ = Q (if lo.toInt ≤ v.toInt ∧ v.toInt ≤ hi.toInt then 1 else 0) σ := by
  refine propext ⟨fun h => ?_, fun h => mIn (fun a b => ?_) (fun g => ?_)⟩
  · unfold wX5_in at h
    simp only [fa_le64, fa_lt64] at h
    split
    · rename_i c
      exact (h.2 (by omega)).2 (by omega)
    · rename_i c
      by_cases d : lo.toInt ≤ v.toInt
      · exact (h.2 (by omega)).1 (by omega)
      · exact h.1 (by omega)
  · rw [fa_le64] at a b
    rwa [if_pos ⟨a, b⟩] at h
  · rw [fa_le64, fa_le64] at g
    rwa [if_neg g] at h
theorem if10 {c : Prop} [Decidable c] : ((if c then (1 : Int32) else 0) = 0) = ¬ c := by
  by_cases h : c <;> simp [h]
theorem if11 {c : Prop} [Decidable c] : ((if c then (1 : Int32) else 0) = 1) = c := by
  by_cases h : c <;> simp [h]
theorem if10n {c : Prop} : (¬ ¬ c) = c := propext Classical.not_not
theorem x_nat {x : Int32} {b : Nat} (hb : b < 2 ^ 31) (h : 0 ≤ x.toInt ∧ x.toInt ≤ b) : ∃ n, n ≤ b ∧ x = nI n := og_nat h.1 h.2
/-- both refuse, the model's side met by an implication -/
theorem St.ref1 {α0 α : Nat → Int32} {σM0 σM : OgS} {σC0 σC : OgC} {Q : Int32 → Int32 → OgC → OgS → Prop} (h : St α0 σM0 σC0 α σM σC) (K : ∀ (r : Int32) (α' : Nat → Int32) (σC' : OgC) (σM' : OgS), St α0 σM0 σC0 α' σM' σC' → Q r r σC' σM') (c : Int32) (m : Nat) (h1 : 1 ≤ m) (hm : m < 7) (hc : -c = nI m) : wX5_tell (fun r' σM' => Q c r' ((σC.sI 0 0 c).sI 1 m (σC.I 1 m + 1)) σM') c σM :=
  mTellN m h1 hm hc (K c _ _ _ (h.refuse m hm c))
theorem St.cellU {α0 α : Nat → Int32} {σM0 σM : OgS} {σC0 σC : OgC} (h : St α0 σM0 σC0 α σM σC) (i : Nat) {a o p n : Nat} (hi : og_fam[i]? = some (a, o, p, n)) (k : Nat) (hk : k < n) {j q : Nat} (ej : o + k = j) (eq : p + k = q) (v : Int32) (hq : q < 150 ∧ q ≠ 4 ∧ q ≠ 5 ∧ (q < 25 ∨ 31 ≤ q) ∧ q ≠ 0) (ha : a < 16 ∧ (a ≠ 3 ∨ j ≠ 3)) (hs : (a ≠ 0 ∨ j ≠ 14)) {lo up : Int} (hb : og_bd q = some (lo, up)) (h1 : lo ≤ v.toInt) (h2 : v.toInt ≤ up) : St α0 σM0 σC0 (upd (upd α q v) 208 0) ((σM.sI 0 8 0).sI 2 q v) ((σC.sI a j v).sI 0 14 0) := by
  rw [S_swap σM 0 v (Or.inl (by decide))]
  refine ⟨⟨(h.1.1.row hq.1 hq.2.1 v).fld 8 (by omega) 0, (h.1.2.1.set i hi k hk ej eq v).set 25 rfl 0 (by omega) rfl rfl 0, (((h.1.2.2.1.al q v hq.2.2.2.1).al 208 0 (by omega)).sI a j v ha.2).sI 0 14 0 (Or.inl (by decide)), (h.1.2.2.2.set q v hb h1 h2).set 208 0 (lo := 0) (hi := 16) rfl (by decide) (by decide)⟩, (h.2.1.put a j v ha.1).put 0 14 0 (by decide), (h.2.2.1.put 2 q v (Or.inr ⟨rfl, hq.1, hq.2.1⟩)).put 0 8 0 (Or.inl (by decide)), Keep.zero ?_ (fun z => (h.2.2.2.1.2 z).al q v (by omega))⟩
  rw [pk_un (by omega)]
  exact h.2.2.2.2
