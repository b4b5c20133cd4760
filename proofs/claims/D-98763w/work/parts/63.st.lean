/-! ===== both sides on the way from a start: the row, and what stayed ===== -/
def St (α0 : Nat → Int32) (σM0 : OgS) (σC0 : OgC) (α : Nat → Int32) (σM : OgS) (σC : OgC) : Prop := Row α σM σC ∧ OnlyC σC0 σC ∧ OnlyM σM0 σM ∧ Keep α0 α
theorem Keep.rf (α : Nat → Int32) : Keep α α := ⟨⟨Or.inr ⟨rfl, rfl, rfl, rfl⟩, id⟩, rfl⟩
theorem Keep.al {α0 α : Nat → Int32} (h : Keep α0 α) (j : Nat) (v : Int32) (hj : j ≠ 208 ∧ j ≠ 7 ∧ j ≠ 8 ∧ j ≠ 5 ∧ j ≠ 0 ∧ (j < 25 ∨ 31 ≤ j)) : Keep α0 (upd α j v) := by
  obtain ⟨⟨h1, ht⟩, h2⟩ := h
  refine ⟨⟨?_, fun z => (ht z).al j v (by omega)⟩, ?_⟩
  · rcases h1 with a | ⟨a, b, c, d⟩
    · exact Or.inl (by rw [pk_un (by omega)]; exact a)
    · exact Or.inr ⟨by rw [pk_un (by omega)]; exact a, by rw [pk_un (by omega)]; exact b, by rw [pk_un (by omega)]; exact c, by rw [pk_un (by omega)]; exact d⟩
  · rw [pk_un (by omega)]
    exact h2
theorem Keep.zero {α0 α : Nat → Int32} (h : α 5 = α0 5) (ht : TkZ α0 → TkZ α) : Keep α0 (upd α 208 0) := ⟨⟨Or.inl pk_us, fun z => (ht z).al 208 0 (by omega)⟩, by rw [pk_un (by omega)]; exact h⟩
theorem St.rf {α : Nat → Int32} {σM : OgS} {σC : OgC} (h : Row α σM σC) : St α σM σC α σM σC := ⟨h, OnlyC.rf σC, OnlyM.rf σM, Keep.rf α⟩
section St
variable {α0 α : Nat → Int32} {σM0 σM : OgS} {σC0 σC : OgC}
theorem St.thrown (h : St α0 σM0 σC0 α σM σC) (x : Int32) : St α0 σM0 σC0 α (σM.sI 0 0 x) σC := ⟨h.1.thrown x, h.2.1, h.2.2.1.put 0 0 x (Or.inl (by decide)), h.2.2.2⟩
theorem St.stat (h : St α0 σM0 σC0 α σM σC) (x : Int32) : St α0 σM0 σC0 (upd α 201 x) (σM.sI 0 1 x) (σC.sI 0 0 x) := ⟨h.1.stat x, h.2.1.put 0 0 x (by decide), h.2.2.1.put 0 1 x (Or.inl (by decide)), h.2.2.2.al 201 x (by decide)⟩
theorem St.refuse (h : St α0 σM0 σC0 α σM σC) (n : Nat) (hn : n < 7) (x : Int32) : St α0 σM0 σC0 (upd (upd α 201 x) (300 + n) (α (300 + n) + 1)) ((σM.sI 0 1 x).sI 1 n (σM.I 1 n + 1)) ((σC.sI 0 0 x).sI 1 n (σC.I 1 n + 1)) :=
  ⟨h.1.refuse n hn x, (h.2.1.put 0 0 x (by decide)).put 1 n _ (by decide), (h.2.2.1.put 0 1 x (Or.inl (by decide))).put 1 n _ (Or.inl (by decide)), (h.2.2.2.al 201 x (by decide)).al (300 + n) _ (by omega)⟩
/-- a cell of the row on both sides -/
theorem St.cell (h : St α0 σM0 σC0 α σM σC) (i : Nat) {a o p n : Nat} (hi : og_fam[i]? = some (a, o, p, n)) (k : Nat) (hk : k < n) {j q : Nat} (ej : o + k = j) (eq : p + k = q) (v : Int32) (hq : q < 150 ∧ q ≠ 4 ∧ q ≠ 7 ∧ q ≠ 8 ∧ q ≠ 5 ∧ (q < 25 ∨ 31 ≤ q) ∧ q ≠ 0) (ha : a < 16 ∧ (a ≠ 3 ∨ j ≠ 3)) {lo up : Int} (hb : og_bd q = some (lo, up)) (h1 : lo ≤ v.toInt) (h2 : v.toInt ≤ up) : St α0 σM0 σC0 (upd α q v) (σM.sI 2 q v) (σC.sI a j v) :=
  ⟨⟨h.1.1.row hq.1 hq.2.1 v, h.1.2.1.set i hi k hk ej eq v, (h.1.2.2.1.al q v hq.2.2.2.2.2.1).sI a j v ha.2, h.1.2.2.2.set q v hb h1 h2⟩, h.2.1.put a j v ha.1, h.2.2.1.put 2 q v (Or.inr ⟨rfl, hq.1, hq.2.1⟩), h.2.2.2.al q v (by omega)⟩
/-- nothing can be undone any more -/
theorem St.undo0 (h : St α0 σM0 σC0 α σM σC) : St α0 σM0 σC0 (upd α 208 0) (σM.sI 0 8 0) (σC.sI 0 14 0) :=
  ⟨⟨h.1.1.fld 8 (by omega) 0, h.1.2.1.set 25 rfl 0 (by omega) rfl rfl 0, (h.1.2.2.1.al 208 0 (by omega)).sI 0 14 0 (Or.inl (by decide)), h.1.2.2.2.set 208 0 (lo := 0) (hi := 16) rfl (by decide) (by decide)⟩, h.2.1.put 0 14 0 (by decide), h.2.2.1.put 0 8 0 (Or.inl (by decide)), Keep.zero h.2.2.2.2 h.2.2.2.1.2⟩
/-- both refuse -/
theorem St.ref {Γ : OgG} {Q : Int32 → Int32 → OgC → OgS → Prop} (h : St α0 σM0 σC0 α σM σC) (K : ∀ (r : Int32) (α' : Nat → Int32) (σC' : OgC) (σM' : OgS), St α0 σM0 σC0 α' σM' σC' → Q r r σC' σM') (c : Int32) (m : Nat) (h1 : 1 ≤ m) (hm : m < 7) (hc : -c = nI m) {G : Int32 → OgC → Prop} (hG : ∀ σC', wX5_tell (fun r' σM' => Q c r' σC' σM') c σM → G c σC') : wX0_refuse Γ G c σC :=
  cRefuse m hm hc (hG _ (mTellN m h1 hm hc (K c _ _ _ (h.refuse m hm c))))
end St
theorem pBrooms {Γ : OgG} {α : Nat → Int32} {σM : OgS} {σC : OgC} {Q : Int32 → Int32 → OgC → OgS → Prop} (h : Row α σM σC) (K : ∀ (r : Int32) (α' : Nat → Int32) (σC' : OgC) (σM' : OgS), St α σM σC α' σM' σC' → Q r r σC' σM') : wX0_brooms Γ (fun r σC' => wX5_brooms (fun r' σM' => Q r r' σC' σM') σM) σC := by
  intro s1 e1
  rw [e1, show (σM.sI 0 0 0).I 0 11 = σC.I 0 12 from (h.1.2.1 11 (by decide)).trans (h.2.1.at 23 rfl 0 (by omega) rfl rfl).symm]
  exact K _ α _ _ ((St.rf h).thrown 0)
theorem pFault {Γ : OgG} {α : Nat → Int32} {σM : OgS} {σC : OgC} {Q : Int32 → Int32 → OgC → OgS → Prop} (h : Row α σM σC) (K : ∀ (r : Int32) (α' : Nat → Int32) (σC' : OgC) (σM' : OgS), St α σM σC α' σM' σC' → Q r r σC' σM') : wX0_fault Γ (fun r σC' => wX5_fault (fun r' σM' => Q r r' σC' σM') σM) σC := by
  intro s1 e1
  rw [e1, show (σM.sI 0 0 0).I 0 18 = σC.I 0 11 from (h.1.2.1 18 (by decide)).trans (h.2.1.at 22 rfl 0 (by omega) rfl rfl).symm]
  exact K _ α _ _ ((St.rf h).thrown 0)
theorem pStopped {Γ : OgG} {α : Nat → Int32} {σM : OgS} {σC : OgC} {Q : Int32 → Int32 → OgC → OgS → Prop} (h : Row α σM σC) (K : ∀ (r : Int32) (α' : Nat → Int32) (σC' : OgC) (σM' : OgS), St α σM σC α' σM' σC' → Q r r σC' σM') : wX0_stopped Γ (fun r σC' => wX5_stopped (fun r' σM' => Q r r' σC' σM') σM) σC := by
  intro s1 e1
  rw [e1, show (σM.sI 0 0 0).I 0 48 = σC.I 0 13 from (h.1.2.1 48 (by decide)).trans (h.2.1.at 24 rfl 0 (by omega) rfl rfl).symm]
  exact K _ α _ _ ((St.rf h).thrown 0)
theorem pStatus {Γ : OgG} {α : Nat → Int32} {σM : OgS} {σC : OgC} {Q : Int32 → Int32 → OgC → OgS → Prop} (h : Row α σM σC) (K : ∀ (r : Int32) (α' : Nat → Int32) (σC' : OgC) (σM' : OgS), St α σM σC α' σM' σC' → Q r r σC' σM') : wX0_status Γ (fun r σC' => wX5_status (fun r' σM' => Q r r' σC' σM') σM) σC := by
  intro s1 e1
  rw [e1, show (σM.sI 0 0 0).I 0 1 = σC.I 0 0 from (h.1.2.1 1 (by decide)).trans (h.2.1.at 20 rfl 0 (by omega) rfl rfl).symm]
  exact K _ α _ _ ((St.rf h).thrown 0)
