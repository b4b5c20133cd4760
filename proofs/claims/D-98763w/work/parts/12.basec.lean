/-! ===== the class's memory: contents OgC, kinds OgG; final references are where the constructors laid them ===== -/
set_option maxRecDepth 100000
def OgC : Type := (Nat → Nat → Int32) × (Nat → Nat → Int64) × (Nat → Nat → Option Nat)
def OgC.I (S : OgC) : Nat → Nat → Int32 := S.1
def OgC.L (S : OgC) : Nat → Nat → Int64 := S.2.1
def OgC.R (S : OgC) : Nat → Nat → Option Nat := S.2.2
def OgC.sI (S : OgC) (a k : Nat) (v : Int32) : OgC := (og_up S.I a k v, S.L, S.R)
def OgC.sL (S : OgC) (a k : Nat) (v : Int64) : OgC := (S.I, og_up S.L a k v, S.R)
def OgC.sR (S : OgC) (a k : Nat) (v : Option Nat) : OgC := (S.I, S.L, og_up S.R a k v)
/-- ints copied from cell a to cell d -/
def og_cp (f : Nat → Nat → Int32) (a sp d dp n : Nat) : Nat → Nat → Int32 := fun x => if x = d then va_cpy (f a) (f x) sp dp n else f x
def OgM.cI (S : OgM) (a sp d dp n : Nat) : OgM := (og_cp S.I a sp d dp n, S.L, S.R, S.G, S.top)
def OgC.cI (S : OgC) (a sp d dp n : Nat) : OgC := (og_cp S.I a sp d dp n, S.L, S.R)
def OgG : Type := (Nat → Nat × Nat) × Nat
def OgG.G (Γ : OgG) : Nat → Nat × Nat := Γ.1
def OgG.top (Γ : OgG) : Nat := Γ.2
/-- final references: OpenGates 2, State 3, Table 4, Setting 5 -/
def og_cf2 (a k : Nat) (o : Option Nat) : Option Nat := match k with
  | 1 => some (a + 1)
  | 2 => some (a + 2)
  | 3 => some (a + 18)
  | 4 => some (a + 19)
  | 5 => some (a + 20)
  | 6 => some (a + 21)
  | 7 => some (a + 22)
  | 8 => some (a + 23)
  | 9 => some (a + 27)
  | 15 => some (a + 28)
  | 16 => some (a + 31)
  | 17 => some (a + 32)
  | 18 => some (a + 33)
  | 19 => some (a + 34)
  | _ => o
def og_cf3 (a k : Nat) (o : Option Nat) : Option Nat := match k with
  | 0 => some (a + 1)
  | 1 => some (a + 5)
  | 2 => some (a + 6)
  | 3 => some (a + 7)
  | 4 => some (a + 8)
  | 5 => some (a + 9)
  | 6 => some (a + 10)
  | 7 => some (a + 11)
  | 8 => some (a + 12)
  | 9 => some (a + 13)
  | 10 => some (a + 14)
  | _ => o
def og_cf4 (a k : Nat) (o : Option Nat) : Option Nat := match k with
  | 0 => some (a + 1)
  | 1 => some (a + 2)
  | 2 => some (a + 3)
  | _ => o
def og_cf5 (a k : Nat) (o : Option Nat) : Option Nat := match k with
  | 0 => some (a + 1)
  | 1 => some (a + 2)
  | _ => o
def og_cr (κ a k : Nat) (o : Option Nat) : Option Nat := match κ with
  | 2 => og_cf2 a k o
  | 3 => og_cf3 a k o
  | 4 => og_cf4 a k o
  | 5 => og_cf5 a k o
  | _ => o
def emC (Γ : OgG) (σ : OgC) : OgM := (σ.I, σ.L, fun a k => og_cr (Γ.G a).1 a k (σ.R a k), Γ.G, Γ.top)
/-- the cells that the constructor lays -/
def og_CG : Nat → Nat × Nat := fun a => match a with
  | 0 => (2, 0)
  | 1 => (100, 7)
  | 2 => (3, 0)
  | 3 => (4, 0)
  | 4 => (100, 6)
  | 5 => (100, 6)
  | 6 => (100, 4)
  | 7 => (100, 6)
  | 8 => (100, 6)
  | 9 => (100, 6)
  | 10 => (100, 6)
  | 11 => (100, 36)
  | 12 => (100, 10)
  | 13 => (100, 6)
  | 14 => (100, 16)
  | 15 => (100, 24)
  | 16 => (19, 0)
  | 17 => (106, 2)
  | 18 => (104, 2)
  | 19 => (105, 16)
  | 20 => (105, 16)
  | 21 => (100, 16)
  | 22 => (100, 16)
  | 23 => (4, 0)
  | 24 => (100, 6)
  | 25 => (100, 6)
  | 26 => (100, 4)
  | 27 => (103, 400)
  | 28 => (5, 0)
  | 29 => (6, 0)
  | 30 => (101, 19)
  | 31 => (100, 6)
  | 32 => (100, 99)
  | 33 => (100, 66)
  | 34 => (4, 0)
  | 35 => (100, 6)
  | 36 => (100, 6)
  | 37 => (100, 4)
  | _ => (0, 0)
def OgWt (Γ : OgG) (t : Nat) : Prop := Γ.G (t + 1) = (100, 6) ∧ Γ.G (t + 2) = (100, 6) ∧ Γ.G (t + 3) = (100, 4)
def OgWs (Γ : OgG) (t : Nat) : Prop := Γ.G (t + 1) = (4, 0) ∧ Γ.G (t + 5) = (100, 6) ∧ Γ.G (t + 6) = (100, 6) ∧ Γ.G (t + 7) = (100, 6) ∧ Γ.G (t + 8) = (100, 6) ∧ Γ.G (t + 9) = (100, 36) ∧ Γ.G (t + 10) = (100, 10) ∧ Γ.G (t + 11) = (100, 6) ∧ Γ.G (t + 12) = (100, 16) ∧ Γ.G (t + 13) = (100, 24) ∧ Γ.G (t + 14) = (19, 0)
def OgWf (Γ : OgG) : Prop := (∀ a, a < 38 → Γ.G a = og_CG a) ∧ (∀ t, Γ.G t = (4, 0) → OgWt Γ t) ∧ ∀ t, Γ.G t = (3, 0) → OgWs Γ t
theorem og_crv {Γ : OgG} {σ : OgC} {b a κ n k b' : Nat} (g : Γ.G a = (κ, n)) (h : og_cr κ a k (σ.R a k) = some b') : og_rv b ((emC Γ σ).R a k) = .ref (b + b') := by
  show og_rv b (og_cr (Γ.G a).1 a k (σ.R a k)) = _
  rw [g, h]
  rfl
theorem og_emR {Γ : OgG} {σ : OgC} {a k κ n : Nat} {o : Option Nat} (g : Γ.G a = (κ, n)) (h : ∀ o, og_cr κ a k o = o) : emC Γ (σ.sR a k o) = (emC Γ σ).sR a k o := by
  show (σ.I, σ.L, _, Γ.G, Γ.top) = (σ.I, σ.L, _, Γ.G, Γ.top)
  congr 3
  funext x j
  show og_cr (Γ.G x).1 x j (og_up σ.R a k o x j) = og_up (fun x k => og_cr (Γ.G x).1 x k (σ.R x k)) a k o x j
  by_cases hx : x = a
  · subst hx
    by_cases hj : j = k
    · subst hj
      simp only [og_up, if_true]
      rw [g]
      exact h _
    · simp only [og_up, if_true, if_neg hj]
  · simp only [og_up, if_neg hx]
/-- a variable reference of an ordinary object or array -/
theorem og_vr {Γ : OgG} {σ : OgC} {b a κ n k : Nat} (g : Γ.G a = (κ, n)) (h : og_cr κ a k (σ.R a k) = σ.R a k) {b' : Nat} (hs : σ.R a k = some b') : og_rv b ((emC Γ σ).R a k) = .ref (b + b') := by
  show og_rv b (og_cr (Γ.G a).1 a k (σ.R a k)) = _
  rw [g, h, hs]
  rfl
theorem og_vn {Γ : OgG} {σ : OgC} {b a κ n k : Nat} (g : Γ.G a = (κ, n)) (h : og_cr κ a k (σ.R a k) = σ.R a k) (hs : σ.R a k = none) : og_rv b ((emC Γ σ).R a k) = .null := by
  show og_rv b (og_cr (Γ.G a).1 a k (σ.R a k)) = _
  rw [g, h, hs]
  rfl
theorem og_g1 {Γ : OgG} {a κ n : Nat} (g : Γ.G a = (κ, n)) : (Γ.G a).1 = κ := by rw [g]
section RowsC
variable {p : Program} {l : Launch} {e : Env} {R : Room} {s : State} {m : MethodId} {args : Array Value} {below : List Frame} {meth : Method} {c : Code} {H : Heap} {locs : List Loc} {cells slots : Nat} {Q : State → Prop}
variable {cc : ByteArray} {pc : Nat} {ls : Array Slot} {rest : List Value} {nL : Nat} {own : String} {E : OgE} {S : OgM} {H0 : Heap} {τ : Type} {em : τ → OgM} {σ : τ}
theorem og_aald (X : OgX p s m args meth c cc nL own E) (hR : OgRep E S H) {a n ak : Nat} {i : Int32} (j : Nat) (hj : i.toNatClampNeg = j) (hak : 4 ≤ ak ∧ ak < 7) (hG : S.G a = (ak + 100, n)) (hin : vp_in i n) {v : Value} (hv : og_rv E.b (S.R a j) = v) (hd : decode cc pc = .ok (.aaload, 1))
    (kk : W p l e R s m args below meth c H locs cells slots Q (F0 m (pc + 1) ls (v :: rest))) : W p l e R s m args below meth c H locs cells slots Q (F0 m pc ls (.int i :: .ref (E.b + a) :: rest)) := by
  subst hj
  obtain ⟨⟨hx, hb, hml, hown, hts⟩, hK, hN, hlk, hO⟩ := X
  have hlt : i.toNatClampNeg < n := Nat.not_le.mp fun q => hin (Or.inr q)
  have ht : (og_tys E)[ak]? = some (E.cA ak, og_aty ak) ∧ (og_aty ak).isReference = true ∧ og_isR (og_aty ak) = true := by
    rcases (show ak = 4 ∨ ak = 5 ∨ ak = 6 by omega) with h | h | h <;> subst h <;> exact ⟨rfl, rfl, rfl⟩
  exact W.aald (v := v) (ty := og_aty ak) hx hb (hR.arr hG) ((hK.2 ak _ ht.1).1 n _) ht.2.1 (fun q => by cases q) (by rw [arrV_size]; exact hin) (by rw [arrV_read _ _ hlt]; rw [og_fv_R ht.2.2, hv]) rfl rfl hd kk
/-- an element of a reference array of its own class is put -/
theorem og_aast (X : OgX p s m args meth c cc nL own E) (hR : OgRep E (em σ) H) (hS0 : va_S E.A H0 H locs) {a n ak v ci : Nat} {i : Int32} (up : τ) (j : Nat) (hj : i.toNatClampNeg = j) (hak : ak < 7) (hG : (em σ).G a = (ak + 100, n)) (hC : OgCls ci) (hGv : ((em σ).G v).1 = ci + 1) (hty : og_aty ak = .object (og_R ci)) (hin : vp_in i n) (hup : em up = (em σ).sR a j (some v)) (hd : decode cc pc = .ok (.aastore, 1))
    (kk : ∀ (σ1 : τ) (H1 : Heap) (locs1 : List Loc), σ1 = up → OgRep E (em σ1) H1 → va_S E.A H0 H1 locs1 → W p l e R s m args below meth c H1 locs1 cells slots Q (F0 m (pc + 1) ls rest)) : W p l e R s m args below meth c H locs cells slots Q (F0 m pc ls (.ref (E.b + v) :: .int i :: .ref (E.b + a) :: rest)) := by
  subst hj
  obtain ⟨⟨hx, hb, hml, hown, hts⟩, hK, hN, hlk, hO⟩ := X
  have hlt : i.toNatClampNeg < n := Nat.not_le.mp fun q => hin (Or.inr q)
  have h0 : ¬ i < 0 := fun q => hin (Or.inl q)
  have ht : (og_tys E)[ak]? = some (E.cA ak, og_aty ak) := by
    rcases (show ak = 0 ∨ ak = 1 ∨ ak = 2 ∨ ak = 3 ∨ ak = 4 ∨ ak = 5 ∨ ak = 6 by omega) with h | h | h | h | h | h | h <;> subst h <;> rfl
  obtain ⟨cellV, g1, g2, g3, -⟩ := hR.obj hGv hC.2.2.2.2
  have hcls := (hK.1 ci _ hC.1).2
  have hra := (hK.2 ak _ ht).2
  dsimp only at hra
  rw [hty] at hra
  obtain ⟨kA, comp, k1, k2, k3, -⟩ := hra
  have hcomp : comp = E.D.1 ci := Option.some.inj (k3.symm.trans hcls.1)
  subst hcomp
  obtain ⟨kC, hkC, -⟩ := hcls.2
  refine W.aast hx hb (hR.arr hG) (fun q h => by cases h) (fun h => by cases h) k1 k2 rfl hkC ⟨h0, by rw [arrV_size]; exact hlt⟩ g1 (fun q h => by rw [g3] at h; cases h) (by rw [g2]; exact hkC) (by rw [g2]; exact va_assign hcls) rfl rfl hd fun H1 e1 z oq => ?_
  obtain ⟨h1, h2⟩ := og_arrput (S1 := (em σ).sR a i.toNatClampNeg (some v)) hR hS0 hG rfl rfl (fun y hy j ty => og_fvR hy) (fun j => og_fv_sR fun _ => by rw [hty]; rfl) e1 z oq
  rw [← hup] at h1
  exact kk up H1 _ rfl h1 h2
theorem og_cp_at (f : Nat → Nat → Int32) (a sp d dp n : Nat) : og_cp f a sp d dp n d = va_cpy (f a) (f d) sp dp n := if_pos rfl
theorem og_cp_ne (f : Nat → Nat → Int32) (a sp dp n : Nat) {d x : Nat} (h : x ≠ d) : og_cp f a sp d dp n x = f x := if_neg h
/-- System.arraycopy of int arrays -/
theorem og_copyi (X : OgX p s m args meth c cc nL own E) (hR : OgRep E (em σ) H) (hS0 : va_S E.A H0 H locs) {index a d n0 n1 : Nat} {sp dp n : Int32} (up : τ) (spn dpn nn : Nat) (hsp : sp.toNatClampNeg = spn) (hdp : dp.toNatClampNeg = dpn) (hnn : n.toNatClampNeg = nn) (hG0 : (em σ).G a = (100, n0)) (hG1 : (em σ).G d = (100, n1))
    (hlink : Cond.methodLink own index arraycopyName ∈ lw_all) (hnat : Cond.native arraycopyName ∈ lw_all) (hstat : Cond.static arraycopyName ∈ lw_all) (hini : Cond.initialized "java/lang/System" ∈ lw_all)
    (h1 : ¬ sp < 0) (h2 : ¬ dp < 0) (h3 : ¬ n < 0) (h4 : spn + nn ≤ n0) (h5 : dpn + nn ≤ n1) (hup : em up = (em σ).cI a spn d dpn nn) (hsz : ls.size = nL) (hframes : 1 ≤ R.frames) (hlocals : (rest.map fun v => v.category).sum + (nativeFrameWords "java/lang/System" "arraycopy" 5 + 11) ≤ R.locals) (hd : decode cc pc = .ok (.invokestatic index, 3))
    (kk : ∀ (σ1 : τ) (H1 : Heap) (locs1 : List Loc), σ1 = up → OgRep E (em σ1) H1 → va_S E.A H0 H1 locs1 → W p l e R s m args below meth c H1 locs1 cells slots Q (F0 m (pc + 3) ls rest)) : W p l e R s m args below meth c H locs cells slots Q (F0 m pc ls (.int n :: .int dp :: .ref (E.b + d) :: .int sp :: .ref (E.b + a) :: rest)) := by
  subst hsp hdp hnn
  obtain ⟨⟨hx, hb, hml, hown, hts⟩, hK, hN, hlk, hO⟩ := X
  have nn : ∀ z : Int32, ¬ z < 0 → z.toInt = (z.toNatClampNeg : Int) := by
    intro z hz
    have hz0 : (0 : Int) ≤ z.toInt := by
      have := Int32.not_lt.mp hz
      simpa using Int32.le_iff_toInt_le.mp this
    show z.toInt = ((z.toInt.toNat : Nat) : Int)
    omega
  intro T hT X
  have hc0 : H[E.b + a]? = some (vp_cell (E.cA 0) (n0, .inl ((em σ).I a))) := hR.arr (ak := 0) hG0
  have hc1 : H[E.b + d]? = some (vp_cell (E.cA 0) (n1, .inl ((em σ).I d))) := hR.arr (ak := 0) hG1
  obtain ⟨-, k0, hk0, cm0, hkk0⟩ := (hK.2 0 _ rfl).1 n0 (fun j => .int ((em σ).I a j))
  obtain ⟨-, k1, hk1, cm1, hkk1⟩ := (hK.2 0 _ rfl).1 n1 (fun j => .int ((em σ).I d j))
  obtain ⟨vm', X', step⟩ := X.arraycopy hx hown (hts _ hlink) (hts _ hnat) (hts _ hstat) (hts _ hini) (src := E.b + a) (dst := E.b + d) (cs := vp_cell (E.cA 0) (n0, .inl ((em σ).I a))) (cd := vp_cell (E.cA 0) (n1, .inl ((em σ).I d))) (srcPos := sp) (destPos := dp) (n := n) (by rw [hT]; exact hc0) (by rw [hT]; exact hc1)
    (fun _ h => by cases h) (fun _ h => by cases h) (fun h => by cases h) (fun h => by cases h) hk0 hk1 hkk0 hkk1 (by simp [refKind, og_aty]) h1 h2 h3
    (by rw [nn sp h1, nn n h3]; show ¬ _ > ((arrV (E.cA 0) n0 (fun j => .int ((em σ).I a j))).slots.size : Int); rw [arrV_size]; omega)
    (by rw [nn dp h2, nn n h3]; show ¬ _ > ((arrV (E.cA 0) n1 (fun j => .int ((em σ).I d j))).slots.size : Int); rw [arrV_size]; omega)
    (fun vm₁ _ i hi => by
      have e : (vp_cell (E.cA 0) (n0, .inl ((em σ).I a))).slots.getD (sp.toNatClampNeg + i) .null = .int ((em σ).I a (sp.toNatClampNeg + i)) := by
        show (arrV (E.cA 0) n0 (fun j => .int ((em σ).I a j))).slots.getD _ _ = _
        rw [Array.getD_eq_getD_getElem?, arrV_read _ _ (by omega)]
        rfl
      refine ⟨?_, ?_⟩
      · rw [e]
        rfl
      · rw [e]
        exact trivial)
    (g := F0 m pc ls (.int n :: .int dp :: .ref (E.b + d) :: .int sp :: .ref (E.b + a) :: rest)) rfl (by rw [hml]; exact hsz) (rest := rest) rfl (by rw [hb]; exact hd) hframes (by show 2 * 0 + _ + _ ≤ _; omega)
  have e1 : copied (vp_cell (E.cA 0) (n0, .inl ((em σ).I a))) (vp_cell (E.cA 0) (n1, .inl ((em σ).I d))) sp dp n = vp_cell (E.cA 0) (n1, .inl (va_cpy ((em σ).I a) ((em σ).I d) sp.toNatClampNeg dp.toNatClampNeg n.toNatClampNeg)) := va_copied (fun z => .int z) (E.cA 0) (E.cA 0) ((em σ).I a) ((em σ).I d) h4
  rw [e1] at X' step
  have hl : E.b + d < H.size := (Array.getElem?_eq_some_iff.mp hc1).1
  generalize hcell : vp_cell (E.cA 0) (n1, .inl (va_cpy ((em σ).I a) ((em σ).I d) sp.toNatClampNeg dp.toNatClampNeg n.toNatClampNeg)) = cw at X' step
  have hheap : ((T.setVm vm').setCell (E.b + d) cw).heap = H.setIfInBounds (E.b + d) cw := by rw [← hT]; rfl
  have oq : ∀ q : Nat, q ≠ E.b + d → (H.setIfInBounds (E.b + d) cw)[q]? = H[q]? := fun q hq => by simp [Array.getElem?_setIfInBounds, Ne.symm hq]
  have oa : (H.setIfInBounds (E.b + d) cw)[E.b + d]? = some cw := by simp [Array.getElem?_setIfInBounds, hl]
  have hA : E.A (E.b + d) := (hR.1 d (by rw [hG1]; exact Nat.succ_ne_zero _)).2
  have hR1 : OgRep E ((em σ).cI a sp.toNatClampNeg d dp.toNatClampNeg n.toNatClampNeg) (H.setIfInBounds (E.b + d) cw) := by
    refine hR.upd (a := d) rfl rfl (fun y hy j ty => ?_) ?_ (by simp) oq
    · have e : ((em σ).cI a sp.toNatClampNeg d dp.toNatClampNeg n.toNatClampNeg).I y = (em σ).I y := og_cp_ne _ _ _ _ _ hy
      cases ty <;> first | rfl | (show Value.int (((em σ).cI a sp.toNatClampNeg d dp.toNatClampNeg n.toNatClampNeg).I y j) = _; rw [e]; rfl)
    · unfold og_ok
      rw [show ((em σ).cI a sp.toNatClampNeg d dp.toNatClampNeg n.toNatClampNeg).G d = (100, n1) from hG1]
      rw [if_neg (Nat.lt_irrefl 100)]
      show (H.setIfInBounds (E.b + d) cw)[E.b + d]? = some (arrV (E.cA 0) n1 (fun j => .int (((em σ).cI a sp.toNatClampNeg d dp.toNatClampNeg n.toNatClampNeg).I d j)))
      rw [oa, ← hcell]
      have e : ((em σ).cI a sp.toNatClampNeg d dp.toNatClampNeg n.toNatClampNeg).I d = va_cpy ((em σ).I a) ((em σ).I d) sp.toNatClampNeg dp.toNatClampNeg n.toNatClampNeg := og_cp_at _ _ _ _ _ _
      rw [e]
      rfl
  rw [← hup] at hR1
  obtain ⟨t, a1, b1⟩ := kk up _ _ rfl hR1 ⟨by simp; exact hS0.1, fun q g1 g2 => by
      rw [oq q (fun e => g2 (by rw [e]; exact hA))]
      exact hS0.2.1 q g1 g2, fun q hq => by
      rcases List.mem_append.mp hq with h | h
      · exact hS0.2.2 q h
      · obtain ⟨z, -, hz⟩ := List.mem_map.mp h
        rw [← hz]
        exact hA⟩ _ hheap X'
  exact ⟨t, step t a1, b1⟩
/-- an answer that is one of this side's cells -/
abbrev og_Qr {τ : Type} (E : OgE) (em : τ → OgM) (Q : Nat → τ → Prop) : Array Value → State → Outcome → State → Prop := va_Qr (S := Nat × τ) (fun u => Q u.1 u.2) (fun u a t => a = E.b + u.1 ∧ OgRep E (em u.2) t.heap) E.A
theorem og_aret {Qr : Nat → τ → Prop} {v : Nat} {rt : FieldType} (X : OgX p s m args meth c cc nL own E) (hr : meth.sig.returnType = some rt) (hrt : (∃ n, rt = .object n) ∨ ∃ t, rt = .array t) (hR : OgRep E (em σ) H) (hS : va_S E.A s.heap H locs) (hq : Qr v σ) (hd : decode cc pc = .ok (.areturn, 1)) : W p l e R s m args below meth c H locs cells slots (MQ below (og_Qr E em Qr) args s cells slots E.A) (F0 m pc ls [.ref (E.b + v)]) :=
  W.aret X.1.1 X.1.2.1 hr hrt (Or.inr ⟨_, rfl⟩) (fun t ht _ => ⟨⟨(v, σ), _, rfl, hq, rfl, by show OgRep E (em σ) t.heap; rw [ht]; exact hR⟩, hS.F ht⟩) hS.2.2 hd X.2.2.2.1
end RowsC
section CallsC
variable {p : Program} {l : Launch} {e : Env} {R : Room} {s : State} {m : MethodId} {args : Array Value} {below : List Frame} {meth : Method} {c : Code} {H : Heap} {locs : List Loc} {cells slots : Nat} {Qf : State → Prop} {pc : Nat} {ls : Array Slot} {rest st : List Value} {E : OgE} {H0 : Heap} {τ : Type} {em : τ → OgM}
theorem og_aftr {Q : Nat → τ → Prop} {a : Array Value} (hr : va_Run p l e R s m args below meth c H locs cells slots 0 0 (F0 m pc ls st) rest (og_Qr E em Q a) E.A) (hS : va_S E.A H0 H locs)
    (kk : ∀ (r : Nat) (σ : τ) (H1 : Heap) (locs1 : List Loc), Q r σ → OgRep E (em σ) H1 → va_S E.A H0 H1 locs1 → W p l e R s m args below meth c H1 locs1 cells slots Qf (F0 m (pc + 3) ls (.ref (E.b + r) :: rest))) : W p l e R s m args below meth c H locs cells slots Qf (F0 m pc ls st) :=
  va_callr hr hS (fun _ _ h => h) (fun _ h => h) (fun u a t H1 locs1 ht _ hq hB _ _ hS1 => by
    obtain ⟨h1, h2⟩ := hB
    subst h1
    exact kk u.1 u.2 H1 locs1 hq (by rw [← ht]; exact h2) hS1)
end CallsC
theorem og_opt {α : Type} (o : Option α) : o = none ∨ ∃ b, o = some b := by
  cases o with
  | none => exact Or.inl rfl
  | some b => exact Or.inr ⟨b, rfl⟩
/-- behind table(): its answer and the memory are known -/
theorem og_tbl {p : Program} {l : Launch} {e : Env} {R : Room} {s : State} {m : MethodId} {args : Array Value} {below : List Frame} {meth : Method} {c : Code} {H : Heap} {locs : List Loc} {cells slots : Nat} {Q : State → Prop} {pc : Nat} {ls : Array Slot} {rest : List Value} {E : OgE} {Γ : OgG} {σ σ1 : OgC} {r : Nat} (hz : r = 3 ∧ σ1 = σ) (hR : OgRep E (emC Γ σ1) H) (k : OgRep E (emC Γ σ) H → W p l e R s m args below meth c H locs cells slots Q (F0 m pc ls (.ref (E.b + 3) :: rest))) : W p l e R s m args below meth c H locs cells slots Q (F0 m pc ls (.ref (E.b + r) :: rest)) := by
  obtain ⟨rfl, rfl⟩ := hz
  exact k hR
