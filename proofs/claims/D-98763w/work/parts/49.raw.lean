set_option maxRecDepth 100000
def og_pt (_ _ _ : Nat) (o : Option Nat) : Option Nat := o
def emW (Γ : OgG) (σ : OgC) : OgM := (σ.I, σ.L, fun a k => og_pt (Γ.G a).1 a k (σ.R a k), Γ.G, Γ.top)
def emAW (u : OgG × OgC) : OgM := emW u.1 u.2
def OgWr (E : OgE) (Γ : OgG) : Prop := True ∧ True ∧ (∀ a, Γ.top ≤ a → (Γ.G a).1 = 0) ∧ ∀ a, Γ.top ≤ a → E.A (E.b + a)
theorem OgWr.ext {E : OgE} {Γ : OgG} (h : OgWr E Γ) (k : Nat × Nat) : OgExt Γ (Γ.al k) := by
  intro a κ n hk hg
  rw [og_al_ne]
  · exact hg
  · intro e
    have := h.2.2.1 a (by rw [e]; exact Nat.le_refl _)
    rw [hg] at this
    exact hk this
theorem OgWr.al {E : OgE} {Γ : OgG} (h : OgWr E Γ) (k : Nat × Nat) : OgWr E (Γ.al k) := by
  obtain ⟨-, -, hz, hA⟩ := h
  refine ⟨trivial, trivial, fun a ha => ?_, fun a ha => hA a (Nat.le_of_succ_le ha)⟩
  have ha2 : Γ.top + 1 ≤ a := ha
  rw [og_al_ne _ _ (by omega)]
  exact hz a (by omega)
theorem og_vrW {Γ : OgG} {σ : OgC} {b a κ n k : Nat} (_g : Γ.G a = (κ, n)) (_h : σ.R a k = σ.R a k) {b' : Nat} (hs : σ.R a k = some b') : og_rv b ((emW Γ σ).R a k) = .ref (b + b') := by
  show og_rv b (σ.R a k) = _
  rw [hs]
  rfl
theorem og_emRW {Γ : OgG} {σ : OgC} {a k κ n : Nat} {o : Option Nat} (_g : Γ.G a = (κ, n)) (_h : ∀ o : Option Nat, o = o) : emW Γ (σ.sR a k o) = (emW Γ σ).sR a k o := rfl
theorem og_crnW {Γ : OgG} {σ : OgC} {a κ n k : Nat} (_g : Γ.G a = (κ, n)) (_h : ∀ o : Option Nat, o = o) (hs : σ.R a k = none) : (emW Γ σ).R a k = none := hs
theorem og_sameRW {E : OgE} {Γ : OgG} {σ σ1 : OgC} {H : Heap} {P : Prop} (h : σ1 = σ) (hR : OgRep E (emW Γ σ1) H) (k : OgRep E (emW Γ σ) H → P) : P := k (h ▸ hR)
theorem og_zW_fv {b : Nat} {Γ : OgG} {σ : OgC} {k : Nat × Nat} (hcr : ∀ a j o, og_pt k.1 a j o = o) {j : Nat} {ty : FieldType} (hty : og_okty ty = true) : og_fv b (emW (Γ.al k) (σ.z Γ.top)) Γ.top j ty = defaultValue ty := by
  have e1 : (emW (Γ.al k) (σ.z Γ.top)).I Γ.top j = 0 := by
    show (if Γ.top = Γ.top then (fun _ => (0 : Int32)) else σ.I Γ.top) j = 0
    rw [if_pos rfl]
  have e2 : (emW (Γ.al k) (σ.z Γ.top)).L Γ.top j = 0 := by
    show (if Γ.top = Γ.top then (fun _ => (0 : Int64)) else σ.L Γ.top) j = 0
    rw [if_pos rfl]
  have e3 : (emW (Γ.al k) (σ.z Γ.top)).R Γ.top j = none := by
    show og_pt ((Γ.al k).G Γ.top).1 Γ.top j ((if Γ.top = Γ.top then (fun _ => (none : Option Nat)) else σ.R Γ.top) j) = none
    rw [og_al_top, hcr, if_pos rfl]
  cases ty <;> first | (show Value.int _ = _; rw [e1]; rfl) | (show Value.long _ = _; rw [e2]; rfl) | (show og_rv _ _ = _; rw [e3]; rfl) | exact absurd hty (by decide)
theorem og_zW_ne {b : Nat} {Γ : OgG} {σ : OgC} {k : Nat × Nat} {x j : Nat} {ty : FieldType} (h : x ≠ Γ.top) : og_fv b (emW (Γ.al k) (σ.z Γ.top)) x j ty = og_fv b (emW Γ σ) x j ty := by
  have e1 : (emW (Γ.al k) (σ.z Γ.top)).I x = (emW Γ σ).I x := if_neg h
  have e2 : (emW (Γ.al k) (σ.z Γ.top)).L x = (emW Γ σ).L x := if_neg h
  have e3 : (emW (Γ.al k) (σ.z Γ.top)).R x j = (emW Γ σ).R x j := by
    show og_pt ((Γ.al k).G x).1 x j ((if x = Γ.top then (fun _ => (none : Option Nat)) else σ.R x) j) = og_pt (Γ.G x).1 x j (σ.R x j)
    rw [og_al_ne _ _ h, if_neg h]
  cases ty <;> first | (show Value.int _ = Value.int _; rw [e1]; done) | (show Value.long _ = Value.long _; rw [e2]; done) | (show og_rv _ _ = og_rv _ _; rw [e3]; done)
theorem og_pushW {E : OgE} {Γ : OgG} {σ : OgC} {H H1 : Heap} (hΓ : OgWr E Γ) (hR : OgRep E (emW Γ σ) H) {k : Nat × Nat} (z1 : H1.size = H.size + 1) (o1 : ∀ q, q < H.size → H1[q]? = H[q]?) (hnew : og_ok E (emW (Γ.al k) (σ.z Γ.top)) Γ.top H1) : OgRep E (emW (Γ.al k) (σ.z Γ.top)) H1 := by
  have hsz : H.size = E.b + Γ.top := hR.2.1
  refine ⟨fun x hx => ?_, ?_, fun x hx => ?_⟩
  · by_cases h : x = Γ.top
    · subst h
      exact ⟨hnew, hΓ.2.2.2 _ (Nat.le_refl _)⟩
    · have hg : (emW (Γ.al k) (σ.z Γ.top)).G x = (emW Γ σ).G x := og_al_ne _ _ h
      rw [hg] at hx
      obtain ⟨a1, a2⟩ := hR.1 x hx
      refine ⟨?_, a2⟩
      have hlt : x < Γ.top := by
        rcases Nat.lt_or_ge x Γ.top with q | q
        · exact q
        · exact absurd (hR.2.2 x q) hx
      have hq := o1 (E.b + x) (by omega)
      unfold og_ok at a1 ⊢
      rw [hg]
      by_cases hl : ((emW Γ σ).G x).1 < 100
      · rw [if_pos hl] at a1 ⊢
        exact a1.same hq (fun j ty => og_zW_ne h)
      · rw [if_neg hl] at a1 ⊢
        exact a1.same hq (fun j ty => og_zW_ne h)
  · show H1.size = E.b + (Γ.top + 1)
    omega
  · have hx2 : Γ.top + 1 ≤ x := hx
    show ((Γ.al k).G x).1 = 0
    rw [og_al_ne _ _ (by omega)]
    exact hΓ.2.2.1 x (by omega)
section NewOgW
variable {p : Program} {l : Launch} {e : Env} {R : Room} {s : State} {m : MethodId} {args : Array Value} {below : List Frame} {meth : Method} {c : Code} {H : Heap} {locs : List Loc} {cells slots : Nat} {Q : State → Prop}
variable {cc : ByteArray} {pc : Nat} {ls : Array Slot} {rest : List Value} {nL : Nat} {own : String} {E : OgE} {Γ : OgG} {σ : OgC}
theorem og_newOW (X : OgX p s m args meth c cc nL own E) (hΓ : OgWr E Γ) (hR : OgRep E (emW Γ σ) H) (hS : va_S E.A s.heap H locs) {ci index N : Nat} (hC : OgCls ci) (hcr : ∀ a j o, og_pt (ci + 1) a j o = o) (hN : og_N ci = N) (hty : ∀ k, k < N → og_okty (og_ty ci k) = true) (hcl : Cond.classLink own index (og_R ci) ∈ lw_all) (hins : Cond.instantiable (og_R ci) N ∈ lw_all) (hini : Cond.initialized (og_R ci) ∈ lw_all) (hcells : cells + 1 ≤ R.cells) (hslots : slots + N ≤ R.slots) (hd : decode cc pc = .ok (.new index, 3))
    (kk : ∀ (H1 : Heap), OgRep E (emW (Γ.al (ci + 1, 0)) (σ.z Γ.top)) H1 → va_S E.A s.heap H1 locs → W p l e R s m args below meth c H1 locs (cells + 1) (slots + N) Q (F0 m (pc + 3) ls (.ref (E.b + Γ.top) :: rest))) : W p l e R s m args below meth c H locs cells slots Q (F0 m pc ls rest) := by
  subst hN
  obtain ⟨⟨hx, hb, hml, hown, hts⟩, hK, hNw, hlk, hO⟩ := X
  have hKn := hK.1 ci _ hC.1
  refine W.newcK hx hb hown (hts _ hcl) (hts _ hins) (hts _ hini) rfl hd hcells hslots hKn.2.1 (h := E.b + Γ.top) hR.2.1 fun H1 kC hkC e1 z1 o1 => ?_
  have hsz : H.size = E.b + Γ.top := hR.2.1
  rw [← hsz] at z1 o1
  refine kk H1 (og_pushW hΓ hR z1 o1 ?_) (og_Spush hS z1 o1)
  unfold og_ok
  rw [show (emW (Γ.al (ci + 1, 0)) (σ.z Γ.top)).G Γ.top = (ci + 1, 0) from og_al_top _ _, if_pos (show ci + 1 < 100 by have := hC.2.2.2.2; omega)]
  show og_obj E _ Γ.top (ci + 1 - 1) H1
  rw [Nat.add_sub_cancel]
  exact t_OB.to (u_born (og_ty ci) hts hC.2.1 hKn hkC e1 hC.2.2.1) (fun k hk => (og_zW_fv hcr (hty k hk)).symm)
/-- an array of Objects -/
theorem og_newQW (X : OgX p s m args meth c cc nL own E) (hΓ : OgWr E Γ) (hR : OgRep E (emW Γ σ) H) (hS : va_S E.A s.heap H locs) {n : Int32} {N index : Nat} (hcl : Cond.classLink own index "java/lang/Object" ∈ lw_all) (hn : ¬ n < 0) (hN : n.toNatClampNeg = N) (hb4 : N * 4 ≤ 536870912) (hcells : cells + 1 ≤ R.cells) (hslots : slots + N ≤ R.slots) (hd : decode cc pc = .ok (.anewarray index, 3))
    (kk : ∀ (H1 : Heap), OgRep E (emW (Γ.al (106, N)) (σ.z Γ.top)) H1 → va_S E.A s.heap H1 locs → W p l e R s m args below meth c H1 locs (cells + 1) (slots + N) Q (F0 m (pc + 3) ls (.ref (E.b + Γ.top) :: rest))) : W p l e R s m args below meth c H locs cells slots Q (F0 m pc ls (.int n :: rest)) := by
  subst hN
  obtain ⟨⟨hx, hb, hml, hown, hts⟩, hK, hNw, hlk, hO⟩ := X
  have hsz : H.size = E.b + Γ.top := hR.2.1
  refine W.anew hx hb hown (hts _ hcl) (va_AO.use hO.1.1) rfl hd rfl hn hb4 hcells hslots fun cA kA comp f1 f2 f3 f4 => ?_
  generalize hH1 : H.push ({ cls := cA, slots := Array.replicate n.toNatClampNeg .null, vm := .none } : Cell) = H1
  have z1 : H1.size = H.size + 1 := by rw [← hH1, Array.size_push]
  have e1 : H1[H.size]? = some (arrV cA n.toNatClampNeg (fun _ => .null)) := by rw [← hH1, Array.getElem?_push_size, ← arrV_new]
  have o1 : ∀ q : Nat, q < H.size → H1[q]? = H[q]? := fun q hq => by rw [← hH1, Array.getElem?_push, if_neg (Nat.ne_of_lt hq)]
  obtain ⟨kA2, comp2, k1, k2, k3, k4⟩ := (hK.2 6 _ rfl).2
  have hcA : cA = E.cA 6 := Option.some.inj (f1.symm.trans k4)
  subst hcA
  rw [hsz]
  refine kk H1 (og_pushW hΓ hR z1 o1 ?_) (og_Spush hS z1 o1)
  unfold og_ok
  rw [show (emW (Γ.al (106, n.toNatClampNeg)) (σ.z Γ.top)).G Γ.top = (106, n.toNatClampNeg) from og_al_top _ _, if_neg (by omega)]
  show H1[E.b + Γ.top]? = some (arrV (E.cA 6) n.toNatClampNeg _)
  rw [← hsz, e1]
  congr 2
  funext j
  exact (og_zW_fv (k := (106, n.toNatClampNeg)) (fun _ _ _ => rfl) (ty := og_aty 6) rfl).symm
end NewOgW
section PrimW
variable {p : Program} {l : Launch} {e : Env} {R : Room} {s : State} {m : MethodId} {args : Array Value} {below : List Frame} {meth : Method} {c : Code} {H : Heap} {locs : List Loc} {cells slots : Nat} {Q : State → Prop}
variable {cc : ByteArray} {pc : Nat} {ls : Array Slot} {rest : List Value} {nL : Nat} {own : String} {E : OgE} {Γ : OgG} {σ : OgC} {F L mc ms kc ks : Nat}
theorem og_newWP0 (X : OgX p s m args meth c cc nL own E) (hΓ : OgWr E Γ) (hR : OgRep E (emW Γ σ) H) (hS : va_S E.A s.heap H locs) (hk : cells + kc = mc ∧ slots + ks = ms) {n : Int32} {N : Nat} (harr : Cond.arrayClass .int ∈ lw_all) (hn : ¬ n < 0) (hN : n.toNatClampNeg = N) (hb4 : N * 4 ≤ 536870912) (hb : 1 ≤ kc ∧ N ≤ ks) (hd : decode cc pc = .ok (.newarray .int, 2))
    (kk : ∀ (Γ1 : OgG) (σ1 : OgC) (a1 : Nat) (H1 : Heap), Γ1 = Γ.al (100, N) → σ1 = σ.z Γ.top → a1 = Γ.top → OgExt Γ Γ1 → OgWr E Γ1 → Γ1.G a1 = (100, N) → OgRep E (emW Γ1 σ1) H1 → va_S E.A s.heap H1 locs → W p l e (og_rmA F L mc ms) s m args below meth c H1 locs (cells + 1) (slots + N) Q (F0 m (pc + 2) ls (.ref (E.b + a1) :: rest))) : W p l e (og_rmA F L mc ms) s m args below meth c H locs cells slots Q (F0 m pc ls (.int n :: rest)) := by
  have hsz : H.size = E.b + Γ.top := hR.2.1
  obtain ⟨⟨hx, hb1, hml, hown, hts⟩, hK, hNw, hlk, hO⟩ := X
  refine va_newaK (atype := .int) hx hb1 (hts _ harr) rfl hd rfl hn hN hb4 (by show cells + 1 ≤ mc; omega) (by show slots + N ≤ ms; omega) (h := E.b + Γ.top) hsz fun H1 cA e1 z1 o1 hAr hNm => ?_
  have hcA : cA = E.cA 0 := Option.some.inj (hNm.symm.trans (hK.2 0 _ rfl).2)
  subst hcA
  rw [← hsz] at z1 o1
  refine kk _ _ _ H1 rfl rfl rfl (hΓ.ext _) (hΓ.al _) (og_al_top _ _) (og_pushW hΓ hR z1 o1 ?_) (og_Spush hS z1 o1)
  unfold og_ok
  rw [show (emW (Γ.al (100, N)) (σ.z Γ.top)).G Γ.top = (100, N) from og_al_top _ _, if_neg (by omega)]
  show H1[E.b + Γ.top]? = some (arrV (E.cA 0) N _)
  rw [e1]
  congr 2
  funext j
  exact (og_zW_fv (k := (100, N)) (fun _ _ _ => rfl) (ty := og_aty 0) rfl).symm
theorem og_newWP1 (X : OgX p s m args meth c cc nL own E) (hΓ : OgWr E Γ) (hR : OgRep E (emW Γ σ) H) (hS : va_S E.A s.heap H locs) (hk : cells + kc = mc ∧ slots + ks = ms) {n : Int32} {N : Nat} (harr : Cond.arrayClass .long ∈ lw_all) (hn : ¬ n < 0) (hN : n.toNatClampNeg = N) (hb4 : N * 8 ≤ 536870912) (hb : 1 ≤ kc ∧ N ≤ ks) (hd : decode cc pc = .ok (.newarray .long, 2))
    (kk : ∀ (Γ1 : OgG) (σ1 : OgC) (a1 : Nat) (H1 : Heap), Γ1 = Γ.al (101, N) → σ1 = σ.z Γ.top → a1 = Γ.top → OgExt Γ Γ1 → OgWr E Γ1 → Γ1.G a1 = (101, N) → OgRep E (emW Γ1 σ1) H1 → va_S E.A s.heap H1 locs → W p l e (og_rmA F L mc ms) s m args below meth c H1 locs (cells + 1) (slots + N) Q (F0 m (pc + 2) ls (.ref (E.b + a1) :: rest))) : W p l e (og_rmA F L mc ms) s m args below meth c H locs cells slots Q (F0 m pc ls (.int n :: rest)) := by
  have hsz : H.size = E.b + Γ.top := hR.2.1
  obtain ⟨⟨hx, hb1, hml, hown, hts⟩, hK, hNw, hlk, hO⟩ := X
  refine va_newaK (atype := .long) hx hb1 (hts _ harr) rfl hd rfl hn hN hb4 (by show cells + 1 ≤ mc; omega) (by show slots + N ≤ ms; omega) (h := E.b + Γ.top) hsz fun H1 cA e1 z1 o1 hAr hNm => ?_
  have hcA : cA = E.cA 1 := Option.some.inj (hNm.symm.trans (hK.2 1 _ rfl).2)
  subst hcA
  rw [← hsz] at z1 o1
  refine kk _ _ _ H1 rfl rfl rfl (hΓ.ext _) (hΓ.al _) (og_al_top _ _) (og_pushW hΓ hR z1 o1 ?_) (og_Spush hS z1 o1)
  unfold og_ok
  rw [show (emW (Γ.al (101, N)) (σ.z Γ.top)).G Γ.top = (101, N) from og_al_top _ _, if_neg (by omega)]
  show H1[E.b + Γ.top]? = some (arrV (E.cA 1) N _)
  rw [e1]
  congr 2
  funext j
  exact (og_zW_fv (k := (101, N)) (fun _ _ _ => rfl) (ty := og_aty 1) rfl).symm
theorem og_newWP2 (X : OgX p s m args meth c cc nL own E) (hΓ : OgWr E Γ) (hR : OgRep E (emW Γ σ) H) (hS : va_S E.A s.heap H locs) (hk : cells + kc = mc ∧ slots + ks = ms) {n : Int32} {N : Nat} (harr : Cond.arrayClass .boolean ∈ lw_all) (hn : ¬ n < 0) (hN : n.toNatClampNeg = N) (hb4 : N * 1 ≤ 536870912) (hb : 1 ≤ kc ∧ N ≤ ks) (hd : decode cc pc = .ok (.newarray .boolean, 2))
    (kk : ∀ (Γ1 : OgG) (σ1 : OgC) (a1 : Nat) (H1 : Heap), Γ1 = Γ.al (102, N) → σ1 = σ.z Γ.top → a1 = Γ.top → OgExt Γ Γ1 → OgWr E Γ1 → Γ1.G a1 = (102, N) → OgRep E (emW Γ1 σ1) H1 → va_S E.A s.heap H1 locs → W p l e (og_rmA F L mc ms) s m args below meth c H1 locs (cells + 1) (slots + N) Q (F0 m (pc + 2) ls (.ref (E.b + a1) :: rest))) : W p l e (og_rmA F L mc ms) s m args below meth c H locs cells slots Q (F0 m pc ls (.int n :: rest)) := by
  have hsz : H.size = E.b + Γ.top := hR.2.1
  obtain ⟨⟨hx, hb1, hml, hown, hts⟩, hK, hNw, hlk, hO⟩ := X
  refine va_newaK (atype := .boolean) hx hb1 (hts _ harr) rfl hd rfl hn hN hb4 (by show cells + 1 ≤ mc; omega) (by show slots + N ≤ ms; omega) (h := E.b + Γ.top) hsz fun H1 cA e1 z1 o1 hAr hNm => ?_
  have hcA : cA = E.cA 2 := Option.some.inj (hNm.symm.trans (hK.2 2 _ rfl).2)
  subst hcA
  rw [← hsz] at z1 o1
  refine kk _ _ _ H1 rfl rfl rfl (hΓ.ext _) (hΓ.al _) (og_al_top _ _) (og_pushW hΓ hR z1 o1 ?_) (og_Spush hS z1 o1)
  unfold og_ok
  rw [show (emW (Γ.al (102, N)) (σ.z Γ.top)).G Γ.top = (102, N) from og_al_top _ _, if_neg (by omega)]
  show H1[E.b + Γ.top]? = some (arrV (E.cA 2) N _)
  rw [e1]
  congr 2
  funext j
  exact (og_zW_fv (k := (102, N)) (fun _ _ _ => rfl) (ty := og_aty 2) rfl).symm
theorem og_newWP3 (X : OgX p s m args meth c cc nL own E) (hΓ : OgWr E Γ) (hR : OgRep E (emW Γ σ) H) (hS : va_S E.A s.heap H locs) (hk : cells + kc = mc ∧ slots + ks = ms) {n : Int32} {N : Nat} (harr : Cond.arrayClass .byte ∈ lw_all) (hn : ¬ n < 0) (hN : n.toNatClampNeg = N) (hb4 : N * 1 ≤ 536870912) (hb : 1 ≤ kc ∧ N ≤ ks) (hd : decode cc pc = .ok (.newarray .byte, 2))
    (kk : ∀ (Γ1 : OgG) (σ1 : OgC) (a1 : Nat) (H1 : Heap), Γ1 = Γ.al (103, N) → σ1 = σ.z Γ.top → a1 = Γ.top → OgExt Γ Γ1 → OgWr E Γ1 → Γ1.G a1 = (103, N) → OgRep E (emW Γ1 σ1) H1 → va_S E.A s.heap H1 locs → W p l e (og_rmA F L mc ms) s m args below meth c H1 locs (cells + 1) (slots + N) Q (F0 m (pc + 2) ls (.ref (E.b + a1) :: rest))) : W p l e (og_rmA F L mc ms) s m args below meth c H locs cells slots Q (F0 m pc ls (.int n :: rest)) := by
  have hsz : H.size = E.b + Γ.top := hR.2.1
  obtain ⟨⟨hx, hb1, hml, hown, hts⟩, hK, hNw, hlk, hO⟩ := X
  refine va_newaK (atype := .byte) hx hb1 (hts _ harr) rfl hd rfl hn hN hb4 (by show cells + 1 ≤ mc; omega) (by show slots + N ≤ ms; omega) (h := E.b + Γ.top) hsz fun H1 cA e1 z1 o1 hAr hNm => ?_
  have hcA : cA = E.cA 3 := Option.some.inj (hNm.symm.trans (hK.2 3 _ rfl).2)
  subst hcA
  rw [← hsz] at z1 o1
  refine kk _ _ _ H1 rfl rfl rfl (hΓ.ext _) (hΓ.al _) (og_al_top _ _) (og_pushW hΓ hR z1 o1 ?_) (og_Spush hS z1 o1)
  unfold og_ok
  rw [show (emW (Γ.al (103, N)) (σ.z Γ.top)).G Γ.top = (103, N) from og_al_top _ _, if_neg (by omega)]
  show H1[E.b + Γ.top]? = some (arrV (E.cA 3) N _)
  rw [e1]
  congr 2
  funext j
  exact (og_zW_fv (k := (103, N)) (fun _ _ _ => rfl) (ty := og_aty 3) rfl).symm
theorem og_newWQ4 (X : OgX p s m args meth c cc nL own E) (hΓ : OgWr E Γ) (hR : OgRep E (emW Γ σ) H) (hS : va_S E.A s.heap H locs) (hk : cells + kc = mc ∧ slots + ks = ms) {n : Int32} {N index : Nat} (hcl : Cond.classLink own index "OpenGates$State" ∈ lw_all) (hn : ¬ n < 0) (hN : n.toNatClampNeg = N) (hb4 : N * 4 ≤ 536870912) (hb : 1 ≤ kc ∧ N ≤ ks) (hd : decode cc pc = .ok (.anewarray index, 3))
    (kk : ∀ (Γ1 : OgG) (σ1 : OgC) (a1 : Nat) (H1 : Heap), Γ1 = Γ.al (104, N) → σ1 = σ.z Γ.top → a1 = Γ.top → OgExt Γ Γ1 → OgWr E Γ1 → Γ1.G a1 = (104, N) → OgRep E (emW Γ1 σ1) H1 → va_S E.A s.heap H1 locs → W p l e (og_rmA F L mc ms) s m args below meth c H1 locs (cells + 1) (slots + N) Q (F0 m (pc + 3) ls (.ref (E.b + a1) :: rest))) : W p l e (og_rmA F L mc ms) s m args below meth c H locs cells slots Q (F0 m pc ls (.int n :: rest)) := by
  subst hN
  have hsz : H.size = E.b + Γ.top := hR.2.1
  obtain ⟨⟨hx, hb1, hml, hown, hts⟩, hK, hNw, hlk, hO⟩ := X
  refine W.anew hx hb1 hown (hts _ hcl) (va_AO.use hO.1.2.1) rfl hd rfl hn hb4 (by show cells + 1 ≤ mc; omega) (by show slots + _ ≤ ms; omega) fun cA kA comp f1 f2 f3 f4 => ?_
  generalize hH1 : H.push ({ cls := cA, slots := Array.replicate n.toNatClampNeg .null, vm := .none } : Cell) = H1
  have z1 : H1.size = H.size + 1 := by rw [← hH1, Array.size_push]
  have e1 : H1[H.size]? = some (arrV cA n.toNatClampNeg (fun _ => .null)) := by rw [← hH1, Array.getElem?_push_size, ← arrV_new]
  have o1 : ∀ q : Nat, q < H.size → H1[q]? = H[q]? := fun q hq => by rw [← hH1, Array.getElem?_push, if_neg (Nat.ne_of_lt hq)]
  obtain ⟨kA2, comp2, k1, k2, k3, k4⟩ := (hK.2 4 _ rfl).2
  have hcA : cA = E.cA 4 := Option.some.inj (f1.symm.trans k4)
  subst hcA
  rw [hsz]
  refine kk _ _ _ H1 rfl rfl rfl (hΓ.ext _) (hΓ.al _) (og_al_top _ _) (og_pushW hΓ hR z1 o1 ?_) (og_Spush hS z1 o1)
  unfold og_ok
  rw [show (emW (Γ.al (104, n.toNatClampNeg)) (σ.z Γ.top)).G Γ.top = (104, n.toNatClampNeg) from og_al_top _ _, if_neg (by omega)]
  show H1[E.b + Γ.top]? = some (arrV (E.cA 4) n.toNatClampNeg _)
  rw [← hsz, e1]
  congr 2
  funext j
  exact (og_zW_fv (k := (104, n.toNatClampNeg)) (fun _ _ _ => rfl) (ty := og_aty 4) rfl).symm
theorem og_newWQ5 (X : OgX p s m args meth c cc nL own E) (hΓ : OgWr E Γ) (hR : OgRep E (emW Γ σ) H) (hS : va_S E.A s.heap H locs) (hk : cells + kc = mc ∧ slots + ks = ms) {n : Int32} {N index : Nat} (hcl : Cond.classLink own index "OpenGates$Table" ∈ lw_all) (hn : ¬ n < 0) (hN : n.toNatClampNeg = N) (hb4 : N * 4 ≤ 536870912) (hb : 1 ≤ kc ∧ N ≤ ks) (hd : decode cc pc = .ok (.anewarray index, 3))
    (kk : ∀ (Γ1 : OgG) (σ1 : OgC) (a1 : Nat) (H1 : Heap), Γ1 = Γ.al (105, N) → σ1 = σ.z Γ.top → a1 = Γ.top → OgExt Γ Γ1 → OgWr E Γ1 → Γ1.G a1 = (105, N) → OgRep E (emW Γ1 σ1) H1 → va_S E.A s.heap H1 locs → W p l e (og_rmA F L mc ms) s m args below meth c H1 locs (cells + 1) (slots + N) Q (F0 m (pc + 3) ls (.ref (E.b + a1) :: rest))) : W p l e (og_rmA F L mc ms) s m args below meth c H locs cells slots Q (F0 m pc ls (.int n :: rest)) := by
  subst hN
  have hsz : H.size = E.b + Γ.top := hR.2.1
  obtain ⟨⟨hx, hb1, hml, hown, hts⟩, hK, hNw, hlk, hO⟩ := X
  refine W.anew hx hb1 hown (hts _ hcl) (va_AO.use hO.1.2.2.1) rfl hd rfl hn hb4 (by show cells + 1 ≤ mc; omega) (by show slots + _ ≤ ms; omega) fun cA kA comp f1 f2 f3 f4 => ?_
  generalize hH1 : H.push ({ cls := cA, slots := Array.replicate n.toNatClampNeg .null, vm := .none } : Cell) = H1
  have z1 : H1.size = H.size + 1 := by rw [← hH1, Array.size_push]
  have e1 : H1[H.size]? = some (arrV cA n.toNatClampNeg (fun _ => .null)) := by rw [← hH1, Array.getElem?_push_size, ← arrV_new]
  have o1 : ∀ q : Nat, q < H.size → H1[q]? = H[q]? := fun q hq => by rw [← hH1, Array.getElem?_push, if_neg (Nat.ne_of_lt hq)]
  obtain ⟨kA2, comp2, k1, k2, k3, k4⟩ := (hK.2 5 _ rfl).2
  have hcA : cA = E.cA 5 := Option.some.inj (f1.symm.trans k4)
  subst hcA
  rw [hsz]
  refine kk _ _ _ H1 rfl rfl rfl (hΓ.ext _) (hΓ.al _) (og_al_top _ _) (og_pushW hΓ hR z1 o1 ?_) (og_Spush hS z1 o1)
  unfold og_ok
  rw [show (emW (Γ.al (105, n.toNatClampNeg)) (σ.z Γ.top)).G Γ.top = (105, n.toNatClampNeg) from og_al_top _ _, if_neg (by omega)]
  show H1[E.b + Γ.top]? = some (arrV (E.cA 5) n.toNatClampNeg _)
  rw [← hsz, e1]
  congr 2
  funext j
  exact (og_zW_fv (k := (105, n.toNatClampNeg)) (fun _ _ _ => rfl) (ty := og_aty 5) rfl).symm
theorem og_newWQ6 (X : OgX p s m args meth c cc nL own E) (hΓ : OgWr E Γ) (hR : OgRep E (emW Γ σ) H) (hS : va_S E.A s.heap H locs) (hk : cells + kc = mc ∧ slots + ks = ms) {n : Int32} {N index : Nat} (hcl : Cond.classLink own index "java/lang/Object" ∈ lw_all) (hn : ¬ n < 0) (hN : n.toNatClampNeg = N) (hb4 : N * 4 ≤ 536870912) (hb : 1 ≤ kc ∧ N ≤ ks) (hd : decode cc pc = .ok (.anewarray index, 3))
    (kk : ∀ (Γ1 : OgG) (σ1 : OgC) (a1 : Nat) (H1 : Heap), Γ1 = Γ.al (106, N) → σ1 = σ.z Γ.top → a1 = Γ.top → OgExt Γ Γ1 → OgWr E Γ1 → Γ1.G a1 = (106, N) → OgRep E (emW Γ1 σ1) H1 → va_S E.A s.heap H1 locs → W p l e (og_rmA F L mc ms) s m args below meth c H1 locs (cells + 1) (slots + N) Q (F0 m (pc + 3) ls (.ref (E.b + a1) :: rest))) : W p l e (og_rmA F L mc ms) s m args below meth c H locs cells slots Q (F0 m pc ls (.int n :: rest)) := by
  subst hN
  have hsz : H.size = E.b + Γ.top := hR.2.1
  obtain ⟨⟨hx, hb1, hml, hown, hts⟩, hK, hNw, hlk, hO⟩ := X
  refine W.anew hx hb1 hown (hts _ hcl) (va_AO.use hO.1.1) rfl hd rfl hn hb4 (by show cells + 1 ≤ mc; omega) (by show slots + _ ≤ ms; omega) fun cA kA comp f1 f2 f3 f4 => ?_
  generalize hH1 : H.push ({ cls := cA, slots := Array.replicate n.toNatClampNeg .null, vm := .none } : Cell) = H1
  have z1 : H1.size = H.size + 1 := by rw [← hH1, Array.size_push]
  have e1 : H1[H.size]? = some (arrV cA n.toNatClampNeg (fun _ => .null)) := by rw [← hH1, Array.getElem?_push_size, ← arrV_new]
  have o1 : ∀ q : Nat, q < H.size → H1[q]? = H[q]? := fun q hq => by rw [← hH1, Array.getElem?_push, if_neg (Nat.ne_of_lt hq)]
  obtain ⟨kA2, comp2, k1, k2, k3, k4⟩ := (hK.2 6 _ rfl).2
  have hcA : cA = E.cA 6 := Option.some.inj (f1.symm.trans k4)
  subst hcA
  rw [hsz]
  refine kk _ _ _ H1 rfl rfl rfl (hΓ.ext _) (hΓ.al _) (og_al_top _ _) (og_pushW hΓ hR z1 o1 ?_) (og_Spush hS z1 o1)
  unfold og_ok
  rw [show (emW (Γ.al (106, n.toNatClampNeg)) (σ.z Γ.top)).G Γ.top = (106, n.toNatClampNeg) from og_al_top _ _, if_neg (by omega)]
  show H1[E.b + Γ.top]? = some (arrV (E.cA 6) n.toNatClampNeg _)
  rw [← hsz, e1]
  congr 2
  funext j
  exact (og_zW_fv (k := (106, n.toNatClampNeg)) (fun _ _ _ => rfl) (ty := og_aty 6) rfl).symm
theorem og_newW (X : OgX p s m args meth c cc nL own E) (hΓ : OgWr E Γ) (hR : OgRep E (emW Γ σ) H) (hS : va_S E.A s.heap H locs) (hk : cells + kc = mc ∧ slots + ks = ms) {ci index N : Nat} (hC : OgCls ci) (hcr : ∀ a j o, og_pt (ci + 1) a j o = o) (_h3 : True) (hN : og_N ci = N) (hty : ∀ k, k < N → og_okty (og_ty ci k) = true) (hcl : Cond.classLink own index (og_R ci) ∈ lw_all) (hins : Cond.instantiable (og_R ci) N ∈ lw_all) (hini : Cond.initialized (og_R ci) ∈ lw_all) (hb : 1 ≤ kc ∧ N ≤ ks) (hd : decode cc pc = .ok (.new index, 3))
    (kk : ∀ (Γ1 : OgG) (σ1 : OgC) (a1 : Nat) (H1 : Heap), Γ1 = Γ.al (ci + 1, 0) → σ1 = σ.z Γ.top → a1 = Γ.top → OgExt Γ Γ1 → OgWr E Γ1 → Γ1.G a1 = (ci + 1, 0) → OgRep E (emW Γ1 σ1) H1 → va_S E.A s.heap H1 locs → W p l e (og_rmA F L mc ms) s m args below meth c H1 locs (cells + 1) (slots + N) Q (F0 m (pc + 3) ls (.ref (E.b + a1) :: rest))) : W p l e (og_rmA F L mc ms) s m args below meth c H locs cells slots Q (F0 m pc ls rest) :=
  og_newOW X hΓ hR hS hC hcr hN hty hcl hins hini (by show cells + 1 ≤ mc; omega) (by show slots + N ≤ ms; omega) hd fun H1 h1 h2 => kk _ _ _ H1 rfl rfl rfl (hΓ.ext _) (hΓ.al _) (og_al_top _ _) h1 h2
end PrimW
/-- ends of methods that make cells: the kinds grew, and are well -/
abbrev og_GvW (E : OgE) (Γ0 : OgG) (Q : OgG → OgC → Prop) : OgG × OgC → Prop := fun u => Q u.1 u.2 ∧ OgExt Γ0 u.1 ∧ OgWr E u.1
abbrev og_GxW {α : Type} (E : OgE) (Γ0 : OgG) (Q : α → OgG → OgC → Prop) : α → OgG × OgC → Prop := fun r u => Q r u.1 u.2 ∧ OgExt Γ0 u.1 ∧ OgWr E u.1
section AftAW
variable {p : Program} {l : Launch} {e : Env} {R : Room} {s : State} {m : MethodId} {args : Array Value} {below : List Frame} {meth : Method} {c : Code} {H : Heap} {locs : List Loc} {cells slots mc ms : Nat} {Qf : State → Prop} {pc : Nat} {ls : Array Slot} {rest st : List Value} {E : OgE} {H0 : Heap} {Γ : OgG} {cc : ByteArray} {nL : Nat} {own : String}
theorem og_aftWi {Q : Int32 → OgG → OgC → Prop} {a : Array Value} (hr : va_Run p l e R s m args below meth c H locs cells slots mc ms (F0 m pc ls st) rest (og_Qi E emAW (og_GxW E Γ Q) a) E.A) (hS : va_S E.A H0 H locs)
    (kk : ∀ (r : Int32) (Γ1 : OgG) (σ1 : OgC) (H1 : Heap) (locs1 : List Loc), Q r Γ1 σ1 → OgExt Γ Γ1 → OgWr E Γ1 → OgRep E (emW Γ1 σ1) H1 → va_S E.A H0 H1 locs1 → W p l e R s m args below meth c H1 locs1 (cells + mc) (slots + ms) Qf (F0 m (pc + 3) ls (.int r :: rest))) : W p l e R s m args below meth c H locs cells slots Qf (F0 m pc ls st) :=
  va_calli hr hS (fun _ _ h => h) (fun _ h => h) (fun r u t H1 locs1 ht _ hq hB _ _ hS1 => kk r u.1 u.2 H1 locs1 hq.1 hq.2.1 hq.2.2 (by rw [← ht]; exact hB) hS1)
theorem og_aftWv {Q : OgG → OgC → Prop} {a : Array Value} (hr : va_Run p l e R s m args below meth c H locs cells slots mc ms (F0 m pc ls st) rest (og_Qv E emAW (og_GvW E Γ Q) a) E.A) (hS : va_S E.A H0 H locs)
    (kk : ∀ (Γ1 : OgG) (σ1 : OgC) (H1 : Heap) (locs1 : List Loc), Q Γ1 σ1 → OgExt Γ Γ1 → OgWr E Γ1 → OgRep E (emW Γ1 σ1) H1 → va_S E.A H0 H1 locs1 → W p l e R s m args below meth c H1 locs1 (cells + mc) (slots + ms) Qf (F0 m (pc + 3) ls rest)) : W p l e R s m args below meth c H locs cells slots Qf (F0 m pc ls st) :=
  va_callv hr hS (fun _ _ h => h) (fun _ h => h) (fun u t H1 locs1 ht _ hq hB _ _ hS1 => kk u.1 u.2 H1 locs1 hq.1 hq.2.1 hq.2.2 (by rw [← ht]; exact hB) hS1)
theorem og_aftWr {Q : Nat → OgG → OgC → Prop} {a : Array Value} (hr : va_Run p l e R s m args below meth c H locs cells slots mc ms (F0 m pc ls st) rest (og_Qr E emAW (og_GxW E Γ Q) a) E.A) (hS : va_S E.A H0 H locs)
    (kk : ∀ (r : Nat) (Γ1 : OgG) (σ1 : OgC) (H1 : Heap) (locs1 : List Loc), Q r Γ1 σ1 → OgExt Γ Γ1 → OgWr E Γ1 → OgRep E (emW Γ1 σ1) H1 → va_S E.A H0 H1 locs1 → W p l e R s m args below meth c H1 locs1 (cells + mc) (slots + ms) Qf (F0 m (pc + 3) ls (.ref (E.b + r) :: rest))) : W p l e R s m args below meth c H locs cells slots Qf (F0 m pc ls st) :=
  va_callr hr hS (fun _ _ h => h) (fun _ h => h) (fun u a t H1 locs1 ht _ hq hB _ _ hS1 => by
    obtain ⟨h1, h2⟩ := hB
    subst h1
    exact kk u.1 u.2.1 u.2.2 H1 locs1 hq.1 hq.2.1 hq.2.2 (by rw [← ht]; exact h2) hS1)
end AftAW
