/-! ===== new cells of the class's side ===== -/
set_option maxRecDepth 100000
def OgG.al (Γ : OgG) (k : Nat × Nat) : OgG := (fun x => if x = Γ.top then k else Γ.G x, Γ.top + 1)
def OgC.z (σ : OgC) (a : Nat) : OgC := (fun x => if x = a then (fun _ => 0) else σ.I x, fun x => if x = a then (fun _ => 0) else σ.L x, fun x => if x = a then (fun _ => none) else σ.R x)
def OgExt (Γ Γ' : OgG) : Prop := ∀ a κ n : Nat, κ ≠ 0 → Γ.G a = (κ, n) → Γ'.G a = (κ, n)
def OgWg (E : OgE) (Γ : OgG) : Prop := OgWf Γ ∧ 38 ≤ Γ.top ∧ (∀ a, Γ.top ≤ a → (Γ.G a).1 = 0) ∧ ∀ a, Γ.top ≤ a → E.A (E.b + a)
def emA (u : OgG × OgC) : OgM := emC u.1 u.2
theorem OgExt.refl (Γ : OgG) : OgExt Γ Γ := fun _ _ _ _ h => h
theorem OgExt.trans {Γ1 Γ2 Γ3 : OgG} (h1 : OgExt Γ1 Γ2) (h2 : OgExt Γ2 Γ3) : OgExt Γ1 Γ3 := fun a κ n hk h => h2 a κ n hk (h1 a κ n hk h)
theorem OgExt.g {Γ Γ' : OgG} (h : OgExt Γ Γ') {a κ n : Nat} (g : Γ.G a = (κ + 1, n)) : Γ'.G a = (κ + 1, n) := h a (κ + 1) n (Nat.succ_ne_zero κ) g
theorem og_al_top (Γ : OgG) (k : Nat × Nat) : (Γ.al k).G Γ.top = k := if_pos rfl
theorem og_al_ne (Γ : OgG) (k : Nat × Nat) {a : Nat} (h : a ≠ Γ.top) : (Γ.al k).G a = Γ.G a := if_neg h
theorem OgWg.ext {E : OgE} {Γ : OgG} (h : OgWg E Γ) (k : Nat × Nat) : OgExt Γ (Γ.al k) := by
  intro a κ n hk hg
  rw [og_al_ne]
  · exact hg
  · intro e
    have := h.2.2.1 a (by rw [e]; exact Nat.le_refl _)
    rw [hg] at this
    exact hk this
theorem OgWg.al {E : OgE} {Γ : OgG} (h : OgWg E Γ) (k : Nat × Nat) (h3 : k.1 ≠ 3) (h4 : k.1 ≠ 4) : OgWg E (Γ.al k) := by
  have hx := h.ext k
  obtain ⟨⟨w1, w2, w3⟩, ht, hz, hA⟩ := h
  refine ⟨⟨fun a ha => ?_, fun t hg => ?_, fun t hg => ?_⟩, Nat.le_succ_of_le ht, fun a ha => ?_, fun a ha => hA a (Nat.le_of_succ_le ha)⟩
  · rw [og_al_ne _ _ (by omega)]
    exact w1 a ha
  · have hn : t ≠ Γ.top := fun e => by
      rw [e, og_al_top] at hg
      exact h4 (by rw [hg])
    rw [og_al_ne _ _ hn] at hg
    obtain ⟨a1, a2, a3⟩ := w2 t hg
    exact ⟨hx.g a1, hx.g a2, hx.g a3⟩
  · have hn : t ≠ Γ.top := fun e => by
      rw [e, og_al_top] at hg
      exact h3 (by rw [hg])
    rw [og_al_ne _ _ hn] at hg
    obtain ⟨a1, a2, a3, a4, a5, a6, a7, a8, a9, a10, a11⟩ := w3 t hg
    exact ⟨hx.g a1, hx.g a2, hx.g a3, hx.g a4, hx.g a5, hx.g a6, hx.g a7, hx.g a8, hx.g a9, hx.g a10, hx.g a11⟩
  · have ha2 : Γ.top + 1 ≤ a := ha
    rw [og_al_ne _ _ (by omega)]
    exact hz a (by omega)
def og_okty (ty : FieldType) : Bool := match ty with
  | .float => false
  | .double => false
  | _ => true
theorem og_z_fv {b : Nat} {Γ : OgG} {σ : OgC} {k : Nat × Nat} (hcr : ∀ a j o, og_cr k.1 a j o = o) {j : Nat} {ty : FieldType} (hty : og_okty ty = true) : og_fv b (emC (Γ.al k) (σ.z Γ.top)) Γ.top j ty = defaultValue ty := by
  have e1 : (emC (Γ.al k) (σ.z Γ.top)).I Γ.top j = 0 := by
    show (if Γ.top = Γ.top then (fun _ => (0 : Int32)) else σ.I Γ.top) j = 0
    rw [if_pos rfl]
  have e2 : (emC (Γ.al k) (σ.z Γ.top)).L Γ.top j = 0 := by
    show (if Γ.top = Γ.top then (fun _ => (0 : Int64)) else σ.L Γ.top) j = 0
    rw [if_pos rfl]
  have e3 : (emC (Γ.al k) (σ.z Γ.top)).R Γ.top j = none := by
    show og_cr ((Γ.al k).G Γ.top).1 Γ.top j ((if Γ.top = Γ.top then (fun _ => (none : Option Nat)) else σ.R Γ.top) j) = none
    rw [og_al_top, hcr, if_pos rfl]
  cases ty <;> first | (show Value.int _ = _; rw [e1]; rfl) | (show Value.long _ = _; rw [e2]; rfl) | (show og_rv _ _ = _; rw [e3]; rfl) | exact absurd hty (by decide)
theorem og_z_ne {b : Nat} {Γ : OgG} {σ : OgC} {k : Nat × Nat} {x j : Nat} {ty : FieldType} (h : x ≠ Γ.top) : og_fv b (emC (Γ.al k) (σ.z Γ.top)) x j ty = og_fv b (emC Γ σ) x j ty := by
  have e1 : (emC (Γ.al k) (σ.z Γ.top)).I x = (emC Γ σ).I x := if_neg h
  have e2 : (emC (Γ.al k) (σ.z Γ.top)).L x = (emC Γ σ).L x := if_neg h
  have e3 : (emC (Γ.al k) (σ.z Γ.top)).R x j = (emC Γ σ).R x j := by
    show og_cr ((Γ.al k).G x).1 x j ((if x = Γ.top then (fun _ => (none : Option Nat)) else σ.R x) j) = og_cr (Γ.G x).1 x j (σ.R x j)
    rw [og_al_ne _ _ h, if_neg h]
  cases ty <;> first | (show Value.int _ = Value.int _; rw [e1]; done) | (show Value.long _ = Value.long _; rw [e2]; done) | (show og_rv _ _ = og_rv _ _; rw [e3]; done)
theorem og_push {E : OgE} {Γ : OgG} {σ : OgC} {H H1 : Heap} (hΓ : OgWg E Γ) (hR : OgRep E (emC Γ σ) H) {k : Nat × Nat} (z1 : H1.size = H.size + 1) (o1 : ∀ q, q < H.size → H1[q]? = H[q]?) (hnew : og_ok E (emC (Γ.al k) (σ.z Γ.top)) Γ.top H1) : OgRep E (emC (Γ.al k) (σ.z Γ.top)) H1 := by
  have hsz : H.size = E.b + Γ.top := hR.2.1
  refine ⟨fun x hx => ?_, ?_, fun x hx => ?_⟩
  · by_cases h : x = Γ.top
    · subst h
      exact ⟨hnew, hΓ.2.2.2 _ (Nat.le_refl _)⟩
    · have hg : (emC (Γ.al k) (σ.z Γ.top)).G x = (emC Γ σ).G x := og_al_ne _ _ h
      rw [hg] at hx
      obtain ⟨a1, a2⟩ := hR.1 x hx
      refine ⟨?_, a2⟩
      have hlt : x < Γ.top := by
        rcases Nat.lt_or_ge x Γ.top with q | q
        · exact q
        · exact absurd (hR.2.2 x q) hx
      have hq := o1 (E.b + x) (by omega)
      unfold og_ok at a1 ⊢
      rw [hg]
      by_cases hl : ((emC Γ σ).G x).1 < 100
      · rw [if_pos hl] at a1 ⊢
        exact a1.same hq (fun j ty => og_z_ne h)
      · rw [if_neg hl] at a1 ⊢
        exact a1.same hq (fun j ty => og_z_ne h)
  · show H1.size = E.b + (Γ.top + 1)
    omega
  · have hx2 : Γ.top + 1 ≤ x := hx
    show ((Γ.al k).G x).1 = 0
    rw [og_al_ne _ _ (by omega)]
    exact hΓ.2.2.1 x (by omega)
theorem og_Spush {A : Nat → Prop} {H0 H H1 : Heap} {locs : List Loc} (h : va_S A H0 H locs) (z1 : H1.size = H.size + 1) (o1 : ∀ q, q < H.size → H1[q]? = H[q]?) : va_S A H0 H1 locs :=
  ⟨Nat.le_trans h.1 (by omega), fun x h1 h2 => (o1 x (Nat.lt_of_lt_of_le h1 h.1)).trans (h.2.1 x h1 h2), h.2.2⟩
section NewOg
variable {p : Program} {l : Launch} {e : Env} {R : Room} {s : State} {m : MethodId} {args : Array Value} {below : List Frame} {meth : Method} {c : Code} {H : Heap} {locs : List Loc} {cells slots : Nat} {Q : State → Prop}
variable {cc : ByteArray} {pc : Nat} {ls : Array Slot} {rest : List Value} {nL : Nat} {own : String} {E : OgE} {Γ : OgG} {σ : OgC}
theorem og_newO (X : OgX p s m args meth c cc nL own E) (hΓ : OgWg E Γ) (hR : OgRep E (emC Γ σ) H) (hS : va_S E.A s.heap H locs) {ci index N : Nat} (hC : OgCls ci) (hcr : ∀ a j o, og_cr (ci + 1) a j o = o) (hN : og_N ci = N) (hty : ∀ k, k < N → og_okty (og_ty ci k) = true) (hcl : Cond.classLink own index (og_R ci) ∈ lw_all) (hins : Cond.instantiable (og_R ci) N ∈ lw_all) (hini : Cond.initialized (og_R ci) ∈ lw_all) (hcells : cells + 1 ≤ R.cells) (hslots : slots + N ≤ R.slots) (hd : decode cc pc = .ok (.new index, 3))
    (kk : ∀ (H1 : Heap), OgRep E (emC (Γ.al (ci + 1, 0)) (σ.z Γ.top)) H1 → va_S E.A s.heap H1 locs → W p l e R s m args below meth c H1 locs (cells + 1) (slots + N) Q (F0 m (pc + 3) ls (.ref (E.b + Γ.top) :: rest))) : W p l e R s m args below meth c H locs cells slots Q (F0 m pc ls rest) := by
  subst hN
  obtain ⟨⟨hx, hb, hml, hown, hts⟩, hK, hNw, hlk, hO⟩ := X
  have hKn := hK.1 ci _ hC.1
  refine W.newcK hx hb hown (hts _ hcl) (hts _ hins) (hts _ hini) rfl hd hcells hslots hKn.2.1 (h := E.b + Γ.top) hR.2.1 fun H1 kC hkC e1 z1 o1 => ?_
  have hsz : H.size = E.b + Γ.top := hR.2.1
  rw [← hsz] at z1 o1
  refine kk H1 (og_push hΓ hR z1 o1 ?_) (og_Spush hS z1 o1)
  unfold og_ok
  rw [show (emC (Γ.al (ci + 1, 0)) (σ.z Γ.top)).G Γ.top = (ci + 1, 0) from og_al_top _ _, if_pos (show ci + 1 < 100 by have := hC.2.2.2.2; omega)]
  show og_obj E _ Γ.top (ci + 1 - 1) H1
  rw [Nat.add_sub_cancel]
  exact t_OB.to (u_born (og_ty ci) hts hC.2.1 hKn hkC e1 hC.2.2.1) (fun k hk => (og_z_fv hcr (hty k hk)).symm)
/-- an int array of a written length -/
theorem og_newI (X : OgX p s m args meth c cc nL own E) (hΓ : OgWg E Γ) (hR : OgRep E (emC Γ σ) H) (hS : va_S E.A s.heap H locs) {n : Int32} {N : Nat} (harr : Cond.arrayClass .int ∈ lw_all) (hn : ¬ n < 0) (hN : n.toNatClampNeg = N) (hb4 : N * 4 ≤ 536870912) (hcells : cells + 1 ≤ R.cells) (hslots : slots + N ≤ R.slots) (hd : decode cc pc = .ok (.newarray .int, 2))
    (kk : ∀ (H1 : Heap), OgRep E (emC (Γ.al (100, N)) (σ.z Γ.top)) H1 → va_S E.A s.heap H1 locs → W p l e R s m args below meth c H1 locs (cells + 1) (slots + N) Q (F0 m (pc + 2) ls (.ref (E.b + Γ.top) :: rest))) : W p l e R s m args below meth c H locs cells slots Q (F0 m pc ls (.int n :: rest)) := by
  obtain ⟨⟨hx, hb, hml, hown, hts⟩, hK, hNw, hlk, hO⟩ := X
  have hsz : H.size = E.b + Γ.top := hR.2.1
  refine va_newaK (atype := .int) hx hb (hts _ harr) rfl hd rfl hn hN hb4 hcells hslots (h := E.b + Γ.top) hsz fun H1 cA e1 z1 o1 hAr hNm => ?_
  have hcA : cA = E.cA 0 := Option.some.inj (hNm.symm.trans (hK.2 0 _ rfl).2)
  subst hcA
  rw [← hsz] at z1 o1
  refine kk H1 (og_push hΓ hR z1 o1 ?_) (og_Spush hS z1 o1)
  unfold og_ok
  rw [show (emC (Γ.al (100, N)) (σ.z Γ.top)).G Γ.top = (100, N) from og_al_top _ _, if_neg (Nat.lt_irrefl 100)]
  show H1[E.b + Γ.top]? = some (arrV (E.cA 0) N _)
  rw [e1]
  congr 2
  funext j
  exact (og_z_fv (k := (100, N)) (fun _ _ _ => rfl) rfl).symm
/-- an array of Objects -/
theorem og_newQ (X : OgX p s m args meth c cc nL own E) (hΓ : OgWg E Γ) (hR : OgRep E (emC Γ σ) H) (hS : va_S E.A s.heap H locs) {n : Int32} {N index : Nat} (hcl : Cond.classLink own index "java/lang/Object" ∈ lw_all) (hn : ¬ n < 0) (hN : n.toNatClampNeg = N) (hb4 : N * 4 ≤ 536870912) (hcells : cells + 1 ≤ R.cells) (hslots : slots + N ≤ R.slots) (hd : decode cc pc = .ok (.anewarray index, 3))
    (kk : ∀ (H1 : Heap), OgRep E (emC (Γ.al (106, N)) (σ.z Γ.top)) H1 → va_S E.A s.heap H1 locs → W p l e R s m args below meth c H1 locs (cells + 1) (slots + N) Q (F0 m (pc + 3) ls (.ref (E.b + Γ.top) :: rest))) : W p l e R s m args below meth c H locs cells slots Q (F0 m pc ls (.int n :: rest)) := by
  subst hN
  obtain ⟨⟨hx, hb, hml, hown, hts⟩, hK, hNw, hlk, hO⟩ := X
  have hsz : H.size = E.b + Γ.top := hR.2.1
  refine W.anew hx hb hown (hts _ hcl) (va_AO.use hO.1.1) rfl hd rfl hn hb4 hcells hslots fun cA kA comp f1 f2 f3 f4 => ?_
  generalize hH1 : H.push ({ cls := cA, slots := Array.replicate n.toNatClampNeg .null, vm := .none } : Cell) = H1
  have z1 : H1.size = H.size + 1 := by rw [← hH1, Array.size_push]
  have e1 : H1[H.size]? = some (arrV cA n.toNatClampNeg (fun _ => .null)) := by rw [← hH1, Array.getElem?_push_size, ← arrV_new]
  have o1 : ∀ q : Nat, q < H.size → H1[q]? = H[q]? := fun q hq => by rw [← hH1, Array.getElem?_push, if_neg (Nat.ne_of_lt hq)]
  obtain ⟨kA2, comp2, k1, k2, k3, k4⟩ := (hK.2 6 _ rfl).2
  have hcA : cA = E.cA 6 := Option.some.inj (f1.symm.trans k4)
  subst hcA
  rw [hsz]
  refine kk H1 (og_push hΓ hR z1 o1 ?_) (og_Spush hS z1 o1)
  unfold og_ok
  rw [show (emC (Γ.al (106, n.toNatClampNeg)) (σ.z Γ.top)).G Γ.top = (106, n.toNatClampNeg) from og_al_top _ _, if_neg (by omega)]
  show H1[E.b + Γ.top]? = some (arrV (E.cA 6) n.toNatClampNeg _)
  rw [← hsz, e1]
  congr 2
  funext j
  exact (og_z_fv (k := (106, n.toNatClampNeg)) (fun _ _ _ => rfl) (ty := og_aty 6) rfl).symm
end NewOg
/-! ===== budgets, calls of methods that make cells ===== -/
abbrev og_rmA (F L mc ms : Nat) : Room := { frames := F, cells := mc, slots := ms, locals := L }
theorem og_hk2 {cells slots kc ks mc ms c u : Nat} (hk : cells + kc = mc ∧ slots + ks = ms) (h : c ≤ kc ∧ u ≤ ks) : cells + c + (kc - c) = mc ∧ slots + u + (ks - u) = ms := by omega
theorem og_b1 {cells slots kc ks mc ms : Nat} (hk : cells + kc = mc ∧ slots + ks = ms) : cells ≤ mc := by omega
theorem og_b2 {cells slots kc ks mc ms : Nat} (hk : cells + kc = mc ∧ slots + ks = ms) : slots ≤ ms := by omega
theorem og_b3 {cells slots kc ks mc ms c u : Nat} (hk : cells + kc = mc ∧ slots + ks = ms) (h : c ≤ kc ∧ u ≤ ks) : cells + c ≤ mc := by omega
theorem og_b4 {cells slots kc ks mc ms c u : Nat} (hk : cells + kc = mc ∧ slots + ks = ms) (h : c ≤ kc ∧ u ≤ ks) : slots + u ≤ ms := by omega
/-- what a call through an object asks of the tables: the method that the pool names is the one that runs -/
def OgLV (own : String) (index : Nat) (C : String) (y : MethodName) (bytes : ByteArray) (maxL : Nat) (ret : Option FieldType) : Prop := Cond.methodLink own index y ∈ lw_all ∧ Cond.instanceMethod y ∈ lw_all ∧ Cond.selects C y y ∈ lw_all ∧ Cond.initialized y.cls ∈ lw_all ∧ Cond.code y bytes maxL ret ∈ lw_all
/-- .. the pool names it by a class below its own -/
def OgLU (own : String) (index : Nat) (C : String) (x y : MethodName) (bytes : ByteArray) (maxL : Nat) (ret : Option FieldType) : Prop := y = ⟨y.cls, x.name, x.desc⟩ ∧ Cond.methodLink own index x ∈ lw_all ∧ Cond.sameMethod x.cls y.cls x.name x.desc ∈ lw_all ∧ Cond.selects C x y ∈ lw_all ∧ Cond.instanceMethod y ∈ lw_all ∧ Cond.initialized y.cls ∈ lw_all ∧ Cond.code y bytes maxL ret ∈ lw_all
/-- .. it names an abstract method above -/
def OgLA (own : String) (index : Nat) (C : String) (x y : MethodName) (bytes : ByteArray) (maxL : Nat) (ret : Option FieldType) : Prop := Cond.declares x ∈ og_nw ∧ Cond.methodLink own index x ∈ lw_all ∧ Cond.sameMethod x.cls x.cls x.name x.desc ∈ lw_all ∧ Cond.selects C x y ∈ lw_all ∧ Cond.instanceMethod y ∈ lw_all ∧ Cond.initialized y.cls ∈ lw_all ∧ Cond.code y bytes maxL ret ∈ lw_all
def OgLI (own : String) (index : Nat) (y : MethodName) (bytes : ByteArray) (maxL : Nat) : Prop := Cond.methodLink own index y ∈ lw_all ∧ Cond.instanceMethod y ∈ lw_all ∧ Cond.initialized y.cls ∈ lw_all ∧ Cond.code y bytes maxL none ∈ lw_all
def OgLIN (own : String) (index : Nat) (y : MethodName) (bytes : ByteArray) (maxL : Nat) : Prop := Cond.methodLinkNest own index y "OpenGates" ∈ og_nw ∧ Cond.instanceMethod y ∈ lw_all ∧ Cond.initialized y.cls ∈ lw_all ∧ Cond.code y bytes maxL none ∈ lw_all
def OgLS2 (own : String) (index : Nat) (y : MethodName) (bytes : ByteArray) (maxL : Nat) (ret : Option FieldType) : Prop := Cond.methodLink own index y ∈ lw_all ∧ Cond.static y ∈ lw_all ∧ Cond.initialized y.cls ∈ lw_all ∧ Cond.code y bytes maxL ret ∈ lw_all
abbrev OgRm (R rm : Room) (maxL mc ms cells slots : Nat) : Prop := rm.cells = mc ∧ rm.slots = ms ∧ rm.frames + 1 ≤ R.frames ∧ 8 + (maxL + 11) + rm.locals ≤ R.locals ∧ cells + mc ≤ R.cells ∧ slots + ms ≤ R.slots
section RunsA
variable {p : Program} {l : Launch} {e : Env} {R : Room} {s : State} {m : MethodId} {args : Array Value} {below : List Frame} {meth : Method} {c : Code} {H : Heap} {locs : List Loc} {cells slots : Nat}
variable {cc : ByteArray} {pc : Nat} {ls : Array Slot} {rest st As : List Value} {nL : Nat} {own : String} {E : OgE} {S : OgM} {y x : MethodName} {bytes : ByteArray} {maxL index n mc ms : Nat} {rm : Room} {ret : Option FieldType}
variable {Qc : Array Value → State → Outcome → State → Prop} {XC : Addr → String → State → State → Prop} {free : Addr → Prop}
theorem og_cB (X : OgX p s m args meth c cc nL own E) (hl : Cond.methodLink own index y ∈ lw_all) (hi : Cond.initialized y.cls ∈ lw_all) (hc : Cond.code y bytes maxL ret ∈ lw_all) (hy : OgY y n) (hr : OgRm R rm maxL mc ms cells slots) : CallB R s args own index y bytes maxL ret (ws_ y bytes maxL ret) rm mc ms n :=
  callB_of n X.1.2.2.2.2 (lw_meth hc) rfl hr.1 hr.2.1 (X.1.2.2.2.2 _ hi) (X.1.2.2.2.2 _ hl) hy ⟨hr.2.2.1, hr.2.2.2.1⟩
theorem og_pV (X : OgX p s m args meth c cc nL own E) (hR : OgRep E S H) (hS : va_S E.A s.heap H locs) {a ci : Nat} (hC : OgCls ci) (hG : (S.G a).1 = ci + 1) : PreV s H (og_R ci) (E.b + a) (og_Pre E S (.ref (E.b + a) :: As)) As :=
  ⟨(og_pre X hR hS (.ref (E.b + a) :: As)).1, og_recv X hR hC hG, (og_pre X hR hS (.ref (E.b + a) :: As)).2⟩
theorem og_runC (X : OgX p s m args meth c cc nL own E) (hR : OgRep E S H) (hS : va_S E.A s.heap H locs) {a ci : Nat} (hC : OgCls ci) (hG : (S.G a).1 = ci + 1) (hM : Met l y (ws_ y bytes maxL ret) rm (og_Pre E S (.ref (E.b + a) :: As)) Qc mc ms free) (hL : OgLV own index (og_R ci) y bytes maxL ret) (hy : OgY y n) (hn : As.length = n) (hrm : OgRm R rm maxL mc ms cells slots) (hst : st = As.reverse ++ .ref (E.b + a) :: rest) (hsz : ls.size = nL) (hroom : (rest.map fun v => v.category).sum ≤ 8) (hd : decode cc pc = .ok (.invokevirtual index, 3)) :
    va_Run p l e R s m args below meth c H locs cells slots mc ms (F0 m pc ls st) rest (Qc (Value.ref (E.b + a) :: As).toArray) free :=
  va_runV (C := og_R ci) X.1 hM ⟨og_cB X hL.1 hL.2.2.2.1 hL.2.2.2.2 hy hrm, X.1.2.2.2.2 _ hL.2.1, X.1.2.2.2.2 _ hL.2.2.1⟩ (og_pV X hR hS hC hG) rfl hn hsz hst (lv_room hroom) hd ⟨hrm.2.2.2.2.1, hrm.2.2.2.2.2⟩
theorem og_runCX (X : OgX p s m args meth c cc nL own E) (hR : OgRep E S H) (hS : va_S E.A s.heap H locs) {a ci : Nat} (hC : OgCls ci) (hG : (S.G a).1 = ci + 1) (hM : ox_Met l y (ws_ y bytes maxL ret) rm (og_Pre E S (.ref (E.b + a) :: As)) Qc XC mc ms free) (hL : OgLV own index (og_R ci) y bytes maxL ret) (hy : OgY y n) (hn : As.length = n) (hrm : OgRm R rm maxL mc ms cells slots) (hst : st = As.reverse ++ .ref (E.b + a) :: rest) (hsz : ls.size = nL) (hroom : (rest.map fun v => v.category).sum ≤ 8) (hd : decode cc pc = .ok (.invokevirtual index, 3)) :
    ox_Run p l e R s m args below meth c H locs cells slots mc ms (F0 m pc ls st) rest (Qc (Value.ref (E.b + a) :: As).toArray) XC free :=
  ox_runV (C := og_R ci) X.1 hM ⟨og_cB X hL.1 hL.2.2.2.1 hL.2.2.2.2 hy hrm, X.1.2.2.2.2 _ hL.2.1, X.1.2.2.2.2 _ hL.2.2.1⟩ (og_pV X hR hS hC hG) rfl hn hsz hst (lv_room hroom) hd ⟨hrm.2.2.2.2.1, hrm.2.2.2.2.2⟩
theorem og_cU (X : OgX p s m args meth c cc nL own E) {C : String} (hL : OgLU own index C x y bytes maxL ret) (hy : OgY ⟨y.cls, x.name, x.desc⟩ n) (hr : OgRm R rm maxL mc ms cells slots) : va_CU R s args own C y.cls index x y bytes maxL ret (ws_ y bytes maxL ret) rm mc ms n :=
  va_cwU n X.1.2.2.2.2 (og_lU hL.2.1 hL.2.2.1 hL.2.2.2.1 hL.2.2.2.2.1 hL.2.2.2.2.2.1 hL.2.2.2.2.2.2) rfl hr.1 hr.2.1 hL.1 hy ⟨hr.2.2.1, hr.2.2.2.1⟩
theorem og_runU (X : OgX p s m args meth c cc nL own E) (hR : OgRep E S H) (hS : va_S E.A s.heap H locs) {a ci : Nat} (hC : OgCls ci) (hG : (S.G a).1 = ci + 1) (hM : Met l y (ws_ y bytes maxL ret) rm (og_Pre E S (.ref (E.b + a) :: As)) Qc mc ms free) (hL : OgLU own index (og_R ci) x y bytes maxL ret) (hy : OgY ⟨y.cls, x.name, x.desc⟩ n) (hn : As.length = n) (hrm : OgRm R rm maxL mc ms cells slots) (hst : st = As.reverse ++ .ref (E.b + a) :: rest) (hsz : ls.size = nL) (hroom : (rest.map fun v => v.category).sum ≤ 8) (hd : decode cc pc = .ok (.invokevirtual index, 3)) :
    va_Run p l e R s m args below meth c H locs cells slots mc ms (F0 m pc ls st) rest (Qc (Value.ref (E.b + a) :: As).toArray) free :=
  va_runU X.1 hM (og_cU X hL hy hrm) (og_pV X hR hS hC hG) rfl hn hsz hst (lv_room hroom) hd ⟨hrm.2.2.2.2.1, hrm.2.2.2.2.2⟩
theorem og_runUX (X : OgX p s m args meth c cc nL own E) (hR : OgRep E S H) (hS : va_S E.A s.heap H locs) {a ci : Nat} (hC : OgCls ci) (hG : (S.G a).1 = ci + 1) (hM : ox_Met l y (ws_ y bytes maxL ret) rm (og_Pre E S (.ref (E.b + a) :: As)) Qc XC mc ms free) (hL : OgLU own index (og_R ci) x y bytes maxL ret) (hy : OgY ⟨y.cls, x.name, x.desc⟩ n) (hn : As.length = n) (hrm : OgRm R rm maxL mc ms cells slots) (hst : st = As.reverse ++ .ref (E.b + a) :: rest) (hsz : ls.size = nL) (hroom : (rest.map fun v => v.category).sum ≤ 8) (hd : decode cc pc = .ok (.invokevirtual index, 3)) :
    ox_Run p l e R s m args below meth c H locs cells slots mc ms (F0 m pc ls st) rest (Qc (Value.ref (E.b + a) :: As).toArray) XC free :=
  ox_runU X.1 hM (og_cU X hL hy hrm) (og_pV X hR hS hC hG) rfl hn hsz hst (lv_room hroom) hd ⟨hrm.2.2.2.2.1, hrm.2.2.2.2.2⟩
theorem og_runAX (X : OgX p s m args meth c cc nL own E) (hR : OgRep E S H) (hS : va_S E.A s.heap H locs) {a ci : Nat} (hC : OgCls ci) (hG : (S.G a).1 = ci + 1) (hM : ox_Met l y (ws_ y bytes maxL ret) rm (og_Pre E S (.ref (E.b + a) :: As)) Qc XC mc ms free) (hL : OgLA own index (og_R ci) x y bytes maxL ret) (hy : OgY x n) (hn : As.length = n) (hrm : OgRm R rm maxL mc ms cells slots) (hst : st = As.reverse ++ .ref (E.b + a) :: rest) (hsz : ls.size = nL) (hroom : (rest.map fun v => v.category).sum ≤ 8) (hd : decode cc pc = .ok (.invokevirtual index, 3)) :
    ox_Run p l e R s m args below meth c H locs cells slots mc ms (F0 m pc ls st) rest (Qc (Value.ref (E.b + a) :: As).toArray) XC free :=
  ox_runU X.1 hM (va_cwA n X.1.2.2.2.2 (og_lU hL.2.1 hL.2.2.1 hL.2.2.2.1 hL.2.2.2.2.1 hL.2.2.2.2.2.1 hL.2.2.2.2.2.2) rfl hrm.1 hrm.2.1 (X.2.2.1 _ hL.1) hy ⟨hrm.2.2.1, hrm.2.2.2.1⟩) (og_pV X hR hS hC hG) rfl hn hsz hst (lv_room hroom) hd ⟨hrm.2.2.2.2.1, hrm.2.2.2.2.2⟩
theorem og_runI (X : OgX p s m args meth c cc nL own E) (hR : OgRep E S H) (hS : va_S E.A s.heap H locs) {a : Nat} (hM : Met l y (ws_ y bytes maxL none) rm (og_Pre E S (.ref (E.b + a) :: As)) Qc mc ms free) (hL : OgLI own index y bytes maxL) (hy1 : y.name = "<init>") (hy : OgY y n) (hn : As.length = n) (hrm : OgRm R rm maxL mc ms cells slots) (hst : st = As.reverse ++ .ref (E.b + a) :: rest) (hsz : ls.size = nL) (hroom : (rest.map fun v => v.category).sum ≤ 8) (hd : decode cc pc = .ok (.invokespecial index, 3)) :
    va_Run p l e R s m args below meth c H locs cells slots mc ms (F0 m pc ls st) rest (Qc (Value.ref (E.b + a) :: As).toArray) free :=
  va_runI X.1 hM ⟨og_cB X hL.1 hL.2.2.1 hL.2.2.2 hy hrm, hy1, X.1.2.2.2.2 _ hL.2.1⟩ (og_pre X hR hS (.ref (E.b + a) :: As)) rfl hn hsz hst (lv_room hroom) hd ⟨hrm.2.2.2.2.1, hrm.2.2.2.2.2⟩
theorem og_runIN (X : OgX p s m args meth c cc nL own E) (hR : OgRep E S H) (hS : va_S E.A s.heap H locs) {a : Nat} (hM : Met l y (ws_ y bytes maxL none) rm (og_Pre E S (.ref (E.b + a) :: As)) Qc mc ms free) (hL : OgLIN own index y bytes maxL) (hy1 : y.name = "<init>") (hy : OgY y n) (hn : As.length = n) (hrm : OgRm R rm maxL mc ms cells slots) (hst : st = As.reverse ++ .ref (E.b + a) :: rest) (hsz : ls.size = nL) (hroom : (rest.map fun v => v.category).sum ≤ 8) (hd : decode cc pc = .ok (.invokespecial index, 3)) :
    va_Run p l e R s m args below meth c H locs cells slots mc ms (F0 m pc ls st) rest (Qc (Value.ref (E.b + a) :: As).toArray) free :=
  va_runIN X.1 hM ⟨va_cnB n X.1.2.2.2.2 (lw_meth hL.2.2.2) rfl hrm.1 hrm.2.1 (X.2.2.1 _ hL.1) (X.1.2.2.2.2 _ hL.2.2.1) hy ⟨hrm.2.2.1, hrm.2.2.2.1⟩, hy1, X.1.2.2.2.2 _ hL.2.1⟩ (og_pre X hR hS (.ref (E.b + a) :: As)) rfl hn hsz hst (lv_room hroom) hd ⟨hrm.2.2.2.2.1, hrm.2.2.2.2.2⟩
theorem og_runS2 (X : OgX p s m args meth c cc nL own E) (hR : OgRep E S H) (hS : va_S E.A s.heap H locs) (hM : Met l y (ws_ y bytes maxL ret) rm (og_Pre E S As) Qc mc ms free) (hL : OgLS2 own index y bytes maxL ret) (hy : OgY y n) (hn : As.length = n) (hrm : OgRm R rm maxL mc ms cells slots) (hst : st = As.reverse ++ rest) (hsz : ls.size = nL) (hroom : (rest.map fun v => v.category).sum ≤ 8) (hd : decode cc pc = .ok (.invokestatic index, 3)) :
    va_Run p l e R s m args below meth c H locs cells slots mc ms (F0 m pc ls st) rest (Qc As.toArray) free :=
  va_runS X.1 hM ⟨og_cB X hL.1 hL.2.2.1 hL.2.2.2 hy hrm, X.1.2.2.2.2 _ hL.2.1⟩ (og_pre X hR hS As) rfl hn hsz hst (lv_room hroom) hd ⟨hrm.2.2.2.2.1, hrm.2.2.2.2.2⟩
end RunsA
/-- ends of methods that make cells: the kinds grew, and are well -/
abbrev og_Gv (E : OgE) (Γ0 : OgG) (Q : OgG → OgC → Prop) : OgG × OgC → Prop := fun u => Q u.1 u.2 ∧ OgExt Γ0 u.1 ∧ OgWg E u.1
abbrev og_Gx {α : Type} (E : OgE) (Γ0 : OgG) (Q : α → OgG → OgC → Prop) : α → OgG × OgC → Prop := fun r u => Q r u.1 u.2 ∧ OgExt Γ0 u.1 ∧ OgWg E u.1
section AftA
variable {p : Program} {l : Launch} {e : Env} {R : Room} {s : State} {m : MethodId} {args : Array Value} {below : List Frame} {meth : Method} {c : Code} {H : Heap} {locs : List Loc} {cells slots mc ms : Nat} {Qf : State → Prop} {pc : Nat} {ls : Array Slot} {rest st : List Value} {E : OgE} {H0 : Heap} {Γ : OgG} {cc : ByteArray} {nL : Nat} {own : String}
theorem og_aftAi {Q : Int32 → OgG → OgC → Prop} {a : Array Value} (hr : va_Run p l e R s m args below meth c H locs cells slots mc ms (F0 m pc ls st) rest (og_Qi E emA (og_Gx E Γ Q) a) E.A) (hS : va_S E.A H0 H locs)
    (kk : ∀ (r : Int32) (Γ1 : OgG) (σ1 : OgC) (H1 : Heap) (locs1 : List Loc), Q r Γ1 σ1 → OgExt Γ Γ1 → OgWg E Γ1 → OgRep E (emC Γ1 σ1) H1 → va_S E.A H0 H1 locs1 → W p l e R s m args below meth c H1 locs1 (cells + mc) (slots + ms) Qf (F0 m (pc + 3) ls (.int r :: rest))) : W p l e R s m args below meth c H locs cells slots Qf (F0 m pc ls st) :=
  va_calli hr hS (fun _ _ h => h) (fun _ h => h) (fun r u t H1 locs1 ht _ hq hB _ _ hS1 => kk r u.1 u.2 H1 locs1 hq.1 hq.2.1 hq.2.2 (by rw [← ht]; exact hB) hS1)
theorem og_aftAv {Q : OgG → OgC → Prop} {a : Array Value} (hr : va_Run p l e R s m args below meth c H locs cells slots mc ms (F0 m pc ls st) rest (og_Qv E emA (og_Gv E Γ Q) a) E.A) (hS : va_S E.A H0 H locs)
    (kk : ∀ (Γ1 : OgG) (σ1 : OgC) (H1 : Heap) (locs1 : List Loc), Q Γ1 σ1 → OgExt Γ Γ1 → OgWg E Γ1 → OgRep E (emC Γ1 σ1) H1 → va_S E.A H0 H1 locs1 → W p l e R s m args below meth c H1 locs1 (cells + mc) (slots + ms) Qf (F0 m (pc + 3) ls rest)) : W p l e R s m args below meth c H locs cells slots Qf (F0 m pc ls st) :=
  va_callv hr hS (fun _ _ h => h) (fun _ h => h) (fun u t H1 locs1 ht _ hq hB _ _ hS1 => kk u.1 u.2 H1 locs1 hq.1 hq.2.1 hq.2.2 (by rw [← ht]; exact hB) hS1)
theorem og_aftAr {Q : Nat → OgG → OgC → Prop} {a : Array Value} (hr : va_Run p l e R s m args below meth c H locs cells slots mc ms (F0 m pc ls st) rest (og_Qr E emA (og_Gx E Γ Q) a) E.A) (hS : va_S E.A H0 H locs)
    (kk : ∀ (r : Nat) (Γ1 : OgG) (σ1 : OgC) (H1 : Heap) (locs1 : List Loc), Q r Γ1 σ1 → OgExt Γ Γ1 → OgWg E Γ1 → OgRep E (emC Γ1 σ1) H1 → va_S E.A H0 H1 locs1 → W p l e R s m args below meth c H1 locs1 (cells + mc) (slots + ms) Qf (F0 m (pc + 3) ls (.ref (E.b + r) :: rest))) : W p l e R s m args below meth c H locs cells slots Qf (F0 m pc ls st) :=
  va_callr hr hS (fun _ _ h => h) (fun _ h => h) (fun u a t H1 locs1 ht _ hq hB _ _ hS1 => by
    obtain ⟨h1, h2⟩ := hB
    subst h1
    exact kk u.1 u.2.1 u.2.2 H1 locs1 hq.1 hq.2.1 hq.2.2 (by rw [← ht]; exact h2) hS1)
/-- .. that may throw a Fault, nothing caught here -/
theorem og_outA {Qc : Array Value → State → Outcome → State → Prop} {Γ0 Γ1 : OgG} {σ1 : OgC} {ci a mc ms : Nat} {Xq : Nat → OgG → OgC → Prop} (X : OgX p s m args meth c cc nL own E) (hnt : ∀ x ∈ c.exceptionTable.toList, False) (hR : OgRep E (emC Γ1 σ1) H) (hS : va_S E.A s.heap H locs) (hC : OgCls ci) (hG : (Γ1.G a).1 = ci + 1) (hq : Xq a Γ1 σ1) (hE : OgExt Γ0 Γ1) (hW : OgWg E Γ1) (hc : cells ≤ mc) (hs : slots ≤ ms) :
    ox_W p l e R s m args below meth c H locs cells slots (ox_MQ below Qc (og_XC E emA ci (og_Gx E Γ0 Xq)) args s mc ms E.A) (F0 m pc ls rest) (E.b + a) :=
  og_out (em := emA) (σ := (Γ1, σ1)) X hnt hR hS hC hG ⟨hq, hE, hW⟩ hc hs
theorem og_athrowA {Qc : Array Value → State → Outcome → State → Prop} {Γ0 Γ1 : OgG} {σ1 : OgC} {ci a mc ms : Nat} {Xq : Nat → OgG → OgC → Prop} (X : OgX p s m args meth c cc nL own E) (hnt : ∀ x ∈ c.exceptionTable.toList, False) (hR : OgRep E (emC Γ1 σ1) H) (hS : va_S E.A s.heap H locs) (hC : OgCls ci) (hG : (Γ1.G a).1 = ci + 1) (hq : Xq a Γ1 σ1) (hE : OgExt Γ0 Γ1) (hW : OgWg E Γ1) (hc : cells ≤ mc) (hs : slots ≤ ms) (hd : decode cc pc = .ok (.athrow, 1)) :
    W p l e R s m args below meth c H locs cells slots (ox_MQ below Qc (og_XC E emA ci (og_Gx E Γ0 Xq)) args s mc ms E.A) (F0 m pc ls (.ref (E.b + a) :: rest)) :=
  ox_athrow X.1.1 X.1.2.1 hd (og_outA X hnt hR hS hC hG hq hE hW hc hs)
theorem og_aftAXi {Qc : Array Value → State → Outcome → State → Prop} {Γ0 : OgG} {Q : Int32 → OgG → OgC → Prop} {Xq : Nat → OgG → OgC → Prop} {ci Mc Ms : Nat} {a : Array Value} (X : OgX p s m args meth c cc nL own E) (hnt : ∀ x ∈ c.exceptionTable.toList, False) (hC : OgCls ci) (hr : ox_Run p l e R s m args below meth c H locs cells slots mc ms (F0 m pc ls st) rest (og_Qi E emA (og_Gx E Γ Q) a) (og_XC E emA ci (og_Gx E Γ Xq)) E.A) (hS : va_S E.A s.heap H locs) (hE : OgExt Γ0 Γ) (hc : cells + mc ≤ Mc) (hs : slots + ms ≤ Ms)
    (kk : ∀ (r : Int32) (Γ1 : OgG) (σ1 : OgC) (H1 : Heap) (locs1 : List Loc), Q r Γ1 σ1 → OgExt Γ Γ1 → OgWg E Γ1 → OgRep E (emC Γ1 σ1) H1 → va_S E.A s.heap H1 locs1 → W p l e R s m args below meth c H1 locs1 (cells + mc) (slots + ms) (ox_MQ below Qc (og_XC E emA ci (og_Gx E Γ0 Xq)) args s Mc Ms E.A) (F0 m (pc + 3) ls (.int r :: rest))) : W p l e R s m args below meth c H locs cells slots (ox_MQ below Qc (og_XC E emA ci (og_Gx E Γ0 Xq)) args s Mc Ms E.A) (F0 m pc ls st) :=
  ox_calli hr hS (fun _ _ h => h) (fun _ h => h) (fun _ _ h => h) (fun En ce q9 u t H1 locs1 ht _ hpx hB _ _ hS1 _ _ _ => by
    obtain ⟨h1, h2, h3⟩ := hpx
    subst h1
    exact og_outA (Γ1 := u.2.1) (σ1 := u.2.2) X hnt (by rw [← ht]; exact hB.2) hS1 hC h3 h2.1 (hE.trans h2.2.1) h2.2.2 hc hs) (fun r u t H1 locs1 ht _ hq hB _ _ hS1 => kk r u.1 u.2 H1 locs1 hq.1 hq.2.1 hq.2.2 (by rw [← ht]; exact hB) hS1)
theorem og_aftAXv {Qc : Array Value → State → Outcome → State → Prop} {Γ0 : OgG} {Q : OgG → OgC → Prop} {Xq : Nat → OgG → OgC → Prop} {ci Mc Ms : Nat} {a : Array Value} (X : OgX p s m args meth c cc nL own E) (hnt : ∀ x ∈ c.exceptionTable.toList, False) (hC : OgCls ci) (hr : ox_Run p l e R s m args below meth c H locs cells slots mc ms (F0 m pc ls st) rest (og_Qv E emA (og_Gv E Γ Q) a) (og_XC E emA ci (og_Gx E Γ Xq)) E.A) (hS : va_S E.A s.heap H locs) (hE : OgExt Γ0 Γ) (hc : cells + mc ≤ Mc) (hs : slots + ms ≤ Ms)
    (kk : ∀ (Γ1 : OgG) (σ1 : OgC) (H1 : Heap) (locs1 : List Loc), Q Γ1 σ1 → OgExt Γ Γ1 → OgWg E Γ1 → OgRep E (emC Γ1 σ1) H1 → va_S E.A s.heap H1 locs1 → W p l e R s m args below meth c H1 locs1 (cells + mc) (slots + ms) (ox_MQ below Qc (og_XC E emA ci (og_Gx E Γ0 Xq)) args s Mc Ms E.A) (F0 m (pc + 3) ls rest)) : W p l e R s m args below meth c H locs cells slots (ox_MQ below Qc (og_XC E emA ci (og_Gx E Γ0 Xq)) args s Mc Ms E.A) (F0 m pc ls st) :=
  ox_callv hr hS (fun _ _ h => h) (fun _ h => h) (fun _ _ h => h) (fun En ce q9 u t H1 locs1 ht _ hpx hB _ _ hS1 _ _ _ => by
    obtain ⟨h1, h2, h3⟩ := hpx
    subst h1
    exact og_outA (Γ1 := u.2.1) (σ1 := u.2.2) X hnt (by rw [← ht]; exact hB.2) hS1 hC h3 h2.1 (hE.trans h2.2.1) h2.2.2 hc hs) (fun u t H1 locs1 ht _ hq hB _ _ hS1 => kk u.1 u.2 H1 locs1 hq.1 hq.2.1 hq.2.2 (by rw [← ht]; exact hB) hS1)
theorem og_callr {S SX : Type} {post : S → Prop} {px : Addr → SX → Prop} {B : S → Nat → State → Prop} {BX : String → SX → State → Prop} {AX A0 A1 : Nat → Prop} {free : Addr → Prop} {a : Array Value} (hr : ox_Run p l e R s m args below meth c H locs cells slots mc ms (F0 m pc ls st) rest (va_Qr post B A1 a) (ox_X px BX AX) free) (hS : va_S A0 H0 H locs) (hA : ∀ q, q < H.size → A1 q → A0 q) (hf : ∀ q, free q → A0 q) (hAX : ∀ q, q < H.size → AX q → A0 q)
    (kx : ∀ (En : String) (ce : Cell) (q9 : Addr) (u : SX) (t : State) (H1 : Heap) (locs1 : List Loc), t.heap = H1 → px q9 u → BX En u t → va_S A0 H0 H1 locs1 → ox_W p l e R s m args below meth c H1 locs1 (cells + mc) (slots + ms) Qf (F0 m pc ls rest) q9)
    (kk : ∀ (u : S) (ra : Nat) (t : State) (H1 : Heap) (locs1 : List Loc), t.heap = H1 → post u → B u ra t → va_S A0 H0 H1 locs1 → W p l e R s m args below meth c H1 locs1 (cells + mc) (slots + ms) Qf (F0 m (pc + 3) ls (.ref ra :: rest))) : W p l e R s m args below meth c H locs cells slots Qf (F0 m pc ls st) := by
  intro T hT X
  rcases hr T hT X with ⟨v, st₀, t, T', L, h0, X', hL, e1, e2, ⟨⟨u, ra, hv, hp, hb⟩, hF⟩, st⟩ | ⟨q, st₀, t, T', L, E, ce, h0, X', hL, e1, e2, ⟨u, hp, hb, hF⟩, hce, hcv, hcl, st⟩
  · cases hv
    obtain ⟨k1, k2, k3⟩ := ox_keep h0 e1 hS hA hf hL hF
    obtain ⟨t2, a1, b1⟩ := kk u ra t T'.heap (locs ++ L) e1.symm hp hb k3 T' rfl X'
    exact ⟨t2, st t2 a1, b1⟩
  · obtain ⟨k1, k2, k3⟩ := ox_keep h0 e1 hS hAX hf hL hF
    obtain ⟨t2, a1, b1⟩ := kx E ce q u t T'.heap (locs ++ L) e1.symm hp hb k3 T' rfl X'
    exact ⟨t2, st.trans a1, b1⟩
theorem og_aftAXr {Qc : Array Value → State → Outcome → State → Prop} {Γ0 : OgG} {Q : Nat → OgG → OgC → Prop} {Xq : Nat → OgG → OgC → Prop} {ci Mc Ms : Nat} {a : Array Value} (X : OgX p s m args meth c cc nL own E) (hnt : ∀ x ∈ c.exceptionTable.toList, False) (hC : OgCls ci) (hr : ox_Run p l e R s m args below meth c H locs cells slots mc ms (F0 m pc ls st) rest (og_Qr E emA (og_Gx E Γ Q) a) (og_XC E emA ci (og_Gx E Γ Xq)) E.A) (hS : va_S E.A s.heap H locs) (hE : OgExt Γ0 Γ) (hc : cells + mc ≤ Mc) (hs : slots + ms ≤ Ms)
    (kk : ∀ (r : Nat) (Γ1 : OgG) (σ1 : OgC) (H1 : Heap) (locs1 : List Loc), Q r Γ1 σ1 → OgExt Γ Γ1 → OgWg E Γ1 → OgRep E (emC Γ1 σ1) H1 → va_S E.A s.heap H1 locs1 → W p l e R s m args below meth c H1 locs1 (cells + mc) (slots + ms) (ox_MQ below Qc (og_XC E emA ci (og_Gx E Γ0 Xq)) args s Mc Ms E.A) (F0 m (pc + 3) ls (.ref (E.b + r) :: rest))) : W p l e R s m args below meth c H locs cells slots (ox_MQ below Qc (og_XC E emA ci (og_Gx E Γ0 Xq)) args s Mc Ms E.A) (F0 m pc ls st) :=
  og_callr hr hS (fun _ _ h => h) (fun _ h => h) (fun _ _ h => h) (fun En ce q9 u t H1 locs1 ht hpx hB hS1 => by
    obtain ⟨h1, h2, h3⟩ := hpx
    subst h1
    exact og_outA (Γ1 := u.2.1) (σ1 := u.2.2) X hnt (by rw [← ht]; exact hB.2) hS1 hC h3 h2.1 (hE.trans h2.2.1) h2.2.2 hc hs) (fun u ra t H1 locs1 ht hq hB hS1 => by
    obtain ⟨h1, h2⟩ := hB
    subst h1
    exact kk u.1 u.2.1 u.2.2 H1 locs1 hq.1 hq.2.1 hq.2.2 (by rw [← ht]; exact h2) hS1)
/-- a thrown Fault is caught -/
theorem og_aftAHv {hh : List (Nat × Nat × Nat × Nat)} {Q : OgG → OgC → Prop} {Xq : Nat → OgG → OgC → Prop} {ci hpc : Nat} {a : Array Value} (X : OgX p s m args meth c cc nL own E) (htab : c.exceptionTable.toList = tableOf hh) (hC : OgCls ci) (hr : ox_Run p l e R s m args below meth c H locs cells slots mc ms (F0 m pc ls st) rest (og_Qv E emA (og_Gv E Γ Q) a) (og_XC E emA ci (og_Gx E Γ Xq)) E.A) (hS : va_S E.A s.heap H locs) (hk : OgCatch own hh pc hpc ci)
    (kx : ∀ (a : Nat) (Γ1 : OgG) (σ1 : OgC) (H1 : Heap) (locs1 : List Loc), Xq a Γ1 σ1 → (Γ1.G a).1 = ci + 1 → OgExt Γ Γ1 → OgWg E Γ1 → OgRep E (emC Γ1 σ1) H1 → va_S E.A s.heap H1 locs1 → W p l e R s m args below meth c H1 locs1 (cells + mc) (slots + ms) Qf (F0 m hpc ls [.ref (E.b + a)]))
    (kk : ∀ (Γ1 : OgG) (σ1 : OgC) (H1 : Heap) (locs1 : List Loc), Q Γ1 σ1 → OgExt Γ Γ1 → OgWg E Γ1 → OgRep E (emC Γ1 σ1) H1 → va_S E.A s.heap H1 locs1 → W p l e R s m args below meth c H1 locs1 (cells + mc) (slots + ms) Qf (F0 m (pc + 3) ls rest)) : W p l e R s m args below meth c H locs cells slots Qf (F0 m pc ls st) :=
  ox_callv hr hS (fun _ _ h => h) (fun _ h => h) (fun _ _ h => h) (fun En ce q9 u t H1 locs1 ht _ hpx hB _ _ hS1 _ _ _ => by
    obtain ⟨h1, h2, h3⟩ := hpx
    subst h1
    have hR1 : OgRep E (emC u.2.1 u.2.2) H1 := by rw [← ht]; exact hB.2
    exact og_catch (em := emA) (σ := u.2) X htab hR1 hC h3 hk (kx u.1 u.2.1 u.2.2 H1 locs1 h2.1 h3 h2.2.1 h2.2.2 hR1 hS1)) (fun u t H1 locs1 ht _ hq hB _ _ hS1 => kk u.1 u.2 H1 locs1 hq.1 hq.2.1 hq.2.2 (by rw [← ht]; exact hB) hS1)
end AftA
/-! ===== constructors: final fields; strings; throwables ===== -/
def og_bs (i : Nat) : List Int32 := match og_strs[i]? with
  | some e => e.2.2.2
  | none => []
section AllocC
variable {p : Program} {l : Launch} {e : Env} {R : Room} {s : State} {m : MethodId} {args : Array Value} {below : List Frame} {meth : Method} {c : Code} {H : Heap} {locs : List Loc} {cells slots : Nat} {Q : State → Prop}
variable {cc : ByteArray} {pc : Nat} {ls : Array Slot} {rest : List Value} {nL : Nat} {own : String} {E : OgE} {S : OgM} {H0 : Heap} {τ : Type} {em : τ → OgM} {σ : τ}
theorem og_putF (X : OgX p s m args meth c cc nL own E) (hin2 : meth.name = "<init>") (hR : OgRep E S H) (hS0 : va_S E.A H0 H locs) {index ci k a : Nat} (hC : OgCls ci) (hk : k < og_N ci) (hlink : Cond.fieldLink own index (og_T ci k).1 (og_T ci k).2.1 (og_T ci k).2.2.1 ∈ lw_all) (hfin : (og_T ci k).2.2.2 = true) (hdecl : (og_T ci k).1 = own) (hG : (S.G a).1 = ci + 1) {v : Value} {S1 : OgM} (hn : narrow (og_ty ci k) v = v) (hfit : fits (og_ty ci k) v = true)
    (h1 : S1.G = S.G) (h2 : S1.top = S.top) (ho : ∀ x, x ≠ a → ∀ j ty, og_fv E.b S1 x j ty = og_fv E.b S x j ty) (hw : ∀ j, j < og_N ci → og_fv E.b S1 a j (og_ty ci j) = if j = k then v else og_fv E.b S a j (og_ty ci j)) (hd : decode cc pc = .ok (.putfield index, 3))
    (kk : ∀ (H1 : Heap) (locs1 : List Loc), OgRep E S1 H1 → va_S E.A H0 H1 locs1 → W p l e R s m args below meth c H1 locs1 cells slots Q (F0 m (pc + 3) ls rest)) : W p l e R s m args below meth c H locs cells slots Q (F0 m pc ls (v :: .ref (E.b + a) :: rest)) := by
  obtain ⟨⟨hx, hb, hml, hown, hts⟩, hK, hN, hlk, hO⟩ := X
  have hap := og_apart hts hK hC
  obtain ⟨hc, hin, hty, hnm, hlt⟩ := hC
  obtain ⟨cell, q1, q2, q3, q4⟩ := hR.obj hG hlt
  obtain ⟨hS, hfc, kC, hkC, hkind⟩ := hK.1 ci _ hc
  obtain ⟨cf, kf, fi, f, hi, hsl⟩ := hS k hk
  dsimp only at hsl hfc hi
  have hlay := hts _ (hin _ (u_in_lay hk))
  unfold u_lay at hlay
  rw [if_pos hfin] at hlay
  have hst := (u_facts hfc hkC (u_lays hts hin hk) hi).1
  have hcf : m.cls = cf := by
    obtain ⟨_, _, c', _, _, _, -, -, hf', -, -, -, hown2, -⟩ := Cond.laysFinal_spec hlay
    have e1 : c' = cf := by have := hi.symm.trans hf'; simp at this; exact this.1.symm
    rw [hdecl] at hown2
    rw [← e1]; exact Option.some.inj (hown.symm.trans hown2)
  have h6 := u_fits hfc hkC hkind (Or.inr hlay) hi (hty k hk) hn hfit
  have hA : E.A (E.b + a) := (hR.1 a (by omega)).2
  refine W.putFinK hx hb hown (hts _ hlink) hi hst hcf hin2 (by rw [q2]; exact h6) q1 q3 (by rw [hsl]; exact k2_hasslot (q4 k hk)) rfl rfl hd fun H' e1 e2 e3 => ?_
  rw [hsl] at e1 ⊢
  refine kk H' _ (hR.upd h1 h2 ho ?_ e2 e3) (hS0.put e2 e3 hA)
  unfold og_ok
  rw [h1, if_pos (by omega), hG, Nat.add_sub_cancel]
  refine ⟨_, e1, q2, q3, fun j hj => ?_⟩
  have h7 := t_set q4 hap hk v j hj
  rw [h7]
  show _ = some (og_fv E.b S1 a j (og_ty ci j))
  rw [hw j hj]
  rfl
/-- what the pool says of a final field of the own class -/
def OgFin (own : String) (index ci k : Nat) : Prop := k < og_N ci ∧ Cond.fieldLink own index (og_T ci k).1 (og_T ci k).2.1 (og_T ci k).2.2.1 ∈ lw_all ∧ (og_T ci k).2.2.2 = true ∧ (og_T ci k).1 = own
theorem og_putFi (X : OgX p s m args meth c cc nL own E) (hin2 : meth.name = "<init>") (hR : OgRep E (em σ) H) (hS0 : va_S E.A H0 H locs) {index ci k a : Nat} (up : τ) {x : Int32} (hC : OgCls ci) (hF : OgFin own index ci k) (hG : ((em σ).G a).1 = ci + 1) (hty : og_isI (og_ty ci k) = true) (hn : narrow (og_ty ci k) (.int x) = .int x) (hf : fits (og_ty ci k) (.int x) = true) (hup : em up = (em σ).sI a k x) (hd : decode cc pc = .ok (.putfield index, 3))
    (kk : ∀ (σ1 : τ) (H1 : Heap) (locs1 : List Loc), σ1 = up → OgRep E (em σ1) H1 → va_S E.A H0 H1 locs1 → W p l e R s m args below meth c H1 locs1 cells slots Q (F0 m (pc + 3) ls rest)) : W p l e R s m args below meth c H locs cells slots Q (F0 m pc ls (.int x :: .ref (E.b + a) :: rest)) := by
  refine og_putF X hin2 hR hS0 hC hF.1 hF.2.1 hF.2.2.1 hF.2.2.2 hG (S1 := (em σ).sI a k x) hn hf rfl rfl (fun y hy j ty => og_fvI hy) (fun j _ => og_fv_sI fun q => by rw [q]; exact hty) hd fun H1 locs1 h1 h2 => ?_
  rw [← hup] at h1
  exact kk up H1 locs1 rfl h1 h2
theorem og_putFr (X : OgX p s m args meth c cc nL own E) (hin2 : meth.name = "<init>") (hR : OgRep E (em σ) H) (hS0 : va_S E.A H0 H locs) {index ci k a : Nat} (up : τ) (o : Option Nat) (hC : OgCls ci) (hF : OgFin own index ci k) (hG : ((em σ).G a).1 = ci + 1) (hty : og_isR (og_ty ci k) = true) (hup : em up = (em σ).sR a k o) (hd : decode cc pc = .ok (.putfield index, 3))
    (kk : ∀ (σ1 : τ) (H1 : Heap) (locs1 : List Loc), σ1 = up → OgRep E (em σ1) H1 → va_S E.A H0 H1 locs1 → W p l e R s m args below meth c H1 locs1 cells slots Q (F0 m (pc + 3) ls rest)) : W p l e R s m args below meth c H locs cells slots Q (F0 m pc ls (og_rv E.b o :: .ref (E.b + a) :: rest)) := by
  refine og_putF X hin2 hR hS0 hC hF.1 hF.2.1 hF.2.2.1 hF.2.2.2 hG (S1 := (em σ).sR a k o) (by cases ht : og_ty ci k <;> rw [ht] at hty <;> cases hty <;> cases o <;> rfl) (by cases ht : og_ty ci k <;> rw [ht] at hty <;> cases hty <;> cases o <;> rfl) rfl rfl (fun y hy j ty => og_fvR hy) (fun j _ => og_fv_sR fun q => by rw [q]; exact hty) hd fun H1 locs1 h1 h2 => ?_
  rw [← hup] at h1
  exact kk up H1 locs1 rfl h1 h2
/-- a reference field that isn't final -/
theorem og_putS (X : OgX p s m args meth c cc nL own E) (hR : OgRep E (em σ) H) (hS0 : va_S E.A H0 H locs) {index ci k a b : Nat} (up : τ) (hC : OgCls ci) (hF : OgFld own index ci k) (hfin : (og_T ci k).2.2.2 = false) (hG : ((em σ).G a).1 = ci + 1) (hty : og_isR (og_ty ci k) = true) (hup : em up = (em σ).sR a k (some b)) (hd : decode cc pc = .ok (.putfield index, 3))
    (kk : ∀ (σ1 : τ) (H1 : Heap) (locs1 : List Loc), σ1 = up → OgRep E (em σ1) H1 → va_S E.A H0 H1 locs1 → W p l e R s m args below meth c H1 locs1 cells slots Q (F0 m (pc + 3) ls rest)) : W p l e R s m args below meth c H locs cells slots Q (F0 m pc ls (.ref (E.b + b) :: .ref (E.b + a) :: rest)) :=
  og_putr X hR hS0 up (some b) hC hF hfin hG hty hup hd kk
theorem og_putFS (X : OgX p s m args meth c cc nL own E) (hin2 : meth.name = "<init>") (hR : OgRep E (em σ) H) (hS0 : va_S E.A H0 H locs) {index ci k a b : Nat} (up : τ) (hC : OgCls ci) (hF : OgFin own index ci k) (hG : ((em σ).G a).1 = ci + 1) (hty : og_isR (og_ty ci k) = true) (hup : em up = (em σ).sR a k (some b)) (hd : decode cc pc = .ok (.putfield index, 3))
    (kk : ∀ (σ1 : τ) (H1 : Heap) (locs1 : List Loc), σ1 = up → OgRep E (em σ1) H1 → va_S E.A H0 H1 locs1 → W p l e R s m args below meth c H1 locs1 cells slots Q (F0 m (pc + 3) ls rest)) : W p l e R s m args below meth c H locs cells slots Q (F0 m pc ls (.ref (E.b + b) :: .ref (E.b + a) :: rest)) :=
  og_putFr X hin2 hR hS0 up (some b) hC hF hG hty hup hd kk
theorem og_objI (X : OgX p s m args meth c cc nL own E) {idx a : Nat} (hlink : Cond.methodLink own idx objectInit ∈ lw_all) (hinst : Cond.instanceMethod objectInit ∈ lw_all) (hcode : Cond.code objectInit ⟨#[0xb1]⟩ 1 none ∈ lw_all) (hsz : ls.size = nL) (hframes : 1 ≤ R.frames) (hlocals : (rest.map fun v => v.category).sum + 12 ≤ R.locals) (hd : decode cc pc = .ok (.invokespecial idx, 3))
    (kk : W p l e R s m args below meth c H locs cells slots Q (F0 m (pc + 3) ls rest)) : W p l e R s m args below meth c H locs cells slots Q (F0 m pc ls (.ref a :: rest)) := by
  obtain ⟨⟨hx, hb, hml, hown, hts⟩, hK, hN, hlk, hO⟩ := X
  refine W.objInit hx hb hown (hts _ hlink) (hts _ hinst) (hts _ hcode) (g := F0 m pc ls (.ref a :: rest)) rfl (by rw [hml]; exact hsz) rfl hd hframes (by show 2 * 0 + _ + 12 ≤ _; omega) ?_
  exact kk
/-- texts -/
theorem og_ldcS (X : OgX p s m args meth c cc nL own E) {i index : Nat} {tx : String} {bs : List Int32} (he : og_strs[i]? = some (own, index, tx, bs)) (hd : decode cc pc = .ok (.ldc index, 2))
    (k : W p l e R s m args below meth c H locs cells slots Q (F0 m (pc + 2) ls (.ref (E.q i) :: rest))) : W p l e R s m args below meth c H locs cells slots Q (F0 m pc ls rest) :=
  va_ldcS X.1.1 X.1.2.1 X.1.2.2.2.1 (X.2.2.2.2.2.2 i _ he).1 hd k
theorem og_strO (hO : OgO E s s.heap) {i : Nat} (hi : i < 46) : og_str E.A (E.q i) (E.v i) (og_bs i) s s.heap := by
  have h : ∃ e, og_strs[i]? = some e := ⟨og_strs[i], List.getElem?_eq_getElem hi⟩
  obtain ⟨e, he⟩ := h
  have := (hO.2.2 i e he).2
  unfold og_bs
  rw [he]
  exact this
theorem og_sval (X : OgX p s m args meth c cc nL own E) (hS : va_S E.A s.heap H locs) {i index : Nat} (hi : i < 46) (hl : Cond.fieldLink own index "java/lang/String" "value" "[B" ∈ lw_all) (hd : decode cc pc = .ok (.getfield index, 3))
    (k : W p l e R s m args below meth c H locs cells slots Q (F0 m (pc + 3) ls (.ref (E.v i) :: rest))) : W p l e R s m args below meth c H locs cells slots Q (F0 m pc ls (.ref (E.q i) :: rest)) :=
  vk_getf X.1.1 X.1.2.1 (og_strO X.2.2.2.2 hi).2.2.1 hS X.1.2.2.2.1 (X.1.2.2.2.2 _ hl) (fun _ h => h) hd k
theorem og_scod (X : OgX p s m args meth c cc nL own E) (hS : va_S E.A s.heap H locs) {i index : Nat} (hi : i < 46) (hl : Cond.fieldLink own index "java/lang/String" "coder" "B" ∈ lw_all) (hd : decode cc pc = .ok (.getfield index, 3))
    (k : W p l e R s m args below meth c H locs cells slots Q (F0 m (pc + 3) ls (.int 0 :: rest))) : W p l e R s m args below meth c H locs cells slots Q (F0 m pc ls (.ref (E.q i) :: rest)) :=
  vk_getf X.1.1 X.1.2.1 (og_strO X.2.2.2.2 hi).2.1 hS X.1.2.2.2.1 (X.1.2.2.2.2 _ hl) (fun _ h => h) hd k
theorem og_slen (X : OgX p s m args meth c cc nL own E) (hS : va_S E.A s.heap H locs) {i : Nat} (hi : i < 46) (hd : decode cc pc = .ok (.arraylength, 1))
    (k : W p l e R s m args below meth c H locs cells slots Q (F0 m (pc + 1) ls (.int (Int32.ofNat (og_bs i).length) :: rest))) : W p l e R s m args below meth c H locs cells slots Q (F0 m pc ls (.ref (E.v i) :: rest)) :=
  va_tlen X.1.1 X.1.2.1 (og_strO X.2.2.2.2 hi).2.2.2 hS rfl hd k
theorem og_sbld (X : OgX p s m args meth c cc nL own E) (hS : va_S E.A s.heap H locs) {i : Nat} (hi : i < 46) {j : Int32} (hin : vp_in j (og_bs i).length) (hd : decode cc pc = .ok (.baload, 1))
    (k : W p l e R s m args below meth c H locs cells slots Q (F0 m (pc + 1) ls (.int ((og_bs i).getD j.toNatClampNeg 0) :: rest))) : W p l e R s m args below meth c H locs cells slots Q (F0 m pc ls (.int j :: .ref (E.v i) :: rest)) :=
  va_tb X.1.1 X.1.2.1 (og_strO X.2.2.2.2 hi).2.2.2 hS hin rfl hd k
theorem og_scmp (X : OgX p s m args meth c cc nL own E) (hS : va_S E.A s.heap H locs) {index : Nat} (hl : Cond.fieldLink own index "java/lang/String" "COMPACT_STRINGS" "Z" ∈ lw_all) (hd : decode cc pc = .ok (.getstatic index, 3))
    (k : W p l e R s m args below meth c H locs cells slots Q (F0 m (pc + 3) ls (.int 1 :: rest))) : W p l e R s m args below meth c H locs cells slots Q (F0 m pc ls rest) :=
  va_gets X.1.1 X.1.2.1 X.2.2.2.2.2.1.1 hS X.1.2.2.2.1 (X.1.2.2.2.2 _ hl) (fun _ h => h) hd k
theorem og_sio (X : OgX p s m args meth c cc nL own E) (hS : va_S E.A s.heap H locs) {index : Nat} (hl : Cond.fieldLink own index "jdk/internal/util/Preconditions" "SIOOBE_FORMATTER" "Ljava/util/function/BiFunction;" ∈ lw_all) (hd : decode cc pc = .ok (.getstatic index, 3))
    (k1 : W p l e R s m args below meth c H locs cells slots Q (F0 m (pc + 3) ls (.null :: rest))) (k2 : ∀ t : Nat, W p l e R s m args below meth c H locs cells slots Q (F0 m (pc + 3) ls (.ref t :: rest))) : W p l e R s m args below meth c H locs cells slots Q (F0 m pc ls rest) := by
  rcases X.2.2.2.2.2.1.2.1 with h | ⟨t, h⟩
  · exact va_gets X.1.1 X.1.2.1 h hS X.1.2.2.2.1 (X.1.2.2.2.2 _ hl) (fun _ h => h) hd k1
  · exact va_gets X.1.1 X.1.2.1 h hS X.1.2.2.2.1 (X.1.2.2.2.2 _ hl) (fun _ h => h) hd (k2 t)
theorem og_srecv (X : OgX p s m args meth c cc nL own E) (hS : va_S E.A s.heap H locs) {i : Nat} (hi : i < 46) : ∃ cell : Cell, H[E.q i]? = some cell ∧ cell.vm.isStatics = false ∧ s.vm.findClass "java/lang/String" = some cell.cls := by
  obtain ⟨cell, h1, h2, h3, -⟩ := (og_strO X.2.2.2.2 hi).1.kept hS.2.1
  exact ⟨cell, h1, h2, h3⟩
/-- a call of a method of String on a text -/
theorem og_runT {y : MethodName} {bytes : ByteArray} {maxL index n : Nat} {rm : Room} {ret : Option FieldType} {st As : List Value} {Qc : Array Value → State → Outcome → State → Prop} {free : Addr → Prop} (X : OgX p s m args meth c cc nL own E) (hR : OgRep E S H) (hS : va_S E.A s.heap H locs) {i : Nat} (hi : i < 46) (hM : Met l y (ws_ y bytes maxL ret) rm (og_Pre E S (.ref (E.q i) :: As)) Qc 0 0 free) (hL : GoodIn lw_all (wsV own index "java/lang/String" y (ws_ y bytes maxL ret))) (hyc : y.cls = "java/lang/String") (hy : OgY y n) (hn : As.length = n)
    (hrm : rm.cells = 0 ∧ rm.slots = 0 ∧ rm.frames + 1 ≤ R.frames ∧ 8 + (maxL + 11) + rm.locals ≤ R.locals ∧ cells ≤ R.cells ∧ slots ≤ R.slots) (hst : st = As.reverse ++ .ref (E.q i) :: rest) (hsz : ls.size = nL) (hroom : (rest.map fun v => v.category).sum ≤ 8) (hd : decode cc pc = .ok (.invokevirtual index, 3)) :
    va_Run p l e R s m args below meth c H locs cells slots 0 0 (F0 m pc ls st) rest (Qc (Value.ref (E.q i) :: As).toArray) free :=
  va_runV X.1 hM (cwV n X.1.2.2.2.2 hL rfl hrm.1 hrm.2.1 ⟨hyc, hy⟩ ⟨hrm.2.2.1, hrm.2.2.2.1⟩) ⟨(og_pre X hR hS (.ref (E.q i) :: As)).1, og_srecv X hS hi, (og_pre X hR hS (.ref (E.q i) :: As)).2⟩ rfl hn hsz hst (lv_room hroom) hd ⟨hrm.2.2.2.2.1, hrm.2.2.2.2.2⟩
theorem og_iretn {Qr : Int32 → τ → Prop} {v : Int32} {ty : FieldType} (X : OgX p s m args meth c cc nL own E) (hr : meth.sig.returnType = some ty) (hR : OgRep E (em σ) H) (hS : va_S E.A s.heap H locs) (hq : narrow ty (.int v) = .int v ∧ Qr v σ) (hd : decode cc pc = .ok (.ireturn, 1)) : W p l e R s m args below meth c H locs cells slots (MQ below (og_Qi E em Qr) args s cells slots E.A) (F0 m pc ls [.int v]) :=
  W.zret X.1.1 X.1.2.1 hr hq.1 (fun t ht _ => ⟨⟨v, σ, rfl, hq.2, by show OgRep E (em σ) t.heap; rw [ht]; exact hR⟩, hS.F ht⟩) hS.2.2 hd X.2.2.2.1
/-- an object whose fields hold what isn't of this memory, for a while -/
def og_hole (E : OgE) (S : OgM) (a ci : Nat) (V : Nat → Value) (H : Heap) : Prop := (∀ x, x ≠ a → (S.G x).1 ≠ 0 → og_ok E S x H ∧ E.A (E.b + x)) ∧ t_OB (E.b + a) (E.D.1 ci) (og_N ci) (E.D.2 ci) H V ∧ (S.G a).1 = ci + 1 ∧ E.A (E.b + a) ∧ H.size = E.b + S.top ∧ ∀ a, S.top ≤ a → (S.G a).1 = 0
theorem og_open (hR : OgRep E S H) {a ci : Nat} (hC : OgCls ci) (hG : (S.G a).1 = ci + 1) : og_hole E S a ci (fun k => og_fv E.b S a k (og_ty ci k)) H :=
  ⟨fun x _ hx => hR.1 x hx, hR.obj hG hC.2.2.2.2, hG, (hR.1 a (by omega)).2, hR.2.1, hR.2.2⟩
theorem og_close {a ci : Nat} {V : Nat → Value} (h : og_hole E S a ci V H) (hC : OgCls ci) (hV : ∀ k, k < og_N ci → V k = og_fv E.b S a k (og_ty ci k)) : OgRep E S H := by
  obtain ⟨h1, h2, h3, h4, h5, h6⟩ := h
  refine ⟨fun x hx => ?_, h5, h6⟩
  by_cases q : x = a
  · subst q
    refine ⟨?_, h4⟩
    unfold og_ok
    rw [if_pos (by have := hC.2.2.2.2; omega), h3, Nat.add_sub_cancel]
    exact t_OB.to h2 hV
  · exact h1 x q hx
theorem og_putH (X : OgX p s m args meth c cc nL own E) {a ci : Nat} {V : Nat → Value} (hH : og_hole E S a ci V H) (hS0 : va_S E.A H0 H locs) {index k : Nat} (hC : OgCls ci) (hF : OgFld own index ci k) (hfin : (og_T ci k).2.2.2 = false) {v : Value} (hn : narrow (og_ty ci k) v = v) (hfit : fits (og_ty ci k) v = true) (hd : decode cc pc = .ok (.putfield index, 3))
    (kk : ∀ (H1 : Heap) (locs1 : List Loc), og_hole E S a ci (fun j => if j = k then v else V j) H1 → va_S E.A H0 H1 locs1 → W p l e R s m args below meth c H1 locs1 cells slots Q (F0 m (pc + 3) ls rest)) : W p l e R s m args below meth c H locs cells slots Q (F0 m pc ls (v :: .ref (E.b + a) :: rest)) := by
  obtain ⟨⟨hx, hb, hml, hown, hts⟩, hK, hN, hlk, hO⟩ := X
  have hap := og_apart hts hK hC
  obtain ⟨hc, hin, hty, hnm, hlt⟩ := hC
  obtain ⟨hk, hlink⟩ := hF
  obtain ⟨g1, ⟨cell, q1, q2, q3, q4⟩, g3, g4, g5, g6⟩ := hH
  obtain ⟨hS, hfc, kC, hkC, hkind⟩ := hK.1 ci _ hc
  obtain ⟨cf, kf, fi, f, hi, hsl⟩ := hS k hk
  dsimp only at hsl hfc hi
  have hlay := hts _ (hin _ (u_in_lay hk))
  unfold u_lay at hlay
  rw [if_neg (by rw [hfin]; decide)] at hlay
  have hst := (u_facts hfc hkC (u_lays hts hin hk) hi).1
  have h6 := u_store hfc hkC hkind hlay hi (hty k hk) hn hfit
  suffices hgo : ∀ H' : Heap, H'[E.b + a]? = some (cell.setSlot f.slot v) → H'.size = H.size → (∀ q, q ≠ E.b + a → H'[q]? = H[q]?) → W p l e R s m args below meth c H' (locs ++ [⟨E.b + a, f.slot⟩]) cells slots Q (F0 m (pc + 3) ls rest) by
    rcases hlink with hlink | hlink
    · exact W.putK hx hb (f := f) ⟨hown, hts _ hlink, ⟨_, _, _, hi⟩, hst⟩ (by rw [q2]; exact h6) q1 q3 (by rw [hsl]; exact k2_hasslot (q4 k hk)) rfl rfl hd hgo
    · exact va_WputK hx hb (f := f) hown (va_Nw.use rfl (hN _ hlink)) hi hst (by rw [q2]; exact h6) q1 q3 (by rw [hsl]; exact k2_hasslot (q4 k hk)) rfl rfl hd hgo
  intro H' e1 e2 e3
  rw [hsl] at e1 ⊢
  refine kk H' _ ⟨fun x hxa hx => ?_, ⟨_, e1, q2, q3, fun j hj => ?_⟩, g3, g4, by rw [e2]; exact g5, g6⟩ (hS0.put e2 e3 g4)
  · obtain ⟨b1, b2⟩ := g1 x hxa hx
    refine ⟨?_, b2⟩
    have hq := e3 (E.b + x) (fun e => hxa (Nat.add_left_cancel e))
    unfold og_ok at b1 ⊢
    by_cases hl : (S.G x).1 < 100
    · rw [if_pos hl] at b1 ⊢
      exact b1.same hq (fun _ _ => rfl)
    · rw [if_neg hl] at b1 ⊢
      exact b1.same hq (fun _ _ => rfl)
  · rw [t_set q4 hap hk v j hj]
    rfl
end AllocC
/-- a contract of a constructor -/
theorem og_metI {l : Launch} {E : OgE} {S : OgM} {y : MethodName} {cc : ByteArray} {maxL : Nat} {ret : Option FieldType} {rm : Room} {As : List Value} {Qc : Array Value → State → Outcome → State → Prop} {mc ms : Nat} {lv : List (Nat × Value)} (own : String) (ho : y.cls = own) (hi : y.name = "<init>") (hy : plainName y.cls = true) (hlen : (lg_sl As).length ≤ maxL) (hlv : lv_args 0 As = lv)
    (body : ∀ (p : Program) (e : Env) (s : State) (m : MethodId) (below : List Frame) (meth : Method) (c : Code) (ls : Array Slot), OgX p s m As.toArray meth c cc maxL own E → meth.name = "<init>" → meth.sig.returnType = ret → OgRep E S s.heap → va_S E.A s.heap s.heap [] → lv_has ls maxL lv →
      W p l e rm s m As.toArray below meth c s.heap [] 0 0 (MQ below Qc As.toArray s mc ms E.A) (F0 m 0 ls [])) : Met l y (ws_ y cc maxL ret) rm (og_Pre E S As) Qc mc ms E.A := by
  refine Met.ofW (cc := cc) (maxL := maxL) (ret := ret) hy rfl ?_
  intro p e s m args below meth c s₁ B hml hv
  obtain ⟨rfl, hR, hK, hN, hO⟩ := hv
  have hts := atoms_spec (ws := ws_ y cc maxL ret) B.pre
  have hts : ∀ w ∈ lw_all, w.before _ s = true := fun w h => hts w (List.mem_cons_of_mem _ h)
  have hown : s.vm.findClass own = some m.cls := ho ▸ findClass_of_methodNamed B.named
  have hl := lv_entry As (n := maxL) hlen
  rw [hlv] at hl
  rw [lg_entry_eq]
  exact body p e s m below meth c _ ⟨⟨B.exec, B.bytes, hml, hown, hts⟩, hK, hN, B.notSynchronized, hO⟩ ((name_of_methodNamed B.named B.method).1.trans hi) B.returns hR va_S.rf hl
/-! ===== lists: arrays of Objects ===== -/
theorem og_cAll : ∀ ci, ci < 19 → OgCls ci := by
  intro ci h
  match ci, h with
  | 0, _ => exact og_c0
  | 1, _ => exact og_c1
  | 2, _ => exact og_c2
  | 3, _ => exact og_c3
  | 4, _ => exact og_c4
  | 5, _ => exact og_c5
  | 6, _ => exact og_c6
  | 7, _ => exact og_c7
  | 8, _ => exact og_c8
  | 9, _ => exact og_c9
  | 10, _ => exact og_c10
  | 11, _ => exact og_c11
  | 12, _ => exact og_c12
  | 13, _ => exact og_c13
  | 14, _ => exact og_c14
  | 15, _ => exact og_c15
  | 16, _ => exact og_c16
  | 17, _ => exact og_c17
  | 18, _ => exact og_c18
  | n + 19, h => exact absurd h (by omega)
theorem og_cO : ∀ ci, ci < 19 → Cond.castable (og_R ci) "java/lang/Object" ∈ og_nw := by
  intro ci h
  match ci, h with
  | 0, _ => exact og_inc 22 rfl
  | 1, _ => exact og_inc 4 rfl
  | 2, _ => exact og_inc 5 rfl
  | 3, _ => exact og_inc 17 rfl
  | 4, _ => exact og_inc 19 rfl
  | 5, _ => exact og_inc 21 rfl
  | 6, _ => exact og_inc 23 rfl
  | 7, _ => exact og_inc 25 rfl
  | 8, _ => exact og_inc 26 rfl
  | 9, _ => exact og_inc 6 rfl
  | 10, _ => exact og_inc 7 rfl
  | 11, _ => exact og_inc 8 rfl
  | 12, _ => exact og_inc 10 rfl
  | 13, _ => exact og_inc 12 rfl
  | 14, _ => exact og_inc 14 rfl
  | 15, _ => exact og_inc 15 rfl
  | 16, _ => exact og_inc 16 rfl
  | 17, _ => exact og_inc 18 rfl
  | 18, _ => exact og_inc 1 rfl
  | n + 19, h => exact absurd h (by omega)
/-- an object of ours -/
def OgOb (Γ : OgG) (v : Nat) : Prop := ∃ ci, ci < 19 ∧ Γ.G v = (ci + 1, 0)
theorem OgOb.ext {Γ Γ1 : OgG} {v : Nat} (h : OgOb Γ v) (hE : OgExt Γ Γ1) : OgOb Γ1 v := by
  obtain ⟨ci, h1, h2⟩ := h
  exact ⟨ci, h1, hE.g h2⟩
def og_cpR (f : Nat → Nat → Option Nat) (a sp d dp n : Nat) : Nat → Nat → Option Nat := fun x => if x = d then va_cpy (f a) (f x) sp dp n else f x
def OgM.cR (S : OgM) (a sp d dp n : Nat) : OgM := (S.I, S.L, og_cpR S.R a sp d dp n, S.G, S.top)
def OgC.cR (S : OgC) (a sp d dp n : Nat) : OgC := (S.I, S.L, og_cpR S.R a sp d dp n)
theorem og_emcR {Γ : OgG} {σ : OgC} {a sp d dp n n0 n1 : Nat} (g0 : Γ.G a = (106, n0)) (g1 : Γ.G d = (106, n1)) : emC Γ (σ.cR a sp d dp n) = (emC Γ σ).cR a sp d dp n := by
  show (σ.I, σ.L, _, Γ.G, Γ.top) = (σ.I, σ.L, _, Γ.G, Γ.top)
  congr 3
  funext x j
  have e0 : (fun k => og_cr (Γ.G a).1 a k (σ.R a k)) = σ.R a := by
    funext k
    rw [g0]
    rfl
  show og_cr (Γ.G x).1 x j (og_cpR σ.R a sp d dp n x j) = og_cpR (fun x k => og_cr (Γ.G x).1 x k (σ.R x k)) a sp d dp n x j
  by_cases hx : x = d
  · subst hx
    have e1 : (fun k => og_cr (Γ.G x).1 x k (σ.R x k)) = σ.R x := by
      funext k
      rw [g1]
      rfl
    unfold og_cpR
    rw [if_pos rfl, if_pos rfl]
    show _ = va_cpy (fun k => og_cr (Γ.G a).1 a k (σ.R a k)) (fun k => og_cr (Γ.G x).1 x k (σ.R x k)) sp dp n j
    rw [e0, e1, g1]
    rfl
  · unfold og_cpR
    rw [if_neg hx, if_neg hx]
section ListOg
variable {p : Program} {l : Launch} {e : Env} {R : Room} {s : State} {m : MethodId} {args : Array Value} {below : List Frame} {meth : Method} {c : Code} {H : Heap} {locs : List Loc} {cells slots : Nat} {Q : State → Prop}
variable {cc : ByteArray} {pc : Nat} {ls : Array Slot} {rest : List Value} {nL : Nat} {own : String} {E : OgE} {S : OgM} {H0 : Heap} {Γ : OgG} {σ : OgC}
theorem og_any (X : OgX p s m args meth c cc nL own E) (hR : OgRep E (emC Γ σ) H) {v : Nat} (h : OgOb Γ v) : va_Any "java/lang/Object" s H (E.b + v) := by
  obtain ⟨ci, h1, h2⟩ := h
  obtain ⟨cell, g1, g2, g3⟩ := og_recv X hR (og_cAll ci h1) (show ((emC Γ σ).G v).1 = ci + 1 from og_g1 h2)
  obtain ⟨c0, t0, f1, f2, f3⟩ := Cond.castable_spec (va_Nw.use (A := args) rfl (X.2.2.1 _ (og_cO ci h1)))
  obtain ⟨kC, hkC, -⟩ := Vm.findClass_spec g3
  refine ⟨cell, g1, g2, ⟨kC, hkC⟩, fun comp hc => ?_⟩
  cases g3.symm.trans f1
  cases hc.symm.trans f2
  exact f3
theorem og_aastO (X : OgX p s m args meth c cc nL own E) (hR : OgRep E (emC Γ σ) H) (hS0 : va_S E.A H0 H locs) {a n v : Nat} {i : Int32} (j : Nat) (hj : i.toNatClampNeg = j) (hG : Γ.G a = (106, n)) (hv : OgOb Γ v) (hin : vp_in i n) (hd : decode cc pc = .ok (.aastore, 1))
    (kk : ∀ (σ1 : OgC) (H1 : Heap) (locs1 : List Loc), σ1 = σ.sR a j (some v) → OgRep E (emC Γ σ1) H1 → va_S E.A H0 H1 locs1 → W p l e R s m args below meth c H1 locs1 cells slots Q (F0 m (pc + 1) ls rest)) : W p l e R s m args below meth c H locs cells slots Q (F0 m pc ls (.ref (E.b + v) :: .int i :: .ref (E.b + a) :: rest)) := by
  subst hj
  obtain ⟨cellV, g1, g2, ⟨kV, hkV⟩, hasg⟩ := og_any X hR hv
  obtain ⟨⟨hx, hb, hml, hown, hts⟩, hK, hN, hlk, hO⟩ := X
  have hlt : i.toNatClampNeg < n := Nat.not_le.mp fun q => hin (Or.inr q)
  have h0 : ¬ i < 0 := fun q => hin (Or.inl q)
  obtain ⟨kA, comp, k1, k2, k3, -⟩ := (hK.2 6 _ rfl).2
  obtain ⟨kE, hkE, -⟩ := Vm.findClass_spec k3
  have hG2 : (emC Γ σ).G a = (106, n) := hG
  refine W.aast hx hb (hR.arr (ak := 6) hG2) (fun q h => by cases h) (fun h => by cases h) k1 k2 rfl hkE ⟨h0, by rw [arrV_size]; exact hlt⟩ g1 (fun q h => by rw [h] at g2; cases g2) hkV (hasg _ k3) rfl rfl hd fun H1 e1 z oq => ?_
  obtain ⟨h1, h2⟩ := og_arrput (ak := 6) (S1 := (emC Γ σ).sR a i.toNatClampNeg (some v)) hR hS0 hG2 rfl rfl (fun y hy j ty => og_fvR hy) (fun j => og_fv_sR fun _ => rfl) e1 z oq
  rw [← og_emR hG (fun _ => rfl)] at h1
  exact kk _ H1 _ rfl h1 h2
theorem og_aastN (X : OgX p s m args meth c cc nL own E) (hR : OgRep E (emC Γ σ) H) (hS0 : va_S E.A H0 H locs) {a n : Nat} {i : Int32} (j : Nat) (hj : i.toNatClampNeg = j) (hG : Γ.G a = (106, n)) (hin : vp_in i n) (hd : decode cc pc = .ok (.aastore, 1))
    (kk : ∀ (σ1 : OgC) (H1 : Heap) (locs1 : List Loc), σ1 = σ.sR a j none → OgRep E (emC Γ σ1) H1 → va_S E.A H0 H1 locs1 → W p l e R s m args below meth c H1 locs1 cells slots Q (F0 m (pc + 1) ls rest)) : W p l e R s m args below meth c H locs cells slots Q (F0 m pc ls (.null :: .int i :: .ref (E.b + a) :: rest)) := by
  subst hj
  obtain ⟨⟨hx, hb, hml, hown, hts⟩, hK, hN, hlk, hO⟩ := X
  have hG2 : (emC Γ σ).G a = (106, n) := hG
  refine va_WaastN (C := "java/lang/Object") hx hb (hR.arr (ak := 6) hG2) ((hK.2 6 _ rfl).1 n _) (fun h => by cases h) (by rw [arrV_size]; exact hin) rfl rfl hd fun H1 e1 z oq => ?_
  obtain ⟨h1, h2⟩ := og_arrput (ak := 6) (S1 := (emC Γ σ).sR a i.toNatClampNeg none) hR hS0 hG2 rfl rfl (fun y hy j ty => og_fvR hy) (fun j => og_fv_sR fun _ => rfl) e1 z oq
  rw [← og_emR hG (fun _ => rfl)] at h1
  exact kk _ H1 _ rfl h1 h2
/-- System.arraycopy of arrays of Objects -/
theorem og_copyR (X : OgX p s m args meth c cc nL own E) (hR : OgRep E (emC Γ σ) H) (hS0 : va_S E.A H0 H locs) {index a d n0 n1 : Nat} {sp dp n : Int32} (spn dpn nn : Nat) (hsp : sp.toNatClampNeg = spn) (hdp : dp.toNatClampNeg = dpn) (hnn : n.toNatClampNeg = nn) (hG0 : Γ.G a = (106, n0)) (hG1 : Γ.G d = (106, n1))
    (hlink : Cond.methodLink own index arraycopyName ∈ lw_all) (hnat : Cond.native arraycopyName ∈ lw_all) (hstat : Cond.static arraycopyName ∈ lw_all) (hini : Cond.initialized "java/lang/System" ∈ lw_all)
    (h1 : ¬ sp < 0) (h2 : ¬ dp < 0) (h3 : ¬ n < 0) (h4 : spn + nn ≤ n0) (h5 : dpn + nn ≤ n1) (hel : ∀ i, i < nn → ∀ y, σ.R a (spn + i) = some y → OgOb Γ y) (hsz : ls.size = nL) (hframes : 1 ≤ R.frames) (hlocals : (rest.map fun v => v.category).sum + (nativeFrameWords "java/lang/System" "arraycopy" 5 + 11) ≤ R.locals) (hd : decode cc pc = .ok (.invokestatic index, 3))
    (kk : ∀ (σ1 : OgC) (H1 : Heap) (locs1 : List Loc), σ1 = σ.cR a spn d dpn nn → OgRep E (emC Γ σ1) H1 → va_S E.A H0 H1 locs1 → W p l e R s m args below meth c H1 locs1 cells slots Q (F0 m (pc + 3) ls rest)) : W p l e R s m args below meth c H locs cells slots Q (F0 m pc ls (.int n :: .int dp :: .ref (E.b + d) :: .int sp :: .ref (E.b + a) :: rest)) := by
  subst hsp hdp hnn
  have hobs : ∀ i, i < n.toNatClampNeg → ∀ y, σ.R a (sp.toNatClampNeg + i) = some y → va_Any "java/lang/Object" s H (E.b + y) := fun i hi y hy => og_any X hR (hel i hi y hy)
  obtain ⟨⟨hx, hb, hml, hown, hts⟩, hK, hN, hlk, hO⟩ := X
  have nn : ∀ z : Int32, ¬ z < 0 → z.toInt = (z.toNatClampNeg : Int) := by
    intro z hz
    have hz0 : (0 : Int) ≤ z.toInt := by
      have := Int32.not_lt.mp hz
      simpa using Int32.le_iff_toInt_le.mp this
    show z.toInt = ((z.toInt.toNat : Nat) : Int)
    omega
  intro T hT X
  have ea : ∀ (x n2 : Nat), Γ.G x = (106, n2) → (fun j => og_fv E.b (emC Γ σ) x j (og_aty 6)) = (fun j => og_rv E.b (σ.R x j)) := by
    intro x n2 hx2
    funext j
    show og_rv E.b (og_cr (Γ.G x).1 x j (σ.R x j)) = _
    rw [hx2]
    rfl
  have hc0 : H[E.b + a]? = some (arrV (E.cA 6) n0 (fun j => og_rv E.b (σ.R a j))) := by
    rw [← ea a n0 hG0]
    exact hR.arr (ak := 6) hG0
  have hc1 : H[E.b + d]? = some (arrV (E.cA 6) n1 (fun j => og_rv E.b (σ.R d j))) := by
    rw [← ea d n1 hG1]
    exact hR.arr (ak := 6) hG1
  obtain ⟨-, k0, hk0, cm0, hkk0⟩ := (hK.2 6 _ rfl).1 n0 (fun j => og_rv E.b (σ.R a j))
  obtain ⟨-, k1, hk1, cm1, hkk1⟩ := (hK.2 6 _ rfl).1 n1 (fun j => og_rv E.b (σ.R d j))
  obtain ⟨vm', X', step⟩ := X.arraycopy hx hown (hts _ hlink) (hts _ hnat) (hts _ hstat) (hts _ hini) (src := E.b + a) (dst := E.b + d) (cs := arrV (E.cA 6) n0 (fun j => og_rv E.b (σ.R a j))) (cd := arrV (E.cA 6) n1 (fun j => og_rv E.b (σ.R d j))) (srcPos := sp) (destPos := dp) (n := n) (by rw [hT]; exact hc0) (by rw [hT]; exact hc1)
    (fun _ h => by cases h) (fun _ h => by cases h) (fun h => by cases h) (fun h => by cases h) hk0 hk1 hkk0 hkk1 rfl h1 h2 h3
    (by rw [nn sp h1, nn n h3, arrV_size]; omega)
    (by rw [nn dp h2, nn n h3, arrV_size]; omega)
    (fun vm₁ hal i hi => by
      have e : (arrV (E.cA 6) n0 (fun j => og_rv E.b (σ.R a j))).slots.getD (sp.toNatClampNeg + i) .null = og_rv E.b (σ.R a (sp.toNatClampNeg + i)) := by
        rw [Array.getD_eq_getD_getElem?, arrV_read _ _ (by omega)]
        rfl
      rw [e]
      cases hy : σ.R a (sp.toNatClampNeg + i) with
      | none => exact ⟨rfl, trivial⟩
      | some y =>
        obtain ⟨cellV, g1, g2, ⟨kC, hkC⟩, hasg⟩ := hobs i hi y hy
        obtain ⟨kA, comp, r1, r2, r3, -⟩ := (hK.2 6 _ rfl).2
        cases hk1.symm.trans r1
        cases hkk1.symm.trans r2
        obtain ⟨kE, hkE, -⟩ := Vm.findClass_spec r3
        obtain ⟨kC', hkC', -⟩ := hal.2.2 _ _ hkC
        obtain ⟨kE', hkE', -⟩ := hal.2.2 _ _ hkE
        refine ⟨rfl, cellV, (show T.heap[E.b + y]? = some cellV by rw [hT]; exact g1), (fun q h => by rw [h] at g2; cases g2), ⟨kC', hkC'⟩, ?_, ?_⟩
        · exact ⟨kE', hkE'⟩
        · show vm₁.assignable _ _ = true
          rw [hal.assignable]
          exact hasg _ r3)
    (g := F0 m pc ls (.int n :: .int dp :: .ref (E.b + d) :: .int sp :: .ref (E.b + a) :: rest)) rfl (by rw [hml]; exact hsz) (rest := rest) rfl (by rw [hb]; exact hd) hframes (by show 2 * 0 + _ + _ ≤ _; omega)
  have e1 : copied (arrV (E.cA 6) n0 (fun j => og_rv E.b (σ.R a j))) (arrV (E.cA 6) n1 (fun j => og_rv E.b (σ.R d j))) sp dp n = arrV (E.cA 6) n1 (fun j => og_rv E.b (va_cpy (σ.R a) (σ.R d) sp.toNatClampNeg dp.toNatClampNeg n.toNatClampNeg j)) := va_copied (fun z => og_rv E.b z) (E.cA 6) (E.cA 6) (σ.R a) (σ.R d) h4
  rw [e1] at X' step
  have hl : E.b + d < H.size := (Array.getElem?_eq_some_iff.mp hc1).1
  generalize hcell : arrV (E.cA 6) n1 (fun j => og_rv E.b (va_cpy (σ.R a) (σ.R d) sp.toNatClampNeg dp.toNatClampNeg n.toNatClampNeg j)) = cw at X' step
  have hheap : ((T.setVm vm').setCell (E.b + d) cw).heap = H.setIfInBounds (E.b + d) cw := by rw [← hT]; rfl
  have oq : ∀ q : Nat, q ≠ E.b + d → (H.setIfInBounds (E.b + d) cw)[q]? = H[q]? := fun q hq => by simp [Array.getElem?_setIfInBounds, Ne.symm hq]
  have oa : (H.setIfInBounds (E.b + d) cw)[E.b + d]? = some cw := by simp [Array.getElem?_setIfInBounds, hl]
  have hA : E.A (E.b + d) := (hR.1 d (by show (Γ.G d).1 ≠ 0; rw [hG1]; exact Nat.succ_ne_zero _)).2
  have hR1 : OgRep E (emC Γ (σ.cR a sp.toNatClampNeg d dp.toNatClampNeg n.toNatClampNeg)) (H.setIfInBounds (E.b + d) cw) := by
    refine hR.upd (a := d) rfl rfl (fun y hy j ty => ?_) ?_ (by simp) oq
    · have e : (emC Γ (σ.cR a sp.toNatClampNeg d dp.toNatClampNeg n.toNatClampNeg)).R y j = (emC Γ σ).R y j := by
        show og_cr (Γ.G y).1 y j (og_cpR σ.R a _ d _ _ y j) = og_cr (Γ.G y).1 y j (σ.R y j)
        unfold og_cpR
        rw [if_neg hy]
      cases ty <;> first | rfl | (show og_rv _ _ = og_rv _ _; rw [e]; done)
    · unfold og_ok
      rw [show (emC Γ (σ.cR a sp.toNatClampNeg d dp.toNatClampNeg n.toNatClampNeg)).G d = (106, n1) from hG1]
      rw [if_neg (by omega)]
      show (H.setIfInBounds (E.b + d) cw)[E.b + d]? = some (arrV (E.cA 6) n1 _)
      rw [oa, ← hcell]
      congr 2
      funext j
      show og_rv E.b _ = og_rv E.b (og_cr (Γ.G d).1 d j (og_cpR σ.R a sp.toNatClampNeg d dp.toNatClampNeg n.toNatClampNeg d j))
      unfold og_cpR
      rw [if_pos rfl, hG1]
      rfl
  obtain ⟨t, a1, b1⟩ := kk _ _ _ rfl hR1 ⟨by simp; exact hS0.1, fun q g1 g2 => by
      rw [oq q (fun e => g2 (by rw [e]; exact hA))]
      exact hS0.2.1 q g1 g2, fun q hq => by
      rcases List.mem_append.mp hq with h | h
      · exact hS0.2.2 q h
      · obtain ⟨z, -, hz⟩ := List.mem_map.mp h
        rw [← hz]
        exact hA⟩ _ hheap X'
  exact ⟨t, step t a1, b1⟩
/-- the class object of an array of Objects -/
theorem og_getC (X : OgX p s m args meth c cc nL own E) (hR : OgRep E (emC Γ σ) H) {a n index : Nat} (hG : Γ.G a = (106, n)) (hlink : Cond.methodLink own index ⟨"java/lang/Object", "getClass", "()Ljava/lang/Class;"⟩ ∈ lw_all) (hsz : ls.size = nL) (hframes : 1 ≤ R.frames) (hlocals : (rest.map fun v => v.category).sum + 14 ≤ R.locals) (hd : decode cc pc = .ok (.invokevirtual index, 3))
    (k : W p l e R s m args below meth c H locs cells slots Q (F0 m (pc + 3) ls (.ref E.mi :: rest))) : W p l e R s m args below meth c H locs cells slots Q (F0 m pc ls (.ref (E.b + a) :: rest)) := by
  obtain ⟨⟨hx, hb, hml, hown, hts⟩, hK, hN, hlk, hO⟩ := X
  have hG2 : (emC Γ σ).G a = (106, n) := hG
  exact va_getC (C := "[Ljava/lang/Object;") hx hb (hml.trans hsz.symm) hown (hts _ hlink) (va_Nw.use rfl (hN _ (og_ind 0 rfl))) (hts _ q2163) (hts _ q475) (hts _ q496) hO.1.2.2.2.1 ⟨_, hR.arr (ak := 6) hG2, rfl, va_nmO (hK.2 6 _ rfl).2 rfl⟩ hframes hlocals hd k
theorem og_ldcM (X : OgX p s m args meth c cc nL own E) {index : Nat} (hlink : Cond.classLink own index "[Ljava/lang/Object;" ∈ lw_all) (hd : decode cc pc = .ok (.ldc index, 2))
    (k : W p l e R s m args below meth c H locs cells slots Q (F0 m (pc + 2) ls (.ref E.mi :: rest))) : W p l e R s m args below meth c H locs cells slots Q (F0 m pc ls rest) :=
  va_ldcM X.1.1 X.1.2.1 X.1.2.2.2.1 (X.1.2.2.2.2 _ hlink) X.2.2.2.2.1.2.2.2.1 hd k
theorem og_castQ (X : OgX p s m args meth c cc nL own E) (hR : OgRep E (emC Γ σ) H) {a n index : Nat} (hG : Γ.G a = (106, n)) (hlink : Cond.classLink own index "[Ljava/lang/Object;" ∈ lw_all) (hd : decode cc pc = .ok (.checkcast index, 3))
    (k : W p l e R s m args below meth c H locs cells slots Q (F0 m (pc + 3) ls (.ref (E.b + a) :: rest))) : W p l e R s m args below meth c H locs cells slots Q (F0 m pc ls (.ref (E.b + a) :: rest)) := by
  have hG2 : (emC Γ σ).G a = (106, n) := hG
  exact va_castE X.1.1 X.1.2.1 X.1.2.2.2.1 (X.1.2.2.2.2 _ hlink) ⟨_, hR.arr (ak := 6) hG2, rfl, va_nmO (X.2.1.2 6 _ rfl).2 rfl⟩ hd k
/-- the same object or not -/
theorem og_acmpM (X : OgX p s m args meth c cc nL own E) {off : Int} (hd : decode cc pc = .ok (.if_acmp .ne off, 3)) (k : W p l e R s m args below meth c H locs cells slots Q (F0 m (pc + 3) ls rest)) : W p l e R s m args below meth c H locs cells slots Q (F0 m pc ls (.ref E.mi :: .ref E.mi :: rest)) := by
  intro T hT Y
  obtain ⟨t, a, b⟩ := k T hT Y
  refine ⟨t, ?_, b⟩
  have hx := X.x
  have hb := X.b
  jvm_step Y.here [Y.here.top, hx, hb, hd, Value.asRef?, Op.if_acmp.holds]
  exact a
end ListOg
/-! ===== rows as the printed walks of methods that make cells take them ===== -/
section ModOg
variable {p : Program} {l : Launch} {e : Env} {R : Room} {s : State} {m : MethodId} {args : Array Value} {below : List Frame} {meth : Method} {c : Code} {H : Heap} {locs : List Loc} {cells slots : Nat} {Q : State → Prop}
variable {cc : ByteArray} {pc : Nat} {ls : Array Slot} {rest : List Value} {nL : Nat} {own : String} {E : OgE} {S : OgM} {H0 : Heap} {Γ : OgG} {σ : OgC}
/-- modCount, named by ArrayList -/
theorem og_getM (X : OgX p s m args meth c cc nL own E) (hR : OgRep E S H) {index a : Nat} (hlink : Cond.fieldLink own index "java/util/ArrayList" "modCount" "I" ∈ lw_all) (hsm : Cond.sameField "java/util/ArrayList" "java/util/AbstractList" "modCount" "I" ∈ lw_all) (hG : (S.G a).1 = 19) (hd : decode cc pc = .ok (.getfield index, 3))
    (kk : W p l e R s m args below meth c H locs cells slots Q (F0 m (pc + 3) ls (.int (S.I a 0) :: rest))) : W p l e R s m args below meth c H locs cells slots Q (F0 m pc ls (.ref (E.b + a) :: rest)) := by
  obtain ⟨⟨hx, hb, hml, hown, hts⟩, hK, hN, hlk, hO⟩ := X
  obtain ⟨hc, hin, hty, hnm, hlt⟩ := og_c18
  obtain ⟨cell, q1, q2, q3, q4⟩ := hR.obj hG hlt
  obtain ⟨hS, hfc, kC, hkC, hkind⟩ := hK.1 18 _ hc
  obtain ⟨cf, kf, fi, f, hi, hsl⟩ := hS 0 (og_le rfl)
  have hv2 : cell.slots[f.slot]? = some (.int (S.I a 0)) := by
    rw [hsl, q4 0 (og_le rfl)]
    rfl
  exact W.getf hx hb hown (hts _ hlink) (u_same (hts _ hsm) _ hi) (u_facts hfc hkC (u_lays hts hin (k := 0) (og_le rfl)) hi).1 q1 (by rw [q3]; exact fun h => by cases h) (v := .int (S.I a 0)) hv2 rfl rfl hd kk
theorem og_putM (X : OgX p s m args meth c cc nL own E) (hR : OgRep E (emC Γ σ) H) (hS0 : va_S E.A H0 H locs) {index a : Nat} {x : Int32} (hlink : Cond.fieldLink own index "java/util/ArrayList" "modCount" "I" ∈ lw_all) (hsm : Cond.sameField "java/util/ArrayList" "java/util/AbstractList" "modCount" "I" ∈ lw_all) (hG : (Γ.G a).1 = 19) (hd : decode cc pc = .ok (.putfield index, 3))
    (kk : ∀ (σ1 : OgC) (H1 : Heap) (locs1 : List Loc), σ1 = σ.sI a 0 x → OgRep E (emC Γ σ1) H1 → va_S E.A H0 H1 locs1 → W p l e R s m args below meth c H1 locs1 cells slots Q (F0 m (pc + 3) ls rest)) : W p l e R s m args below meth c H locs cells slots Q (F0 m pc ls (.int x :: .ref (E.b + a) :: rest)) := by
  obtain ⟨⟨hx, hb, hml, hown, hts⟩, hK, hN, hlk, hO⟩ := X
  have hap := og_apart hts hK og_c18
  obtain ⟨hc, hin, hty, hnm, hlt⟩ := og_c18
  have hG2 : ((emC Γ σ).G a).1 = 18 + 1 := hG
  obtain ⟨cell, q1, q2, q3, q4⟩ := hR.obj hG2 hlt
  obtain ⟨hS, hfc, kC, hkC, hkind⟩ := hK.1 18 _ hc
  obtain ⟨cf, kf, fi, f, hi, hsl⟩ := hS 0 (og_le rfl)
  dsimp only at hsl hfc hi
  have hlay := hts _ (hin _ (u_in_lay (k := 0) (og_le rfl)))
  unfold u_lay at hlay
  rw [if_neg (by decide)] at hlay
  have hst := (u_facts hfc hkC (u_lays hts hin (k := 0) (og_le rfl)) hi).1
  have h6 := u_store (v := .int x) hfc hkC hkind hlay hi (hty 0 (og_le rfl)) rfl rfl
  have hA : E.A (E.b + a) := (hR.1 a (by omega)).2
  refine W.putK hx hb (f := f) ⟨hown, hts _ hlink, ⟨_, _, _, u_same (hts _ hsm) _ hi⟩, hst⟩ (by rw [q2]; exact h6) q1 q3 (by rw [hsl]; exact k2_hasslot (q4 0 (og_le rfl))) rfl rfl hd fun H' e1 e2 e3 => ?_
  rw [hsl] at e1 ⊢
  refine kk _ H' _ rfl (hR.upd (S1 := emC Γ (σ.sI a 0 x)) (a := a) rfl rfl (fun y hy j ty => og_fvI (S := emC Γ σ) hy) ?_ e2 e3) (hS0.put e2 e3 hA)
  unfold og_ok
  rw [show (emC Γ (σ.sI a 0 x)).G = (emC Γ σ).G from rfl, if_pos (by omega), hG2, Nat.add_sub_cancel]
  refine ⟨_, e1, q2, q3, fun j hj => ?_⟩
  rw [t_set q4 hap (og_le rfl) (.int x) j hj]
  show some (updV _ 0 (.int x) j) = some (og_fv E.b ((emC Γ σ).sI a 0 x) a j (og_ty 18 j))
  rw [og_fv_sI (S := emC Γ σ) (ty := og_ty 18 j) (k := 0) (fun q => by rw [q]; rfl)]
  rfl
end ModOg
section NewA
variable {p : Program} {l : Launch} {e : Env} {s : State} {m : MethodId} {args : Array Value} {below : List Frame} {meth : Method} {c : Code} {H : Heap} {locs : List Loc} {cells slots : Nat} {Q : State → Prop}
variable {cc : ByteArray} {pc : Nat} {ls : Array Slot} {rest : List Value} {nL : Nat} {own : String} {E : OgE} {Γ : OgG} {σ : OgC} {F L mc ms kc ks : Nat}
theorem og_newA (X : OgX p s m args meth c cc nL own E) (hΓ : OgWg E Γ) (hR : OgRep E (emC Γ σ) H) (hS : va_S E.A s.heap H locs) (hk : cells + kc = mc ∧ slots + ks = ms) {ci index N : Nat} (hC : OgCls ci) (hcr : ∀ a j o, og_cr (ci + 1) a j o = o) (h3 : ci + 1 ≠ 3 ∧ ci + 1 ≠ 4) (hN : og_N ci = N) (hty : ∀ k, k < N → og_okty (og_ty ci k) = true) (hcl : Cond.classLink own index (og_R ci) ∈ lw_all) (hins : Cond.instantiable (og_R ci) N ∈ lw_all) (hini : Cond.initialized (og_R ci) ∈ lw_all) (hb : 1 ≤ kc ∧ N ≤ ks) (hd : decode cc pc = .ok (.new index, 3))
    (kk : ∀ (Γ1 : OgG) (σ1 : OgC) (a1 : Nat) (H1 : Heap), Γ1 = Γ.al (ci + 1, 0) → σ1 = σ.z Γ.top → a1 = Γ.top → OgExt Γ Γ1 → OgWg E Γ1 → Γ1.G a1 = (ci + 1, 0) → OgRep E (emC Γ1 σ1) H1 → va_S E.A s.heap H1 locs → W p l e (og_rmA F L mc ms) s m args below meth c H1 locs (cells + 1) (slots + N) Q (F0 m (pc + 3) ls (.ref (E.b + a1) :: rest))) : W p l e (og_rmA F L mc ms) s m args below meth c H locs cells slots Q (F0 m pc ls rest) :=
  og_newO X hΓ hR hS hC hcr hN hty hcl hins hini (by show cells + 1 ≤ mc; omega) (by show slots + N ≤ ms; omega) hd fun H1 h1 h2 => kk _ _ _ H1 rfl rfl rfl (hΓ.ext _) (hΓ.al _ h3.1 h3.2) (og_al_top _ _) h1 h2
theorem og_newAI (X : OgX p s m args meth c cc nL own E) (hΓ : OgWg E Γ) (hR : OgRep E (emC Γ σ) H) (hS : va_S E.A s.heap H locs) (hk : cells + kc = mc ∧ slots + ks = ms) {n : Int32} {N : Nat} (harr : Cond.arrayClass .int ∈ lw_all) (hn : ¬ n < 0) (hN : n.toNatClampNeg = N) (hb4 : N * 4 ≤ 536870912) (hb : 1 ≤ kc ∧ N ≤ ks) (hd : decode cc pc = .ok (.newarray .int, 2))
    (kk : ∀ (Γ1 : OgG) (σ1 : OgC) (a1 : Nat) (H1 : Heap), Γ1 = Γ.al (100, N) → σ1 = σ.z Γ.top → a1 = Γ.top → OgExt Γ Γ1 → OgWg E Γ1 → Γ1.G a1 = (100, N) → OgRep E (emC Γ1 σ1) H1 → va_S E.A s.heap H1 locs → W p l e (og_rmA F L mc ms) s m args below meth c H1 locs (cells + 1) (slots + N) Q (F0 m (pc + 2) ls (.ref (E.b + a1) :: rest))) : W p l e (og_rmA F L mc ms) s m args below meth c H locs cells slots Q (F0 m pc ls (.int n :: rest)) :=
  og_newI X hΓ hR hS harr hn hN hb4 (by show cells + 1 ≤ mc; omega) (by show slots + N ≤ ms; omega) hd fun H1 h1 h2 => kk _ _ _ H1 rfl rfl rfl (hΓ.ext _) (hΓ.al _ (by show (100 : Nat) ≠ 3; omega) (by show (100 : Nat) ≠ 4; omega)) (og_al_top _ _) h1 h2
theorem og_newAQ (X : OgX p s m args meth c cc nL own E) (hΓ : OgWg E Γ) (hR : OgRep E (emC Γ σ) H) (hS : va_S E.A s.heap H locs) (hk : cells + kc = mc ∧ slots + ks = ms) {n : Int32} {N index : Nat} (hcl : Cond.classLink own index "java/lang/Object" ∈ lw_all) (hn : ¬ n < 0) (hN : n.toNatClampNeg = N) (hb4 : N * 4 ≤ 536870912) (hb : 1 ≤ kc ∧ N ≤ ks) (hd : decode cc pc = .ok (.anewarray index, 3))
    (kk : ∀ (Γ1 : OgG) (σ1 : OgC) (a1 : Nat) (H1 : Heap), Γ1 = Γ.al (106, N) → σ1 = σ.z Γ.top → a1 = Γ.top → OgExt Γ Γ1 → OgWg E Γ1 → Γ1.G a1 = (106, N) → OgRep E (emC Γ1 σ1) H1 → va_S E.A s.heap H1 locs → W p l e (og_rmA F L mc ms) s m args below meth c H1 locs (cells + 1) (slots + N) Q (F0 m (pc + 3) ls (.ref (E.b + a1) :: rest))) : W p l e (og_rmA F L mc ms) s m args below meth c H locs cells slots Q (F0 m pc ls (.int n :: rest)) :=
  og_newQ X hΓ hR hS hcl hn hN hb4 (by show cells + 1 ≤ mc; omega) (by show slots + N ≤ ms; omega) hd fun H1 h1 h2 => kk _ _ _ H1 rfl rfl rfl (hΓ.ext _) (hΓ.al _ (by show (106 : Nat) ≠ 3; omega) (by show (106 : Nat) ≠ 4; omega)) (og_al_top _ _) h1 h2
/-- toArray through the interface -/
theorem og_aftFr {mc' ms' : Nat} {R : Room} {Qf : State → Prop} {Q : Nat → OgG → OgC → Prop} {a : Array Value} {st : List Value} {H0 : Heap} (hr : va_Run5 p l e R s m args below meth c H locs cells slots mc' ms' (F0 m pc ls st) rest (og_Qr E emA (og_Gx E Γ Q) a) E.A) (hS : va_S E.A H0 H locs)
    (kk : ∀ (r : Nat) (Γ1 : OgG) (σ1 : OgC) (H1 : Heap) (locs1 : List Loc), Q r Γ1 σ1 → OgExt Γ Γ1 → OgWg E Γ1 → OgRep E (emC Γ1 σ1) H1 → va_S E.A H0 H1 locs1 → W p l e R s m args below meth c H1 locs1 (cells + mc') (slots + ms') Qf (F0 m (pc + 5) ls (.ref (E.b + r) :: rest))) : W p l e R s m args below meth c H locs cells slots Qf (F0 m pc ls st) :=
  va_callFr hr hS (fun _ _ h => h) (fun _ h => h) (fun u a t H1 locs1 ht _ hq hB _ _ hS1 => by
    obtain ⟨h1, h2⟩ := hB
    subst h1
    exact kk u.1 u.2.1 u.2.2 H1 locs1 hq.1 hq.2.1 hq.2.2 (by rw [← ht]; exact h2) hS1)
end NewA
/-- char values -/
def og_okc (v : Int32) : Prop := narrow .char (.int v) = .int v ∧ fits .char (.int v) = true
/-- what a wp of an abstract method of Reader is good for -/
def OkRr (l : Launch) (E : OgE) (ci : Nat) (x : MethodName) (F L : Nat) (r : (Nat → OgG → OgC → Prop) → (Nat → OgG → OgC → Prop) → Nat → Nat → Nat → OgG → OgC → Prop) : Prop := ∀ {p : Program} {e : Env} {R : Room} {s : State} {m : MethodId} {args : Array Value} {below : List Frame} {meth : Method} {c : Code} {H : Heap} {locs : List Loc} {cells slots : Nat} {cc : ByteArray} {pc : Nat} {ls : Array Slot} {rest : List Value} {nL : Nat} {own : String} {index a kc ks : Nat} {Γ : OgG} {σ : OgC} {Q : Nat → OgG → OgC → Prop} {Xq : Nat → OgG → OgC → Prop},
  OgX p s m args meth c cc nL own E → OgWg E Γ → Γ.G a = (ci + 1, 0) → OgRep E (emC Γ σ) H → va_S E.A s.heap H locs → r Q Xq a kc ks Γ σ → Cond.methodLink own index x ∈ lw_all → (F ≤ R.frames ∧ L ≤ R.locals ∧ cells + kc ≤ R.cells ∧ slots + ks ≤ R.slots) → ls.size = nL → (rest.map fun v => v.category).sum ≤ 8 → decode cc pc = .ok (.invokevirtual index, 3) →
  ox_Run p l e R s m args below meth c H locs cells slots kc ks (F0 m pc ls (.ref (E.b + a) :: rest)) rest (og_Qr E emA (og_Gx E Γ Q) #[]) (og_XC E emA 7 (og_Gx E Γ Xq)) E.A
def OkRi (l : Launch) (E : OgE) (ci : Nat) (x : MethodName) (F L : Nat) (r : (Int32 → OgG → OgC → Prop) → (Nat → OgG → OgC → Prop) → Nat → Nat → Nat → OgG → OgC → Prop) : Prop := ∀ {p : Program} {e : Env} {R : Room} {s : State} {m : MethodId} {args : Array Value} {below : List Frame} {meth : Method} {c : Code} {H : Heap} {locs : List Loc} {cells slots : Nat} {cc : ByteArray} {pc : Nat} {ls : Array Slot} {rest : List Value} {nL : Nat} {own : String} {index a kc ks : Nat} {Γ : OgG} {σ : OgC} {Q : Int32 → OgG → OgC → Prop} {Xq : Nat → OgG → OgC → Prop},
  OgX p s m args meth c cc nL own E → OgWg E Γ → Γ.G a = (ci + 1, 0) → OgRep E (emC Γ σ) H → va_S E.A s.heap H locs → r Q Xq a kc ks Γ σ → Cond.methodLink own index x ∈ lw_all → (F ≤ R.frames ∧ L ≤ R.locals ∧ cells + kc ≤ R.cells ∧ slots + ks ≤ R.slots) → ls.size = nL → (rest.map fun v => v.category).sum ≤ 8 → decode cc pc = .ok (.invokevirtual index, 3) →
  ox_Run p l e R s m args below meth c H locs cells slots kc ks (F0 m pc ls (.ref (E.b + a) :: rest)) rest (og_Qi E emA (og_Gx E Γ Q) #[]) (og_XC E emA 7 (og_Gx E Γ Xq)) E.A
def OkRv (l : Launch) (E : OgE) (ci : Nat) (x : MethodName) (F L : Nat) (r : (OgG → OgC → Prop) → (Nat → OgG → OgC → Prop) → Nat → Nat → Nat → OgG → OgC → Prop) : Prop := ∀ {p : Program} {e : Env} {R : Room} {s : State} {m : MethodId} {args : Array Value} {below : List Frame} {meth : Method} {c : Code} {H : Heap} {locs : List Loc} {cells slots : Nat} {cc : ByteArray} {pc : Nat} {ls : Array Slot} {rest : List Value} {nL : Nat} {own : String} {index a kc ks : Nat} {Γ : OgG} {σ : OgC} {Q : OgG → OgC → Prop} {Xq : Nat → OgG → OgC → Prop},
  OgX p s m args meth c cc nL own E → OgWg E Γ → Γ.G a = (ci + 1, 0) → OgRep E (emC Γ σ) H → va_S E.A s.heap H locs → r Q Xq a kc ks Γ σ → Cond.methodLink own index x ∈ lw_all → (F ≤ R.frames ∧ L ≤ R.locals ∧ cells + kc ≤ R.cells ∧ slots + ks ≤ R.slots) → ls.size = nL → (rest.map fun v => v.category).sum ≤ 8 → decode cc pc = .ok (.invokevirtual index, 3) →
  ox_Run p l e R s m args below meth c H locs cells slots kc ks (F0 m pc ls (.ref (E.b + a) :: rest)) rest (og_Qv E emA (og_Gv E Γ Q) #[]) (og_XC E emA 7 (og_Gx E Γ Xq)) E.A
def yRSum : MethodName := ⟨"OpenGates$Reader", "sum", "()LOpenGates$Sum;"⟩
def yRTest : MethodName := ⟨"OpenGates$Reader", "test", "()LOpenGates$Test;"⟩
def yRValue : MethodName := ⟨"OpenGates$Reader", "value", "()I"⟩
def yRClause : MethodName := ⟨"OpenGates$Reader", "clause", "()V"⟩
theorem og_namedN {P : Prop} (x : Nat) (k : ∀ n : Nat, n = x → P) : P := k x rfl
theorem og_crn {Γ : OgG} {σ : OgC} {a κ n k : Nat} (g : Γ.G a = (κ, n)) (h : ∀ o, og_cr κ a k o = o) (hs : σ.R a k = none) : (emC Γ σ).R a k = none := by
  show og_cr (Γ.G a).1 a k (σ.R a k) = none
  rw [g, h, hs]
theorem og_sameR {E : OgE} {Γ : OgG} {σ σ1 : OgC} {H : Heap} {P : Prop} (h : σ1 = σ) (hR : OgRep E (emC Γ σ1) H) (k : OgRep E (emC Γ σ) H → P) : P := k (h ▸ hR)
theorem lw_F {own C : String} {index : Nat} {x y : MethodName} {b : ByteArray} {L : Nat} {r : Option FieldType} (h1 : Cond.methodLink own index x ∈ lw_all) (h3 : Cond.selects C x y ∈ lw_all) (h4 : Cond.instanceMethod y ∈ lw_all) (h5 : Cond.initialized y.cls ∈ lw_all) (h6 : Cond.code y b L r ∈ lw_all) : GoodIn lw_all (va_wsF own index C x y (ws_ y b L r)) := by
  refine lw_app ?_ (lw_meth h6)
  intro w hw
  simp only [List.mem_cons, List.not_mem_nil, or_false] at hw
  rcases hw with e | e | e | e
  · rw [e]; exact h1
  · rw [e]; exact h3
  · rw [e]; exact h4
  · rw [e]; exact h5
section FaceOg
variable {p : Program} {l : Launch} {e : Env} {R : Room} {s : State} {m : MethodId} {args : Array Value} {below : List Frame} {meth : Method} {c : Code} {H : Heap} {locs : List Loc} {cells slots : Nat}
variable {cc : ByteArray} {pc : Nat} {ls : Array Slot} {rest st As : List Value} {nL : Nat} {own : String} {E : OgE} {S : OgM} {bytes : ByteArray} {maxL index count n mc ms : Nat} {rm : Room} {ret : Option FieldType}
theorem og_runF {Qc : Array Value → State → Outcome → State → Prop} {free : Addr → Prop} (X : OgX p s m args meth c cc nL own E) (hR : OgRep E S H) (hS : va_S E.A s.heap H locs) {a : Nat} (hG : (S.G a).1 = 18 + 1) (hM : Met l yToA (ws_ yToA bytes maxL ret) rm (og_Pre E S (.ref (E.b + a) :: As)) Qc mc ms free) (hL : GoodIn lw_all (va_wsF own index RJ2 yColl yToA (ws_ yToA bytes maxL ret))) (hy : OgY yToA n) (hn : As.length = n) (hrm : OgRm R rm maxL mc ms cells slots) (hst : st = As.reverse ++ .ref (E.b + a) :: rest) (hsz : ls.size = nL) (hroom : (rest.map fun v => v.category).sum ≤ 8) (hd : decode cc pc = .ok (.invokeinterface index count, 5)) :
    va_Run5 p l e R s m args below meth c H locs cells slots mc ms (F0 m pc ls st) rest (Qc (Value.ref (E.b + a) :: As).toArray) free :=
  va_runF (X.2.1.1 18 _ og_c18.1).2 X.1 hM (va_cwF n X.1.2.2.2.2 hL rfl hrm.1 hrm.2.1 X.2.2.2.2.1.2.2.2.2 ⟨by decide, by decide, hy.2.2⟩ ⟨hrm.2.2.1, hrm.2.2.2.1⟩) (og_pV X hR hS og_c18 hG) rfl hn hsz hst (lv_room hroom) hd ⟨hrm.2.2.2.2.1, hrm.2.2.2.2.2⟩
end FaceOg
