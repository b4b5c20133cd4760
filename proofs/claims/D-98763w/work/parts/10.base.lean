/-! ===== flat memory: what a side of the law (the class's objects; the reference's) holds, as functions of cell and slot ===== -/
set_option maxRecDepth 100000
/-- ints, longs, references (as offsets from a base), kinds of cells (0: none; 1 + class number; 100 + array kind, with the length), the next free offset -/
def OgM : Type := (Nat → Nat → Int32) × (Nat → Nat → Int64) × (Nat → Nat → Option Nat) × (Nat → Nat × Nat) × Nat
def OgM.I (S : OgM) : Nat → Nat → Int32 := S.1
def OgM.L (S : OgM) : Nat → Nat → Int64 := S.2.1
def OgM.R (S : OgM) : Nat → Nat → Option Nat := S.2.2.1
def OgM.G (S : OgM) : Nat → Nat × Nat := S.2.2.2.1
def OgM.top (S : OgM) : Nat := S.2.2.2.2
def og_up {α : Type} (f : Nat → Nat → α) (a k : Nat) (v : α) : Nat → Nat → α := fun x => if x = a then (fun j => if j = k then v else f x j) else f x
theorem og_up_ne {α : Type} (f : Nat → Nat → α) {a x : Nat} (k : Nat) (v : α) (h : x ≠ a) : og_up f a k v x = f x := if_neg h
theorem og_up_eq {α : Type} (f : Nat → Nat → α) (a k : Nat) (v : α) : og_up f a k v a = fun j => if j = k then v else f a j := if_pos rfl
def OgM.sI (S : OgM) (a k : Nat) (v : Int32) : OgM := (og_up S.I a k v, S.L, S.R, S.G, S.top)
def OgM.sL (S : OgM) (a k : Nat) (v : Int64) : OgM := (S.I, og_up S.L a k v, S.R, S.G, S.top)
def OgM.sR (S : OgM) (a k : Nat) (v : Option Nat) : OgM := (S.I, S.L, og_up S.R a k v, S.G, S.top)
/-- base address, which addresses are this side's, class numbers and slots, classes of arrays -/
def OgE : Type := Nat × (Nat → Prop) × va_G × (Nat → ClassId) × (Nat → Nat) × (Nat → Nat) × Nat
def OgE.b (E : OgE) : Nat := E.1
def OgE.A (E : OgE) : Nat → Prop := E.2.1
def OgE.D (E : OgE) : va_G := E.2.2.1
def OgE.cA (E : OgE) : Nat → ClassId := E.2.2.2.1
/-- where the texts lie, and their bytes; the class object of Object[] -/
def OgE.q (E : OgE) : Nat → Nat := E.2.2.2.2.1
def OgE.v (E : OgE) : Nat → Nat := E.2.2.2.2.2.1
def OgE.mi (E : OgE) : Nat := E.2.2.2.2.2.2
def og_rv (b : Nat) (o : Option Nat) : Value := match o with
  | none => .null
  | some a => .ref (b + a)
def og_fv (b : Nat) (S : OgM) (a k : Nat) (ty : FieldType) : Value := match ty with
  | .long => .long (S.L a k)
  | .object _ => og_rv b (S.R a k)
  | .array _ => og_rv b (S.R a k)
  | _ => .int (S.I a k)
def og_R : Nat → String := fun k => match k with
  | 0 => RX5
  | 1 => RX0
  | 2 => RX1
  | 3 => RX2
  | 4 => RX3
  | 5 => RX4
  | 6 => RX7
  | 7 => RX8
  | 8 => RX9
  | 9 => RX11
  | 10 => RX12
  | 11 => RX13
  | 12 => RX15
  | 13 => RX16
  | 14 => RX17
  | 15 => RX18
  | 16 => RX19
  | 17 => RX20
  | 18 => RJ2
  | _ => ""
def og_T : Nat → u_T := fun k => match k with
  | 0 => TX5
  | 1 => TX0
  | 2 => TX1
  | 3 => TX2
  | 4 => TX3
  | 5 => TX4
  | 6 => TX7
  | 7 => TX8
  | 8 => TX9
  | 9 => TX11
  | 10 => TX12
  | 11 => TX13
  | 12 => TX15
  | 13 => TX16
  | 14 => TX17
  | 15 => TX18
  | 16 => TX19
  | 17 => TX20
  | 18 => TJ2
  | _ => TX5
def og_N : Nat → Nat := fun k => match k with
  | 0 => 53
  | 1 => 22
  | 2 => 18
  | 3 => 5
  | 4 => 2
  | 5 => 6
  | 6 => 8
  | 7 => 7
  | 8 => 3
  | 9 => 1
  | 10 => 1
  | 11 => 3
  | 12 => 3
  | 13 => 1
  | 14 => 2
  | 15 => 5
  | 16 => 1
  | 17 => 8
  | 18 => 3
  | _ => 0
def og_ty : Nat → Nat → FieldType := fun k => match k with
  | 0 => tyX5
  | 1 => tyX0
  | 2 => tyX1
  | 3 => tyX2
  | 4 => tyX3
  | 5 => tyX4
  | 6 => tyX7
  | 7 => tyX8
  | 8 => tyX9
  | 9 => tyX11
  | 10 => tyX12
  | 11 => tyX13
  | 12 => tyX15
  | 13 => tyX16
  | 14 => tyX17
  | 15 => tyX18
  | 16 => tyX19
  | 17 => tyX20
  | 18 => tyJ2
  | _ => tyX5
def og_cl : List vw_C := [(RX5, TX5, 53), (RX0, TX0, 22), (RX1, TX1, 18), (RX2, TX2, 5), (RX3, TX3, 2), (RX4, TX4, 6), (RX7, TX7, 8), (RX8, TX8, 7), (RX9, TX9, 3), (RX11, TX11, 1), (RX12, TX12, 1), (RX13, TX13, 3), (RX15, TX15, 3), (RX16, TX16, 1), (RX17, TX17, 2), (RX18, TX18, 5), (RX19, TX19, 1), (RX20, TX20, 8), (RJ2, TJ2, 3)]
def og_aty : Nat → FieldType := fun k => match k with
  | 0 => .int
  | 1 => .long
  | 2 => .boolean
  | 3 => .byte
  | 4 => (.object "OpenGates$State")
  | 5 => (.object "OpenGates$Table")
  | _ => (.object "java/lang/Object")
def og_nfq : List (String × Nat × String × String × String) := [("OpenGates", 135, "OpenGates$Table", "men", "[I"), ("OpenGates", 138, "OpenGates$Table", "shown", "[I"), ("OpenGates", 177, "OpenGates$Table", "fame", "[I"), ("OpenGates", 141, "OpenGates$Table", "taken", "I"), ("OpenGates", 180, "OpenGates$Table", "day", "I"), ("OpenGates", 103, "OpenGates$State", "table", "LOpenGates$Table;"), ("OpenGates", 129, "OpenGates$State", "general", "[I"), ("OpenGates", 165, "OpenGates$State", "full", "[I"), ("OpenGates", 168, "OpenGates$State", "empty", "[I"), ("OpenGates", 171, "OpenGates$State", "price", "[I"), ("OpenGates", 174, "OpenGates$State", "roads", "[I"), ("OpenGates", 365, "OpenGates$State", "fires", "[I"), ("OpenGates", 371, "OpenGates$State", "needs", "[I"), ("OpenGates", 383, "OpenGates$State", "counts", "[I"), ("OpenGates", 351, "OpenGates$State", "sieges", "[I"), ("OpenGates", 209, "OpenGates$State", "laws", "Ljava/util/ArrayList;"), ("OpenGates", 112, "OpenGates$State", "forts", "I"), ("OpenGates", 362, "OpenGates$State", "fireMany", "I"), ("OpenGates", 380, "OpenGates$State", "countMany", "I"), ("OpenGates", 348, "OpenGates$State", "siegeMany", "I"), ("OpenGates", 183, "OpenGates$State", "prior", "I"), ("OpenGates", 186, "OpenGates$State", "mood", "I"), ("OpenGates", 240, "OpenGates$State", "force", "I"), ("OpenGates", 254, "OpenGates$Setting", "values", "[J"), ("OpenGates", 230, "OpenGates$LawReader", "clauses", "Ljava/util/ArrayList;"), ("OpenGates", 206, "OpenGates$Fault", "place", "I"), ("OpenGates", 420, "OpenGates$Order", "head", "I"), ("OpenGates", 423, "OpenGates$Order", "one", "LOpenGates$Sum;"), ("OpenGates", 430, "OpenGates$Order", "other", "LOpenGates$Sum;"), ("OpenGates", 403, "OpenGates$Order", "times", "I"), ("OpenGates", 398, "OpenGates$OrderReader", "orders", "Ljava/util/ArrayList;"), ("OpenGates$Value", 13, "OpenGates$Setting", "values", "[J"), ("OpenGates$Two", 26, "OpenGates$Setting", "broken", "LOpenGates$Broken;"), ("OpenGates$Law", 29, "OpenGates$Clause", "head", "I"), ("OpenGates$OrderReader", 47, "OpenGates$Order", "one", "LOpenGates$Sum;"), ("OpenGates$OrderReader", 61, "OpenGates$Order", "other", "LOpenGates$Sum;"), ("OpenGates$OrderReader", 73, "OpenGates$Order", "times", "I"), ("OpenGates$OrderReader", 82, "OpenGates$Order", "when", "LOpenGates$Test;"), ("OpenGates$Reader", 73, "OpenGates$Several", "of", "Ljava/util/ArrayList;"), ("OpenGates$LawReader", 47, "OpenGates$Clause", "sum", "LOpenGates$Sum;"), ("OpenGates$LawReader", 59, "OpenGates$Clause", "when", "LOpenGates$Test;")]
def og_nmq : List (String × Nat × MethodName) := [("OpenGates", 83, ⟨"OpenGates$Setting", "<init>", "()V"⟩), ("OpenGates$Number", 1, ⟨"OpenGates$Sum", "<init>", "()V"⟩), ("OpenGates$Value", 1, ⟨"OpenGates$Sum", "<init>", "()V"⟩), ("OpenGates$Two", 3, ⟨"OpenGates$Sum", "<init>", "()V"⟩), ("OpenGates$Compare", 1, ⟨"OpenGates$Test", "<init>", "()V"⟩), ("OpenGates$Not", 1, ⟨"OpenGates$Test", "<init>", "()V"⟩), ("OpenGates$Several", 1, ⟨"OpenGates$Test", "<init>", "()V"⟩), ("OpenGates$Table", 34, ⟨"OpenGates", "isOf", "(II)Z"⟩)]
def og_ndq : List MethodName := [⟨"java/lang/Object", "getClass", "()Ljava/lang/Class;"⟩, ⟨"java/lang/Throwable", "<init>", "()V"⟩, ⟨"java/lang/Throwable", "<init>", "(Ljava/lang/String;)V"⟩, ⟨"java/lang/Exception", "<init>", "()V"⟩, ⟨"java/lang/Exception", "<init>", "(Ljava/lang/String;)V"⟩, ⟨"OpenGates$Sum", "of", "(LOpenGates$Setting;)J"⟩, ⟨"OpenGates$Test", "is", "(LOpenGates$Setting;)Z"⟩, ⟨"OpenGates$Reader", "clause", "()V"⟩, ⟨"OpenGates$Reader", "is", "(Ljava/lang/String;)Z"⟩, ⟨"OpenGates$Reader", "begins", "(Z)V"⟩, ⟨"OpenGates$Reader", "next", "()V"⟩, ⟨"OpenGates$Reader", "sum", "()LOpenGates$Sum;"⟩, ⟨"OpenGates$Reader", "value", "()I"⟩, ⟨"OpenGates$Reader", "isValue", "(Ljava/lang/String;)Z"⟩, ⟨"OpenGates$Reader", "number", "(II)I"⟩, ⟨"OpenGates$Reader", "takes", "(Ljava/lang/String;)Z"⟩, ⟨"OpenGates$Reader", "test", "()LOpenGates$Test;"⟩, ⟨"OpenGates$Reader", "need", "(Ljava/lang/String;)V"⟩, ⟨"java/util/Collection", "toArray", "()[Ljava/lang/Object;"⟩]
def og_ncq : List (String × String) := [("java/util/ArrayList", "java/util/Collection"), ("java/util/ArrayList", "java/lang/Object"), ("java/lang/Throwable", "java/lang/Object"), ("java/lang/String", "java/lang/Object"), ("OpenGates", "java/lang/Object"), ("OpenGates$State", "java/lang/Object"), ("OpenGates$Number", "java/lang/Object"), ("OpenGates$Value", "java/lang/Object"), ("OpenGates$Two", "java/lang/Object"), ("OpenGates$Compare", "OpenGates$Test"), ("OpenGates$Compare", "java/lang/Object"), ("OpenGates$Not", "OpenGates$Test"), ("OpenGates$Not", "java/lang/Object"), ("OpenGates$Several", "OpenGates$Test"), ("OpenGates$Several", "java/lang/Object"), ("OpenGates$Order", "java/lang/Object"), ("OpenGates$Law", "java/lang/Object"), ("OpenGates$Table", "java/lang/Object"), ("OpenGates$OrderReader", "java/lang/Object"), ("OpenGates$Setting", "java/lang/Object"), ("OpenGates$Broken", "OpenGates$Broken"), ("OpenGates$Broken", "java/lang/Object"), ("OpenGatesModel", "java/lang/Object"), ("OpenGates$LawReader", "java/lang/Object"), ("OpenGates$Fault", "OpenGates$Fault"), ("OpenGates$Fault", "java/lang/Object"), ("OpenGates$Clause", "java/lang/Object"), ("[B", "java/lang/Object"), ("[I", "java/lang/Object"), ("[J", "java/lang/Object"), ("[LOpenGates$State;", "java/lang/Object"), ("[LOpenGates$Table;", "java/lang/Object"), ("[Ljava/lang/Object;", "java/lang/Object"), ("[Z", "java/lang/Object")]
def og_nwf : List Cond := og_nfq.map (fun q => Cond.fieldLinkNest q.1 q.2.1 q.2.2.1 q.2.2.2.1 q.2.2.2.2 "OpenGates")
def og_nwm : List Cond := og_nmq.map (fun q => Cond.methodLinkNest q.1 q.2.1 q.2.2 "OpenGates")
def og_nwd : List Cond := og_ndq.map (fun q => Cond.declares q)
def og_nwc : List Cond := og_ncq.map (fun q => Cond.castable q.1 q.2)
def og_nw : List Cond := og_nwf ++ (og_nwm ++ (og_nwd ++ og_nwc))
theorem og_inf {w : Cond} (i : Nat) (h : og_nwf[i]? = some w) : w ∈ og_nw := List.mem_append_left _ (List.mem_of_getElem? h)
theorem og_inm {w : Cond} (i : Nat) (h : og_nwm[i]? = some w) : w ∈ og_nw := List.mem_append_right _ (List.mem_append_left _ (List.mem_of_getElem? h))
theorem og_ind {w : Cond} (i : Nat) (h : og_nwd[i]? = some w) : w ∈ og_nw := List.mem_append_right _ (List.mem_append_right _ (List.mem_append_left _ (List.mem_of_getElem? h)))
theorem og_inc {w : Cond} (i : Nat) (h : og_nwc[i]? = some w) : w ∈ og_nw := List.mem_append_right _ (List.mem_append_right _ (List.mem_append_right _ (List.mem_of_getElem? h)))
def og_strs : List (String × Nat × String × List Int32) := [("OpenGates$OrderReader", 90, "day", [100, 97, 121]), ("OpenGates$OrderReader", 95, "done", [100, 111, 110, 101]), ("OpenGates$OrderReader", 97, "latest", [108, 97, 116, 101, 115, 116]), ("OpenGates$OrderReader", 99, "men", [109, 101, 110]), ("OpenGates$OrderReader", 101, "shown", [115, 104, 111, 119, 110]), ("OpenGates$OrderReader", 103, "fame", [102, 97, 109, 101]), ("OpenGates$OrderReader", 20, "show", [115, 104, 111, 119]), ("OpenGates$OrderReader", 26, "hide", [104, 105, 100, 101]), ("OpenGates$OrderReader", 28, "man", [109, 97, 110]), ("OpenGates$OrderReader", 30, "march", [109, 97, 114, 99, 104]), ("OpenGates$OrderReader", 51, "by", [98, 121]), ("OpenGates$OrderReader", 53, "to", [116, 111]), ("OpenGates$OrderReader", 55, "at", [97, 116]), ("OpenGates$OrderReader", 64, "times", [116, 105, 109, 101, 115]), ("OpenGates$OrderReader", 76, "if", [105, 102]), ("OpenGates$Reader", 152, "[", [91]), ("OpenGates$Reader", 154, "]", [93]), ("OpenGates$Reader", 143, "*", [42]), ("OpenGates$Reader", 145, "/", [47]), ("OpenGates$Reader", 147, "%", [37]), ("OpenGates$Reader", 133, "+", [43]), ("OpenGates$Reader", 135, "-", [45]), ("OpenGates$Reader", 91, "not", [110, 111, 116]), ("OpenGates$Reader", 101, "(", [40]), ("OpenGates$Reader", 109, ")", [41]), ("OpenGates$Reader", 119, "<", [60]), ("OpenGates$Reader", 121, ">", [62]), ("OpenGates$Reader", 123, "=", [61]), ("OpenGates$Reader", 86, "and", [97, 110, 100]), ("OpenGates$Reader", 66, "or", [111, 114]), ("OpenGates$Reader", 57, ";", [59]), ("OpenGates$LawReader", 20, "turns", [116, 117, 114, 110, 115]), ("OpenGates$LawReader", 26, "pays", [112, 97, 121, 115]), ("OpenGates$LawReader", 28, "fame", [102, 97, 109, 101]), ("OpenGates$LawReader", 30, "bars", [98, 97, 114, 115]), ("OpenGates$LawReader", 67, "fort", [102, 111, 114, 116]), ("OpenGates$LawReader", 72, "men", [109, 101, 110]), ("OpenGates$LawReader", 74, "general", [103, 101, 110, 101, 114, 97, 108]), ("OpenGates$LawReader", 76, "known", [107, 110, 111, 119, 110]), ("OpenGates$LawReader", 78, "sign", [115, 105, 103, 110]), ("OpenGates$LawReader", 80, "army", [97, 114, 109, 121]), ("OpenGates$LawReader", 82, "belief", [98, 101, 108, 105, 101, 102]), ("OpenGates$LawReader", 84, "end", [101, 110, 100]), ("OpenGates$LawReader", 86, "day", [100, 97, 121]), ("OpenGates$LawReader", 88, "mood", [109, 111, 111, 100]), ("OpenGates$LawReader", 50, "if", [105, 102])]
def og_tys (E : OgE) : List (ClassId × FieldType) := [(E.cA 0, og_aty 0), (E.cA 1, og_aty 1), (E.cA 2, og_aty 2), (E.cA 3, og_aty 3), (E.cA 4, og_aty 4), (E.cA 5, og_aty 5), (E.cA 6, og_aty 6)]
def OgCls (ci : Nat) : Prop := og_cl[ci]? = some (og_R ci, og_T ci, og_N ci) ∧ (∀ w ∈ u_ws (og_R ci) (og_T ci) (og_N ci), w ∈ lw_all) ∧ (∀ k, k < og_N ci → parseFieldDescriptor (og_T ci k).2.2.1 = some (og_ty ci k)) ∧ (∀ a, a < og_N ci → ∀ b, b < og_N ci → a ≠ b → (og_T ci a).2.1 ≠ (og_T ci b).2.1) ∧ ci < 99
theorem og_c0 : OgCls 0 := ⟨rfl, in_X5, tyX5_ok, nmX5, by decide⟩
theorem og_c1 : OgCls 1 := ⟨rfl, in_X0, tyX0_ok, nmX0, by decide⟩
theorem og_c2 : OgCls 2 := ⟨rfl, in_X1, tyX1_ok, nmX1, by decide⟩
theorem og_c3 : OgCls 3 := ⟨rfl, in_X2, tyX2_ok, nmX2, by decide⟩
theorem og_c4 : OgCls 4 := ⟨rfl, in_X3, tyX3_ok, nmX3, by decide⟩
theorem og_c5 : OgCls 5 := ⟨rfl, in_X4, tyX4_ok, nmX4, by decide⟩
theorem og_c6 : OgCls 6 := ⟨rfl, in_X7, tyX7_ok, nmX7, by decide⟩
theorem og_c7 : OgCls 7 := ⟨rfl, in_X8, tyX8_ok, nmX8, by decide⟩
theorem og_c8 : OgCls 8 := ⟨rfl, in_X9, tyX9_ok, nmX9, by decide⟩
theorem og_c9 : OgCls 9 := ⟨rfl, in_X11, tyX11_ok, nmX11, by decide⟩
theorem og_c10 : OgCls 10 := ⟨rfl, in_X12, tyX12_ok, nmX12, by decide⟩
theorem og_c11 : OgCls 11 := ⟨rfl, in_X13, tyX13_ok, nmX13, by decide⟩
theorem og_c12 : OgCls 12 := ⟨rfl, in_X15, tyX15_ok, nmX15, by decide⟩
theorem og_c13 : OgCls 13 := ⟨rfl, in_X16, tyX16_ok, nmX16, by decide⟩
theorem og_c14 : OgCls 14 := ⟨rfl, in_X17, tyX17_ok, nmX17, by decide⟩
theorem og_c15 : OgCls 15 := ⟨rfl, in_X18, tyX18_ok, nmX18, by decide⟩
theorem og_c16 : OgCls 16 := ⟨rfl, in_X19, tyX19_ok, nmX19, by decide⟩
theorem og_c17 : OgCls 17 := ⟨rfl, in_X20, tyX20_ok, nmX20, by decide⟩
theorem og_c18 : OgCls 18 := ⟨rfl, in_J2, tyJ2_ok, nmJ2, by decide⟩
/-- a field by its place in its class, as the constant pool of 'own' names it -/
def OgFld (own : String) (index ci k : Nat) : Prop := k < og_N ci ∧ (Cond.fieldLink own index (og_T ci k).1 (og_T ci k).2.1 (og_T ci k).2.2.1 ∈ lw_all ∨ Cond.fieldLinkNest own index (og_T ci k).1 (og_T ci k).2.1 (og_T ci k).2.2.1 "OpenGates" ∈ og_nw)
def og_obj (E : OgE) (S : OgM) (a ci : Nat) (H : Heap) : Prop := t_OB (E.b + a) (E.D.1 ci) (og_N ci) (E.D.2 ci) H (fun k => og_fv E.b S a k (og_ty ci k))
def og_arr (E : OgE) (S : OgM) (a ak n : Nat) (H : Heap) : Prop := H[E.b + a]? = some (arrV (E.cA ak) n (fun j => og_fv E.b S a j (og_aty ak)))
def og_ok (E : OgE) (S : OgM) (a : Nat) (H : Heap) : Prop := if (S.G a).1 < 100 then og_obj E S a ((S.G a).1 - 1) H else og_arr E S a ((S.G a).1 - 100) (S.G a).2 H
/-- the heap holds the memory -/
def OgRep (E : OgE) (S : OgM) (H : Heap) : Prop := (∀ a, (S.G a).1 ≠ 0 → og_ok E S a H ∧ E.A (E.b + a)) ∧ H.size = E.b + S.top ∧ ∀ a, S.top ≤ a → (S.G a).1 = 0
theorem OgRep.obj {E : OgE} {S : OgM} {H : Heap} (h : OgRep E S H) {a ci : Nat} (hG : (S.G a).1 = ci + 1) (hc : ci < 99) : og_obj E S a ci H := by
  have h1 := (h.1 a (by omega)).1
  unfold og_ok at h1
  rw [if_pos (by omega), hG] at h1
  exact h1
theorem OgRep.arr {E : OgE} {S : OgM} {H : Heap} (h : OgRep E S H) {a ak n : Nat} (hG : S.G a = (ak + 100, n)) : og_arr E S a ak n H := by
  have h1 := (h.1 a (by rw [hG]; exact Nat.succ_ne_zero _)).1
  unfold og_ok at h1
  rw [hG] at h1
  rw [if_neg (Nat.not_lt.mpr (Nat.le_add_left _ _))] at h1
  exact h1
theorem og_obj.same {E : OgE} {S S1 : OgM} {a ci : Nat} {H H1 : Heap} (h : og_obj E S a ci H) (hq : H1[E.b + a]? = H[E.b + a]?) (ho : ∀ k ty, og_fv E.b S1 a k ty = og_fv E.b S a k ty) : og_obj E S1 a ci H1 := by
  obtain ⟨cell, q1, q2, q3, q4⟩ := h
  exact ⟨cell, by rw [hq]; exact q1, q2, q3, fun k hk => by dsimp only; rw [ho]; exact q4 k hk⟩
theorem og_arr.same {E : OgE} {S S1 : OgM} {a ak n : Nat} {H H1 : Heap} (h : og_arr E S a ak n H) (hq : H1[E.b + a]? = H[E.b + a]?) (ho : ∀ k ty, og_fv E.b S1 a k ty = og_fv E.b S a k ty) : og_arr E S1 a ak n H1 := by
  unfold og_arr at h ⊢
  rw [hq, h]
  congr 2
  funext j
  exact (ho j _).symm
theorem OgRep.upd {E : OgE} {S S1 : OgM} {H H1 : Heap} (h : OgRep E S H) {a : Nat} (hg : S1.G = S.G) (ht : S1.top = S.top) (ho : ∀ x, x ≠ a → ∀ k ty, og_fv E.b S1 x k ty = og_fv E.b S x k ty) (hc : og_ok E S1 a H1) (hz : H1.size = H.size) (oq : ∀ q, q ≠ E.b + a → H1[q]? = H[q]?) : OgRep E S1 H1 := by
  refine ⟨fun x hx => ?_, by rw [hz, ht]; exact h.2.1, fun x hx => by rw [hg]; exact h.2.2 x (by rw [← ht]; exact hx)⟩
  rw [hg] at hx
  obtain ⟨h1, h2⟩ := h.1 x hx
  refine ⟨?_, h2⟩
  by_cases hxa : x = a
  · subst hxa
    exact hc
  · have hq := oq (E.b + x) (fun e => hxa (Nat.add_left_cancel e))
    unfold og_ok at h1 ⊢
    rw [hg]
    by_cases hl : (S.G x).1 < 100
    · rw [if_pos hl] at h1 ⊢
      exact h1.same hq (ho x hxa)
    · rw [if_neg hl] at h1 ⊢
      exact h1.same hq (ho x hxa)
/-- what the tables say beside lw_all: links to nest mates and the like -/
def OgN (U : State) : Prop := ∀ w ∈ og_nw, va_Nw w U
/-- what lies outside this side's cells: statics, texts -/
def og_str (A : Nat → Prop) (q v : Nat) (bs : List Int32) (U : State) (H : Heap) : Prop := va_O "java/lang/String" q A U H ∧ va_OF "java/lang/String" "coder" "B" (.int 0) q A U H ∧ va_OF "java/lang/String" "value" "[B" (.ref v) q A U H ∧ va_T .byte v bs.length (fun j => .int (bs.getD j 0)) A U H
theorem og_str.moved {A : Nat → Prop} {q v : Nat} {bs : List Int32} {u U : State} {H : Heap} (hvm : u.vm.Alike U.vm) (h : og_str A q v bs u H) : og_str A q v bs U H := by
  obtain ⟨h1, h2, h3, h4⟩ := h
  exact ⟨va_O.moved hvm h1, va_OF.moved hvm h2, va_OF.moved hvm h3, va_T.moved hvm h4⟩
theorem og_str.kept {A : Nat → Prop} {q v : Nat} {bs : List Int32} {U : State} {H H1 : Heap} (h : og_str A q v bs U H) (hq : ∀ a : Nat, a < H.size → ¬ A a → H1[a]? = H[a]?) : og_str A q v bs U H1 := by
  obtain ⟨h1, h2, h3, h4⟩ := h
  exact ⟨h1.kept hq, h2.kept hq, h3.kept hq, h4.kept hq⟩
def yColl : MethodName := ⟨"java/util/Collection", "toArray", "()[Ljava/lang/Object;"⟩
def yToA : MethodName := ⟨"java/util/ArrayList", "toArray", "()[Ljava/lang/Object;"⟩
theorem yColl_ok : yColl.cls ≠ "java/lang/invoke/MethodHandle" ∧ yColl.cls ≠ "java/lang/invoke/VarHandle" := by decide
def OgO (E : OgE) (U : State) (H : Heap) : Prop := (va_AO "java/lang/Object" U ∧ va_AO "OpenGates$State" U ∧ va_AO "OpenGates$Table" U ∧ va_Mi "[Ljava/lang/Object;" E.mi U ∧ va_Fw "java/util/ArrayList" yColl yToA U) ∧ (va_Z "java/lang/String" "COMPACT_STRINGS" "Z" (.int 1) E.A U H ∧ va_Zq "jdk/internal/util/Preconditions" "SIOOBE_FORMATTER" "Ljava/util/function/BiFunction;" E.A U H ∧ va_Zq "java/lang/Throwable" "UNASSIGNED_STACK" "[Ljava/lang/StackTraceElement;" E.A U H ∧ va_Zq "java/lang/Throwable" "SUPPRESSED_SENTINEL" "Ljava/util/List;" E.A U H) ∧ ∀ (i : Nat) (e : String × Nat × String × List Int32), og_strs[i]? = some e → vk_R e.1 e.2.1 e.2.2.1 (E.q i) U ∧ og_str E.A (E.q i) (E.v i) e.2.2.2 U H
theorem OgO.warm {E : OgE} {s U : State} {H : Heap} (hW : s.WarmedH U.vm) (h : OgO E s H) : OgO E U H := by
  obtain ⟨⟨a1, a2, a3, a4, a5⟩, ⟨b1, b2, b3, b4⟩, hs⟩ := h
  have hv := hW.alike
  refine ⟨⟨va_AO.moved hv a1, va_AO.moved hv a2, va_AO.moved hv a3, va_Mi.moved hv a4, va_Fw.moved yColl_ok hv a5⟩, ⟨va_Z.moved hv b1, va_Zq.moved hv b2, va_Zq.moved hv b3, va_Zq.moved hv b4⟩, fun i e he => ?_⟩
  obtain ⟨h1, h2⟩ := hs i e he
  exact ⟨vk_R.warm hW h1, h2.moved hv⟩
theorem OgO.kept {E : OgE} {U : State} {H H1 : Heap} (h : OgO E U H) (hq : ∀ a : Nat, a < H.size → ¬ E.A a → H1[a]? = H[a]?) : OgO E U H1 := by
  obtain ⟨ha, ⟨b1, b2, b3, b4⟩, hs⟩ := h
  refine ⟨ha, ⟨b1.kept hq, b2.kept hq, b3.kept hq, b4.kept hq⟩, fun i e he => ?_⟩
  obtain ⟨h1, h2⟩ := hs i e he
  exact ⟨h1, h2.kept hq⟩
theorem OgO.same {E : OgE} {u U : State} {H : Heap} (hv : U.vm = u.vm) (h : OgO E u H) : OgO E U H := by
  obtain ⟨⟨a1, a2, a3, a4, a5⟩, ⟨b1, b2, b3, b4⟩, hs⟩ := h
  have hv2 : u.vm.Alike U.vm := by rw [hv]; exact Vm.Alike.refl _
  refine ⟨⟨va_AO.moved hv2 a1, va_AO.moved hv2 a2, va_AO.moved hv2 a3, va_Mi.moved hv2 a4, va_Fw.moved yColl_ok hv2 a5⟩, ⟨va_Z.moved hv2 b1, va_Zq.moved hv2 b2, va_Zq.moved hv2 b3, va_Zq.moved hv2 b4⟩, fun i e he => ?_⟩
  obtain ⟨h1, h2⟩ := hs i e he
  exact ⟨vk_R.same hv h1, h2.moved hv2⟩
def OgR (E : OgE) (S : OgM) (U : State) : Prop := OgRep E S U.heap ∧ va_K E.D og_cl (og_tys E) U ∧ OgN U ∧ OgO E U U.heap
def OgX (p : Program) (s : State) (m : MethodId) (args : Array Value) (meth : Method) (c : Code) (cc : ByteArray) (nL : Nat) (own : String) (E : OgE) : Prop :=
  CallFix p m c cc nL s args lw_all own ∧ va_K E.D og_cl (og_tys E) s ∧ OgN s ∧ meth.locks = false ∧ OgO E s s.heap
theorem OgX.x {p : Program} {s : State} {m : MethodId} {args : Array Value} {meth : Method} {c : Code} {cc : ByteArray} {nL : Nat} {own : String} {E : OgE} (X : OgX p s m args meth c cc nL own E) : p.tables.exec = Jvm.exec := X.1.1
theorem OgX.b {p : Program} {s : State} {m : MethodId} {args : Array Value} {meth : Method} {c : Code} {cc : ByteArray} {nL : Nat} {own : String} {E : OgE} (X : OgX p s m args meth c cc nL own E) : c.code = cc := X.1.2.1
theorem OgX.o {p : Program} {s : State} {m : MethodId} {args : Array Value} {meth : Method} {c : Code} {cc : ByteArray} {nL : Nat} {own : String} {E : OgE} (X : OgX p s m args meth c cc nL own E) : s.vm.findClass own = some m.cls := X.1.2.2.2.1
theorem OgX.t {p : Program} {s : State} {m : MethodId} {args : Array Value} {meth : Method} {c : Code} {cc : ByteArray} {nL : Nat} {own : String} {E : OgE} (X : OgX p s m args meth c cc nL own E) : ∀ w ∈ lw_all, w.before args s = true := X.1.2.2.2.2
abbrev og_Pre (E : OgE) (S : OgM) (As : List Value) : Array Value → State → Prop := va_Pc As (fun U => OgR E S U)
abbrev og_Qi {τ : Type} (E : OgE) (em : τ → OgM) (Q : Int32 → τ → Prop) : Array Value → State → Outcome → State → Prop := va_Qi Q (fun σ t => OgRep E (em σ) t.heap) E.A
abbrev og_Ql {τ : Type} (E : OgE) (em : τ → OgM) (Q : Int64 → τ → Prop) : Array Value → State → Outcome → State → Prop := va_Ql Q (fun σ t => OgRep E (em σ) t.heap) E.A
abbrev og_Qv {τ : Type} (E : OgE) (em : τ → OgM) (Q : τ → Prop) : Array Value → State → Outcome → State → Prop := va_Qv Q (fun σ t => OgRep E (em σ) t.heap) E.A
abbrev og_rm (F L : Nat) : Room := { frames := F, cells := 0, slots := 0, locals := L }
theorem og_in {i : Int32} {n : Nat} (h : decide (i < 0 ∨ n ≤ i.toNatClampNeg) = false) : vp_in i n := of_decide_eq_false h
theorem og_le {a b : Nat} (h : Nat.ble a b = true) : a ≤ b := Nat.le_of_ble_eq_true h
/-- least fixed points: loops -/
def og_lp1 {α : Type} (B : (α → Prop) → α → Prop) (a : α) : Prop := ∀ P : α → Prop, (∀ a, B P a → P a) → P a
def og_lp2 {α β : Type} (B : (α → β → Prop) → α → β → Prop) (a : α) (b : β) : Prop := ∀ P : α → β → Prop, (∀ a b, B P a b → P a b) → P a b
def og_lp3 {α β γ : Type} (B : (α → β → γ → Prop) → α → β → γ → Prop) (a : α) (b : β) (c : γ) : Prop := ∀ P : α → β → γ → Prop, (∀ a b c, B P a b c → P a b c) → P a b c
def og_lp4 {α β γ δ : Type} (B : (α → β → γ → δ → Prop) → α → β → γ → δ → Prop) (a : α) (b : β) (c : γ) (d : δ) : Prop := ∀ P : α → β → γ → δ → Prop, (∀ a b c d, B P a b c d → P a b c d) → P a b c d
def og_lp5 {α β γ δ ε : Type} (B : (α → β → γ → δ → ε → Prop) → α → β → γ → δ → ε → Prop) (a : α) (b : β) (c : γ) (d : δ) (e : ε) : Prop := ∀ P : α → β → γ → δ → ε → Prop, (∀ a b c d e, B P a b c d e → P a b c d e) → P a b c d e
def og_lp6 {α β γ δ ε ζ : Type} (B : (α → β → γ → δ → ε → ζ → Prop) → α → β → γ → δ → ε → ζ → Prop) (a : α) (b : β) (c : γ) (d : δ) (e : ε) (f : ζ) : Prop := ∀ P : α → β → γ → δ → ε → ζ → Prop, (∀ a b c d e f, B P a b c d e f → P a b c d e f) → P a b c d e f
def og_lp7 {α β γ δ ε ζ η : Type} (B : (α → β → γ → δ → ε → ζ → η → Prop) → α → β → γ → δ → ε → ζ → η → Prop) (a : α) (b : β) (c : γ) (d : δ) (e : ε) (f : ζ) (g : η) : Prop := ∀ P : α → β → γ → δ → ε → ζ → η → Prop, (∀ a b c d e f g, B P a b c d e f g → P a b c d e f g) → P a b c d e f g
section Rows
variable {p : Program} {l : Launch} {e : Env} {R : Room} {s : State} {m : MethodId} {args : Array Value} {below : List Frame} {meth : Method} {c : Code} {H : Heap} {locs : List Loc} {cells slots : Nat} {Q : State → Prop}
variable {cc : ByteArray} {pc : Nat} {ls : Array Slot} {rest : List Value} {nL : Nat} {own : String} {E : OgE} {S : OgM} {H0 : Heap}
theorem og_get (X : OgX p s m args meth c cc nL own E) (hR : OgRep E S H) {index ci k a : Nat} (hC : OgCls ci) (hF : OgFld own index ci k) (hG : (S.G a).1 = ci + 1) {v : Value} (hv : og_fv E.b S a k (og_ty ci k) = v) (hd : decode cc pc = .ok (.getfield index, 3))
    (kk : W p l e R s m args below meth c H locs cells slots Q (F0 m (pc + 3) ls (v :: rest))) : W p l e R s m args below meth c H locs cells slots Q (F0 m pc ls (.ref (E.b + a) :: rest)) := by
  obtain ⟨⟨hx, hb, hml, hown, hts⟩, hK, hN, hlk, hO⟩ := X
  obtain ⟨hc, hin, hty, hnm, hlt⟩ := hC
  obtain ⟨hk, hlink⟩ := hF
  obtain ⟨cell, q1, q2, q3, q4⟩ := hR.obj hG hlt
  obtain ⟨hS, hfc, kC, hkC, hkind⟩ := hK.1 ci _ hc
  obtain ⟨cf, kf, fi, f, hi, hsl⟩ := hS k hk
  have hv2 : cell.slots[f.slot]? = some v := by
    rw [hsl, q4 k hk]
    exact congrArg some hv
  rcases hlink with hlink | hlink
  · exact W.getf hx hb hown (hts _ hlink) hi (u_facts hfc hkC (u_lays hts hin hk) hi).1 q1 (by rw [q3]; exact fun h => by cases h) (v := v) hv2 rfl rfl hd kk
  · exact va_Wgetf hx hb hown (va_Nw.use rfl (hN _ hlink)) hi (u_facts hfc hkC (u_lays hts hin hk) hi).1 q1 (by rw [q3]; exact fun h => by cases h) (v := v) hv2 rfl rfl hd kk
theorem og_apart (hts : ∀ w ∈ lw_all, w.before args s = true) (hK : va_K E.D og_cl (og_tys E) s) {ci : Nat} (hC : OgCls ci) : ∀ x y, x < og_N ci → y < og_N ci → x ≠ y → (E.D.2 ci) x ≠ (E.D.2 ci) y :=
  va_apart (own := "") hts hC.2.1 (og_ty ci) hC.2.2.1 hC.2.2.2.1 hK hC.1
/-- a field is put; S1 is the memory behind it -/
theorem og_put (X : OgX p s m args meth c cc nL own E) (hR : OgRep E S H) (hS0 : va_S E.A H0 H locs) {index ci k a : Nat} (hC : OgCls ci) (hF : OgFld own index ci k) (hfin : (og_T ci k).2.2.2 = false) (hG : (S.G a).1 = ci + 1) {v : Value} {S1 : OgM} (hn : narrow (og_ty ci k) v = v) (hfit : fits (og_ty ci k) v = true)
    (h1 : S1.G = S.G) (h2 : S1.top = S.top) (ho : ∀ x, x ≠ a → ∀ j ty, og_fv E.b S1 x j ty = og_fv E.b S x j ty) (hw : ∀ j, j < og_N ci → og_fv E.b S1 a j (og_ty ci j) = if j = k then v else og_fv E.b S a j (og_ty ci j)) (hd : decode cc pc = .ok (.putfield index, 3))
    (kk : ∀ (H1 : Heap) (locs1 : List Loc), OgRep E S1 H1 → va_S E.A H0 H1 locs1 → W p l e R s m args below meth c H1 locs1 cells slots Q (F0 m (pc + 3) ls rest)) : W p l e R s m args below meth c H locs cells slots Q (F0 m pc ls (v :: .ref (E.b + a) :: rest)) := by
  obtain ⟨⟨hx, hb, hml, hown, hts⟩, hK, hN, hlk, hO⟩ := X
  have hap := og_apart hts hK hC
  obtain ⟨hc, hin, hty, hnm, hlt⟩ := hC
  obtain ⟨hk, hlink⟩ := hF
  obtain ⟨cell, q1, q2, q3, q4⟩ := hR.obj hG hlt
  obtain ⟨hS, hfc, kC, hkC, hkind⟩ := hK.1 ci _ hc
  obtain ⟨cf, kf, fi, f, hi, hsl⟩ := hS k hk
  dsimp only at hsl hfc hi
  have hlay := hts _ (hin _ (u_in_lay hk))
  unfold u_lay at hlay
  rw [if_neg (by rw [hfin]; decide)] at hlay
  have hst := (u_facts hfc hkC (u_lays hts hin hk) hi).1
  have h6 := u_store hfc hkC hkind hlay hi (hty k hk) hn hfit
  have hA : E.A (E.b + a) := (hR.1 a (by omega)).2
  suffices hgo : ∀ H' : Heap, H'[E.b + a]? = some (cell.setSlot f.slot v) → H'.size = H.size → (∀ q, q ≠ E.b + a → H'[q]? = H[q]?) → W p l e R s m args below meth c H' (locs ++ [⟨E.b + a, f.slot⟩]) cells slots Q (F0 m (pc + 3) ls rest) by
    rcases hlink with hlink | hlink
    · exact W.putK hx hb (f := f) ⟨hown, hts _ hlink, ⟨_, _, _, hi⟩, hst⟩ (by rw [q2]; exact h6) q1 q3 (by rw [hsl]; exact k2_hasslot (q4 k hk)) rfl rfl hd hgo
    · exact va_WputK hx hb (f := f) hown (va_Nw.use rfl (hN _ hlink)) hi hst (by rw [q2]; exact h6) q1 q3 (by rw [hsl]; exact k2_hasslot (q4 k hk)) rfl rfl hd hgo
  intro H' e1 e2 e3
  rw [hsl] at e1 ⊢
  refine kk H' _ (hR.upd h1 h2 ho ?_ e2 e3) (hS0.put e2 e3 hA)
  unfold og_ok
  rw [h1, if_pos (by omega), hG, Nat.add_sub_cancel]
  refine ⟨_, e1, q2, q3, fun j hj => ?_⟩
  have h7 := t_set q4 hap hk v j hj
  rw [h7]
  show some (updV _ k v j) = some _
  congr 1
  dsimp only
  rw [hw j hj]
  rfl
theorem og_fvI {b : Nat} {S : OgM} {a k x j : Nat} {v : Int32} {ty : FieldType} (h : x ≠ a) : og_fv b (S.sI a k v) x j ty = og_fv b S x j ty := by
  have e : (S.sI a k v).I x = S.I x := og_up_ne _ _ _ h
  cases ty <;> first | rfl | (show Value.int ((S.sI a k v).I x j) = _; rw [e]; rfl)
theorem og_fvL {b : Nat} {S : OgM} {a k x j : Nat} {v : Int64} {ty : FieldType} (h : x ≠ a) : og_fv b (S.sL a k v) x j ty = og_fv b S x j ty := by
  have e : (S.sL a k v).L x = S.L x := og_up_ne _ _ _ h
  cases ty <;> first | rfl | (show Value.long ((S.sL a k v).L x j) = _; rw [e]; rfl)
theorem og_fvR {b : Nat} {S : OgM} {a k x j : Nat} {v : Option Nat} {ty : FieldType} (h : x ≠ a) : og_fv b (S.sR a k v) x j ty = og_fv b S x j ty := by
  have e : (S.sR a k v).R x = S.R x := og_up_ne _ _ _ h
  cases ty <;> first | rfl | (show og_rv b ((S.sR a k v).R x j) = _; rw [e]; rfl)
theorem og_sI_at (S : OgM) (a k : Nat) (v : Int32) (j : Nat) : (S.sI a k v).I a j = if j = k then v else S.I a j := by
  show og_up S.I a k v a j = _
  rw [og_up_eq]
theorem og_sL_at (S : OgM) (a k : Nat) (v : Int64) (j : Nat) : (S.sL a k v).L a j = if j = k then v else S.L a j := by
  show og_up S.L a k v a j = _
  rw [og_up_eq]
theorem og_sR_at (S : OgM) (a k : Nat) (v : Option Nat) (j : Nat) : (S.sR a k v).R a j = if j = k then v else S.R a j := by
  show og_up S.R a k v a j = _
  rw [og_up_eq]
/-- is a field or element of this type kept among the ints -/
def og_isI (ty : FieldType) : Bool := match ty with
  | .long => false
  | .object _ => false
  | .array _ => false
  | _ => true
theorem og_fv_I {b : Nat} {S : OgM} {a k : Nat} {ty : FieldType} (h : og_isI ty = true) : og_fv b S a k ty = .int (S.I a k) := by
  cases ty <;> first | rfl | cases h
theorem og_fv_sI {b : Nat} {S : OgM} {a k j : Nat} {v : Int32} {ty : FieldType} (h : j = k → og_isI ty = true) : og_fv b (S.sI a k v) a j ty = if j = k then .int v else og_fv b S a j ty := by
  by_cases hj : j = k
  · rw [if_pos hj, og_fv_I (h hj), og_sI_at, if_pos hj]
  · rw [if_neg hj]
    cases ty <;> first | rfl | (show Value.int ((S.sI a k v).I a j) = _; rw [og_sI_at, if_neg hj]; rfl)
theorem og_fv_sL {b : Nat} {S : OgM} {a k j : Nat} {v : Int64} {ty : FieldType} (h : j = k → ty = .long) : og_fv b (S.sL a k v) a j ty = if j = k then .long v else og_fv b S a j ty := by
  by_cases hj : j = k
  · rw [if_pos hj, h hj]
    show Value.long ((S.sL a k v).L a j) = _
    rw [og_sL_at, if_pos hj]
  · rw [if_neg hj]
    cases ty <;> first | rfl | (show Value.long ((S.sL a k v).L a j) = _; rw [og_sL_at, if_neg hj]; rfl)
def og_isR (ty : FieldType) : Bool := match ty with
  | .object _ => true
  | .array _ => true
  | _ => false
theorem og_fv_R {b : Nat} {S : OgM} {a k : Nat} {ty : FieldType} (h : og_isR ty = true) : og_fv b S a k ty = og_rv b (S.R a k) := by
  cases ty <;> first | rfl | cases h
theorem og_fv_sR {b : Nat} {S : OgM} {a k j : Nat} {v : Option Nat} {ty : FieldType} (h : j = k → og_isR ty = true) : og_fv b (S.sR a k v) a j ty = if j = k then og_rv b v else og_fv b S a j ty := by
  by_cases hj : j = k
  · rw [if_pos hj, og_fv_R (h hj), og_sR_at, if_pos hj]
  · rw [if_neg hj]
    cases ty <;> first | rfl | (show og_rv b ((S.sR a k v).R a j) = _; rw [og_sR_at, if_neg hj]; rfl)
variable {τ : Type} {em : τ → OgM} {σ : τ}
theorem og_puti (X : OgX p s m args meth c cc nL own E) (hR : OgRep E (em σ) H) (hS0 : va_S E.A H0 H locs) {index ci k a : Nat} (up : τ) {x : Int32} (hC : OgCls ci) (hF : OgFld own index ci k) (hfin : (og_T ci k).2.2.2 = false) (hG : ((em σ).G a).1 = ci + 1) (hty : og_ty ci k = .int) (hup : em up = (em σ).sI a k x) (hd : decode cc pc = .ok (.putfield index, 3))
    (kk : ∀ (σ1 : τ) (H1 : Heap) (locs1 : List Loc), σ1 = up → OgRep E (em σ1) H1 → va_S E.A H0 H1 locs1 → W p l e R s m args below meth c H1 locs1 cells slots Q (F0 m (pc + 3) ls rest)) : W p l e R s m args below meth c H locs cells slots Q (F0 m pc ls (.int x :: .ref (E.b + a) :: rest)) := by
  refine og_put X hR hS0 hC hF hfin hG (S1 := (em σ).sI a k x) (by rw [hty]; rfl) (by rw [hty]; rfl) rfl rfl (fun y hy j ty => og_fvI hy) (fun j _ => og_fv_sI fun q => by rw [q, hty]; rfl) hd fun H1 locs1 h1 h2 => ?_
  rw [← hup] at h1
  exact kk up H1 locs1 rfl h1 h2
theorem og_putz (X : OgX p s m args meth c cc nL own E) (hR : OgRep E (em σ) H) (hS0 : va_S E.A H0 H locs) {index ci k a : Nat} (up : τ) {x : Int32} (hz : x = 0 ∨ x = 1) (hC : OgCls ci) (hF : OgFld own index ci k) (hfin : (og_T ci k).2.2.2 = false) (hG : ((em σ).G a).1 = ci + 1) (hty : og_ty ci k = .boolean) (hup : em up = (em σ).sI a k x) (hd : decode cc pc = .ok (.putfield index, 3))
    (kk : ∀ (σ1 : τ) (H1 : Heap) (locs1 : List Loc), σ1 = up → OgRep E (em σ1) H1 → va_S E.A H0 H1 locs1 → W p l e R s m args below meth c H1 locs1 cells slots Q (F0 m (pc + 3) ls rest)) : W p l e R s m args below meth c H locs cells slots Q (F0 m pc ls (.int x :: .ref (E.b + a) :: rest)) := by
  refine og_put X hR hS0 hC hF hfin hG (S1 := (em σ).sI a k x) (by rw [hty]; rcases hz with h | h <;> rw [h] <;> rfl) (by rw [hty]; rcases hz with h | h <;> rw [h] <;> rfl) rfl rfl (fun y hy j ty => og_fvI hy) (fun j _ => og_fv_sI fun q => by rw [q, hty]; rfl) hd fun H1 locs1 h1 h2 => ?_
  rw [← hup] at h1
  exact kk up H1 locs1 rfl h1 h2
theorem og_putl (X : OgX p s m args meth c cc nL own E) (hR : OgRep E (em σ) H) (hS0 : va_S E.A H0 H locs) {index ci k a : Nat} (up : τ) {x : Int64} (hC : OgCls ci) (hF : OgFld own index ci k) (hfin : (og_T ci k).2.2.2 = false) (hG : ((em σ).G a).1 = ci + 1) (hty : og_ty ci k = .long) (hup : em up = (em σ).sL a k x) (hd : decode cc pc = .ok (.putfield index, 3))
    (kk : ∀ (σ1 : τ) (H1 : Heap) (locs1 : List Loc), σ1 = up → OgRep E (em σ1) H1 → va_S E.A H0 H1 locs1 → W p l e R s m args below meth c H1 locs1 cells slots Q (F0 m (pc + 3) ls rest)) : W p l e R s m args below meth c H locs cells slots Q (F0 m pc ls (.long x :: .ref (E.b + a) :: rest)) := by
  refine og_put X hR hS0 hC hF hfin hG (S1 := (em σ).sL a k x) (by rw [hty]; rfl) (by rw [hty]; rfl) rfl rfl (fun y hy j ty => og_fvL hy) (fun j _ => og_fv_sL fun q => by rw [q, hty]) hd fun H1 locs1 h1 h2 => ?_
  rw [← hup] at h1
  exact kk up H1 locs1 rfl h1 h2
theorem og_putr (X : OgX p s m args meth c cc nL own E) (hR : OgRep E (em σ) H) (hS0 : va_S E.A H0 H locs) {index ci k a : Nat} (up : τ) (o : Option Nat) (hC : OgCls ci) (hF : OgFld own index ci k) (hfin : (og_T ci k).2.2.2 = false) (hG : ((em σ).G a).1 = ci + 1) (hty : og_isR (og_ty ci k) = true) (hup : em up = (em σ).sR a k o) (hd : decode cc pc = .ok (.putfield index, 3))
    (kk : ∀ (σ1 : τ) (H1 : Heap) (locs1 : List Loc), σ1 = up → OgRep E (em σ1) H1 → va_S E.A H0 H1 locs1 → W p l e R s m args below meth c H1 locs1 cells slots Q (F0 m (pc + 3) ls rest)) : W p l e R s m args below meth c H locs cells slots Q (F0 m pc ls (og_rv E.b o :: .ref (E.b + a) :: rest)) := by
  refine og_put X hR hS0 hC hF hfin hG (S1 := (em σ).sR a k o) (by cases ht : og_ty ci k <;> rw [ht] at hty <;> cases hty <;> cases o <;> rfl) (by cases ht : og_ty ci k <;> rw [ht] at hty <;> cases hty <;> cases o <;> rfl) rfl rfl (fun y hy j ty => og_fvR hy) (fun j _ => og_fv_sR fun q => by rw [q]; exact hty) hd fun H1 locs1 h1 h2 => ?_
  rw [← hup] at h1
  exact kk up H1 locs1 rfl h1 h2
theorem og_iald (X : OgX p s m args meth c cc nL own E) (hR : OgRep E S H) {a n : Nat} {i : Int32} (j : Nat) (hj : i.toNatClampNeg = j) (hG : S.G a = (100, n)) (hin : vp_in i n) (hd : decode cc pc = .ok (.iaload, 1))
    (kk : W p l e R s m args below meth c H locs cells slots Q (F0 m (pc + 1) ls (.int (S.I a j) :: rest))) : W p l e R s m args below meth c H locs cells slots Q (F0 m pc ls (.int i :: .ref (E.b + a) :: rest)) := by
  subst hj
  obtain ⟨⟨hx, hb, hml, hown, hts⟩, hK, hN, hlk, hO⟩ := X
  have hlt : i.toNatClampNeg < n := Nat.not_le.mp fun q => hin (Or.inr q)
  exact W.iald (v := .int (S.I a i.toNatClampNeg)) hx hb (hR.arr (ak := 0) hG) ((hK.2 0 _ rfl).1 n _) (fun q => by cases q) (by rw [arrV_size]; exact hin) (by rw [arrV_read _ _ hlt]; rfl) rfl rfl hd kk
theorem og_lald (X : OgX p s m args meth c cc nL own E) (hR : OgRep E S H) {a n : Nat} {i : Int32} (j : Nat) (hj : i.toNatClampNeg = j) (hG : S.G a = (101, n)) (hin : vp_in i n) (hd : decode cc pc = .ok (.laload, 1))
    (kk : W p l e R s m args below meth c H locs cells slots Q (F0 m (pc + 1) ls (.long (S.L a j) :: rest))) : W p l e R s m args below meth c H locs cells slots Q (F0 m pc ls (.int i :: .ref (E.b + a) :: rest)) := by
  subst hj
  obtain ⟨⟨hx, hb, hml, hown, hts⟩, hK, hN, hlk, hO⟩ := X
  have hlt : i.toNatClampNeg < n := Nat.not_le.mp fun q => hin (Or.inr q)
  exact W.lald (v := .long (S.L a i.toNatClampNeg)) hx hb (hR.arr (ak := 1) hG) ((hK.2 1 _ rfl).1 n _) (fun q => by cases q) (by rw [arrV_size]; exact hin) (by rw [arrV_read _ _ hlt]; rfl) rfl rfl hd kk
theorem og_zald (X : OgX p s m args meth c cc nL own E) (hR : OgRep E S H) {a n : Nat} {i : Int32} (j : Nat) (hj : i.toNatClampNeg = j) (hG : S.G a = (102, n)) (hin : vp_in i n) (hd : decode cc pc = .ok (.baload, 1))
    (kk : W p l e R s m args below meth c H locs cells slots Q (F0 m (pc + 1) ls (.int (S.I a j) :: rest))) : W p l e R s m args below meth c H locs cells slots Q (F0 m pc ls (.int i :: .ref (E.b + a) :: rest)) := by
  subst hj
  obtain ⟨⟨hx, hb, hml, hown, hts⟩, hK, hN, hlk, hO⟩ := X
  have hlt : i.toNatClampNeg < n := Nat.not_le.mp fun q => hin (Or.inr q)
  exact W.zald (v := .int (S.I a i.toNatClampNeg)) hx hb (hR.arr (ak := 2) hG) ((hK.2 2 _ rfl).1 n _) (fun q => by cases q) (by rw [arrV_size]; exact hin) (by rw [arrV_read _ _ hlt]; rfl) rfl rfl hd kk
theorem og_bald (X : OgX p s m args meth c cc nL own E) (hR : OgRep E S H) {a n : Nat} {i : Int32} (j : Nat) (hj : i.toNatClampNeg = j) (hG : S.G a = (103, n)) (hin : vp_in i n) (hd : decode cc pc = .ok (.baload, 1))
    (kk : W p l e R s m args below meth c H locs cells slots Q (F0 m (pc + 1) ls (.int (S.I a j) :: rest))) : W p l e R s m args below meth c H locs cells slots Q (F0 m pc ls (.int i :: .ref (E.b + a) :: rest)) := by
  subst hj
  obtain ⟨⟨hx, hb, hml, hown, hts⟩, hK, hN, hlk, hO⟩ := X
  have hlt : i.toNatClampNeg < n := Nat.not_le.mp fun q => hin (Or.inr q)
  exact W.bald (v := .int (S.I a i.toNatClampNeg)) hx hb (hR.arr (ak := 3) hG) ((hK.2 3 _ rfl).1 n _) (fun q => by cases q) (by rw [arrV_size]; exact hin) (by rw [arrV_read _ _ hlt]; rfl) rfl rfl hd kk
/-- the memory behind an array's store -/
theorem og_arrput {ak n a j : Nat} {S1 : OgM} {v : Value} {H1 : Heap} (hR : OgRep E S H) (hS0 : va_S E.A H0 H locs) (hG : S.G a = (ak + 100, n)) (h1 : S1.G = S.G) (h2 : S1.top = S.top) (ho : ∀ x, x ≠ a → ∀ j ty, og_fv E.b S1 x j ty = og_fv E.b S x j ty) (hw : ∀ i, og_fv E.b S1 a i (og_aty ak) = if i = j then v else og_fv E.b S a i (og_aty ak))
    (e1 : H1[E.b + a]? = some ((arrV (E.cA ak) n (fun j => og_fv E.b S a j (og_aty ak))).setSlot j v)) (e2 : H1.size = H.size) (e3 : ∀ q, q ≠ E.b + a → H1[q]? = H[q]?) : OgRep E S1 H1 ∧ va_S E.A H0 H1 (locs ++ [⟨E.b + a, j⟩]) := by
  have hA : E.A (E.b + a) := (hR.1 a (by rw [hG]; exact Nat.succ_ne_zero _)).2
  refine ⟨hR.upd h1 h2 ho ?_ e2 e3, hS0.put e2 e3 hA⟩
  unfold og_ok
  rw [h1, hG, if_neg (Nat.not_lt.mpr (Nat.le_add_left _ _))]
  show H1[E.b + a]? = some (arrV (E.cA (ak + 100 - 100)) n _)
  rw [e1, arrV_store, Nat.add_sub_cancel]
  congr 2
  funext q
  rw [hw q]
  rfl
theorem og_iast (X : OgX p s m args meth c cc nL own E) (hR : OgRep E (em σ) H) (hS0 : va_S E.A H0 H locs) {a n : Nat} {i x : Int32} (up : τ) (j : Nat) (hj : i.toNatClampNeg = j) (hG : (em σ).G a = (100, n)) (hin : vp_in i n) (hup : em up = (em σ).sI a j x) (hd : decode cc pc = .ok (.iastore, 1))
    (kk : ∀ (σ1 : τ) (H1 : Heap) (locs1 : List Loc), σ1 = up → OgRep E (em σ1) H1 → va_S E.A H0 H1 locs1 → W p l e R s m args below meth c H1 locs1 cells slots Q (F0 m (pc + 1) ls rest)) : W p l e R s m args below meth c H locs cells slots Q (F0 m pc ls (.int x :: .int i :: .ref (E.b + a) :: rest)) := by
  subst hj
  obtain ⟨⟨hx, hb, hml, hown, hts⟩, hK, hN, hlk, hO⟩ := X
  refine W.iast hx hb (hR.arr (ak := 0) hG) ((hK.2 0 _ rfl).1 n _) (fun q => by cases q) (by rw [arrV_size]; exact hin) rfl rfl hd fun H1 e1 z oq => ?_
  obtain ⟨h1, h2⟩ := og_arrput (ak := 0) (S1 := (em σ).sI a i.toNatClampNeg x) hR hS0 hG rfl rfl (fun y hy j ty => og_fvI hy) (fun j => og_fv_sI fun _ => rfl) e1 z oq
  rw [← hup] at h1
  exact kk up H1 _ rfl h1 h2
theorem og_last (X : OgX p s m args meth c cc nL own E) (hR : OgRep E (em σ) H) (hS0 : va_S E.A H0 H locs) {a n : Nat} {i : Int32} {x : Int64} (up : τ) (j : Nat) (hj : i.toNatClampNeg = j) (hG : (em σ).G a = (101, n)) (hin : vp_in i n) (hup : em up = (em σ).sL a j x) (hd : decode cc pc = .ok (.lastore, 1))
    (kk : ∀ (σ1 : τ) (H1 : Heap) (locs1 : List Loc), σ1 = up → OgRep E (em σ1) H1 → va_S E.A H0 H1 locs1 → W p l e R s m args below meth c H1 locs1 cells slots Q (F0 m (pc + 1) ls rest)) : W p l e R s m args below meth c H locs cells slots Q (F0 m pc ls (.long x :: .int i :: .ref (E.b + a) :: rest)) := by
  subst hj
  obtain ⟨⟨hx, hb, hml, hown, hts⟩, hK, hN, hlk, hO⟩ := X
  refine W.last hx hb (hR.arr (ak := 1) hG) ((hK.2 1 _ rfl).1 n _) (fun q => by cases q) (by rw [arrV_size]; exact hin) rfl rfl hd fun H1 e1 z oq => ?_
  obtain ⟨h1, h2⟩ := og_arrput (ak := 1) (S1 := (em σ).sL a i.toNatClampNeg x) hR hS0 hG rfl rfl (fun y hy j ty => og_fvL hy) (fun j => og_fv_sL fun _ => rfl) e1 z oq
  rw [← hup] at h1
  exact kk up H1 _ rfl h1 h2
theorem og_zast (X : OgX p s m args meth c cc nL own E) (hR : OgRep E (em σ) H) (hS0 : va_S E.A H0 H locs) {a n : Nat} {i x : Int32} (up : τ) (hz : x = 0 ∨ x = 1) (j : Nat) (hj : i.toNatClampNeg = j) (hG : (em σ).G a = (102, n)) (hin : vp_in i n) (hup : em up = (em σ).sI a j x) (hd : decode cc pc = .ok (.bastore, 1))
    (kk : ∀ (σ1 : τ) (H1 : Heap) (locs1 : List Loc), σ1 = up → OgRep E (em σ1) H1 → va_S E.A H0 H1 locs1 → W p l e R s m args below meth c H1 locs1 cells slots Q (F0 m (pc + 1) ls rest)) : W p l e R s m args below meth c H locs cells slots Q (F0 m pc ls (.int x :: .int i :: .ref (E.b + a) :: rest)) := by
  subst hj
  obtain ⟨⟨hx, hb, hml, hown, hts⟩, hK, hN, hlk, hO⟩ := X
  refine W.zast hx hb (hR.arr (ak := 2) hG) ((hK.2 2 _ rfl).1 n _) (fun q => by cases q) (by rw [arrV_size]; exact hin) rfl rfl hd fun H1 e1 z oq => ?_
  rw [show narrow .boolean (.int x) = .int x by rcases hz with h | h <;> rw [h] <;> rfl] at e1
  obtain ⟨h1, h2⟩ := og_arrput (ak := 2) (S1 := (em σ).sI a i.toNatClampNeg x) hR hS0 hG rfl rfl (fun y hy j ty => og_fvI hy) (fun j => og_fv_sI fun _ => rfl) e1 z oq
  rw [← hup] at h1
  exact kk up H1 _ rfl h1 h2
theorem og_bast (X : OgX p s m args meth c cc nL own E) (hR : OgRep E (em σ) H) (hS0 : va_S E.A H0 H locs) {a n : Nat} {i x : Int32} (up : τ) (j : Nat) (hj : i.toNatClampNeg = j) (hG : (em σ).G a = (103, n)) (hin : vp_in i n) (hup : em up = (em σ).sI a j x.toInt8.toInt32) (hd : decode cc pc = .ok (.bastore, 1))
    (kk : ∀ (σ1 : τ) (H1 : Heap) (locs1 : List Loc), σ1 = up → OgRep E (em σ1) H1 → va_S E.A H0 H1 locs1 → W p l e R s m args below meth c H1 locs1 cells slots Q (F0 m (pc + 1) ls rest)) : W p l e R s m args below meth c H locs cells slots Q (F0 m pc ls (.int x :: .int i :: .ref (E.b + a) :: rest)) := by
  subst hj
  obtain ⟨⟨hx, hb, hml, hown, hts⟩, hK, hN, hlk, hO⟩ := X
  refine W.bast hx hb (hR.arr (ak := 3) hG) ((hK.2 3 _ rfl).1 n _) (fun q => by cases q) (by rw [arrV_size]; exact hin) rfl rfl hd fun H1 e1 z oq => ?_
  obtain ⟨h1, h2⟩ := og_arrput (ak := 3) (S1 := (em σ).sI a i.toNatClampNeg x.toInt8.toInt32) hR hS0 hG rfl rfl (fun y hy j ty => og_fvI hy) (fun j => og_fv_sI fun _ => rfl) e1 z oq
  rw [← hup] at h1
  exact kk up H1 _ rfl h1 h2
theorem og_alen (X : OgX p s m args meth c cc nL own E) (hR : OgRep E S H) {a n ak : Nat} {v : Int32} (hak : ak < 7) (hG : S.G a = (ak + 100, n)) (hv : Int32.ofNat n = v) (hd : decode cc pc = .ok (.arraylength, 1))
    (kk : W p l e R s m args below meth c H locs cells slots Q (F0 m (pc + 1) ls (.int v :: rest))) : W p l e R s m args below meth c H locs cells slots Q (F0 m pc ls (.ref (E.b + a) :: rest)) := by
  obtain ⟨⟨hx, hb, hml, hown, hts⟩, hK, hN, hlk, hO⟩ := X
  have ht : (og_tys E)[ak]? = some (E.cA ak, og_aty ak) := by
    rcases (show ak = 0 ∨ ak = 1 ∨ ak = 2 ∨ ak = 3 ∨ ak = 4 ∨ ak = 5 ∨ ak = 6 by omega) with h | h | h | h | h | h | h <;> subst h <;> rfl
  exact W.alen hx hb (hR.arr hG) ((hK.2 ak _ ht).1 n _) (by rw [arrV_size]; exact hv) rfl rfl hd kk
/-- ends -/
theorem og_ireti {Qr : Int32 → τ → Prop} {v : Int32} (X : OgX p s m args meth c cc nL own E) (hr : meth.sig.returnType = some .int) (hR : OgRep E (em σ) H) (hS : va_S E.A s.heap H locs) (hq : Qr v σ) (hd : decode cc pc = .ok (.ireturn, 1)) : W p l e R s m args below meth c H locs cells slots (MQ below (og_Qi E em Qr) args s cells slots E.A) (F0 m pc ls [.int v]) :=
  W.iret X.1.1 X.1.2.1 hr (fun t ht _ => ⟨⟨v, σ, rfl, hq, by show OgRep E (em σ) t.heap; rw [ht]; exact hR⟩, hS.F ht⟩) hS.2.2 hd X.2.2.2.1
theorem og_iretz {Qr : Int32 → τ → Prop} {v : Int32} (X : OgX p s m args meth c cc nL own E) (hr : meth.sig.returnType = some .boolean) (hR : OgRep E (em σ) H) (hS : va_S E.A s.heap H locs) (hq : (v = 0 ∨ v = 1) ∧ Qr v σ) (hd : decode cc pc = .ok (.ireturn, 1)) : W p l e R s m args below meth c H locs cells slots (MQ below (og_Qi E em Qr) args s cells slots E.A) (F0 m pc ls [.int v]) :=
  W.zret X.1.1 X.1.2.1 hr (by rcases hq.1 with h | h <;> rw [h] <;> rfl) (fun t ht _ => ⟨⟨v, σ, rfl, hq.2, by show OgRep E (em σ) t.heap; rw [ht]; exact hR⟩, hS.F ht⟩) hS.2.2 hd X.2.2.2.1
theorem og_lret {Qr : Int64 → τ → Prop} {v : Int64} (X : OgX p s m args meth c cc nL own E) (hr : meth.sig.returnType = some .long) (hR : OgRep E (em σ) H) (hS : va_S E.A s.heap H locs) (hq : Qr v σ) (hd : decode cc pc = .ok (.lreturn, 1)) : W p l e R s m args below meth c H locs cells slots (MQ below (og_Ql E em Qr) args s cells slots E.A) (F0 m pc ls [.long v]) :=
  W.lret X.1.1 X.1.2.1 hr (fun t ht _ => ⟨⟨v, σ, rfl, hq, by show OgRep E (em σ) t.heap; rw [ht]; exact hR⟩, hS.F ht⟩) hS.2.2 hd X.2.2.2.1
theorem og_vret {Qr : τ → Prop} (X : OgX p s m args meth c cc nL own E) (hr : meth.sig.returnType = none) (hR : OgRep E (em σ) H) (hS : va_S E.A s.heap H locs) (hq : Qr σ) (hd : decode cc pc = .ok (.return_, 1)) : W p l e R s m args below meth c H locs cells slots (MQ below (og_Qv E em Qr) args s cells slots E.A) (F0 m pc ls []) :=
  W.vret X.1.1 X.1.2.1 hr (fun t ht _ => ⟨⟨σ, rfl, hq, by show OgRep E (em σ) t.heap; rw [ht]; exact hR⟩, hS.F ht⟩) hS.2.2 hd X.2.2.2.1
/-- calls -/
theorem og_blind {E : OgE} {S : OgM} {As : List Value} (hN : ∀ (U : State) (g : JFrame) (mk : MethodId) (a : Array Value), OgN U → OgN (U.calling g mk a)) : FrameBlind (og_Pre E S As) := by
  intro a U g mk h
  obtain ⟨h1, h2, h3, h4, h5⟩ := h
  exact ⟨h1, h2, va_K.moved (u := U) (U := U.calling g mk a) (Vm.Alike.refl U.vm) h3, hN U g mk a h4, OgO.same (u := U) (U := U.calling g mk a) rfl h5⟩
end Rows
theorem OgN.same {u U : State} (h : u.vm = U.vm) (hN : OgN u) : OgN U := by
  intro w hw
  refine va_Nw.same ?_ h (hN w hw)
  rcases List.mem_append.mp hw with h1 | h1
  · obtain ⟨q, -, rfl⟩ := List.mem_map.mp h1
    rfl
  rcases List.mem_append.mp h1 with h1 | h1
  · obtain ⟨q, -, rfl⟩ := List.mem_map.mp h1
    rfl
  rcases List.mem_append.mp h1 with h1 | h1
  · obtain ⟨q, -, rfl⟩ := List.mem_map.mp h1
    rfl
  · obtain ⟨q, -, rfl⟩ := List.mem_map.mp h1
    rfl
theorem OgN.warm {s U : State} (hW : s.WarmedH U.vm) (hN : OgN s) : OgN U := by
  intro w hw
  have h2 := hN w hw
  rcases List.mem_append.mp hw with h1 | h1
  · obtain ⟨q, -, rfl⟩ := List.mem_map.mp h1
    exact va_Nw.warmF hW h2
  rcases List.mem_append.mp h1 with h1 | h1
  · obtain ⟨q, -, rfl⟩ := List.mem_map.mp h1
    exact va_Nw.warmM hW h2
  rcases List.mem_append.mp h1 with h1 | h1
  · obtain ⟨q, -, rfl⟩ := List.mem_map.mp h1
    exact va_Nw.warmD hW h2
  · obtain ⟨q, -, rfl⟩ := List.mem_map.mp h1
    exact va_Nw.warmC hW h2
section Calls
variable {p : Program} {l : Launch} {e : Env} {R : Room} {s : State} {m : MethodId} {args : Array Value} {below : List Frame} {meth : Method} {c : Code} {H : Heap} {locs : List Loc} {cells slots : Nat} {Qf : State → Prop}
variable {cc : ByteArray} {pc : Nat} {ls : Array Slot} {rest st As : List Value} {nL : Nat} {own : String} {E : OgE} {S : OgM} {H0 : Heap} {τ : Type} {em : τ → OgM}
variable {y : MethodName} {bytes : ByteArray} {maxL index n : Nat} {rm : Room} {ret : Option FieldType}
theorem og_pre (X : OgX p s m args meth c cc nL own E) (hR : OgRep E S H) (hS : va_S E.A s.heap H locs) (As : List Value) : PreS s H (og_Pre E S As) As :=
  ⟨og_blind fun U g mk a h => OgN.same (u := U) (U := U.calling g mk a) rfl h, fun U hU hW => ⟨rfl, by rw [hU]; exact hR, va_K.moved hW.alike X.2.1, X.2.2.1.warm hW, by rw [hU]; exact (X.2.2.2.2.warm hW).kept hS.2.1⟩⟩
theorem og_recv (X : OgX p s m args meth c cc nL own E) (hR : OgRep E S H) {a ci : Nat} (hC : OgCls ci) (hG : (S.G a).1 = ci + 1) : ∃ cell : Cell, H[E.b + a]? = some cell ∧ cell.vm.isStatics = false ∧ s.vm.findClass (og_R ci) = some cell.cls := by
  obtain ⟨cell, q1, q2, q3, q4⟩ := hR.obj hG hC.2.2.2.2
  exact ⟨cell, q1, by rw [q3]; rfl, by rw [q2]; exact (X.2.1.1 ci _ hC.1).2.1⟩
def OgY (y : MethodName) (n : Nat) : Prop := y.cls ≠ "java/lang/invoke/MethodHandle" ∧ y.cls ≠ "java/lang/invoke/VarHandle" ∧ (parseMethodDescriptor y.desc).map (fun d => d.parameters.length) = some n
theorem og_runV {Qc : Array Value → State → Outcome → State → Prop} {free : Addr → Prop} (X : OgX p s m args meth c cc nL own E) (hR : OgRep E S H) (hS : va_S E.A s.heap H locs) {a ci : Nat} (hC : OgCls ci) (hG : (S.G a).1 = ci + 1) (hM : Met l y (ws_ y bytes maxL ret) rm (og_Pre E S (.ref (E.b + a) :: As)) Qc 0 0 free) (hL : GoodIn lw_all (wsV own index (og_R ci) y (ws_ y bytes maxL ret))) (hyc : y.cls = og_R ci) (hy : OgY y n) (hn : As.length = n)
    (hrm : rm.cells = 0 ∧ rm.slots = 0 ∧ rm.frames + 1 ≤ R.frames ∧ 8 + (maxL + 11) + rm.locals ≤ R.locals ∧ cells ≤ R.cells ∧ slots ≤ R.slots) (hst : st = As.reverse ++ .ref (E.b + a) :: rest) (hsz : ls.size = nL) (hroom : (rest.map fun v => v.category).sum ≤ 8) (hd : decode cc pc = .ok (.invokevirtual index, 3)) :
    va_Run p l e R s m args below meth c H locs cells slots 0 0 (F0 m pc ls st) rest (Qc (Value.ref (E.b + a) :: As).toArray) free :=
  va_runV X.1 hM (cwV n X.1.2.2.2.2 hL rfl hrm.1 hrm.2.1 ⟨hyc, hy⟩ ⟨hrm.2.2.1, hrm.2.2.2.1⟩) ⟨(og_pre X hR hS (.ref (E.b + a) :: As)).1, og_recv X hR hC hG, (og_pre X hR hS (.ref (E.b + a) :: As)).2⟩ rfl hn hsz hst (lv_room hroom) hd ⟨hrm.2.2.2.2.1, hrm.2.2.2.2.2⟩
theorem og_runS {Qc : Array Value → State → Outcome → State → Prop} {free : Addr → Prop} (X : OgX p s m args meth c cc nL own E) (hR : OgRep E S H) (hS : va_S E.A s.heap H locs) (hM : Met l y (ws_ y bytes maxL ret) rm (og_Pre E S As) Qc 0 0 free) (hL : GoodIn lw_all (va_wsS own index y (ws_ y bytes maxL ret))) (hy : OgY y n) (hn : As.length = n)
    (hrm : rm.cells = 0 ∧ rm.slots = 0 ∧ rm.frames + 1 ≤ R.frames ∧ 8 + (maxL + 11) + rm.locals ≤ R.locals ∧ cells ≤ R.cells ∧ slots ≤ R.slots) (hst : st = As.reverse ++ rest) (hsz : ls.size = nL) (hroom : (rest.map fun v => v.category).sum ≤ 8) (hd : decode cc pc = .ok (.invokestatic index, 3)) :
    va_Run p l e R s m args below meth c H locs cells slots 0 0 (F0 m pc ls st) rest (Qc As.toArray) free :=
  va_runS X.1 hM (va_cwS n X.1.2.2.2.2 hL rfl hrm.1 hrm.2.1 hy ⟨hrm.2.2.1, hrm.2.2.2.1⟩) (og_pre X hR hS As) rfl hn hsz hst (lv_room hroom) hd ⟨hrm.2.2.2.2.1, hrm.2.2.2.2.2⟩
def OgLS (own : String) (index : Nat) (y : MethodName) (ws : List Cond) : Prop := GoodIn lw_all (va_wsS own index y ws) ∨ (GoodIn lw_all ws ∧ Cond.static y ∈ lw_all ∧ Cond.initialized y.cls ∈ lw_all ∧ Cond.methodLinkNest own index y "OpenGates" ∈ og_nw)
theorem og_runSN {Qc : Array Value → State → Outcome → State → Prop} {free : Addr → Prop} (X : OgX p s m args meth c cc nL own E) (hR : OgRep E S H) (hS : va_S E.A s.heap H locs) (hM : Met l y (ws_ y bytes maxL ret) rm (og_Pre E S As) Qc 0 0 free) (hL : GoodIn lw_all (ws_ y bytes maxL ret) ∧ Cond.static y ∈ lw_all ∧ Cond.initialized y.cls ∈ lw_all ∧ Cond.methodLinkNest own index y "OpenGates" ∈ og_nw) (hy : OgY y n) (hn : As.length = n)
    (hrm : rm.cells = 0 ∧ rm.slots = 0 ∧ rm.frames + 1 ≤ R.frames ∧ 8 + (maxL + 11) + rm.locals ≤ R.locals ∧ cells ≤ R.cells ∧ slots ≤ R.slots) (hst : st = As.reverse ++ rest) (hsz : ls.size = nL) (hroom : (rest.map fun v => v.category).sum ≤ 8) (hd : decode cc pc = .ok (.invokestatic index, 3)) :
    va_Run p l e R s m args below meth c H locs cells slots 0 0 (F0 m pc ls st) rest (Qc As.toArray) free :=
  va_runSN X.1 hM ⟨va_cnB n X.1.2.2.2.2 hL.1 rfl hrm.1 hrm.2.1 (X.2.2.1 _ hL.2.2.2) (X.1.2.2.2.2 _ hL.2.2.1) hy ⟨hrm.2.2.1, hrm.2.2.2.1⟩, X.1.2.2.2.2 _ hL.2.1, trivial⟩ (og_pre X hR hS As) rfl hn hsz hst (lv_room hroom) hd ⟨hrm.2.2.2.2.1, hrm.2.2.2.2.2⟩
theorem og_afti {Q : Int32 → τ → Prop} {a : Array Value} (hr : va_Run p l e R s m args below meth c H locs cells slots 0 0 (F0 m pc ls st) rest (og_Qi E em Q a) E.A) (hS : va_S E.A H0 H locs)
    (kk : ∀ (r : Int32) (σ : τ) (H1 : Heap) (locs1 : List Loc), Q r σ → OgRep E (em σ) H1 → va_S E.A H0 H1 locs1 → W p l e R s m args below meth c H1 locs1 cells slots Qf (F0 m (pc + 3) ls (.int r :: rest))) : W p l e R s m args below meth c H locs cells slots Qf (F0 m pc ls st) :=
  va_calli hr hS (fun _ _ h => h) (fun _ h => h) (fun r σ t H1 locs1 ht _ hq hB _ _ hS1 => kk r σ H1 locs1 hq (by rw [← ht]; exact hB) hS1)
theorem og_aftl {Q : Int64 → τ → Prop} {a : Array Value} (hr : va_Run p l e R s m args below meth c H locs cells slots 0 0 (F0 m pc ls st) rest (og_Ql E em Q a) E.A) (hS : va_S E.A H0 H locs)
    (kk : ∀ (r : Int64) (σ : τ) (H1 : Heap) (locs1 : List Loc), Q r σ → OgRep E (em σ) H1 → va_S E.A H0 H1 locs1 → W p l e R s m args below meth c H1 locs1 cells slots Qf (F0 m (pc + 3) ls (.long r :: rest))) : W p l e R s m args below meth c H locs cells slots Qf (F0 m pc ls st) :=
  va_calll hr hS (fun _ _ h => h) (fun _ h => h) (fun r σ t H1 locs1 ht _ hq hB _ _ hS1 => kk r σ H1 locs1 hq (by rw [← ht]; exact hB) hS1)
theorem og_aftv {Q : τ → Prop} {a : Array Value} (hr : va_Run p l e R s m args below meth c H locs cells slots 0 0 (F0 m pc ls st) rest (og_Qv E em Q a) E.A) (hS : va_S E.A H0 H locs)
    (kk : ∀ (σ : τ) (H1 : Heap) (locs1 : List Loc), Q σ → OgRep E (em σ) H1 → va_S E.A H0 H1 locs1 → W p l e R s m args below meth c H1 locs1 cells slots Qf (F0 m (pc + 3) ls rest)) : W p l e R s m args below meth c H locs cells slots Qf (F0 m pc ls st) :=
  va_callv hr hS (fun _ _ h => h) (fun _ h => h) (fun σ t H1 locs1 ht _ hq hB _ _ hS1 => kk σ H1 locs1 hq (by rw [← ht]; exact hB) hS1)
end Calls
/-- a contract out of its walk -/
theorem og_met {l : Launch} {E : OgE} {S : OgM} {y : MethodName} {cc : ByteArray} {maxL : Nat} {ret : Option FieldType} {rm : Room} {As : List Value} {Qc : Array Value → State → Outcome → State → Prop} {mc ms : Nat} {lv : List (Nat × Value)} (own : String) (ho : y.cls = own) (hy : plainName y.cls = true) (hlen : (lg_sl As).length ≤ maxL) (hlv : lv_args 0 As = lv)
    (body : ∀ (p : Program) (e : Env) (s : State) (m : MethodId) (below : List Frame) (meth : Method) (c : Code) (ls : Array Slot), OgX p s m As.toArray meth c cc maxL own E → meth.sig.returnType = ret → OgRep E S s.heap → va_S E.A s.heap s.heap [] → lv_has ls maxL lv →
      W p l e rm s m As.toArray below meth c s.heap [] 0 0 (MQ below Qc As.toArray s mc ms E.A) (F0 m 0 ls [])) : Met l y (ws_ y cc maxL ret) rm (og_Pre E S As) Qc mc ms E.A := by
  refine Met.ofW (cc := cc) (maxL := maxL) (ret := ret) hy rfl ?_
  intro p e s m args below meth c s₁ B hml hv
  obtain ⟨rfl, hR, hK, hN, hO⟩ := hv
  have hts := atoms_spec (ws := ws_ y cc maxL ret) B.pre
  have hts : ∀ w ∈ lw_all, w.before _ s = true := fun w h => hts w (List.mem_cons_of_mem _ h)
  have hown : s.vm.findClass own = some m.cls := ho ▸ findClass_of_methodNamed B.named
  have hl := lv_entry As (n := maxL) hlen
  rw [hlv] at hl
  rw [lg_entry_eq]
  exact body p e s m below meth c _ ⟨⟨B.exec, B.bytes, hml, hown, hts⟩, hK, hN, B.notSynchronized, hO⟩ B.returns hR va_S.rf hl
/-! ===== the reference's memory: one object, its arrays, never made anew ===== -/
def OgS : Type := (Nat → Nat → Int32) × (Nat → Nat → Int64) × Nat
def OgS.I (S : OgS) : Nat → Nat → Int32 := S.1
def OgS.L (S : OgS) : Nat → Nat → Int64 := S.2.1
def OgS.top (S : OgS) : Nat := S.2.2
def OgS.sI (S : OgS) (a k : Nat) (v : Int32) : OgS := (og_up S.I a k v, S.L, S.top)
def OgS.sL (S : OgS) (a k : Nat) (v : Int64) : OgS := (S.I, og_up S.L a k v, S.top)
/-- 1 refusals[7], 2 row[5550], 3 images[11100], 4 isKept[2], 5 undos[450], 6 sorts[16], 7 undosBefore[400], 8 sortsBefore[16], 9 tape[400], 10 nClause[96], 11 nOp[400], 12 nArg[400], 13 pile[400], 14 pileAt[400], 15 words[10], 16 orderWords[6], 17 heads[4], 18 set[13], 19 now[13], 20 rest[400], 21 hours[6], 22 most[99], 23 alike[66], 24 acts[4], 25 nOrder[96], 26 drawn[22] -/
def og_MG : Nat → Nat × Nat := fun a => match a with
  | 0 => (1, 0)
  | 1 => (100, 7)
  | 2 => (100, 5550)
  | 3 => (100, 11100)
  | 4 => (102, 2)
  | 5 => (100, 450)
  | 6 => (100, 16)
  | 7 => (100, 400)
  | 8 => (100, 16)
  | 9 => (100, 400)
  | 10 => (100, 96)
  | 11 => (100, 400)
  | 12 => (100, 400)
  | 13 => (100, 400)
  | 14 => (100, 400)
  | 15 => (101, 10)
  | 16 => (101, 6)
  | 17 => (101, 4)
  | 18 => (101, 13)
  | 19 => (101, 13)
  | 20 => (101, 400)
  | 21 => (100, 6)
  | 22 => (100, 99)
  | 23 => (100, 66)
  | 24 => (101, 4)
  | 25 => (100, 96)
  | 26 => (100, 22)
  | _ => (0, 0)
def og_MR0 : Nat → Option Nat := fun k => match k with
  | 2 => some 1
  | 3 => some 2
  | 4 => some 3
  | 5 => some 4
  | 6 => some 5
  | 7 => some 6
  | 9 => some 7
  | 10 => some 8
  | 12 => some 9
  | 22 => some 10
  | 24 => some 11
  | 25 => some 12
  | 27 => some 13
  | 28 => some 14
  | 31 => some 15
  | 32 => some 16
  | 33 => some 17
  | 35 => some 18
  | 36 => some 19
  | 37 => some 20
  | 41 => some 21
  | 42 => some 22
  | 43 => some 23
  | 44 => some 24
  | 45 => some 25
  | 51 => some 26
  | _ => none
def og_MR : Nat → Nat → Option Nat := fun a k => match a with
  | 0 => og_MR0 k
  | _ => none
def emM (σ : OgS) : OgM := (σ.I, σ.L, og_MR, og_MG, σ.top)
section Lcmp
variable {p : Program} {l : Launch} {e : Env} {R : Room} {s : State} {m : MethodId} {args : Array Value} {below : List Frame} {meth : Method} {c : Code} {H : Heap} {locs : List Loc} {cells slots : Nat} {Q : State → Prop} {cc : ByteArray} {pc : Nat} {ls : Array Slot} {rest : List Value}
theorem og_lcmp_ge (hexec : p.tables.exec = Jvm.exec) (hb : c.code = cc) {x y : Int64} {off : Int} {tgt : Nat} (hd1 : decode cc pc = .ok (.lcmp, 1)) (hd2 : decode cc (pc + 1) = .ok (.ifCond .ge off, 3)) (ht : ((pc + 1 : Nat) : Int) + off = (tgt : Int)) (kt : y ≤ x → W p l e R s m args below meth c H locs cells slots Q (F0 m tgt ls rest)) (kf : ¬ y ≤ x → W p l e R s m args below meth c H locs cells slots Q (F0 m (pc + 1 + 3) ls rest)) : W p l e R s m args below meth c H locs cells slots Q (F0 m pc ls (.long y :: .long x :: rest)) :=
  W.lcmp hexec hb hd1 (lv_if_ge hexec hb hd2 ht (fun h => kt ((lg_cmp_ge x y).mp h)) (fun h => kf (fun q => h ((lg_cmp_ge x y).mpr q))))
theorem og_lcmp_lt (hexec : p.tables.exec = Jvm.exec) (hb : c.code = cc) {x y : Int64} {off : Int} {tgt : Nat} (hd1 : decode cc pc = .ok (.lcmp, 1)) (hd2 : decode cc (pc + 1) = .ok (.ifCond .lt off, 3)) (ht : ((pc + 1 : Nat) : Int) + off = (tgt : Int)) (kt : x < y → W p l e R s m args below meth c H locs cells slots Q (F0 m tgt ls rest)) (kf : ¬ x < y → W p l e R s m args below meth c H locs cells slots Q (F0 m (pc + 1 + 3) ls rest)) : W p l e R s m args below meth c H locs cells slots Q (F0 m pc ls (.long y :: .long x :: rest)) :=
  W.lcmp hexec hb hd1 (lv_if_lt hexec hb hd2 ht (fun h => kt ((lg_cmp_lt x y).mp h)) (fun h => kf (fun q => h ((lg_cmp_lt x y).mpr q))))
theorem og_lcmp_gt (hexec : p.tables.exec = Jvm.exec) (hb : c.code = cc) {x y : Int64} {off : Int} {tgt : Nat} (hd1 : decode cc pc = .ok (.lcmp, 1)) (hd2 : decode cc (pc + 1) = .ok (.ifCond .gt off, 3)) (ht : ((pc + 1 : Nat) : Int) + off = (tgt : Int)) (kt : y < x → W p l e R s m args below meth c H locs cells slots Q (F0 m tgt ls rest)) (kf : ¬ y < x → W p l e R s m args below meth c H locs cells slots Q (F0 m (pc + 1 + 3) ls rest)) : W p l e R s m args below meth c H locs cells slots Q (F0 m pc ls (.long y :: .long x :: rest)) :=
  W.lcmp hexec hb hd1 (lv_if_gt hexec hb hd2 ht (fun h => kt ((lg_cmp_gt x y).mp h)) (fun h => kf (fun q => h ((lg_cmp_gt x y).mpr q))))
theorem og_lcmp_le (hexec : p.tables.exec = Jvm.exec) (hb : c.code = cc) {x y : Int64} {off : Int} {tgt : Nat} (hd1 : decode cc pc = .ok (.lcmp, 1)) (hd2 : decode cc (pc + 1) = .ok (.ifCond .le off, 3)) (ht : ((pc + 1 : Nat) : Int) + off = (tgt : Int)) (kt : x ≤ y → W p l e R s m args below meth c H locs cells slots Q (F0 m tgt ls rest)) (kf : ¬ x ≤ y → W p l e R s m args below meth c H locs cells slots Q (F0 m (pc + 1 + 3) ls rest)) : W p l e R s m args below meth c H locs cells slots Q (F0 m pc ls (.long y :: .long x :: rest)) :=
  W.lcmp hexec hb hd1 (lv_if_le hexec hb hd2 ht (fun h => kt ((lg_cmp_le x y).mp h)) (fun h => kf (fun q => h ((lg_cmp_le x y).mpr q))))
theorem og_lcmp_eq (hexec : p.tables.exec = Jvm.exec) (hb : c.code = cc) {x y : Int64} {off : Int} {tgt : Nat} (hd1 : decode cc pc = .ok (.lcmp, 1)) (hd2 : decode cc (pc + 1) = .ok (.ifCond .eq off, 3)) (ht : ((pc + 1 : Nat) : Int) + off = (tgt : Int)) (kt : x = y → W p l e R s m args below meth c H locs cells slots Q (F0 m tgt ls rest)) (kf : ¬ x = y → W p l e R s m args below meth c H locs cells slots Q (F0 m (pc + 1 + 3) ls rest)) : W p l e R s m args below meth c H locs cells slots Q (F0 m pc ls (.long y :: .long x :: rest)) :=
  W.lcmp hexec hb hd1 (lv_if_eq hexec hb hd2 ht (fun h => kt ((lg_cmp_eq x y).mp h)) (fun h => kf (fun q => h ((lg_cmp_eq x y).mpr q))))
theorem og_lcmp_ne (hexec : p.tables.exec = Jvm.exec) (hb : c.code = cc) {x y : Int64} {off : Int} {tgt : Nat} (hd1 : decode cc pc = .ok (.lcmp, 1)) (hd2 : decode cc (pc + 1) = .ok (.ifCond .ne off, 3)) (ht : ((pc + 1 : Nat) : Int) + off = (tgt : Int)) (kt : ¬ x = y → W p l e R s m args below meth c H locs cells slots Q (F0 m tgt ls rest)) (kf : x = y → W p l e R s m args below meth c H locs cells slots Q (F0 m (pc + 1 + 3) ls rest)) : W p l e R s m args below meth c H locs cells slots Q (F0 m pc ls (.long y :: .long x :: rest)) :=
  W.lcmp hexec hb hd1 (lv_if_ne hexec hb hd2 ht (fun h => kt (fun q => h ((lg_cmp_eq x y).mpr q))) (fun h => kf ((lg_cmp_eq x y).mp h)))
end Lcmp
theorem og_lp1_elim {α : Type} {B : (α → Prop) → α → Prop} (P : α → Prop) (h : ∀ (K : α → Prop), (∀ a, K a → P a) → ∀ a, B K a → P a) {a : α} (hq : og_lp1 B a) : P a := hq P (h P (fun _ h => h))
/-- by a measure: the state of the loop with the measure k -/
theorem og_lp1_intro {α : Type} {B : (α → Prop) → α → Prop} (J : Nat → α → Prop) (h : ∀ (K : α → Prop) (k : Nat) a, J k a → (∀ (j : Nat) a, j < k → J j a → K a) → B K a) : ∀ (k : Nat) a, J k a → og_lp1 B a := by
  intro k
  induction k using Nat.strongRecOn with
  | _ k ih =>
    intro a hJ P hP
    exact hP a (h P k a hJ (fun j a hj hJ2 => ih j hj a hJ2 P hP))
theorem og_lp2_elim {α β : Type} {B : (α → β → Prop) → α → β → Prop} (P : α → β → Prop) (h : ∀ (K : α → β → Prop), (∀ a b, K a b → P a b) → ∀ a b, B K a b → P a b) {a : α} {b : β} (hq : og_lp2 B a b) : P a b := hq P (h P (fun _ _ h => h))
/-- by a measure: the state of the loop with the measure k -/
theorem og_lp2_intro {α β : Type} {B : (α → β → Prop) → α → β → Prop} (J : Nat → α → β → Prop) (h : ∀ (K : α → β → Prop) (k : Nat) a b, J k a b → (∀ (j : Nat) a b, j < k → J j a b → K a b) → B K a b) : ∀ (k : Nat) a b, J k a b → og_lp2 B a b := by
  intro k
  induction k using Nat.strongRecOn with
  | _ k ih =>
    intro a b hJ P hP
    exact hP a b (h P k a b hJ (fun j a b hj hJ2 => ih j hj a b hJ2 P hP))
theorem og_lp3_elim {α β γ : Type} {B : (α → β → γ → Prop) → α → β → γ → Prop} (P : α → β → γ → Prop) (h : ∀ (K : α → β → γ → Prop), (∀ a b c, K a b c → P a b c) → ∀ a b c, B K a b c → P a b c) {a : α} {b : β} {c : γ} (hq : og_lp3 B a b c) : P a b c := hq P (h P (fun _ _ _ h => h))
/-- by a measure: the state of the loop with the measure k -/
theorem og_lp3_intro {α β γ : Type} {B : (α → β → γ → Prop) → α → β → γ → Prop} (J : Nat → α → β → γ → Prop) (h : ∀ (K : α → β → γ → Prop) (k : Nat) a b c, J k a b c → (∀ (j : Nat) a b c, j < k → J j a b c → K a b c) → B K a b c) : ∀ (k : Nat) a b c, J k a b c → og_lp3 B a b c := by
  intro k
  induction k using Nat.strongRecOn with
  | _ k ih =>
    intro a b c hJ P hP
    exact hP a b c (h P k a b c hJ (fun j a b c hj hJ2 => ih j hj a b c hJ2 P hP))
theorem og_lp4_elim {α β γ δ : Type} {B : (α → β → γ → δ → Prop) → α → β → γ → δ → Prop} (P : α → β → γ → δ → Prop) (h : ∀ (K : α → β → γ → δ → Prop), (∀ a b c d, K a b c d → P a b c d) → ∀ a b c d, B K a b c d → P a b c d) {a : α} {b : β} {c : γ} {d : δ} (hq : og_lp4 B a b c d) : P a b c d := hq P (h P (fun _ _ _ _ h => h))
/-- by a measure: the state of the loop with the measure k -/
theorem og_lp4_intro {α β γ δ : Type} {B : (α → β → γ → δ → Prop) → α → β → γ → δ → Prop} (J : Nat → α → β → γ → δ → Prop) (h : ∀ (K : α → β → γ → δ → Prop) (k : Nat) a b c d, J k a b c d → (∀ (j : Nat) a b c d, j < k → J j a b c d → K a b c d) → B K a b c d) : ∀ (k : Nat) a b c d, J k a b c d → og_lp4 B a b c d := by
  intro k
  induction k using Nat.strongRecOn with
  | _ k ih =>
    intro a b c d hJ P hP
    exact hP a b c d (h P k a b c d hJ (fun j a b c d hj hJ2 => ih j hj a b c d hJ2 P hP))
theorem og_lp5_elim {α β γ δ ε : Type} {B : (α → β → γ → δ → ε → Prop) → α → β → γ → δ → ε → Prop} (P : α → β → γ → δ → ε → Prop) (h : ∀ (K : α → β → γ → δ → ε → Prop), (∀ a b c d e, K a b c d e → P a b c d e) → ∀ a b c d e, B K a b c d e → P a b c d e) {a : α} {b : β} {c : γ} {d : δ} {e : ε} (hq : og_lp5 B a b c d e) : P a b c d e := hq P (h P (fun _ _ _ _ _ h => h))
/-- by a measure: the state of the loop with the measure k -/
theorem og_lp5_intro {α β γ δ ε : Type} {B : (α → β → γ → δ → ε → Prop) → α → β → γ → δ → ε → Prop} (J : Nat → α → β → γ → δ → ε → Prop) (h : ∀ (K : α → β → γ → δ → ε → Prop) (k : Nat) a b c d e, J k a b c d e → (∀ (j : Nat) a b c d e, j < k → J j a b c d e → K a b c d e) → B K a b c d e) : ∀ (k : Nat) a b c d e, J k a b c d e → og_lp5 B a b c d e := by
  intro k
  induction k using Nat.strongRecOn with
  | _ k ih =>
    intro a b c d e hJ P hP
    exact hP a b c d e (h P k a b c d e hJ (fun j a b c d e hj hJ2 => ih j hj a b c d e hJ2 P hP))
theorem og_lp6_elim {α β γ δ ε ζ : Type} {B : (α → β → γ → δ → ε → ζ → Prop) → α → β → γ → δ → ε → ζ → Prop} (P : α → β → γ → δ → ε → ζ → Prop) (h : ∀ (K : α → β → γ → δ → ε → ζ → Prop), (∀ a b c d e f, K a b c d e f → P a b c d e f) → ∀ a b c d e f, B K a b c d e f → P a b c d e f) {a : α} {b : β} {c : γ} {d : δ} {e : ε} {f : ζ} (hq : og_lp6 B a b c d e f) : P a b c d e f := hq P (h P (fun _ _ _ _ _ _ h => h))
/-- by a measure: the state of the loop with the measure k -/
theorem og_lp6_intro {α β γ δ ε ζ : Type} {B : (α → β → γ → δ → ε → ζ → Prop) → α → β → γ → δ → ε → ζ → Prop} (J : Nat → α → β → γ → δ → ε → ζ → Prop) (h : ∀ (K : α → β → γ → δ → ε → ζ → Prop) (k : Nat) a b c d e f, J k a b c d e f → (∀ (j : Nat) a b c d e f, j < k → J j a b c d e f → K a b c d e f) → B K a b c d e f) : ∀ (k : Nat) a b c d e f, J k a b c d e f → og_lp6 B a b c d e f := by
  intro k
  induction k using Nat.strongRecOn with
  | _ k ih =>
    intro a b c d e f hJ P hP
    exact hP a b c d e f (h P k a b c d e f hJ (fun j a b c d e f hj hJ2 => ih j hj a b c d e f hJ2 P hP))
theorem og_lp7_elim {α β γ δ ε ζ η : Type} {B : (α → β → γ → δ → ε → ζ → η → Prop) → α → β → γ → δ → ε → ζ → η → Prop} (P : α → β → γ → δ → ε → ζ → η → Prop) (h : ∀ (K : α → β → γ → δ → ε → ζ → η → Prop), (∀ a b c d e f g, K a b c d e f g → P a b c d e f g) → ∀ a b c d e f g, B K a b c d e f g → P a b c d e f g) {a : α} {b : β} {c : γ} {d : δ} {e : ε} {f : ζ} {g : η} (hq : og_lp7 B a b c d e f g) : P a b c d e f g := hq P (h P (fun _ _ _ _ _ _ _ h => h))
/-- by a measure: the state of the loop with the measure k -/
theorem og_lp7_intro {α β γ δ ε ζ η : Type} {B : (α → β → γ → δ → ε → ζ → η → Prop) → α → β → γ → δ → ε → ζ → η → Prop} (J : Nat → α → β → γ → δ → ε → ζ → η → Prop) (h : ∀ (K : α → β → γ → δ → ε → ζ → η → Prop) (k : Nat) a b c d e f g, J k a b c d e f g → (∀ (j : Nat) a b c d e f g, j < k → J j a b c d e f g → K a b c d e f g) → B K a b c d e f g) : ∀ (k : Nat) a b c d e f g, J k a b c d e f g → og_lp7 B a b c d e f g := by
  intro k
  induction k using Nat.strongRecOn with
  | _ k ih =>
    intro a b c d e f g hJ P hP
    exact hP a b c d e f g (h P k a b c d e f g hJ (fun j a b c d e f g hj hJ2 => ih j hj a b c d e f g hJ2 P hP))
theorem og_named {p : Program} {l : Launch} {e : Env} {R : Room} {s : State} {m : MethodId} {args : Array Value} {below : List Frame} {meth : Method} {c : Code} {H : Heap} {locs : List Loc} {cells slots : Nat} {Q : State → Prop} {g : JFrame} (x : Int32) (k : ∀ y : Int32, y = x → W p l e R s m args below meth c H locs cells slots Q g) : W p l e R s m args below meth c H locs cells slots Q g := k x rfl
