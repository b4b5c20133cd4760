set_option maxRecDepth 100000
section Thr
variable {p : Program} {l : Launch} {e : Env} {R : Room} {s : State} {m : MethodId} {args : Array Value} {below : List Frame} {meth : Method} {c : Code} {H : Heap} {locs : List Loc} {cells slots : Nat} {Q : State → Prop}
variable {cc : ByteArray} {pc : Nat} {ls : Array Slot} {rest : List Value} {nL : Nat} {own : String} {E : OgE}
/-- a static that holds some reference or null -/
theorem og_getsq (X : OgX p s m args meth c cc nL own E) (hS : va_S E.A s.heap H locs) {C n d : String} {index : Nat} (hZ : va_Zq C n d E.A s s.heap) (hl : Cond.fieldLink own index C n d ∈ lw_all) (hd : decode cc pc = .ok (.getstatic index, 3))
    (k : ∀ w : Value, (∀ ty, og_isR ty = true → narrow ty w = w ∧ fits ty w = true) → W p l e R s m args below meth c H locs cells slots Q (F0 m (pc + 3) ls (w :: rest))) : W p l e R s m args below meth c H locs cells slots Q (F0 m pc ls rest) := by
  rcases hZ with h | ⟨t, h⟩
  · exact va_gets X.1.1 X.1.2.1 h hS X.1.2.2.2.1 (X.1.2.2.2.2 _ hl) (fun _ h => h) hd (k _ (fun ty h => by cases ty <;> cases h <;> exact ⟨rfl, rfl⟩))
  · exact va_gets X.1.1 X.1.2.1 h hS X.1.2.2.2.1 (X.1.2.2.2.2 _ hl) (fun _ h => h) hd (k _ (fun ty h => by cases ty <;> cases h <;> exact ⟨rfl, rfl⟩))
end Thr
theorem lt_5_0 : OgFld RJ3 7 5 0 := ⟨og_le rfl, Or.inl q337⟩
theorem lt_5_1 : OgFld RJ3 17 5 1 := ⟨og_le rfl, Or.inl q338⟩
theorem lt_5_2 : OgFld RJ3 24 5 2 := ⟨og_le rfl, Or.inl q339⟩
theorem lt_5_3 : OgFld RJ3 31 5 3 := ⟨og_le rfl, Or.inl q336⟩
theorem mJ3_init_2_5 (l : Launch) (E : OgE) {τ : Type} (em : τ → OgM) (Q : τ → Prop) (a : Nat) (σ : τ) (hG : ((em σ).G a).1 = 6) (hz : ∀ k, k < 4 → (em σ).R a k = none) (hq : Q σ) : Met l yJ3_init_2 (ws_ yJ3_init_2 cJ3_init_2 5 none) (og_rm 1 12) (og_Pre E (em σ) [.ref (E.b + a), .null, .null, .int 0, .int 0]) (og_Qv E em Q) 0 0 E.A := by
  refine og_met (lv := [(0, .ref (E.b + a)), (1, .null), (2, .null), (3, .int 0), (4, .int 0)]) RJ3 rfl (by decide) (og_le rfl) rfl (fun p e s m below meth c ls X hr hR hS hl => ?_)
  have hx := X.x
  have hb := X.b
  refine lv_aload_n (pc := 0) hx hb dJ3_init_2_0 rfl (lv_at hl 0 rfl) ?_
  refine og_objI (pc := 1) X q311 q141 q142 hl.1 (og_le rfl) (og_le rfl) dJ3_init_2_1 ?_
  have hO := og_open hR og_c5 hG
  refine lv_aload_n (pc := 4) hx hb dJ3_init_2_4 rfl (lv_at hl 0 rfl) ?_
  refine lv_aload_n (pc := 5) hx hb dJ3_init_2_5 rfl (lv_at hl 0 rfl) ?_
  refine og_putH (pc := 6) X hO hS og_c5 lt_5_0 rfl (by rfl) (by rfl) dJ3_init_2_6 (fun H locs hO hS => ?_)
  refine lv_aload_n (pc := 9) hx hb dJ3_init_2_9 rfl (lv_at hl 0 rfl) ?_
  refine og_getsq (pc := 10) X hS X.2.2.2.2.2.1.2.2.1 q312 dJ3_init_2_10 (fun w1 hw1 => ?_)
  refine og_putH (pc := 13) X hO hS og_c5 lt_5_1 rfl (hw1 _ rfl).1 (hw1 _ rfl).2 dJ3_init_2_13 (fun H locs hO hS => ?_)
  refine lv_aload_n (pc := 16) hx hb dJ3_init_2_16 rfl (lv_at hl 0 rfl) ?_
  refine og_getsq (pc := 17) X hS X.2.2.2.2.2.1.2.2.2 q314 dJ3_init_2_17 (fun w2 hw2 => ?_)
  refine og_putH (pc := 20) X hO hS og_c5 lt_5_2 rfl (hw2 _ rfl).1 (hw2 _ rfl).2 dJ3_init_2_20 (fun H locs hO hS => ?_)
  refine lv_iload (pc := 23) hx hb dJ3_init_2_23 (lv_at hl 4 rfl) ?_
  refine lv_if_eq (tgt := 36) (pc := 25) hx hb dJ3_init_2_25 rfl (fun _ => ?_) (fun h => absurd rfl h)
  refine lv_aload_n (pc := 36) hx hb dJ3_init_2_36 rfl (lv_at hl 0 rfl) ?_
  refine lv_null (pc := 37) hx hb dJ3_init_2_37 ?_
  refine og_putH (pc := 38) X hO hS og_c5 lt_5_1 rfl (by rfl) (by rfl) dJ3_init_2_38 (fun H locs hO hS => ?_)
  refine lv_aload_n (pc := 41) hx hb dJ3_init_2_41 rfl (lv_at hl 0 rfl) ?_
  refine lv_aload_nN (pc := 42) hx hb dJ3_init_2_42 rfl (lv_at hl 1 rfl) ?_
  refine og_putH (pc := 43) X hO hS og_c5 lt_5_3 rfl (by rfl) (by rfl) dJ3_init_2_43 (fun H locs hO hS => ?_)
  refine lv_aload_n (pc := 46) hx hb dJ3_init_2_46 rfl (lv_at hl 0 rfl) ?_
  refine lv_aload_nN (pc := 47) hx hb dJ3_init_2_47 rfl (lv_at hl 2 rfl) ?_
  refine og_putH (pc := 48) X hO hS og_c5 lt_5_0 rfl (by rfl) (by rfl) dJ3_init_2_48 (fun H locs hO hS => ?_)
  refine lv_iload_n (pc := 51) hx hb dJ3_init_2_51 rfl (lv_at hl 3 rfl) ?_
  refine lv_if_ne (tgt := 60) (pc := 52) hx hb dJ3_init_2_52 rfl (fun h => absurd rfl h) (fun _ => ?_)
  refine lv_aload_n (pc := 55) hx hb dJ3_init_2_55 rfl (lv_at hl 0 rfl) ?_
  refine lv_null (pc := 56) hx hb dJ3_init_2_56 ?_
  refine og_putH (pc := 57) X hO hS og_c5 lt_5_2 rfl (by rfl) (by rfl) dJ3_init_2_57 (fun H locs hO hS => ?_)
  refine og_vret (pc := 60) X hr (og_close hO og_c5 (fun k hk => ?_)) hS hq dJ3_init_2_60
  have hk2 : k < 6 := hk
  have hk3 : k = 0 ∨ k = 1 ∨ k = 2 ∨ k = 3 ∨ k = 4 ∨ k = 5 := by omega
  rcases hk3 with h | h | h | h | h | h
  · subst h
    show Value.null = og_rv E.b ((em σ).R a 0)
    rw [hz 0 (by omega)]
    rfl
  · subst h
    show Value.null = og_rv E.b ((em σ).R a 1)
    rw [hz 1 (by omega)]
    rfl
  · subst h
    show Value.null = og_rv E.b ((em σ).R a 2)
    rw [hz 2 (by omega)]
    rfl
  · subst h
    show Value.null = og_rv E.b ((em σ).R a 3)
    rw [hz 3 (by omega)]
    rfl
  · subst h
    rfl
  · subst h
    rfl
theorem lt4_5 : OgLI RJ4 16 yJ3_init_2 cJ3_init_2 5 := ⟨q332, q333, q106, q334⟩
theorem hy_J3_init_2 : OgY yJ3_init_2 4 := by unfold OgY; decide +kernel
theorem hy_J4_init : OgY yJ4_init 4 := by unfold OgY; decide +kernel
theorem mJ4_init_5 (l : Launch) (E : OgE) {τ : Type} (em : τ → OgM) (Q : τ → Prop) (a : Nat) (σ : τ) (hG : ((em σ).G a).1 = 6) (hz : ∀ k, k < 4 → (em σ).R a k = none) (hq : Q σ) : Met l yJ4_init (ws_ yJ4_init cJ4_init 5 none) (og_rm 2 50) (og_Pre E (em σ) [.ref (E.b + a), .null, .null, .int 0, .int 0]) (og_Qv E em Q) 0 0 E.A := by
  refine og_met (lv := [(0, .ref (E.b + a)), (1, .null), (2, .null), (3, .int 0), (4, .int 0)]) RJ4 rfl (by decide) (og_le rfl) rfl (fun p e s m below meth c ls X hr hR hS hl => ?_)
  have hx := X.x
  have hb := X.b
  refine lv_aload_n (pc := 0) hx hb dJ4_init_0 rfl (lv_at hl 0 rfl) (lv_aload_nN (pc := 1) hx hb dJ4_init_1 rfl (lv_at hl 1 rfl) (lv_aload_nN (pc := 2) hx hb dJ4_init_2 rfl (lv_at hl 2 rfl) (lv_iload_n (pc := 3) hx hb dJ4_init_3 rfl (lv_at hl 3 rfl) (lv_iload (pc := 4) hx hb dJ4_init_4 (lv_at hl 4 rfl) ?_))))
  exact og_aftv (pc := 6) (og_runI (pc := 6) (As := [.null, .null, .int 0, .int 0]) (rest := []) X hR hS (mJ3_init_2_5 l E em Q a σ hG hz hq) lt4_5 rfl hy_J3_init_2 rfl ⟨rfl, rfl, og_le rfl, og_le rfl, og_le rfl, og_le rfl⟩ rfl hl.1 (og_le rfl) dJ4_init_6) hS (fun σ H locs hq hR hS => og_vret (pc := 9) X hr hR hS hq dJ4_init_9)
theorem lt_7_0 : OgFld RJ3 7 7 0 := ⟨og_le rfl, Or.inl q337⟩
theorem lt_7_1 : OgFld RJ3 17 7 1 := ⟨og_le rfl, Or.inl q338⟩
theorem lt_7_2 : OgFld RJ3 24 7 2 := ⟨og_le rfl, Or.inl q339⟩
theorem lt_7_3 : OgFld RJ3 31 7 3 := ⟨og_le rfl, Or.inl q336⟩
theorem mJ3_init_2_7 (l : Launch) (E : OgE) {τ : Type} (em : τ → OgM) (Q : τ → Prop) (a : Nat) (σ : τ) (hG : ((em σ).G a).1 = 8) (hz : ∀ k, k < 4 → (em σ).R a k = none) (hq : Q σ) : Met l yJ3_init_2 (ws_ yJ3_init_2 cJ3_init_2 5 none) (og_rm 1 12) (og_Pre E (em σ) [.ref (E.b + a), .null, .null, .int 0, .int 0]) (og_Qv E em Q) 0 0 E.A := by
  refine og_met (lv := [(0, .ref (E.b + a)), (1, .null), (2, .null), (3, .int 0), (4, .int 0)]) RJ3 rfl (by decide) (og_le rfl) rfl (fun p e s m below meth c ls X hr hR hS hl => ?_)
  have hx := X.x
  have hb := X.b
  refine lv_aload_n (pc := 0) hx hb dJ3_init_2_0 rfl (lv_at hl 0 rfl) ?_
  refine og_objI (pc := 1) X q311 q141 q142 hl.1 (og_le rfl) (og_le rfl) dJ3_init_2_1 ?_
  have hO := og_open hR og_c7 hG
  refine lv_aload_n (pc := 4) hx hb dJ3_init_2_4 rfl (lv_at hl 0 rfl) ?_
  refine lv_aload_n (pc := 5) hx hb dJ3_init_2_5 rfl (lv_at hl 0 rfl) ?_
  refine og_putH (pc := 6) X hO hS og_c7 lt_7_0 rfl (by rfl) (by rfl) dJ3_init_2_6 (fun H locs hO hS => ?_)
  refine lv_aload_n (pc := 9) hx hb dJ3_init_2_9 rfl (lv_at hl 0 rfl) ?_
  refine og_getsq (pc := 10) X hS X.2.2.2.2.2.1.2.2.1 q312 dJ3_init_2_10 (fun w1 hw1 => ?_)
  refine og_putH (pc := 13) X hO hS og_c7 lt_7_1 rfl (hw1 _ rfl).1 (hw1 _ rfl).2 dJ3_init_2_13 (fun H locs hO hS => ?_)
  refine lv_aload_n (pc := 16) hx hb dJ3_init_2_16 rfl (lv_at hl 0 rfl) ?_
  refine og_getsq (pc := 17) X hS X.2.2.2.2.2.1.2.2.2 q314 dJ3_init_2_17 (fun w2 hw2 => ?_)
  refine og_putH (pc := 20) X hO hS og_c7 lt_7_2 rfl (hw2 _ rfl).1 (hw2 _ rfl).2 dJ3_init_2_20 (fun H locs hO hS => ?_)
  refine lv_iload (pc := 23) hx hb dJ3_init_2_23 (lv_at hl 4 rfl) ?_
  refine lv_if_eq (tgt := 36) (pc := 25) hx hb dJ3_init_2_25 rfl (fun _ => ?_) (fun h => absurd rfl h)
  refine lv_aload_n (pc := 36) hx hb dJ3_init_2_36 rfl (lv_at hl 0 rfl) ?_
  refine lv_null (pc := 37) hx hb dJ3_init_2_37 ?_
  refine og_putH (pc := 38) X hO hS og_c7 lt_7_1 rfl (by rfl) (by rfl) dJ3_init_2_38 (fun H locs hO hS => ?_)
  refine lv_aload_n (pc := 41) hx hb dJ3_init_2_41 rfl (lv_at hl 0 rfl) ?_
  refine lv_aload_nN (pc := 42) hx hb dJ3_init_2_42 rfl (lv_at hl 1 rfl) ?_
  refine og_putH (pc := 43) X hO hS og_c7 lt_7_3 rfl (by rfl) (by rfl) dJ3_init_2_43 (fun H locs hO hS => ?_)
  refine lv_aload_n (pc := 46) hx hb dJ3_init_2_46 rfl (lv_at hl 0 rfl) ?_
  refine lv_aload_nN (pc := 47) hx hb dJ3_init_2_47 rfl (lv_at hl 2 rfl) ?_
  refine og_putH (pc := 48) X hO hS og_c7 lt_7_0 rfl (by rfl) (by rfl) dJ3_init_2_48 (fun H locs hO hS => ?_)
  refine lv_iload_n (pc := 51) hx hb dJ3_init_2_51 rfl (lv_at hl 3 rfl) ?_
  refine lv_if_ne (tgt := 60) (pc := 52) hx hb dJ3_init_2_52 rfl (fun h => absurd rfl h) (fun _ => ?_)
  refine lv_aload_n (pc := 55) hx hb dJ3_init_2_55 rfl (lv_at hl 0 rfl) ?_
  refine lv_null (pc := 56) hx hb dJ3_init_2_56 ?_
  refine og_putH (pc := 57) X hO hS og_c7 lt_7_2 rfl (by rfl) (by rfl) dJ3_init_2_57 (fun H locs hO hS => ?_)
  refine og_vret (pc := 60) X hr (og_close hO og_c7 (fun k hk => ?_)) hS hq dJ3_init_2_60
  have hk2 : k < 7 := hk
  have hk3 : k = 0 ∨ k = 1 ∨ k = 2 ∨ k = 3 ∨ k = 4 ∨ k = 5 ∨ k = 6 := by omega
  rcases hk3 with h | h | h | h | h | h | h
  · subst h
    show Value.null = og_rv E.b ((em σ).R a 0)
    rw [hz 0 (by omega)]
    rfl
  · subst h
    show Value.null = og_rv E.b ((em σ).R a 1)
    rw [hz 1 (by omega)]
    rfl
  · subst h
    show Value.null = og_rv E.b ((em σ).R a 2)
    rw [hz 2 (by omega)]
    rfl
  · subst h
    show Value.null = og_rv E.b ((em σ).R a 3)
    rw [hz 3 (by omega)]
    rfl
  · subst h
    rfl
  · subst h
    rfl
  · subst h
    rfl
theorem lt4_7 : OgLI RJ4 16 yJ3_init_2 cJ3_init_2 5 := ⟨q332, q333, q106, q334⟩
theorem mJ4_init_7 (l : Launch) (E : OgE) {τ : Type} (em : τ → OgM) (Q : τ → Prop) (a : Nat) (σ : τ) (hG : ((em σ).G a).1 = 8) (hz : ∀ k, k < 4 → (em σ).R a k = none) (hq : Q σ) : Met l yJ4_init (ws_ yJ4_init cJ4_init 5 none) (og_rm 2 50) (og_Pre E (em σ) [.ref (E.b + a), .null, .null, .int 0, .int 0]) (og_Qv E em Q) 0 0 E.A := by
  refine og_met (lv := [(0, .ref (E.b + a)), (1, .null), (2, .null), (3, .int 0), (4, .int 0)]) RJ4 rfl (by decide) (og_le rfl) rfl (fun p e s m below meth c ls X hr hR hS hl => ?_)
  have hx := X.x
  have hb := X.b
  refine lv_aload_n (pc := 0) hx hb dJ4_init_0 rfl (lv_at hl 0 rfl) (lv_aload_nN (pc := 1) hx hb dJ4_init_1 rfl (lv_at hl 1 rfl) (lv_aload_nN (pc := 2) hx hb dJ4_init_2 rfl (lv_at hl 2 rfl) (lv_iload_n (pc := 3) hx hb dJ4_init_3 rfl (lv_at hl 3 rfl) (lv_iload (pc := 4) hx hb dJ4_init_4 (lv_at hl 4 rfl) ?_))))
  exact og_aftv (pc := 6) (og_runI (pc := 6) (As := [.null, .null, .int 0, .int 0]) (rest := []) X hR hS (mJ3_init_2_7 l E em Q a σ hG hz hq) lt4_7 rfl hy_J3_init_2 rfl ⟨rfl, rfl, og_le rfl, og_le rfl, og_le rfl, og_le rfl⟩ rfl hl.1 (og_le rfl) dJ4_init_6) hS (fun σ H locs hq hR hS => og_vret (pc := 9) X hr hR hS hq dJ4_init_9)
