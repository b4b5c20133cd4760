set_option maxRecDepth 100000
theorem lm_J5_105 : GoodIn lw_all (va_wsS RJ5 105 yJ6_checkIndex (ws_ yJ6_checkIndex cJ6_checkIndex 3 (some .int))) := lw_S q1136 q724 q111 q725
theorem hy_J6_checkIndex : OgY yJ6_checkIndex 3 := by unfold OgY; decide +kernel
theorem lf_J2_9 : OgFld RJ2 9 18 1 := ⟨og_le rfl, Or.inl q193⟩
theorem lf_J2_48 : OgFld RJ2 48 18 2 := ⟨og_le rfl, Or.inl q194⟩
theorem lm_J2_118 : GoodIn lw_all (va_wsS RJ2 118 yJ5_checkIndex (ws_ yJ5_checkIndex cJ5_checkIndex 2 (some .int))) := lw_S q1133 q1134 q110 q1135
theorem hy_J5_checkIndex : OgY yJ5_checkIndex 2 := by unfold OgY; decide +kernel
theorem lm_J2_123 : GoodIn lw_all (wsV RJ2 123 RJ2 yJ2_elementData (ws_ yJ2_elementData cJ2_elementData 2 (some (.object "java/lang/Object")))) := lw_V q1137 q1138 q1139 q104 q1140
theorem hy_J2_elementData : OgY yJ2_elementData 1 := by unfold OgY; decide +kernel
theorem lf_X11_7 : OgFld RX11 7 9 0 := ⟨og_le rfl, Or.inl q857⟩
theorem lf_X12_13 : OgFld RX12 13 4 1 := ⟨og_le rfl, Or.inr (og_inf 31 rfl)⟩
theorem lf_X12_7 : OgFld RX12 7 10 0 := ⟨og_le rfl, Or.inl q905⟩
theorem lf_X13_15 : OgFld RX13 15 11 1 := ⟨og_le rfl, Or.inl q919⟩
theorem lf_X13_19 : OgFld RX13 19 11 2 := ⟨og_le rfl, Or.inl q920⟩
theorem lf_X13_9 : OgFld RX13 9 11 0 := ⟨og_le rfl, Or.inl q918⟩
theorem lf_X13_26 : OgFld RX13 26 4 0 := ⟨og_le rfl, Or.inr (og_inf 32 rfl)⟩
theorem lf_X15_13 : OgFld RX15 13 12 1 := ⟨og_le rfl, Or.inl q976⟩
theorem lf_X15_17 : OgFld RX15 17 12 2 := ⟨og_le rfl, Or.inl q977⟩
theorem lf_X15_7 : OgFld RX15 7 12 0 := ⟨og_le rfl, Or.inl q975⟩
theorem lf_X16_7 : OgFld RX16 7 13 0 := ⟨og_le rfl, Or.inl q991⟩
theorem lf_X17_12 : OgFld RX17 12 14 1 := ⟨og_le rfl, Or.inl q1005⟩
theorem lm_X17_22 : GoodIn lw_all (wsV RX17 22 RJ2 yJ2_size (ws_ yJ2_size cJ2_size 1 (some .int))) := lw_V q1181 q621 q622 q104 q623
theorem hy_J2_size : OgY yJ2_size 0 := by unfold OgY; decide +kernel
theorem lf_X17_18 : OgFld RX17 18 14 0 := ⟨og_le rfl, Or.inl q1004⟩
theorem lm_X17_26 : GoodIn lw_all (wsV RX17 26 RJ2 yJ2_get (ws_ yJ2_get cJ2_get 2 (some (.object "java/lang/Object")))) := lw_V q1182 q1130 q1131 q104 q1132
theorem hy_J2_get : OgY yJ2_get 1 := by unfold OgY; decide +kernel
section Walk
variable {p : Program} {l : Launch} {e : Env} {s : State} {m : MethodId} {args : Array Value} {below : List Frame} {meth : Method} {c : Code} {E : OgE} {H : Heap} {locs : List Loc} {ls : Array Slot}
def wJ6_checkIndex_9 (Γ : OgG) (Q : Int32 → OgC → Prop) (x0 : Int32) (x1 : Int32) (σ : OgC) : Prop :=
  False
def wJ6_checkIndex (Γ : OgG) (Q : Int32 → OgC → Prop) (x0 : Int32) (x1 : Int32) (σ : OgC) : Prop :=
  (x0 < 0 → (wJ6_checkIndex_9 Γ Q x0 x1 σ)) ∧ (¬ x0 < 0 → ((x0 < x1 → (Q x0 σ)) ∧ (¬ x0 < x1 → (wJ6_checkIndex_9 Γ Q x0 x1 σ))))
theorem jJ6_checkIndex_9 (X : OgX p s m args meth c cJ6_checkIndex 3 RJ6 E) (Γ : OgG) (hΓ : OgWf Γ) (hr : meth.sig.returnType = (some .int)) (Q : Int32 → OgC → Prop) (x0 : Int32) (x1 : Int32) (σ : OgC) (hq : wJ6_checkIndex_9 Γ Q x0 x1 σ) (hR : OgRep E ((emC Γ) σ) H) (hS : va_S E.A s.heap H locs) (hl : lv_has ls 3 [(0, .int x0), (1, .int x1), (2, .null)]) : W p l e (og_rm 0 0) s m args below meth c H locs 0 0 (MQ below (og_Qi E (emC Γ) Q) args s 0 0 E.A) (F0 m 9 ls []) := by
  have hx := X.x
  have hb := X.b
  unfold wJ6_checkIndex_9 at hq
  exact lv_aload_nN (pc := 9) hx hb dJ6_checkIndex_9 rfl (lv_at hl 2 rfl) (lv_iload_n (pc := 10) hx hb dJ6_checkIndex_10 rfl (lv_at hl 0 rfl) (lv_iload_n (pc := 11) hx hb dJ6_checkIndex_11 rfl (lv_at hl 1 rfl) ((hq).elim)))
theorem mJ6_checkIndex (l : Launch) (E : OgE) (Γ : OgG) (hΓ : OgWf Γ) (Q : Int32 → OgC → Prop) (x0 : Int32) (x1 : Int32) (σ : OgC) (hq : wJ6_checkIndex Γ Q x0 x1 σ) : Met l yJ6_checkIndex (ws_ yJ6_checkIndex cJ6_checkIndex 3 (some .int)) (og_rm 0 0) (og_Pre E ((emC Γ) σ) [.int x0, .int x1, .null]) (og_Qi E (emC Γ) Q) 0 0 E.A := by
  refine og_met (lv := [(0, .int x0), (1, .int x1), (2, .null)]) RJ6 rfl (by decide) (og_le rfl) rfl (fun p e s m below meth c ls X hr hR hS hl => ?_)
  have hx := X.x
  have hb := X.b
  unfold wJ6_checkIndex at hq
  refine lv_iload_n (pc := 0) hx hb dJ6_checkIndex_0 rfl (lv_at hl 0 rfl) ?_
  refine lv_if_lt (tgt := 9) (pc := 1) hx hb dJ6_checkIndex_1 rfl (fun h1 => ?_) (fun h1 => ?_)
  · exact jJ6_checkIndex_9 X Γ hΓ hr Q x0 x1 σ (hq.1 h1) hR hS (lv_sub hl [0, 1, 2] rfl)
  · refine lv_iload_n (pc := 4) hx hb dJ6_checkIndex_4 rfl (lv_at hl 0 rfl) (lv_iload_n (pc := 5) hx hb dJ6_checkIndex_5 rfl (lv_at hl 1 rfl) ?_)
    refine lv_icmp_lt (tgt := 16) (pc := 6) hx hb dJ6_checkIndex_6 rfl (fun h2 => ?_) (fun h2 => ?_)
    · exact lv_iload_n (pc := 16) hx hb dJ6_checkIndex_16 rfl (lv_at hl 0 rfl) (og_ireti (pc := 17) X hr hR hS ((hq.2 h1).1 h2) dJ6_checkIndex_17)
    · exact jJ6_checkIndex_9 X Γ hΓ hr Q x0 x1 σ ((hq.2 h1).2 h2) hR hS (lv_sub hl [0, 1, 2] rfl)
def wJ5_checkIndex (Γ : OgG) (Q : Int32 → OgC → Prop) (x0 : Int32) (x1 : Int32) (σ : OgC) : Prop :=
  wJ6_checkIndex Γ (fun r_1 s_2 => (Q r_1 s_2)) x0 x1 σ
theorem mJ5_checkIndex (l : Launch) (E : OgE) (Γ : OgG) (hΓ : OgWf Γ) (Q : Int32 → OgC → Prop) (x0 : Int32) (x1 : Int32) (σ : OgC) (hq : wJ5_checkIndex Γ Q x0 x1 σ) : Met l yJ5_checkIndex (ws_ yJ5_checkIndex cJ5_checkIndex 2 (some .int)) (og_rm 1 28) (og_Pre E ((emC Γ) σ) [.int x0, .int x1]) (og_Qi E (emC Γ) Q) 0 0 E.A := by
  refine og_met (lv := [(0, .int x0), (1, .int x1)]) RJ5 rfl (by decide) (og_le rfl) rfl (fun p e s m below meth c ls X hr hR hS hl => ?_)
  have hx := X.x
  have hb := X.b
  unfold wJ5_checkIndex at hq
  exact lv_iload_n (pc := 0) hx hb dJ5_checkIndex_0 rfl (lv_at hl 0 rfl) (lv_iload_n (pc := 1) hx hb dJ5_checkIndex_1 rfl (lv_at hl 1 rfl) (lv_null (pc := 2) hx hb dJ5_checkIndex_2 (og_afti (og_runS (pc := 3) (As := [.int x0, .int x1, .null]) (rest := []) X hR hS (mJ6_checkIndex l E Γ hΓ _ x0 x1  σ hq) lm_J5_105 hy_J6_checkIndex rfl ⟨rfl, rfl, (og_le rfl), (og_le rfl), og_le rfl, og_le rfl⟩ rfl hl.1 (og_le rfl) dJ5_checkIndex_3) hS (fun r_1 s_2 H locs hq hR hS => (og_ireti (pc := 6) X hr hR hS hq dJ5_checkIndex_6)))))
def wJ2_elementData (Γ : OgG) (Q : Nat → OgC → Prop) (x0 : Nat) (x1 : Int32) (σ : OgC) : Prop :=
  ∃ b_1 : Nat, σ.R x0 1 = some b_1 ∧ (∃ n_2 : Nat, Γ.G b_1 = (106, n_2) ∧ (vp_in x1 n_2 ∧ (∃ b_3 : Nat, σ.R b_1 (x1.toNatClampNeg) = some b_3 ∧ (Q b_3 σ))))
theorem mJ2_elementData (l : Launch) (E : OgE) (Γ : OgG) (hΓ : OgWf Γ) (Q : Nat → OgC → Prop) (x0 : Nat) (x1 : Int32) (hGx0 : Γ.G x0 = (19, 0)) (σ : OgC) (hq : wJ2_elementData Γ Q x0 x1 σ) : Met l yJ2_elementData (ws_ yJ2_elementData cJ2_elementData 2 (some (.object "java/lang/Object"))) (og_rm 0 0) (og_Pre E ((emC Γ) σ) [.ref (E.b + x0), .int x1]) (og_Qr E (emC Γ) Q) 0 0 E.A := by
  refine og_met (lv := [(0, .ref (E.b + x0)), (1, .int x1)]) RJ2 rfl (by decide) (og_le rfl) rfl (fun p e s m below meth c ls X hr hR hS hl => ?_)
  have hx := X.x
  have hb := X.b
  unfold wJ2_elementData at hq
  exact lv_aload_n (pc := 0) hx hb dJ2_elementData_0 rfl (lv_at hl 0 rfl) (hq.elim (fun b_1 h => h.elim (fun hsb_1 h => h.elim (fun n_2 h => h.elim (fun hgb_1 hqb_1 => (og_get (pc := 1) X hR og_c18 lf_J2_9 (og_g1 hGx0) (v := .ref (E.b + b_1)) (og_vr hGx0 rfl hsb_1) dJ2_elementData_1 (lv_iload_n (pc := 4) hx hb dJ2_elementData_4 rfl (lv_at hl 1 rfl) (hqb_1.2.elim (fun b_3 h => h.elim (fun hsb_3 hqb_3 => (og_aald (pc := 5) X hR (x1.toNatClampNeg) rfl ⟨og_le rfl, og_le rfl⟩ hgb_1 hqb_1.1 (og_vr hgb_1 rfl hsb_3) dJ2_elementData_5 (og_aret (pc := 6) X hr (Or.inl ⟨_, rfl⟩) hR hS hqb_3 dJ2_elementData_6))))))))))))
def wJ2_get (Γ : OgG) (Q : Nat → OgC → Prop) (x0 : Nat) (x1 : Int32) (σ : OgC) : Prop :=
  wJ5_checkIndex Γ (fun r_1 s_2 => (wJ2_elementData Γ (fun r_3 s_4 => (Q r_3 s_4)) x0 x1 s_2)) x1 (σ.I x0 2) σ
theorem mJ2_get (l : Launch) (E : OgE) (Γ : OgG) (hΓ : OgWf Γ) (Q : Nat → OgC → Prop) (x0 : Nat) (x1 : Int32) (hGx0 : Γ.G x0 = (19, 0)) (σ : OgC) (hq : wJ2_get Γ Q x0 x1 σ) : Met l yJ2_get (ws_ yJ2_get cJ2_get 2 (some (.object "java/lang/Object"))) (og_rm 2 55) (og_Pre E ((emC Γ) σ) [.ref (E.b + x0), .int x1]) (og_Qr E (emC Γ) Q) 0 0 E.A := by
  refine og_met (lv := [(0, .ref (E.b + x0)), (1, .int x1)]) RJ2 rfl (by decide) (og_le rfl) rfl (fun p e s m below meth c ls X hr hR hS hl => ?_)
  have hx := X.x
  have hb := X.b
  unfold wJ2_get at hq
  refine lv_iload_n (pc := 0) hx hb dJ2_get_0 rfl (lv_at hl 1 rfl) (lv_aload_n (pc := 1) hx hb dJ2_get_1 rfl (lv_at hl 0 rfl) (og_get (pc := 2) X hR og_c18 lf_J2_48 (og_g1 hGx0) (v := .int (σ.I x0 2)) rfl dJ2_get_2 (og_afti (og_runS (pc := 5) (As := [.int x1, .int (σ.I x0 2)]) (rest := []) X hR hS (mJ5_checkIndex l E Γ hΓ _ x1 (σ.I x0 2)  σ hq) lm_J2_118 hy_J5_checkIndex rfl ⟨rfl, rfl, (og_le rfl), (og_le rfl), og_le rfl, og_le rfl⟩ rfl hl.1 (og_le rfl) dJ2_get_5) hS (fun r_1 s_2 H locs hq hR hS => (lv_pop (pc := 8) hx hb dJ2_get_8 rfl (lv_aload_n (pc := 9) hx hb dJ2_get_9 rfl (lv_at hl 0 rfl) (lv_iload_n (pc := 10) hx hb dJ2_get_10 rfl (lv_at hl 1 rfl) (og_aftr (em := emC Γ) (og_runV (pc := 11) (As := [.int x1]) (rest := []) X hR hS og_c18 (og_g1 hGx0) (mJ2_elementData l E Γ hΓ _ x0 x1 hGx0 s_2 hq) lm_J2_123 rfl hy_J2_elementData rfl ⟨rfl, rfl, (og_le rfl), (og_le rfl), og_le rfl, og_le rfl⟩ rfl hl.1 (og_le rfl) dJ2_get_11) hS (fun r_3 s_4 H locs hq hR hS => ?_)))))))))
  exact og_aret (pc := 14) X hr (Or.inl ⟨_, rfl⟩) hR hS hq dJ2_get_14
def wJ2_size (Γ : OgG) (Q : Int32 → OgC → Prop) (x0 : Nat) (σ : OgC) : Prop :=
  Q (σ.I x0 2) σ
theorem mJ2_size (l : Launch) (E : OgE) (Γ : OgG) (hΓ : OgWf Γ) (Q : Int32 → OgC → Prop) (x0 : Nat) (hGx0 : Γ.G x0 = (19, 0)) (σ : OgC) (hq : wJ2_size Γ Q x0 σ) : Met l yJ2_size (ws_ yJ2_size cJ2_size 1 (some .int)) (og_rm 0 0) (og_Pre E ((emC Γ) σ) [.ref (E.b + x0)]) (og_Qi E (emC Γ) Q) 0 0 E.A := by
  refine og_met (lv := [(0, .ref (E.b + x0))]) RJ2 rfl (by decide) (og_le rfl) rfl (fun p e s m below meth c ls X hr hR hS hl => ?_)
  have hx := X.x
  have hb := X.b
  unfold wJ2_size at hq
  exact lv_aload_n (pc := 0) hx hb dJ2_size_0 rfl (lv_at hl 0 rfl) (og_get (pc := 1) X hR og_c18 lf_J2_48 (og_g1 hGx0) (v := .int (σ.I x0 2)) rfl dJ2_size_1 (og_ireti (pc := 4) X hr hR hS hq dJ2_size_4))
def wX11_of (Γ : OgG) (Q : Int64 → OgC → Prop) (Xq : Nat → OgC → Prop) (x0 : Nat) (σ : OgC) : Prop :=
  Q (σ.I x0 0).toInt64 σ
theorem mX11_of (l : Launch) (E : OgE) (Γ : OgG) (hΓ : OgWf Γ) (Q : Int64 → OgC → Prop) (Xq : Nat → OgC → Prop) (x0 : Nat) (hGx0 : Γ.G x0 = (10, 0)) (σ : OgC) (hq : wX11_of Γ Q Xq x0 σ) : ox_Met l yX11_of (ws_ yX11_of cX11_of 2 (some .long)) (og_rm 0 0) (og_Pre E ((emC Γ) σ) [.ref (E.b + x0), .ref (E.b + 28)]) (og_Ql E (emC Γ) Q) (og_XC E (emC Γ) 5 Xq) 0 0 E.A := by
  refine og_metX (lv := [(0, .ref (E.b + x0)), (1, .ref (E.b + 28))]) RX11 rfl (by decide) (og_le rfl) rfl (fun p e s m below meth c ls X hnt hr hR hS hl => ?_)
  have hx := X.x
  have hb := X.b
  unfold wX11_of at hq
  exact lv_aload_n (pc := 0) hx hb dX11_of_0 rfl (lv_at hl 0 rfl) (og_get (pc := 1) X hR og_c9 lf_X11_7 (og_g1 hGx0) (v := .int (σ.I x0 0)) rfl dX11_of_1 (lv_i2l (pc := 4) hx hb dX11_of_4 rfl (ox_ret (og_lret (pc := 5) X hr hR hS hq dX11_of_5))))
def wX12_of (Γ : OgG) (Q : Int64 → OgC → Prop) (Xq : Nat → OgC → Prop) (x0 : Nat) (σ : OgC) : Prop :=
  vp_in (σ.I x0 0) 19 ∧ (Q (σ.L 30 ((σ.I x0 0).toNatClampNeg)) σ)
theorem mX12_of (l : Launch) (E : OgE) (Γ : OgG) (hΓ : OgWf Γ) (Q : Int64 → OgC → Prop) (Xq : Nat → OgC → Prop) (x0 : Nat) (hGx0 : Γ.G x0 = (11, 0)) (σ : OgC) (hq : wX12_of Γ Q Xq x0 σ) : ox_Met l yX12_of (ws_ yX12_of cX12_of 2 (some .long)) (og_rm 0 0) (og_Pre E ((emC Γ) σ) [.ref (E.b + x0), .ref (E.b + 28)]) (og_Ql E (emC Γ) Q) (og_XC E (emC Γ) 5 Xq) 0 0 E.A := by
  refine og_metX (lv := [(0, .ref (E.b + x0)), (1, .ref (E.b + 28))]) RX12 rfl (by decide) (og_le rfl) rfl (fun p e s m below meth c ls X hnt hr hR hS hl => ?_)
  have hx := X.x
  have hb := X.b
  unfold wX12_of at hq
  exact lv_aload_n (pc := 0) hx hb dX12_of_0 rfl (lv_at hl 1 rfl) (og_get (pc := 1) X hR og_c4 lf_X12_13 (og_g1 (hΓ.1 28 (og_le rfl))) (v := .ref (E.b + 30)) (og_crv (hΓ.1 28 (og_le rfl)) rfl) dX12_of_1 (lv_aload_n (pc := 4) hx hb dX12_of_4 rfl (lv_at hl 0 rfl) (og_get (pc := 5) X hR og_c10 lf_X12_7 (og_g1 hGx0) (v := .int (σ.I x0 0)) rfl dX12_of_5 (og_lald (pc := 8) X hR ((σ.I x0 0).toNatClampNeg) rfl (hΓ.1 30 (og_le rfl)) hq.1 dX12_of_8 (ox_ret (og_lret (pc := 9) X hr hR hS hq.2 dX12_of_9))))))
def wX13_of_137 (Γ : OgG) (Q : Int64 → OgC → Prop) (Xq : Nat → OgC → Prop) (rS : (Int64 → OgC → Prop) → (Nat → OgC → Prop) → Nat → OgC → Prop) (σ : OgC) : Prop :=
  Xq 29 σ
def wX13_of_117 (Γ : OgG) (Q : Int64 → OgC → Prop) (Xq : Nat → OgC → Prop) (rS : (Int64 → OgC → Prop) → (Nat → OgC → Prop) → Nat → OgC → Prop) (t0 : Int64) (σ : OgC) : Prop :=
  ((1000000000 : Int64) < t0 → (wX13_of_137 Γ Q Xq rS σ)) ∧ (¬ (1000000000 : Int64) < t0 → (((-1000000000 : Int64) ≤ t0 → (Q t0 σ)) ∧ (¬ (-1000000000 : Int64) ≤ t0 → (wX13_of_137 Γ Q Xq rS σ))))
def wX13_of_49 (Γ : OgG) (Q : Int64 → OgC → Prop) (Xq : Nat → OgC → Prop) (rS : (Int64 → OgC → Prop) → (Nat → OgC → Prop) → Nat → OgC → Prop) (x0 : Nat) (x2 : Int64) (x4 : Int64) (σ : OgC) : Prop :=
  (¬ (σ.I x0 0) = (43 : Int32) → ((¬ (σ.I x0 0) = (45 : Int32) → ((¬ (σ.I x0 0) = (42 : Int32) → ((¬ (σ.I x0 0) = (47 : Int32) → (¬ x4 = 0 ∧ (wX13_of_117 Γ Q Xq rS (x2 - x2 / x4 * x4) σ))) ∧ ((σ.I x0 0) = (47 : Int32) → (¬ x4 = 0 ∧ (wX13_of_117 Γ Q Xq rS (x2 / x4) σ))))) ∧ ((σ.I x0 0) = (42 : Int32) → (wX13_of_117 Γ Q Xq rS (x2 * x4) σ)))) ∧ ((σ.I x0 0) = (45 : Int32) → (wX13_of_117 Γ Q Xq rS (x2 - x4) σ)))) ∧ ((σ.I x0 0) = (43 : Int32) → (wX13_of_117 Γ Q Xq rS (x2 + x4) σ))
def wX13_of_37 (Γ : OgG) (Q : Int64 → OgC → Prop) (Xq : Nat → OgC → Prop) (rS : (Int64 → OgC → Prop) → (Nat → OgC → Prop) → Nat → OgC → Prop) (x0 : Nat) (x2 : Int64) (x4 : Int64) (σ : OgC) : Prop :=
  (¬ x4 = (0 : Int64) → (wX13_of_49 Γ Q Xq rS x0 x2 x4 σ)) ∧ (x4 = (0 : Int64) → (Xq 29 σ))
def wX13_of (Γ : OgG) (Q : Int64 → OgC → Prop) (Xq : Nat → OgC → Prop) (rS : (Int64 → OgC → Prop) → (Nat → OgC → Prop) → Nat → OgC → Prop) (x0 : Nat) (σ : OgC) : Prop :=
  ∃ b_1 : Nat, σ.R x0 1 = some b_1 ∧ (rS (fun r_2 s_3 => (∃ b_4 : Nat, s_3.R x0 2 = some b_4 ∧ (rS (fun r_5 s_6 => (((s_6.I x0 0) = (47 : Int32) → (wX13_of_37 Γ Q Xq rS x0 r_2 r_5 s_6)) ∧ (¬ (s_6.I x0 0) = (47 : Int32) → ((¬ (s_6.I x0 0) = (37 : Int32) → (wX13_of_49 Γ Q Xq rS x0 r_2 r_5 s_6)) ∧ ((s_6.I x0 0) = (37 : Int32) → (wX13_of_37 Γ Q Xq rS x0 r_2 r_5 s_6)))))) Xq b_4 s_3))) Xq b_1 σ)
theorem jX13_of_137 (X : OgX p s m args meth c cX13_of 8 RX13 E) (Γ : OgG) (hΓ : OgWf Γ) (hnt : ∀ x ∈ c.exceptionTable.toList, False) (hr : meth.sig.returnType = (some .long)) (Q : Int64 → OgC → Prop) (Xq : Nat → OgC → Prop) (n : Nat) (rS : (Int64 → OgC → Prop) → (Nat → OgC → Prop) → Nat → OgC → Prop) (hOS : OkS l E Γ n rS) (σ : OgC) (hq : wX13_of_137 Γ Q Xq rS σ) (hR : OgRep E ((emC Γ) σ) H) (hS : va_S E.A s.heap H locs) (hl : lv_has ls 8 [(1, .ref (E.b + 28))]) : W p l e (og_rm (n + 6) (40 * n + 240)) s m args below meth c H locs 0 0 (ox_MQ below (og_Ql E (emC Γ) Q) (og_XC E (emC Γ) 5 Xq) args s 0 0 E.A) (F0 m 137 ls []) := by
  have hx := X.x
  have hb := X.b
  unfold wX13_of_137 at hq
  exact lv_aload_n (pc := 137) hx hb dX13_of_137 rfl (lv_at hl 0 rfl) (og_get (pc := 138) X hR og_c4 lf_X13_26 (og_g1 (hΓ.1 28 (og_le rfl))) (v := .ref (E.b + 29)) (og_crv (hΓ.1 28 (og_le rfl)) rfl) dX13_of_138 (og_athrow (pc := 141) X hnt hR hS og_c5 (og_g1 (hΓ.1 29 (og_le rfl))) hq (og_le rfl) (og_le rfl) dX13_of_141))
theorem jX13_of_117 (X : OgX p s m args meth c cX13_of 8 RX13 E) (Γ : OgG) (hΓ : OgWf Γ) (hnt : ∀ x ∈ c.exceptionTable.toList, False) (hr : meth.sig.returnType = (some .long)) (Q : Int64 → OgC → Prop) (Xq : Nat → OgC → Prop) (n : Nat) (rS : (Int64 → OgC → Prop) → (Nat → OgC → Prop) → Nat → OgC → Prop) (hOS : OkS l E Γ n rS) (t0 : Int64) (σ : OgC) (hq : wX13_of_117 Γ Q Xq rS t0 σ) (hR : OgRep E ((emC Γ) σ) H) (hS : va_S E.A s.heap H locs) (hl : lv_has ls 8 [(1, .ref (E.b + 28))]) : W p l e (og_rm (n + 6) (40 * n + 240)) s m args below meth c H locs 0 0 (ox_MQ below (og_Ql E (emC Γ) Q) (og_XC E (emC Γ) 5 Xq) args s 0 0 E.A) (F0 m 117 ls [.long t0]) := by
  have hx := X.x
  have hb := X.b
  unfold wX13_of_117 at hq
  refine lv_lstore (lv' := [(6, .long t0), (1, .ref (E.b + 28))]) (pc := 117) hx hb dX13_of_117 hl (og_le rfl) rfl (fun ls hl => (lv_lload (pc := 119) hx hb dX13_of_119 (lv_at hl 0 rfl) (lv_ldc2 (pc := 121) hx hb X.o (X.t _ q1172) dX13_of_121 ?_)))
  refine og_lcmp_gt (tgt := 137) (pc := 124) hx hb dX13_of_124 dX13_of_125 rfl (fun h1 => ?_) (fun h1 => ?_)
  · exact jX13_of_137 X Γ hΓ hnt hr Q Xq n rS hOS  σ (hq.1 h1) hR hS (lv_sub hl [1] rfl)
  · refine lv_lload (pc := 128) hx hb dX13_of_128 (lv_at hl 0 rfl) (lv_ldc2 (pc := 130) hx hb X.o (X.t _ q1173) dX13_of_130 ?_)
    refine og_lcmp_ge (tgt := 142) (pc := 133) hx hb dX13_of_133 dX13_of_134 rfl (fun h2 => ?_) (fun h2 => ?_)
    · exact lv_lload (pc := 142) hx hb dX13_of_142 (lv_at hl 0 rfl) (ox_ret (og_lret (pc := 144) X hr hR hS ((hq.2 h1).1 h2) dX13_of_144))
    · exact jX13_of_137 X Γ hΓ hnt hr Q Xq n rS hOS  σ ((hq.2 h1).2 h2) hR hS (lv_sub hl [1] rfl)
theorem jX13_of_49 (X : OgX p s m args meth c cX13_of 8 RX13 E) (Γ : OgG) (hΓ : OgWf Γ) (hnt : ∀ x ∈ c.exceptionTable.toList, False) (hr : meth.sig.returnType = (some .long)) (Q : Int64 → OgC → Prop) (Xq : Nat → OgC → Prop) (n : Nat) (rS : (Int64 → OgC → Prop) → (Nat → OgC → Prop) → Nat → OgC → Prop) (hOS : OkS l E Γ n rS) (x0 : Nat) (x2 : Int64) (x4 : Int64) (hGx0 : Γ.G x0 = (12, 0)) (σ : OgC) (hq : wX13_of_49 Γ Q Xq rS x0 x2 x4 σ) (hR : OgRep E ((emC Γ) σ) H) (hS : va_S E.A s.heap H locs) (hl : lv_has ls 8 [(0, .ref (E.b + x0)), (1, .ref (E.b + 28)), (2, .long x2), (4, .long x4)]) : W p l e (og_rm (n + 6) (40 * n + 240)) s m args below meth c H locs 0 0 (ox_MQ below (og_Ql E (emC Γ) Q) (og_XC E (emC Γ) 5 Xq) args s 0 0 E.A) (F0 m 49 ls []) := by
  have hx := X.x
  have hb := X.b
  unfold wX13_of_49 at hq
  refine lv_aload_n (pc := 49) hx hb dX13_of_49 rfl (lv_at hl 0 rfl) (og_get (pc := 50) X hR og_c11 lf_X13_9 (og_g1 hGx0) (v := .int (σ.I x0 0)) rfl dX13_of_50 (lv_bipush (pc := 53) hx hb dX13_of_53 ck_b_43 ?_))
  refine lv_icmp_ne (tgt := 65) (pc := 55) hx hb dX13_of_55 rfl (fun h1 => ?_) (fun h1 => ?_)
  · refine lv_aload_n (pc := 65) hx hb dX13_of_65 rfl (lv_at hl 0 rfl) (og_get (pc := 66) X hR og_c11 lf_X13_9 (og_g1 hGx0) (v := .int (σ.I x0 0)) rfl dX13_of_66 (lv_bipush (pc := 69) hx hb dX13_of_69 ck_b_45 ?_))
    refine lv_icmp_ne (tgt := 81) (pc := 71) hx hb dX13_of_71 rfl (fun h2 => ?_) (fun h2 => ?_)
    · refine lv_aload_n (pc := 81) hx hb dX13_of_81 rfl (lv_at hl 0 rfl) (og_get (pc := 82) X hR og_c11 lf_X13_9 (og_g1 hGx0) (v := .int (σ.I x0 0)) rfl dX13_of_82 (lv_bipush (pc := 85) hx hb dX13_of_85 ck_b_42 ?_))
      refine lv_icmp_ne (tgt := 97) (pc := 87) hx hb dX13_of_87 rfl (fun h3 => ?_) (fun h3 => ?_)
      · refine lv_aload_n (pc := 97) hx hb dX13_of_97 rfl (lv_at hl 0 rfl) (og_get (pc := 98) X hR og_c11 lf_X13_9 (og_g1 hGx0) (v := .int (σ.I x0 0)) rfl dX13_of_98 (lv_bipush (pc := 101) hx hb dX13_of_101 ck_b_47 ?_))
        refine lv_icmp_ne (tgt := 113) (pc := 103) hx hb dX13_of_103 rfl (fun h4 => ?_) (fun h4 => ?_)
        · exact lv_lload_n (pc := 113) hx hb dX13_of_113 rfl (lv_at hl 2 rfl) (lv_lload (pc := 114) hx hb dX13_of_114 (lv_at hl 3 rfl) (lv_lrem (pc := 116) hx hb dX13_of_116 ((((hq.1 h1).1 h2).1 h3).1 h4).1 (jX13_of_117 X Γ hΓ hnt hr Q Xq n rS hOS (x2 - x2 / x4 * x4) σ ((((hq.1 h1).1 h2).1 h3).1 h4).2 hR hS (lv_sub hl [1] rfl))))
        · exact lv_lload_n (pc := 106) hx hb dX13_of_106 rfl (lv_at hl 2 rfl) (lv_lload (pc := 107) hx hb dX13_of_107 (lv_at hl 3 rfl) (lv_ldiv (pc := 109) hx hb dX13_of_109 ((((hq.1 h1).1 h2).1 h3).2 h4).1 (lv_goto (tgt := 117) (pc := 110) hx hb dX13_of_110 rfl (jX13_of_117 X Γ hΓ hnt hr Q Xq n rS hOS (x2 / x4) σ ((((hq.1 h1).1 h2).1 h3).2 h4).2 hR hS (lv_sub hl [1] rfl)))))
      · exact lv_lload_n (pc := 90) hx hb dX13_of_90 rfl (lv_at hl 2 rfl) (lv_lload (pc := 91) hx hb dX13_of_91 (lv_at hl 3 rfl) (lv_lmul (pc := 93) hx hb dX13_of_93 (lv_goto (tgt := 117) (pc := 94) hx hb dX13_of_94 rfl (jX13_of_117 X Γ hΓ hnt hr Q Xq n rS hOS (x2 * x4) σ (((hq.1 h1).1 h2).2 h3) hR hS (lv_sub hl [1] rfl)))))
    · exact lv_lload_n (pc := 74) hx hb dX13_of_74 rfl (lv_at hl 2 rfl) (lv_lload (pc := 75) hx hb dX13_of_75 (lv_at hl 3 rfl) (lv_lsub (pc := 77) hx hb dX13_of_77 (lv_goto (tgt := 117) (pc := 78) hx hb dX13_of_78 rfl (jX13_of_117 X Γ hΓ hnt hr Q Xq n rS hOS (x2 - x4) σ ((hq.1 h1).2 h2) hR hS (lv_sub hl [1] rfl)))))
  · exact lv_lload_n (pc := 58) hx hb dX13_of_58 rfl (lv_at hl 2 rfl) (lv_lload (pc := 59) hx hb dX13_of_59 (lv_at hl 3 rfl) (lv_ladd (pc := 61) hx hb dX13_of_61 (lv_goto (tgt := 117) (pc := 62) hx hb dX13_of_62 rfl (jX13_of_117 X Γ hΓ hnt hr Q Xq n rS hOS (x2 + x4) σ (hq.2 h1) hR hS (lv_sub hl [1] rfl)))))
theorem jX13_of_37 (X : OgX p s m args meth c cX13_of 8 RX13 E) (Γ : OgG) (hΓ : OgWf Γ) (hnt : ∀ x ∈ c.exceptionTable.toList, False) (hr : meth.sig.returnType = (some .long)) (Q : Int64 → OgC → Prop) (Xq : Nat → OgC → Prop) (n : Nat) (rS : (Int64 → OgC → Prop) → (Nat → OgC → Prop) → Nat → OgC → Prop) (hOS : OkS l E Γ n rS) (x0 : Nat) (x2 : Int64) (x4 : Int64) (hGx0 : Γ.G x0 = (12, 0)) (σ : OgC) (hq : wX13_of_37 Γ Q Xq rS x0 x2 x4 σ) (hR : OgRep E ((emC Γ) σ) H) (hS : va_S E.A s.heap H locs) (hl : lv_has ls 8 [(0, .ref (E.b + x0)), (1, .ref (E.b + 28)), (2, .long x2), (4, .long x4)]) : W p l e (og_rm (n + 6) (40 * n + 240)) s m args below meth c H locs 0 0 (ox_MQ below (og_Ql E (emC Γ) Q) (og_XC E (emC Γ) 5 Xq) args s 0 0 E.A) (F0 m 37 ls []) := by
  have hx := X.x
  have hb := X.b
  unfold wX13_of_37 at hq
  refine lv_lload (pc := 37) hx hb dX13_of_37 (lv_at hl 3 rfl) (lv_lconst (pc := 39) hx hb dX13_of_39 ck_l_0 ?_)
  refine og_lcmp_ne (tgt := 49) (pc := 40) hx hb dX13_of_40 dX13_of_41 rfl (fun h1 => ?_) (fun h1 => ?_)
  · exact jX13_of_49 X Γ hΓ hnt hr Q Xq n rS hOS x0 x2 x4 hGx0 σ (hq.1 h1) hR hS (lv_sub hl [0, 1, 2, 3] rfl)
  · exact lv_aload_n (pc := 44) hx hb dX13_of_44 rfl (lv_at hl 1 rfl) (og_get (pc := 45) X hR og_c4 lf_X13_26 (og_g1 (hΓ.1 28 (og_le rfl))) (v := .ref (E.b + 29)) (og_crv (hΓ.1 28 (og_le rfl)) rfl) dX13_of_45 (og_athrow (pc := 48) X hnt hR hS og_c5 (og_g1 (hΓ.1 29 (og_le rfl))) (hq.2 h1) (og_le rfl) (og_le rfl) dX13_of_48))
theorem mX13_of (l : Launch) (E : OgE) (Γ : OgG) (hΓ : OgWf Γ) (Q : Int64 → OgC → Prop) (Xq : Nat → OgC → Prop) (n : Nat) (rS : (Int64 → OgC → Prop) → (Nat → OgC → Prop) → Nat → OgC → Prop) (hOS : OkS l E Γ n rS) (x0 : Nat) (hGx0 : Γ.G x0 = (12, 0)) (σ : OgC) (hq : wX13_of Γ Q Xq rS x0 σ) : ox_Met l yX13_of (ws_ yX13_of cX13_of 8 (some .long)) (og_rm (n + 6) (40 * n + 240)) (og_Pre E ((emC Γ) σ) [.ref (E.b + x0), .ref (E.b + 28)]) (og_Ql E (emC Γ) Q) (og_XC E (emC Γ) 5 Xq) 0 0 E.A := by
  refine og_metX (lv := [(0, .ref (E.b + x0)), (1, .ref (E.b + 28))]) RX13 rfl (by decide) (og_le rfl) rfl (fun p e s m below meth c ls X hnt hr hR hS hl => ?_)
  have hx := X.x
  have hb := X.b
  unfold wX13_of at hq
  refine lv_aload_n (pc := 0) hx hb dX13_of_0 rfl (lv_at hl 0 rfl) (hq.elim (fun b_1 h => h.elim (fun hsb_1 hqb_1 => (og_get (pc := 1) X hR og_c11 lf_X13_15 (og_g1 hGx0) (v := .ref (E.b + b_1)) (og_vr hGx0 rfl hsb_1) dX13_of_1 (lv_aload_n (pc := 4) hx hb dX13_of_4 rfl (lv_at hl 1 rfl) (og_aftXl (pc := 5) (em := emC Γ) X hnt og_c5 (hOS X hR hS hqb_1 q1169 ⟨Nat.le_refl _, Nat.le_refl _, og_le rfl, og_le rfl⟩ hl.1 (og_le rfl) dX13_of_5) hS (og_le rfl) (og_le rfl) (fun r_2 s_3 H locs hq hR hS => (lv_lstore_n (lv' := [(2, .long r_2), (0, .ref (E.b + x0)), (1, .ref (E.b + 28))]) (pc := 8) hx hb dX13_of_8 rfl hl (og_le rfl) rfl (fun ls hl => (lv_aload_n (pc := 9) hx hb dX13_of_9 rfl (lv_at hl 1 rfl) (hq.elim (fun b_4 h => h.elim (fun hsb_4 hqb_4 => ?_)))))))))))))
  refine og_get (pc := 10) X hR og_c11 lf_X13_19 (og_g1 hGx0) (v := .ref (E.b + b_4)) (og_vr hGx0 rfl hsb_4) dX13_of_10 (lv_aload_n (pc := 13) hx hb dX13_of_13 rfl (lv_at hl 2 rfl) (og_aftXl (pc := 14) (em := emC Γ) X hnt og_c5 (hOS X hR hS hqb_4 q1169 ⟨Nat.le_refl _, Nat.le_refl _, og_le rfl, og_le rfl⟩ hl.1 (og_le rfl) dX13_of_14) hS (og_le rfl) (og_le rfl) (fun r_5 s_6 H locs hq hR hS => (lv_lstore (lv' := [(4, .long r_5), (2, .long r_2), (0, .ref (E.b + x0)), (1, .ref (E.b + 28))]) (pc := 17) hx hb dX13_of_17 hl (og_le rfl) rfl (fun ls hl => (lv_aload_n (pc := 19) hx hb dX13_of_19 rfl (lv_at hl 2 rfl) (og_get (pc := 20) X hR og_c11 lf_X13_9 (og_g1 hGx0) (v := .int (s_6.I x0 0)) rfl dX13_of_20 (lv_bipush (pc := 23) hx hb dX13_of_23 ck_b_47 ?_))))))))
  refine lv_icmp_eq (tgt := 37) (pc := 25) hx hb dX13_of_25 rfl (fun h7 => ?_) (fun h7 => ?_)
  · exact jX13_of_37 X Γ hΓ hnt hr Q Xq n rS hOS x0 r_2 r_5 hGx0 s_6 (hq.1 h7) hR hS (lv_sub hl [2, 3, 1, 0] rfl)
  · refine lv_aload_n (pc := 28) hx hb dX13_of_28 rfl (lv_at hl 2 rfl) (og_get (pc := 29) X hR og_c11 lf_X13_9 (og_g1 hGx0) (v := .int (s_6.I x0 0)) rfl dX13_of_29 (lv_bipush (pc := 32) hx hb dX13_of_32 ck_b_37 ?_))
    refine lv_icmp_ne (tgt := 49) (pc := 34) hx hb dX13_of_34 rfl (fun h8 => ?_) (fun h8 => ?_)
    · exact jX13_of_49 X Γ hΓ hnt hr Q Xq n rS hOS x0 r_2 r_5 hGx0 s_6 ((hq.2 h7).1 h8) hR hS (lv_sub hl [2, 3, 1, 0] rfl)
    · exact jX13_of_37 X Γ hΓ hnt hr Q Xq n rS hOS x0 r_2 r_5 hGx0 s_6 ((hq.2 h7).2 h8) hR hS (lv_sub hl [2, 3, 1, 0] rfl)
def wX15_is (Γ : OgG) (Q : Int32 → OgC → Prop) (Xq : Nat → OgC → Prop) (rS : (Int64 → OgC → Prop) → (Nat → OgC → Prop) → Nat → OgC → Prop) (x0 : Nat) (σ : OgC) : Prop :=
  ∃ b_1 : Nat, σ.R x0 1 = some b_1 ∧ (rS (fun r_2 s_3 => (∃ b_4 : Nat, s_3.R x0 2 = some b_4 ∧ (rS (fun r_5 s_6 => ((¬ (s_6.I x0 0) = (60 : Int32) → ((¬ (s_6.I x0 0) = (62 : Int32) → ((¬ r_2 = r_5 → (Q (0 : Int32) s_6)) ∧ (r_2 = r_5 → (Q (1 : Int32) s_6)))) ∧ ((s_6.I x0 0) = (62 : Int32) → ((r_2 ≤ r_5 → (Q (0 : Int32) s_6)) ∧ (¬ r_2 ≤ r_5 → (Q (1 : Int32) s_6)))))) ∧ ((s_6.I x0 0) = (60 : Int32) → ((r_5 ≤ r_2 → (Q (0 : Int32) s_6)) ∧ (¬ r_5 ≤ r_2 → (Q (1 : Int32) s_6)))))) Xq b_4 s_3))) Xq b_1 σ)
theorem mX15_is (l : Launch) (E : OgE) (Γ : OgG) (hΓ : OgWf Γ) (Q : Int32 → OgC → Prop) (Xq : Nat → OgC → Prop) (n : Nat) (rS : (Int64 → OgC → Prop) → (Nat → OgC → Prop) → Nat → OgC → Prop) (hOS : OkS l E Γ n rS) (x0 : Nat) (hGx0 : Γ.G x0 = (13, 0)) (σ : OgC) (hq : wX15_is Γ Q Xq rS x0 σ) : ox_Met l yX15_is (ws_ yX15_is cX15_is 6 (some .boolean)) (og_rm (n + 6) (40 * n + 240)) (og_Pre E ((emC Γ) σ) [.ref (E.b + x0), .ref (E.b + 28)]) (og_Qi E (emC Γ) Q) (og_XC E (emC Γ) 5 Xq) 0 0 E.A := by
  refine og_metX (lv := [(0, .ref (E.b + x0)), (1, .ref (E.b + 28))]) RX15 rfl (by decide) (og_le rfl) rfl (fun p e s m below meth c ls X hnt hr hR hS hl => ?_)
  have hx := X.x
  have hb := X.b
  unfold wX15_is at hq
  refine lv_aload_n (pc := 0) hx hb dX15_is_0 rfl (lv_at hl 0 rfl) (hq.elim (fun b_1 h => h.elim (fun hsb_1 hqb_1 => (og_get (pc := 1) X hR og_c12 lf_X15_13 (og_g1 hGx0) (v := .ref (E.b + b_1)) (og_vr hGx0 rfl hsb_1) dX15_is_1 (lv_aload_n (pc := 4) hx hb dX15_is_4 rfl (lv_at hl 1 rfl) (og_aftXl (pc := 5) (em := emC Γ) X hnt og_c5 (hOS X hR hS hqb_1 q1160 ⟨Nat.le_refl _, Nat.le_refl _, og_le rfl, og_le rfl⟩ hl.1 (og_le rfl) dX15_is_5) hS (og_le rfl) (og_le rfl) (fun r_2 s_3 H locs hq hR hS => (lv_lstore_n (lv' := [(2, .long r_2), (0, .ref (E.b + x0)), (1, .ref (E.b + 28))]) (pc := 8) hx hb dX15_is_8 rfl hl (og_le rfl) rfl (fun ls hl => (lv_aload_n (pc := 9) hx hb dX15_is_9 rfl (lv_at hl 1 rfl) (hq.elim (fun b_4 h => h.elim (fun hsb_4 hqb_4 => ?_)))))))))))))
  refine og_get (pc := 10) X hR og_c12 lf_X15_17 (og_g1 hGx0) (v := .ref (E.b + b_4)) (og_vr hGx0 rfl hsb_4) dX15_is_10 (lv_aload_n (pc := 13) hx hb dX15_is_13 rfl (lv_at hl 2 rfl) (og_aftXl (pc := 14) (em := emC Γ) X hnt og_c5 (hOS X hR hS hqb_4 q1160 ⟨Nat.le_refl _, Nat.le_refl _, og_le rfl, og_le rfl⟩ hl.1 (og_le rfl) dX15_is_14) hS (og_le rfl) (og_le rfl) (fun r_5 s_6 H locs hq hR hS => (lv_lstore (lv' := [(4, .long r_5), (2, .long r_2), (0, .ref (E.b + x0)), (1, .ref (E.b + 28))]) (pc := 17) hx hb dX15_is_17 hl (og_le rfl) rfl (fun ls hl => (lv_aload_n (pc := 19) hx hb dX15_is_19 rfl (lv_at hl 2 rfl) (og_get (pc := 20) X hR og_c12 lf_X15_7 (og_g1 hGx0) (v := .int (s_6.I x0 0)) rfl dX15_is_20 (lv_bipush (pc := 23) hx hb dX15_is_23 ck_b_60 ?_))))))))
  refine lv_icmp_ne (tgt := 43) (pc := 25) hx hb dX15_is_25 rfl (fun h7 => ?_) (fun h7 => ?_)
  · refine lv_aload_n (pc := 43) hx hb dX15_is_43 rfl (lv_at hl 2 rfl) (og_get (pc := 44) X hR og_c12 lf_X15_7 (og_g1 hGx0) (v := .int (s_6.I x0 0)) rfl dX15_is_44 (lv_bipush (pc := 47) hx hb dX15_is_47 ck_b_62 ?_))
    refine lv_icmp_ne (tgt := 67) (pc := 49) hx hb dX15_is_49 rfl (fun h8 => ?_) (fun h8 => ?_)
    · refine lv_lload_n (pc := 67) hx hb dX15_is_67 rfl (lv_at hl 1 rfl) (lv_lload (pc := 68) hx hb dX15_is_68 (lv_at hl 0 rfl) ?_)
      refine og_lcmp_ne (tgt := 78) (pc := 70) hx hb dX15_is_70 dX15_is_71 rfl (fun h9 => ?_) (fun h9 => ?_)
      · exact lv_iconst (pc := 78) hx hb dX15_is_78 ck_i_0 (ox_ret (og_iretz (pc := 79) X hr hR hS ⟨by decide, (((hq.1 h7).1 h8).1 h9)⟩ dX15_is_79))
      · exact lv_iconst (pc := 74) hx hb dX15_is_74 ck_i_1 (lv_goto (tgt := 79) (pc := 75) hx hb dX15_is_75 rfl (ox_ret (og_iretz (pc := 79) X hr hR hS ⟨by decide, (((hq.1 h7).1 h8).2 h9)⟩ dX15_is_79)))
    · refine lv_lload_n (pc := 52) hx hb dX15_is_52 rfl (lv_at hl 1 rfl) (lv_lload (pc := 53) hx hb dX15_is_53 (lv_at hl 0 rfl) ?_)
      refine og_lcmp_le (tgt := 63) (pc := 55) hx hb dX15_is_55 dX15_is_56 rfl (fun h10 => ?_) (fun h10 => ?_)
      · exact lv_iconst (pc := 63) hx hb dX15_is_63 ck_i_0 (lv_goto (tgt := 79) (pc := 64) hx hb dX15_is_64 rfl (ox_ret (og_iretz (pc := 79) X hr hR hS ⟨by decide, (((hq.1 h7).2 h8).1 h10)⟩ dX15_is_79)))
      · exact lv_iconst (pc := 59) hx hb dX15_is_59 ck_i_1 (lv_goto (tgt := 79) (pc := 60) hx hb dX15_is_60 rfl (ox_ret (og_iretz (pc := 79) X hr hR hS ⟨by decide, (((hq.1 h7).2 h8).2 h10)⟩ dX15_is_79)))
  · refine lv_lload_n (pc := 28) hx hb dX15_is_28 rfl (lv_at hl 1 rfl) (lv_lload (pc := 29) hx hb dX15_is_29 (lv_at hl 0 rfl) ?_)
    refine og_lcmp_ge (tgt := 39) (pc := 31) hx hb dX15_is_31 dX15_is_32 rfl (fun h11 => ?_) (fun h11 => ?_)
    · exact lv_iconst (pc := 39) hx hb dX15_is_39 ck_i_0 (lv_goto (tgt := 79) (pc := 40) hx hb dX15_is_40 rfl (ox_ret (og_iretz (pc := 79) X hr hR hS ⟨by decide, ((hq.2 h7).1 h11)⟩ dX15_is_79)))
    · exact lv_iconst (pc := 35) hx hb dX15_is_35 ck_i_1 (lv_goto (tgt := 79) (pc := 36) hx hb dX15_is_36 rfl (ox_ret (og_iretz (pc := 79) X hr hR hS ⟨by decide, ((hq.2 h7).2 h11)⟩ dX15_is_79)))
def wX16_is (Γ : OgG) (Q : Int32 → OgC → Prop) (Xq : Nat → OgC → Prop) (rT : (Int32 → OgC → Prop) → (Nat → OgC → Prop) → Nat → OgC → Prop) (x0 : Nat) (σ : OgC) : Prop :=
  ∃ b_1 : Nat, σ.R x0 0 = some b_1 ∧ (rT (fun r_2 s_3 => ((¬ r_2 = 0 → (Q (0 : Int32) s_3)) ∧ (r_2 = 0 → (Q (1 : Int32) s_3)))) Xq b_1 σ)
theorem mX16_is (l : Launch) (E : OgE) (Γ : OgG) (hΓ : OgWf Γ) (Q : Int32 → OgC → Prop) (Xq : Nat → OgC → Prop) (n : Nat) (rT : (Int32 → OgC → Prop) → (Nat → OgC → Prop) → Nat → OgC → Prop) (hOT : OkT l E Γ n rT) (x0 : Nat) (hGx0 : Γ.G x0 = (14, 0)) (σ : OgC) (hq : wX16_is Γ Q Xq rT x0 σ) : ox_Met l yX16_is (ws_ yX16_is cX16_is 2 (some .boolean)) (og_rm (n + 6) (40 * n + 240)) (og_Pre E ((emC Γ) σ) [.ref (E.b + x0), .ref (E.b + 28)]) (og_Qi E (emC Γ) Q) (og_XC E (emC Γ) 5 Xq) 0 0 E.A := by
  refine og_metX (lv := [(0, .ref (E.b + x0)), (1, .ref (E.b + 28))]) RX16 rfl (by decide) (og_le rfl) rfl (fun p e s m below meth c ls X hnt hr hR hS hl => ?_)
  have hx := X.x
  have hb := X.b
  unfold wX16_is at hq
  refine lv_aload_n (pc := 0) hx hb dX16_is_0 rfl (lv_at hl 0 rfl) (hq.elim (fun b_1 h => h.elim (fun hsb_1 hqb_1 => (og_get (pc := 1) X hR og_c13 lf_X16_7 (og_g1 hGx0) (v := .ref (E.b + b_1)) (og_vr hGx0 rfl hsb_1) dX16_is_1 (lv_aload_n (pc := 4) hx hb dX16_is_4 rfl (lv_at hl 1 rfl) (og_aftXi (pc := 5) (em := emC Γ) X hnt og_c5 (hOT X hR hS hqb_1 q1178 ⟨Nat.le_refl _, Nat.le_refl _, og_le rfl, og_le rfl⟩ hl.1 (og_le rfl) dX16_is_5) hS (og_le rfl) (og_le rfl) (fun r_2 s_3 H locs hq hR hS => ?_)))))))
  refine lv_if_ne (tgt := 15) (pc := 8) hx hb dX16_is_8 rfl (fun h4 => ?_) (fun h4 => ?_)
  · exact lv_iconst (pc := 15) hx hb dX16_is_15 ck_i_0 (ox_ret (og_iretz (pc := 16) X hr hR hS ⟨by decide, (hq.1 h4)⟩ dX16_is_16))
  · exact lv_iconst (pc := 11) hx hb dX16_is_11 ck_i_1 (lv_goto (tgt := 16) (pc := 12) hx hb dX16_is_12 rfl (ox_ret (og_iretz (pc := 16) X hr hR hS ⟨by decide, (hq.2 h4)⟩ dX16_is_16)))
def wX17_is_B2 (Γ : OgG) (Q : Int32 → OgC → Prop) (Xq : Nat → OgC → Prop) (rT : (Int32 → OgC → Prop) → (Nat → OgC → Prop) → Nat → OgC → Prop) (x0 : Nat) (K2 : Int32 → OgC → Prop) (x2 : Int32) (σ : OgC) : Prop :=
  ∃ b_1 : Nat, σ.R x0 1 = some b_1 ∧ (Γ.G b_1 = (19, 0) ∧ (wJ2_size Γ (fun r_2 s_3 => ((r_2 ≤ x2 → (((s_3.I x0 0) = 0 ∨ (s_3.I x0 0) = 1) ∧ Q (s_3.I x0 0) s_3)) ∧ (¬ r_2 ≤ x2 → (∃ b_5 : Nat, s_3.R x0 1 = some b_5 ∧ (Γ.G b_5 = (19, 0) ∧ (wJ2_get Γ (fun r_6 s_7 => ((Γ.G r_6 = (13, 0) ∨ Γ.G r_6 = (14, 0) ∨ Γ.G r_6 = (15, 0)) ∧ (rT (fun r_8 s_9 => ((r_8 = (s_9.I x0 0) → (∀ x2_11 : Int32, x2_11 = x2 + (1 : Int32) → (K2 x2_11 s_9))) ∧ (¬ r_8 = (s_9.I x0 0) → ((¬ (s_9.I x0 0) = 0 → (Q (0 : Int32) s_9)) ∧ ((s_9.I x0 0) = 0 → (Q (1 : Int32) s_9)))))) Xq r_6 s_7))) b_5 x2 s_3)))))) b_1 σ))
def wX17_is_2 (Γ : OgG) (Q : Int32 → OgC → Prop) (Xq : Nat → OgC → Prop) (rT : (Int32 → OgC → Prop) → (Nat → OgC → Prop) → Nat → OgC → Prop) (x0 : Nat) (x2 : Int32) (σ : OgC) : Prop := og_lp2 (wX17_is_B2 Γ Q Xq rT x0) x2 σ
def wX17_is (Γ : OgG) (Q : Int32 → OgC → Prop) (Xq : Nat → OgC → Prop) (rT : (Int32 → OgC → Prop) → (Nat → OgC → Prop) → Nat → OgC → Prop) (x0 : Nat) (σ : OgC) : Prop :=
  wX17_is_2 Γ Q Xq rT x0 (0 : Int32) σ
theorem jX17_is_2 (X : OgX p s m args meth c cX17_is 3 RX17 E) (Γ : OgG) (hΓ : OgWf Γ) (hnt : ∀ x ∈ c.exceptionTable.toList, False) (hr : meth.sig.returnType = (some .boolean)) (Q : Int32 → OgC → Prop) (Xq : Nat → OgC → Prop) (n : Nat) (rT : (Int32 → OgC → Prop) → (Nat → OgC → Prop) → Nat → OgC → Prop) (hOT : OkT l E Γ n rT) (x0 : Nat) (x2 : Int32) (hGx0 : Γ.G x0 = (15, 0)) (σ : OgC) (hq : wX17_is_2 Γ Q Xq rT x0 x2 σ) (hR : OgRep E ((emC Γ) σ) H) (hS : va_S E.A s.heap H locs) (hl : lv_has ls 3 [(0, .ref (E.b + x0)), (1, .ref (E.b + 28)), (2, .int x2)]) : W p l e (og_rm (n + 6) (40 * n + 240)) s m args below meth c H locs 0 0 (ox_MQ below (og_Qi E (emC Γ) Q) (og_XC E (emC Γ) 5 Xq) args s 0 0 E.A) (F0 m 2 ls []) := by
  have hx := X.x
  have hb := X.b
  refine og_lp2_elim (fun x2 σ => ∀ (H : Heap) (locs : List Loc) (ls : Array Slot), OgRep E ((emC Γ) σ) H → va_S E.A s.heap H locs → lv_has ls 3 [(0, .ref (E.b + x0)), (1, .ref (E.b + 28)), (2, .int x2)] → W p l e (og_rm (n + 6) (40 * n + 240)) s m args below meth c H locs 0 0 (ox_MQ below (og_Qi E (emC Γ) Q) (og_XC E (emC Γ) 5 Xq) args s 0 0 E.A) (F0 m 2 ls [])) (fun K2 hK2 x2 σ hq H locs ls hR hS hl => ?_) hq H locs ls hR hS hl
  unfold wX17_is_B2 at hq
  refine lv_iload_n (pc := 2) hx hb dX17_is_2 rfl (lv_at hl 2 rfl) (lv_aload_n (pc := 3) hx hb dX17_is_3 rfl (lv_at hl 0 rfl) (hq.elim (fun b_1 h => h.elim (fun hsb_1 h => h.elim (fun hgb_1 hqb_1 => (og_get (pc := 4) X hR og_c14 lf_X17_12 (og_g1 hGx0) (v := .ref (E.b + b_1)) (og_vr hGx0 rfl hsb_1) dX17_is_4 (og_afti (og_runV (pc := 7) (As := []) (rest := [.int x2]) X hR hS og_c18 (og_g1 hgb_1) (mJ2_size l E Γ hΓ _ b_1 hgb_1 σ hqb_1) lm_X17_22 rfl hy_J2_size rfl ⟨rfl, rfl, (og_lea (og_le rfl)), (og_lea (og_le rfl)), og_le rfl, og_le rfl⟩ rfl hl.1 (og_le rfl) dX17_is_7) hS (fun r_2 s_3 H locs hq hR hS => ?_))))))))
  refine lv_icmp_ge (tgt := 54) (pc := 10) hx hb dX17_is_10 rfl (fun h4 => ?_) (fun h4 => ?_)
  · exact lv_aload_n (pc := 54) hx hb dX17_is_54 rfl (lv_at hl 0 rfl) (og_get (pc := 55) X hR og_c14 lf_X17_18 (og_g1 hGx0) (v := .int (s_3.I x0 0)) rfl dX17_is_55 (ox_ret (og_iretz (pc := 58) X hr hR hS (hq.1 h4) dX17_is_58)))
  · refine lv_aload_n (pc := 13) hx hb dX17_is_13 rfl (lv_at hl 0 rfl) ((hq.2 h4).elim (fun b_5 h => h.elim (fun hsb_5 h => h.elim (fun hgb_5 hqb_5 => (og_get (pc := 14) X hR og_c14 lf_X17_12 (og_g1 hGx0) (v := .ref (E.b + b_5)) (og_vr hGx0 rfl hsb_5) dX17_is_14 (lv_iload_n (pc := 17) hx hb dX17_is_17 rfl (lv_at hl 2 rfl) (og_aftr (em := emC Γ) (og_runV (pc := 18) (As := [.int x2]) (rest := []) X hR hS og_c18 (og_g1 hgb_5) (mJ2_get l E Γ hΓ _ b_5 x2 hgb_5 s_3 hqb_5) lm_X17_26 rfl hy_J2_get rfl ⟨rfl, rfl, (og_lea (og_le rfl)), (og_lea (og_le rfl)), og_le rfl, og_le rfl⟩ rfl hl.1 (og_le rfl) dX17_is_18) hS (fun r_6 s_7 H locs hq hR hS => (og_castT (pc := 21) X hR hq.1 q1183 dX17_is_21 (lv_aload_n (pc := 24) hx hb dX17_is_24 rfl (lv_at hl 1 rfl) (og_aftXi (pc := 25) (em := emC Γ) X hnt og_c5 (hOT X hR hS hq.2 q1184 ⟨Nat.le_refl _, Nat.le_refl _, og_le rfl, og_le rfl⟩ hl.1 (og_le rfl) dX17_is_25) hS (og_le rfl) (og_le rfl) (fun r_8 s_9 H locs hq hR hS => ?_))))))))))))
    refine lv_aload_n (pc := 28) hx hb dX17_is_28 rfl (lv_at hl 0 rfl) (og_get (pc := 29) X hR og_c14 lf_X17_18 (og_g1 hGx0) (v := .int (s_9.I x0 0)) rfl dX17_is_29 ?_)
    refine lv_icmp_eq (tgt := 48) (pc := 32) hx hb dX17_is_32 rfl (fun h10 => ?_) (fun h10 => ?_)
    · exact og_named (x2 + (1 : Int32)) (fun x2_11 ex2_11 => (lv_iinc (lv' := [(2, .int x2_11), (0, .ref (E.b + x0)), (1, .ref (E.b + 28))]) (v := x2_11) (pc := 48) hx hb dX17_is_48 hl (k := 2) rfl ((ck_j_1 _).trans ex2_11.symm) (og_le rfl) rfl (fun ls hl => (lv_goto (tgt := 2) (pc := 51) hx hb dX17_is_51 rfl (hK2 _ _ ((hq.1 h10) x2_11 ex2_11) _ _ _ hR hS (lv_sub hl [1, 2, 0] rfl))))))
    · refine lv_aload_n (pc := 35) hx hb dX17_is_35 rfl (lv_at hl 0 rfl) (og_get (pc := 36) X hR og_c14 lf_X17_18 (og_g1 hGx0) (v := .int (s_9.I x0 0)) rfl dX17_is_36 ?_)
      refine lv_if_ne (tgt := 46) (pc := 39) hx hb dX17_is_39 rfl (fun h12 => ?_) (fun h12 => ?_)
      · exact lv_iconst (pc := 46) hx hb dX17_is_46 ck_i_0 (ox_ret (og_iretz (pc := 47) X hr hR hS ⟨by decide, ((hq.2 h10).1 h12)⟩ dX17_is_47))
      · exact lv_iconst (pc := 42) hx hb dX17_is_42 ck_i_1 (lv_goto (tgt := 47) (pc := 43) hx hb dX17_is_43 rfl (ox_ret (og_iretz (pc := 47) X hr hR hS ⟨by decide, ((hq.2 h10).2 h12)⟩ dX17_is_47)))
theorem mX17_is (l : Launch) (E : OgE) (Γ : OgG) (hΓ : OgWf Γ) (Q : Int32 → OgC → Prop) (Xq : Nat → OgC → Prop) (n : Nat) (rT : (Int32 → OgC → Prop) → (Nat → OgC → Prop) → Nat → OgC → Prop) (hOT : OkT l E Γ n rT) (x0 : Nat) (hGx0 : Γ.G x0 = (15, 0)) (σ : OgC) (hq : wX17_is Γ Q Xq rT x0 σ) : ox_Met l yX17_is (ws_ yX17_is cX17_is 3 (some .boolean)) (og_rm (n + 6) (40 * n + 240)) (og_Pre E ((emC Γ) σ) [.ref (E.b + x0), .ref (E.b + 28)]) (og_Qi E (emC Γ) Q) (og_XC E (emC Γ) 5 Xq) 0 0 E.A := by
  refine og_metX (lv := [(0, .ref (E.b + x0)), (1, .ref (E.b + 28))]) RX17 rfl (by decide) (og_le rfl) rfl (fun p e s m below meth c ls X hnt hr hR hS hl => ?_)
  have hx := X.x
  have hb := X.b
  unfold wX17_is at hq
  exact lv_iconst (pc := 0) hx hb dX17_is_0 ck_i_0 (lv_istore_n (lv' := [(2, .int (0 : Int32)), (0, .ref (E.b + x0)), (1, .ref (E.b + 28))]) (pc := 1) hx hb dX17_is_1 rfl hl (og_le rfl) rfl (fun ls hl => (jX17_is_2 X Γ hΓ hnt hr Q Xq n rT hOT x0 (0 : Int32) hGx0 σ hq hR hS (lv_sub hl [1, 2, 0] rfl))))
end Walk
