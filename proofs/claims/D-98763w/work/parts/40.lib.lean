set_option maxRecDepth 100000
theorem hy_J8_coder : OgY yJ8_coder 0 := by unfold OgY; decide +kernel
theorem lm_J8_335 : GoodIn lw_all (wsV RJ8 335 RJ8 yJ8_coder (ws_ yJ8_coder cJ8_coder 1 (some .byte))) := lw_V q701 q702 q703 q115 q704
theorem l2_J8_1059 : OgLS2 RJ8 1059 yJ6_checkIndex cJ6_checkIndex 3 (some .int) := ⟨q723, q724, q111, q725⟩
theorem l2_J8_1059R : OgLS2 RJ8 1059 yJ6_checkIndex cJ6_checkIndex 3 (some .int) := ⟨q723, q724, q111, q725⟩
theorem hy_J8_checkIndex : OgY yJ8_checkIndex 2 := by unfold OgY; decide +kernel
theorem l2_J9_9 : OgLS2 RJ9 9 yJ8_checkIndex cJ8_checkIndex 2 none := ⟨q718, q719, q115, q720⟩
theorem hy_J8_isLatin1 : OgY yJ8_isLatin1 0 := by unfold OgY; decide +kernel
theorem lm_J8_492 : GoodIn lw_all (wsV RJ8 492 RJ8 yJ8_isLatin1 (ws_ yJ8_isLatin1 cJ8_isLatin1 1 (some .boolean))) := lw_V q711 q712 q713 q115 q714
theorem hy_J9_charAt : OgY yJ9_charAt 2 := by unfold OgY; decide +kernel
theorem l2_J8_495 : OgLS2 RJ8 495 yJ9_charAt cJ9_charAt 2 (some .char) := ⟨q715, q716, q116, q717⟩
theorem hy_J0_init : OgY yJ0_init 0 := by unfold OgY; decide +kernel
theorem l2_J1_1 : OgLI RJ1 1 yJ0_init cJ0_init 1 := ⟨q185, q186, q102, q187⟩
theorem lf_J1_7_18 : OgFld RJ1 7 18 0 := ⟨og_le rfl, Or.inl q195⟩
theorem li_X8_1 : OgLI RX8 1 yJ4_init cJ4_init 5 := ⟨q766, q330, q107, q331⟩
theorem ln_X8_7 : OgFin RX8 7 7 6 := ⟨og_le rfl, q767, rfl, rfl⟩
theorem ln_X9_9 : OgFin RX9 9 8 0 := ⟨og_le rfl, q783, rfl, rfl⟩
theorem hy_X10_init : OgY yX10_init 0 := by unfold OgY; decide +kernel
theorem l2_X11_1 : OgLIN RX11 1 yX10_init cX10_init 1 := ⟨og_inm 1 rfl, q854, q120, q855⟩
theorem ln_X11_7 : OgFin RX11 7 9 0 := ⟨og_le rfl, q857, rfl, rfl⟩
theorem l2_X12_1 : OgLIN RX12 1 yX10_init cX10_init 1 := ⟨og_inm 2 rfl, q854, q120, q855⟩
theorem ln_X12_7 : OgFin RX12 7 10 0 := ⟨og_le rfl, q905, rfl, rfl⟩
theorem l2_X13_3 : OgLIN RX13 3 yX10_init cX10_init 1 := ⟨og_inm 3 rfl, q854, q120, q855⟩
theorem ln_X13_9 : OgFin RX13 9 11 0 := ⟨og_le rfl, q918, rfl, rfl⟩
theorem ln_X13_15 : OgFin RX13 15 11 1 := ⟨og_le rfl, q919, rfl, rfl⟩
theorem ln_X13_19 : OgFin RX13 19 11 2 := ⟨og_le rfl, q920, rfl, rfl⟩
theorem hy_X14_init : OgY yX14_init 0 := by unfold OgY; decide +kernel
theorem l2_X15_1 : OgLIN RX15 1 yX14_init cX14_init 1 := ⟨og_inm 4 rfl, q972, q124, q973⟩
theorem ln_X15_7 : OgFin RX15 7 12 0 := ⟨og_le rfl, q975, rfl, rfl⟩
theorem ln_X15_13 : OgFin RX15 13 12 1 := ⟨og_le rfl, q976, rfl, rfl⟩
theorem ln_X15_17 : OgFin RX15 17 12 2 := ⟨og_le rfl, q977, rfl, rfl⟩
theorem l2_X16_1 : OgLIN RX16 1 yX14_init cX14_init 1 := ⟨og_inm 5 rfl, q972, q124, q973⟩
theorem ln_X16_7 : OgFin RX16 7 13 0 := ⟨og_le rfl, q991, rfl, rfl⟩
theorem lf_X18_9 : OgFld RX18 9 15 3 := ⟨og_le rfl, Or.inl q1054⟩
theorem ln_X18_15 : OgFin RX18 15 15 0 := ⟨og_le rfl, q1048, rfl, rfl⟩
theorem ln_X19_9 : OgFin RX19 9 16 0 := ⟨og_le rfl, q1096, rfl, rfl⟩
theorem ln_X6_9_6 : OgFin RX6 9 6 0 := ⟨og_le rfl, q637, rfl, rfl⟩
theorem ln_X6_15_6 : OgFin RX6 15 6 1 := ⟨og_le rfl, q638, rfl, rfl⟩
theorem ln_X6_9_17 : OgFin RX6 9 17 0 := ⟨og_le rfl, q637, rfl, rfl⟩
theorem ln_X6_15_17 : OgFin RX6 15 17 1 := ⟨og_le rfl, q638, rfl, rfl⟩
theorem hy_J1_init : OgY yJ1_init 0 := by unfold OgY; decide +kernel
theorem l2_J2_1 : OgLI RJ2 1 yJ1_init cJ1_init 1 := ⟨q182, q183, q103, q184⟩
theorem l2_X17_1 : OgLIN RX17 1 yX14_init cX14_init 1 := ⟨og_inm 6 rfl, q972, q124, q973⟩
theorem hy_J2_init : OgY yJ2_init 1 := by unfold OgY; decide +kernel
theorem l2_X17_9 : OgLI RX17 9 yJ2_init cJ2_init 2 := ⟨q1003, q180, q104, q181⟩
theorem ln_X17_12 : OgFin RX17 12 14 1 := ⟨og_le rfl, q1005, rfl, rfl⟩
theorem ln_X17_18 : OgFin RX17 18 14 0 := ⟨og_le rfl, q1004, rfl, rfl⟩
theorem hy_X6_init : OgY yX6_init 2 := by unfold OgY; decide +kernel
theorem l2_X7_3L : OgLI RX7 3 yX6_init cX6_init 3 := ⟨q629, q630, q113, q631⟩
theorem l2_X7_11 : OgLI RX7 11 yJ2_init cJ2_init 2 := ⟨q634, q180, q104, q181⟩
theorem ln_X7_14 : OgFin RX7 14 6 7 := ⟨og_le rfl, q635, rfl, rfl⟩
theorem l2_X20_3O : OgLI RX20 3 yX6_init cX6_init 3 := ⟨q1385, q630, q113, q631⟩
theorem l2_X20_11 : OgLI RX20 11 yJ2_init cJ2_init 2 := ⟨q1387, q180, q104, q181⟩
theorem ln_X20_14 : OgFin RX20 14 17 7 := ⟨og_le rfl, q1388, rfl, rfl⟩
theorem hy_J12_copyOf_2 : OgY yJ12_copyOf_2 3 := by unfold OgY; decide +kernel
theorem l2_J12_300 : OgLS2 RJ12 300 yJ12_copyOf_2 cJ12_copyOf_2 4 (some (.array (.object "java/lang/Object"))) := ⟨q497, q498, q129, q499⟩
theorem hy_J11_newLength : OgY yJ11_newLength 3 := by unfold OgY; decide +kernel
theorem l2_J2_73 : OgLS2 RJ2 73 yJ11_newLength cJ11_newLength 4 (some .int) := ⟨q512, q513, q128, q514⟩
theorem hy_J12_copyOf : OgY yJ12_copyOf 2 := by unfold OgY; decide +kernel
theorem l2_J2_66 : OgLS2 RJ2 66 yJ12_copyOf cJ12_copyOf 2 (some (.array (.object "java/lang/Object"))) := ⟨q471, q472, q129, q473⟩
theorem hy_J2_grow : OgY yJ2_grow 1 := by unfold OgY; decide +kernel
theorem l2_J2_69_18 : OgLV RJ2 69 (og_R 18) yJ2_grow cJ2_grow 4 (some (.array (.object "java/lang/Object"))) := ⟨q506, q508, qs2, q104, q509⟩
theorem hy_J2_grow_2 : OgY yJ2_grow_2 0 := by unfold OgY; decide +kernel
theorem l2_J2_129_18 : OgLV RJ2 129 (og_R 18) yJ2_grow_2 cJ2_grow_2 1 (some (.array (.object "java/lang/Object"))) := ⟨q1020, q1022, qs12, q104, q1023⟩
theorem hy_J2_add_2 : OgY yJ2_add_2 3 := by unfold OgY; decide +kernel
theorem l2_J2_131_18 : OgLV RJ2 131 (og_R 18) yJ2_add_2 cJ2_add_2 4 none := ⟨q1016, q1018, qs11, q104, q1019⟩
theorem hy_J2_toArray : OgY yJ2_toArray 0 := by unfold OgY; decide +kernel
theorem l2_J2_42 : GoodIn lw_all (va_wsF RJ2 42 RJ2 yColl yToA (ws_ yJ2_toArray cJ2_toArray 1 (some (.array (.object "java/lang/Object"))))) := lw_F q462 q466 q468 q104 q470
theorem og_b5 {cells slots kc ks mc ms : Nat} (hk : cells + kc = mc ∧ slots + ks = ms) : cells + 0 ≤ mc := by omega
theorem og_b6 {cells slots kc ks mc ms : Nat} (hk : cells + kc = mc ∧ slots + ks = ms) : slots + 0 ≤ ms := by omega
section Walk
variable {p : Program} {l : Launch} {e : Env} {s : State} {m : MethodId} {args : Array Value} {below : List Frame} {meth : Method} {c : Code} {E : OgE} {H : Heap} {locs : List Loc} {ls : Array Slot}
theorem jJ6_checkIndexR_9 (X : OgX p s m args meth c cJ6_checkIndex 3 RJ6 E) (Γ : OgG) (hΓ : OgWf Γ) (hr : meth.sig.returnType = (some .int)) (Q : Int32 → OgC → Prop) (x0 : Int32) (x1 : Int32) (x2 : Nat) (σ : OgC) (hq : wJ6_checkIndex_9 Γ Q x0 x1 σ) (hR : OgRep E ((emC Γ) σ) H) (hS : va_S E.A s.heap H locs) (hl : lv_has ls 3 [(0, .int x0), (1, .int x1), (2, .ref x2)]) : W p l e (og_rm 0 0) s m args below meth c H locs 0 0 (MQ below (og_Qi E (emC Γ) Q) args s 0 0 E.A) (F0 m 9 ls []) := by
  have hx := X.x
  have hb := X.b
  unfold wJ6_checkIndex_9 at hq
  exact lv_aload_n (pc := 9) hx hb dJ6_checkIndex_9 rfl (lv_at hl 2 rfl) (lv_iload_n (pc := 10) hx hb dJ6_checkIndex_10 rfl (lv_at hl 0 rfl) (lv_iload_n (pc := 11) hx hb dJ6_checkIndex_11 rfl (lv_at hl 1 rfl) ((hq).elim)))
theorem mJ6_checkIndexR (l : Launch) (E : OgE) (Γ : OgG) (hΓ : OgWf Γ) (Q : Int32 → OgC → Prop) (x0 : Int32) (x1 : Int32) (x2 : Nat) (σ : OgC) (hq : wJ6_checkIndex Γ Q x0 x1 σ) : Met l yJ6_checkIndex (ws_ yJ6_checkIndex cJ6_checkIndex 3 (some .int)) (og_rm 0 0) (og_Pre E ((emC Γ) σ) [.int x0, .int x1, .ref x2]) (og_Qi E (emC Γ) Q) 0 0 E.A := by
  refine og_met (lv := [(0, .int x0), (1, .int x1), (2, .ref x2)]) RJ6 rfl (by decide) (og_le rfl) rfl (fun p e s m below meth c ls X hr hR hS hl => ?_)
  have hx := X.x
  have hb := X.b
  unfold wJ6_checkIndex at hq
  refine lv_iload_n (pc := 0) hx hb dJ6_checkIndex_0 rfl (lv_at hl 0 rfl) ?_
  refine lv_if_lt (tgt := 9) (pc := 1) hx hb dJ6_checkIndex_1 rfl (fun h1 => ?_) (fun h1 => ?_)
  · exact jJ6_checkIndexR_9 X Γ hΓ hr Q x0 x1 x2 σ (hq.1 h1) hR hS (lv_sub hl [0, 1, 2] rfl)
  · refine lv_iload_n (pc := 4) hx hb dJ6_checkIndex_4 rfl (lv_at hl 0 rfl) (lv_iload_n (pc := 5) hx hb dJ6_checkIndex_5 rfl (lv_at hl 1 rfl) ?_)
    refine lv_icmp_lt (tgt := 16) (pc := 6) hx hb dJ6_checkIndex_6 rfl (fun h2 => ?_) (fun h2 => ?_)
    · exact lv_iload_n (pc := 16) hx hb dJ6_checkIndex_16 rfl (lv_at hl 0 rfl) (og_ireti (pc := 17) X hr hR hS ((hq.2 h1).1 h2) dJ6_checkIndex_17)
    · exact jJ6_checkIndexR_9 X Γ hΓ hr Q x0 x1 x2 σ ((hq.2 h1).2 h2) hR hS (lv_sub hl [0, 1, 2] rfl)
def wJ8_coder (Γ : OgG) (Q : Int32 → OgC → Prop) (x0 : Nat) (σ : OgC) : Prop :=
  ((1 : Int32) = 0 → (Q (1 : Int32) σ)) ∧ (¬ (1 : Int32) = 0 → (Q (0 : Int32) σ))
theorem mJ8_coder (l : Launch) (E : OgE) (Γ : OgG) (hΓ : OgWf Γ) (Q : Int32 → OgC → Prop) (x0 : Nat) (hSx0 : x0 < 46) (σ : OgC) (hq : wJ8_coder Γ Q x0 σ) : Met l yJ8_coder (ws_ yJ8_coder cJ8_coder 1 (some .byte)) (og_rm 0 0) (og_Pre E ((emC Γ) σ) [.ref (E.q x0)]) (og_Qi E (emC Γ) Q) 0 0 E.A := by
  refine og_met (lv := [(0, .ref (E.q x0))]) RJ8 rfl (by decide) (og_le rfl) rfl (fun p e s m below meth c ls X hr hR hS hl => ?_)
  have hx := X.x
  have hb := X.b
  unfold wJ8_coder at hq
  refine og_scmp (pc := 0) X hS q705 dJ8_coder_0 ?_
  refine lv_if_eq (tgt := 13) (pc := 3) hx hb dJ8_coder_3 rfl (fun h1 => ?_) (fun h1 => ?_)
  · exact lv_iconst (pc := 13) hx hb dJ8_coder_13 ck_i_1 (og_iretn (pc := 14) X hr hR hS ⟨by decide, (hq.1 h1)⟩ dJ8_coder_14)
  · exact lv_aload_n (pc := 6) hx hb dJ8_coder_6 rfl (lv_at hl 0 rfl) (og_scod (pc := 7) X hS hSx0 q2173 dJ8_coder_7 (lv_goto (tgt := 14) (pc := 10) hx hb dJ8_coder_10 rfl (og_iretn (pc := 14) X hr hR hS ⟨by decide, (hq.2 h1)⟩ dJ8_coder_14)))
def wJ8_length (Γ : OgG) (Q : Int32 → OgC → Prop) (x0 : Nat) (σ : OgC) : Prop :=
  wJ8_coder Γ (fun r_4 s_5 => (Q ((Int32.ofNat (og_bs x0).length) >>> (r_4 &&& 31)) s_5)) x0 σ
theorem mJ8_length (l : Launch) (E : OgE) (Γ : OgG) (hΓ : OgWf Γ) (Q : Int32 → OgC → Prop) (x0 : Nat) (hSx0 : x0 < 46) (σ : OgC) (hq : wJ8_length Γ Q x0 σ) : Met l yJ8_length (ws_ yJ8_length cJ8_length 1 (some .int)) (og_rm 1 26) (og_Pre E ((emC Γ) σ) [.ref (E.q x0)]) (og_Qi E (emC Γ) Q) 0 0 E.A := by
  refine og_met (lv := [(0, .ref (E.q x0))]) RJ8 rfl (by decide) (og_le rfl) rfl (fun p e s m below meth c ls X hr hR hS hl => ?_)
  have hx := X.x
  have hb := X.b
  unfold wJ8_length at hq
  exact lv_aload_n (pc := 0) hx hb dJ8_length_0 rfl (lv_at hl 0 rfl) (og_sval (pc := 1) X hS hSx0 q2172 dJ8_length_1 (og_slen (pc := 4) X hS hSx0 dJ8_length_4 (lv_aload_n (pc := 5) hx hb dJ8_length_5 rfl (lv_at hl 0 rfl) (og_afti (em := emC Γ) (og_runT (pc := 6) (As := []) (rest := [.int (Int32.ofNat (og_bs x0).length)]) X hR hS hSx0 (mJ8_coder l E Γ hΓ _ x0 hSx0 σ hq) lm_J8_335 rfl hy_J8_coder rfl ⟨rfl, rfl, (og_le rfl), (og_le rfl), og_le rfl, og_le rfl⟩ rfl hl.1 (og_le rfl) dJ8_length_6) hS (fun r_4 s_5 H locs hq hR hS => (lv_ishr (pc := 9) hx hb dJ8_length_9 (og_ireti (pc := 10) X hr hR hS hq dJ8_length_10)))))))
def wJ8_isLatin1 (Γ : OgG) (Q : Int32 → OgC → Prop) (x0 : Nat) (σ : OgC) : Prop :=
  ((1 : Int32) = 0 → (Q (0 : Int32) σ)) ∧ (¬ (1 : Int32) = 0 → ((¬ (0 : Int32) = 0 → (Q (0 : Int32) σ)) ∧ ((0 : Int32) = 0 → (Q (1 : Int32) σ))))
theorem mJ8_isLatin1 (l : Launch) (E : OgE) (Γ : OgG) (hΓ : OgWf Γ) (Q : Int32 → OgC → Prop) (x0 : Nat) (hSx0 : x0 < 46) (σ : OgC) (hq : wJ8_isLatin1 Γ Q x0 σ) : Met l yJ8_isLatin1 (ws_ yJ8_isLatin1 cJ8_isLatin1 1 (some .boolean)) (og_rm 0 0) (og_Pre E ((emC Γ) σ) [.ref (E.q x0)]) (og_Qi E (emC Γ) Q) 0 0 E.A := by
  refine og_met (lv := [(0, .ref (E.q x0))]) RJ8 rfl (by decide) (og_le rfl) rfl (fun p e s m below meth c ls X hr hR hS hl => ?_)
  have hx := X.x
  have hb := X.b
  unfold wJ8_isLatin1 at hq
  refine og_scmp (pc := 0) X hS q705 dJ8_isLatin1_0 ?_
  refine lv_if_eq (tgt := 17) (pc := 3) hx hb dJ8_isLatin1_3 rfl (fun h1 => ?_) (fun h1 => ?_)
  · exact lv_iconst (pc := 17) hx hb dJ8_isLatin1_17 ck_i_0 (og_iretz (pc := 18) X hr hR hS ⟨by decide, (hq.1 h1)⟩ dJ8_isLatin1_18)
  · refine lv_aload_n (pc := 6) hx hb dJ8_isLatin1_6 rfl (lv_at hl 0 rfl) (og_scod (pc := 7) X hS hSx0 q2173 dJ8_isLatin1_7 ?_)
    refine lv_if_ne (tgt := 17) (pc := 10) hx hb dJ8_isLatin1_10 rfl (fun h2 => ?_) (fun h2 => ?_)
    · exact lv_iconst (pc := 17) hx hb dJ8_isLatin1_17 ck_i_0 (og_iretz (pc := 18) X hr hR hS ⟨by decide, ((hq.2 h1).1 h2)⟩ dJ8_isLatin1_18)
    · exact lv_iconst (pc := 13) hx hb dJ8_isLatin1_13 ck_i_1 (lv_goto (tgt := 18) (pc := 14) hx hb dJ8_isLatin1_14 rfl (og_iretz (pc := 18) X hr hR hS ⟨by decide, ((hq.2 h1).2 h2)⟩ dJ8_isLatin1_18))
def wJ8_checkIndex (Γ : OgG) (Q : OgC → Prop) (x0 : Int32) (x1 : Int32) (σ : OgC) : Prop :=
  wJ6_checkIndex Γ (fun r_5 s_6 => (Q s_6)) x0 x1 σ
theorem mJ8_checkIndex (l : Launch) (E : OgE) (Γ : OgG) (hΓ : OgWf Γ) (Q : OgC → Prop) (x0 : Int32) (x1 : Int32) (σ : OgC) (hq : wJ8_checkIndex Γ Q x0 x1 σ) : Met l yJ8_checkIndex (ws_ yJ8_checkIndex cJ8_checkIndex 2 none) (og_rm 1 28) (og_Pre E ((emC Γ) σ) [.int x0, .int x1]) (og_Qv E (emC Γ) Q) 0 0 E.A := by
  refine og_met (lv := [(0, .int x0), (1, .int x1)]) RJ8 rfl (by decide) (og_le rfl) rfl (fun p e s m below meth c ls X hr hR hS hl => ?_)
  have hx := X.x
  have hb := X.b
  unfold wJ8_checkIndex at hq
  refine lv_iload_n (pc := 0) hx hb dJ8_checkIndex_0 rfl (lv_at hl 0 rfl) (lv_iload_n (pc := 1) hx hb dJ8_checkIndex_1 rfl (lv_at hl 1 rfl) ?_)
  refine og_sio (pc := 2) X hS q721 dJ8_checkIndex_2 ?_ (fun t_1 => ?_)
  · exact og_afti (em := emC Γ) (og_runS2 (pc := 5) (As := [.int x0, .int x1, .null]) (rest := []) X hR hS (mJ6_checkIndex l E Γ hΓ _ x0 x1  σ hq) l2_J8_1059  hy_J6_checkIndex rfl ⟨rfl, rfl, (og_le rfl), (og_le rfl), og_le rfl, og_le rfl⟩ rfl hl.1 (og_le rfl) dJ8_checkIndex_5) hS (fun r_5 s_6 H locs hq hR hS => (lv_pop (pc := 8) hx hb dJ8_checkIndex_8 rfl (og_vret (pc := 9) X hr hR hS hq dJ8_checkIndex_9)))
  · exact og_afti (em := emC Γ) (og_runS2 (pc := 5) (As := [.int x0, .int x1, .ref t_1]) (rest := []) X hR hS (mJ6_checkIndexR l E Γ hΓ _ x0 x1 t_1 σ hq) l2_J8_1059R  hy_J6_checkIndex rfl ⟨rfl, rfl, (og_le rfl), (og_le rfl), og_le rfl, og_le rfl⟩ rfl hl.1 (og_le rfl) dJ8_checkIndex_5) hS (fun r_5 s_6 H locs hq hR hS => (lv_pop (pc := 8) hx hb dJ8_checkIndex_8 rfl (og_vret (pc := 9) X hr hR hS hq dJ8_checkIndex_9)))
def wJ9_charAt (Γ : OgG) (Q : Int32 → OgC → Prop) (x0 : Nat) (x1 : Int32) (σ : OgC) : Prop :=
  wJ8_checkIndex Γ (fun s_4 => (vp_in x1 (og_bs x0).length ∧ (narrow .char (.int ((((og_bs x0).getD (x1.toNatClampNeg) 0) &&& (255 : Int32)).toUInt32 % 65536).toInt32) = .int ((((og_bs x0).getD (x1.toNatClampNeg) 0) &&& (255 : Int32)).toUInt32 % 65536).toInt32 ∧ Q ((((og_bs x0).getD (x1.toNatClampNeg) 0) &&& (255 : Int32)).toUInt32 % 65536).toInt32 s_4))) x1 (Int32.ofNat (og_bs x0).length) σ
theorem mJ9_charAt (l : Launch) (E : OgE) (Γ : OgG) (hΓ : OgWf Γ) (Q : Int32 → OgC → Prop) (x0 : Nat) (x1 : Int32) (hSx0 : x0 < 46) (σ : OgC) (hq : wJ9_charAt Γ Q x0 x1 σ) : Met l yJ9_charAt (ws_ yJ9_charAt cJ9_charAt 2 (some .char)) (og_rm 2 55) (og_Pre E ((emC Γ) σ) [.ref (E.v x0), .int x1]) (og_Qi E (emC Γ) Q) 0 0 E.A := by
  refine og_met (lv := [(0, .ref (E.v x0)), (1, .int x1)]) RJ9 rfl (by decide) (og_le rfl) rfl (fun p e s m below meth c ls X hr hR hS hl => ?_)
  have hx := X.x
  have hb := X.b
  unfold wJ9_charAt at hq
  refine lv_iload_n (pc := 0) hx hb dJ9_charAt_0 rfl (lv_at hl 1 rfl) (lv_aload_n (pc := 1) hx hb dJ9_charAt_1 rfl (lv_at hl 0 rfl) (og_slen (pc := 2) X hS hSx0 dJ9_charAt_2 (og_aftv (em := emC Γ) (og_runS2 (pc := 3) (As := [.int x1, .int (Int32.ofNat (og_bs x0).length)]) (rest := []) X hR hS (mJ8_checkIndex l E Γ hΓ _ x1 (Int32.ofNat (og_bs x0).length)  σ hq) l2_J9_9  hy_J8_checkIndex rfl ⟨rfl, rfl, (og_le rfl), (og_le rfl), og_le rfl, og_le rfl⟩ rfl hl.1 (og_le rfl) dJ9_charAt_3) hS (fun s_4 H locs hq hR hS => (lv_aload_n (pc := 6) hx hb dJ9_charAt_6 rfl (lv_at hl 0 rfl) (lv_iload_n (pc := 7) hx hb dJ9_charAt_7 rfl (lv_at hl 1 rfl) (og_sbld (pc := 8) X hS hSx0 hq.1 dJ9_charAt_8 (lv_sipush (pc := 9) hx hb dJ9_charAt_9 ck_s_255 ?_))))))))
  exact lv_iand (pc := 12) hx hb dJ9_charAt_12 (lv_i2c (pc := 13) hx hb dJ9_charAt_13 rfl (og_iretn (pc := 14) X hr hR hS hq.2 dJ9_charAt_14))
def wJ8_charAt (Γ : OgG) (Q : Int32 → OgC → Prop) (x0 : Nat) (x1 : Int32) (σ : OgC) : Prop :=
  wJ8_isLatin1 Γ (fun r_4 s_5 => ((r_4 = 0 → (False)) ∧ (¬ r_4 = 0 → (wJ9_charAt Γ (fun r_10 s_11 => (narrow .char (.int r_10) = .int r_10 ∧ Q r_10 s_11)) x0 x1 s_5)))) x0 σ
theorem mJ8_charAt (l : Launch) (E : OgE) (Γ : OgG) (hΓ : OgWf Γ) (Q : Int32 → OgC → Prop) (x0 : Nat) (x1 : Int32) (hSx0 : x0 < 46) (σ : OgC) (hq : wJ8_charAt Γ Q x0 x1 σ) : Met l yJ8_charAt (ws_ yJ8_charAt cJ8_charAt 2 (some .char)) (og_rm 4 109) (og_Pre E ((emC Γ) σ) [.ref (E.q x0), .int x1]) (og_Qi E (emC Γ) Q) 0 0 E.A := by
  refine og_met (lv := [(0, .ref (E.q x0)), (1, .int x1)]) RJ8 rfl (by decide) (og_le rfl) rfl (fun p e s m below meth c ls X hr hR hS hl => ?_)
  have hx := X.x
  have hb := X.b
  unfold wJ8_charAt at hq
  refine lv_aload_n (pc := 0) hx hb dJ8_charAt_0 rfl (lv_at hl 0 rfl) (og_afti (em := emC Γ) (og_runT (pc := 1) (As := []) (rest := []) X hR hS hSx0 (mJ8_isLatin1 l E Γ hΓ _ x0 hSx0 σ hq) lm_J8_492 rfl hy_J8_isLatin1 rfl ⟨rfl, rfl, (og_le rfl), (og_le rfl), og_le rfl, og_le rfl⟩ rfl hl.1 (og_le rfl) dJ8_charAt_1) hS (fun r_4 s_5 H locs hq hR hS => ?_))
  refine lv_if_eq (tgt := 16) (pc := 4) hx hb dJ8_charAt_4 rfl (fun h6 => ?_) (fun h6 => ?_)
  · exact lv_aload_n (pc := 16) hx hb dJ8_charAt_16 rfl (lv_at hl 0 rfl) (og_sval (pc := 17) X hS hSx0 q2172 dJ8_charAt_17 (lv_iload_n (pc := 20) hx hb dJ8_charAt_20 rfl (lv_at hl 1 rfl) (((hq.1 h6)).elim)))
  · exact lv_aload_n (pc := 7) hx hb dJ8_charAt_7 rfl (lv_at hl 0 rfl) (og_sval (pc := 8) X hS hSx0 q2172 dJ8_charAt_8 (lv_iload_n (pc := 11) hx hb dJ8_charAt_11 rfl (lv_at hl 1 rfl) (og_afti (em := emC Γ) (og_runS2 (pc := 12) (As := [.ref (E.v x0), .int x1]) (rest := []) X hR hS (mJ9_charAt l E Γ hΓ _ x0 x1 hSx0 s_5 (hq.2 h6)) l2_J8_495  hy_J9_charAt rfl ⟨rfl, rfl, (og_le rfl), (og_le rfl), og_le rfl, og_le rfl⟩ rfl hl.1 (og_le rfl) dJ8_charAt_12) hS (fun r_10 s_11 H locs hq hR hS => (og_iretn (pc := 15) X hr hR hS hq dJ8_charAt_15)))))
def wJ11_newLength_21 (Γ : OgG) (Q : Int32 → OgC → Prop) (x0 : Int32) (x1 : Int32) (σ : OgC) : Prop :=
  False
def wJ11_newLength (Γ : OgG) (Q : Int32 → OgC → Prop) (x0 : Int32) (x1 : Int32) (x2 : Int32) (σ : OgC) : Prop :=
  ∀ v_1 : Int32, v_1 = (if x1 < x2 then x2 else x1) → (∀ v_2 : Int32, v_2 = (x0 + v_1) → ((v_2 ≤ (0 : Int32) → (wJ11_newLength_21 Γ Q x0 x1 σ)) ∧ (¬ v_2 ≤ (0 : Int32) → (((2147483639 : Int32) < v_2 → (wJ11_newLength_21 Γ Q x0 x1 σ)) ∧ (¬ (2147483639 : Int32) < v_2 → (Q v_2 σ))))))
theorem jJ11_newLength_21 (X : OgX p s m args meth c cJ11_newLength 4 RJ11 E) (Γ : OgG) (hΓ : OgWf Γ) (hr : meth.sig.returnType = (some .int)) (Q : Int32 → OgC → Prop) (x0 : Int32) (x1 : Int32) (σ : OgC) (hq : wJ11_newLength_21 Γ Q x0 x1 σ) (hR : OgRep E ((emC Γ) σ) H) (hS : va_S E.A s.heap H locs) (hl : lv_has ls 4 [(0, .int x0), (1, .int x1)]) : W p l e (og_rm 1 40) s m args below meth c H locs 0 0 (MQ below (og_Qi E (emC Γ) Q) args s 0 0 E.A) (F0 m 21 ls []) := by
  have hx := X.x
  have hb := X.b
  unfold wJ11_newLength_21 at hq
  exact lv_iload_n (pc := 21) hx hb dJ11_newLength_21 rfl (lv_at hl 0 rfl) (lv_iload_n (pc := 22) hx hb dJ11_newLength_22 rfl (lv_at hl 1 rfl) ((hq).elim))
theorem mJ11_newLength (l : Launch) (E : OgE) (Γ : OgG) (hΓ : OgWf Γ) (Q : Int32 → OgC → Prop) (x0 : Int32) (x1 : Int32) (x2 : Int32) (σ : OgC) (hq : wJ11_newLength Γ Q x0 x1 x2 σ) : Met l yJ11_newLength (ws_ yJ11_newLength cJ11_newLength 4 (some .int)) (og_rm 1 40) (og_Pre E ((emC Γ) σ) [.int x0, .int x1, .int x2]) (og_Qi E (emC Γ) Q) 0 0 E.A := by
  refine og_met (lv := [(0, .int x0), (1, .int x1), (2, .int x2)]) RJ11 rfl (by decide) (og_le rfl) rfl (fun p e s m below meth c ls X hr hR hS hl => ?_)
  have hx := X.x
  have hb := X.b
  unfold wJ11_newLength at hq
  refine lv_iload_n (pc := 0) hx hb dJ11_newLength_0 rfl (lv_at hl 0 rfl) (lv_iload_n (pc := 1) hx hb dJ11_newLength_1 rfl (lv_at hl 1 rfl) (lv_iload_n (pc := 2) hx hb dJ11_newLength_2 rfl (lv_at hl 2 rfl) (va_mmax (pc := 3) hx hb (X.1.2.2.1.trans hl.1.symm) X.o (X.t _ q515) (X.t _ q516) (X.t _ q112) (X.t _ q517) (og_le rfl) (og_le rfl) (og_le rfl) (og_le rfl) dJ11_newLength_3 (lv_topi (fun v_1 ev_1 => (lv_iadd (pc := 6) hx hb dJ11_newLength_6 (lv_topi (fun v_2 ev_2 => (lv_istore_n (lv' := [(3, .int v_2), (0, .int x0), (1, .int x1), (2, .int x2)]) (pc := 7) hx hb dJ11_newLength_7 rfl hl (og_le rfl) rfl (fun ls hl => ?_))))))))))
  refine lv_iconst (pc := 8) hx hb dJ11_newLength_8 ck_i_0 (lv_iload_n (pc := 9) hx hb dJ11_newLength_9 rfl (lv_at hl 0 rfl) ?_)
  refine lv_icmp_ge (tgt := 21) (pc := 10) hx hb dJ11_newLength_10 rfl (fun h3 => ?_) (fun h3 => ?_)
  · exact jJ11_newLength_21 X Γ hΓ hr Q x0 x1 σ (((hq v_1 ev_1) v_2 ev_2).1 h3) hR hS (lv_sub hl [1, 2] rfl)
  · refine lv_iload_n (pc := 13) hx hb dJ11_newLength_13 rfl (lv_at hl 0 rfl) (lv_ldc (pc := 14) hx hb X.o (X.t _ q518) dJ11_newLength_14 ?_)
    refine lv_icmp_gt (tgt := 21) (pc := 16) hx hb dJ11_newLength_16 rfl (fun h4 => ?_) (fun h4 => ?_)
    · exact jJ11_newLength_21 X Γ hΓ hr Q x0 x1 σ ((((hq v_1 ev_1) v_2 ev_2).2 h3).1 h4) hR hS (lv_sub hl [1, 2] rfl)
    · exact lv_iload_n (pc := 19) hx hb dJ11_newLength_19 rfl (lv_at hl 0 rfl) (og_ireti (pc := 20) X hr hR hS ((((hq v_1 ev_1) v_2 ev_2).2 h3).2 h4) dJ11_newLength_20)
def wJ2_clear_B27 (Γ : OgG) (Q : OgC → Prop) (x1 : Nat) (nx1 : Nat) (x2 : Int32) (K27 : Int32 → OgC → Prop) (x3 : Int32) (σ : OgC) : Prop :=
  (x2 ≤ x3 → (Q σ)) ∧ (¬ x2 ≤ x3 → (vp_in x3 nx1 ∧ (∀ s_2 : OgC, s_2 = (σ.sR x1 (x3.toNatClampNeg) none) → (∀ x3_3 : Int32, x3_3 = x3 + (1 : Int32) → (K27 x3_3 s_2)))))
def wJ2_clear_27 (Γ : OgG) (Q : OgC → Prop) (x1 : Nat) (nx1 : Nat) (x2 : Int32) (x3 : Int32) (σ : OgC) : Prop := og_lp2 (wJ2_clear_B27 Γ Q x1 nx1 x2) x3 σ
def wJ2_clear (Γ : OgG) (Q : OgC → Prop) (x0 : Nat) (σ : OgC) : Prop :=
  ∀ s_1 : OgC, s_1 = (σ.sI x0 0 ((σ.I x0 0) + (1 : Int32))) → (∃ b_2 : Nat, s_1.R x0 1 = some b_2 ∧ (∃ n_3 : Nat, Γ.G b_2 = (106, n_3) ∧ (∀ v_4 : Int32, v_4 = (s_1.I x0 2) → (∀ s_5 : OgC, s_5 = (s_1.sI x0 2 (0 : Int32)) → (wJ2_clear_27 Γ Q b_2 n_3 v_4 (0 : Int32) s_5)))))
theorem jJ2_clear_27 (X : OgX p s m args meth c cJ2_clear 4 RJ2 E) (Γ : OgG) (hΓ : OgWf Γ) (hr : meth.sig.returnType = none) (Q : OgC → Prop) (x1 : Nat) (nx1 : Nat) (x2 : Int32) (x3 : Int32) (hGx1 : Γ.G x1 = (106, nx1)) (σ : OgC) (hq : wJ2_clear_27 Γ Q x1 nx1 x2 x3 σ) (hR : OgRep E ((emC Γ) σ) H) (hS : va_S E.A s.heap H locs) (hl : lv_has ls 4 [(1, .ref (E.b + x1)), (2, .int x2), (3, .int x3)]) : W p l e (og_rm 0 0) s m args below meth c H locs 0 0 (MQ below (og_Qv E (emC Γ) Q) args s 0 0 E.A) (F0 m 27 ls []) := by
  have hx := X.x
  have hb := X.b
  refine og_lp2_elim (fun x3 σ => ∀ (H : Heap) (locs : List Loc) (ls : Array Slot), OgRep E ((emC Γ) σ) H → va_S E.A s.heap H locs → lv_has ls 4 [(1, .ref (E.b + x1)), (2, .int x2), (3, .int x3)] → W p l e (og_rm 0 0) s m args below meth c H locs 0 0 (MQ below (og_Qv E (emC Γ) Q) args s 0 0 E.A) (F0 m 27 ls [])) (fun K27 hK27 x3 σ hq H locs ls hR hS hl => ?_) hq H locs ls hR hS hl
  unfold wJ2_clear_B27 at hq
  refine lv_iload_n (pc := 27) hx hb dJ2_clear_27 rfl (lv_at hl 2 rfl) (lv_iload_n (pc := 28) hx hb dJ2_clear_28 rfl (lv_at hl 1 rfl) ?_)
  refine lv_icmp_ge (tgt := 42) (pc := 29) hx hb dJ2_clear_29 rfl (fun h1 => ?_) (fun h1 => ?_)
  · exact og_vret (pc := 42) X hr hR hS (hq.1 h1) dJ2_clear_42
  · exact lv_aload_n (pc := 32) hx hb dJ2_clear_32 rfl (lv_at hl 0 rfl) (lv_iload_n (pc := 33) hx hb dJ2_clear_33 rfl (lv_at hl 2 rfl) (lv_null (pc := 34) hx hb dJ2_clear_34 (og_aastN (pc := 35) X hR hS (x3.toNatClampNeg) rfl hGx1 (hq.2 h1).1 dJ2_clear_35 (fun s_2 H locs es_2 hR hS => (og_named (x3 + (1 : Int32)) (fun x3_3 ex3_3 => (lv_iinc (lv' := [(3, .int x3_3), (1, .ref (E.b + x1)), (2, .int x2)]) (v := x3_3) (pc := 36) hx hb dJ2_clear_36 hl (k := 2) rfl ((ck_j_1 _).trans ex3_3.symm) (og_le rfl) rfl (fun ls hl => (lv_goto (tgt := 27) (pc := 39) hx hb dJ2_clear_39 rfl (hK27 _ _ (((hq.2 h1).2 s_2 es_2) x3_3 ex3_3) _ _ _ hR hS (lv_sub hl [1, 2, 0] rfl)))))))))))
theorem mJ2_clear (l : Launch) (E : OgE) (Γ : OgG) (hΓ : OgWf Γ) (Q : OgC → Prop) (x0 : Nat) (hGx0 : Γ.G x0 = (19, 0)) (σ : OgC) (hq : wJ2_clear Γ Q x0 σ) : Met l yJ2_clear (ws_ yJ2_clear cJ2_clear 4 none) (og_rm 0 0) (og_Pre E ((emC Γ) σ) [.ref (E.b + x0)]) (og_Qv E (emC Γ) Q) 0 0 E.A := by
  refine og_met (lv := [(0, .ref (E.b + x0))]) RJ2 rfl (by decide) (og_le rfl) rfl (fun p e s m below meth c ls X hr hR hS hl => ?_)
  have hx := X.x
  have hb := X.b
  unfold wJ2_clear at hq
  refine lv_aload_n (pc := 0) hx hb dJ2_clear_0 rfl (lv_at hl 0 rfl) (lv_dup (pc := 1) hx hb dJ2_clear_1 rfl (og_getM (pc := 2) X hR q196 q197 (og_g1 hGx0) dJ2_clear_2 (lv_iconst (pc := 5) hx hb dJ2_clear_5 ck_i_1 (lv_iadd (pc := 6) hx hb dJ2_clear_6 (og_putM (pc := 7) X hR hS q196 q197 (og_g1 hGx0) dJ2_clear_7 (fun s_1 H locs es_1 hR hS => (lv_aload_n (pc := 10) hx hb dJ2_clear_10 rfl (lv_at hl 0 rfl) ((hq s_1 es_1).elim (fun b_2 h => h.elim (fun hsb_2 h => h.elim (fun n_3 h => h.elim (fun hgb_2 hqb_2 => ?_))))))))))))
  refine og_get (pc := 11) X hR og_c18 lf_J2_9 (og_g1 hGx0) (v := .ref (E.b + b_2)) (og_vr hGx0 rfl hsb_2) dJ2_clear_11 (lv_astore_n (lv' := [(1, .ref (E.b + b_2)), (0, .ref (E.b + x0))]) (pc := 14) hx hb dJ2_clear_14 rfl hl (og_le rfl) rfl (fun ls hl => (lv_aload_n (pc := 15) hx hb dJ2_clear_15 rfl (lv_at hl 1 rfl) (og_get (pc := 16) X hR og_c18 lf_J2_48 (og_g1 hGx0) (v := .int (s_1.I x0 2)) rfl dJ2_clear_16 (lv_topi (fun v_4 ev_4 => (lv_istore_n (lv' := [(2, .int v_4), (1, .ref (E.b + b_2)), (0, .ref (E.b + x0))]) (pc := 19) hx hb dJ2_clear_19 rfl hl (og_le rfl) rfl (fun ls hl => (lv_aload_n (pc := 20) hx hb dJ2_clear_20 rfl (lv_at hl 2 rfl) (lv_iconst (pc := 21) hx hb dJ2_clear_21 ck_i_0 ?_))))))))))
  exact lv_dup_x1 (pc := 22) hx hb dJ2_clear_22 rfl rfl (og_puti (pc := 23) X hR hS (s_1.sI x0 2 (0 : Int32)) og_c18 lf_J2_48 rfl (og_g1 hGx0) rfl rfl dJ2_clear_23 (fun s_5 H locs es_5 hR hS => (lv_istore_n (lv' := [(3, .int (0 : Int32)), (2, .int v_4), (1, .ref (E.b + b_2)), (0, .ref (E.b + x0))]) (pc := 26) hx hb dJ2_clear_26 rfl hl (og_le rfl) rfl (fun ls hl => (jJ2_clear_27 X Γ hΓ hr Q b_2 n_3 v_4 (0 : Int32) hgb_2 s_5 ((hqb_2 v_4 ev_4) s_5 es_5) hR hS (lv_sub hl [2, 1, 0] rfl))))))
def wJ0_init (Γ : OgG) (Q : OgC → Prop) (x0 : Nat) (σ : OgC) : Prop :=
  Q σ
theorem mJ0_init (l : Launch) (E : OgE) (Γ : OgG) (hΓ : OgWf Γ) (Q : OgC → Prop) (x0 : Nat) (σ : OgC) (hq : wJ0_init Γ Q x0 σ) : Met l yJ0_init (ws_ yJ0_init cJ0_init 1 none) (og_rm 1 40) (og_Pre E ((emC Γ) σ) [.ref (E.b + x0)]) (og_Qv E (emC Γ) Q) 0 0 E.A := by
  refine og_metI (lv := [(0, .ref (E.b + x0))]) RJ0 rfl rfl (by decide) (og_le rfl) rfl (fun p e s m below meth c ls X hin hr hR hS hl => ?_)
  have hx := X.x
  have hb := X.b
  unfold wJ0_init at hq
  exact lv_aload_n (pc := 0) hx hb dJ0_init_0 rfl (lv_at hl 0 rfl) (og_objI (pc := 1) X q188 q141 q142 hl.1 (og_le rfl) (og_le rfl) dJ0_init_1 (og_vret (pc := 4) X hr hR hS hq dJ0_init_4))
def wJ1_init (Γ : OgG) (Q : OgC → Prop) (x0 : Nat) (σ : OgC) : Prop :=
  wJ0_init Γ (fun s_4 => (∀ s_5 : OgC, s_5 = (s_4.sI x0 0 (0 : Int32)) → (Q s_5))) x0 σ
theorem mJ1_init (l : Launch) (E : OgE) (Γ : OgG) (hΓ : OgWf Γ) (Q : OgC → Prop) (x0 : Nat) (hGx0 : Γ.G x0 = (19, 0)) (σ : OgC) (hq : wJ1_init Γ Q x0 σ) : Met l yJ1_init (ws_ yJ1_init cJ1_init 1 none) (og_rm 2 66) (og_Pre E ((emC Γ) σ) [.ref (E.b + x0)]) (og_Qv E (emC Γ) Q) 0 0 E.A := by
  refine og_metI (lv := [(0, .ref (E.b + x0))]) RJ1 rfl rfl (by decide) (og_le rfl) rfl (fun p e s m below meth c ls X hin hr hR hS hl => ?_)
  have hx := X.x
  have hb := X.b
  unfold wJ1_init at hq
  exact lv_aload_n (pc := 0) hx hb dJ1_init_0 rfl (lv_at hl 0 rfl) (og_aftv (em := emC Γ) (og_runI (pc := 1) (As := []) (rest := []) X hR hS (mJ0_init l E Γ hΓ _ x0  σ hq) l2_J1_1 rfl hy_J0_init rfl ⟨rfl, rfl, (og_le rfl), (og_le rfl), og_le rfl, og_le rfl⟩ rfl hl.1 (og_le rfl) dJ1_init_1) hS (fun s_4 H locs hq hR hS => (lv_aload_n (pc := 4) hx hb dJ1_init_4 rfl (lv_at hl 0 rfl) (lv_iconst (pc := 5) hx hb dJ1_init_5 ck_i_0 (og_puti (pc := 6) X hR hS (s_4.sI x0 0 (0 : Int32)) og_c18 lf_J1_7_18 rfl (og_g1 hGx0) rfl rfl dJ1_init_6 (fun s_5 H locs es_5 hR hS => (og_vret (pc := 9) X hr hR hS (hq s_5 es_5) dJ1_init_9)))))))
def wX10_init (Γ : OgG) (Q : OgC → Prop) (x0 : Nat) (σ : OgC) : Prop :=
  Q σ
theorem mX10_init (l : Launch) (E : OgE) (Γ : OgG) (hΓ : OgWf Γ) (Q : OgC → Prop) (x0 : Nat) (σ : OgC) (hq : wX10_init Γ Q x0 σ) : Met l yX10_init (ws_ yX10_init cX10_init 1 none) (og_rm 1 40) (og_Pre E ((emC Γ) σ) [.ref (E.b + x0)]) (og_Qv E (emC Γ) Q) 0 0 E.A := by
  refine og_metI (lv := [(0, .ref (E.b + x0))]) RX10 rfl rfl (by decide) (og_le rfl) rfl (fun p e s m below meth c ls X hin hr hR hS hl => ?_)
  have hx := X.x
  have hb := X.b
  unfold wX10_init at hq
  exact lv_aload_n (pc := 0) hx hb dX10_init_0 rfl (lv_at hl 0 rfl) (og_objI (pc := 1) X q856 q141 q142 hl.1 (og_le rfl) (og_le rfl) dX10_init_1 (og_vret (pc := 4) X hr hR hS hq dX10_init_4))
def wX14_init (Γ : OgG) (Q : OgC → Prop) (x0 : Nat) (σ : OgC) : Prop :=
  Q σ
theorem mX14_init (l : Launch) (E : OgE) (Γ : OgG) (hΓ : OgWf Γ) (Q : OgC → Prop) (x0 : Nat) (σ : OgC) (hq : wX14_init Γ Q x0 σ) : Met l yX14_init (ws_ yX14_init cX14_init 1 none) (og_rm 1 40) (og_Pre E ((emC Γ) σ) [.ref (E.b + x0)]) (og_Qv E (emC Γ) Q) 0 0 E.A := by
  refine og_metI (lv := [(0, .ref (E.b + x0))]) RX14 rfl rfl (by decide) (og_le rfl) rfl (fun p e s m below meth c ls X hin hr hR hS hl => ?_)
  have hx := X.x
  have hb := X.b
  unfold wX14_init at hq
  exact lv_aload_n (pc := 0) hx hb dX14_init_0 rfl (lv_at hl 0 rfl) (og_objI (pc := 1) X q974 q141 q142 hl.1 (og_le rfl) (og_le rfl) dX14_init_1 (og_vret (pc := 4) X hr hR hS hq dX14_init_4))
def wX8_init (Γ : OgG) (Q : OgC → Prop) (x0 : Nat) (x1 : Int32) (σ : OgC) : Prop :=
  (∀ k, k < 4 → σ.R x0 k = none) ∧ (∀ s_2 : OgC, s_2 = (σ.sI x0 6 x1) → (Q s_2))
theorem mX8_init (l : Launch) (E : OgE) (Γ : OgG) (hΓ : OgWf Γ) (Q : OgC → Prop) (x0 : Nat) (x1 : Int32) (hGx0 : Γ.G x0 = (8, 0)) (σ : OgC) (hq : wX8_init Γ Q x0 x1 σ) : Met l yX8_init (ws_ yX8_init cX8_init 2 none) (og_rm 3 100) (og_Pre E ((emC Γ) σ) [.ref (E.b + x0), .int x1]) (og_Qv E (emC Γ) Q) 0 0 E.A := by
  refine og_metI (lv := [(0, .ref (E.b + x0)), (1, .int x1)]) RX8 rfl rfl (by decide) (og_le rfl) rfl (fun p e s m below meth c ls X hin hr hR hS hl => ?_)
  have hx := X.x
  have hb := X.b
  unfold wX8_init at hq
  refine lv_aload_n (pc := 0) hx hb dX8_init_0 rfl (lv_at hl 0 rfl) (lv_null (pc := 1) hx hb dX8_init_1 (lv_null (pc := 2) hx hb dX8_init_2 (lv_iconst (pc := 3) hx hb dX8_init_3 ck_i_0 (lv_iconst (pc := 4) hx hb dX8_init_4 ck_i_0 (og_aftv (em := emC Γ) (og_runI (pc := 5) (As := [.null, .null, .int 0, .int 0]) (rest := []) X hR hS (mJ4_init_7 l E (emC Γ) (fun s => s = σ) x0 σ (og_g1 hGx0) (fun k hk => og_crn hGx0 (fun _ => rfl) (hq.1 k hk)) rfl) li_X8_1 rfl hy_J4_init rfl ⟨rfl, rfl, og_le rfl, og_le rfl, og_le rfl, og_le rfl⟩ rfl hl.1 (og_le rfl) dX8_init_5) hS (fun s_1 H locs hz hR hS => (og_sameR hz hR (fun hR => (lv_aload_n (pc := 8) hx hb dX8_init_8 rfl (lv_at hl 0 rfl) ?_)))))))))
  exact lv_iload_n (pc := 9) hx hb dX8_init_9 rfl (lv_at hl 1 rfl) (og_putFi (pc := 10) X hin hR hS (σ.sI x0 6 x1) og_c7 ln_X8_7 (og_g1 hGx0) rfl rfl rfl rfl dX8_init_10 (fun s_2 H locs es_2 hR hS => (og_vret (pc := 13) X hr hR hS (hq.2 s_2 es_2) dX8_init_13)))
def wX9_init (Γ : OgG) (Q : OgC → Prop) (x0 : Nat) (x1 : Int32) (σ : OgC) : Prop :=
  ∀ s_1 : OgC, s_1 = (σ.sI x0 0 x1) → (Q s_1)
theorem mX9_init (l : Launch) (E : OgE) (Γ : OgG) (hΓ : OgWf Γ) (Q : OgC → Prop) (x0 : Nat) (x1 : Int32) (hGx0 : Γ.G x0 = (9, 0)) (σ : OgC) (hq : wX9_init Γ Q x0 x1 σ) : Met l yX9_init (ws_ yX9_init cX9_init 2 none) (og_rm 1 40) (og_Pre E ((emC Γ) σ) [.ref (E.b + x0), .int x1]) (og_Qv E (emC Γ) Q) 0 0 E.A := by
  refine og_metI (lv := [(0, .ref (E.b + x0)), (1, .int x1)]) RX9 rfl rfl (by decide) (og_le rfl) rfl (fun p e s m below meth c ls X hin hr hR hS hl => ?_)
  have hx := X.x
  have hb := X.b
  unfold wX9_init at hq
  exact lv_aload_n (pc := 0) hx hb dX9_init_0 rfl (lv_at hl 0 rfl) (og_objI (pc := 1) X q782 q141 q142 hl.1 (og_le rfl) (og_le rfl) dX9_init_1 (lv_aload_n (pc := 4) hx hb dX9_init_4 rfl (lv_at hl 0 rfl) (lv_iload_n (pc := 5) hx hb dX9_init_5 rfl (lv_at hl 1 rfl) (og_putFi (pc := 6) X hin hR hS (σ.sI x0 0 x1) og_c8 ln_X9_9 (og_g1 hGx0) rfl rfl rfl rfl dX9_init_6 (fun s_1 H locs es_1 hR hS => (og_vret (pc := 9) X hr hR hS (hq s_1 es_1) dX9_init_9))))))
def wX11_init (Γ : OgG) (Q : OgC → Prop) (x0 : Nat) (x1 : Int32) (σ : OgC) : Prop :=
  wX10_init Γ (fun s_4 => (∀ s_5 : OgC, s_5 = (s_4.sI x0 0 x1) → (Q s_5))) x0 σ
theorem mX11_init (l : Launch) (E : OgE) (Γ : OgG) (hΓ : OgWf Γ) (Q : OgC → Prop) (x0 : Nat) (x1 : Int32) (hGx0 : Γ.G x0 = (10, 0)) (σ : OgC) (hq : wX11_init Γ Q x0 x1 σ) : Met l yX11_init (ws_ yX11_init cX11_init 2 none) (og_rm 2 66) (og_Pre E ((emC Γ) σ) [.ref (E.b + x0), .int x1]) (og_Qv E (emC Γ) Q) 0 0 E.A := by
  refine og_metI (lv := [(0, .ref (E.b + x0)), (1, .int x1)]) RX11 rfl rfl (by decide) (og_le rfl) rfl (fun p e s m below meth c ls X hin hr hR hS hl => ?_)
  have hx := X.x
  have hb := X.b
  unfold wX11_init at hq
  exact lv_aload_n (pc := 0) hx hb dX11_init_0 rfl (lv_at hl 0 rfl) (og_aftv (em := emC Γ) (og_runIN (pc := 1) (As := []) (rest := []) X hR hS (mX10_init l E Γ hΓ _ x0  σ hq) l2_X11_1 rfl hy_X10_init rfl ⟨rfl, rfl, (og_le rfl), (og_le rfl), og_le rfl, og_le rfl⟩ rfl hl.1 (og_le rfl) dX11_init_1) hS (fun s_4 H locs hq hR hS => (lv_aload_n (pc := 4) hx hb dX11_init_4 rfl (lv_at hl 0 rfl) (lv_iload_n (pc := 5) hx hb dX11_init_5 rfl (lv_at hl 1 rfl) (og_putFi (pc := 6) X hin hR hS (s_4.sI x0 0 x1) og_c9 ln_X11_7 (og_g1 hGx0) rfl rfl rfl rfl dX11_init_6 (fun s_5 H locs es_5 hR hS => (og_vret (pc := 9) X hr hR hS (hq s_5 es_5) dX11_init_9)))))))
def wX12_init (Γ : OgG) (Q : OgC → Prop) (x0 : Nat) (x1 : Int32) (σ : OgC) : Prop :=
  wX10_init Γ (fun s_4 => (∀ s_5 : OgC, s_5 = (s_4.sI x0 0 x1) → (Q s_5))) x0 σ
theorem mX12_init (l : Launch) (E : OgE) (Γ : OgG) (hΓ : OgWf Γ) (Q : OgC → Prop) (x0 : Nat) (x1 : Int32) (hGx0 : Γ.G x0 = (11, 0)) (σ : OgC) (hq : wX12_init Γ Q x0 x1 σ) : Met l yX12_init (ws_ yX12_init cX12_init 2 none) (og_rm 2 66) (og_Pre E ((emC Γ) σ) [.ref (E.b + x0), .int x1]) (og_Qv E (emC Γ) Q) 0 0 E.A := by
  refine og_metI (lv := [(0, .ref (E.b + x0)), (1, .int x1)]) RX12 rfl rfl (by decide) (og_le rfl) rfl (fun p e s m below meth c ls X hin hr hR hS hl => ?_)
  have hx := X.x
  have hb := X.b
  unfold wX12_init at hq
  exact lv_aload_n (pc := 0) hx hb dX12_init_0 rfl (lv_at hl 0 rfl) (og_aftv (em := emC Γ) (og_runIN (pc := 1) (As := []) (rest := []) X hR hS (mX10_init l E Γ hΓ _ x0  σ hq) l2_X12_1 rfl hy_X10_init rfl ⟨rfl, rfl, (og_le rfl), (og_le rfl), og_le rfl, og_le rfl⟩ rfl hl.1 (og_le rfl) dX12_init_1) hS (fun s_4 H locs hq hR hS => (lv_aload_n (pc := 4) hx hb dX12_init_4 rfl (lv_at hl 0 rfl) (lv_iload_n (pc := 5) hx hb dX12_init_5 rfl (lv_at hl 1 rfl) (og_putFi (pc := 6) X hin hR hS (s_4.sI x0 0 x1) og_c10 ln_X12_7 (og_g1 hGx0) rfl rfl rfl rfl dX12_init_6 (fun s_5 H locs es_5 hR hS => (og_vret (pc := 9) X hr hR hS (hq s_5 es_5) dX12_init_9)))))))
def wX13_init (Γ : OgG) (Q : OgC → Prop) (x0 : Nat) (x1 : Int32) (x2 : Nat) (x3 : Nat) (σ : OgC) : Prop :=
  wX10_init Γ (fun s_4 => (og_okc x1 ∧ (∀ s_5 : OgC, s_5 = (s_4.sI x0 0 x1) → (∀ s_6 : OgC, s_6 = (s_5.sR x0 1 (some x2)) → (∀ s_7 : OgC, s_7 = (s_6.sR x0 2 (some x3)) → (Q s_7)))))) x0 σ
theorem mX13_init (l : Launch) (E : OgE) (Γ : OgG) (hΓ : OgWf Γ) (Q : OgC → Prop) (x0 : Nat) (x1 : Int32) (x2 : Nat) (x3 : Nat) (hGx0 : Γ.G x0 = (12, 0)) (σ : OgC) (hq : wX13_init Γ Q x0 x1 x2 x3 σ) : Met l yX13_init (ws_ yX13_init cX13_init 4 none) (og_rm 2 66) (og_Pre E ((emC Γ) σ) [.ref (E.b + x0), .int x1, .ref (E.b + x2), .ref (E.b + x3)]) (og_Qv E (emC Γ) Q) 0 0 E.A := by
  refine og_metI (lv := [(0, .ref (E.b + x0)), (1, .int x1), (2, .ref (E.b + x2)), (3, .ref (E.b + x3))]) RX13 rfl rfl (by decide) (og_le rfl) rfl (fun p e s m below meth c ls X hin hr hR hS hl => ?_)
  have hx := X.x
  have hb := X.b
  unfold wX13_init at hq
  refine lv_aload_n (pc := 0) hx hb dX13_init_0 rfl (lv_at hl 0 rfl) (og_aftv (em := emC Γ) (og_runIN (pc := 1) (As := []) (rest := []) X hR hS (mX10_init l E Γ hΓ _ x0  σ hq) l2_X13_3 rfl hy_X10_init rfl ⟨rfl, rfl, (og_le rfl), (og_le rfl), og_le rfl, og_le rfl⟩ rfl hl.1 (og_le rfl) dX13_init_1) hS (fun s_4 H locs hq hR hS => (lv_aload_n (pc := 4) hx hb dX13_init_4 rfl (lv_at hl 0 rfl) (lv_iload_n (pc := 5) hx hb dX13_init_5 rfl (lv_at hl 1 rfl) (og_putFi (pc := 6) X hin hR hS (s_4.sI x0 0 x1) og_c11 ln_X13_9 (og_g1 hGx0) rfl hq.1.1 hq.1.2 rfl dX13_init_6 (fun s_5 H locs es_5 hR hS => (lv_aload_n (pc := 9) hx hb dX13_init_9 rfl (lv_at hl 0 rfl) (lv_aload_n (pc := 10) hx hb dX13_init_10 rfl (lv_at hl 2 rfl) (og_putFS (pc := 11) X hin hR hS (s_5.sR x0 1 (some x2)) og_c11 ln_X13_15 (og_g1 hGx0) rfl (og_emR hGx0 (fun _ => rfl)) dX13_init_11 (fun s_6 H locs es_6 hR hS => ?_))))))))))
  exact lv_aload_n (pc := 14) hx hb dX13_init_14 rfl (lv_at hl 0 rfl) (lv_aload_n (pc := 15) hx hb dX13_init_15 rfl (lv_at hl 3 rfl) (og_putFS (pc := 16) X hin hR hS (s_6.sR x0 2 (some x3)) og_c11 ln_X13_19 (og_g1 hGx0) rfl (og_emR hGx0 (fun _ => rfl)) dX13_init_16 (fun s_7 H locs es_7 hR hS => (og_vret (pc := 19) X hr hR hS (((hq.2 s_5 es_5) s_6 es_6) s_7 es_7) dX13_init_19))))
def wX15_init (Γ : OgG) (Q : OgC → Prop) (x0 : Nat) (x1 : Int32) (x2 : Nat) (x3 : Nat) (σ : OgC) : Prop :=
  wX14_init Γ (fun s_4 => (og_okc x1 ∧ (∀ s_5 : OgC, s_5 = (s_4.sI x0 0 x1) → (∀ s_6 : OgC, s_6 = (s_5.sR x0 1 (some x2)) → (∀ s_7 : OgC, s_7 = (s_6.sR x0 2 (some x3)) → (Q s_7)))))) x0 σ
theorem mX15_init (l : Launch) (E : OgE) (Γ : OgG) (hΓ : OgWf Γ) (Q : OgC → Prop) (x0 : Nat) (x1 : Int32) (x2 : Nat) (x3 : Nat) (hGx0 : Γ.G x0 = (13, 0)) (σ : OgC) (hq : wX15_init Γ Q x0 x1 x2 x3 σ) : Met l yX15_init (ws_ yX15_init cX15_init 4 none) (og_rm 2 66) (og_Pre E ((emC Γ) σ) [.ref (E.b + x0), .int x1, .ref (E.b + x2), .ref (E.b + x3)]) (og_Qv E (emC Γ) Q) 0 0 E.A := by
  refine og_metI (lv := [(0, .ref (E.b + x0)), (1, .int x1), (2, .ref (E.b + x2)), (3, .ref (E.b + x3))]) RX15 rfl rfl (by decide) (og_le rfl) rfl (fun p e s m below meth c ls X hin hr hR hS hl => ?_)
  have hx := X.x
  have hb := X.b
  unfold wX15_init at hq
  refine lv_aload_n (pc := 0) hx hb dX15_init_0 rfl (lv_at hl 0 rfl) (og_aftv (em := emC Γ) (og_runIN (pc := 1) (As := []) (rest := []) X hR hS (mX14_init l E Γ hΓ _ x0  σ hq) l2_X15_1 rfl hy_X14_init rfl ⟨rfl, rfl, (og_le rfl), (og_le rfl), og_le rfl, og_le rfl⟩ rfl hl.1 (og_le rfl) dX15_init_1) hS (fun s_4 H locs hq hR hS => (lv_aload_n (pc := 4) hx hb dX15_init_4 rfl (lv_at hl 0 rfl) (lv_iload_n (pc := 5) hx hb dX15_init_5 rfl (lv_at hl 1 rfl) (og_putFi (pc := 6) X hin hR hS (s_4.sI x0 0 x1) og_c12 ln_X15_7 (og_g1 hGx0) rfl hq.1.1 hq.1.2 rfl dX15_init_6 (fun s_5 H locs es_5 hR hS => (lv_aload_n (pc := 9) hx hb dX15_init_9 rfl (lv_at hl 0 rfl) (lv_aload_n (pc := 10) hx hb dX15_init_10 rfl (lv_at hl 2 rfl) (og_putFS (pc := 11) X hin hR hS (s_5.sR x0 1 (some x2)) og_c12 ln_X15_13 (og_g1 hGx0) rfl (og_emR hGx0 (fun _ => rfl)) dX15_init_11 (fun s_6 H locs es_6 hR hS => ?_))))))))))
  exact lv_aload_n (pc := 14) hx hb dX15_init_14 rfl (lv_at hl 0 rfl) (lv_aload_n (pc := 15) hx hb dX15_init_15 rfl (lv_at hl 3 rfl) (og_putFS (pc := 16) X hin hR hS (s_6.sR x0 2 (some x3)) og_c12 ln_X15_17 (og_g1 hGx0) rfl (og_emR hGx0 (fun _ => rfl)) dX15_init_16 (fun s_7 H locs es_7 hR hS => (og_vret (pc := 19) X hr hR hS (((hq.2 s_5 es_5) s_6 es_6) s_7 es_7) dX15_init_19))))
def wX16_init (Γ : OgG) (Q : OgC → Prop) (x0 : Nat) (x1 : Nat) (σ : OgC) : Prop :=
  wX14_init Γ (fun s_4 => (∀ s_5 : OgC, s_5 = (s_4.sR x0 0 (some x1)) → (Q s_5))) x0 σ
theorem mX16_init (l : Launch) (E : OgE) (Γ : OgG) (hΓ : OgWf Γ) (Q : OgC → Prop) (x0 : Nat) (x1 : Nat) (hGx0 : Γ.G x0 = (14, 0)) (σ : OgC) (hq : wX16_init Γ Q x0 x1 σ) : Met l yX16_init (ws_ yX16_init cX16_init 2 none) (og_rm 2 66) (og_Pre E ((emC Γ) σ) [.ref (E.b + x0), .ref (E.b + x1)]) (og_Qv E (emC Γ) Q) 0 0 E.A := by
  refine og_metI (lv := [(0, .ref (E.b + x0)), (1, .ref (E.b + x1))]) RX16 rfl rfl (by decide) (og_le rfl) rfl (fun p e s m below meth c ls X hin hr hR hS hl => ?_)
  have hx := X.x
  have hb := X.b
  unfold wX16_init at hq
  exact lv_aload_n (pc := 0) hx hb dX16_init_0 rfl (lv_at hl 0 rfl) (og_aftv (em := emC Γ) (og_runIN (pc := 1) (As := []) (rest := []) X hR hS (mX14_init l E Γ hΓ _ x0  σ hq) l2_X16_1 rfl hy_X14_init rfl ⟨rfl, rfl, (og_le rfl), (og_le rfl), og_le rfl, og_le rfl⟩ rfl hl.1 (og_le rfl) dX16_init_1) hS (fun s_4 H locs hq hR hS => (lv_aload_n (pc := 4) hx hb dX16_init_4 rfl (lv_at hl 0 rfl) (lv_aload_n (pc := 5) hx hb dX16_init_5 rfl (lv_at hl 1 rfl) (og_putFS (pc := 6) X hin hR hS (s_4.sR x0 0 (some x1)) og_c13 ln_X16_7 (og_g1 hGx0) rfl (og_emR hGx0 (fun _ => rfl)) dX16_init_6 (fun s_5 H locs es_5 hR hS => (og_vret (pc := 9) X hr hR hS (hq s_5 es_5) dX16_init_9)))))))
def wX18_init (Γ : OgG) (Q : OgC → Prop) (x0 : Nat) (x1 : Int32) (σ : OgC) : Prop :=
  ∀ s_1 : OgC, s_1 = (σ.sI x0 3 (1 : Int32)) → (∀ s_2 : OgC, s_2 = (s_1.sI x0 0 x1) → (Q s_2))
theorem mX18_init (l : Launch) (E : OgE) (Γ : OgG) (hΓ : OgWf Γ) (Q : OgC → Prop) (x0 : Nat) (x1 : Int32) (hGx0 : Γ.G x0 = (16, 0)) (σ : OgC) (hq : wX18_init Γ Q x0 x1 σ) : Met l yX18_init (ws_ yX18_init cX18_init 2 none) (og_rm 1 40) (og_Pre E ((emC Γ) σ) [.ref (E.b + x0), .int x1]) (og_Qv E (emC Γ) Q) 0 0 E.A := by
  refine og_metI (lv := [(0, .ref (E.b + x0)), (1, .int x1)]) RX18 rfl rfl (by decide) (og_le rfl) rfl (fun p e s m below meth c ls X hin hr hR hS hl => ?_)
  have hx := X.x
  have hb := X.b
  unfold wX18_init at hq
  refine lv_aload_n (pc := 0) hx hb dX18_init_0 rfl (lv_at hl 0 rfl) (og_objI (pc := 1) X q1047 q141 q142 hl.1 (og_le rfl) (og_le rfl) dX18_init_1 (lv_aload_n (pc := 4) hx hb dX18_init_4 rfl (lv_at hl 0 rfl) (lv_iconst (pc := 5) hx hb dX18_init_5 ck_i_1 (og_puti (pc := 6) X hR hS (σ.sI x0 3 (1 : Int32)) og_c15 lf_X18_9 rfl (og_g1 hGx0) rfl rfl dX18_init_6 (fun s_1 H locs es_1 hR hS => (lv_aload_n (pc := 9) hx hb dX18_init_9 rfl (lv_at hl 0 rfl) (lv_iload_n (pc := 10) hx hb dX18_init_10 rfl (lv_at hl 1 rfl) (og_putFi (pc := 11) X hin hR hS (s_1.sI x0 0 x1) og_c15 ln_X18_15 (og_g1 hGx0) rfl rfl rfl rfl dX18_init_11 (fun s_2 H locs es_2 hR hS => ?_)))))))))
  exact og_vret (pc := 14) X hr hR hS ((hq s_1 es_1) s_2 es_2) dX18_init_14
def wX19_init (Γ : OgG) (Q : OgC → Prop) (x0 : Nat) (x1 : Nat) (σ : OgC) : Prop :=
  ∀ s_1 : OgC, s_1 = (σ.sR x0 0 (some x1)) → (Q s_1)
theorem mX19_init (l : Launch) (E : OgE) (Γ : OgG) (hΓ : OgWf Γ) (Q : OgC → Prop) (x0 : Nat) (x1 : Nat) (hGx0 : Γ.G x0 = (17, 0)) (hGx1 : Γ.G x1 = (19, 0)) (σ : OgC) (hq : wX19_init Γ Q x0 x1 σ) : Met l yX19_init (ws_ yX19_init cX19_init 2 none) (og_rm 1 40) (og_Pre E ((emC Γ) σ) [.ref (E.b + x0), .ref (E.b + x1)]) (og_Qv E (emC Γ) Q) 0 0 E.A := by
  refine og_metI (lv := [(0, .ref (E.b + x0)), (1, .ref (E.b + x1))]) RX19 rfl rfl (by decide) (og_le rfl) rfl (fun p e s m below meth c ls X hin hr hR hS hl => ?_)
  have hx := X.x
  have hb := X.b
  unfold wX19_init at hq
  exact lv_aload_n (pc := 0) hx hb dX19_init_0 rfl (lv_at hl 0 rfl) (og_objI (pc := 1) X q1095 q141 q142 hl.1 (og_le rfl) (og_le rfl) dX19_init_1 (lv_aload_n (pc := 4) hx hb dX19_init_4 rfl (lv_at hl 0 rfl) (lv_aload_n (pc := 5) hx hb dX19_init_5 rfl (lv_at hl 1 rfl) (og_putFS (pc := 6) X hin hR hS (σ.sR x0 0 (some x1)) og_c16 ln_X19_9 (og_g1 hGx0) rfl (og_emR hGx0 (fun _ => rfl)) dX19_init_6 (fun s_1 H locs es_1 hR hS => (og_vret (pc := 9) X hr hR hS (hq s_1 es_1) dX19_init_9))))))
def wX6_init (Γ : OgG) (Q : OgC → Prop) (x0 : Nat) (x2 : Int32) (σ : OgC) : Prop :=
  ∀ s_1 : OgC, s_1 = (σ.sR x0 0 (some 27)) → (∀ s_2 : OgC, s_2 = (s_1.sI x0 1 x2) → (Q s_2))
theorem mX6_initL (l : Launch) (E : OgE) (Γ : OgG) (hΓ : OgWf Γ) (Q : OgC → Prop) (x0 : Nat) (x2 : Int32) (hGx0 : Γ.G x0 = (7, 0)) (σ : OgC) (hq : wX6_init Γ Q x0 x2 σ) : Met l yX6_init (ws_ yX6_init cX6_init 3 none) (og_rm 1 40) (og_Pre E ((emC Γ) σ) [.ref (E.b + x0), .ref (E.b + 27), .int x2]) (og_Qv E (emC Γ) Q) 0 0 E.A := by
  refine og_metI (lv := [(0, .ref (E.b + x0)), (1, .ref (E.b + 27)), (2, .int x2)]) RX6 rfl rfl (by decide) (og_le rfl) rfl (fun p e s m below meth c ls X hin hr hR hS hl => ?_)
  have hx := X.x
  have hb := X.b
  unfold wX6_init at hq
  refine lv_aload_n (pc := 0) hx hb dX6_init_0 rfl (lv_at hl 0 rfl) (og_objI (pc := 1) X q632 q141 q142 hl.1 (og_le rfl) (og_le rfl) dX6_init_1 (lv_aload_n (pc := 4) hx hb dX6_init_4 rfl (lv_at hl 0 rfl) (lv_aload_n (pc := 5) hx hb dX6_init_5 rfl (lv_at hl 1 rfl) (og_putFS (pc := 6) X hin hR hS (σ.sR x0 0 (some 27)) og_c6 ln_X6_9_6 (og_g1 hGx0) rfl (og_emR hGx0 (fun _ => rfl)) dX6_init_6 (fun s_1 H locs es_1 hR hS => (lv_aload_n (pc := 9) hx hb dX6_init_9 rfl (lv_at hl 0 rfl) (lv_iload_n (pc := 10) hx hb dX6_init_10 rfl (lv_at hl 2 rfl) (og_putFi (pc := 11) X hin hR hS (s_1.sI x0 1 x2) og_c6 ln_X6_15_6 (og_g1 hGx0) rfl rfl rfl rfl dX6_init_11 (fun s_2 H locs es_2 hR hS => ?_)))))))))
  exact og_vret (pc := 14) X hr hR hS ((hq s_1 es_1) s_2 es_2) dX6_init_14
theorem mX6_initO (l : Launch) (E : OgE) (Γ : OgG) (hΓ : OgWf Γ) (Q : OgC → Prop) (x0 : Nat) (x2 : Int32) (hGx0 : Γ.G x0 = (18, 0)) (σ : OgC) (hq : wX6_init Γ Q x0 x2 σ) : Met l yX6_init (ws_ yX6_init cX6_init 3 none) (og_rm 1 40) (og_Pre E ((emC Γ) σ) [.ref (E.b + x0), .ref (E.b + 27), .int x2]) (og_Qv E (emC Γ) Q) 0 0 E.A := by
  refine og_metI (lv := [(0, .ref (E.b + x0)), (1, .ref (E.b + 27)), (2, .int x2)]) RX6 rfl rfl (by decide) (og_le rfl) rfl (fun p e s m below meth c ls X hin hr hR hS hl => ?_)
  have hx := X.x
  have hb := X.b
  unfold wX6_init at hq
  refine lv_aload_n (pc := 0) hx hb dX6_init_0 rfl (lv_at hl 0 rfl) (og_objI (pc := 1) X q632 q141 q142 hl.1 (og_le rfl) (og_le rfl) dX6_init_1 (lv_aload_n (pc := 4) hx hb dX6_init_4 rfl (lv_at hl 0 rfl) (lv_aload_n (pc := 5) hx hb dX6_init_5 rfl (lv_at hl 1 rfl) (og_putFS (pc := 6) X hin hR hS (σ.sR x0 0 (some 27)) og_c17 ln_X6_9_17 (og_g1 hGx0) rfl (og_emR hGx0 (fun _ => rfl)) dX6_init_6 (fun s_1 H locs es_1 hR hS => (lv_aload_n (pc := 9) hx hb dX6_init_9 rfl (lv_at hl 0 rfl) (lv_iload_n (pc := 10) hx hb dX6_init_10 rfl (lv_at hl 2 rfl) (og_putFi (pc := 11) X hin hR hS (s_1.sI x0 1 x2) og_c17 ln_X6_15_17 (og_g1 hGx0) rfl rfl rfl rfl dX6_init_11 (fun s_2 H locs es_2 hR hS => ?_)))))))))
  exact og_vret (pc := 14) X hr hR hS ((hq s_1 es_1) s_2 es_2) dX6_init_14
def wJ2_init (Q : OgG → OgC → Prop) (x0 : Nat) (x1 : Int32) (kc ks : Nat) (Γ : OgG) (σ : OgC) : Prop :=
  wJ1_init Γ (fun s_4 => ((x1 ≤ 0 → ((¬ x1 = 0 → (False)) ∧ (x1 = 0 → (False)))) ∧ (¬ x1 ≤ 0 → (¬ x1 < 0 ∧ (∀ n_13 : Nat, n_13 = x1.toNatClampNeg → (n_13 * 4 ≤ 536870912 ∧ ((1 ≤ kc ∧ n_13 ≤ ks) ∧ (∀ (Γ_7 : OgG) (s_8 : OgC) (a_9 : Nat), Γ_7 = Γ.al (106, n_13) → s_8 = s_4.z Γ.top → a_9 = Γ.top → (∀ s_15 : OgC, s_15 = (s_8.sR x0 1 (some a_9)) → (Q Γ_7 s_15)))))))))) x0 σ
theorem mJ2_init (l : Launch) (E : OgE) (Q : OgG → OgC → Prop) (x0 : Nat) (x1 : Int32) (Γ : OgG) (hGx0 : Γ.G x0 = (19, 0)) (kc ks : Nat) (hΓ : OgWg E Γ) (σ : OgC) (hq : wJ2_init Q x0 x1 kc ks Γ σ) : Met l yJ2_init (ws_ yJ2_init cJ2_init 2 none) (og_rmA 3 92 kc ks) (og_Pre E (emC Γ σ) [.ref (E.b + x0), .int x1]) (og_Qv E emA (og_Gv E Γ Q)) kc ks E.A := by
  refine og_metI (lv := [(0, .ref (E.b + x0)), (1, .int x1)]) RJ2 rfl rfl (by decide) (og_le rfl) rfl (fun p e s m below meth c ls X hin hr hR hS hl => ?_)
  have hx := X.x
  have hb := X.b
  have hE := OgExt.refl Γ
  have hk : 0 + kc = kc ∧ 0 + ks = ks := ⟨Nat.zero_add _, Nat.zero_add _⟩
  unfold wJ2_init at hq
  refine lv_aload_n (pc := 0) hx hb dJ2_init_0 rfl (lv_at hl 0 rfl) (og_aftv (em := emC Γ) (og_runI (pc := 1) (As := []) (rest := []) X hR hS (mJ1_init l E Γ hΓ.1 _ x0 hGx0 σ hq) l2_J2_1 rfl hy_J1_init rfl ⟨rfl, rfl, (og_le rfl), (og_le rfl), og_b5 hk, og_b6 hk⟩ rfl hl.1 (og_le rfl) dJ2_init_1) hS (fun s_4 H locs hq hR hS => (lv_iload_n (pc := 4) hx hb dJ2_init_4 rfl (lv_at hl 1 rfl) ?_)))
  refine lv_if_le (tgt := 19) (pc := 5) hx hb dJ2_init_5 rfl (fun h5 => ?_) (fun h5 => ?_)
  · refine lv_iload_n (pc := 19) hx hb dJ2_init_19 rfl (lv_at hl 1 rfl) ?_
    refine lv_if_ne (tgt := 33) (pc := 20) hx hb dJ2_init_20 rfl (fun h6 => ?_) (fun h6 => ?_)
    · exact (((hq.1 h5).1 h6)).elim
    · exact lv_aload_n (pc := 23) hx hb dJ2_init_23 rfl (lv_at hl 0 rfl) ((((hq.1 h5).2 h6)).elim)
  · exact lv_aload_n (pc := 8) hx hb dJ2_init_8 rfl (lv_at hl 0 rfl) (lv_iload_n (pc := 9) hx hb dJ2_init_9 rfl (lv_at hl 1 rfl) ((hq.2 h5).elim (fun hn_13 hq => og_namedN x1.toNatClampNeg (fun n_13 en_13 => (hq n_13 en_13).elim (fun in_13 hq => (hq.elim (fun hb_14 hq => (og_newAQ (pc := 10) X hΓ hR hS hk q189 hn_13 en_13.symm in_13 hb_14 dJ2_init_10 (fun Γ_7 s_8 a_9 H eΓ_7 es_8 ea_9 hE_10 hΓ_11 hg_12 hR hS => (og_putS (pc := 13) X hR hS (s_8.sR x0 1 (some a_9)) og_c18 lf_J2_9 rfl (og_g1 (hE_10.g hGx0)) rfl (og_emR (hE_10.g hGx0) (fun _ => rfl)) dJ2_init_13 (fun s_15 H locs es_15 hR hS => (lv_goto (tgt := 60) (pc := 16) hx hb dJ2_init_16 rfl (W.widen (og_b1 (og_hk2 hk hb_14)) (og_b2 (og_hk2 hk hb_14)) (og_vret (em := emA) (σ := (Γ_7, s_15)) (pc := 60) X hr hR hS ⟨((hq Γ_7 s_8 a_9 eΓ_7 es_8 ea_9) s_15 es_15), (hE.trans hE_10), hΓ_11⟩ dJ2_init_60))))))))))))))
def wX17_init (Q : OgG → OgC → Prop) (x0 : Nat) (x1 : Int32) (kc ks : Nat) (Γ : OgG) (σ : OgC) : Prop :=
  wX14_init Γ (fun s_4 => ((1 ≤ kc ∧ 3 ≤ ks) ∧ (∀ (Γ_5 : OgG) (s_6 : OgC) (a_7 : Nat), Γ_5 = Γ.al (19, 0) → s_6 = s_4.z Γ.top → a_7 = Γ.top → (∃ c_12 u_13 : Nat, (c_12 ≤ (kc - 1) ∧ u_13 ≤ (ks - 3)) ∧ (wJ2_init (fun Γ_16 s_15 => (∀ s_19 : OgC, s_19 = (s_15.sR x0 1 (some a_7)) → ((x1 = 0 ∨ x1 = 1) ∧ (∀ s_20 : OgC, s_20 = (s_19.sI x0 0 x1) → (Q Γ_16 s_20))))) a_7 (2 : Int32) c_12 u_13 Γ_5 s_6))))) x0 σ
theorem mX17_init (l : Launch) (E : OgE) (Q : OgG → OgC → Prop) (x0 : Nat) (x1 : Int32) (Γ : OgG) (hGx0 : Γ.G x0 = (15, 0)) (kc ks : Nat) (hΓ : OgWg E Γ) (σ : OgC) (hq : wX17_init Q x0 x1 kc ks Γ σ) : Met l yX17_init (ws_ yX17_init cX17_init 2 none) (og_rmA 4 119 kc ks) (og_Pre E (emC Γ σ) [.ref (E.b + x0), .int x1]) (og_Qv E emA (og_Gv E Γ Q)) kc ks E.A := by
  refine og_metI (lv := [(0, .ref (E.b + x0)), (1, .int x1)]) RX17 rfl rfl (by decide) (og_le rfl) rfl (fun p e s m below meth c ls X hin hr hR hS hl => ?_)
  have hx := X.x
  have hb := X.b
  have hE := OgExt.refl Γ
  have hk : 0 + kc = kc ∧ 0 + ks = ks := ⟨Nat.zero_add _, Nat.zero_add _⟩
  unfold wX17_init at hq
  refine lv_aload_n (pc := 0) hx hb dX17_init_0 rfl (lv_at hl 0 rfl) (og_aftv (em := emC Γ) (og_runIN (pc := 1) (As := []) (rest := []) X hR hS (mX14_init l E Γ hΓ.1 _ x0  σ hq) l2_X17_1 rfl hy_X14_init rfl ⟨rfl, rfl, (og_le rfl), (og_le rfl), og_b5 hk, og_b6 hk⟩ rfl hl.1 (og_le rfl) dX17_init_1) hS (fun s_4 H locs hq hR hS => (lv_aload_n (pc := 4) hx hb dX17_init_4 rfl (lv_at hl 0 rfl) (hq.elim (fun hb_11 hq => (og_newA (pc := 5) X hΓ hR hS hk og_c18 (fun _ _ _ => rfl) (by decide) (N := 3) rfl (by decide) q1002 q178 q104 hb_11 dX17_init_5 (fun Γ_5 s_6 a_7 H eΓ_5 es_6 ea_7 hE_8 hΓ_9 hg_10 hR hS => (lv_dup (pc := 8) hx hb dX17_init_8 rfl (lv_iconst (pc := 9) hx hb dX17_init_9 ck_i_2 ((hq Γ_5 s_6 a_7 eΓ_5 es_6 ea_7).elim (fun c_12 h => h.elim (fun u_13 h => h.elim (fun hb_14 hq => ?_)))))))))))))
  exact og_aftAv (og_runI (pc := 10) (As := [.int (2 : Int32)]) (rest := [.ref (E.b + a_7), .ref (E.b + x0)]) X hR hS (mJ2_init l E _ a_7 (2 : Int32) Γ_5 hg_10 c_12 u_13 hΓ_9 s_6 hq) l2_X17_9 rfl hy_J2_init rfl ⟨rfl, rfl, (og_le rfl), (og_le rfl), og_b3 (og_hk2 hk hb_11) hb_14, og_b4 (og_hk2 hk hb_11) hb_14⟩ rfl hl.1 (og_le rfl) dX17_init_10) hS (fun Γ_16 s_15 H locs hq hE_17 hΓ_18 hR hS => (og_putFS (pc := 13) X hin hR hS (s_15.sR x0 1 (some a_7)) og_c14 ln_X17_12 (og_g1 (hE_17.g (hE_8.g hGx0))) rfl (og_emR (hE_17.g (hE_8.g hGx0)) (fun _ => rfl)) dX17_init_13 (fun s_19 H locs es_19 hR hS => (lv_aload_n (pc := 16) hx hb dX17_init_16 rfl (lv_at hl 0 rfl) (lv_iload_n (pc := 17) hx hb dX17_init_17 rfl (lv_at hl 1 rfl) (og_putFi (pc := 18) X hin hR hS (s_19.sI x0 0 x1) og_c14 ln_X17_18 (og_g1 (hE_17.g (hE_8.g hGx0))) rfl (by rcases ((hq s_19 es_19).1) with h | h <;> rw [h] <;> rfl) (by rcases ((hq s_19 es_19).1) with h | h <;> rw [h] <;> rfl) rfl dX17_init_18 (fun s_20 H locs es_20 hR hS => (W.widen (og_b1 (og_hk2 (og_hk2 hk hb_11) hb_14)) (og_b2 (og_hk2 (og_hk2 hk hb_11) hb_14)) (og_vret (em := emA) (σ := (Γ_16, s_20)) (pc := 21) X hr hR hS ⟨((hq s_19 es_19).2 s_20 es_20), ((hE.trans hE_8).trans hE_17), hΓ_18⟩ dX17_init_21)))))))))
def wX7_init (Q : OgG → OgC → Prop) (x0 : Nat) (x2 : Int32) (kc ks : Nat) (Γ : OgG) (σ : OgC) : Prop :=
  wX6_init Γ (fun s_4 => ((1 ≤ kc ∧ 3 ≤ ks) ∧ (∀ (Γ_5 : OgG) (s_6 : OgC) (a_7 : Nat), Γ_5 = Γ.al (19, 0) → s_6 = s_4.z Γ.top → a_7 = Γ.top → (∃ c_12 u_13 : Nat, (c_12 ≤ (kc - 1) ∧ u_13 ≤ (ks - 3)) ∧ (wJ2_init (fun Γ_16 s_15 => (∀ s_19 : OgC, s_19 = (s_15.sR x0 7 (some a_7)) → (Q Γ_16 s_19))) a_7 (2 : Int32) c_12 u_13 Γ_5 s_6))))) x0 x2 σ
theorem mX7_init (l : Launch) (E : OgE) (Q : OgG → OgC → Prop) (x0 : Nat) (x2 : Int32) (Γ : OgG) (hGx0 : Γ.G x0 = (7, 0)) (kc ks : Nat) (hΓ : OgWg E Γ) (σ : OgC) (hq : wX7_init Q x0 x2 kc ks Γ σ) : Met l yX7_init (ws_ yX7_init cX7_init 3 none) (og_rmA 4 119 kc ks) (og_Pre E (emC Γ σ) [.ref (E.b + x0), .ref (E.b + 27), .int x2]) (og_Qv E emA (og_Gv E Γ Q)) kc ks E.A := by
  refine og_metI (lv := [(0, .ref (E.b + x0)), (1, .ref (E.b + 27)), (2, .int x2)]) RX7 rfl rfl (by decide) (og_le rfl) rfl (fun p e s m below meth c ls X hin hr hR hS hl => ?_)
  have hx := X.x
  have hb := X.b
  have hE := OgExt.refl Γ
  have hk : 0 + kc = kc ∧ 0 + ks = ks := ⟨Nat.zero_add _, Nat.zero_add _⟩
  unfold wX7_init at hq
  refine lv_aload_n (pc := 0) hx hb dX7_init_0 rfl (lv_at hl 0 rfl) (lv_aload_n (pc := 1) hx hb dX7_init_1 rfl (lv_at hl 1 rfl) (lv_iload_n (pc := 2) hx hb dX7_init_2 rfl (lv_at hl 2 rfl) (og_aftv (em := emC Γ) (og_runI (pc := 3) (As := [.ref (E.b + 27), .int x2]) (rest := []) X hR hS (mX6_initL l E Γ hΓ.1 _ x0 x2 hGx0 σ hq) l2_X7_3L rfl hy_X6_init rfl ⟨rfl, rfl, (og_le rfl), (og_le rfl), og_b5 hk, og_b6 hk⟩ rfl hl.1 (og_le rfl) dX7_init_3) hS (fun s_4 H locs hq hR hS => (lv_aload_n (pc := 6) hx hb dX7_init_6 rfl (lv_at hl 0 rfl) (hq.elim (fun hb_11 hq => (og_newA (pc := 7) X hΓ hR hS hk og_c18 (fun _ _ _ => rfl) (by decide) (N := 3) rfl (by decide) q633 q178 q104 hb_11 dX7_init_7 (fun Γ_5 s_6 a_7 H eΓ_5 es_6 ea_7 hE_8 hΓ_9 hg_10 hR hS => (lv_dup (pc := 10) hx hb dX7_init_10 rfl ?_))))))))))
  exact lv_iconst (pc := 11) hx hb dX7_init_11 ck_i_2 ((hq Γ_5 s_6 a_7 eΓ_5 es_6 ea_7).elim (fun c_12 h => h.elim (fun u_13 h => h.elim (fun hb_14 hq => (og_aftAv (og_runI (pc := 12) (As := [.int (2 : Int32)]) (rest := [.ref (E.b + a_7), .ref (E.b + x0)]) X hR hS (mJ2_init l E _ a_7 (2 : Int32) Γ_5 hg_10 c_12 u_13 hΓ_9 s_6 hq) l2_X7_11 rfl hy_J2_init rfl ⟨rfl, rfl, (og_le rfl), (og_le rfl), og_b3 (og_hk2 hk hb_11) hb_14, og_b4 (og_hk2 hk hb_11) hb_14⟩ rfl hl.1 (og_le rfl) dX7_init_12) hS (fun Γ_16 s_15 H locs hq hE_17 hΓ_18 hR hS => (og_putFS (pc := 15) X hin hR hS (s_15.sR x0 7 (some a_7)) og_c6 ln_X7_14 (og_g1 (hE_17.g (hE_8.g hGx0))) rfl (og_emR (hE_17.g (hE_8.g hGx0)) (fun _ => rfl)) dX7_init_15 (fun s_19 H locs es_19 hR hS => (W.widen (og_b1 (og_hk2 (og_hk2 hk hb_11) hb_14)) (og_b2 (og_hk2 (og_hk2 hk hb_11) hb_14)) (og_vret (em := emA) (σ := (Γ_16, s_19)) (pc := 18) X hr hR hS ⟨(hq s_19 es_19), ((hE.trans hE_8).trans hE_17), hΓ_18⟩ dX7_init_18))))))))))
def wX20_init (Q : OgG → OgC → Prop) (x0 : Nat) (x2 : Int32) (kc ks : Nat) (Γ : OgG) (σ : OgC) : Prop :=
  wX6_init Γ (fun s_4 => ((1 ≤ kc ∧ 3 ≤ ks) ∧ (∀ (Γ_5 : OgG) (s_6 : OgC) (a_7 : Nat), Γ_5 = Γ.al (19, 0) → s_6 = s_4.z Γ.top → a_7 = Γ.top → (∃ c_12 u_13 : Nat, (c_12 ≤ (kc - 1) ∧ u_13 ≤ (ks - 3)) ∧ (wJ2_init (fun Γ_16 s_15 => (∀ s_19 : OgC, s_19 = (s_15.sR x0 7 (some a_7)) → (Q Γ_16 s_19))) a_7 (2 : Int32) c_12 u_13 Γ_5 s_6))))) x0 x2 σ
theorem mX20_init (l : Launch) (E : OgE) (Q : OgG → OgC → Prop) (x0 : Nat) (x2 : Int32) (Γ : OgG) (hGx0 : Γ.G x0 = (18, 0)) (kc ks : Nat) (hΓ : OgWg E Γ) (σ : OgC) (hq : wX20_init Q x0 x2 kc ks Γ σ) : Met l yX20_init (ws_ yX20_init cX20_init 3 none) (og_rmA 4 119 kc ks) (og_Pre E (emC Γ σ) [.ref (E.b + x0), .ref (E.b + 27), .int x2]) (og_Qv E emA (og_Gv E Γ Q)) kc ks E.A := by
  refine og_metI (lv := [(0, .ref (E.b + x0)), (1, .ref (E.b + 27)), (2, .int x2)]) RX20 rfl rfl (by decide) (og_le rfl) rfl (fun p e s m below meth c ls X hin hr hR hS hl => ?_)
  have hx := X.x
  have hb := X.b
  have hE := OgExt.refl Γ
  have hk : 0 + kc = kc ∧ 0 + ks = ks := ⟨Nat.zero_add _, Nat.zero_add _⟩
  unfold wX20_init at hq
  refine lv_aload_n (pc := 0) hx hb dX20_init_0 rfl (lv_at hl 0 rfl) (lv_aload_n (pc := 1) hx hb dX20_init_1 rfl (lv_at hl 1 rfl) (lv_iload_n (pc := 2) hx hb dX20_init_2 rfl (lv_at hl 2 rfl) (og_aftv (em := emC Γ) (og_runI (pc := 3) (As := [.ref (E.b + 27), .int x2]) (rest := []) X hR hS (mX6_initO l E Γ hΓ.1 _ x0 x2 hGx0 σ hq) l2_X20_3O rfl hy_X6_init rfl ⟨rfl, rfl, (og_le rfl), (og_le rfl), og_b5 hk, og_b6 hk⟩ rfl hl.1 (og_le rfl) dX20_init_3) hS (fun s_4 H locs hq hR hS => (lv_aload_n (pc := 6) hx hb dX20_init_6 rfl (lv_at hl 0 rfl) (hq.elim (fun hb_11 hq => (og_newA (pc := 7) X hΓ hR hS hk og_c18 (fun _ _ _ => rfl) (by decide) (N := 3) rfl (by decide) q1386 q178 q104 hb_11 dX20_init_7 (fun Γ_5 s_6 a_7 H eΓ_5 es_6 ea_7 hE_8 hΓ_9 hg_10 hR hS => (lv_dup (pc := 10) hx hb dX20_init_10 rfl ?_))))))))))
  exact lv_iconst (pc := 11) hx hb dX20_init_11 ck_i_2 ((hq Γ_5 s_6 a_7 eΓ_5 es_6 ea_7).elim (fun c_12 h => h.elim (fun u_13 h => h.elim (fun hb_14 hq => (og_aftAv (og_runI (pc := 12) (As := [.int (2 : Int32)]) (rest := [.ref (E.b + a_7), .ref (E.b + x0)]) X hR hS (mJ2_init l E _ a_7 (2 : Int32) Γ_5 hg_10 c_12 u_13 hΓ_9 s_6 hq) l2_X20_11 rfl hy_J2_init rfl ⟨rfl, rfl, (og_le rfl), (og_le rfl), og_b3 (og_hk2 hk hb_11) hb_14, og_b4 (og_hk2 hk hb_11) hb_14⟩ rfl hl.1 (og_le rfl) dX20_init_12) hS (fun Γ_16 s_15 H locs hq hE_17 hΓ_18 hR hS => (og_putFS (pc := 15) X hin hR hS (s_15.sR x0 7 (some a_7)) og_c17 ln_X20_14 (og_g1 (hE_17.g (hE_8.g hGx0))) rfl (og_emR (hE_17.g (hE_8.g hGx0)) (fun _ => rfl)) dX20_init_15 (fun s_19 H locs es_19 hR hS => (W.widen (og_b1 (og_hk2 (og_hk2 hk hb_11) hb_14)) (og_b2 (og_hk2 (og_hk2 hk hb_11) hb_14)) (og_vret (em := emA) (σ := (Γ_16, s_19)) (pc := 18) X hr hR hS ⟨(hq s_19 es_19), ((hE.trans hE_8).trans hE_17), hΓ_18⟩ dX20_init_18))))))))))
def wJ12_copyOf_2_24 (Q : Nat → OgG → OgC → Prop) (x0 : Nat) (nx0 : Nat) (x1 : Int32) (t0 : Nat) (nt0 : Nat) (kc ks : Nat) (Γ : OgG) (σ : OgC) : Prop :=
  ∀ v_1 : Int32, v_1 = (if x1 < (Int32.ofNat nx0) then x1 else (Int32.ofNat nx0)) → (¬ (0 : Int32) < 0 ∧ (¬ v_1 < 0 ∧ (0 + (v_1.toNatClampNeg) ≤ nx0 ∧ (0 + (v_1.toNatClampNeg) ≤ nt0 ∧ ((∀ i, i < (v_1.toNatClampNeg) → ∀ y, σ.R x0 (0 + i) = some y → OgOb Γ y) ∧ (∀ s_2 : OgC, s_2 = (σ.cR x0 0 t0 0 (v_1.toNatClampNeg)) → (Q t0 Γ s_2)))))))
def wJ12_copyOf_2 (Q : Nat → OgG → OgC → Prop) (x0 : Nat) (n0 : Nat) (x1 : Int32) (kc ks : Nat) (Γ : OgG) (σ : OgC) : Prop :=
  ¬ x1 < 0 ∧ (∀ n_7 : Nat, n_7 = x1.toNatClampNeg → (n_7 * 4 ≤ 536870912 ∧ ((1 ≤ kc ∧ n_7 ≤ ks) ∧ (∀ (Γ_1 : OgG) (s_2 : OgC) (a_3 : Nat), Γ_1 = Γ.al (106, n_7) → s_2 = σ.z Γ.top → a_3 = Γ.top → (wJ12_copyOf_2_24 Q x0 n0 x1 a_3 n_7 (kc - 1) (ks - n_7) Γ_1 s_2)))))
theorem jJ12_copyOf_2_24 (X : OgX p s m args meth c cJ12_copyOf_2 4 RJ12 E) (hr : meth.sig.returnType = (some (.array (.object "java/lang/Object")))) (Q : Nat → OgG → OgC → Prop) (x0 : Nat) (nx0 : Nat) (x1 : Int32) (t0 : Nat) (nt0 : Nat) {Γ0 : OgG} {mc ms cells slots : Nat} (kc ks : Nat) (hk : cells + kc = mc ∧ slots + ks = ms) (Γ : OgG) (hE : OgExt Γ0 Γ) (hΓ : OgWg E Γ) (hGx0 : Γ.G x0 = (106, nx0)) (hGt0 : Γ.G t0 = (106, nt0)) (σ : OgC) (hq : wJ12_copyOf_2_24 Q x0 nx0 x1 t0 nt0 kc ks Γ σ) (hR : OgRep E (emC Γ σ) H) (hS : va_S E.A s.heap H locs) (hl : lv_has ls 4 [(0, .ref (E.b + x0)), (1, .int x1)]) : W p l e (og_rmA 1 40 mc ms) s m args below meth c H locs cells slots (MQ below (og_Qr E emA (og_Gx E Γ0 Q)) args s mc ms E.A) (F0 m 24 ls [.ref (E.b + t0)]) := by
  have hx := X.x
  have hb := X.b
  unfold wJ12_copyOf_2_24 at hq
  refine lv_astore_n (lv' := [(3, .ref (E.b + t0)), (0, .ref (E.b + x0)), (1, .int x1)]) (pc := 24) hx hb dJ12_copyOf_2_24 rfl hl (og_le rfl) rfl (fun ls hl => (lv_aload_n (pc := 25) hx hb dJ12_copyOf_2_25 rfl (lv_at hl 1 rfl) (lv_iconst (pc := 26) hx hb dJ12_copyOf_2_26 ck_i_0 (lv_aload_n (pc := 27) hx hb dJ12_copyOf_2_27 rfl (lv_at hl 0 rfl) (lv_iconst (pc := 28) hx hb dJ12_copyOf_2_28 ck_i_0 (lv_aload_n (pc := 29) hx hb dJ12_copyOf_2_29 rfl (lv_at hl 1 rfl) (og_alen (pc := 30) X hR (ak := 6) (og_le rfl) hGx0 (v := (Int32.ofNat nx0)) rfl dJ12_copyOf_2_30 (lv_iload_n (pc := 31) hx hb dJ12_copyOf_2_31 rfl (lv_at hl 2 rfl) ?_))))))))
  exact va_mmin (pc := 32) hx hb (X.1.2.2.1.trans hl.1.symm) X.o (X.t _ q502) (X.t _ q503) (X.t _ q112) (X.t _ q504) (og_le rfl) (og_le rfl) (og_b1 hk) (og_b2 hk) dJ12_copyOf_2_32 (lv_topi (fun v_1 ev_1 => (og_copyR (pc := 35) X hR hS 0 0 (v_1.toNatClampNeg) ck_x_0 ck_x_0 rfl hGx0 hGt0 q505 q448 q447 q130 (by decide) (hq v_1 ev_1).1 (hq v_1 ev_1).2.1 (hq v_1 ev_1).2.2.1 (hq v_1 ev_1).2.2.2.1 (hq v_1 ev_1).2.2.2.2.1 hl.1 (og_le rfl) (og_le rfl) dJ12_copyOf_2_35 (fun s_2 H locs es_2 hR hS => (lv_aload_n (pc := 38) hx hb dJ12_copyOf_2_38 rfl (lv_at hl 0 rfl) (W.widen (og_b1 hk) (og_b2 hk) (og_aret (em := emA) (σ := (Γ, s_2)) (pc := 39) X hr (Or.inr ⟨_, rfl⟩) hR hS ⟨((hq v_1 ev_1).2.2.2.2.2 s_2 es_2), hE, hΓ⟩ dJ12_copyOf_2_39)))))))
theorem mJ12_copyOf_2 (l : Launch) (E : OgE) (Q : Nat → OgG → OgC → Prop) (x0 : Nat) (n0 : Nat) (x1 : Int32) (Γ : OgG) (hGx0 : Γ.G x0 = (106, n0)) (kc ks : Nat) (hΓ : OgWg E Γ) (σ : OgC) (hq : wJ12_copyOf_2 Q x0 n0 x1 kc ks Γ σ) : Met l yJ12_copyOf_2 (ws_ yJ12_copyOf_2 cJ12_copyOf_2 4 (some (.array (.object "java/lang/Object")))) (og_rmA 1 40 kc ks) (og_Pre E (emC Γ σ) [.ref (E.b + x0), .int x1, .ref E.mi]) (og_Qr E emA (og_Gx E Γ Q)) kc ks E.A := by
  refine og_met (lv := [(0, .ref (E.b + x0)), (1, .int x1), (2, .ref E.mi)]) RJ12 rfl (by decide) (og_le rfl) rfl (fun p e s m below meth c ls X hr hR hS hl => ?_)
  have hx := X.x
  have hb := X.b
  have hE := OgExt.refl Γ
  have hk : 0 + kc = kc ∧ 0 + ks = ks := ⟨Nat.zero_add _, Nat.zero_add _⟩
  unfold wJ12_copyOf_2 at hq
  refine lv_aload_n (pc := 0) hx hb dJ12_copyOf_2_0 rfl (lv_at hl 2 rfl) (og_ldcM (pc := 1) X q500 dJ12_copyOf_2_1 (og_acmpM (pc := 3) X dJ12_copyOf_2_3 (lv_iload_n (pc := 6) hx hb dJ12_copyOf_2_6 rfl (lv_at hl 1 rfl) (hq.elim (fun hn_7 hq => og_namedN x1.toNatClampNeg (fun n_7 en_7 => (hq n_7 en_7).elim (fun in_7 hq => (hq.elim (fun hb_8 hq => (og_newAQ (pc := 7) X hΓ hR hS hk q501 hn_7 en_7.symm in_7 hb_8 dJ12_copyOf_2_7 (fun Γ_1 s_2 a_3 H eΓ_1 es_2 ea_3 hE_4 hΓ_5 hg_6 hR hS => (lv_goto (tgt := 24) (pc := 10) hx hb dJ12_copyOf_2_10 rfl ?_))))))))))))
  exact jJ12_copyOf_2_24 X hr Q x0 n0 x1 a_3 n_7 (kc - 1) (ks - n_7) (og_hk2 hk hb_8) Γ_1 (hE.trans hE_4) hΓ_5 (hE_4.g hGx0) hg_6 s_2 (hq Γ_1 s_2 a_3 eΓ_1 es_2 ea_3) hR hS (lv_sub hl [0, 1] rfl)
def wJ12_copyOf (Q : Nat → OgG → OgC → Prop) (x0 : Nat) (n0 : Nat) (x1 : Int32) (kc ks : Nat) (Γ : OgG) (σ : OgC) : Prop :=
  ∃ c_1 u_2 : Nat, (c_1 ≤ kc ∧ u_2 ≤ ks) ∧ (wJ12_copyOf_2 (fun r_4 Γ_6 s_5 => (∃ n_9 : Nat, Γ_6.G r_4 = (106, n_9) ∧ (Q r_4 Γ_6 s_5))) x0 n0 x1 c_1 u_2 Γ σ)
theorem mJ12_copyOf (l : Launch) (E : OgE) (Q : Nat → OgG → OgC → Prop) (x0 : Nat) (n0 : Nat) (x1 : Int32) (Γ : OgG) (hGx0 : Γ.G x0 = (106, n0)) (kc ks : Nat) (hΓ : OgWg E Γ) (σ : OgC) (hq : wJ12_copyOf Q x0 n0 x1 kc ks Γ σ) : Met l yJ12_copyOf (ws_ yJ12_copyOf cJ12_copyOf 2 (some (.array (.object "java/lang/Object")))) (og_rmA 2 69 kc ks) (og_Pre E (emC Γ σ) [.ref (E.b + x0), .int x1]) (og_Qr E emA (og_Gx E Γ Q)) kc ks E.A := by
  refine og_met (lv := [(0, .ref (E.b + x0)), (1, .int x1)]) RJ12 rfl (by decide) (og_le rfl) rfl (fun p e s m below meth c ls X hr hR hS hl => ?_)
  have hx := X.x
  have hb := X.b
  have hE := OgExt.refl Γ
  have hk : 0 + kc = kc ∧ 0 + ks = ks := ⟨Nat.zero_add _, Nat.zero_add _⟩
  unfold wJ12_copyOf at hq
  exact lv_aload_n (pc := 0) hx hb dJ12_copyOf_0 rfl (lv_at hl 0 rfl) (lv_iload_n (pc := 1) hx hb dJ12_copyOf_1 rfl (lv_at hl 1 rfl) (lv_aload_n (pc := 2) hx hb dJ12_copyOf_2 rfl (lv_at hl 0 rfl) (og_getC (pc := 3) X hR hGx0 q474 hl.1 (og_le rfl) (og_le rfl) dJ12_copyOf_3 (hq.elim (fun c_1 h => h.elim (fun u_2 h => h.elim (fun hb_3 hq => (og_aftAr (og_runS2 (pc := 6) (As := [.ref (E.b + x0), .int x1, .ref E.mi]) (rest := []) X hR hS (mJ12_copyOf_2 l E _ x0 n0 x1 Γ hGx0 c_1 u_2 hΓ σ hq) l2_J12_300  hy_J12_copyOf_2 rfl ⟨rfl, rfl, (og_le rfl), (og_le rfl), og_b3 hk hb_3, og_b4 hk hb_3⟩ rfl hl.1 (og_le rfl) dJ12_copyOf_6) hS (fun r_4 Γ_6 s_5 H locs hq hE_7 hΓ_8 hR hS => (hq.elim (fun n_9 h => h.elim (fun hg_10 hq => (W.widen (og_b1 (og_hk2 hk hb_3)) (og_b2 (og_hk2 hk hb_3)) (og_aret (em := emA) (σ := (Γ_6, s_5)) (pc := 9) X hr (Or.inr ⟨_, rfl⟩) hR hS ⟨hq, (hE.trans hE_7), hΓ_8⟩ dJ12_copyOf_9))))))))))))))
def wJ2_grow_20 (Q : Nat → OgG → OgC → Prop) (x0 : Nat) (x1 : Int32) (x2 : Int32) (kc ks : Nat) (Γ : OgG) (σ : OgC) : Prop :=
  wJ11_newLength Γ (fun r_4 s_5 => (∃ b_6 : Nat, s_5.R x0 1 = some b_6 ∧ (∃ n_7 : Nat, Γ.G b_6 = (106, n_7) ∧ (∃ c_8 u_9 : Nat, (c_8 ≤ kc ∧ u_9 ≤ ks) ∧ (wJ12_copyOf (fun r_11 Γ_13 s_12 => (∃ n_16 : Nat, Γ_13.G r_11 = (106, n_16) ∧ (∀ s_18 : OgC, s_18 = (s_12.sR x0 1 (some r_11)) → (Q r_11 Γ_13 s_18)))) b_6 n_7 r_4 c_8 u_9 Γ s_5))))) x2 (x1 - x2) (x2 >>> ((1 : Int32) &&& 31)) σ
def wJ2_grow (Q : Nat → OgG → OgC → Prop) (x0 : Nat) (x1 : Int32) (kc ks : Nat) (Γ : OgG) (σ : OgC) : Prop :=
  ∃ b_1 : Nat, σ.R x0 1 = some b_1 ∧ (∃ n_2 : Nat, Γ.G b_1 = (106, n_2) ∧ (∀ v_3 : Int32, v_3 = (Int32.ofNat n_2) → ((0 < v_3 → (wJ2_grow_20 Q x0 x1 v_3 kc ks Γ σ)) ∧ (¬ 0 < v_3 → (∃ b_5 : Nat, σ.R x0 1 = some b_5 ∧ (∃ n_6 : Nat, Γ.G b_5 = (106, n_6) ∧ (False)))))))
theorem jJ2_grow_20 (X : OgX p s m args meth c cJ2_grow 4 RJ2 E) (hr : meth.sig.returnType = (some (.array (.object "java/lang/Object")))) (Q : Nat → OgG → OgC → Prop) (x0 : Nat) (x1 : Int32) (x2 : Int32) {Γ0 : OgG} {mc ms cells slots : Nat} (kc ks : Nat) (hk : cells + kc = mc ∧ slots + ks = ms) (Γ : OgG) (hE : OgExt Γ0 Γ) (hΓ : OgWg E Γ) (hGx0 : Γ.G x0 = (19, 0)) (σ : OgC) (hq : wJ2_grow_20 Q x0 x1 x2 kc ks Γ σ) (hR : OgRep E (emC Γ σ) H) (hS : va_S E.A s.heap H locs) (hl : lv_has ls 4 [(0, .ref (E.b + x0)), (1, .int x1), (2, .int x2)]) : W p l e (og_rmA 3 96 mc ms) s m args below meth c H locs cells slots (MQ below (og_Qr E emA (og_Gx E Γ0 Q)) args s mc ms E.A) (F0 m 20 ls []) := by
  have hx := X.x
  have hb := X.b
  unfold wJ2_grow_20 at hq
  refine lv_iload_n (pc := 20) hx hb dJ2_grow_20 rfl (lv_at hl 2 rfl) (lv_iload_n (pc := 21) hx hb dJ2_grow_21 rfl (lv_at hl 1 rfl) (lv_iload_n (pc := 22) hx hb dJ2_grow_22 rfl (lv_at hl 2 rfl) (lv_isub (pc := 23) hx hb dJ2_grow_23 (lv_iload_n (pc := 24) hx hb dJ2_grow_24 rfl (lv_at hl 2 rfl) (lv_iconst (pc := 25) hx hb dJ2_grow_25 ck_i_1 (lv_ishr (pc := 26) hx hb dJ2_grow_26 (og_afti (em := emC Γ) (og_runS2 (pc := 27) (As := [.int x2, .int (x1 - x2), .int (x2 >>> ((1 : Int32) &&& 31))]) (rest := []) X hR hS (mJ11_newLength l E Γ hΓ.1 _ x2 (x1 - x2) (x2 >>> ((1 : Int32) &&& 31))  σ hq) l2_J2_73  hy_J11_newLength rfl ⟨rfl, rfl, (og_le rfl), (og_le rfl), og_b5 hk, og_b6 hk⟩ rfl hl.1 (og_le rfl) dJ2_grow_27) hS (fun r_4 s_5 H locs hq hR hS => ?_))))))))
  refine lv_istore_n (lv' := [(3, .int r_4), (0, .ref (E.b + x0)), (1, .int x1), (2, .int x2)]) (pc := 30) hx hb dJ2_grow_30 rfl hl (og_le rfl) rfl (fun ls hl => (lv_aload_n (pc := 31) hx hb dJ2_grow_31 rfl (lv_at hl 1 rfl) (lv_aload_n (pc := 32) hx hb dJ2_grow_32 rfl (lv_at hl 1 rfl) (hq.elim (fun b_6 h => h.elim (fun hsb_6 h => h.elim (fun n_7 h => h.elim (fun hgb_6 hqb_6 => (og_get (pc := 33) X hR og_c18 lf_J2_9 (og_g1 hGx0) (v := .ref (E.b + b_6)) (og_vr hGx0 rfl hsb_6) dJ2_grow_33 (lv_iload_n (pc := 36) hx hb dJ2_grow_36 rfl (lv_at hl 0 rfl) (hqb_6.elim (fun c_8 h => h.elim (fun u_9 h => h.elim (fun hb_10 hq => (og_aftAr (og_runS2 (pc := 37) (As := [.ref (E.b + b_6), .int r_4]) (rest := [.ref (E.b + x0)]) X hR hS (mJ12_copyOf l E _ b_6 n_7 r_4 Γ hgb_6 c_8 u_9 hΓ s_5 hq) l2_J2_66  hy_J12_copyOf rfl ⟨rfl, rfl, (og_le rfl), (og_le rfl), og_b3 hk hb_10, og_b4 hk hb_10⟩ rfl hl.1 (og_le rfl) dJ2_grow_37) hS (fun r_11 Γ_13 s_12 H locs hq hE_14 hΓ_15 hR hS => ?_))))))))))))))))
  exact hq.elim (fun n_16 h => h.elim (fun hg_17 hq => (lv_dup_x1 (pc := 40) hx hb dJ2_grow_40 rfl rfl (og_putS (pc := 41) X hR hS (s_12.sR x0 1 (some r_11)) og_c18 lf_J2_9 rfl (og_g1 (hE_14.g hGx0)) rfl (og_emR (hE_14.g hGx0) (fun _ => rfl)) dJ2_grow_41 (fun s_18 H locs es_18 hR hS => (W.widen (og_b1 (og_hk2 hk hb_10)) (og_b2 (og_hk2 hk hb_10)) (og_aret (em := emA) (σ := (Γ_13, s_18)) (pc := 44) X hr (Or.inr ⟨_, rfl⟩) hR hS ⟨(hq s_18 es_18), (hE.trans hE_14), hΓ_15⟩ dJ2_grow_44)))))))
theorem mJ2_grow (l : Launch) (E : OgE) (Q : Nat → OgG → OgC → Prop) (x0 : Nat) (x1 : Int32) (Γ : OgG) (hGx0 : Γ.G x0 = (19, 0)) (kc ks : Nat) (hΓ : OgWg E Γ) (σ : OgC) (hq : wJ2_grow Q x0 x1 kc ks Γ σ) : Met l yJ2_grow (ws_ yJ2_grow cJ2_grow 4 (some (.array (.object "java/lang/Object")))) (og_rmA 3 96 kc ks) (og_Pre E (emC Γ σ) [.ref (E.b + x0), .int x1]) (og_Qr E emA (og_Gx E Γ Q)) kc ks E.A := by
  refine og_met (lv := [(0, .ref (E.b + x0)), (1, .int x1)]) RJ2 rfl (by decide) (og_le rfl) rfl (fun p e s m below meth c ls X hr hR hS hl => ?_)
  have hx := X.x
  have hb := X.b
  have hE := OgExt.refl Γ
  have hk : 0 + kc = kc ∧ 0 + ks = ks := ⟨Nat.zero_add _, Nat.zero_add _⟩
  unfold wJ2_grow at hq
  refine lv_aload_n (pc := 0) hx hb dJ2_grow_0 rfl (lv_at hl 0 rfl) (hq.elim (fun b_1 h => h.elim (fun hsb_1 h => h.elim (fun n_2 h => h.elim (fun hgb_1 hqb_1 => (og_get (pc := 1) X hR og_c18 lf_J2_9 (og_g1 hGx0) (v := .ref (E.b + b_1)) (og_vr hGx0 rfl hsb_1) dJ2_grow_1 (og_alen (pc := 4) X hR (ak := 6) (og_le rfl) hgb_1 (v := (Int32.ofNat n_2)) rfl dJ2_grow_4 (lv_topi (fun v_3 ev_3 => (lv_istore_n (lv' := [(2, .int v_3), (0, .ref (E.b + x0)), (1, .int x1)]) (pc := 5) hx hb dJ2_grow_5 rfl hl (og_le rfl) rfl (fun ls hl => (lv_iload_n (pc := 6) hx hb dJ2_grow_6 rfl (lv_at hl 0 rfl) ?_))))))))))))
  refine lv_if_gt (tgt := 20) (pc := 7) hx hb dJ2_grow_7 rfl (fun h4 => ?_) (fun h4 => ?_)
  · exact jJ2_grow_20 X hr Q x0 x1 v_3 kc ks hk Γ hE hΓ hGx0 σ ((hqb_1 v_3 ev_3).1 h4) hR hS (lv_sub hl [1, 2, 0] rfl)
  · exact lv_aload_n (pc := 10) hx hb dJ2_grow_10 rfl (lv_at hl 1 rfl) (((hqb_1 v_3 ev_3).2 h4).elim (fun b_5 h => h.elim (fun hsb_5 h => h.elim (fun n_6 h => h.elim (fun hgb_5 hqb_5 => (og_get (pc := 11) X hR og_c18 lf_J2_9 (og_g1 hGx0) (v := .ref (E.b + b_5)) (og_vr hGx0 rfl hsb_5) dJ2_grow_11 ((hqb_5).elim)))))))
def wJ2_grow_2 (Q : Nat → OgG → OgC → Prop) (x0 : Nat) (kc ks : Nat) (Γ : OgG) (σ : OgC) : Prop :=
  ∃ c_1 u_2 : Nat, (c_1 ≤ kc ∧ u_2 ≤ ks) ∧ (wJ2_grow (fun r_4 Γ_6 s_5 => (∃ n_9 : Nat, Γ_6.G r_4 = (106, n_9) ∧ (Q r_4 Γ_6 s_5))) x0 ((σ.I x0 2) + (1 : Int32)) c_1 u_2 Γ σ)
theorem mJ2_grow_2 (l : Launch) (E : OgE) (Q : Nat → OgG → OgC → Prop) (x0 : Nat) (Γ : OgG) (hGx0 : Γ.G x0 = (19, 0)) (kc ks : Nat) (hΓ : OgWg E Γ) (σ : OgC) (hq : wJ2_grow_2 Q x0 kc ks Γ σ) : Met l yJ2_grow_2 (ws_ yJ2_grow_2 cJ2_grow_2 1 (some (.array (.object "java/lang/Object")))) (og_rmA 4 125 kc ks) (og_Pre E (emC Γ σ) [.ref (E.b + x0)]) (og_Qr E emA (og_Gx E Γ Q)) kc ks E.A := by
  refine og_met (lv := [(0, .ref (E.b + x0))]) RJ2 rfl (by decide) (og_le rfl) rfl (fun p e s m below meth c ls X hr hR hS hl => ?_)
  have hx := X.x
  have hb := X.b
  have hE := OgExt.refl Γ
  have hk : 0 + kc = kc ∧ 0 + ks = ks := ⟨Nat.zero_add _, Nat.zero_add _⟩
  unfold wJ2_grow_2 at hq
  refine lv_aload_n (pc := 0) hx hb dJ2_grow_2_0 rfl (lv_at hl 0 rfl) (lv_aload_n (pc := 1) hx hb dJ2_grow_2_1 rfl (lv_at hl 0 rfl) (og_get (pc := 2) X hR og_c18 lf_J2_48 (og_g1 hGx0) (v := .int (σ.I x0 2)) rfl dJ2_grow_2_2 (lv_iconst (pc := 5) hx hb dJ2_grow_2_5 ck_i_1 (lv_iadd (pc := 6) hx hb dJ2_grow_2_6 (hq.elim (fun c_1 h => h.elim (fun u_2 h => h.elim (fun hb_3 hq => (og_aftAr (og_runC (pc := 7) (As := [.int ((σ.I x0 2) + (1 : Int32))]) (rest := []) X hR hS og_c18 (og_g1 hGx0) (mJ2_grow l E _ x0 ((σ.I x0 2) + (1 : Int32)) Γ hGx0 c_1 u_2 hΓ σ hq) l2_J2_69_18  hy_J2_grow rfl ⟨rfl, rfl, (og_le rfl), (og_le rfl), og_b3 hk hb_3, og_b4 hk hb_3⟩ rfl hl.1 (og_le rfl) dJ2_grow_2_7) hS (fun r_4 Γ_6 s_5 H locs hq hE_7 hΓ_8 hR hS => (hq.elim (fun n_9 h => h.elim (fun hg_10 hq => ?_)))))))))))))
  exact W.widen (og_b1 (og_hk2 hk hb_3)) (og_b2 (og_hk2 hk hb_3)) (og_aret (em := emA) (σ := (Γ_6, s_5)) (pc := 10) X hr (Or.inr ⟨_, rfl⟩) hR hS ⟨hq, (hE.trans hE_7), hΓ_8⟩ dJ2_grow_2_10)
def wJ2_add_2_11 (Q : OgG → OgC → Prop) (x0 : Nat) (x1 : Nat) (x2 : Nat) (nx2 : Nat) (x3 : Int32) (kc ks : Nat) (Γ : OgG) (σ : OgC) : Prop :=
  vp_in x3 nx2 ∧ (OgOb Γ x1 ∧ (∀ s_1 : OgC, s_1 = (σ.sR x2 (x3.toNatClampNeg) (some x1)) → (∀ s_2 : OgC, s_2 = (s_1.sI x0 2 (x3 + (1 : Int32))) → (Q Γ s_2))))
def wJ2_add_2 (Q : OgG → OgC → Prop) (x0 : Nat) (x1 : Nat) (x2 : Nat) (n2 : Nat) (x3 : Int32) (kc ks : Nat) (Γ : OgG) (σ : OgC) : Prop :=
  (¬ x3 = (Int32.ofNat n2) → (wJ2_add_2_11 Q x0 x1 x2 n2 x3 kc ks Γ σ)) ∧ (x3 = (Int32.ofNat n2) → (∃ c_2 u_3 : Nat, (c_2 ≤ kc ∧ u_3 ≤ ks) ∧ (wJ2_grow_2 (fun r_5 Γ_7 s_6 => (∃ n_10 : Nat, Γ_7.G r_5 = (106, n_10) ∧ (wJ2_add_2_11 Q x0 x1 r_5 n_10 x3 (kc - c_2) (ks - u_3) Γ_7 s_6))) x0 c_2 u_3 Γ σ)))
theorem jJ2_add_2_11 (X : OgX p s m args meth c cJ2_add_2 4 RJ2 E) (hr : meth.sig.returnType = none) (Q : OgG → OgC → Prop) (x0 : Nat) (x1 : Nat) (x2 : Nat) (nx2 : Nat) (x3 : Int32) {Γ0 : OgG} {mc ms cells slots : Nat} (kc ks : Nat) (hk : cells + kc = mc ∧ slots + ks = ms) (Γ : OgG) (hE : OgExt Γ0 Γ) (hΓ : OgWg E Γ) (hGx0 : Γ.G x0 = (19, 0)) (hGx2 : Γ.G x2 = (106, nx2)) (σ : OgC) (hq : wJ2_add_2_11 Q x0 x1 x2 nx2 x3 kc ks Γ σ) (hR : OgRep E (emC Γ σ) H) (hS : va_S E.A s.heap H locs) (hl : lv_has ls 4 [(0, .ref (E.b + x0)), (1, .ref (E.b + x1)), (2, .ref (E.b + x2)), (3, .int x3)]) : W p l e (og_rmA 5 151 mc ms) s m args below meth c H locs cells slots (MQ below (og_Qv E emA (og_Gv E Γ0 Q)) args s mc ms E.A) (F0 m 11 ls []) := by
  have hx := X.x
  have hb := X.b
  unfold wJ2_add_2_11 at hq
  refine lv_aload_n (pc := 11) hx hb dJ2_add_2_11 rfl (lv_at hl 2 rfl) (lv_iload_n (pc := 12) hx hb dJ2_add_2_12 rfl (lv_at hl 3 rfl) (lv_aload_n (pc := 13) hx hb dJ2_add_2_13 rfl (lv_at hl 1 rfl) (og_aastO (pc := 14) X hR hS (x3.toNatClampNeg) rfl hGx2 hq.2.1 hq.1 dJ2_add_2_14 (fun s_1 H locs es_1 hR hS => (lv_aload_n (pc := 15) hx hb dJ2_add_2_15 rfl (lv_at hl 0 rfl) (lv_iload_n (pc := 16) hx hb dJ2_add_2_16 rfl (lv_at hl 3 rfl) (lv_iconst (pc := 17) hx hb dJ2_add_2_17 ck_i_1 (lv_iadd (pc := 18) hx hb dJ2_add_2_18 ?_))))))))
  exact og_puti (pc := 19) X hR hS (s_1.sI x0 2 (x3 + (1 : Int32))) og_c18 lf_J2_48 rfl (og_g1 hGx0) rfl rfl dJ2_add_2_19 (fun s_2 H locs es_2 hR hS => (W.widen (og_b1 hk) (og_b2 hk) (og_vret (em := emA) (σ := (Γ, s_2)) (pc := 22) X hr hR hS ⟨((hq.2.2 s_1 es_1) s_2 es_2), hE, hΓ⟩ dJ2_add_2_22)))
theorem mJ2_add_2 (l : Launch) (E : OgE) (Q : OgG → OgC → Prop) (x0 : Nat) (x1 : Nat) (x2 : Nat) (n2 : Nat) (x3 : Int32) (Γ : OgG) (hGx0 : Γ.G x0 = (19, 0)) (hGx2 : Γ.G x2 = (106, n2)) (kc ks : Nat) (hΓ : OgWg E Γ) (σ : OgC) (hq : wJ2_add_2 Q x0 x1 x2 n2 x3 kc ks Γ σ) : Met l yJ2_add_2 (ws_ yJ2_add_2 cJ2_add_2 4 none) (og_rmA 5 151 kc ks) (og_Pre E (emC Γ σ) [.ref (E.b + x0), .ref (E.b + x1), .ref (E.b + x2), .int x3]) (og_Qv E emA (og_Gv E Γ Q)) kc ks E.A := by
  refine og_met (lv := [(0, .ref (E.b + x0)), (1, .ref (E.b + x1)), (2, .ref (E.b + x2)), (3, .int x3)]) RJ2 rfl (by decide) (og_le rfl) rfl (fun p e s m below meth c ls X hr hR hS hl => ?_)
  have hx := X.x
  have hb := X.b
  have hE := OgExt.refl Γ
  have hk : 0 + kc = kc ∧ 0 + ks = ks := ⟨Nat.zero_add _, Nat.zero_add _⟩
  unfold wJ2_add_2 at hq
  refine lv_iload_n (pc := 0) hx hb dJ2_add_2_0 rfl (lv_at hl 3 rfl) (lv_aload_n (pc := 1) hx hb dJ2_add_2_1 rfl (lv_at hl 2 rfl) (og_alen (pc := 2) X hR (ak := 6) (og_le rfl) hGx2 (v := (Int32.ofNat n2)) rfl dJ2_add_2_2 ?_))
  refine lv_icmp_ne (tgt := 11) (pc := 3) hx hb dJ2_add_2_3 rfl (fun h1 => ?_) (fun h1 => ?_)
  · exact jJ2_add_2_11 X hr Q x0 x1 x2 n2 x3 kc ks hk Γ hE hΓ hGx0 hGx2 σ (hq.1 h1) hR hS (lv_sub hl [0, 1, 2, 3] rfl)
  · exact lv_aload_n (pc := 6) hx hb dJ2_add_2_6 rfl (lv_at hl 0 rfl) ((hq.2 h1).elim (fun c_2 h => h.elim (fun u_3 h => h.elim (fun hb_4 hq => (og_aftAr (og_runC (pc := 7) (As := []) (rest := []) X hR hS og_c18 (og_g1 hGx0) (mJ2_grow_2 l E _ x0 Γ hGx0 c_2 u_3 hΓ σ hq) l2_J2_129_18  hy_J2_grow_2 rfl ⟨rfl, rfl, (og_le rfl), (og_le rfl), og_b3 hk hb_4, og_b4 hk hb_4⟩ rfl hl.1 (og_le rfl) dJ2_add_2_7) hS (fun r_5 Γ_7 s_6 H locs hq hE_8 hΓ_9 hR hS => (hq.elim (fun n_10 h => h.elim (fun hg_11 hq => (lv_astore_n (lv' := [(2, .ref (E.b + r_5)), (0, .ref (E.b + x0)), (1, .ref (E.b + x1)), (3, .int x3)]) (pc := 10) hx hb dJ2_add_2_10 rfl hl (og_le rfl) rfl (fun ls hl => (jJ2_add_2_11 X hr Q x0 x1 r_5 n_10 x3 (kc - c_2) (ks - u_3) (og_hk2 hk hb_4) Γ_7 (hE.trans hE_8) hΓ_9 (hE_8.g hGx0) hg_11 s_6 hq hR hS (lv_sub hl [1, 2, 0, 3] rfl)))))))))))))
def wJ2_add (Q : Int32 → OgG → OgC → Prop) (x0 : Nat) (x1 : Nat) (kc ks : Nat) (Γ : OgG) (σ : OgC) : Prop :=
  ∀ s_1 : OgC, s_1 = (σ.sI x0 0 ((σ.I x0 0) + (1 : Int32))) → (∃ b_2 : Nat, s_1.R x0 1 = some b_2 ∧ (∃ n_3 : Nat, Γ.G b_2 = (106, n_3) ∧ (∃ c_4 u_5 : Nat, (c_4 ≤ kc ∧ u_5 ≤ ks) ∧ (wJ2_add_2 (fun Γ_8 s_7 => (Q (1 : Int32) Γ_8 s_7)) x0 x1 b_2 n_3 (s_1.I x0 2) c_4 u_5 Γ s_1))))
theorem mJ2_add (l : Launch) (E : OgE) (Q : Int32 → OgG → OgC → Prop) (x0 : Nat) (x1 : Nat) (Γ : OgG) (hGx0 : Γ.G x0 = (19, 0)) (kc ks : Nat) (hΓ : OgWg E Γ) (σ : OgC) (hq : wJ2_add Q x0 x1 kc ks Γ σ) : Met l yJ2_add (ws_ yJ2_add cJ2_add 2 (some .boolean)) (og_rmA 6 180 kc ks) (og_Pre E (emC Γ σ) [.ref (E.b + x0), .ref (E.b + x1)]) (og_Qi E emA (og_Gx E Γ Q)) kc ks E.A := by
  refine og_met (lv := [(0, .ref (E.b + x0)), (1, .ref (E.b + x1))]) RJ2 rfl (by decide) (og_le rfl) rfl (fun p e s m below meth c ls X hr hR hS hl => ?_)
  have hx := X.x
  have hb := X.b
  have hE := OgExt.refl Γ
  have hk : 0 + kc = kc ∧ 0 + ks = ks := ⟨Nat.zero_add _, Nat.zero_add _⟩
  unfold wJ2_add at hq
  refine lv_aload_n (pc := 0) hx hb dJ2_add_0 rfl (lv_at hl 0 rfl) (lv_dup (pc := 1) hx hb dJ2_add_1 rfl (og_getM (pc := 2) X hR q196 q197 (og_g1 hGx0) dJ2_add_2 (lv_iconst (pc := 5) hx hb dJ2_add_5 ck_i_1 (lv_iadd (pc := 6) hx hb dJ2_add_6 (og_putM (pc := 7) X hR hS q196 q197 (og_g1 hGx0) dJ2_add_7 (fun s_1 H locs es_1 hR hS => (lv_aload_n (pc := 10) hx hb dJ2_add_10 rfl (lv_at hl 0 rfl) (lv_aload_n (pc := 11) hx hb dJ2_add_11 rfl (lv_at hl 1 rfl) ?_))))))))
  refine lv_aload_n (pc := 12) hx hb dJ2_add_12 rfl (lv_at hl 0 rfl) ((hq s_1 es_1).elim (fun b_2 h => h.elim (fun hsb_2 h => h.elim (fun n_3 h => h.elim (fun hgb_2 hqb_2 => (og_get (pc := 13) X hR og_c18 lf_J2_9 (og_g1 hGx0) (v := .ref (E.b + b_2)) (og_vr hGx0 rfl hsb_2) dJ2_add_13 (lv_aload_n (pc := 16) hx hb dJ2_add_16 rfl (lv_at hl 0 rfl) (og_get (pc := 17) X hR og_c18 lf_J2_48 (og_g1 hGx0) (v := .int (s_1.I x0 2)) rfl dJ2_add_17 (hqb_2.elim (fun c_4 h => h.elim (fun u_5 h => h.elim (fun hb_6 hq => (og_aftAv (og_runC (pc := 20) (As := [.ref (E.b + x1), .ref (E.b + b_2), .int (s_1.I x0 2)]) (rest := []) X hR hS og_c18 (og_g1 hGx0) (mJ2_add_2 l E _ x0 x1 b_2 n_3 (s_1.I x0 2) Γ hGx0 hgb_2 c_4 u_5 hΓ s_1 hq) l2_J2_131_18  hy_J2_add_2 rfl ⟨rfl, rfl, (og_le rfl), (og_le rfl), og_b3 hk hb_6, og_b4 hk hb_6⟩ rfl hl.1 (og_le rfl) dJ2_add_20) hS (fun Γ_8 s_7 H locs hq hE_9 hΓ_10 hR hS => (lv_iconst (pc := 23) hx hb dJ2_add_23 ck_i_1 ?_)))))))))))))))
  exact W.widen (og_b1 (og_hk2 hk hb_6)) (og_b2 (og_hk2 hk hb_6)) (og_iretz (em := emA) (σ := (Γ_8, s_7)) (pc := 24) X hr hR hS ⟨by decide, hq, (hE.trans hE_9), hΓ_10⟩ dJ2_add_24)
def wJ2_toArray (Q : Nat → OgG → OgC → Prop) (x0 : Nat) (kc ks : Nat) (Γ : OgG) (σ : OgC) : Prop :=
  ∃ b_1 : Nat, σ.R x0 1 = some b_1 ∧ (∃ n_2 : Nat, Γ.G b_1 = (106, n_2) ∧ (∃ c_3 u_4 : Nat, (c_3 ≤ kc ∧ u_4 ≤ ks) ∧ (wJ12_copyOf (fun r_6 Γ_8 s_7 => (∃ n_11 : Nat, Γ_8.G r_6 = (106, n_11) ∧ (Q r_6 Γ_8 s_7))) b_1 n_2 (σ.I x0 2) c_3 u_4 Γ σ)))
theorem mJ2_toArray (l : Launch) (E : OgE) (Q : Nat → OgG → OgC → Prop) (x0 : Nat) (Γ : OgG) (hGx0 : Γ.G x0 = (19, 0)) (kc ks : Nat) (hΓ : OgWg E Γ) (σ : OgC) (hq : wJ2_toArray Q x0 kc ks Γ σ) : Met l yJ2_toArray (ws_ yJ2_toArray cJ2_toArray 1 (some (.array (.object "java/lang/Object")))) (og_rmA 3 96 kc ks) (og_Pre E (emC Γ σ) [.ref (E.b + x0)]) (og_Qr E emA (og_Gx E Γ Q)) kc ks E.A := by
  refine og_met (lv := [(0, .ref (E.b + x0))]) RJ2 rfl (by decide) (og_le rfl) rfl (fun p e s m below meth c ls X hr hR hS hl => ?_)
  have hx := X.x
  have hb := X.b
  have hE := OgExt.refl Γ
  have hk : 0 + kc = kc ∧ 0 + ks = ks := ⟨Nat.zero_add _, Nat.zero_add _⟩
  unfold wJ2_toArray at hq
  refine lv_aload_n (pc := 0) hx hb dJ2_toArray_0 rfl (lv_at hl 0 rfl) (hq.elim (fun b_1 h => h.elim (fun hsb_1 h => h.elim (fun n_2 h => h.elim (fun hgb_1 hqb_1 => (og_get (pc := 1) X hR og_c18 lf_J2_9 (og_g1 hGx0) (v := .ref (E.b + b_1)) (og_vr hGx0 rfl hsb_1) dJ2_toArray_1 (lv_aload_n (pc := 4) hx hb dJ2_toArray_4 rfl (lv_at hl 0 rfl) (og_get (pc := 5) X hR og_c18 lf_J2_48 (og_g1 hGx0) (v := .int (σ.I x0 2)) rfl dJ2_toArray_5 (hqb_1.elim (fun c_3 h => h.elim (fun u_4 h => h.elim (fun hb_5 hq => (og_aftAr (og_runS2 (pc := 8) (As := [.ref (E.b + b_1), .int (σ.I x0 2)]) (rest := []) X hR hS (mJ12_copyOf l E _ b_1 n_2 (σ.I x0 2) Γ hgb_1 c_3 u_4 hΓ σ hq) l2_J2_66  hy_J12_copyOf rfl ⟨rfl, rfl, (og_le rfl), (og_le rfl), og_b3 hk hb_5, og_b4 hk hb_5⟩ rfl hl.1 (og_le rfl) dJ2_toArray_8) hS (fun r_6 Γ_8 s_7 H locs hq hE_9 hΓ_10 hR hS => (hq.elim (fun n_11 h => h.elim (fun hg_12 hq => ?_)))))))))))))))))
  exact W.widen (og_b1 (og_hk2 hk hb_5)) (og_b2 (og_hk2 hk hb_5)) (og_aret (em := emA) (σ := (Γ_8, s_7)) (pc := 11) X hr (Or.inr ⟨_, rfl⟩) hR hS ⟨hq, (hE.trans hE_9), hΓ_10⟩ dJ2_toArray_11)
def wJ2_addAll_56 (Q : Int32 → OgG → OgC → Prop) (x0 : Nat) (x2 : Nat) (nx2 : Nat) (x3 : Int32) (x4 : Nat) (nx4 : Nat) (x5 : Int32) (kc ks : Nat) (Γ : OgG) (σ : OgC) : Prop :=
  ¬ x5 < 0 ∧ (¬ x3 < 0 ∧ (0 + (x3.toNatClampNeg) ≤ nx2 ∧ ((x5.toNatClampNeg) + (x3.toNatClampNeg) ≤ nx4 ∧ ((∀ i, i < (x3.toNatClampNeg) → ∀ y, σ.R x2 (0 + i) = some y → OgOb Γ y) ∧ (∀ s_1 : OgC, s_1 = (σ.cR x2 0 x4 (x5.toNatClampNeg) (x3.toNatClampNeg)) → (∀ s_2 : OgC, s_2 = (s_1.sI x0 2 (x5 + x3)) → (Q (1 : Int32) Γ s_2)))))))
def wJ2_addAll (Q : Int32 → OgG → OgC → Prop) (x0 : Nat) (x1 : Nat) (kc ks : Nat) (Γ : OgG) (σ : OgC) : Prop :=
  ∃ c_1 u_2 : Nat, (c_1 ≤ kc ∧ u_2 ≤ ks) ∧ (wJ2_toArray (fun r_4 Γ_6 s_5 => (∃ n_9 : Nat, Γ_6.G r_4 = (106, n_9) ∧ (∀ s_11 : OgC, s_11 = (s_5.sI x0 0 ((s_5.I x0 0) + (1 : Int32))) → (∀ v_12 : Int32, v_12 = (Int32.ofNat n_9) → ((¬ v_12 = 0 → (∃ b_14 : Nat, s_11.R x0 1 = some b_14 ∧ (∃ n_15 : Nat, Γ_6.G b_14 = (106, n_15) ∧ (∀ v_16 : Int32, v_16 = (s_11.I x0 2) → ((v_12 ≤ ((Int32.ofNat n_15) - v_16) → (wJ2_addAll_56 Q x0 r_4 n_9 v_12 b_14 n_15 v_16 (kc - c_1) (ks - u_2) Γ_6 s_11)) ∧ (¬ v_12 ≤ ((Int32.ofNat n_15) - v_16) → (∃ c_18 u_19 : Nat, (c_18 ≤ (kc - c_1) ∧ u_19 ≤ (ks - u_2)) ∧ (wJ2_grow (fun r_21 Γ_23 s_22 => (∃ n_26 : Nat, Γ_23.G r_21 = (106, n_26) ∧ (wJ2_addAll_56 Q x0 r_4 n_9 v_12 r_21 n_26 v_16 ((kc - c_1) - c_18) ((ks - u_2) - u_19) Γ_23 s_22))) x0 (v_16 + v_12) c_18 u_19 Γ_6 s_11)))))))) ∧ (v_12 = 0 → (Q (0 : Int32) Γ_6 s_11))))))) x1 c_1 u_2 Γ σ)
theorem jJ2_addAll_56 (X : OgX p s m args meth c cJ2_addAll 6 RJ2 E) (hr : meth.sig.returnType = (some .boolean)) (Q : Int32 → OgG → OgC → Prop) (x0 : Nat) (x2 : Nat) (nx2 : Nat) (x3 : Int32) (x4 : Nat) (nx4 : Nat) (x5 : Int32) {Γ0 : OgG} {mc ms cells slots : Nat} (kc ks : Nat) (hk : cells + kc = mc ∧ slots + ks = ms) (Γ : OgG) (hE : OgExt Γ0 Γ) (hΓ : OgWg E Γ) (hGx0 : Γ.G x0 = (19, 0)) (hGx2 : Γ.G x2 = (106, nx2)) (hGx4 : Γ.G x4 = (106, nx4)) (σ : OgC) (hq : wJ2_addAll_56 Q x0 x2 nx2 x3 x4 nx4 x5 kc ks Γ σ) (hR : OgRep E (emC Γ σ) H) (hS : va_S E.A s.heap H locs) (hl : lv_has ls 6 [(0, .ref (E.b + x0)), (2, .ref (E.b + x2)), (3, .int x3), (4, .ref (E.b + x4)), (5, .int x5)]) : W p l e (og_rmA 4 125 mc ms) s m args below meth c H locs cells slots (MQ below (og_Qi E emA (og_Gx E Γ0 Q)) args s mc ms E.A) (F0 m 56 ls []) := by
  have hx := X.x
  have hb := X.b
  unfold wJ2_addAll_56 at hq
  refine lv_aload_n (pc := 56) hx hb dJ2_addAll_56 rfl (lv_at hl 1 rfl) (lv_iconst (pc := 57) hx hb dJ2_addAll_57 ck_i_0 (lv_aload (pc := 58) hx hb dJ2_addAll_58 (lv_at hl 3 rfl) (lv_iload (pc := 60) hx hb dJ2_addAll_60 (lv_at hl 4 rfl) (lv_iload_n (pc := 62) hx hb dJ2_addAll_62 rfl (lv_at hl 2 rfl) (og_copyR (pc := 63) X hR hS 0 (x5.toNatClampNeg) (x3.toNatClampNeg) ck_x_0 rfl rfl hGx2 hGx4 q523 q448 q447 q130 (by decide) hq.1 hq.2.1 hq.2.2.1 hq.2.2.2.1 hq.2.2.2.2.1 hl.1 (og_le rfl) (og_le rfl) dJ2_addAll_63 (fun s_1 H locs es_1 hR hS => (lv_aload_n (pc := 66) hx hb dJ2_addAll_66 rfl (lv_at hl 0 rfl) (lv_iload (pc := 67) hx hb dJ2_addAll_67 (lv_at hl 4 rfl) ?_))))))))
  exact lv_iload_n (pc := 69) hx hb dJ2_addAll_69 rfl (lv_at hl 2 rfl) (lv_iadd (pc := 70) hx hb dJ2_addAll_70 (og_puti (pc := 71) X hR hS (s_1.sI x0 2 (x5 + x3)) og_c18 lf_J2_48 rfl (og_g1 hGx0) rfl rfl dJ2_addAll_71 (fun s_2 H locs es_2 hR hS => (lv_iconst (pc := 74) hx hb dJ2_addAll_74 ck_i_1 (W.widen (og_b1 hk) (og_b2 hk) (og_iretz (em := emA) (σ := (Γ, s_2)) (pc := 75) X hr hR hS ⟨by decide, ((hq.2.2.2.2.2 s_1 es_1) s_2 es_2), hE, hΓ⟩ dJ2_addAll_75))))))
theorem mJ2_addAll (l : Launch) (E : OgE) (Q : Int32 → OgG → OgC → Prop) (x0 : Nat) (x1 : Nat) (Γ : OgG) (hGx0 : Γ.G x0 = (19, 0)) (hGx1 : Γ.G x1 = (19, 0)) (kc ks : Nat) (hΓ : OgWg E Γ) (σ : OgC) (hq : wJ2_addAll Q x0 x1 kc ks Γ σ) : Met l yJ2_addAll (ws_ yJ2_addAll cJ2_addAll 6 (some .boolean)) (og_rmA 4 125 kc ks) (og_Pre E (emC Γ σ) [.ref (E.b + x0), .ref (E.b + x1)]) (og_Qi E emA (og_Gx E Γ Q)) kc ks E.A := by
  refine og_met (lv := [(0, .ref (E.b + x0)), (1, .ref (E.b + x1))]) RJ2 rfl (by decide) (og_le rfl) rfl (fun p e s m below meth c ls X hr hR hS hl => ?_)
  have hx := X.x
  have hb := X.b
  have hE := OgExt.refl Γ
  have hk : 0 + kc = kc ∧ 0 + ks = ks := ⟨Nat.zero_add _, Nat.zero_add _⟩
  unfold wJ2_addAll at hq
  refine lv_aload_n (pc := 0) hx hb dJ2_addAll_0 rfl (lv_at hl 1 rfl) (hq.elim (fun c_1 h => h.elim (fun u_2 h => h.elim (fun hb_3 hq => (og_aftFr (og_runF (pc := 1) (As := []) (rest := []) X hR hS (og_g1 hGx1) (mJ2_toArray l E _ x1 Γ hGx1 c_1 u_2 hΓ σ hq) l2_J2_42  hy_J2_toArray rfl ⟨rfl, rfl, (og_le rfl), (og_le rfl), og_b3 hk hb_3, og_b4 hk hb_3⟩ rfl hl.1 (og_le rfl) dJ2_addAll_1) hS (fun r_4 Γ_6 s_5 H locs hq hE_7 hΓ_8 hR hS => (hq.elim (fun n_9 h => h.elim (fun hg_10 hq => (lv_astore_n (lv' := [(2, .ref (E.b + r_4)), (0, .ref (E.b + x0)), (1, .ref (E.b + x1))]) (pc := 6) hx hb dJ2_addAll_6 rfl hl (og_le rfl) rfl (fun ls hl => (lv_aload_n (pc := 7) hx hb dJ2_addAll_7 rfl (lv_at hl 1 rfl) (lv_dup (pc := 8) hx hb dJ2_addAll_8 rfl (og_getM (pc := 9) X hR q196 q197 (og_g1 (hE_7.g hGx0)) dJ2_addAll_9 ?_))))))))))))))
  refine lv_iconst (pc := 12) hx hb dJ2_addAll_12 ck_i_1 (lv_iadd (pc := 13) hx hb dJ2_addAll_13 (og_putM (pc := 14) X hR hS q196 q197 (og_g1 (hE_7.g hGx0)) dJ2_addAll_14 (fun s_11 H locs es_11 hR hS => (lv_aload_n (pc := 17) hx hb dJ2_addAll_17 rfl (lv_at hl 0 rfl) (og_alen (pc := 18) X hR (ak := 6) (og_le rfl) hg_10 (v := (Int32.ofNat n_9)) rfl dJ2_addAll_18 (lv_topi (fun v_12 ev_12 => (lv_istore_n (lv' := [(3, .int v_12), (2, .ref (E.b + r_4)), (0, .ref (E.b + x0)), (1, .ref (E.b + x1))]) (pc := 19) hx hb dJ2_addAll_19 rfl hl (og_le rfl) rfl (fun ls hl => (lv_iload_n (pc := 20) hx hb dJ2_addAll_20 rfl (lv_at hl 0 rfl) ?_))))))))))
  refine lv_if_ne (tgt := 26) (pc := 21) hx hb dJ2_addAll_21 rfl (fun h13 => ?_) (fun h13 => ?_)
  · refine lv_iload_n (pc := 26) hx hb dJ2_addAll_26 rfl (lv_at hl 0 rfl) (lv_aload_n (pc := 27) hx hb dJ2_addAll_27 rfl (lv_at hl 2 rfl) ((((hq s_11 es_11) v_12 ev_12).1 h13).elim (fun b_14 h => h.elim (fun hsb_14 h => h.elim (fun n_15 h => h.elim (fun hgb_14 hqb_14 => (og_get (pc := 28) X hR og_c18 lf_J2_9 (og_g1 (hE_7.g hGx0)) (v := .ref (E.b + b_14)) (og_vr (hE_7.g hGx0) rfl hsb_14) dJ2_addAll_28 (lv_dup (pc := 31) hx hb dJ2_addAll_31 rfl (lv_astore (lv' := [(4, .ref (E.b + b_14)), (3, .int v_12), (2, .ref (E.b + r_4)), (0, .ref (E.b + x0)), (1, .ref (E.b + x1))]) (pc := 32) hx hb dJ2_addAll_32 hl (og_le rfl) rfl (fun ls hl => (og_alen (pc := 34) X hR (ak := 6) (og_le rfl) hgb_14 (v := (Int32.ofNat n_15)) rfl dJ2_addAll_34 (lv_aload_n (pc := 35) hx hb dJ2_addAll_35 rfl (lv_at hl 3 rfl) ?_))))))))))))
    refine og_get (pc := 36) X hR og_c18 lf_J2_48 (og_g1 (hE_7.g hGx0)) (v := .int (s_11.I x0 2)) rfl dJ2_addAll_36 (lv_topi (fun v_16 ev_16 => (lv_dup (pc := 39) hx hb dJ2_addAll_39 rfl (lv_istore (lv' := [(5, .int v_16), (4, .ref (E.b + b_14)), (3, .int v_12), (2, .ref (E.b + r_4)), (0, .ref (E.b + x0)), (1, .ref (E.b + x1))]) (pc := 40) hx hb dJ2_addAll_40 hl (og_le rfl) rfl (fun ls hl => (lv_isub (pc := 42) hx hb dJ2_addAll_42 ?_))))))
    refine lv_icmp_le (tgt := 56) (pc := 43) hx hb dJ2_addAll_43 rfl (fun h17 => ?_) (fun h17 => ?_)
    · exact jJ2_addAll_56 X hr Q x0 r_4 n_9 v_12 b_14 n_15 v_16 (kc - c_1) (ks - u_2) (og_hk2 hk hb_3) Γ_6 (hE.trans hE_7) hΓ_8 (hE_7.g hGx0) hg_10 hgb_14 s_11 ((hqb_14 v_16 ev_16).1 h17) hR hS (lv_sub hl [4, 3, 2, 1, 0] rfl)
    · refine lv_aload_n (pc := 46) hx hb dJ2_addAll_46 rfl (lv_at hl 4 rfl) (lv_iload (pc := 47) hx hb dJ2_addAll_47 (lv_at hl 0 rfl) (lv_iload_n (pc := 49) hx hb dJ2_addAll_49 rfl (lv_at hl 2 rfl) (lv_iadd (pc := 50) hx hb dJ2_addAll_50 (((hqb_14 v_16 ev_16).2 h17).elim (fun c_18 h => h.elim (fun u_19 h => h.elim (fun hb_20 hq => (og_aftAr (og_runC (pc := 51) (As := [.int (v_16 + v_12)]) (rest := []) X hR hS og_c18 (og_g1 (hE_7.g hGx0)) (mJ2_grow l E _ x0 (v_16 + v_12) Γ_6 (hE_7.g hGx0) c_18 u_19 hΓ_8 s_11 hq) l2_J2_69_18  hy_J2_grow rfl ⟨rfl, rfl, (og_le rfl), (og_le rfl), og_b3 (og_hk2 hk hb_3) hb_20, og_b4 (og_hk2 hk hb_3) hb_20⟩ rfl hl.1 (og_le rfl) dJ2_addAll_51) hS (fun r_21 Γ_23 s_22 H locs hq hE_24 hΓ_25 hR hS => (hq.elim (fun n_26 h => h.elim (fun hg_27 hq => (lv_astore (lv' := [(4, .ref (E.b + r_21)), (5, .int v_16), (3, .int v_12), (2, .ref (E.b + r_4)), (0, .ref (E.b + x0)), (1, .ref (E.b + x1))]) (pc := 54) hx hb dJ2_addAll_54 hl (og_le rfl) rfl (fun ls hl => ?_))))))))))))))
      exact jJ2_addAll_56 X hr Q x0 r_4 n_9 v_12 r_21 n_26 v_16 ((kc - c_1) - c_18) ((ks - u_2) - u_19) (og_hk2 (og_hk2 hk hb_3) hb_20) Γ_23 ((hE.trans hE_7).trans hE_24) hΓ_25 (hE_24.g (hE_7.g hGx0)) (hE_24.g hg_10) hg_27 s_22 hq hR hS (lv_sub hl [4, 3, 2, 0, 1] rfl)
  · exact lv_iconst (pc := 24) hx hb dJ2_addAll_24 ck_i_0 (W.widen (og_b1 (og_hk2 hk hb_3)) (og_b2 (og_hk2 hk hb_3)) (og_iretz (em := emA) (σ := (Γ_6, s_11)) (pc := 25) X hr hR hS ⟨by decide, (((hq s_11 es_11) v_12 ev_12).2 h13), (hE.trans hE_7), hΓ_8⟩ dJ2_addAll_25))
end Walk
