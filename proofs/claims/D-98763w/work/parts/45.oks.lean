set_option maxRecDepth 100000
theorem okVL (l : Launch) (E : OgE) : OkRi l E 6 yRValue 30 900 wX7_value := by
  intro p e R s m args below meth c H locs cells slots cc pc ls rest nL own index a kc ks Γ σ Q Xq X hΓ hG hR hS hw hlk hr hsz hrest hd
  exact og_runAX (x := yRValue) (y := yX7_value) (As := []) (n := 0) X hR hS og_c6 (og_g1 hG) (mX7_value l E Q Xq a Γ hG kc ks hΓ σ hw) ⟨og_ind 12 rfl, hlk, q863, q864, q865, q114, q866⟩ (by unfold OgY; decide +kernel) rfl ⟨rfl, rfl, by have := hr.1; show 7 + 1 ≤ R.frames; omega, by have := hr.2.1; show 8 + (1 + 11) + 191 ≤ R.locals; omega, hr.2.2.1, hr.2.2.2⟩ rfl hsz hrest hd
theorem okVO (l : Launch) (E : OgE) : OkRi l E 17 yRValue 30 900 wX20_value := by
  intro p e R s m args below meth c H locs cells slots cc pc ls rest nL own index a kc ks Γ σ Q Xq X hΓ hG hR hS hw hlk hr hsz hrest hd
  exact og_runAX (x := yRValue) (y := yX20_value) (As := []) (n := 0) X hR hS og_c17 (og_g1 hG) (mX20_value l E Q Xq a Γ hG kc ks hΓ σ hw) ⟨og_ind 12 rfl, hlk, q863, q883, q884, q133, q885⟩ (by unfold OgY; decide +kernel) rfl ⟨rfl, rfl, by have := hr.1; show 7 + 1 ≤ R.frames; omega, by have := hr.2.1; show 8 + (1 + 11) + 191 ≤ R.locals; omega, hr.2.2.1, hr.2.2.2⟩ rfl hsz hrest hd
def wSm (rV : (Int32 → OgG → OgC → Prop) → (Nat → OgG → OgC → Prop) → Nat → Nat → Nat → OgG → OgC → Prop) : Nat → (Nat → OgG → OgC → Prop) → (Nat → OgG → OgC → Prop) → Nat → Nat → Nat → OgG → OgC → Prop
  | 0 => fun _ _ _ _ _ _ _ => False
  | n + 1 => fun Q Xq a kc ks Γ σ => wX6_sum Q Xq (wSm rV n) rV a kc ks Γ σ
def wTs (rV : (Int32 → OgG → OgC → Prop) → (Nat → OgG → OgC → Prop) → Nat → Nat → Nat → OgG → OgC → Prop) : Nat → (Nat → OgG → OgC → Prop) → (Nat → OgG → OgC → Prop) → Nat → Nat → Nat → OgG → OgC → Prop
  | 0 => fun _ _ _ _ _ _ _ => False
  | n + 1 => fun Q Xq a kc ks Γ σ => wX6_test Q Xq (wSm rV n) (wTs rV n) rV a kc ks Γ σ
theorem okSmL (l : Launch) (E : OgE) (n : Nat) : OkRr l E 6 yRSum (8 * n + 40) (240 * n + 1500) (wSm wX7_value n) := by
  induction n with
  | zero =>
    intro p e R s m args below meth c H locs cells slots cc pc ls rest nL own index a kc ks Γ σ Q Xq X hΓ hG hR hS hw hlk hr hsz hrest hd
    exact hw.elim
  | succ n ih =>
    intro p e R s m args below meth c H locs cells slots cc pc ls rest nL own index a kc ks Γ σ Q Xq X hΓ hG hR hS hw hlk hr hsz hrest hd
    exact og_runCX (y := yX6_sum) (As := []) (n := 0) X hR hS og_c6 (og_g1 hG) (mX6_sumL l E Q Xq n (wSm wX7_value n) @ih wX7_value (@okVL l E) a Γ hG kc ks hΓ σ hw) ⟨hlk, q800, q2132, q113, q801⟩ (by unfold OgY; decide +kernel) rfl ⟨rfl, rfl, by have := hr.1; show (8 * n + 42) + 1 ≤ R.frames; omega, by have := hr.2.1; show 8 + (3 + 11) + (240 * n + 1560) ≤ R.locals; omega, hr.2.2.1, hr.2.2.2⟩ rfl hsz hrest hd
theorem okTsL (l : Launch) (E : OgE) (n : Nat) : OkRr l E 6 yRTest (8 * n + 40) (240 * n + 1500) (wTs wX7_value n) := by
  induction n with
  | zero =>
    intro p e R s m args below meth c H locs cells slots cc pc ls rest nL own index a kc ks Γ σ Q Xq X hΓ hG hR hS hw hlk hr hsz hrest hd
    exact hw.elim
  | succ n ih =>
    intro p e R s m args below meth c H locs cells slots cc pc ls rest nL own index a kc ks Γ σ Q Xq X hΓ hG hR hS hw hlk hr hsz hrest hd
    exact og_runCX (y := yX6_test) (As := []) (n := 0) X hR hS og_c6 (og_g1 hG) (mX6_testL l E Q Xq n (wSm wX7_value n) (@okSmL l E n) (wTs wX7_value n) @ih wX7_value (@okVL l E) a Γ hG kc ks hΓ σ hw) ⟨hlk, q939, q2135, q113, q940⟩ (by unfold OgY; decide +kernel) rfl ⟨rfl, rfl, by have := hr.1; show (8 * n + 46) + 1 ≤ R.frames; omega, by have := hr.2.1; show 8 + (3 + 11) + (240 * n + 1680) ≤ R.locals; omega, hr.2.2.1, hr.2.2.2⟩ rfl hsz hrest hd
theorem okSmO (l : Launch) (E : OgE) (n : Nat) : OkRr l E 17 yRSum (8 * n + 40) (240 * n + 1500) (wSm wX20_value n) := by
  induction n with
  | zero =>
    intro p e R s m args below meth c H locs cells slots cc pc ls rest nL own index a kc ks Γ σ Q Xq X hΓ hG hR hS hw hlk hr hsz hrest hd
    exact hw.elim
  | succ n ih =>
    intro p e R s m args below meth c H locs cells slots cc pc ls rest nL own index a kc ks Γ σ Q Xq X hΓ hG hR hS hw hlk hr hsz hrest hd
    exact og_runCX (y := yX6_sum) (As := []) (n := 0) X hR hS og_c17 (og_g1 hG) (mX6_sumO l E Q Xq n (wSm wX20_value n) @ih wX20_value (@okVO l E) a Γ hG kc ks hΓ σ hw) ⟨hlk, q800, q2133, q113, q801⟩ (by unfold OgY; decide +kernel) rfl ⟨rfl, rfl, by have := hr.1; show (8 * n + 42) + 1 ≤ R.frames; omega, by have := hr.2.1; show 8 + (3 + 11) + (240 * n + 1560) ≤ R.locals; omega, hr.2.2.1, hr.2.2.2⟩ rfl hsz hrest hd
theorem okTsO (l : Launch) (E : OgE) (n : Nat) : OkRr l E 17 yRTest (8 * n + 40) (240 * n + 1500) (wTs wX20_value n) := by
  induction n with
  | zero =>
    intro p e R s m args below meth c H locs cells slots cc pc ls rest nL own index a kc ks Γ σ Q Xq X hΓ hG hR hS hw hlk hr hsz hrest hd
    exact hw.elim
  | succ n ih =>
    intro p e R s m args below meth c H locs cells slots cc pc ls rest nL own index a kc ks Γ σ Q Xq X hΓ hG hR hS hw hlk hr hsz hrest hd
    exact og_runCX (y := yX6_test) (As := []) (n := 0) X hR hS og_c17 (og_g1 hG) (mX6_testO l E Q Xq n (wSm wX20_value n) (@okSmO l E n) (wTs wX20_value n) @ih wX20_value (@okVO l E) a Γ hG kc ks hΓ σ hw) ⟨hlk, q939, q2136, q113, q940⟩ (by unfold OgY; decide +kernel) rfl ⟨rfl, rfl, by have := hr.1; show (8 * n + 46) + 1 ≤ R.frames; omega, by have := hr.2.1; show 8 + (3 + 11) + (240 * n + 1680) ≤ R.locals; omega, hr.2.2.1, hr.2.2.2⟩ rfl hsz hrest hd
