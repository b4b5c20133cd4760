set_option maxRecDepth 100000
theorem okCL (l : Launch) (E : OgE) : OkRv l E 6 yRClause 200 8000 wX7_clause := by
  intro p e R s m args below meth c H locs cells slots cc pc ls rest nL own index a kc ks Γ σ Q Xq X hΓ hG hR hS hw hlk hr hsz hrest hd
  exact og_runAX (x := yRClause) (y := yX7_clause) (As := []) (n := 0) X hR hS og_c6 (og_g1 hG) (mX7_clause l E Q Xq a Γ hG kc ks hΓ σ hw) ⟨og_ind 7 rfl, hlk, q686, q687, q688, q114, q689⟩ (by unfold OgY; decide +kernel) rfl ⟨rfl, rfl, by have := hr.1; show 143 + 1 ≤ R.frames; omega, by have := hr.2.1; show 8 + (3 + 11) + 4588 ≤ R.locals; omega, hr.2.2.1, hr.2.2.2⟩ rfl hsz hrest hd
theorem okCO (l : Launch) (E : OgE) : OkRv l E 17 yRClause 200 8000 wX20_clause := by
  intro p e R s m args below meth c H locs cells slots cc pc ls rest nL own index a kc ks Γ σ Q Xq X hΓ hG hR hS hw hlk hr hsz hrest hd
  exact og_runAX (x := yRClause) (y := yX20_clause) (As := []) (n := 0) X hR hS og_c17 (og_g1 hG) (mX20_clause l E Q Xq a Γ hG kc ks hΓ σ hw) ⟨og_ind 7 rfl, hlk, q686, q1026, q1027, q133, q1028⟩ (by unfold OgY; decide +kernel) rfl ⟨rfl, rfl, by have := hr.1; show 143 + 1 ≤ R.frames; omega, by have := hr.2.1; show 8 + (3 + 11) + 4588 ≤ R.locals; omega, hr.2.2.1, hr.2.2.2⟩ rfl hsz hrest hd
