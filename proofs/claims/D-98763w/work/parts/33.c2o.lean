set_option maxRecDepth 100000
def wSum (Γ : OgG) : Nat → (Int64 → OgC → Prop) → (Nat → OgC → Prop) → Nat → OgC → Prop
  | 0 => fun _ _ _ _ => False
  | n + 1 => fun Q Xq a σ => (Γ.G a = (10, 0) ∧ wX11_of Γ Q Xq a σ) ∨ (Γ.G a = (11, 0) ∧ wX12_of Γ Q Xq a σ) ∨ (Γ.G a = (12, 0) ∧ wX13_of Γ Q Xq (wSum Γ n) a σ)
theorem okSum (l : Launch) (E : OgE) (Γ : OgG) (hΓ : OgWf Γ) (n : Nat) : OkS l E Γ n (wSum Γ n) := by
  induction n with
  | zero =>
    intro p e R s m args below meth c H locs cells slots cc pc ls rest nL own index a σ Q Xq X hR hS hw
    exact hw.elim
  | succ n ih =>
    intro p e R s m args below meth c H locs cells slots cc pc ls rest nL own index a σ Q Xq X hR hS hw hlk hr hsz hrest hd
    rcases hw with ⟨hG, hw⟩ | ⟨hG, hw⟩ | ⟨hG, hw⟩
    · exact og_runA (x := ySum) (y := yX11_of) (As := [.ref (E.b + 28)]) (n := 1) X hR hS og_c9 (og_g1 hG) (mX11_of l E Γ hΓ Q Xq a hG σ hw) (og_lU hlk q1162 q1163 q1164 q121 q1165) (og_ind 5 rfl) (by unfold OgY; decide +kernel) rfl ⟨rfl, rfl, by have := hr.1; simp only [og_rm]; omega, by have := hr.2.1; simp only [og_rm]; omega, hr.2.2.1, hr.2.2.2⟩ rfl hsz hrest hd
    · exact og_runA (x := ySum) (y := yX12_of) (As := [.ref (E.b + 28)]) (n := 1) X hR hS og_c10 (og_g1 hG) (mX12_of l E Γ hΓ Q Xq a hG σ hw) (og_lU hlk q1162 q1174 q1170 q122 q1171) (og_ind 5 rfl) (by unfold OgY; decide +kernel) rfl ⟨rfl, rfl, by have := hr.1; simp only [og_rm]; omega, by have := hr.2.1; simp only [og_rm]; omega, hr.2.2.1, hr.2.2.2⟩ rfl hsz hrest hd
    · exact og_runA (x := ySum) (y := yX13_of) (As := [.ref (E.b + 28)]) (n := 1) X hR hS og_c11 (og_g1 hG) (mX13_of l E Γ hΓ Q Xq n _ @ih a hG σ hw) (og_lU hlk q1162 q1166 q1167 q123 q1168) (og_ind 5 rfl) (by unfold OgY; decide +kernel) rfl ⟨rfl, rfl, by have := hr.1; simp only [og_rm]; omega, by have := hr.2.1; simp only [og_rm]; omega, hr.2.2.1, hr.2.2.2⟩ rfl hsz hrest hd
def wTest (Γ : OgG) : Nat → (Int32 → OgC → Prop) → (Nat → OgC → Prop) → Nat → OgC → Prop
  | 0 => fun _ _ _ _ => False
  | n + 1 => fun Q Xq a σ => (Γ.G a = (13, 0) ∧ wX15_is Γ Q Xq (wSum Γ n) a σ) ∨ (Γ.G a = (14, 0) ∧ wX16_is Γ Q Xq (wTest Γ n) a σ) ∨ (Γ.G a = (15, 0) ∧ wX17_is Γ Q Xq (wTest Γ n) a σ)
theorem okTest (l : Launch) (E : OgE) (Γ : OgG) (hΓ : OgWf Γ) (n : Nat) : OkT l E Γ n (wTest Γ n) := by
  induction n with
  | zero =>
    intro p e R s m args below meth c H locs cells slots cc pc ls rest nL own index a σ Q Xq X hR hS hw
    exact hw.elim
  | succ n ih =>
    have ihS : OkS l E Γ n (wSum Γ n) := @okSum l E Γ hΓ n
    intro p e R s m args below meth c H locs cells slots cc pc ls rest nL own index a σ Q Xq X hR hS hw hlk hr hsz hrest hd
    rcases hw with ⟨hG, hw⟩ | ⟨hG, hw⟩ | ⟨hG, hw⟩
    · exact og_runA (x := yTest) (y := yX15_is) (As := [.ref (E.b + 28)]) (n := 1) X hR hS og_c12 (og_g1 hG) (mX15_is l E Γ hΓ Q Xq n _ @ihS a hG σ hw) (og_lU hlk q1156 q1157 q1158 q125 q1159) (og_ind 6 rfl) (by unfold OgY; decide +kernel) rfl ⟨rfl, rfl, by have := hr.1; simp only [og_rm]; omega, by have := hr.2.1; simp only [og_rm]; omega, hr.2.2.1, hr.2.2.2⟩ rfl hsz hrest hd
    · exact og_runA (x := yTest) (y := yX16_is) (As := [.ref (E.b + 28)]) (n := 1) X hR hS og_c13 (og_g1 hG) (mX16_is l E Γ hΓ Q Xq n _ @ih a hG σ hw) (og_lU hlk q1156 q1175 q1176 q126 q1177) (og_ind 6 rfl) (by unfold OgY; decide +kernel) rfl ⟨rfl, rfl, by have := hr.1; simp only [og_rm]; omega, by have := hr.2.1; simp only [og_rm]; omega, hr.2.2.1, hr.2.2.2⟩ rfl hsz hrest hd
    · exact og_runA (x := yTest) (y := yX17_is) (As := [.ref (E.b + 28)]) (n := 1) X hR hS og_c14 (og_g1 hG) (mX17_is l E Γ hΓ Q Xq n _ @ih a hG σ hw) (og_lU hlk q1156 q1185 q1179 q127 q1180) (og_ind 6 rfl) (by unfold OgY; decide +kernel) rfl ⟨rfl, rfl, by have := hr.1; simp only [og_rm]; omega, by have := hr.2.1; simp only [og_rm]; omega, hr.2.2.1, hr.2.2.2⟩ rfl hsz hrest hd
