/-! ===== lookups behind stores ===== -/
theorem S_II (σ : OgS) (a k : Nat) (v : Int32) (x j : Nat) : (σ.sI a k v).I x j = if x = a then (if j = k then v else σ.I x j) else σ.I x j := by
  show og_up σ.I a k v x j = _
  unfold og_up
  split <;> rfl
theorem S_IL (σ : OgS) (a k : Nat) (v : Int32) : (σ.sI a k v).L = σ.L := rfl
theorem S_LI (σ : OgS) (a k : Nat) (v : Int64) : (σ.sL a k v).I = σ.I := rfl
theorem S_LL (σ : OgS) (a k : Nat) (v : Int64) (x j : Nat) : (σ.sL a k v).L x j = if x = a then (if j = k then v else σ.L x j) else σ.L x j := by
  show og_up σ.L a k v x j = _
  unfold og_up
  split <;> rfl
theorem S_It (σ : OgS) (a k : Nat) (v : Int32) : (σ.sI a k v).top = σ.top := rfl
theorem S_Lt (σ : OgS) (a k : Nat) (v : Int64) : (σ.sL a k v).top = σ.top := rfl
theorem C_II (σ : OgC) (a k : Nat) (v : Int32) (x j : Nat) : (σ.sI a k v).I x j = if x = a then (if j = k then v else σ.I x j) else σ.I x j := by
  show og_up σ.I a k v x j = _
  unfold og_up
  split <;> rfl
theorem C_IL (σ : OgC) (a k : Nat) (v : Int32) : (σ.sI a k v).L = σ.L := rfl
theorem C_IR (σ : OgC) (a k : Nat) (v : Int32) : (σ.sI a k v).R = σ.R := rfl
theorem C_LI (σ : OgC) (a k : Nat) (v : Int64) : (σ.sL a k v).I = σ.I := rfl
theorem C_LR (σ : OgC) (a k : Nat) (v : Int64) : (σ.sL a k v).R = σ.R := rfl
theorem C_LL (σ : OgC) (a k : Nat) (v : Int64) (x j : Nat) : (σ.sL a k v).L x j = if x = a then (if j = k then v else σ.L x j) else σ.L x j := by
  show og_up σ.L a k v x j = _
  unfold og_up
  split <;> rfl
theorem C_RI (σ : OgC) (a k : Nat) (v : Option Nat) : (σ.sR a k v).I = σ.I := rfl
theorem C_RL (σ : OgC) (a k : Nat) (v : Option Nat) : (σ.sR a k v).L = σ.L := rfl
theorem C_RR (σ : OgC) (a k : Nat) (v : Option Nat) (x j : Nat) : (σ.sR a k v).R x j = if x = a then (if j = k then v else σ.R x j) else σ.R x j := by
  show og_up σ.R a k v x j = _
  unfold og_up
  split <;> rfl
theorem C_cI (σ : OgC) (a sp d dp n x j : Nat) : (σ.cI a sp d dp n).I x j = if x = d then (if dp ≤ j ∧ j < dp + n then σ.I a (sp + (j - dp)) else σ.I x j) else σ.I x j := by
  show og_cp σ.I a sp d dp n x j = _
  unfold og_cp
  split
  · unfold va_cpy
    rfl
  · rfl
theorem C_cIL (σ : OgC) (a sp d dp n : Nat) : (σ.cI a sp d dp n).L = σ.L := rfl
theorem C_cIR (σ : OgC) (a sp d dp n : Nat) : (σ.cI a sp d dp n).R = σ.R := rfl
