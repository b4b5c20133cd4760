/-! ===== shortest ways: a plain law ===== -/
def og_cd (M : Nat) (al : Nat → Nat → Bool) (r : Nat → Nat → Nat) (h : Nat → Nat) (f o : Nat) : Nat := if al f o then min M (r f o + h o) else M
def og_mn (M : Nat) (al : Nat → Nat → Bool) (r : Nat → Nat → Nat) (h : Nat → Nat) (f : Nat) : Nat → Nat := fun k => k.rec M (fun k m => min m (og_cd M al r h f k))
theorem mn_s (M : Nat) (al : Nat → Nat → Bool) (r : Nat → Nat → Nat) (h : Nat → Nat) (f k : Nat) : og_mn M al r h f (k + 1) = min (og_mn M al r h f k) (og_cd M al r h f k) := rfl
theorem cd_le (M : Nat) (al : Nat → Nat → Bool) (r : Nat → Nat → Nat) (h : Nat → Nat) (f o : Nat) : og_cd M al r h f o ≤ M := by
  unfold og_cd
  split
  · exact Nat.min_le_left _ _
  · exact Nat.le_refl _
theorem mn_le {M : Nat} {al : Nat → Nat → Bool} {r : Nat → Nat → Nat} {h : Nat → Nat} {f o : Nat} : ∀ k, o < k → og_mn M al r h f k ≤ og_cd M al r h f o
  | 0, ho => absurd ho (by omega)
  | k + 1, ho => by
    rw [mn_s]
    by_cases e : o = k
    · subst e
      exact Nat.min_le_right _ _
    · exact Nat.le_trans (Nat.min_le_left _ _) (mn_le k (by omega))
theorem mn_M {M : Nat} {al : Nat → Nat → Bool} {r : Nat → Nat → Nat} {h : Nat → Nat} {f : Nat} : ∀ k, og_mn M al r h f k ≤ M
  | 0 => Nat.le_refl _
  | k + 1 => by
    rw [mn_s]
    exact Nat.le_trans (Nat.min_le_left _ _) (mn_M k)
theorem mn_ge {M : Nat} {al : Nat → Nat → Bool} {r : Nat → Nat → Nat} {h : Nat → Nat} {f m : Nat} (hM : m ≤ M) : ∀ k, (∀ o, o < k → m ≤ og_cd M al r h f o) → m ≤ og_mn M al r h f k
  | 0, _ => hM
  | k + 1, hh => by
    rw [mn_s]
    exact Nat.le_min.mpr ⟨mn_ge hM k (fun o ho => hh o (by omega)), hh k (by omega)⟩
theorem cd_mono {M : Nat} {al : Nat → Nat → Bool} {r : Nat → Nat → Nat} {h h' : Nat → Nat} {f o : Nat} (hh : h o ≤ h' o) : og_cd M al r h f o ≤ og_cd M al r h' f o := by
  unfold og_cd
  split
  · omega
  · exact Nat.le_refl _
theorem mn_mono {M : Nat} {al : Nat → Nat → Bool} {r : Nat → Nat → Nat} {h h' : Nat → Nat} {f : Nat} (k : Nat) (hh : ∀ o, o < k → h o ≤ h' o) : og_mn M al r h f k ≤ og_mn M al r h' f k :=
  mn_ge (mn_M k) k (fun o ho => Nat.le_trans (mn_le k ho) (cd_mono (hh o ho)))
/-- by at most k roads -/
def og_dk (M : Nat) (al : Nat → Nat → Bool) (r : Nat → Nat → Nat) (n t : Nat) : Nat → Nat → Nat := fun k => k.rec (fun f => if f = t then 0 else M) (fun _ h f => if f = t then 0 else og_mn M al r h f n)
section BF
variable (M : Nat) (al : Nat → Nat → Bool) (r : Nat → Nat → Nat) (n t : Nat)
theorem dk_s (k f : Nat) : og_dk M al r n t (k + 1) f = if f = t then 0 else og_mn M al r (og_dk M al r n t k) f n := rfl
theorem dk_t (k : Nat) : og_dk M al r n t k t = 0 := by
  cases k with
  | zero => exact if_pos rfl
  | succ k => rw [dk_s, if_pos rfl]
theorem dk_M (k f : Nat) : og_dk M al r n t k f ≤ M := by
  cases k with
  | zero =>
    show (if f = t then 0 else M) ≤ M
    split <;> omega
  | succ k =>
    rw [dk_s]
    split
    · omega
    · exact mn_M n
theorem dk_dec (f : Nat) : ∀ k, og_dk M al r n t (k + 1) f ≤ og_dk M al r n t k f := by
  intro k
  induction k generalizing f with
  | zero =>
    by_cases e : f = t
    · rw [e, dk_t, dk_t]
      exact Nat.le_refl _
    · rw [show og_dk M al r n t 0 f = M from if_neg e]
      exact dk_M M al r n t 1 f
  | succ k ih =>
    by_cases e : f = t
    · rw [e, dk_t, dk_t]
      exact Nat.le_refl _
    · rw [dk_s, dk_s, if_neg e, if_neg e]
      exact mn_mono n (fun o _ => ih o)
theorem dk_anti (f : Nat) {i : Nat} : ∀ j, i ≤ j → og_dk M al r n t j f ≤ og_dk M al r n t i f
  | 0, h => by
    obtain rfl : i = 0 := by omega
    exact Nat.le_refl _
  | j + 1, h => by
    by_cases e : i = j + 1
    · rw [e]
      exact Nat.le_refl _
    · exact Nat.le_trans (dk_dec M al r n t f j) (dk_anti f j (by omega))
theorem ex_min (p : Nat → Prop) (g : Nat → Nat) (hp : ∃ x, p x) : ∃ x, p x ∧ ∀ y, p y → g x ≤ g y := by
  obtain ⟨x, hx⟩ := hp
  suffices h : ∀ m x, p x → g x ≤ m → ∃ x, p x ∧ ∀ y, p y → g x ≤ g y from h (g x) x hx (Nat.le_refl _)
  intro m
  induction m with
  | zero =>
    intro x hx h
    exact ⟨x, hx, fun y _ => by omega⟩
  | succ m ih =>
    intro x hx h
    by_cases c : ∃ y, p y ∧ g y < g x
    · obtain ⟨y, hy, hl⟩ := c
      exact ih y hy (by omega)
    · exact ⟨x, hx, fun y hy => by
        by_cases q : g x ≤ g y
        · exact q
        · exact absurd ⟨y, hy, by omega⟩ c⟩
theorem cnt_all {p : Nat → Bool} : ∀ n, fa_cnt p n = n → ∀ x, x < n → p x = true
  | 0, _, x, hx => absurd hx (by omega)
  | n + 1, h, x, hx => by
    have hl := fa_cnt_le p n
    by_cases c : p n = true
    · rw [fa_cnt_yes c] at h
      by_cases e : x = n
      · rw [e]
        exact c
      · exact cnt_all n (by omega) x (by omega)
    · rw [fa_cnt_no (by simpa using c)] at h
      omega
theorem cnt_add {p : Nat → Bool} {f : Nat} (hf : p f = false) : ∀ n, fa_cnt (fun x => p x || decide (x = f)) n = fa_cnt p n + (if f < n then 1 else 0)
  | 0 => rfl
  | n + 1 => by
    have ih := cnt_add hf n
    by_cases e : n = f
    · subst e
      rw [fa_cnt_yes (p := fun x => p x || decide (x = n)) (by simp), fa_cnt_no hf, ih, if_neg (by omega), if_pos (by omega)]
    · by_cases c : p n = true
      · rw [fa_cnt_yes (p := fun x => p x || decide (x = f)) (by simp [c]), fa_cnt_yes c, ih]
        by_cases l : f < n
        · rw [if_pos l, if_pos (by omega)]
        · rw [if_neg l, if_neg (by omega)]
      · have c' : p n = false := by simpa using c
        rw [fa_cnt_no (p := fun x => p x || decide (x = f)) (by simp [c', e]), fa_cnt_no c', ih]
        by_cases l : f < n
        · rw [if_pos l, if_pos (by omega)]
        · rw [if_neg l, if_neg (by omega)]
/-- k + 1 places at least are settled by k roads -/
theorem dk_set (ht : t < n) : ∀ k, k < n → ∃ S : Nat → Bool, k + 1 ≤ fa_cnt S n ∧ ∀ x, x < n → S x = true → ∀ j, k ≤ j → og_dk M al r n t j x = og_dk M al r n t k x := by
  intro k
  induction k with
  | zero =>
    intro _
    refine ⟨fun x => false || decide (x = t), ?_, ?_⟩
    · rw [cnt_add (p := fun _ => false) rfl, if_pos ht]
      omega
    · intro x _ hx j _
      obtain rfl : x = t := by simpa using hx
      rw [dk_t, dk_t]
  | succ k ih =>
    intro hk
    obtain ⟨S, hc, hS⟩ := ih (by omega)
    by_cases big : k + 1 + 1 ≤ fa_cnt S n
    · refine ⟨S, big, fun x hx h j hj => ?_⟩
      rw [hS x hx h j (by omega), hS x hx h (k + 1) (by omega)]
    · have out : ∃ x, x < n ∧ S x = false := by
        apply Classical.byContradiction
        intro q
        have hall : ∀ x, x < n → S x = true := by
          intro x hx
          by_cases c : S x = true
          · exact c
          · exact absurd ⟨x, hx, by simpa using c⟩ q
        have : ∀ m, m ≤ n → fa_cnt S m = m := by
          intro m
          induction m with
          | zero => intro _; rfl
          | succ m ihm =>
            intro hm
            rw [fa_cnt_yes (hall m (by omega)), ihm (by omega)]
        have := this n (Nat.le_refl _)
        omega
      obtain ⟨f, ⟨hf, hSf⟩, hmin⟩ := ex_min (fun x => x < n ∧ S x = false) (og_dk M al r n t (k + 1)) out
      have low : ∀ j, k + 1 ≤ j → ∀ o, o < n → S o = false → og_dk M al r n t (k + 1) f ≤ og_dk M al r n t j o := by
        intro j
        induction j with
        | zero => intro h; omega
        | succ j ihj =>
          intro hj o ho hSo
          by_cases e : k = j
          · subst e
            exact hmin o ⟨ho, hSo⟩
          · by_cases et : o = t
            · subst et
              have := hmin o ⟨ho, hSo⟩
              rw [dk_t] at this ⊢
              exact this
            · rw [dk_s M al r n t j o, if_neg et]
              refine mn_ge (dk_M M al r n t (k + 1) f) n (fun p hp => ?_)
              by_cases sp : S p = true
              · have h1 := hS p hp sp j (by omega)
                have h2 : og_dk M al r n t (k + 1) o ≤ og_cd M al r (og_dk M al r n t k) o p := by
                  rw [dk_s, if_neg et]
                  exact mn_le n hp
                have h3 := hmin o ⟨ho, hSo⟩
                have h4 : og_cd M al r (og_dk M al r n t j) o p = og_cd M al r (og_dk M al r n t k) o p := by
                  unfold og_cd
                  rw [h1]
                rw [h4]
                omega
              · have h1 := ihj (by omega) p hp (by simpa using sp)
                have h2 := dk_M M al r n t (k + 1) f
                unfold og_cd
                split <;> omega
      refine ⟨fun x => S x || decide (x = f), ?_, ?_⟩
      · rw [cnt_add hSf, if_pos hf]
        omega
      · intro x hx h j hj
        by_cases sx : S x = true
        · rw [hS x hx sx j (by omega), hS x hx sx (k + 1) (by omega)]
        · obtain rfl : x = f := by
            simp [sx] at h
            exact h
          have h1 := low j hj x hf hSf
          have h2 := dk_anti M al r n t x (i := k + 1) j hj
          omega
/-- settled for good -/
theorem dk_fix (ht : t < n) (x : Nat) (hx : x < n) {j : Nat} (hj : n - 1 ≤ j) : og_dk M al r n t j x = og_dk M al r n t (n - 1) x := by
  obtain ⟨S, hc, hS⟩ := dk_set M al r n t ht (n - 1) (by omega)
  have hl := fa_cnt_le S n
  exact hS x hx (cnt_all n (by omega) x hx) j hj
end BF
