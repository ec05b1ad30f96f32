set_option maxRecDepth 100000
/-! LINKS: which place is linked to which; roots. Counting what is left. -/
def LkO (lk : Nat → Option Nat) (rt : Nat → Nat) (n : Nat) : Prop := ∃ dp : Nat → Nat, ∀ x, x < n → (lk x = none ∧ rt x = x) ∨ ∃ y, lk x = some y ∧ y < n ∧ rt y = rt x ∧ dp y < dp x
/-- how many below n -/
noncomputable def cnt (P : Nat → Prop) : Nat → Nat
  | 0 => 0
  | n + 1 => cnt P n + @ite Nat (P n) (Classical.propDecidable _) 1 0
section TLink
variable {lk lk' : Nat → Option Nat} {rt : Nat → Nat} {n x y : Nat} {P Q : Nat → Prop}
theorem cnt_le (h : ∀ z, z < n → P z → Q z) : cnt P n ≤ cnt Q n := by
  induction n with
  | zero => exact Nat.le_refl _
  | succ n ih =>
    have h1 := ih (fun z hz => h z (by omega))
    simp only [cnt]
    by_cases p : P n
    · rw [if_pos p, if_pos (h n (by omega) p)]; omega
    · rw [if_neg p]; omega
theorem cnt_lt (h : ∀ z, z < n → P z → Q z) (hx : x < n) (hp : ¬ P x) (hq : Q x) : cnt P n < cnt Q n := by
  induction n with
  | zero => omega
  | succ n ih =>
    simp only [cnt]
    by_cases e : x = n
    · subst e
      have h1 := cnt_le (n := x) (fun z hz => h z (by omega))
      rw [if_neg hp, if_pos hq]; omega
    · have h1 := ih (fun z hz => h z (by omega)) (by omega)
      by_cases p : P n
      · rw [if_pos p, if_pos (h n (by omega) p)]; omega
      · rw [if_neg p]; omega
theorem cnt_n : cnt P n ≤ n := by
  induction n with
  | zero => exact Nat.le_refl _
  | succ n ih => simp only [cnt]; split <;> omega
theorem LkO_rt (h : LkO lk rt n) : ∀ x, x < n → rt x < n ∧ lk (rt x) = none ∧ rt (rt x) = rt x := by
  obtain ⟨dp, h⟩ := h
  have key : ∀ k x, dp x < k → x < n → rt x < n ∧ lk (rt x) = none ∧ rt (rt x) = rt x := by
    intro k
    induction k with
    | zero => intro x hk; omega
    | succ k ih =>
      intro x hk hx
      rcases h x hx with ⟨h1, h2⟩ | ⟨y, h1, h2, h3, h4⟩
      · rw [h2]; exact ⟨hx, h1, h2⟩
      · have := ih y (by omega) h2
        rw [h3] at this
        exact this
  exact fun x => key (dp x + 1) x (by omega)
theorem LkO_none (h : LkO lk rt n) (hx : x < n) (e : lk x = none) : rt x = x := by
  obtain ⟨dp, h⟩ := h
  rcases h x hx with ⟨_, h2⟩ | ⟨y, h1, _⟩
  · exact h2
  · rw [e] at h1; cases h1
theorem LkO_some (h : LkO lk rt n) (hx : x < n) (e : lk x = some y) : y < n ∧ rt y = rt x ∧ rt x ≠ x := by
  have hr := LkO_rt h x hx
  obtain ⟨dp, h⟩ := h
  rcases h x hx with ⟨h1, _⟩ | ⟨z, h1, h2, h3, h4⟩
  · rw [e] at h1; cases h1
  · rw [e] at h1; cases h1
    exact ⟨h2, h3, fun q => by rw [q, e] at hr; cases hr.2.1⟩
theorem LkO_dp {dp : Nat → Nat} (h : ∀ x, x < n → (lk x = none ∧ rt x = x) ∨ ∃ y, lk x = some y ∧ y < n ∧ rt y = rt x ∧ dp y < dp x) : ∀ x, x < n → rt x = x ∨ dp (rt x) < dp x := by
  have key : ∀ k x, dp x < k → x < n → rt x = x ∨ dp (rt x) < dp x := by
    intro k
    induction k with
    | zero => intro x hk; omega
    | succ k ih =>
      intro x hk hx
      rcases h x hx with ⟨h1, h2⟩ | ⟨y, h1, h2, h3, h4⟩
      · exact Or.inl h2
      · rcases ih y (by omega) h2 with q | q
        · rw [h3] at q; rw [q]; exact Or.inr h4
        · rw [h3] at q; exact Or.inr (by omega)
  exact fun x => key (dp x + 1) x (by omega)
/-- a link led on to the root -/
theorem LkO_short (h : LkO lk rt n) (hx : x < n) (hn : lk x ≠ none) (h' : ∀ z, lk' z = if z = x then some (rt x) else lk z) : LkO lk' rt n := by
  have hr := LkO_rt h x hx
  have hd : rt x ≠ x := fun q => by rw [q] at hr; exact hn hr.2.1
  obtain ⟨dp, h⟩ := h
  refine ⟨dp, fun z hz => ?_⟩
  rw [h' z]
  by_cases q : z = x
  · rw [if_pos q, q]
    refine Or.inr ⟨_, rfl, hr.1, hr.2.2, ?_⟩
    rcases LkO_dp h x hx with w | w
    · exact absurd w hd
    · exact w
  · rw [if_neg q]; exact h z hz
/-- a root is linked to another one -/
theorem LkO_link (h : LkO lk rt n) (hx : x < n) (hy : y < n) (rx : rt x = x) (ry : rt y = y) (hxy : x ≠ y) (h' : ∀ z, lk' z = if z = x then some y else lk z) : LkO lk' (fun z => if rt z = x then y else rt z) n := by
  obtain ⟨dp, h⟩ := h
  refine ⟨fun z => if rt z = x then dp z + dp y + 1 else dp z, fun z hz => ?_⟩
  rw [h' z]
  by_cases q : z = x
  · rw [if_pos q, q]
    refine Or.inr ⟨y, rfl, hy, ?_, ?_⟩
    · show (if rt y = x then y else rt y) = if rt x = x then y else rt x
      rw [ry, if_neg (fun z => hxy z.symm), rx, if_pos rfl]
    · show (if rt y = x then _ else dp y) < if rt x = x then dp x + dp y + 1 else _
      rw [ry, rx, if_pos rfl, if_neg (fun z => hxy z.symm)]
      omega
  · rw [if_neg q]
    rcases h z hz with ⟨h1, h2⟩ | ⟨w, h1, h2, h3, h4⟩
    · refine Or.inl ⟨h1, ?_⟩
      show (if rt z = x then y else rt z) = z
      rw [h2, if_neg q]
    · refine Or.inr ⟨w, h1, h2, ?_, ?_⟩
      · show (if rt w = x then y else rt w) = if rt z = x then y else rt z
        rw [h3]
      · show (if rt w = x then _ else dp w) < if rt z = x then _ else dp z
        rw [h3]
        by_cases e : rt z = x
        · rw [if_pos e, if_pos e]; omega
        · rw [if_neg e, if_neg e]; exact h4
theorem LkO_new (h : LkO lk rt n) (e : lk n = none) (er : rt n = n) : LkO lk rt (n + 1) := by
  obtain ⟨dp, h⟩ := h
  refine ⟨dp, fun z hz => ?_⟩
  by_cases q : z = n
  · subst q; exact Or.inl ⟨e, er⟩
  · rcases h z (by omega) with w | ⟨y, w1, w2, w3⟩
    · exact Or.inl w
    · exact Or.inr ⟨y, w1, by omega, w3⟩
theorem LkO_eq {rt' : Nat → Nat} (h : LkO lk rt n) (h1 : ∀ z, z < n → lk' z = lk z) (h2 : ∀ z, z < n → rt' z = rt z) : LkO lk' rt' n := by
  obtain ⟨dp, h⟩ := h
  refine ⟨dp, fun z hz => ?_⟩
  rw [h1 z hz, h2 z hz]
  rcases h z hz with w | ⟨y, w1, w2, w3⟩
  · exact Or.inl w
  · exact Or.inr ⟨y, w1, w2, by rw [h2 y w2]; exact w3⟩
end TLink
