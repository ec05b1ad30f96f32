set_option maxRecDepth 100000
/-! THE HOUSE'S TYPES: labels; those with the same names -/
section HLab
variable {a b c : List Int} {n m k i j : Nat}
theorem llex_len : ∀ {a b : List Int}, a = [] ∨ b = [] → llex a b = (a.length : Int) - b.length
  | [], b, _ => by
    show -(b.length : Int) = _
    rw [List.length_nil]; omega
  | x :: a, [], _ => by
    show ((x :: a).length : Int) = _
    rw [List.length_nil]; omega
  | _ :: _, _ :: _, h => by rcases h with h | h <;> cases h
theorem llex_0 : ∀ {a b : List Int}, llex a b = 0 ↔ a = b
  | [], [] => ⟨fun _ => rfl, fun _ => rfl⟩
  | [], y :: b => by
    rw [llex_len (Or.inl rfl), List.length_nil, List.length_cons]
    exact ⟨fun q => by omega, fun q => by cases q⟩
  | x :: a, [] => by
    rw [llex_len (Or.inr rfl), List.length_nil, List.length_cons]
    exact ⟨fun q => by omega, fun q => by cases q⟩
  | x :: a, y :: b => by
    show (if x = y then llex a b else if x < y then -1 else 1) = 0 ↔ _
    by_cases q : x = y
    · rw [if_pos q, llex_0, q]
      exact ⟨fun w => by rw [w], fun w => (List.cons.inj w).2⟩
    · rw [if_neg q]
      refine ⟨fun w => ?_, fun w => absurd (List.cons.inj w).1 q⟩
      split at w <;> omega
theorem llex_s : ∀ {a b : List Int}, llex a b < 0 ↔ 0 < llex b a
  | [], b => by rw [llex_len (Or.inl rfl), llex_len (Or.inr rfl)]; omega
  | x :: a, [] => by rw [llex_len (Or.inr rfl), llex_len (Or.inl rfl)]; omega
  | x :: a, y :: b => by
    show (if x = y then llex a b else if x < y then -1 else 1) < 0 ↔ 0 < (if y = x then llex b a else if y < x then -1 else 1)
    by_cases q : x = y
    · rw [if_pos q, if_pos q.symm]; exact llex_s
    · have q' : ¬ y = x := fun w => q w.symm
      rw [if_neg q, if_neg q']
      split <;> split <;> omega
theorem llex_t : ∀ {a b c : List Int}, llex a b < 0 → llex b c < 0 → llex a c < 0
  | [], b, c, h1, h2 => by
    rw [llex_len (Or.inl rfl), List.length_nil] at *
    cases c with
    | nil => rw [llex_len (Or.inr rfl), List.length_nil] at h2; omega
    | cons z c => rw [List.length_cons]; omega
  | x :: a, [], c, h1, h2 => by
    rw [llex_len (Or.inr rfl), List.length_nil, List.length_cons] at h1; omega
  | x :: a, y :: b, [], h1, h2 => by
    rw [llex_len (Or.inr rfl), List.length_nil, List.length_cons] at h2; omega
  | x :: a, y :: b, z :: c, h1, h2 => by
    have h1 : (if x = y then llex a b else if x < y then (-1 : Int) else 1) < 0 := h1
    have h2 : (if y = z then llex b c else if y < z then (-1 : Int) else 1) < 0 := h2
    show (if x = z then llex a c else if x < z then (-1 : Int) else 1) < 0
    by_cases q : x = y
    · rw [if_pos q] at h1
      by_cases q' : y = z
      · rw [if_pos q'] at h2
        rw [if_pos (q.trans q')]; exact llex_t h1 h2
      · rw [if_neg q'] at h2
        rw [if_neg (by omega)]
        split at h2
        · rw [if_pos (by omega)]; omega
        · omega
    · rw [if_neg q] at h1
      by_cases q' : y = z
      · rw [if_neg (by omega)]
        split at h1
        · rw [if_pos (by omega)]; omega
        · omega
      · rw [if_neg q'] at h2
        split at h1
        · split at h2
          · rw [if_neg (by omega), if_pos (by omega)]; omega
          · omega
        · omega
theorem lcmp_0 : lcmp a b = 0 ↔ a = b := by
  unfold lcmp
  by_cases q : lnum a ↔ lnum b
  · rw [if_pos q]
    by_cases w : lnum a ∧ a.length ≠ b.length
    · rw [if_pos w]
      exact ⟨fun z => absurd (by omega) w.2, fun z => absurd (by rw [z]) w.2⟩
    · rw [if_neg w]; exact llex_0
  · rw [if_neg q]
    refine ⟨fun z => ?_, fun z => absurd (by rw [z]) q⟩
    split at z <;> omega
theorem lcmp_s : lcmp a b < 0 ↔ 0 < lcmp b a := by
  unfold lcmp
  by_cases A : lnum a <;> by_cases D : lnum b
  · have e1 : lnum a ↔ lnum b := ⟨fun _ => D, fun _ => A⟩
    rw [if_pos e1, if_pos e1.symm]
    by_cases w : a.length = b.length
    · have w1 : ¬ (lnum a ∧ a.length ≠ b.length) := fun z => z.2 w
      have w2 : ¬ (lnum b ∧ b.length ≠ a.length) := fun z => z.2 w.symm
      rw [if_neg w1, if_neg w2]; exact llex_s
    · have w1 : lnum a ∧ a.length ≠ b.length := ⟨A, w⟩
      have w2 : lnum b ∧ b.length ≠ a.length := ⟨D, fun z => w z.symm⟩
      rw [if_pos w1, if_pos w2]; omega
  · have e1 : ¬ (lnum a ↔ lnum b) := fun z => D (z.mp A)
    have e2 : ¬ (lnum b ↔ lnum a) := fun z => e1 z.symm
    rw [if_neg e1, if_neg e2, if_pos A, if_neg D]; omega
  · have e1 : ¬ (lnum a ↔ lnum b) := fun z => A (z.mpr D)
    have e2 : ¬ (lnum b ↔ lnum a) := fun z => e1 z.symm
    rw [if_neg e1, if_neg e2, if_neg A, if_pos D]; omega
  · have e1 : lnum a ↔ lnum b := ⟨fun z => absurd z A, fun z => absurd z D⟩
    have w1 : ¬ (lnum a ∧ a.length ≠ b.length) := fun z => A z.1
    have w2 : ¬ (lnum b ∧ b.length ≠ a.length) := fun z => D z.1
    rw [if_pos e1, if_pos e1.symm, if_neg w1, if_neg w2]; exact llex_s
/-- what comes first: numbers, by length, then by signs -/
theorem lcmp_lt : lcmp a b < 0 ↔ (lnum a ∧ ¬ lnum b) ∨ (lnum a ∧ lnum b ∧ (a.length < b.length ∨ (a.length = b.length ∧ llex a b < 0))) ∨ (¬ lnum a ∧ ¬ lnum b ∧ llex a b < 0) := by
  unfold lcmp
  by_cases A : lnum a <;> by_cases D : lnum b
  · have e1 : lnum a ↔ lnum b := ⟨fun _ => D, fun _ => A⟩
    rw [if_pos e1]
    by_cases w : a.length = b.length
    · have w1 : ¬ (lnum a ∧ a.length ≠ b.length) := fun z => z.2 w
      rw [if_neg w1]
      exact ⟨fun z => Or.inr (Or.inl ⟨A, D, Or.inr ⟨w, z⟩⟩), fun z => by
        rcases z with z | ⟨_, _, z | z⟩ | z
        · exact absurd D z.2
        · omega
        · exact z.2
        · exact absurd A z.1⟩
    · have w1 : lnum a ∧ a.length ≠ b.length := ⟨A, w⟩
      rw [if_pos w1]
      exact ⟨fun z => Or.inr (Or.inl ⟨A, D, Or.inl (by omega)⟩), fun z => by
        rcases z with z | ⟨_, _, z | z⟩ | z
        · exact absurd D z.2
        · omega
        · omega
        · exact absurd A z.1⟩
  · have e1 : ¬ (lnum a ↔ lnum b) := fun z => D (z.mp A)
    rw [if_neg e1, if_pos A]
    exact ⟨fun _ => Or.inl ⟨A, D⟩, fun _ => by omega⟩
  · have e1 : ¬ (lnum a ↔ lnum b) := fun z => A (z.mpr D)
    rw [if_neg e1, if_neg A]
    exact ⟨fun z => by omega, fun z => by
      rcases z with z | z | z
      · exact absurd z.1 A
      · exact absurd z.1 A
      · exact absurd D z.2.1⟩
  · have e1 : lnum a ↔ lnum b := ⟨fun z => absurd z A, fun z => absurd z D⟩
    have w1 : ¬ (lnum a ∧ a.length ≠ b.length) := fun z => A z.1
    rw [if_pos e1, if_neg w1]
    exact ⟨fun z => Or.inr (Or.inr ⟨A, D, z⟩), fun z => by
      rcases z with z | z | z
      · exact absurd z.1 A
      · exact absurd z.1 A
      · exact z.2.2⟩
theorem lcmp_t (h1 : lcmp a b < 0) (h2 : lcmp b c < 0) : lcmp a c < 0 := by
  rw [lcmp_lt] at *
  rcases h1 with h1 | ⟨p1, p2, h1⟩ | ⟨p1, p2, h1⟩
  · rcases h2 with h2 | ⟨q1, q2, h2⟩ | ⟨q1, q2, h2⟩
    · exact absurd h2.1 h1.2
    · exact absurd q1 h1.2
    · exact Or.inl ⟨h1.1, q2⟩
  · rcases h2 with h2 | ⟨q1, q2, h2⟩ | ⟨q1, q2, h2⟩
    · exact Or.inl ⟨p1, h2.2⟩
    · refine Or.inr (Or.inl ⟨p1, q2, ?_⟩)
      rcases h1 with h1 | h1 <;> rcases h2 with h2 | h2
      · exact Or.inl (by omega)
      · exact Or.inl (by omega)
      · exact Or.inl (by omega)
      · exact Or.inr ⟨by omega, llex_t h1.2 h2.2⟩
    · exact absurd p2 q1
  · rcases h2 with h2 | ⟨q1, q2, h2⟩ | ⟨q1, q2, h2⟩
    · exact absurd h2.1 p2
    · exact absurd q1 p2
    · exact Or.inr (Or.inr ⟨p1, q2, llex_t h1 h2⟩)
theorem lcmp_irr : ¬ lcmp a a < 0 := by
  have := (lcmp_0 (a := a) (b := a)).mpr rfl
  omega
theorem lcmp_tri (h : a ≠ b) : lcmp a b < 0 ∨ lcmp b a < 0 := by
  have h1 : lcmp a b ≠ 0 := fun q => h (lcmp_0.mp q)
  have h2 := lcmp_s (a := b) (b := a)
  omega
/-- rows of labels in order -/
def lsrt (f : Nat → List Int) (k : Nat) : Prop := ∀ i j, i < j → j < k → lcmp (f i) (f j) < 0
theorem lsrt_inj {f : Nat → List Int} (h : lsrt f k) (hi : i < k) (hj : j < k) (e : f i = f j) : i = j := by
  rcases Nat.lt_trichotomy i j with q | q | q
  · have := h i j q hj; rw [e] at this; exact absurd this lcmp_irr
  · exact q
  · have := h j i q hi; rw [e] at this; exact absurd this lcmp_irr
/-- alike up to k, then not: one has what the other one lacks -/
theorem lsrt_diff {f g : Nat → List Int} (h1 : lsrt f n) (h2 : lsrt g m) (hk : k < n ∧ k < m) (e : ∀ i, i < k → f i = g i) (hne : f k ≠ g k) : (∃ i, i < n ∧ ∀ j, j < m → g j ≠ f i) ∨ ∃ i, i < m ∧ ∀ j, j < n → f j ≠ g i := by
  have key : ∀ {f g : Nat → List Int} {n m : Nat}, lsrt f n → lsrt g m → k < n → k < m → (∀ i, i < k → f i = g i) → lcmp (f k) (g k) < 0 → ∃ i, i < n ∧ ∀ j, j < m → g j ≠ f i := by
    intro f g n m h1 h2 k1 k2 e hl
    refine ⟨k, k1, fun j hj q => ?_⟩
    rcases Nat.lt_trichotomy j k with w | w | w
    · have := h1 j k w k1
      rw [e j w, q] at this
      exact lcmp_irr this
    · rw [w] at q
      rw [q] at hl; exact lcmp_irr hl
    · have := h2 k j w hj
      rw [q] at this
      have := lcmp_t hl this
      exact lcmp_irr this
  rcases lcmp_tri hne with w | w
  · exact Or.inl (key h1 h2 hk.1 hk.2 e w)
  · exact Or.inr (key h2 h1 hk.2 hk.1 (fun i hi => (e i hi).symm) w)
/-- of two rows the longer one has what the other one lacks -/
theorem lsrt_len {f g : Nat → List Int} (h1 : lsrt f n) (h2 : lsrt g m) (hl : n ≠ m) : (∃ i, i < n ∧ ∀ j, j < m → g j ≠ f i) ∨ ∃ i, i < m ∧ ∀ j, j < n → f j ≠ g i := by
  by_cases e : ∃ k, (k < n ∧ k < m) ∧ f k ≠ g k
  · -- the first one
    obtain ⟨k0, hk0⟩ := e
    have : ∀ k, (∃ k', k' < k ∧ (k' < n ∧ k' < m) ∧ f k' ≠ g k') → ∃ k', ((k' < n ∧ k' < m) ∧ f k' ≠ g k') ∧ ∀ i, i < k' → f i = g i := by
      intro k
      induction k with
      | zero => rintro ⟨k', q, _⟩; omega
      | succ k ih =>
        rintro ⟨k', q, q2⟩
        by_cases w : ∃ k', k' < k ∧ (k' < n ∧ k' < m) ∧ f k' ≠ g k'
        · exact ih w
        · have : k' = k := by
            apply Classical.byContradiction
            intro z
            exact w ⟨k', by omega, q2⟩
          subst this
          refine ⟨k', q2, fun i hi => ?_⟩
          apply Classical.byContradiction
          intro z
          exact w ⟨i, hi, ⟨by omega, by omega⟩, z⟩
    obtain ⟨k', q1, q2⟩ := this (k0 + 1) ⟨k0, by omega, hk0⟩
    exact lsrt_diff h1 h2 q1.1 q2 q1.2
  · have e2 : ∀ k, k < n → k < m → f k = g k := fun k a b => Classical.byContradiction fun z => e ⟨k, ⟨a, b⟩, z⟩
    rcases Nat.lt_or_ge n m with q | q
    · refine Or.inr ⟨n, q, fun j hj w => ?_⟩
      rw [e2 j hj (by omega)] at w
      have := lsrt_inj h2 (show j < m by omega) q w
      omega
    · refine Or.inl ⟨m, by omega, fun j hj w => ?_⟩
      rw [← e2 j (by omega) hj] at w
      have := lsrt_inj h1 (show j < n by omega) (show m < n by omega) w
      omega
end HLab
