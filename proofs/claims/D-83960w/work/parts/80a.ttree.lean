set_option maxRecDepth 100000
/-! TYPES AS TREES. A graph of types: each place has its root; a root must admit equality or not, and is unknown (0; 1 ordered; k + 2 a variable of a text, number k) or has a label (3c of a constructor, 2 of a row, 5 of an arrow), may be a row that is open, and has parts by keys. What it stands for: all valuations by trees (a label at each path) that keep it. -/
abbrev Ky : Type := List Int
abbrev Ttr : Type := List Ky → Option Nat
abbrev TN : Type := Bool × (Nat ⊕ (Nat × Bool × List (Ky × Nat)))
abbrev TG : Type := (Nat → Nat) × (Nat → TN)
def tsub (T : Ttr) (l : Ky) : Ttr := fun p => T (l :: p)
def tsubs (T : Ttr) (p : List Ky) : Ttr := fun q => T (p ++ q)
def tOrd (T : Ttr) : Prop := (T [] = some 0 ∨ T [] = some 3 ∨ T [] = some 6) ∧ ∀ l p, T (l :: p) = none
/-- labels that admit equality: int, char and string always -/
def admq (adm : Nat → Bool) (k : Nat) : Prop := adm k = true ∨ k = 0 ∨ k = 3 ∨ k = 6
/-- admits equality: every label that is not behind a ref (3 * 6) does -/
def tEqp (adm : Nat → Bool) : List Ky → Ttr → Prop
  | [], T => ∀ k, T [] = some k → admq adm k
  | l :: p, T => T [] = some 18 ∨ tEqp adm p (tsub T l)
def tEq (adm : Nat → Bool) (T : Ttr) : Prop := ∀ p, tEqp adm p T
theorem tEq_iff {adm : Nat → Bool} {T : Ttr} : tEq adm T ↔ (∀ k, T [] = some k → admq adm k) ∧ (T [] ≠ some 18 → ∀ l, tEq adm (tsub T l)) := by
  constructor
  · intro h
    refine ⟨h [], fun hn l p => ?_⟩
    rcases h (l :: p) with z | z
    · exact absurd z hn
    · exact z
  · rintro ⟨h1, h2⟩ p
    cases p with
    | nil => exact h1
    | cons l p =>
      by_cases hn : T [] = some 18
      · exact Or.inl hn
      · exact Or.inr (h2 hn l p)
theorem tEq_t {T : Ttr} : tEq (fun _ => true) T := by
  intro p
  induction p generalizing T with
  | nil => exact fun _ _ => Or.inl rfl
  | cons l p ih => exact Or.inr ih
def tsat (adm : Nat → Bool) (v : Nat → Ttr) (x : Nat) (N : TN) : Prop := (N.1 = true → tEq adm (v x)) ∧ match N.2 with
  | .inl o => v x [] ≠ none ∧ (o = 1 → tOrd (v x))
  | .inr (lab, loose, kids) => v x [] = some lab ∧ (∀ l c, (l, c) ∈ kids → tsub (v x) l = v c) ∧ (loose = false → ∀ l p, (∀ c, (l, c) ∉ kids) → v x (l :: p) = none)
def tSol (adm : Nat → Bool) (G : TG) (n : Nat) (v : Nat → Ttr) : Prop := (∀ x, x < n → v x = v (G.1 x)) ∧ ∀ x, x < n → G.1 x = x → tsat adm v x (G.2 x)
/-- nothing but a label -/
def tleaf (k : Nat) : Ttr := fun p => match p with
  | [] => some k
  | _ :: _ => none
/-- variables of a text stand for themselves -/
def tGen (G : TG) (n : Nat) (v : Nat → Ttr) : Prop := ∀ x, x < n → G.1 x = x → ∀ e k, G.2 x = (e, .inl (k + 2)) → v x = tleaf (3 * k + 1)
/-- roots and parts lie among the places -/
def tWF (G : TG) (n : Nat) : Prop := (∀ x, x < n → G.1 x < n ∧ G.1 (G.1 x) = G.1 x) ∧ ∀ x, x < n → G.1 x = x → ∀ e lab loose kids, G.2 x = (e, .inr (lab, loose, kids)) → (kids.map Prod.fst).Nodup ∧ ∀ l c, (l, c) ∈ kids → c < n
/-- x becomes y, of which something is known -/
def tlink (G : TG) (x y : Nat) (N : TN) : TG := (fun z => if G.1 z = x then y else G.1 z, fun z => if z = y then N else G.2 z)
def tset (G : TG) (x : Nat) (N : TN) : TG := (G.1, fun z => if z = x then N else G.2 z)
section TreeS
variable {adm : Nat → Bool} {G : TG} {n x y : Nat} {v : Nat → Ttr} {N N' : TN}
theorem tsat_some (h : tsat adm v x N) : v x [] ≠ none := by
  obtain ⟨e, N⟩ := N
  obtain ⟨-, h⟩ := h
  rcases N with o | ⟨lab, loose, kids⟩
  · exact h.1
  · rw [h.1]; exact fun z => nomatch z
theorem tSol_some (hw : tWF G n) (h : tSol adm G n v) (hx : x < n) : v x [] ≠ none := by
  rw [h.1 x hx]
  exact tsat_some (h.2 _ (hw.1 x hx).1 (hw.1 x hx).2)
theorem tset_sol (hx : x < n) (hr : G.1 x = x) (h : ∀ v : Nat → Ttr, (tsat adm v x (G.2 x) ↔ tsat adm v x N)) : tSol adm (tset G x N) n v ↔ tSol adm G n v := by
  constructor
  · rintro ⟨h1, h2⟩
    refine ⟨h1, fun z hz hr' => ?_⟩
    have this : tsat adm v z (if z = x then N else G.2 z) := h2 z hz hr'
    by_cases e : z = x
    · rw [if_pos e, e] at this
      rw [e]
      exact (h v).mpr this
    · rwa [if_neg e] at this
  · rintro ⟨h1, h2⟩
    refine ⟨h1, fun z hz hr' => ?_⟩
    show tsat adm v z (if z = x then N else G.2 z)
    by_cases e : z = x
    · rw [if_pos e, e]
      exact (h v).mp (h2 x hx hr)
    · rw [if_neg e]
      exact h2 z hz hr'
theorem tlink_wf (hw : tWF G n) (hx : x < n) (hy : y < n) (rx : G.1 x = x) (ry : G.1 y = y) (hxy : x ≠ y) (hN : ∀ e lab loose kids, N = (e, .inr (lab, loose, kids)) → (kids.map Prod.fst).Nodup ∧ ∀ l c, (l, c) ∈ kids → c < n) : tWF (tlink G x y N) n := by
  refine ⟨fun z hz => ?_, fun z hz hr e lab loose kids hg => ?_⟩
  · show (if G.1 z = x then y else G.1 z) < n ∧ (if G.1 (if G.1 z = x then y else G.1 z) = x then y else G.1 (if G.1 z = x then y else G.1 z)) = if G.1 z = x then y else G.1 z
    by_cases q : G.1 z = x
    · rw [if_pos q, ry, if_neg (fun z => hxy z.symm)]
      exact ⟨hy, rfl⟩
    · rw [if_neg q, (hw.1 z hz).2, if_neg q]
      exact ⟨(hw.1 z hz).1, rfl⟩
  · have hg : (if z = y then N else G.2 z) = (e, .inr (lab, loose, kids)) := hg
    by_cases q : z = y
    · rw [if_pos q] at hg
      exact hN e lab loose kids hg
    · rw [if_neg q] at hg
      have hr : (if G.1 z = x then y else G.1 z) = z := hr
      by_cases q' : G.1 z = x
      · rw [if_pos q'] at hr
        exact absurd hr.symm q
      · rw [if_neg q'] at hr
        exact hw.2 z hz hr e lab loose kids hg
/-- a link, in general; R is still to be seen to -/
theorem tlink_sol {R : (Nat → Ttr) → Prop} (hx : x < n) (hy : y < n) (rx : G.1 x = x) (ry : G.1 y = y) (hxy : x ≠ y) (h : ∀ v : Nat → Ttr, v x = v y → ((tsat adm v x (G.2 x) ∧ tsat adm v y (G.2 y)) ↔ (tsat adm v y N ∧ R v))) : (tSol adm G n v ∧ v x = v y) ↔ (tSol adm (tlink G x y N) n v ∧ R v) := by
  constructor
  · rintro ⟨⟨h1, h2⟩, hv⟩
    have hN := (h v hv).mp ⟨h2 x hx rx, h2 y hy ry⟩
    refine ⟨⟨fun z hz => ?_, fun z hz hr => ?_⟩, hN.2⟩
    · show v z = v (if G.1 z = x then y else G.1 z)
      by_cases q : G.1 z = x
      · rw [if_pos q, h1 z hz, q, hv]
      · rw [if_neg q]; exact h1 z hz
    · have hr : (if G.1 z = x then y else G.1 z) = z := hr
      show tsat adm v z (if z = y then N else G.2 z)
      by_cases q : z = y
      · rw [if_pos q, q]; exact hN.1
      · rw [if_neg q]
        by_cases q' : G.1 z = x
        · rw [if_pos q'] at hr
          exact absurd hr.symm q
        · rw [if_neg q'] at hr
          exact h2 z hz hr
  · rintro ⟨⟨h1, h2⟩, hn⟩
    have hv : v x = v y := by
      have : v x = v (if G.1 x = x then y else G.1 x) := h1 x hx
      rwa [if_pos rx] at this
    have sy : tsat adm v y N := by
      have : tsat adm v y (if y = y then N else G.2 y) := h2 y hy (by show (if G.1 y = x then y else G.1 y) = y; rw [ry, if_neg (fun z => hxy z.symm)])
      rwa [if_pos rfl] at this
    obtain ⟨sx, sy'⟩ := (h v hv).mpr ⟨sy, hn⟩
    refine ⟨⟨fun z hz => ?_, fun z hz hr => ?_⟩, hv⟩
    · have e : v z = v (if G.1 z = x then y else G.1 z) := h1 z hz
      by_cases q : G.1 z = x
      · rw [if_pos q] at e
        rw [e, q, hv]
      · rw [if_neg q] at e; exact e
    · by_cases qx : z = x
      · rw [qx]; exact sx
      · by_cases qy : z = y
        · rw [qy]; exact sy'
        · have e : tsat adm v z (if z = y then N else G.2 z) := h2 z hz (by show (if G.1 z = x then y else G.1 z) = z; rw [hr, if_neg qx])
          rwa [if_neg qy] at e
theorem tsat_e {e : Bool} {r : Nat ⊕ (Nat × Bool × List (Ky × Nat))} : tsat adm v y (e, r) ↔ (e = true → tEq adm (v y)) ∧ tsat adm v y (false, r) := by
  unfold tsat
  constructor
  · rintro ⟨h1, h2⟩
    exact ⟨h1, (fun z => by cases z), h2⟩
  · rintro ⟨h1, _, h2⟩
    exact ⟨h1, h2⟩
theorem tsat_v (hv : v x = v y) : tsat adm v x N ↔ tsat adm v y N := by
  unfold tsat
  rw [hv]
/-- with both demands of equality -/
theorem tsat_or {e1 e2 : Bool} {P Q R : Prop} (h : P ∧ Q ↔ R) : ((e1 = true → tEq adm (v y)) ∧ P) ∧ ((e2 = true → tEq adm (v y)) ∧ Q) ↔ ((e1 || e2) = true → tEq adm (v y)) ∧ R := by
  rw [← h]
  constructor
  · rintro ⟨⟨a, b⟩, c, d⟩
    exact ⟨fun z => (by rw [Bool.or_eq_true] at z; exact z.elim a c), b, d⟩
  · rintro ⟨a, b, d⟩
    exact ⟨⟨fun z => a (by rw [z]; rfl), b⟩, fun z => a (by rw [z, Bool.or_true]), d⟩
section Link
variable {e1 e2 loose l1 l2 : Bool} {o1 o2 o3 lab lab2 : Nat} {kids k1 k2 k : List (Ky × Nat)}
/-- an unknown one becomes one that has a label -/
theorem tS_tell (hx : x < n) (hy : y < n) (rx : G.1 x = x) (ry : G.1 y = y) (hxy : x ≠ y) (gx : G.2 x = (e1, .inl o1)) (gy : G.2 y = (e2, .inr (lab, loose, kids))) (ho : o1 = 1 → (lab = 0 ∨ lab = 3 ∨ lab = 6) ∧ loose = false ∧ kids = []) : (tSol adm G n v ∧ v x = v y) ↔ tSol adm (tlink G x y (e1 || e2, .inr (lab, loose, kids))) n v := by
  rw [tlink_sol (R := fun _ => True) (N := (e1 || e2, .inr (lab, loose, kids))) hx hy rx ry hxy, and_true]
  intro v hv
  rw [gx, gy, tsat_v hv, tsat_e, @tsat_e _ _ _ e2, @tsat_e _ _ _ (e1 || e2), and_true]
  refine tsat_or ?_
  constructor
  · exact fun h => h.2
  · intro h
    refine ⟨⟨(fun z => by cases z), ?_⟩, h⟩
    obtain ⟨-, q1, q2, q3⟩ := h
    refine ⟨(by rw [q1]; exact (fun z => nomatch z)), fun z => ?_⟩
    obtain ⟨r1, r2, r3⟩ := ho z
    refine ⟨?_, fun l p => q3 r2 l p (by rw [r3]; exact fun c hc => nomatch hc)⟩
    rw [q1]
    rcases r1 with r | r | r <;> rw [r] <;> simp
/-- two unknown ones -/
theorem tS_both (hx : x < n) (hy : y < n) (rx : G.1 x = x) (ry : G.1 y = y) (hxy : x ≠ y) (gx : G.2 x = (e1, .inl o1)) (gy : G.2 y = (e2, .inl o2)) (ho : o3 = 1 ↔ o1 = 1 ∨ o2 = 1) : (tSol adm G n v ∧ v x = v y) ↔ tSol adm (tlink G x y (e1 || e2, .inl o3)) n v := by
  rw [tlink_sol (R := fun _ => True) (N := (e1 || e2, .inl o3)) hx hy rx ry hxy, and_true]
  intro v hv
  rw [gx, gy, tsat_v hv, tsat_e, @tsat_e _ _ _ e2, @tsat_e _ _ _ (e1 || e2), and_true]
  refine tsat_or ?_
  constructor
  · rintro ⟨⟨a, b, c⟩, -, -, d⟩
    exact ⟨a, b, fun z => (ho.mp z).elim c d⟩
  · rintro ⟨a, b, c⟩
    exact ⟨⟨a, b, fun z => c (ho.mpr (Or.inl z))⟩, a, b, fun z => c (ho.mpr (Or.inr z))⟩
/-- two with one label and the same keys, both closed -/
theorem tS_same (hx : x < n) (hy : y < n) (rx : G.1 x = x) (ry : G.1 y = y) (hxy : x ≠ y) (gx : G.2 x = (e1, .inr (lab, false, k1))) (gy : G.2 y = (e2, .inr (lab, false, k2))) (hk : k1.map Prod.fst = k2.map Prod.fst) : (tSol adm G n v ∧ v x = v y) ↔ (tSol adm (tlink G x y (e1 || e2, .inr (lab, false, k2))) n v ∧ ∀ l c1 c2, (l, c1) ∈ k1 → (l, c2) ∈ k2 → v c1 = v c2) := by
  have hin : ∀ l, (∃ c, (l, c) ∈ k1) ↔ (∃ c, (l, c) ∈ k2) := by
    intro l
    have e1 : (∃ c, (l, c) ∈ k1) ↔ l ∈ k1.map Prod.fst := by simp
    have e2 : (∃ c, (l, c) ∈ k2) ↔ l ∈ k2.map Prod.fst := by simp
    rw [e1, e2, hk]
  rw [tlink_sol (R := fun v => ∀ l c1 c2, (l, c1) ∈ k1 → (l, c2) ∈ k2 → v c1 = v c2) (N := (e1 || e2, .inr (lab, false, k2))) hx hy rx ry hxy]
  intro v hv
  rw [gx, gy, tsat_v hv, tsat_e, @tsat_e _ _ _ e2, @tsat_e _ _ _ (e1 || e2), and_assoc (c := ∀ l c1 c2, _ → _ → _)]
  refine tsat_or ?_
  constructor
  · rintro ⟨⟨-, a1, a2, a3⟩, -, b1, b2, b3⟩
    exact ⟨⟨(fun z => by cases z), b1, b2, b3⟩, fun l c1 c2 m1 m2 => by rw [← a2 l c1 m1, ← b2 l c2 m2]⟩
  · rintro ⟨⟨-, b1, b2, b3⟩, he⟩
    refine ⟨⟨(fun z => by cases z), b1, fun l c m => ?_, fun _ l p m => b3 rfl l p (fun c mc => ?_)⟩, (fun z => by cases z), b1, b2, b3⟩
    · obtain ⟨c2, m2⟩ := (hin l).mp ⟨c, m⟩
      rw [b2 l c2 m2, he l c c2 m m2]
    · obtain ⟨c1, m1⟩ := (hin l).mpr ⟨c, mc⟩
      exact m c1 m1
/-- rows of which one at least is open: the second becomes what both have -/
theorem tS_rows (hx : x < n) (hy : y < n) (rx : G.1 x = x) (ry : G.1 y = y) (hxy : x ≠ y) (gx : G.2 x = (e1, .inr (lab, l1, k1))) (gy : G.2 y = (e2, .inr (lab, l2, k2))) (hk : ∀ l, (∃ c, (l, c) ∈ k) ↔ (∃ c, (l, c) ∈ k1) ∨ (∃ c, (l, c) ∈ k2)) (hk2 : ∀ l c, (l, c) ∈ k → (l, c) ∈ k1 ∨ (l, c) ∈ k2) (h1 : l1 = false → ∀ l, (∃ c, (l, c) ∈ k2) → ∃ c, (l, c) ∈ k1) (h2 : l2 = false → ∀ l, (∃ c, (l, c) ∈ k1) → ∃ c, (l, c) ∈ k2) : (tSol adm G n v ∧ v x = v y) ↔ (tSol adm (tlink G x y (e1 || e2, .inr (lab, l1 && l2, k))) n v ∧ ∀ l c1 c, (l, c1) ∈ k1 ∨ (l, c1) ∈ k2 → (l, c) ∈ k → v c1 = v c) := by
  rw [tlink_sol (R := fun v => ∀ l c1 c, (l, c1) ∈ k1 ∨ (l, c1) ∈ k2 → (l, c) ∈ k → v c1 = v c) (N := (e1 || e2, .inr (lab, l1 && l2, k))) hx hy rx ry hxy]
  intro v hv
  rw [gx, gy, tsat_v hv, tsat_e, @tsat_e _ _ _ e2, @tsat_e _ _ _ (e1 || e2), and_assoc (c := ∀ l c1 c, _ → _ → _)]
  refine tsat_or ?_
  constructor
  · rintro ⟨⟨-, a1, a2, a3⟩, -, b1, b2, b3⟩
    have hsub : ∀ l c, (l, c) ∈ k1 ∨ (l, c) ∈ k2 → tsub (v y) l = v c := by
      rintro l c (m | m)
      · exact a2 l c m
      · exact b2 l c m
    refine ⟨⟨(fun z => by cases z), b1, fun l c m => hsub l c (hk2 l c m), fun q l p m => ?_⟩, fun l c1 c m1 m => by rw [← hsub l c1 m1, ← hsub l c (hk2 l c m)]⟩
    have n1 : ∀ c, (l, c) ∉ k1 := fun c mc => by
      obtain ⟨c2, m2⟩ := (hk l).mpr (Or.inl ⟨c, mc⟩)
      exact m c2 m2
    have n2 : ∀ c, (l, c) ∉ k2 := fun c mc => by
      obtain ⟨c2, m2⟩ := (hk l).mpr (Or.inr ⟨c, mc⟩)
      exact m c2 m2
    cases l1 with
    | false => exact a3 rfl l p n1
    | true => exact b3 q l p n2
  · rintro ⟨⟨-, q1, q2, q3⟩, he⟩
    have hsub : ∀ l c, (l, c) ∈ k1 ∨ (l, c) ∈ k2 → tsub (v y) l = v c := by
      intro l c m
      obtain ⟨c0, m0⟩ := (hk l).mpr (m.imp (fun z => ⟨c, z⟩) (fun z => ⟨c, z⟩))
      rw [q2 l c0 m0, he l c c0 m m0]
    have hno : ∀ l p, (l1 = false ∧ ∀ c, (l, c) ∉ k1) ∨ (l2 = false ∧ ∀ c, (l, c) ∉ k2) → v y (l :: p) = none := by
      intro l p m
      have nk1 : ∀ c, (l, c) ∉ k1 := by
        rcases m with ⟨_, m⟩ | ⟨z, m⟩
        · exact m
        · exact fun c mc => by
            obtain ⟨c2, m2⟩ := h2 z l ⟨c, mc⟩
            exact m c2 m2
      have nk2 : ∀ c, (l, c) ∉ k2 := by
        rcases m with ⟨z, m⟩ | ⟨_, m⟩
        · exact fun c mc => by
            obtain ⟨c2, m2⟩ := h1 z l ⟨c, mc⟩
            exact m c2 m2
        · exact m
      refine q3 ?_ l p (fun c mc => ?_)
      · rcases m with ⟨z, _⟩ | ⟨z, _⟩ <;> rw [z]
        · rfl
        · exact Bool.and_false _
      · rcases hk2 l c mc with z | z
        · exact nk1 c z
        · exact nk2 c z
    exact ⟨⟨(fun z => by cases z), q1, fun l c m => hsub l c (Or.inl m), fun o l p m => hno l p (Or.inl ⟨o, m⟩)⟩, (fun z => by cases z), q1, fun l c m => hsub l c (Or.inr m), fun o l p m => hno l p (Or.inr ⟨o, m⟩)⟩
end Link
/-! what can't be joined -/
section Clash
variable {e1 e2 loose l1 l2 : Bool} {o1 o2 o3 lab lab2 : Nat} {kids k1 k2 k : List (Ky × Nat)}
theorem tS_clash (hx : x < n) (hy : y < n) (rx : G.1 x = x) (ry : G.1 y = y) (gx : G.2 x = (e1, .inr (lab, l1, k1))) (gy : G.2 y = (e2, .inr (lab2, l2, k2))) (hl : lab ≠ lab2) : ¬ (tSol adm G n v ∧ v x = v y) := by
  rintro ⟨h, hv⟩
  have hx1 := (h.2 x hx rx).2
  have hy1 := (h.2 y hy ry).2
  rw [gx] at hx1
  rw [gy] at hy1
  have := hx1.1
  rw [hv, hy1.1] at this
  exact hl (by cases this; rfl)
theorem tS_lack (hx : x < n) (hy : y < n) (rx : G.1 x = x) (ry : G.1 y = y) (gx : G.2 x = (e1, .inr (lab, l1, k1))) (gy : G.2 y = (e2, .inr (lab2, false, k2))) {l : Ky} {c : Nat} (m : (l, c) ∈ k1) (hw : tWF G n) (hm : ∀ c, (l, c) ∉ k2) : ¬ (tSol adm G n v ∧ v x = v y) := by
  rintro ⟨h, hv⟩
  have hx1 := (h.2 x hx rx).2
  have hy1 := (h.2 y hy ry).2
  rw [gx] at hx1
  rw [gy] at hy1
  have hc := tSol_some hw h ((hw.2 x hx rx e1 lab l1 k1 gx).2 l c m)
  apply hc
  rw [← hx1.2.1 l c m]
  show v x [l] = none
  rw [hv]
  exact hy1.2.2 rfl l [] hm
/-- variables of a text stand for themselves -/
theorem tS_rig (hx : x < n) (hy : y < n) (rx : G.1 x = x) (ry : G.1 y = y) {k : Nat} (gx : G.2 x = (e1, .inl (k + 2))) (gy : G.2 y = (e2, .inr (lab, loose, kids))) (hl : lab % 3 ≠ 1) : ¬ (tSol adm G n v ∧ tGen G n v ∧ v x = v y) := by
  rintro ⟨h, hg, hv⟩
  have hy1 := (h.2 y hy ry).2
  rw [gy] at hy1
  have h1 := hg x hx rx _ _ gx
  have h2 := hy1.1
  rw [← hv, h1] at h2
  have : 3 * k + 1 = lab := by cases h2; rfl
  omega
theorem tS_rig2 (hx : x < n) (hy : y < n) (rx : G.1 x = x) (ry : G.1 y = y) {k k' : Nat} (gx : G.2 x = (e1, .inl (k + 2))) (gy : G.2 y = (e2, .inl (k' + 2))) (hk : k ≠ k') : ¬ (tGen G n v ∧ v x = v y) := by
  rintro ⟨hg, hv⟩
  have h1 := hg x hx rx _ _ gx
  have h2 := hg y hy ry _ _ gy
  rw [hv, h2] at h1
  have := congrFun h1 []
  have : 3 * k' + 1 = 3 * k + 1 := Option.some.inj this
  omega
theorem tS_rig1 (hx : x < n) (hy : y < n) (rx : G.1 x = x) (ry : G.1 y = y) {k : Nat} (gx : G.2 x = (e1, .inl (k + 2))) (gy : G.2 y = (e2, .inl 1)) : ¬ (tSol adm G n v ∧ tGen G n v ∧ v x = v y) := by
  rintro ⟨h, hg, hv⟩
  have hy1 := (h.2 y hy ry).2
  rw [gy] at hy1
  have h1 := hg x hx rx _ _ gx
  have h2 := (hy1.2 rfl).1
  rw [← hv, h1] at h2
  have h3 : some (3 * k + 1) = some 0 ∨ some (3 * k + 1) = some 3 ∨ some (3 * k + 1) = some 6 := h2
  rcases h3 with z | z | z
  · have : 3 * k + 1 = 0 := by cases z
    omega
  · have : 3 * k + 1 = 3 := Option.some.inj z
    omega
  · have : 3 * k + 1 = 6 := Option.some.inj z
    omega
theorem tS_ord (hx : x < n) (hy : y < n) (rx : G.1 x = x) (ry : G.1 y = y) (gx : G.2 x = (e1, .inl 1)) (gy : G.2 y = (e2, .inr (lab, loose, kids))) (hl : ¬ (lab = 0 ∨ lab = 3 ∨ lab = 6)) : ¬ (tSol adm G n v ∧ v x = v y) := by
  rintro ⟨h, hv⟩
  have hx1 := (h.2 x hx rx).2
  have hy1 := (h.2 y hy ry).2
  rw [gx] at hx1
  rw [gy] at hy1
  have := (hx1.2 rfl).1
  rw [hv, hy1.1] at this
  apply hl
  rcases this with z | z | z <;> cases z <;> simp
end Clash
/-! a demand of equality goes down -/
theorem tS_down {e loose : Bool} {lab : Nat} {kids : List (Ky × Nat)} {l : Ky} {c : Nat} {N0 : Nat ⊕ (Nat × Bool × List (Ky × Nat))} {ec : Bool} (hw : tWF G n) (hx : x < n) (rx : G.1 x = x) (gx : G.2 x = (true, .inr (lab, loose, kids))) (m : (l, c) ∈ kids) (hl : lab ≠ 18) (gc : G.2 (G.1 c) = (ec, N0)) : tSol adm (tset G (G.1 c) (true, N0)) n v ↔ tSol adm G n v := by
  have hc := (hw.2 x hx rx _ _ _ _ gx).2 l c m
  have hr := hw.1 c hc
  constructor
  · rintro ⟨h1, h2⟩
    refine ⟨h1, fun z hz hr' => ?_⟩
    have := h2 z hz hr'
    unfold tset at this
    dsimp only at this
    by_cases q : z = G.1 c
    · subst q
      rw [if_pos rfl] at this
      rw [gc, tsat_e]
      rw [tsat_e] at this
      exact ⟨fun _ => this.1 rfl, this.2⟩
    · rwa [if_neg q] at this
  · rintro ⟨h1, h2⟩
    refine ⟨h1, fun z hz hr' => ?_⟩
    show tsat adm v z (if z = G.1 c then _ else _)
    by_cases q : z = G.1 c
    · subst q
      rw [if_pos rfl, tsat_e]
      have sc := h2 _ hr.1 hr.2
      rw [gc, tsat_e] at sc
      refine ⟨fun _ => ?_, sc.2⟩
      have sx := h2 x hx rx
      rw [gx] at sx
      have he := tEq_iff.mp (sx.1 rfl)
      rw [← h1 c hc, ← sx.2.2.1 l c m]
      exact he.2 (by rw [sx.2.1]; exact fun z => hl (by cases z; rfl)) l
    · rw [if_neg q]
      exact h2 z hz hr'
theorem tS_not {loose : Bool} {lab : Nat} {kids : List (Ky × Nat)} (hx : x < n) (rx : G.1 x = x) (gx : G.2 x = (true, .inr (lab, loose, kids))) (ha : ¬ admq adm lab) : ¬ tSol adm G n v := by
  intro h
  have sx := h.2 x hx rx
  rw [gx] at sx
  exact ha ((tEq_iff.mp (sx.1 rfl)).1 lab sx.2.1)
end TreeS
