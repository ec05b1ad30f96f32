set_option maxRecDepth 100000
/-! THE REFERENCE'S TREES: nodes in rows, as they stand for trees -/
/-- what is seen: nodes' fields (what, where, name, one, two, three, next); strings; names -/
abbrev ZO : Type := (Nat → Int → Int) × (Int → List Int → Prop) × (Int → List Int → Prop)
abbrev ZT : Type := Gt × (Int → Int → Int → Prop)
abbrev gnd (τ : Gt) : Prop := gk τ ≠ 0 ∧ gk τ ≠ 63
def zch (o : ZO) (c : ZT) (lo hi x : Int) : Prop := gnd c.1 ∧ c.2 lo hi x ∧ (gk c.1 = 6 → o.1 5 x = -1)
/-- a row of them from x on; its last one -/
def zrl (o : ZO) : List ZT → Int → Int → Int → Prop
  | [], lo, hi, x => x = -1 ∧ lo ≤ hi
  | c :: s, lo, hi, x => lo ≤ x ∧ x < hi ∧ zch o c lo (x + 1) x ∧ zrl o s (x + 1) hi (o.1 6 x)
def zla (o : ZO) : List ZT → Int → Int → Prop
  | [], _, y => y = -1
  | _ :: s, x, y => match s with
    | [] => y = x
    | _ :: _ => zla o s (o.1 6 x) y
def zlbl (o : ZO) (i : Int) (b : List Int) : Prop := o.2.2 i b ∨ ∃ n : Nat, 1 ≤ n ∧ n ≤ 9 ∧ i = -1 - n ∧ b = [48 + (n : Int)]
/-- numbers, names, labels, strings: kind, which; for the field's value -/
def zfv (o : ZO) (v : Int) (p : List (List Int)) (s : List Gt) : Nat × Nat → Prop
  | (0, i) => v = hq p i
  | (1, i) => o.2.2 v (p.getD i [])
  | (2, i) => zlbl o v (p.getD i [])
  | (3, _) => o.2.1 v (p.getD 1 [])
  | (4, i) => v = (i : Int) - 1
  | (5, _) => o.2.2 v (hnm (gp (s.getD 0 oN)))
  | (_, i) => v = -1 - hq p i
def zno : ZT := (oN, fun _ _ _ => False)
/-- parts, in the order they were made: field, one or a row under a list or the rest of all, which -/
def zpts (o : ZO) (a : Int) (s : List ZT) : List (Nat × Nat × Nat) → Int → Prop
  | [], lo => lo ≤ a
  | (j, 0, i) :: r, lo => lo ≤ o.1 j a ∧ o.1 j a < a ∧ zch o (s.getD i zno) lo (o.1 j a + 1) (o.1 j a) ∧ zpts o a s r (o.1 j a + 1)
  | (j, 1, i) :: r, lo => ∃ m, lo ≤ m ∧ m ≤ a ∧ (s.getD i zno).2 lo m (o.1 j a) ∧ zpts o a s r m
  | (j, _, i) :: r, lo => ∃ m, lo ≤ m ∧ m ≤ a ∧ zrl o (s.drop i) lo m (o.1 j a) ∧ zpts o a s r m
/-- functions with several arguments: from g on up to a -/
def zapf (o : ZO) (q : Int) : List ZT → Int → Int → Prop
  | [], g, a => g = a
  | x :: xs, g, a => ∃ y f, g < y ∧ y < f ∧ f ≤ a ∧ zch o x (g + 1) (y + 1) y ∧ o.1 0 f = 6 ∧ (xs ≠ [] → o.1 1 f = q) ∧ o.1 3 f = g ∧ o.1 4 f = y ∧ (o.1 0 g = 6 → o.1 5 g = f) ∧ zapf o q xs f a
/-- arrows -/
def zarr (o : ZO) : List ZT → Int → Int → Prop
  | [], _, _ => False
  | c :: s, lo, a => match s with
    | [] => lo ≤ a ∧ zch o c lo (a + 1) a
    | _ :: _ => lo ≤ o.1 3 a ∧ o.1 3 a < a ∧ o.1 0 a = 53 ∧ zch o c lo (o.1 3 a + 1) (o.1 3 a) ∧ o.1 3 a < o.1 4 a ∧ o.1 4 a < a ∧ zarr o s (o.1 3 a + 1) (o.1 4 a)
/-- numbered fields -/
def zrf (o : ZO) : List ZT → Int → Int → Int → Int → Prop
  | [], _, lo, hi, x => x = -1 ∧ lo ≤ hi
  | c :: s, k, lo, hi, x => lo ≤ o.1 3 x ∧ o.1 3 x < x ∧ x < hi ∧ o.1 0 x = 60 ∧ o.1 2 x = -1 - k ∧ zch o c lo (o.1 3 x + 1) (o.1 3 x) ∧ zrf o s (k + 1) (x + 1) hi (o.1 6 x)
/-- what, fields, parts -/
def ztab (k : Nat) (e : Bool) : Nat × List (Nat × Nat × Nat) × List (Nat × Nat × Nat) := match k with
  | 3 => (3, [(1, 0, 0), (2, 1, 1), (5, 0, 1)], [])
  | 4 => (4, [(1, 0, 0), (2, 2, 1), (5, 0, 1)], [])
  | 5 => (5, [(1, 0, 0)], [(3, 2, 0)])
  | 7 => (7, [(1, 0, 0), (2, 1, 1), (5, 0, 1)], [(3, 0, 0), (4, 0, 1)])
  | 8 => (8, [(1, 0, 0)], [(3, 0, 0)])
  | 9 => (9, [(1, 0, 0)], [(3, 0, 0), (4, 0, 1), (5, 0, 2)])
  | 10 => (10, [(1, 0, 0)], [(3, 0, 0), (4, 0, 1)])
  | 11 => (11, [(1, 0, 0), (5, 0, 1)], [(3, 0, 0), (4, 1, 1)])
  | 12 => (12, [(1, 0, 0), (5, 0, 1)], [(3, 1, 0)])
  | 13 => (13, [(1, 0, 0), (5, 0, 1)], [(3, 0, 0), (4, 1, 1)])
  | 14 => (14, [(1, 0, 0)], [(3, 0, 0), (4, 0, 1)])
  | 15 => (15, [(1, 0, 0)], [(3, 0, 0), (4, 0, 1)])
  | 16 => (16, [(1, 0, 0)], [(3, 0, 0), (4, 0, 1)])
  | 17 => (17, [(1, 0, 0)], [(3, 2, 0)])
  | 18 => (18, [(1, 0, 0)], [(3, 1, 0), (4, 1, 1)])
  | 19 => (19, [(1, 0, 0)], [(3, 2, 0)])
  | 20 => (if e then 5 else 20, [(1, 0, 0)], [(3, 2, 0)])
  | 30 => (30, [(1, 0, 0)], [])
  | 31 => (31, [(1, 0, 0), (2, 1, 1), (3, 0, 2), (4, 4, 1), (5, 0, 1)], [])
  | 32 => (32, [(1, 0, 0), (2, 0, 1)], [])
  | 33 => (33, [(1, 0, 0), (3, 3, 0)], [])
  | 34 => (34, [(1, 0, 0), (2, 0, 1)], [])
  | 35 => (35, [(1, 0, 0), (4, 0, 1), (5, 0, 2)], [(3, 2, 0)])
  | 36 => (36, [(1, 0, 0), (2, 1, 1), (5, 0, 1)], [(3, 0, 0)])
  | 37 => (37, [(1, 0, 0), (2, 1, 1), (5, 0, 1)], [(4, 2, 1), (3, 0, 0)])
  | 38 => (38, [(1, 0, 0)], [(3, 0, 0), (4, 0, 1)])
  | 39 => (39, [(1, 0, 0)], [(3, 2, 0)])
  | 40 => (40, [(1, 0, 0), (2, 1, 1), (5, 0, 1)], [(3, 0, 0), (4, 0, 1)])
  | 41 => (if e then 35 else 41, (1, 0, 0) :: (if e then [(4, 4, 1)] else []), [(3, 2, 0)])
  | 50 => (50, [(1, 0, 0), (2, 1, 1)], [])
  | 51 => (51, [(2, 1, 1), (4, 0, 0)], [(3, 2, 0)])
  | 52 => (52, [], [(3, 2, 0)])
  | 60 => (60, [(1, 0, 0), (2, 2, 1)], [(3, 0, 0)])
  | 61 => (61, [], [(3, 0, 0), (4, 0, 1)])
  | 64 => (60, [(2, 6, 0)], [(3, 0, 0)])
  | 70 => (70, [], [(3, 2, 0)])
  | 71 => (71, [], [(3, 2, 0)])
  | 72 => (72, [], [(3, 2, 0)])
  | 73 => (73, [(2, 1, 1), (5, 0, 0)], [(3, 2, 1), (4, 0, 0)])
  | 74 => (74, [], [(3, 2, 0)])
  | 75 => (75, [(2, 1, 1), (5, 0, 0)], [(3, 2, 0)])
  | 76 => (76, [(2, 1, 1), (3, 1, 2), (4, 0, 1), (5, 0, 0)], [])
  | 77 => (77, [], [(3, 1, 0), (4, 1, 1)])
  | 78 => (78, [], [(3, 0, 0), (4, 0, 1)])
  | 79 => (79, [(1, 0, 0), (2, 5, 0)], [(3, 2, 0)])
  | 81 => (81, [(1, 0, 0), (2, 1, 1), (5, 0, 0)], [(3, 1, 0), (4, 1, 1)])
  | 82 => (82, [(1, 0, 0), (2, 1, 1)], [(3, 2, 0)])
  | 83 => (83, [], [])
  | 90 => (0, [(1, 0, 0), (2, 0, 1)], [])
  | 91 => (1, [(1, 0, 0), (3, 3, 0)], [])
  | 92 => (2, [(1, 0, 0), (2, 0, 1)], [])
  | _ => (99, [], [])
/-- a node, below a -/
def zrtB (o : ZO) (k : Nat) (p : List (List Int)) (s : List ZT) (lo a : Int) : Prop :=
    if k = 6 then match s with
      | f :: xs => xs ≠ [] ∧ o.1 1 a = hq p 0 ∧ ∃ g, lo ≤ g ∧ g < a ∧ gnd f.1 ∧ f.2 lo (g + 1) g ∧ zapf o (gbg f.1) xs g a
      | [] => False
    else if k = 53 then zarr o s lo a
    else if k = 54 then o.1 0 a = 52 ∧ zrf o s 1 lo a (o.1 3 a)
    else if k = 80 then o.1 0 a = 80 ∧ o.2.2 (o.1 2 a) (p.getD 1 []) ∧ o.1 5 a < a ∧ o.1 1 (o.1 5 a) = hq p 0 ∧ (∃ m m', lo ≤ m ∧ m ≤ m' ∧ (s.getD 0 zno).2 lo m (o.1 3 a) ∧ zrl o (s.drop 2) m m' (o.1 3 (o.1 5 a)) ∧ m' ≤ o.1 4 a ∧ o.1 4 a < o.1 5 a ∧ zch o (s.getD 1 zno) m' (o.1 4 a + 1) (o.1 4 a))
    else if k = 38 ∨ k = 78 then o.1 0 a = (k : Int) ∧ (k = 38 → o.1 1 a = hq p 0) ∧ (zpts o a s [(3, 0, 0), (4, 0, 1)] lo ∨ zpts o a s [(4, 0, 1), (3, 0, 0)] lo)
    else o.1 0 a = ((ztab k s.isEmpty).1 : Int) ∧ (∀ q ∈ (ztab k s.isEmpty).2.1, zfv o (o.1 q.1 a) p (s.map fun x => x.1) q.2) ∧ zpts o a s (ztab k s.isEmpty).2.2 lo
def zrtA (o : ZO) (k : Nat) (p : List (List Int)) (s : List ZT) : Int → Int → Int → Prop := fun lo hi a =>
  if k = 0 ∨ k = 63 then zrl o s lo hi a
  else lo ≤ a ∧ a < hi ∧ zrtB o k p s lo a
/-- node a stands for the tree, with all of its parts from lo up to hi -/
def zrt (o : ZO) : Gt → Int → Int → Int → Prop := gfold (fun _ _ _ => False) (zrtA o)
theorem zrt_gn {o : ZO} {k : Nat} {p : List (List Int)} {s : List Gt} : zrt o (gn k p s) = zrtA o k p (s.map fun x => (x, zrt o x)) := gfold_gn
theorem zrt_br {o : ZO} {k : Nat} {l r : Gt} : zrt o (.branch k l r) = zrtA o k (gpl l) ((gsp r).map fun x => (x, zrt o x)) := by
  show zrtA o k (gpl l) (gfoldA _ _ r).2 = _
  rw [gfoldA_gsp]; rfl
/-- alike from lo up to hi, but for E -/
def zeq (o o' : ZO) (lo hi : Int) (E : Nat → Int → Prop) : Prop := ∀ j i, lo ≤ i → i < hi → ¬ E j i → o'.1 j i = o.1 j i
def zex (τ : Gt) (a : Int) (j : Nat) (i : Int) : Prop := i = a ∧ gnd τ ∧ (j = 6 ∨ j = 5 ∧ gk τ = 6)
def zE0 : Nat → Int → Prop := fun _ _ => False
def zKp (o o' : ZO) (τ : Gt) : Prop := ∀ lo hi lo' hi' a, zeq o o' lo hi (zex τ a) → lo' ≤ lo → hi ≤ hi' → zrt o τ lo hi a → zrt o' τ lo' hi' a
def zIm (o : ZO) (s : List Gt) : List ZT := s.map fun x => (x, zrt o x)
theorem zeq_mono {o o' : ZO} {lo hi lo' hi' : Int} {E E' : Nat → Int → Prop} (h : zeq o o' lo hi E) (h1 : lo ≤ lo') (h2 : hi' ≤ hi) (hE : ∀ j i, lo' ≤ i → i < hi' → E j i → E' j i) : zeq o o' lo' hi' E' := fun j i q1 q2 q3 => h j i (by omega) (by omega) (fun w => q3 (hE j i q1 q2 w))
section ZRep
variable {o o' : ZO} {lo hi lo' hi' a q x y : Int} {p : List (List Int)} {s : List Gt} {c : Gt}
theorem zch_k (h : zKp o o' c) (he : zeq o o' lo hi fun j i => j = 6 ∧ i = x) (hl : lo' ≤ lo) (hh : hi ≤ hi') (hx : lo ≤ x ∧ x < hi) (hc : zch o (c, zrt o c) lo hi x) : zch o' (c, zrt o' c) lo' hi' x := by
  obtain ⟨h1, h2, h3⟩ := hc
  refine ⟨h1, h lo hi lo' hi' x (zeq_mono he (by omega) (by omega) ?_) hl hh h2, fun z => ?_⟩
  · rintro j i - - ⟨e1, e2⟩
    exact ⟨e2, h1, Or.inl e1⟩
  · rw [he 5 x hx.1 hx.2 (fun w => absurd w.1 (by decide))]; exact h3 z
theorem zch_k0 (h : zKp o o' c) (he : zeq o o' lo hi zE0) (hl : lo' ≤ lo) (hh : hi ≤ hi') (hx : lo ≤ x ∧ x < hi) (hc : zch o (c, zrt o c) lo hi x) : zch o' (c, zrt o' c) lo' hi' x := zch_k h (zeq_mono he (by omega) (by omega) (fun _ _ _ _ w => w.elim)) hl hh hx hc
theorem zrl_k : ∀ (s : List Gt) {lo hi lo' hi' x : Int}, (∀ c ∈ s, zKp o o' c) → zeq o o' lo hi zE0 → lo' ≤ lo → hi ≤ hi' → zrl o (zIm o s) lo hi x → zrl o' (zIm o' s) lo' hi' x
  | [], _, _, _, _, _, _, _, hl, hh, h => ⟨h.1, by have := h.2; omega⟩
  | c :: s, lo, hi, lo', hi', x, hs, he, hl, hh, h => by
    obtain ⟨h1, h2, h3, h4⟩ := h
    refine ⟨by omega, by omega, zch_k0 (hs c (List.mem_cons_self ..)) (zeq_mono he (by omega) (by omega) (fun _ _ _ _ w => w)) hl (by omega) ⟨h1, by omega⟩ h3, ?_⟩
    rw [he 6 x h1 h2 (fun w => w)]
    exact zrl_k s (fun c q => hs c (List.mem_cons_of_mem _ q)) (zeq_mono he (by omega) (by omega) (fun _ _ _ _ w => w)) (by omega) hh h4
theorem zIm_getD {i : Nat} (hs : ∀ c ∈ s, zKp o o' c) : (∃ c, c ∈ s ∧ (zIm o s).getD i zno = (c, zrt o c) ∧ (zIm o' s).getD i zno = (c, zrt o' c)) ∨ ((zIm o s).getD i zno = zno ∧ (zIm o' s).getD i zno = zno) := by
  unfold zIm
  rw [List.getD_eq_getElem?_getD, List.getD_eq_getElem?_getD, List.getElem?_map, List.getElem?_map]
  cases e : s[i]? with
  | none => exact Or.inr ⟨rfl, rfl⟩
  | some c => exact Or.inl ⟨c, List.mem_of_getElem? e, rfl, rfl⟩
theorem zIm_drop {i : Nat} : (zIm o s).drop i = zIm o (s.drop i) := by unfold zIm; rw [List.map_drop]
theorem zpts_k (hs : ∀ c ∈ s, zKp o o' c) (he : zeq o o' lo (a + 1) fun j i => (j = 6 ∨ j = 1) ∧ i = a) : ∀ (l : List (Nat × Nat × Nat)) {lo1 lo' : Int}, (∀ q ∈ l, 3 ≤ q.1 ∧ q.1 ≤ 5) → lo ≤ lo1 → lo' ≤ lo1 → lo1 ≤ a → zpts o a (zIm o s) l lo1 → zpts o' a (zIm o' s) l lo'
  | [], lo1, lo', _, _, hl', _, h => by
    have h : lo1 ≤ a := h
    show lo' ≤ a
    omega
  | (j, k, i) :: l, lo1, lo', hj, hl, hl', ha, h => by
    have hj1 : 3 ≤ j ∧ j ≤ 5 := hj _ (List.mem_cons_self ..)
    have ej : o'.1 j a = o.1 j a := he j a (by omega) (by omega) (fun w => by have := w.1; omega)
    have hjt : ∀ q ∈ l, 3 ≤ q.1 ∧ q.1 ≤ 5 := fun q w => hj q (List.mem_cons_of_mem _ w)
    match k with
    | 0 =>
      obtain ⟨h1, h2, h3, h4⟩ := h
      show lo' ≤ o'.1 j a ∧ o'.1 j a < a ∧ zch o' _ lo' (o'.1 j a + 1) (o'.1 j a) ∧ zpts o' a _ l (o'.1 j a + 1)
      rw [ej]
      refine ⟨by omega, h2, ?_, zpts_k hs he l hjt (by omega) (by omega) (by omega) h4⟩
      rcases zIm_getD (i := i) hs with ⟨c, q1, q2, q3⟩ | ⟨q2, q3⟩
      · rw [q2] at h3
        rw [q3]
        exact zch_k0 (hs c q1) (zeq_mono he (by omega) (by omega) (fun _ _ _ _ w => by have := w.2; omega)) hl' (by omega) ⟨by omega, by omega⟩ h3
      · rw [q2] at h3
        exact h3.2.1.elim
    | 1 =>
      obtain ⟨m, h0, h1, h2, h3⟩ := h
      show ∃ m, lo' ≤ m ∧ m ≤ a ∧ ((zIm o' s).getD i zno).2 lo' m (o'.1 j a) ∧ zpts o' a _ l m
      rw [ej]
      refine ⟨m, by omega, h1, ?_, zpts_k hs he l hjt (by omega) (by omega) (by omega) h3⟩
      rcases zIm_getD (i := i) hs with ⟨c, q1, q2, q3⟩ | ⟨q2, q3⟩
      · rw [q2] at h2
        rw [q3]
        exact hs c q1 lo1 m lo' m _ (zeq_mono he (by omega) (by omega) (fun _ _ _ _ w => by have := w.2; omega)) hl' (by omega) h2
      · rw [q2] at h2
        exact h2.elim
    | k + 2 =>
      obtain ⟨m, h0, h1, h2, h3⟩ := h
      show ∃ m, lo' ≤ m ∧ m ≤ a ∧ zrl o' ((zIm o' s).drop i) lo' m (o'.1 j a) ∧ zpts o' a _ l m
      rw [ej]
      rw [zIm_drop] at h2 ⊢
      exact ⟨m, by omega, h1, zrl_k _ (fun c w => hs c (List.mem_of_mem_drop w)) (zeq_mono he (by omega) (by omega) (fun _ _ _ _ w => by have := w.2; omega)) hl' (by omega) h2, zpts_k hs he l hjt (by omega) (by omega) (by omega) h3⟩
theorem zIm_ne : (zIm o s ≠ []) ↔ s ≠ [] := by unfold zIm; rw [ne_eq, List.map_eq_nil_iff]
theorem zapf_k (he : zeq o o' lo (a + 1) fun j i => i = a ∧ (j = 6 ∨ j = 5 ∨ j = 1)) : ∀ (s : List Gt) {g : Int}, (∀ c ∈ s, zKp o o' c) → lo ≤ g → zapf o q (zIm o s) g a → zapf o' q (zIm o' s) g a
  | [], _, _, _, h => h
  | c :: s, g, hs, hg, h => by
    obtain ⟨y, f, h1, h2, h3, h4, h5, h6, h7, h8, h9, h10⟩ := h
    have e := fun j (hj : j < 5 ∧ j ≠ 1) => he j f (by omega) (by omega) (fun w => by have := w.2; omega)
    have ff : zIm o s ≠ [] → f < a := by
      intro w
      cases s with
      | nil => exact absurd rfl w
      | cons c1 s =>
        obtain ⟨y', f', v1, v2, v3, -⟩ := h10
        omega
    refine ⟨y, f, h1, h2, h3, zch_k0 (hs c (List.mem_cons_self ..)) (zeq_mono he (by omega) (by omega) (fun _ _ _ _ w => by have := w.1; omega)) (by omega) (by omega) ⟨by omega, by omega⟩ h4, by rw [e 0 (by omega)]; exact h5, fun w => by have w' : zIm o s ≠ [] := zIm_ne.mpr (zIm_ne.mp w); rw [he 1 f (by omega) (by omega) (fun z => by have := ff w'; have := z.1; omega)]; exact h6 w', by rw [e 3 (by omega)]; exact h7, by rw [e 4 (by omega)]; exact h8, fun w => ?_, zapf_k he s (fun c w => hs c (List.mem_cons_of_mem _ w)) (by omega) h10⟩
    rw [he 5 g hg (by omega) (fun w => by have := w.1; omega)]
    rw [he 0 g hg (by omega) (fun w => by have := w.1; omega)] at w
    exact h9 w
theorem zarr_k : ∀ (s : List Gt) {lo lo' a : Int}, (∀ c ∈ s, zKp o o' c) → zeq o o' lo (a + 1) (fun j i => j = 6 ∧ i = a) → lo' ≤ lo → zarr o (zIm o s) lo a → zarr o' (zIm o' s) lo' a
  | [], _, _, _, _, _, _, h => h
  | [c], lo, lo', a, hs, he, hl, h => ⟨by have := h.1; omega, zch_k (hs c (List.mem_cons_self ..)) he hl (by omega) ⟨h.1, by omega⟩ h.2⟩
  | c :: c1 :: s, lo, lo', a, hs, he, hl, h => by
    have h : lo ≤ o.1 3 a ∧ o.1 3 a < a ∧ o.1 0 a = 53 ∧ zch o (c, zrt o c) lo (o.1 3 a + 1) (o.1 3 a) ∧ o.1 3 a < o.1 4 a ∧ o.1 4 a < a ∧ zarr o (zIm o (c1 :: s)) (o.1 3 a + 1) (o.1 4 a) := h
    show lo' ≤ o'.1 3 a ∧ o'.1 3 a < a ∧ o'.1 0 a = 53 ∧ zch o' (c, zrt o' c) lo' (o'.1 3 a + 1) (o'.1 3 a) ∧ o'.1 3 a < o'.1 4 a ∧ o'.1 4 a < a ∧ zarr o' (zIm o' (c1 :: s)) (o'.1 3 a + 1) (o'.1 4 a)
    obtain ⟨h1, h2, h3, h4, h5, h6, h7⟩ := h
    have e := fun j (hj : j < 5) => he j a (by omega) (by omega) (fun w => by have := w.1; omega)
    rw [e 0 (by omega), e 3 (by omega), e 4 (by omega)]
    exact ⟨by omega, h2, h3, zch_k0 (hs c (List.mem_cons_self ..)) (zeq_mono he (by omega) (by omega) (fun _ _ _ _ w => by have := w.2; omega)) hl (by omega) ⟨by omega, by omega⟩ h4, h5, h6, zarr_k (c1 :: s) (fun c w => hs c (List.mem_cons_of_mem _ w)) (zeq_mono he (by omega) (by omega) (fun _ _ _ _ w => by have := w.2; omega)) (by omega) h7⟩
theorem zrf_k : ∀ (s : List Gt) {k lo hi lo' hi' x : Int}, (∀ c ∈ s, zKp o o' c) → zeq o o' lo hi zE0 → lo' ≤ lo → hi ≤ hi' → zrf o (zIm o s) k lo hi x → zrf o' (zIm o' s) k lo' hi' x
  | [], _, _, _, _, _, _, _, _, hl, hh, h => ⟨h.1, by have := h.2; omega⟩
  | c :: s, k, lo, hi, lo', hi', x, hs, he, hl, hh, h => by
    have h : lo ≤ o.1 3 x ∧ o.1 3 x < x ∧ x < hi ∧ o.1 0 x = 60 ∧ o.1 2 x = -1 - k ∧ zch o (c, zrt o c) lo (o.1 3 x + 1) (o.1 3 x) ∧ zrf o (zIm o s) (k + 1) (x + 1) hi (o.1 6 x) := h
    show lo' ≤ o'.1 3 x ∧ o'.1 3 x < x ∧ x < hi' ∧ o'.1 0 x = 60 ∧ o'.1 2 x = -1 - k ∧ zch o' (c, zrt o' c) lo' (o'.1 3 x + 1) (o'.1 3 x) ∧ zrf o' (zIm o' s) (k + 1) (x + 1) hi' (o'.1 6 x)
    obtain ⟨h1, h2, h3, h4, h5, h6, h7⟩ := h
    have e := fun j => he j x (by omega) (by omega) (fun w => w)
    rw [e 0, e 3, e 2, e 6]
    exact ⟨by omega, h2, by omega, h4, h5, zch_k0 (hs c (List.mem_cons_self ..)) (zeq_mono he (by omega) (by omega) (fun _ _ _ _ w => w)) hl (by omega) ⟨by omega, by omega⟩ h6, zrf_k s (fun c w => hs c (List.mem_cons_of_mem _ w)) (zeq_mono he (by omega) (by omega) (fun _ _ _ _ w => w)) (by omega) hh h7⟩
theorem ztab_5 (k : Nat) (e : Bool) : (∀ q ∈ (ztab k e).2.1, q.1 ≤ 5) ∧ ∀ q ∈ (ztab k e).2.2, 3 ≤ q.1 ∧ q.1 ≤ 5 := by
  unfold ztab
  cases e <;> split <;> exact ⟨by decide, by decide⟩
theorem zfv_k {v : Int} {sl : List Gt} (h1 : ∀ i b, o.2.1 i b → o'.2.1 i b) (h2 : ∀ i b, o.2.2 i b → o'.2.2 i b) {r : Nat × Nat} (h : zfv o v p sl r) : zfv o' v p sl r := by
  unfold zfv at h ⊢
  split at h
  · exact h
  · exact h2 _ _ h
  · rcases h with w | w
    · exact Or.inl (h2 _ _ w)
    · exact Or.inr w
  · exact h1 _ _ h
  · exact h
  · exact h2 _ _ h
  · exact h
theorem zIm_fst : (zIm o s).map (fun x => x.1) = s := by
  unfold zIm
  rw [List.map_map]
  show s.map (fun x => x) = s
  exact List.map_id' s
theorem zIm_em : (zIm o s).isEmpty = s.isEmpty := by cases s <;> rfl
theorem zrt_k (h1 : ∀ i b, o.2.1 i b → o'.2.1 i b) (h2 : ∀ i b, o.2.2 i b → o'.2.2 i b) : ∀ τ, zKp o o' τ := by
  refine gt_ind (fun p lo hi lo' hi' a _ _ _ h => h.elim) ?_
  intro k l r ih lo hi lo' hi' a he hl hh h
  rw [zrt_br] at h ⊢
  have h : zrtA o k (gpl l) (zIm o (gsp r)) lo hi a := h
  show zrtA o' k (gpl l) (zIm o' (gsp r)) lo' hi' a
  generalize gsp r = s at h ih
  generalize gpl l = p at h
  unfold zrtA at h ⊢
  by_cases k0 : k = 0 ∨ k = 63
  · rw [if_pos k0] at h ⊢
    refine zrl_k s ih (zeq_mono he (by omega) (by omega) ?_) hl hh h
    rintro j i - - ⟨-, w, -⟩
    have w1 : k ≠ 0 := w.1
    have w2 : k ≠ 63 := w.2
    omega
  rw [if_neg k0] at h ⊢
  obtain ⟨g1, g2, h⟩ := h
  refine ⟨by omega, by omega, ?_⟩
  have e0 : ∀ j, j < 5 → o'.1 j a = o.1 j a := fun j hj => he j a g1 g2 (fun w => by have := w.2.2; omega)
  have he1 : k ≠ 6 → zeq o o' lo (a + 1) fun j i => j = 6 ∧ i = a := fun k6 => zeq_mono he (by omega) (by omega) (fun j i _ _ w => ⟨by rcases w.2.2 with z | z; exact z; exact absurd z.2 k6, w.1⟩)
  unfold zrtB at h ⊢
  by_cases k6 : k = 6
  · rw [if_pos k6] at h ⊢
    cases s with
    | nil => exact h
    | cons f xs =>
      obtain ⟨w1, w2, g, w3, w4, w5, w6, w7⟩ := h
      refine ⟨zIm_ne.mpr (zIm_ne.mp w1), by rw [e0 1 (by omega)]; exact w2, g, by omega, w4, w5, ih f (List.mem_cons_self ..) _ _ _ _ _ (zeq_mono he (by omega) (by omega) (fun _ _ _ _ w => by have := w.1; omega)) hl (by omega) w6, ?_⟩
      exact zapf_k (lo := lo) (zeq_mono he (by omega) (by omega) (fun j i _ _ w => ⟨w.1, by have := w.2.2; omega⟩)) xs (fun c w => ih c (List.mem_cons_of_mem _ w)) w3 w7
  rw [if_neg k6] at h ⊢
  have he1 := he1 k6
  have e5 : ∀ j, j ≤ 5 → o'.1 j a = o.1 j a := fun j hj => he1 j a g1 (by omega) (fun w => by have := w.1; omega)
  by_cases k53 : k = 53
  · rw [if_pos k53] at h ⊢
    exact zarr_k s ih he1 hl h
  rw [if_neg k53] at h ⊢
  by_cases k54 : k = 54
  · rw [if_pos k54] at h ⊢
    rw [e0 0 (by omega), e0 3 (by omega)]
    exact ⟨h.1, zrf_k s ih (zeq_mono he1 (by omega) (by omega) (fun _ _ _ _ w => by have := w.2; omega)) hl (by omega) h.2⟩
  rw [if_neg k54] at h ⊢
  by_cases k80 : k = 80
  · rw [if_pos k80] at h ⊢
    obtain ⟨w1, w2, w3, w4, m, m', v1, v2, v3, v4, v5, v6, v7⟩ := h
    have e := fun j => he1 j (o.1 5 a) (by omega) (by omega) (fun w => by have := w.2; omega)
    rw [e0 0 (by omega), e0 2 (by omega), e5 5 (by omega), e 1, e0 3 (by omega), e 3, e0 4 (by omega)]
    refine ⟨w1, h2 _ _ w2, w3, w4, m, m', by omega, v2, ?_, ?_, v5, v6, ?_⟩
    · rcases zIm_getD (i := 0) ih with ⟨c, q1, q2, q3⟩ | ⟨q2, q3⟩
      · rw [q2] at v3
        rw [q3]
        exact ih c q1 _ _ _ _ _ (zeq_mono he1 (by omega) (by omega) (fun _ _ _ _ w => by have := w.2; omega)) hl (by omega) v3
      · rw [q2] at v3; exact v3.elim
    · rw [zIm_drop] at v4 ⊢
      exact zrl_k _ (fun c w => ih c (List.mem_of_mem_drop w)) (zeq_mono he1 (by omega) (by omega) (fun _ _ _ _ w => by have := w.2; omega)) (by omega) (by omega) v4
    · rcases zIm_getD (i := 1) ih with ⟨c, q1, q2, q3⟩ | ⟨q2, q3⟩
      · rw [q2] at v7
        rw [q3]
        exact zch_k0 (ih c q1) (zeq_mono he1 (by omega) (by omega) (fun _ _ _ _ w => by have := w.2; omega)) (by omega) (by omega) ⟨by omega, by omega⟩ v7
      · rw [q2] at v7; exact v7.2.1.elim
  rw [if_neg k80] at h ⊢
  by_cases k38 : k = 38 ∨ k = 78
  · rw [if_pos k38] at h ⊢
    obtain ⟨w1, w2, w3⟩ := h
    refine ⟨by rw [e0 0 (by omega)]; exact w1, fun z => by rw [e0 1 (by omega)]; exact w2 z, ?_⟩
    rcases w3 with w3 | w3
    · exact Or.inl (zpts_k (lo := lo) ih (zeq_mono he1 (by omega) (by omega) (fun _ _ _ _ w => ⟨Or.inl w.1, w.2⟩)) _ (by decide) (by omega) hl g1 w3)
    · exact Or.inr (zpts_k (lo := lo) ih (zeq_mono he1 (by omega) (by omega) (fun _ _ _ _ w => ⟨Or.inl w.1, w.2⟩)) _ (by decide) (by omega) hl g1 w3)
  rw [if_neg k38] at h ⊢
  rw [zIm_em, zIm_fst] at h ⊢
  have t5 := ztab_5 k s.isEmpty
  obtain ⟨w1, w2, w3⟩ := h
  exact ⟨by rw [e0 0 (by omega)]; exact w1, fun q w => by rw [e5 q.1 (t5.1 q w)]; exact zfv_k h1 h2 (w2 q w), zpts_k (lo := lo) ih (zeq_mono he1 (by omega) (by omega) (fun _ _ _ _ w => ⟨Or.inl w.1, w.2⟩)) _ t5.2 (by omega) hl g1 w3⟩
end ZRep
