set_option maxRecDepth 100000
/-! THE REFERENCE'S PARSER: its state, and what is kept -/
def FP : List Nat := FR2 ++ [40, 46, 47, 48, 53, 54, 55]
def AP : List Nat := AR0 ++ [10, 11, 12, 13, 14, 15, 16, 17, 18, 19, 20, 21, 22]
def FPE : List Nat := FP ++ [31, 32]
abbrev Fx : Type := List (List Int × Int × Int)
def zname (W : List (List Int)) (i : Int) (b : List Int) : Prop := ∃ w : Nat, w < W.length ∧ i = (w : Int) ∧ W.getD w [] = b
def zo (S : ZS) (W : List (List Int)) : ZO := (fun j a => if 6 < j then 0 else S.2.2.1 (10 + j) (if j = 1 then a - S.1 41 else a), fun i b => 0 ≤ i ∧ i + 1 + b.length ≤ S.1 30 ∧ SB S i b, zname W)
/-- names with their strength, from h on -/
def zFX (S : ZS) (W : List (List Int)) : Int → Fx → Prop
  | h, [] => h = -1
  | h, f :: L => 0 ≤ h ∧ h < S.1 46 ∧ h < 23500 ∧ (∃ w : Nat, w < W.length ∧ W.getD w [] = f.1 ∧ S.2.2.1 17 h = (w : Int) * 32 + f.2.1 % 16 + 16 * f.2.2) ∧ -1 ≤ f.2.1 ∧ f.2.1 ≤ 9 ∧ (f.2.2 = 0 ∨ f.2.2 = 1) ∧ zFX S W (S.2.2.1 18 h) L
def zFc (S : ZS) (W : List (List Int)) (h : Int) (F : Fx) : Prop := ∃ L, zFX S W h L ∧ L.filter (fun x => decide (x.1 ≠ [61])) = F ∧ (∀ x ∈ L, x.1 = [61] → x.2 = (4, 0)) ∧ ∃ x ∈ L, x.1 = [61]
/-- rows of trees: first, last; names and strengths that are kept -/
abbrev Zi : Type := List Gt × Int × Int
abbrev Zk : Type := Nat × Int × List Int × Fx
abbrev kN (i : Int) (b : List Int) : Zk := (1, i, b, [])
abbrev kL (i : Int) (b : List Int) : Zk := (0, i, b, [])
abbrev kF (h : Int) (F : Fx) : Zk := (2, h, [], F)
abbrev kS (f s r : Int) : Zk := (3, f, [s, r], [])
abbrev Zm : Type := List Zi × (List Int × List (Int × Int × Int)) × List Zk
abbrev Zg : Type := ZS × List (List Int)
def zit (o : ZO) (lo hi : Int) (q : Zi) : Prop := zrl o (zIm o q.1) lo hi q.2.1 ∧ zla o (zIm o q.1) q.2.1 q.2.2
def zits (o : ZO) (lo : Int) : List Zi → Int → Prop
  | [], hi => lo ≤ hi
  | q :: M, hi => ∃ m, m ≤ hi ∧ zit o m hi q ∧ zits o lo M m
/-- v stands for a strength -/
def zFv (S : ZS) (v : Int) (u : Option (Int × Int)) : Prop := match u with
  | none => v = -1
  | some f => 0 ≤ v ∧ v < 23500 ∧ (∃ w : Nat, w < 15000 ∧ S.2.2.1 17 v = ((w * 32 + f.1.toNat + 16 * f.2.toNat : Nat) : Int)) ∧ 0 ≤ f.1 ∧ f.1 ≤ 9 ∧ (f.2 = 0 ∨ f.2 = 1)
def zks (S : ZS) (W : List (List Int)) : Zk → Prop
  | (0, i, b, _) => zlbl (zo S W) i b
  | (1, i, b, _) => zname W i b
  | (2, h, _, F) => zFc S W h F
  | (_, f, b, _) => f < S.1 46 ∧ zFv S f (some (b.getD 0 0, b.getD 1 0))
def zA (S : ZS) : List Int → Prop
  | [] => True
  | x :: A => S.2.2.1 19 (A.length : Int) = x ∧ zA S A
def zB (S : ZS) : List (Int × Int × Int) → Prop
  | [] => True
  | x :: A => S.2.2.1 20 (A.length : Int) = x.1 ∧ S.2.2.1 21 (A.length : Int) = x.2.1 ∧ S.2.2.1 22 (A.length : Int) = x.2.2 ∧ zB S A
/-- what was there is there yet -/
def Zmo (Γ : Zg) (S : ZS) (W : List (List Int)) : Prop := zAg FP AP Γ.1 S ∧ Γ.2 <+: W ∧ Γ.1.1 40 ≤ S.1 40 ∧ (∀ j, 10 ≤ j → j ≤ 16 → j ≠ 11 → ∀ i : Int, i < Γ.1.1 40 → S.2.2.1 j i = Γ.1.2.2.1 j i) ∧ (∀ i : Int, i < Γ.1.1 40 - Γ.1.1 41 → S.2.2.1 11 i = Γ.1.2.2.1 11 i) ∧ Γ.1.1 30 ≤ S.1 30 ∧ (∀ i : Int, i < Γ.1.1 30 → S.2.2.1 9 i = Γ.1.2.2.1 9 i) ∧ Γ.1.1 46 ≤ S.1 46 ∧ ∀ i : Int, i < Γ.1.1 46 → S.2.2.1 17 i = Γ.1.2.2.1 17 i ∧ S.2.2.1 18 i = Γ.1.2.2.1 18 i
/-- tokens passed, and two more -/
def psn (σ : Ps) : Nat := pn σ + (if (pk σ).1 = 6 then 1 else 0) + (if (pc σ).1 = 6 then 1 else 0)
/-- what a token may be -/
def tkQ (k : Tok) : Prop := k.1 ≤ 6 ∧ (k.1 = 1 → k.2.2.1 ≠ [61]) ∧ (k.1 = 3 → (k.2.2.1 = [] ∧ 0 ≤ k.2.2.2) ∨ (k.2.2.1 = [126] ∧ k.2.2.2 ≤ 0))
def Z1 (t : List Int) (S : ZS) (σ : Ps) (W : List (List Int)) : Prop := Lx S t ∧ NW S W ∧ TkC S W (pc σ) ∧ TkM S W (pk σ) ∧ (tkQ (pc σ) ∧ tkQ (pk σ) ∧ ((pc σ).1 = 6 → (pk σ).1 = 6)) ∧ S.1 27 = (pi' σ : Int) ∧ S.1 28 = (pn σ : Int) ∧ pi' σ ≤ t.length ∧ pn σ ≤ 1000 ∧ (zname W (S.1 15) [42] ∧ zname W (S.1 56) gIt) ∧ 0 ≤ S.1 30
def Z2 (t : List Int) (S : ZS) (σ : Ps) (W : List (List Int)) : Prop := W.length + 1010 ≤ 14990 + psn σ ∧ off W W.length + 30300 ≤ 43900 + 30 * psn σ ∧ S.1 30 + 2 * t.length ≤ 183980 + pi' σ ∧ 0 ≤ S.1 46 ∧ 0 ≤ S.1 46 ∧ 0 ≤ S.1 41 ∧ S.1 41 ≤ 79800
def ZZ (t : List Int) (Γ : Zg) (S : ZS) (σ : Ps) (W : List (List Int)) (M : Zm) (g : Int) : Prop :=
  Z1 t S σ W ∧ Z2 t S σ W ∧ (S.1 48 = (pd σ : Int) ∧ pd σ ≤ 40) ∧ zFc S W (S.1 47) (pF σ) ∧ (S.1 41 ≤ Γ.1.1 40 ∧ S.1 40 - S.1 41 ≤ 4 * psn σ + g ∧ S.1 46 ≤ 19000 + 4 * psn σ + g) ∧ zits (zo S W) (Γ.1.1 40) M.1 (S.1 40) ∧
  ((S.1 53 = (M.2.1.1.length : Int) ∧ S.1 54 = (M.2.1.2.length : Int)) ∧ M.2.1.2.length ≤ M.2.1.1.length ∧ M.2.1.1.length + pmu t σ ≤ 2000 ∧ zA S M.2.1.1 ∧ zB S M.2.1.2) ∧ (∀ q ∈ M.2.2, zks S W q) ∧ Zmo Γ S W
/-- something was thrown: e, at p -/
def ThZ (t : List Int) (Γ : Zg) (S : ZS) (e : Int) (p : Nat) : Prop := ∃ S1 W σ g, Zmo Γ S1 W ∧ Z2 t S1 σ W ∧ pn σ ≤ 1000 ∧ (S1.1 40 - S1.1 41 ≤ 4 * psn σ + g ∧ S1.1 46 ≤ 19000 + 4 * psn σ + g) ∧ g ≤ 190 ∧ zAg FE2 [9] S1 S ∧ NW S W ∧ S.1 31 = e ∧ S.1 32 = (p : Int) ∧ ∀ i : Int, i < S1.1 30 → S.2.2.1 9 i = S1.2.2.1 9 i
section ZSta
variable {t : List Int} {Γ Γ' : Zg} {S S' : ZS} {σ σ1 : Ps} {W W' : List (List Int)} {M : Zm} {g g' : Int} {h : Int} {F : Fx} {lo hi x y i : Int} {b : List Int} {o o' : ZO}
theorem zname_pre (hW : W <+: W') (h : zname W i b) : zname W' i b := by
  obtain ⟨w, h1, h2, h3⟩ := h
  exact ⟨w, Nat.lt_of_lt_of_le h1 hW.length_le, h2, by rw [getD_pre hW h1]; exact h3⟩
theorem zstr_pre (h30 : S.1 30 ≤ S'.1 30) (h9 : ∀ i : Int, i < S.1 30 → S'.2.2.1 9 i = S.2.2.1 9 i) (h : (zo S W).2.1 i b) : (zo S' W').2.1 i b := by
  obtain ⟨h1, h2, h3, h4⟩ := h
  exact ⟨h1, by omega, by rw [h9 _ (by omega)]; exact h3, fun k hk => by rw [h9 _ (by omega)]; exact h4 k hk⟩
theorem zla_k (h1 : ∀ i b, o.2.1 i b → o'.2.1 i b) (h2 : ∀ i b, o.2.2 i b → o'.2.2 i b) : ∀ (s : List Gt) {lo hi x y : Int}, zeq o o' lo hi zE0 → zrl o (zIm o s) lo hi x → zla o (zIm o s) x y → zla o' (zIm o' s) x y
  | [], _, _, _, _, _, _, h => h
  | [c], _, _, _, _, _, _, h => h
  | c :: c1 :: s, lo, hi, x, y, he, hr, h => by
    have h : zla o (zIm o (c1 :: s)) (o.1 6 x) y := h
    show zla o' (zIm o' (c1 :: s)) (o'.1 6 x) y
    obtain ⟨r1, r2, -, r4⟩ := hr
    rw [he 6 x r1 r2 (fun w => w)]
    exact zla_k h1 h2 (c1 :: s) (zeq_mono he (by omega) (by omega) (fun _ _ _ _ w => w)) r4 h
theorem zit_k (h1 : ∀ i b, o.2.1 i b → o'.2.1 i b) (h2 : ∀ i b, o.2.2 i b → o'.2.2 i b) {lo hi lo' hi' : Int} {q : Zi} (he : zeq o o' lo hi zE0) (hl : lo' ≤ lo) (hh : hi ≤ hi') (h : zit o lo hi q) : zit o' lo' hi' q := ⟨zrl_k _ (fun c _ => zrt_k h1 h2 c) he hl hh h.1, zla_k h1 h2 _ he h.1 h.2⟩
theorem zits_k (h1 : ∀ i b, o.2.1 i b → o'.2.1 i b) (h2 : ∀ i b, o.2.2 i b → o'.2.2 i b) : ∀ (M : List Zi) {lo hi hi' : Int}, zeq o o' lo hi zE0 → hi ≤ hi' → zits o lo M hi → zits o' lo M hi'
  | [], lo, hi, hi', _, hh, h => by
    have h : lo ≤ hi := h
    show lo ≤ hi'
    omega
  | q :: M, lo, hi, hi', he, hh, h => by
    obtain ⟨m, m1, m2, m3⟩ := h
    have hlo : ∀ (M : List Zi) {m : Int}, zits o lo M m → lo ≤ m := by
      intro M
      induction M with
      | nil => intro m h; exact h
      | cons q M ih =>
        rintro m ⟨m', w1, w2, w3⟩
        have := ih w3
        omega
    have := hlo M m3
    exact ⟨m, by omega, zit_k h1 h2 (zeq_mono he (by omega) (by omega) (fun _ _ _ _ w => w)) (by omega) hh m2, zits_k h1 h2 M (zeq_mono he (by omega) (by omega) (fun _ _ _ _ w => w)) (by omega) m3⟩
theorem zFX_k (h46 : S.1 46 ≤ S'.1 46) (hf : ∀ i : Int, i < S.1 46 → S'.2.2.1 17 i = S.2.2.1 17 i ∧ S'.2.2.1 18 i = S.2.2.1 18 i) (hW : W <+: W') : ∀ (L : Fx) {h : Int}, zFX S W h L → zFX S' W' h L
  | [], _, q => q
  | f :: L, h, q => by
    obtain ⟨q1, q2, q0, ⟨w, w1, w2, w3⟩, q4, q5, q6, q7⟩ := q
    refine ⟨q1, by omega, q0, ⟨w, Nat.lt_of_lt_of_le w1 hW.length_le, by rw [getD_pre hW w1]; exact w2, by rw [(hf h q2).1]; exact w3⟩, q4, q5, q6, ?_⟩
    rw [(hf h q2).2]
    exact zFX_k h46 hf hW L q7
theorem zFc_k (h46 : S.1 46 ≤ S'.1 46) (hf : ∀ i : Int, i < S.1 46 → S'.2.2.1 17 i = S.2.2.1 17 i ∧ S'.2.2.1 18 i = S.2.2.1 18 i) (hW : W <+: W') (h : zFc S W x F) : zFc S' W' x F := by
  obtain ⟨L, h1, h2⟩ := h
  exact ⟨L, zFX_k h46 hf hW L h1, h2⟩
theorem zA_k {A : List Int} {n : Int} (hA : (A.length : Int) ≤ n) (h : ∀ i : Int, i < n → S'.2.2.1 19 i = S.2.2.1 19 i) : zA S A → zA S' A := by
  induction A with
  | nil => exact fun w => w
  | cons x A ih =>
    rintro ⟨w1, w2⟩
    rw [List.length_cons] at hA
    exact ⟨by rw [h _ (by omega)]; exact w1, ih (by omega) w2⟩
theorem zB_k {A : List (Int × Int × Int)} {n : Int} (hA : (A.length : Int) ≤ n) (h : ∀ i : Int, i < n → S'.2.2.1 20 i = S.2.2.1 20 i ∧ S'.2.2.1 21 i = S.2.2.1 21 i ∧ S'.2.2.1 22 i = S.2.2.1 22 i) : zB S A → zB S' A := by
  induction A with
  | nil => exact fun w => w
  | cons x A ih =>
    rintro ⟨w1, w2, w3, w4⟩
    rw [List.length_cons] at hA
    have e := h A.length (by omega)
    exact ⟨by rw [e.1]; exact w1, by rw [e.2.1]; exact w2, by rw [e.2.2]; exact w3, ih (by omega) w4⟩
theorem zA_e {A : List Int} (h : S'.2.2.1 19 = S.2.2.1 19) (q : zA S A) : zA S' A := zA_k (n := A.length) (Int.le_refl _) (fun _ _ => by rw [h]) q
theorem zB_e {A : List (Int × Int × Int)} (h : S'.2.2.1 20 = S.2.2.1 20 ∧ S'.2.2.1 21 = S.2.2.1 21 ∧ S'.2.2.1 22 = S.2.2.1 22) (q : zB S A) : zB S' A := zB_k (n := A.length) (Int.le_refl _) (fun _ _ => by rw [h.1, h.2.1, h.2.2]; exact ⟨rfl, rfl, rfl⟩) q
/-- what is seen grows -/
def zseq (S S' : ZS) : Prop := S.1 30 ≤ S'.1 30 ∧ (∀ i : Int, i < S.1 30 → S'.2.2.1 9 i = S.2.2.1 9 i) ∧ S.1 46 ≤ S'.1 46 ∧ ∀ i : Int, i < S.1 46 → S'.2.2.1 17 i = S.2.2.1 17 i ∧ S'.2.2.1 18 i = S.2.2.1 18 i
theorem zks_k (hs : zseq S S') (hW : W <+: W') {q : Zk} (h : zks S W q) : zks S' W' q := by
  unfold zks at h ⊢
  split at h
  · rcases h with w | w
    · exact Or.inl (zname_pre hW w)
    · exact Or.inr w
  · exact zname_pre hW h
  · exact zFc_k hs.2.2.1 hs.2.2.2 hW h
  · obtain ⟨h1, h2, h3, ⟨w, h4, h5⟩, h6⟩ := h
    have := hs.2.2.1
    exact ⟨by omega, h2, h3, ⟨w, h4, by rw [(hs.2.2.2 _ h1).1]; exact h5⟩, h6⟩
theorem zseq_refl : zseq S S := ⟨Int.le_refl _, fun _ _ => rfl, Int.le_refl _, fun _ _ => ⟨rfl, rfl⟩⟩
theorem Zmo_refl : Zmo (S, W) S W := ⟨zAg_refl, List.prefix_rfl, Int.le_refl _, fun _ _ _ _ _ _ => rfl, fun _ _ => rfl, Int.le_refl _, fun _ _ => rfl, Int.le_refl _, fun _ _ => ⟨rfl, rfl⟩⟩
theorem Zmo_trans (h1 : Zmo Γ S W) (h2 : Zmo (S, W) S' W') : Zmo Γ S' W' := by
  obtain ⟨a1, a2, a3, a4, a5, a6, a7, a8, a9⟩ := h1
  obtain ⟨b1, b2, b3, b4, b5, b6, b7, b8, b9⟩ := h2
  have e41 : S.1 41 = Γ.1.1 41 := a1.1 41 (by decide)
  exact ⟨zAg_trans a1 b1, a2.trans b2, Int.le_trans a3 b3, fun j q1 q2 q3 i q => (b4 j q1 q2 q3 i (Int.lt_of_lt_of_le q a3)).trans (a4 j q1 q2 q3 i q), fun i q => (b5 i (by show i < S.1 40 - S.1 41; omega)).trans (a5 i q), Int.le_trans a6 b6, fun i q => (b7 i (Int.lt_of_lt_of_le q a6)).trans (a7 i q), Int.le_trans a8 b8, fun i q => ⟨(b9 i (Int.lt_of_lt_of_le q a8)).1.trans (a9 i q).1, (b9 i (Int.lt_of_lt_of_le q a8)).2.trans (a9 i q).2⟩⟩
/-- nothing of the trees is touched -/
def znod (S S' : ZS) : Prop := S'.1 40 = S.1 40 ∧ S'.1 41 = S.1 41 ∧ ∀ j, 10 ≤ j → j ≤ 16 → S'.2.2.1 j = S.2.2.1 j
theorem znod_eq (h : znod S S') : zeq (zo S W) (zo S' W') lo hi zE0 := by
  intro j i _ _ _
  show (if 6 < j then 0 else S'.2.2.1 (10 + j) (if j = 1 then i - S'.1 41 else i)) = if 6 < j then 0 else S.2.2.1 (10 + j) (if j = 1 then i - S.1 41 else i)
  by_cases q : 6 < j
  · rw [if_pos q, if_pos q]
  · rw [if_neg q, if_neg q, h.2.1, h.2.2 _ (by omega) (by omega)]
theorem zits_nod (h : znod S S') (hs : zseq S S') (hW : W <+: W') {M : List Zi} (q : zits (zo S W) lo M hi) : zits (zo S' W') lo M hi := zits_k (fun i b => zstr_pre hs.1 hs.2.1) (fun i b => zname_pre hW) M (znod_eq h) (Int.le_refl _) q
theorem ZZ_mono (hZ : ZZ t Γ S σ W M g) (hg : g ≤ g') : ZZ t Γ S σ W M g' := by
  obtain ⟨h1, h2, h3, h4, h5, h6⟩ := hZ
  exact ⟨h1, h2, h3, h4, ⟨h5.1, by omega⟩, h6⟩
/-- a step to the next token -/
theorem ZZ_step {k : Tok} {j : Nat} (hZ : ZZ t Γ S σ W M g) (h6 : (pc σ).1 ≠ 6) (hk6 : (pk σ).1 ≠ 6) (he : sRead t (pn σ) (pi' σ) = .inr (k, j)) (hs : StOk S W (pk σ) k j S') (hj : (pi' σ ≤ j ∧ j ≤ t.length) ∧ tkQ k ∧ pi' σ + kB k ≤ j ∧ (k.1 ≠ 6 → pn σ + 1 ≤ 1000)) (hpm : pmu t (pk σ, k, pn σ + (if k.1 = 6 then 0 else 1), j, pd σ, pF σ, pq σ + (if (pc σ).1 = 2 then 3 else 1)) < pmu t σ) : ∃ W', ZZ t Γ S' (pk σ, k, pn σ + (if k.1 = 6 then 0 else 1), j, pd σ, pF σ, pq σ + (if (pc σ).1 = 2 then 3 else 1)) W' M (g - 4) := by
  obtain ⟨⟨a1, a2, a3, a4, a5, a6, a7, a8, a9, a10, a11⟩, ⟨b1, b2, b3, b4, b5, b6, b7⟩, c1, c2, c3, c4, c5, c6, c7⟩ := hZ
  obtain ⟨s1, s2, s3, ⟨W', w1, w2, w3, w4, w5, w6⟩, s5, s6⟩ := hs
  have e := fun f (hf : f ∉ FR2) => s1.1 f hf
  have e15 := e 15 (by decide)
  have e56 := e 56 (by decide)
  have e40 := e 40 (by decide)
  have e41 := e 41 (by decide)
  have e46 := e 46 (by decide)
  have e47 := e 47 (by decide)
  have e48 := e 48 (by decide)
  have e53 := e 53 (by decide)
  have e54 := e 54 (by decide)
  have ea := fun f (hf : f ∉ AR0) => s1.2.2.1 f hf
  have nb : ∀ i, 10 ≤ i → i ≤ 22 → i ∉ AR0 := by
    intro i q1 q2 q3
    have : i ≤ 9 := by
      have : ∀ x ∈ AR0, x ≤ 9 := by decide
      exact this i q3
    omega
  have zs : zseq S S' := ⟨by rw [s5]; omega, s6, by rw [e46]; omega, fun i _ => by rw [ea 17 (nb _ (by omega) (by omega)), ea 18 (nb _ (by omega) (by omega))]; exact ⟨rfl, rfl⟩⟩
  have zn : znod S S' := ⟨e40, e41, fun j q1 q2 => ea j (nb _ q1 (by omega))⟩
  have hp : psn (pk σ, k, pn σ + (if k.1 = 6 then 0 else 1), j, pd σ, pF σ, pq σ + (if (pc σ).1 = 2 then 3 else 1)) = psn σ + 1 := by
    show pn σ + (if k.1 = 6 then 0 else 1) + (if k.1 = 6 then 1 else 0) + (if (pk σ).1 = 6 then 1 else 0) = pn σ + (if (pk σ).1 = 6 then 1 else 0) + (if (pc σ).1 = 6 then 1 else 0) + 1
    rw [if_neg hk6, if_neg h6]
    split <;> omega
  have hps : psn σ ≤ 1000 := by unfold psn; rw [if_neg hk6, if_neg h6]; omega
  refine ⟨W', ?_⟩
  unfold ZZ
  unfold Z2
  rw [hp]
  have z2 : W'.length + 1010 ≤ 14990 + (psn σ + 1) ∧ off W' W'.length + 30300 ≤ 43900 + 30 * (psn σ + 1) := ⟨by omega, by omega⟩
  have hn : pn σ + (if k.1 = 6 then 0 else 1) ≤ 1000 := by split <;> omega
  refine ⟨⟨Lx_ag s1 (by decide) (by decide) a1, ⟨w4, a2.2.1.trans w1, by omega, by omega⟩, w5, w6, ⟨a5.2.1, hj.2.1, fun z => absurd z hk6⟩, s3, ?_, hj.1.2, hn, ⟨by rw [e15]; exact zname_pre w1 a10.1, by rw [e56]; exact zname_pre w1 a10.2⟩, by rw [s5]; omega⟩, ⟨z2.1, z2.2, ?_, by omega, by omega, by omega, by omega⟩, ⟨by rw [e48]; exact c1.1, c1.2⟩, ?_, ⟨by rw [e41]; exact c3.1, ?_⟩, ?_, ⟨⟨by rw [e53]; exact c5.1.1, by rw [e54]; exact c5.1.2⟩, c5.2.1, by omega, ?_, ?_⟩, fun q z => zks_k zs w1 (c6 q z), Zmo_trans c7 ?_⟩
  · rw [s2, a7]
    show (pn σ : Int) + _ = ((pn σ + _ : Nat) : Int)
    split <;> omega
  · show S'.1 30 + 2 * t.length ≤ 183980 + (j : Int)
    rw [s5]; omega
  · show zFc S' W' (S'.1 47) (pF σ)
    rw [e47]; exact zFc_k zs.2.2.1 zs.2.2.2 w1 c2
  · rw [e40, e41, e46]; omega
  · rw [e40]; exact zits_nod zn zs w1 c4
  · exact zA_e (ea 19 (nb _ (by omega) (by omega))) c5.2.2.2.1
  · exact zB_e ⟨ea 20 (nb _ (by omega) (by omega)), ea 21 (nb _ (by omega) (by omega)), ea 22 (nb _ (by omega) (by omega))⟩ c5.2.2.2.2
  · refine ⟨zAg_mono s1 (by decide) (by decide), w1, by show S.1 40 ≤ _; rw [e40]; omega, fun j q1 q2 _ i _ => by rw [ea j (nb _ q1 (by omega))], fun i _ => by rw [ea 11 (nb _ (by omega) (by omega))], zs.1, zs.2.1, zs.2.2.1, zs.2.2.2⟩
end ZSta
