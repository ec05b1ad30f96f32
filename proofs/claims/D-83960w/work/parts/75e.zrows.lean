set_option maxRecDepth 100000
/-! THE REFERENCE'S PARSER: rows grow; places; what a call of a part of the grammar gives -/
def kEx : List Nat := [3, 4, 5, 6, 7, 8, 9, 10, 11, 12, 13, 14, 15, 16, 17, 18, 19, 20, 90, 91, 92]
def kPa : List Nat := [30, 31, 32, 33, 34, 35, 36, 37, 38, 39, 40, 41]
abbrev okZ (τ : Gt) : Prop := gk τ ∈ kEx ++ kPa
theorem ktab_wh : ∀ k ∈ kEx ++ kPa, ∀ e : Bool, k ≠ 0 ∧ k ≠ 63 ∧ k ≠ 53 ∧ k ≠ 54 ∧ k ≠ 80 ∧ (k ≠ 6 → (1, 0, 0) ∈ (ztab k e).2.1) ∧ ∀ q ∈ (ztab k e).2.1, q = (1, 0, 0) ∨ (q.1 ≠ 1 ∧ (q.2.1 ≤ 2 ∨ 6 ≤ q.2.1 → 1 ≤ q.2.2)) := by decide +kernel
/-- a part of the grammar is what method tag does: rows by im, for which ok holds -/
def ZCf (t : List Int) (fs : Ps → PR) (tag : Nat) (as : Ps → List ZV) (lev : Nat) (im : Gt → List Gt) (ok : Ps → Gt → ZS → Int → Prop) : Prop :=
  ∀ (Γ : Zg) (S : ZS) (σ : Ps) (W : List (List Int)) (M : Zm) (g : Int) (d : Nat) (Q : Option (Option ZV) → ZS → Prop) (r : (Int × Nat) ⊕ (Gt × Ps)), ZZ t Γ S σ W M g → g ≤ 150 → dep t σ + lev ≤ d → fs σ = some r →
    (∀ e p S', r = .inl (e, p) → ThZ t Γ S' e p → Q none S') →
    (∀ τ σ1 S1 W1 a y, r = .inr (τ, σ1) → ZZ t Γ S1 σ1 W1 ((im τ, a, y) :: M.1, M.2) (g - 2) → ok σ τ S1 a → Qx t 0 1 σ σ1 → Q (some (some (.inl a))) S1) → zW (ZL d tag (as σ) S) Q
section ZRow
variable {t : List Int} {Γ : Zg} {S S' : ZS} {σ σ1 : Ps} {W W' : List (List Int)} {M : Zm} {g g' : Int} {d n tag lev : Nat} {Q : Option (Option ZV) → ZS → Prop} {r : (Int × Nat) ⊕ (Gt × Ps)} {o o' : ZO} {lo hi m x y z b : Int} {τ c : Gt} {I : List Zi} {A : List Int × List (Int × Int × Int)} {K : List Zk} {cs : List Gt} {fs : Ps → PR} {as : Ps → List ZV} {im : Gt → List Gt} {ok : Ps → Gt → ZS → Int → Prop}
theorem zits_at : ∀ (M : List Zi) {hi : Int} (i : Nat) {q : Zi}, zits o lo M hi → M[i]? = some q → ∃ m hi', lo ≤ m ∧ hi' ≤ hi ∧ zit o m hi' q
  | [], _, i, _, _, h => by cases h
  | q :: M, hi, 0, _, ⟨m, h1, h2, h3⟩, h => by
    cases h
    exact ⟨m, hi, zits_lo M h3, Int.le_refl _, h2⟩
  | q :: M, hi, i + 1, q', ⟨m, h1, h2, h3⟩, h => by
    obtain ⟨m', hi', w1, w2, w3⟩ := zits_at M i h3 h
    exact ⟨m', hi', w1, by omega, w3⟩
theorem zit_1 (h : zit o lo hi ([τ], x, y)) : lo ≤ x ∧ x < hi ∧ zch o (τ, zrt o τ) lo (x + 1) x ∧ o.1 6 x = -1 ∧ y = x := ⟨h.1.1, h.1.2.1, h.1.2.2.1, h.1.2.2.2.1, h.2⟩
theorem zit_y : ∀ (cs : List Gt) {lo x : Int}, cs ≠ [] → zrl o (zIm o cs) lo hi x → zla o (zIm o cs) x y → lo ≤ y ∧ y < hi
  | [], _, _, h, _, _ => absurd rfl h
  | [c], lo, x, _, h, h' => by
    have h' : y = x := h'
    obtain ⟨h1, h2, -⟩ := h
    omega
  | c :: c1 :: cs, lo, x, _, ⟨h1, h2, h3, h4⟩, h' => by
    have h' : zla o (zIm o (c1 :: cs)) (o.1 6 x) y := h'
    have := zit_y (c1 :: cs) (List.cons_ne_nil _ _) h4 h'
    omega
theorem zrl_app (h1 : ∀ i b, o.2.1 i b → o'.2.1 i b) (h2 : ∀ i b, o.2.2 i b → o'.2.2 i b) (hy : o'.1 6 y = z) (hz : zit o m hi ([τ], z, z)) : ∀ (cs : List Gt) {lo x : Int}, zeq o o' lo hi (fun j i => j = 6 ∧ i = y) → cs ≠ [] → zrl o (zIm o cs) lo m x → zla o (zIm o cs) x y → zrl o' (zIm o' (cs ++ [τ])) lo hi x ∧ zla o' (zIm o' (cs ++ [τ])) x z
  | [], _, _, _, h, _, _ => absurd rfl h
  | [c], lo, x, he, _, h, h' => by
    have h' : y = x := h'
    subst h'
    obtain ⟨q1, q2, q3, q4⟩ := h
    obtain ⟨z1, z2, z3, z4, -⟩ := zit_1 hz
    refine ⟨⟨q1, by omega, zch_k (zrt_k h1 h2 c) (zeq_mono he (by omega) (by omega) (fun _ _ _ _ w => w)) (Int.le_refl _) (Int.le_refl _) ⟨q1, by omega⟩ q3, ?_⟩, ?_⟩
    · rw [hy]
      refine ⟨by omega, z2, zch_k0 (zrt_k h1 h2 τ) (zeq_mono he (by omega) (by omega) (fun _ _ _ _ w => by have := w.2; omega)) (by omega) (Int.le_refl _) ⟨z1, by omega⟩ z3, ?_⟩
      refine ⟨?_, by omega⟩
      rw [he 6 z (by omega) (by omega) (fun w => by have := w.2; omega)]
      exact z4
    · show z = o'.1 6 y
      exact hy.symm
  | c :: c1 :: cs, lo, x, he, _, ⟨q1, q2, q3, q4⟩, h' => by
    have h' : zla o (zIm o (c1 :: cs)) (o.1 6 x) y := h'
    have hyb := zit_y (c1 :: cs) (List.cons_ne_nil _ _) q4 h'
    obtain ⟨z1, z2, z3, z4, -⟩ := zit_1 hz
    have e6 : o'.1 6 x = o.1 6 x := he 6 x (by omega) (by omega) (fun w => by have := w.2; omega)
    have ih := zrl_app h1 h2 hy hz (c1 :: cs) (zeq_mono he (by omega) (by omega) (fun _ _ _ _ w => w)) (List.cons_ne_nil _ _) q4 h'
    rw [← e6] at ih
    exact ⟨⟨q1, by omega, zch_k0 (zrt_k h1 h2 c) (zeq_mono he (by omega) (by omega) (fun _ _ _ _ w => by have := w.2; omega)) (Int.le_refl _) (Int.le_refl _) ⟨q1, by omega⟩ q3, ih.1⟩, ih.2⟩
/-- one cell of the nodes is written: 5 (three), 6 (next), 1 (where) -/
theorem ZZ_cell {j : Nat} {i : Int} {I' : List Zi} (hj : j = 1 ∨ j = 5 ∨ j = 6) (Z : ZZ t Γ S σ W (I, A, K) g) (hi : Γ.1.1 40 ≤ i) (hI : zits (zo (zset S (10 + j) (if j = 1 then i - S.1 41 else i) b) W) (Γ.1.1 40) I' (S.1 40)) : ZZ t Γ (zset S (10 + j) (if j = 1 then i - S.1 41 else i) b) σ W (I', A, K) g := by
  have hj10 : 10 + j ∈ [11, 15, 16] := by rcases hj with rfl | rfl | rfl <;> decide
  generalize hS : zset S (10 + j) (if j = 1 then i - S.1 41 else i) b = S1
  rw [hS] at hI
  have ag : zAg [] [11, 15, 16] S S1 := by rw [← hS]; exact zAg_set hj10 zAg_refl
  obtain ⟨⟨a1, a2, a3, a4, a5⟩, b1, c1, c2, c3, c4, c5, c6, c7⟩ := Z
  have e := fun f => ag.1 f (List.not_mem_nil)
  have ea := fun f (hf : f ∉ [11, 15, 16]) => ag.2.2.1 f hf
  have zs : zseq S S1 := ⟨by rw [e]; exact Int.le_refl _, fun _ _ => by rw [ea 9 (by decide)], by rw [e]; exact Int.le_refl _, fun _ _ => by rw [ea 17 (by decide), ea 18 (by decide)]; exact ⟨rfl, rfl⟩⟩
  have e41 := c7.1.1 41 (by decide)
  unfold ZZ Z1 Z2
  rw [e, e, e, e, e, e, e, e, e, e, e, e]
  refine ⟨⟨Lx_ag ag (by decide) (by decide) a1, ⟨NT_ag ag (by decide) (by decide) a2.1, a2.2⟩, TkC_re a3 ag (by decide) List.prefix_rfl (by rw [e]; exact Int.le_refl _) (fun i _ => by rw [ea 9 (by decide)]), TkM_re a4 ag (by decide) List.prefix_rfl (by rw [e]; exact Int.le_refl _) (fun i _ => by rw [ea 9 (by decide)]), a5⟩, b1, c1, zFc_k zs.2.2.1 zs.2.2.2 List.prefix_rfl c2, c3, hI, ⟨c5.1, c5.2.1, c5.2.2.1, zA_e (ea 19 (by decide)) c5.2.2.2.1, zB_e ⟨ea 20 (by decide), ea 21 (by decide), ea 22 (by decide)⟩ c5.2.2.2.2⟩, fun q z => zks_k zs List.prefix_rfl (c6 q z), ?_⟩
  obtain ⟨d1, d2, d3, d4, d5, d6, d7, d8, d9⟩ := c7
  refine ⟨zAg_trans d1 (zAg_mono ag (by decide) (by decide)), d2, by rw [e]; exact d3, fun j' w1 w2 w3 i' w4 => ?_, fun i' w4 => ?_, by rw [e]; exact d6, fun i' w => (zs.2.1 i' (by omega)).trans (d7 i' w), by rw [e]; exact d8, fun i' w => ⟨(zs.2.2.2 i' (by omega)).1.trans (d9 i' w).1, (zs.2.2.2 i' (by omega)).2.trans (d9 i' w).2⟩⟩
  · rw [← d4 j' w1 w2 w3 i' w4, ← hS, zset_3, if_neg]
    rintro ⟨w5, w6⟩
    rw [if_neg (by omega)] at w6
    omega
  · rw [← d5 i' w4, ← hS, zset_3, if_neg]
    rintro ⟨w5, w6⟩
    rw [if_pos (by omega)] at w6
    omega
theorem zcell_eq {j : Nat} {i : Int} (hj : j = 1 ∨ j = 5 ∨ j = 6) : zeq (zo S W) (zo (zset S (10 + j) (if j = 1 then i - S.1 41 else i) b) W) lo hi (fun j' i' => j' = j ∧ i' = i) := by
  intro j' i' _ _ w
  show (if 6 < j' then 0 else if 10 + j' = 10 + j ∧ (if j' = 1 then i' - S.1 41 else i') = (if j = 1 then i - S.1 41 else i) then b else S.2.2.1 (10 + j') (if j' = 1 then i' - S.1 41 else i')) = if 6 < j' then 0 else S.2.2.1 (10 + j') (if j' = 1 then i' - S.1 41 else i')
  by_cases h6 : 6 < j'
  · rw [if_pos h6, if_pos h6]
  rw [if_neg h6, if_neg h6, if_neg]
  rintro ⟨w1, w2⟩
  have : j' = j := by omega
  subst this
  refine w ⟨rfl, ?_⟩
  by_cases q : j' = 1
  · rw [if_pos q, if_pos q] at w2; omega
  · rw [if_neg q, if_neg q] at w2; exact w2
theorem zcell_at {j : Nat} {i : Int} (hj : j = 1 ∨ j = 5 ∨ j = 6) : (zo (zset S (10 + j) (if j = 1 then i - S.1 41 else i) b) W).1 j i = b := by
  show (if 6 < j then 0 else if 10 + j = 10 + j ∧ (if j = 1 then i - S.1 41 else i) = (if j = 1 then i - S.1 41 else i) then b else _) = _
  rw [if_neg (by omega), if_pos ⟨rfl, rfl⟩]
theorem zcell_2 {j : Nat} {i : Int} (hj : j = 1 ∨ j = 5 ∨ j = 6) : (zo (zset S (10 + j) i b) W).2 = (zo S W).2 := zo_2 rfl (by funext k; rw [zset_3, if_neg (by omega)])
/-- a row gets one more -/
theorem zW_appX {k : ZS → ZR ZS} (Z : ZZ t Γ S σ W (([τ], z, z) :: (cs, x, y) :: I, A, K) g) (hc : cs ≠ []) (hg : g ≤ 185) (hk : ∀ S1, (S1.2.2.1 11 = S.2.2.1 11 ∧ S1.1 = S.1) → S1.2.2.1 16 y = z → (0 ≤ y ∧ y < 84000) → ZZ t Γ S1 σ W ((cs ++ [τ], x, z) :: I, A, K) g → zW (k S1) Q) : zW (zs S 16 84000 y z k) Q := by
  obtain ⟨m1, m2, m3, m0, m4, m5, m6⟩ := Z.2.2.2.2.2.1
  have y1 : m0 ≤ y ∧ y < m1 := zit_y cs hc m5.1 m5.2
  have l0 := zits_lo I m6
  have h40 := (ZZ_40 Z hg).1
  have h41 : 0 ≤ S.1 41 ∧ S.1 41 ≤ Γ.1.1 40 := ⟨Z.2.1.2.2.2.2.2.1, Z.2.2.2.2.1.1⟩
  have hb : 0 ≤ y ∧ y < 84000 := by omega
  refine zW_st hb (hk _ ⟨by funext k; rw [zset_3, if_neg (fun w => absurd w.1 (by decide))], rfl⟩ ?_ hb ?_)
  · show (if _ then z else _) = z
    rw [if_pos ⟨rfl, rfl⟩]
  refine ZZ_cell (j := 6) (i := y) (Or.inr (Or.inr rfl)) Z (by omega) ?_
  have o2 : (zo (zset S 16 y z) W).2 = (zo S W).2 := zcell_2 (j := 6) (Or.inr (Or.inr rfl))
  have ze : ∀ lo hi, zeq (zo S W) (zo (zset S 16 y z) W) lo hi (fun j' i' => j' = 6 ∧ i' = y) := fun lo hi => zcell_eq (j := 6) (i := y) (Or.inr (Or.inr rfl))
  have h1 : ∀ i b, (zo S W).2.1 i b → (zo (zset S 16 y z) W).2.1 i b := fun i b w => by rw [o2]; exact w
  have h2 : ∀ i b, (zo S W).2.2 i b → (zo (zset S 16 y z) W).2.2 i b := fun i b w => by rw [o2]; exact w
  exact ⟨m0, by omega, zrl_app h1 h2 (zcell_at (j := 6) (i := y) (Or.inr (Or.inr rfl))) m3 cs (ze _ _) hc m5.1 m5.2, zits_k h1 h2 I (zeq_mono (ze (Γ.1.1 40) m0) (Int.le_refl _) (Int.le_refl _) (fun _ _ _ _ w => by have := w.2; omega)) (Int.le_refl _) m6⟩
theorem zW_appR {k : ZS → ZR ZS} (Z : ZZ t Γ S σ W (([τ], z, z) :: (cs, x, y) :: I, A, K) g) (hc : cs ≠ []) (hg : g ≤ 185) (hk : ∀ S1, S1.2.2.1 16 y = z → (0 ≤ y ∧ y < 84000) → ZZ t Γ S1 σ W ((cs ++ [τ], x, z) :: I, A, K) g → zW (k S1) Q) : zW (zs S 16 84000 y z k) Q := zW_appX Z hc hg (fun S1 _ e hb Z1 => hk S1 e hb Z1)
theorem hq_sb {p : List (List Int)} {i : Nat} (hi : 1 ≤ i) : hq ((b :: (p.getD 0 []).drop 1) :: p.drop 1) i = hq p i := by
  obtain ⟨i, rfl⟩ : ∃ j, i = j + 1 := ⟨i - 1, by omega⟩
  show (b :: (p.getD 0 []).drop 1).getD (i + 1) 0 = (p.getD 0 []).getD (i + 1) 0
  rw [List.getD_cons_succ, List.getD_eq_getElem?_getD, List.getElem?_drop, Nat.add_comm 1 i, ← List.getD_eq_getElem?_getD]
theorem gp_sb {p : List (List Int)} {i : Nat} {l : List Int} (hi : 1 ≤ i) : (l :: p.drop 1).getD i [] = p.getD i [] := by
  obtain ⟨i, rfl⟩ : ∃ j, i = j + 1 := ⟨i - 1, by omega⟩
  rw [List.getD_cons_succ, List.getD_eq_getElem?_getD, List.getElem?_drop, Nat.add_comm 1 i, ← List.getD_eq_getElem?_getD]
theorem zfv_sb {v : Int} {p : List (List Int)} {sl : List Gt} {q : Nat × Nat} (hq' : q.1 ≤ 2 ∨ 6 ≤ q.1 → 1 ≤ q.2) (h : zfv o v p sl q) : zfv o v ((b :: (p.getD 0 []).drop 1) :: p.drop 1) sl q := by
  obtain ⟨κ, i⟩ := q
  match κ with
  | 0 => show v = hq _ i; rw [hq_sb (hq' (Or.inl (by decide : 0 ≤ 2)))]; exact h
  | 1 => show o.2.2 v _; rw [gp_sb (hq' (Or.inl (by decide : 1 ≤ 2)))]; exact h
  | 2 => show zlbl o v _; rw [gp_sb (hq' (Or.inl (by decide : 2 ≤ 2)))]; exact h
  | 3 => show o.2.1 v _; rw [gp_sb (Nat.le_refl 1)]; exact h
  | 4 => exact h
  | 5 => exact h
  | κ + 6 => show v = -1 - hq _ i; rw [hq_sb (hq' (Or.inr (Nat.le_add_left ..)))]; exact h
/-- where a tree is said to stand is changed -/
theorem zrt_gsb {a : Int} (h1 : ∀ i b, o.2.1 i b → o'.2.1 i b) (h2 : ∀ i b, o.2.2 i b → o'.2.2 i b) (hok : okZ τ) (he : zeq o o' lo hi fun j i => j = 1 ∧ i = a) (hb : o'.1 1 a = b) (h : zrt o τ lo hi a) : zrt o' (gsb b τ) lo hi a := by
  cases τ with
  | leaf p => exact h.elim
  | branch k l r =>
    have hk := ktab_wh k hok (gsp r).isEmpty
    rw [zrt_br] at h
    show zrt o' (gn k ((b :: ((gpl l).getD 0 []).drop 1) :: (gpl l).drop 1) (gsp r)) lo hi a
    rw [zrt_gn]
    have h : zrtA o k (gpl l) (zIm o (gsp r)) lo hi a := h
    show zrtA o' k _ (zIm o' (gsp r)) lo hi a
    generalize gsp r = s at h hk
    generalize gpl l = p at h
    obtain ⟨k0, k63, k53, k54, k80, -, ht⟩ := hk
    have ih := fun c (_ : c ∈ s) => zrt_k h1 h2 c
    unfold zrtA at h ⊢
    rw [if_neg (by omega)] at h ⊢
    obtain ⟨g1, g2, h⟩ := h
    refine ⟨g1, g2, ?_⟩
    unfold zrtB at h ⊢
    by_cases k6 : k = 6
    · rw [if_pos k6] at h ⊢
      cases s with
      | nil => exact h
      | cons f xs =>
        obtain ⟨w1, w2, g, w3, w4, w5, w6, w7⟩ := h
        exact ⟨zIm_ne.mpr (zIm_ne.mp w1), hb, g, w3, w4, w5, zrt_k h1 h2 f _ _ _ _ _ (zeq_mono he (by omega) (by omega) (fun _ _ _ _ w => by have := w.2; omega)) (Int.le_refl _) (by omega) w6, zapf_k (lo := lo) (zeq_mono he (by omega) (by omega) (fun j i _ _ w => ⟨w.2, by have := w.1; omega⟩)) xs (fun c w => ih c (List.mem_cons_of_mem _ w)) w3 w7⟩
    rw [if_neg k6, if_neg k53, if_neg k54, if_neg k80] at h ⊢
    by_cases k38 : k = 38 ∨ k = 78
    · rw [if_pos k38] at h ⊢
      obtain ⟨w1, w2, w3⟩ := h
      refine ⟨by rw [he 0 a g1 g2 (fun w => by have := w.1; omega)]; exact w1, fun _ => hb, ?_⟩
      rcases w3 with w3 | w3
      · exact Or.inl (zpts_k (lo := lo) ih (zeq_mono he (by omega) (by omega) (fun _ _ _ _ w => ⟨Or.inr w.1, w.2⟩)) _ (by decide) (by omega) (by omega) g1 w3)
      · exact Or.inr (zpts_k (lo := lo) ih (zeq_mono he (by omega) (by omega) (fun _ _ _ _ w => ⟨Or.inr w.1, w.2⟩)) _ (by decide) (by omega) (by omega) g1 w3)
    rw [if_neg k38] at h ⊢
    rw [zIm_em, zIm_fst] at h ⊢
    obtain ⟨w1, w2, w3⟩ := h
    have t5 := ztab_5 k s.isEmpty
    refine ⟨by rw [he 0 a g1 g2 (fun w => by have := w.1; omega)]; exact w1, fun q w => ?_, zpts_k (lo := lo) ih (zeq_mono he (by omega) (by omega) (fun _ _ _ _ w => ⟨Or.inr w.1, w.2⟩)) _ t5.2 (by omega) (by omega) g1 w3⟩
    rcases ht q w with z | z
    · rw [z]
      show o'.1 1 a = b
      exact hb
    · rw [he q.1 a g1 g2 (fun w => z.1 w.1)]
      exact zfv_sb z.2 (zfv_k h1 h2 (w2 q w))
theorem gsb_k : gk (gsb b τ) = gk τ := rfl
theorem zW_gsbZ {k : ZS → ZR ZS} (Z : ZZ t Γ S σ W (([τ], x, y) :: I, A, K) g) (hok : okZ τ) (hg : g ≤ 185) (hk : ∀ S1, ZZ t Γ S1 σ W (([gsb b τ], x, x) :: I, A, K) g → zW (k S1) Q) : zW (zs S 11 4200 (x - S.1 41) b k) Q := by
  obtain ⟨m0, m1, m2, m3⟩ := Z.2.2.2.2.2.1
  obtain ⟨z1, z2, z3, z4, z5⟩ := zit_1 m2
  have l0 := zits_lo I m3
  have h40 := ZZ_40 Z hg
  have h41 : 0 ≤ S.1 41 ∧ S.1 41 ≤ Γ.1.1 40 := ⟨Z.2.1.2.2.2.2.2.1, Z.2.2.2.2.1.1⟩
  refine zW_st (by omega) (hk _ ?_)
  refine ZZ_cell (j := 1) (i := x) (Or.inl rfl) Z (by omega) ?_
  have o2 : (zo (zset S 11 (x - S.1 41) b) W).2 = (zo S W).2 := zcell_2 (j := 1) (Or.inl rfl)
  have ze : ∀ lo hi, zeq (zo S W) (zo (zset S 11 (x - S.1 41) b) W) lo hi (fun j' i' => j' = 1 ∧ i' = x) := fun lo hi => zcell_eq (j := 1) (i := x) (Or.inl rfl)
  have h1 : ∀ i c, (zo S W).2.1 i c → (zo (zset S 11 (x - S.1 41) b) W).2.1 i c := fun i c w => by rw [o2]; exact w
  have h2 : ∀ i c, (zo S W).2.2 i c → (zo (zset S 11 (x - S.1 41) b) W).2.2 i c := fun i c w => by rw [o2]; exact w
  have hat : (zo (zset S 11 (x - S.1 41) b) W).1 1 x = b := zcell_at (j := 1) (i := x) (Or.inl rfl)
  obtain ⟨c1, c2, c3⟩ := z3
  refine ⟨m0, m1, ⟨⟨z1, z2, ⟨c1, zrt_gsb h1 h2 hok (ze _ _) hat c2, fun w => ?_⟩, ?_, ?_⟩, rfl⟩, zits_k h1 h2 I (zeq_mono (ze (Γ.1.1 40) m0) (Int.le_refl _) (Int.le_refl _) (fun _ _ _ _ w => by have := w.2; omega)) (Int.le_refl _) m3⟩
  · exact (ze x (x + 1) 5 x (by omega) (by omega) (fun w => by have := w.1; omega)).trans (c3 w)
  · exact (ze x (x + 1) 6 x (by omega) (by omega) (fun w => by have := w.1; omega)).trans z4
  · show x + 1 ≤ S.1 40; omega
/-- where a part stands -/
theorem zW_whA {k : Int → ZR ZS} {q : Zi} (i : Nat) (Z : ZZ t Γ S σ W M g) (hg : g ≤ 185) (hi : M.1[i]? = some q) (hc : q.1 ≠ []) (hx : q.2.1 = x) (hk : ∀ v, zW (k v) Q) : zW (za S 11 4200 (x - S.1 41) k) Q := by
  obtain ⟨m, hi', w1, w2, w3, w4⟩ := zits_at M.1 i Z.2.2.2.2.2.1 hi
  have h40 := ZZ_40 Z hg
  have h41 : 0 ≤ S.1 41 ∧ S.1 41 ≤ Γ.1.1 40 := ⟨Z.2.1.2.2.2.2.2.1, Z.2.2.2.2.1.1⟩
  have hb : m ≤ x ∧ x < hi' := by
    rw [← hx]
    cases e : q.1 with
    | nil => exact absurd e hc
    | cons c cs =>
      rw [e] at w3
      exact ⟨w3.1, w3.2.1⟩
  exact zW_a (by omega) (hk _)
theorem zwh_at (i : Nat) (Z : ZZ t Γ S σ W M g) (hi : M.1[i]? = some ([τ], x, y)) (hok : okZ τ) : S.2.2.1 11 (x - S.1 41) = gbg τ := by
  obtain ⟨m, hi', w1, w2, w3⟩ := zits_at M.1 i Z.2.2.2.2.2.1 hi
  obtain ⟨z1, z2, ⟨z3, z4, -⟩, -⟩ := zit_1 w3
  have h0 : (zo S W).1 1 x = gbg τ := by
    cases τ with
    | leaf p => exact z4.elim
    | branch k l r =>
      have hk := ktab_wh k hok (gsp r).isEmpty
      rw [zrt_br] at z4
      have h : zrtA (zo S W) k (gpl l) (zIm (zo S W) (gsp r)) m (x + 1) x := z4
      show _ = hq (gpl l) 0
      obtain ⟨k0, k63, k53, k54, k80, h6, -⟩ := hk
      unfold zrtA at h
      rw [if_neg (by omega)] at h
      replace h := h.2.2
      unfold zrtB at h
      by_cases k6 : k = 6
      · rw [if_pos k6] at h
        generalize gsp r = s at h
        cases s with
        | nil => exact h.elim
        | cons f xs => exact h.2.1
      · rw [if_neg k6, if_neg k53, if_neg k54, if_neg k80] at h
        by_cases k38 : k = 38 ∨ k = 78
        · rw [if_pos k38] at h
          exact h.2.1 (k38.resolve_right (fun z => by have hok : k ∈ kEx ++ kPa := hok; rw [z] at hok; revert hok; decide))
        · rw [if_neg k38, zIm_em] at h
          exact h.2.1 _ (h6 k6)
  exact h0
theorem zW_whZ {k : Int → ZR ZS} (i : Nat) (Z : ZZ t Γ S σ W M g) (hg : g ≤ 185) (hi : M.1[i]? = some ([τ], x, y)) (hok : okZ τ) (hk : zW (k (gbg τ)) Q) : zW (za S 11 4200 (x - S.1 41) k) Q := by
  obtain ⟨m, hi', w1, w2, w3⟩ := zits_at M.1 i Z.2.2.2.2.2.1 hi
  obtain ⟨z1, z2, ⟨z3, z4, -⟩, -⟩ := zit_1 w3
  have h40 := ZZ_40 Z hg
  have h41 : 0 ≤ S.1 41 ∧ S.1 41 ≤ Γ.1.1 40 := ⟨Z.2.1.2.2.2.2.2.1, Z.2.2.2.2.1.1⟩
  refine zW_a (by omega) ?_
  rw [zwh_at i Z hi hok]
  exact hk
/-- a call of a part of the grammar -/
theorem zW_subR {kk : Int → ZS → ZR ZS} {fK : Gt → Ps → PR} {as' : List ZV} (ih : ZCf t fs tag as lev im ok) (hd : dep t σ + lev + 1 ≤ d) (Z : ZZ t Γ S σ W M g) (hg : g ≤ 150) (ha : as' = as σ) (he : pB (fs σ) fK = some r) (her : ∀ e p S', r = .inl (e, p) → ThZ t Γ S' e p → Q none S') (hk : ∀ τ σ1 S1 W1 a y, ZZ t Γ S1 σ1 W1 ((im τ, a, y) :: M.1, M.2) (g - 2) → ok σ τ S1 a → Qx t 0 1 σ σ1 → fK τ σ1 = some r → zW (kk a S1) Q) : zW (zI (zc ZL d tag as' S) kk) Q := by
  obtain ⟨d, rfl⟩ : ∃ e, d = e + 1 := ⟨d - 1, by omega⟩
  subst ha
  obtain ⟨q, hq, h1, h2⟩ := pB_e he
  exact zW_I (P := fun v S' => zW (kk v S') Q) (T := fun S' => Q none S') (zW_c (ih Γ S σ W M g d _ q Z hg (by omega) hq (fun e p S' w T => her e p S' (h1 _ w) T) (fun τ σ1 S1 W1 a y w Z1 o1 q1 => hk τ σ1 S1 W1 a y Z1 o1 q1 (h2 _ _ w)))) (fun _ _ q => q) (fun _ q => q)
theorem zW_subZ {kk : Int → ZS → ZR ZS} {fK : Gt → Ps → PR} {as' : List ZV} (ih : ZCf t fs tag as lev (fun τ => [τ]) ok) (hd : dep t σ + lev + 1 ≤ d) (Z : ZZ t Γ S σ W M g) (hg : g ≤ 150) (ha : as' = as σ) (he : pB (fs σ) fK = some r) (her : ∀ e p S', r = .inl (e, p) → ThZ t Γ S' e p → Q none S') (hk : ∀ τ σ1 S1 W1 a, ZZ t Γ S1 σ1 W1 (([τ], a, a) :: M.1, M.2) (g - 2) → ok σ τ S1 a → Qx t 0 1 σ σ1 → fK τ σ1 = some r → zW (kk a S1) Q) : zW (zI (zc ZL d tag as' S) kk) Q := by
  refine zW_subR ih hd Z hg ha he her (fun τ σ1 S1 W1 a y Z1 o1 q1 e1 => ?_)
  obtain ⟨m, m1, m2, m3⟩ := Z1.2.2.2.2.2.1
  have hy : y = a := m2.2
  subst hy
  exact hk τ σ1 S1 W1 y Z1 o1 q1 e1
end ZRow
