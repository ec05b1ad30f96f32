set_option maxRecDepth 100000
/-! THE REFERENCE'S PARSER: clauses, functions -/
/-- a clause behind its patterns -/
def gCl (t : List Int) (R : PX) (q : Nat) (b : List Int) (l : List Gt) (σ : Ps) : PR := pB (if pIs σ 38 then pT (pPass t σ) fun σ5 => pB (R 30 [] [] σ5) fun y σ6 => pR (gl [y]) σ6 else pR (gl []) σ) fun ys σ7 => pNeed t 40 σ7 fun σ8 => pB (R 0 [] [] σ8) fun e σ9 => pR (gn 80 [[(q : Int)], b] (gl l :: e :: gs ys)) σ9
abbrev okC : Ps → Gt → ZS → Int → Prop := fun σ τ S a => gk τ = 80 ∧ S.2.2.1 11 (a - S.1 41) = ((pc σ).2.1 : Int)
def ZL789 (t : List Int) (R : PX) (fs : Ps → PR) : Prop :=
  ∀ (Γ : Zg) (S : ZS) (σ : Ps) (W : List (List Int)) (cs : List Gt) (x y x1 x4 : Int) (q : Nat) (b : List Int) (I : List Zi) (A : List Int × List (Int × Int × Int)) (K : List Zk) (g : Int) (d : Nat) (Q : Option (Option ZV) → ZS → Prop) (r : (Int × Nat) ⊕ (Gt × Ps)), ZZ t Γ S σ W ((cs, x, y) :: I, A, kN x4 b :: K) g → cs ≠ [] → g ≤ 150 → dep t σ + 9 ≤ d → pB (if tAtP (pF σ) (pc σ) then fs σ else pR (gl []) σ) (fun l σ2 => gCl t R q b (cs ++ gs l) σ2) = some r →
    (∀ e p S', r = .inl (e, p) → ThZ t Γ S' e p → Q none S') →
    (∀ τ σ1 S1 W1 a, r = .inr (τ, σ1) → ZZ t Γ S1 σ1 W1 (([τ], a, a) :: I, A, K) g → gk τ = 80 → S1.2.2.1 11 (a - S1.1 41) = x1 → Qx t 0 0 σ σ1 → Q (some (some (.inl a))) S1) → zW (ZL d 789 [.inl x1, .inl x4, .inl (q : Int), .inl x, .inl y] S) Q
section ZCla
variable {t : List Int} {Γ : Zg} {S S' S1 : ZS} {σ σ1 : Ps} {W W' W1 : List (List Int)} {M : Zm} {g g' G : Int} {d n tag m : Nat} {Q : Option (Option ZV) → ZS → Prop} {r : (Int × Nat) ⊕ (Gt × Ps)} {I J : List Zi} {A A' : List Int × List (Int × Int × Int)} {K K' : List Zk} {cs cs2 ps : List Gt} {x y z p x2 c y2 m0 : Int} {q : Nat} {b : List Int} {τ : Gt} {R R' R0 : PX} {o o' : ZO} {lo hi : Int} {F : Fx}
theorem ZZ_base (Z : ZZ t Γ S σ W (I, A, K) g) : ZZ t (S, W) S σ W ([], A, K) g := by
  obtain ⟨a, b, c1, c2, c3, c4, c5, c6, c7⟩ := Z
  exact ⟨a, b, c1, c2, ⟨Int.le_trans c3.1 c7.2.2.1, c3.2⟩, Int.le_refl _, c5, c6, Zmo_refl⟩
theorem zeq_mo (h : Zmo (S, W) S1 W1) : zeq (zo S W) (zo S1 W1) lo (S.1 40) zE0 := by
  intro j i _ hi _
  obtain ⟨a1, a2, a3, a4, a5, -⟩ := h
  have e41 : S1.1 41 = S.1 41 := a1.1 41 (by decide)
  show (if 6 < j then 0 else S1.2.2.1 (10 + j) (if j = 1 then i - S1.1 41 else i)) = if 6 < j then 0 else S.2.2.1 (10 + j) (if j = 1 then i - S.1 41 else i)
  by_cases h6 : 6 < j
  · rw [if_pos h6, if_pos h6]
  rw [if_neg h6, if_neg h6, e41]
  by_cases h1 : j = 1
  · subst h1
    rw [if_pos rfl]
    exact a5 _ (by show i - S.1 41 < S.1 40 - S.1 41; omega)
  · rw [if_neg h1]
    exact a4 _ (by omega) (by omega) (by omega) i hi
theorem ZZ_reb (Z : ZZ t Γ S σ W (I, A, K) g) (Z1 : ZZ t (S, W) S1 σ1 W1 (J, A', K') g') : ZZ t Γ S1 σ1 W1 (J ++ I, A', K') g' := by
  obtain ⟨a, b, c1, c2, c3, c4, c5, c6, c7⟩ := Z1
  have h4 := Z.2.2.2.2.2.1
  have h7 := Z.2.2.2.2.2.2.2.2
  have e41 : S1.1 41 = S.1 41 := c7.1.1 41 (by decide)
  refine ⟨a, b, c1, c2, ⟨by rw [e41]; exact Z.2.2.2.2.1.1, c3.2⟩, ?_, c5, c6, Zmo_trans h7 c7⟩
  have k1 : ∀ i b, (zo S W).2.1 i b → (zo S1 W1).2.1 i b := fun i b => zstr_pre c7.2.2.2.2.2.1 c7.2.2.2.2.2.2.1
  have k2 : ∀ i b, (zo S W).2.2 i b → (zo S1 W1).2.2 i b := fun i b => zname_pre c7.2.1
  have base : ∀ h, S.1 40 ≤ h → zits (zo S1 W1) (Γ.1.1 40) I h := fun h hh => zits_k k1 k2 I (zeq_mo c7) hh h4
  have go : ∀ (J : List Zi) {h : Int}, zits (zo S1 W1) (S.1 40) J h → zits (zo S1 W1) (Γ.1.1 40) (J ++ I) h := by
    intro J
    induction J with
    | nil => intro h w; exact base h w
    | cons q J ih =>
      rintro h ⟨m, m1, m2, m3⟩
      exact ⟨m, m1, m2, ih m3⟩
  exact go J c4
/-- the same place yet -/
theorem zwh_mo (h : Zmo (S, W) S1 W1) (hx : x < S.1 40) : S1.2.2.1 11 (x - S1.1 41) = S.2.2.1 11 (x - S.1 41) := by
  have e41 : S1.1 41 = S.1 41 := h.1.1 41 (by decide)
  rw [e41]
  exact h.2.2.2.2.1 _ (by show x - S.1 41 < S.1 40 - S.1 41; omega)
theorem zr_cl716 {x1 x4 x6 y6 : Int} (h30 : ZCf t (R 30 [] []) 69 noA 4 one okA) (h0 : ZCf t (R 0 [] []) 82 noA 10 one okEz) (hd : dep t σ + 9 ≤ d) (Z : ZZ t Γ S σ W ((ps, x6, y6) :: I, A, kN x4 b :: K) g) (hg : g ≤ 150) (he : gCl t R q b ps σ = some r) (her : ∀ e p S', r = .inl (e, p) → ThZ t Γ S' e p → Q none S') (hk : ∀ τ σ1 S1 W1 a, r = .inr (τ, σ1) → ZZ t Γ S1 σ1 W1 (([τ], a, a) :: I, A, K) g → gk τ = 80 → S1.2.2.1 11 (a - S1.1 41) = x1 → Qx t 0 0 σ σ1 → Q (some (some (.inl a))) S1) : zW (ZL d 716 [.inl x1, .inl x4, .inl (q : Int), .inl x6] S) Q := by
  have d40 := dep_40z Z
  unfold gCl at he
  refine zl_clause_p191 ?_
  unfold zb_clause_p191
  have fin : ∀ (ys : Gt) σ7 S7 W7 x7 y7, ZZ t Γ S7 σ7 W7 ((gs ys, x7, y7) :: (ps, x6, y6) :: I, A, kN x4 b :: K) g → Qx t 0 0 σ σ7 → (pNeed t 40 σ7 fun σ8 => pB (R 0 [] [] σ8) fun e σ9 => pR (gn 80 [[(q : Int)], b] (gl ps :: e :: gs ys)) σ9) = some r → zW (ZL d 788 [.inl x1, .inl x4, .inl (q : Int), .inl x6, .inl x7] S7) Q := by
    intro ys σ7 S7 W7 x7 y7 Z7 q7 he
    have dl7 := dep_le q7
    refine zl_clause_p208 ?_
    unfold zb_clause_p208
    refine zW_let (zW_needZ 40 (by decide) (by omega) Z7 (by omega) he her (fun _ σ8 S8 W8 Z8 p8 he => ?_))
    have q8 := Qx_to (Qx_t q7 (Qx_p p8)) (k' := 0) (m' := 1) (by omega) (by omega)
    have dl8 := dep_le q8
    refine zW_subZ h0 (by omega) Z8 (by omega) rfl he her (fun e σ9 S9 W9 x8 Z9 _ q9 he => zW_let ?_)
    have q9 := Qx_to (Qx_t q8 q9) (k' := 0) (m' := 0) (by omega) (by omega)
    have Z9 : ZZ t Γ S9 σ9 W9 (([e], x8, x8) :: (gs ys, x7, y7) :: (ps, x6, y6) :: I, A, kN x4 b :: K) (g - 4 - 2) := Z9
    obtain ⟨hn, Z9⟩ := zK_t Z9
    obtain ⟨d, rfl⟩ : ∃ e, d = e + 1 := ⟨d - 1, by omega⟩
    have h40 := ZZ_40 Z9 (by omega)
    refine zW_Ie (z_node h40.1 h40.2) (zW_let ?_)
    have Zg := ZZ_gar (v := zav 0 (q : Int) 0 x7 0 0) Z9
    have h40' := ZZ_40 Zg (by omega)
    refine zW_Ie (z_node h40'.1 h40'.2) (zW_rI ?_)
    generalize hS2 : zmk S9 (zav 0 (q : Int) 0 x7 0 0) = S2 at Zg h40'
    have e240 : S2.1 40 = S9.1 40 + 1 := by rw [← hS2]; rfl
    have a0 : ∀ j, j ≤ 6 → (zo S2 W9).1 j (S9.1 40) = zav 0 (q : Int) 0 x7 0 0 j := fun j hj => by rw [← hS2]; exact zmk_at hj
    have l0 : ∀ j i, i < S9.1 40 → (zo S2 W9).1 j i = (zo S9 W9).1 j i := fun j i hi => by rw [← hS2]; exact zmk_lt hi
    have o20 : (zo S2 W9).2 = (zo S9 W9).2 := by rw [← hS2]; exact zo_2 rfl rfl
    have o23 : (zo (zmk S2 (zav 80 x1 x4 x6 x8 (S9.1 40))) W9).2 = (zo S9 W9).2 := (zo_2 (S := S2) rfl rfl).trans o20
    have a8 : ∀ j, j ≤ 6 → (zo (zmk S2 (zav 80 x1 x4 x6 x8 (S9.1 40))) W9).1 j (S2.1 40) = zav 80 x1 x4 x6 x8 (S9.1 40) j := fun j hj => zmk_at hj
    have l8 : ∀ j i, i < S2.1 40 → (zo (zmk S2 (zav 80 x1 x4 x6 x8 (S9.1 40))) W9).1 j i = (zo S2 W9).1 j i := fun j i hi => zmk_lt hi
    have k1 : ∀ i b, (zo S9 W9).2.1 i b → (zo (zmk S2 (zav 80 x1 x4 x6 x8 (S9.1 40))) W9).2.1 i b := fun i b w => by rw [o23]; exact w
    have k2 : ∀ i b, (zo S9 W9).2.2 i b → (zo (zmk S2 (zav 80 x1 x4 x6 x8 (S9.1 40))) W9).2.2 i b := fun i b w => by rw [o23]; exact w
    have ze : ∀ lo, zeq (zo S9 W9) (zo (zmk S2 (zav 80 x1 x4 x6 x8 (S9.1 40))) W9) lo (S9.1 40) zE0 := fun lo j i _ hi _ => (l8 j i (by omega)).trans (l0 j i hi)
    obtain ⟨m0, w0, w1, w2⟩ := zits_seg (o := zo S9 W9) (M := I) [(ps, x6, y6), (gs ys, x7, y7), ([e], x8, x8)] Z9.2.2.2.2.2.1
    have w2 := zseg_k k1 k2 _ (ze m0) w2
    generalize hS3 : zmk S2 (zav 80 x1 x4 x6 x8 (S9.1 40)) = S3 at *
    obtain ⟨m1, n1, n2, m2, n3, n4, m3, n5, n6, n7⟩ := w2
    have n7 : m3 ≤ S9.1 40 := n7
    obtain ⟨b1, b2, b3, b4, -⟩ := zit_1 n6
    have f5 : (zo S3 W9).1 5 (S2.1 40) = S9.1 40 := a8 5 (by omega)
    have f3 : (zo S3 W9).1 3 (S2.1 40) = x6 := a8 3 (by omega)
    have f4 : (zo S3 W9).1 4 (S2.1 40) = x8 := a8 4 (by omega)
    have g1 : (zo S3 W9).1 1 (S9.1 40) = (q : Int) := (l8 1 _ (by omega)).trans (a0 1 (by omega))
    have g3 : (zo S3 W9).1 3 (S9.1 40) = x7 := (l8 3 _ (by omega)).trans (a0 3 (by omega))
    have hz : zrt (zo S3 W9) (gn 80 [[(q : Int)], b] (gl ps :: e :: gs ys)) m0 (S2.1 40 + 1) (S2.1 40) := by
      rw [zrt_gn]
      show zrtA _ 80 _ (zIm _ (gl ps :: e :: gs ys)) m0 (S2.1 40 + 1) (S2.1 40)
      unfold zrtA zrtB
      rw [if_neg (by decide), if_neg (by decide), if_neg (by decide), if_neg (by decide), if_pos rfl, f5, f3, f4, g1, g3]
      refine ⟨by omega, by omega, a8 0 (by omega), ?_, by omega, rfl, m1, m2, n1, n3, (zrt_row (p := []) (k := 0) (Or.inl rfl)).mpr n2.1, n4.1, b1, by omega, zch_k0 (zrt_k (fun _ _ w => w) (fun _ _ w => w) e) (fun _ _ _ _ _ => rfl) (Int.le_refl _) (Int.le_refl _) ⟨b1, by omega⟩ b3⟩
      rw [a8 2 (by omega), o23]
      exact hn
    have hI : zits (zo S3 W9) (Γ.1.1 40) (([gn 80 [[(q : Int)], b] (gl ps :: e :: gs ys)], S2.1 40, S2.1 40) :: I) (S2.1 40 + 1) := by
      refine ⟨m0, by omega, ⟨⟨by show m0 ≤ S2.1 40; omega, by show S2.1 40 < S2.1 40 + 1; omega, ⟨⟨by show 80 ≠ 0; decide, by show 80 ≠ 63; decide⟩, hz, fun w => absurd w (by show ¬ 80 = 6; decide)⟩, a8 6 (by omega), by show S2.1 40 + 1 ≤ S2.1 40 + 1; omega⟩, rfl⟩, zits_k k1 k2 I (zeq_mono (ze (Γ.1.1 40)) (Int.le_refl _) w0 (fun _ _ _ _ w => w)) (Int.le_refl _) w1⟩
    have Zf : ZZ t Γ S3 σ9 W9 (([gn 80 [[(q : Int)], b] (gl ps :: e :: gs ys)], S2.1 40, S2.1 40) :: I, A, K) (g - 4 - 2 + 1 + 1) := by
      have := ZZ_mkI (v := zav 80 x1 x4 x6 x8 (S9.1 40)) (I' := ([gn 80 [[(q : Int)], b] (gl ps :: e :: gs ys)], S2.1 40, S2.1 40) :: I) Zg (by rw [hS3]; exact hI)
      rw [hS3] at this
      exact this
    exact hk _ σ9 S3 W9 _ (Option.some.inj he).symm (ZZ_mono Zf (by omega)) rfl (a8 1 (by omega)) q9
  simp only [pB_pT, pB_ite, pB_pR, pB_ass, gs_gl] at he
  refine zW_hasZ 38 (by decide) (by omega) Z (by omega) he her (fun _ he => zW_t rfl (fin (gl []) σ S W (-1) (-1) (by rw [gs_gl]; exact ZZ_e Z) Qx_0 (by rw [gs_gl]; exact he))) (fun _ σ1 S1 W1 Z1 p1 he => zW_f (by decide) ?_)
  have q1 := Qx_p p1
  have dl1 := dep_le q1
  exact zW_subZ h30 (by omega) Z1 (by omega) rfl he her (fun y σ3 S3 W3 a Z3 _ q3 he => fin (gl [y]) σ3 S3 W3 a a (by rw [gs_gl]; exact ZZ_mono Z3 (by omega)) (Qx_to (Qx_t q1 q3) (by omega) (by omega)) (by rw [gs_gl]; exact he))
theorem zr_patsL (h25 : ZCf t (R 25 [] []) 63 noA 1 one okP) (hL : ZL789 t R0 (R 46 [] [])) (h30 : ZCf t (R0 30 [] []) 69 noA 4 one okA) (h0 : ZCf t (R0 0 [] []) 82 noA 10 one okEz) : ZL789 t R0 (gPats R) := by
  intro Γ S σ W cs x y x1 x4 q b I A K g d Q r Z hc hg hd he her hk
  have d40 := dep_40z Z
  obtain ⟨d, rfl⟩ : ∃ e, d = e + 5 := ⟨d - 5, by omega⟩
  refine zl_clause_p107 ?_
  unfold zb_clause_p107
  refine zW_tst (d := d + 4) (z_begAtP (d := d) Z) (fun w => zW_f (by decide) ?_) (fun w => zW_t rfl ?_)
  · rw [if_pos w] at he
    have he : pB (R 25 [] [] σ) (fun p σ1 => pB (if tAtP (pF σ1) (pc σ1) then R 46 [] [] σ1 else pR (gl []) σ1) (fun l σ2 => gCl t R0 q b ((cs ++ [p]) ++ gs l) σ2)) = some r := by
      unfold gPats at he
      simp only [pB_ite, pB_pR, pB_ass, cons1, gs_gl, List.append_assoc, List.singleton_append] at he ⊢
      exact he
    refine zW_subZ h25 (by omega) Z (by omega) rfl he her (fun p σ3 S3 W3 a Z3 _ q3 he => ?_)
    have dl3 := dep_le q3
    refine zW_rowW (KK := fun v S' => ZL (d + 5) 789 [.inl x1, .inl x4, .inl (q : Int), .inl x, .inl v] S') Z3 hc (by omega) (fun S4 Z4 => ?_)
    exact hL Γ S4 σ3 W3 (cs ++ [p]) x a x1 x4 q b I A K _ (d + 5) Q r Z4 (List.append_ne_nil_of_right_ne_nil _ (List.cons_ne_nil _ _)) (by omega) (by omega) he her (fun τ' σ7 S7 W7 a' w Z7 o7 o8 q7 => hk τ' σ7 S7 W7 a' w (ZZ_mono Z7 (by omega)) o7 o8 (Qx_to (Qx_t q3 q7) (by omega) (by omega)))
  · rw [if_neg w] at he
    have he : gCl t R0 q b (cs ++ gs (gl [])) σ = some r := he
    rw [gs_gl, List.append_nil] at he
    exact zr_cl716 h30 h0 (by omega) Z hg he her hk
/-- a clause -/
theorem zr_clause (h25 : ZCf t (R 25 [] []) 63 noA 1 one okP) (h30 : ZCf t (R 30 [] []) 69 noA 4 one okA) (h0 : ZCf t (R 0 [] []) 82 noA 10 one okEz) (h46 : ∀ σ, R 46 [] [] σ = gPats R' σ) (h25' : ZCf t (R' 25 [] []) 63 noA 1 one okP) (hL : ZL789 t R (R' 46 [] [])) : ZCf t (gClause t R) 98 noA 10 one okC := by
  intro Γ S σ W M g d Q r Z hg hd he her hk
  obtain ⟨I, A, K⟩ := M
  have d40 := dep_40z Z
  have e17 := ZZ_c Z
  have e22 := ZZ_n Z
  have he : pB (if pIs σ 20 ∨ (tNm (pF σ) (pc σ) ∧ pSt (pF σ) (pk σ) = none) then pOpn t σ fun q b σ1 => pB (R 46 [] [] σ1) fun l σ2 => pR (gn 0 [[(q : Int)], b] (gs l)) σ2
    else pB (R 25 [] [] σ) fun a σ1 => if pSt (pF σ1) (pc σ1) = none then pWr σ1 else pT (pPass t σ1) fun σ2 => pB (R 25 [] [] σ2) fun b σ3 => pR (gn 0 [[((pc σ1).2.1 : Int)], (pc σ1).2.2.1] [gn 41 [[gbg a]] [a, b]]) σ3) (fun h σ4 => pB (if pIs σ4 38 then pT (pPass t σ4) fun σ5 => pB (R 30 [] [] σ5) fun y σ6 => pR (gl [y]) σ6 else pR (gl []) σ4) fun ys σ7 => pNeed t 40 σ7 fun σ8 => pB (R 0 [] [] σ8) fun e σ9 => pR (gn 80 (gp h) (gl (gs h) :: e :: gs ys)) σ9) = some r := he
  obtain ⟨d, rfl⟩ : ∃ e, d = e + 5 := ⟨d - 5, by omega⟩
  have go : ∀ v : Int, (v = 1 ∧ (pIs σ 20 ∨ (tNm (pF σ) (pc σ) ∧ pSt (pF σ) (pk σ) = none))) ∨ (v = 0 ∧ ¬ (pIs σ 20 ∨ (tNm (pF σ) (pc σ) ∧ pSt (pF σ) (pk σ) = none))) → zW (ZL (d + 5) 610 [.inl (S.1 18), .inl v] S) Q := by
    intro v hv
    refine zl_clause_p67 ?_
    unfold zb_clause_p67
    rcases hv with ⟨rfl, hv⟩ | ⟨rfl, hv⟩
    · rw [if_pos hv, pB_pOpn] at he
      have tn : tNf (pF σ) (pc σ) := hv.elim Or.inl (fun z => Or.inr z.1)
      have go2 : zW (ZL (d + 5) 717 [.inl (S.1 18), .inl (if pIs σ 20 then ((pk σ).2.1 : Int) else ((pc σ).2.1 : Int))] S) Q := by
        refine zl_clause_p89 ?_
        unfold zb_clause_p89
        refine zW_let (zW_opnZ (by omega) Z tn (by omega) he her (fun σ1 S1 W1 x b Z1 q1 he => zW_let ?_))
        have dl1 := dep_le q1
        rw [e17.2]
        have he : pB (R' 25 [] [] σ1) (fun p σ2 => pB (if tAtP (pF σ2) (pc σ2) then R' 46 [] [] σ2 else pR (gl []) σ2) (fun l σ3 => gCl t R (if pIs σ 20 then (pk σ).2.1 else (pc σ).2.1) b ([p] ++ gs l) σ3)) = some r := by
          rw [h46] at he
          unfold gPats at he
          simp only [gCl, pB_ite, pB_pR, pB_ass, cons1, gs_gl, gs_gn, gp_gn, List.singleton_append] at he ⊢
          exact he
        refine zW_subZ h25' (by omega) Z1 (by omega) rfl he her (fun p σ3 S3 W3 a Z3 _ q3 he => zW_let (zW_let ?_))
        have q3 := Qx_to (Qx_t q1 q3) (k' := 0) (m' := 1) (by omega) (by omega)
        have dl3 := dep_le q3
        have hpl : (if pIs σ 20 then ((pk σ).2.1 : Int) else ((pc σ).2.1 : Int)) = ((if pIs σ 20 then (pk σ).2.1 else (pc σ).2.1 : Nat) : Int) := by split <;> rfl
        rw [hpl]
        exact hL Γ S3 σ3 W3 [p] a a _ x _ b I A K _ (d + 5) Q r Z3 (List.cons_ne_nil _ _) (by omega) (by omega) he her (fun τ' σ7 S7 W7 a' w Z7 o7 o8 q7 => hk τ' σ7 S7 W7 a' a' w (ZZ_mono Z7 (by omega)) ⟨o7, o8⟩ (Qx_to (Qx_t q3 q7) (by omega) (by omega)))
      refine zW_let (zW_f (by decide) (zW_isZ 20 (by decide) (by omega) Z (fun w => zW_f (by decide) ?_) (fun w => zW_t rfl ?_)))
      · rw [if_pos w] at go2
        rw [e22.2]; exact go2
      · rw [if_neg w] at go2
        rw [e17.2] at go2 ⊢; exact go2
    · rw [if_neg hv, pB_ass] at he
      refine zW_let (zW_t rfl (zW_subZ h25 (by omega) Z (by omega) rfl he her (fun pa σ1 S1 W1 a Z1 oa q1 he => zW_let ?_)))
      have dl1 := dep_le q1
      have e17' := ZZ_c Z1
      rw [pB_ite, pB_pWr, pB_pT] at he
      have thr : pSt (pF σ1) (pc σ1) = none → ∀ {X : ZR ZS}, X = zthrow 2 (S1.1 18) S1 → zW X Q := by
        intro hs X hX
        rw [if_pos hs] at he
        rw [hX, e17'.2]
        exact zW_thr (her _ _ _ (Option.some.inj he).symm (ThZ_th Z1 (by omega)))
      refine zW_tst (d := d + 4) (z_isInfixHere (d := d) Z1) (fun w => zW_f (by decide) (zW_isZ 40 (by decide) (by omega) Z1 (fun w4 => zW_f (by decide) (thr ?_ rfl)) (fun w4 => zW_t rfl (zW_let ?_)))) (fun w => zW_t rfl (thr ?_ rfl))
      · unfold pSt
        rw [if_neg (fun z => by have := w4.1; omega)]
      · have e1 : pIx (pF σ1) (pc σ1) = pSt (pF σ1) (pc σ1) := by
          unfold pIx
          rw [if_neg w4]
        rw [e1] at w
        have h1 : (pc σ1).1 = 1 := by
          by_cases h1 : (pc σ1).1 = 1
          · exact h1
          · exact absurd (if_neg h1 : pSt (pF σ1) (pc σ1) = none) w
        rw [if_neg w] at he
        have he : pName t σ1 (fun nm σ2 => pB (R 25 [] [] σ2) (fun b σ3 => gCl t R (pc σ1).2.1 nm [gn 41 [[gbg pa]] [pa, b]] σ3)) = some r := by
          unfold pName
          rw [if_pos h1]
          simp only [gCl, pB_ass, pB_pR, gs_gn, gp_gn] at he ⊢
          exact he
        refine zW_nameZ (by omega) Z1 (by omega) he her (fun _ σ2 S2 W2 nm Z2 p2 he => zW_let ?_)
        have q2 := Qx_to (Qx_t q1 (Qx_p p2)) (k' := 0) (m' := 2) (by omega) (by omega)
        have dl2 := dep_le q2
        refine zW_subZ h25 (by omega) Z2 (by omega) rfl he her (fun pb σ3 S3 W3 b Z3 ob q3 he => ?_)
        have q3 := Qx_to (Qx_t q2 q3) (k' := 0) (m' := 3) (by omega) (by omega)
        have dl3 := dep_le q3
        have pair : zW (ZL (d + 4) 99 [.inl a, .inl b] S3) (oI (fun v S' => zW (ZL (d + 5) 716 [.inl (S.1 18), .inl nm, .inl ((pc σ1).2.1 : Int), .inl v] S') Q) fun S' => Q none S') := by
          refine zl_pair ?_
          unfold zb_pair
          refine zW_joinX (cs := [pa]) Z3 (List.cons_ne_nil _ _) (List.cons_ne_nil _ _) (by omega) (fun S4 e4 Z4 => ?_)
          have Z4 : ZZ t Γ S4 σ3 W3 (([pa, pb], a, b) :: I, A, kN nm (pc σ1).2.2.1 :: K) (g - 2 - 4 - 2) := Z4
          have hwh : S4.2.2.1 11 (a - S4.1 41) = gbg pa := by
            rw [e4.1, e4.2]
            exact zwh_at 1 Z3 rfl (kPa_Z oa)
          have hin : Γ.1.1 40 ≤ a ∧ a < S4.1 40 := ZZ_in Z4 0 rfl (List.cons_ne_nil _ _)
          have h40 := ZZ_40 Z4 (by omega)
          have h41 : 0 ≤ S4.1 41 ∧ S4.1 41 ≤ Γ.1.1 40 := ⟨Z4.2.1.2.2.2.2.2.1, Z4.2.2.2.2.1.1⟩
          refine zW_a (by omega) ?_
          rw [hwh]
          refine zW_nodeZ (M0 := I) [([pa, pb], a, b)] 41 [[gbg pa]] [pa, pb] (by omega) Z4 (by omega) (by decide) rfl (zqc rfl zqn) ⟨rfl, rfl, rfl⟩ (fun f S5 Z5 => zW_rI ?_)
          refine zr_cl716 (ps := [gn 41 [[gbg pa]] [pa, pb]]) h30 h0 (by omega) Z5 (by omega) he her (fun τ' σ7 S7 W7 a' w Z7 o7 o8 q7 => hk τ' σ7 S7 W7 a' a' w (ZZ_mono Z7 (by omega)) ⟨o7, by rw [o8]; exact e17.2⟩ (Qx_to (Qx_t q3 q7) (by omega) (by omega)))
        rw [e17'.2]
        exact zW_I (zW_c pair) (fun v S' h => zW_let h) (fun _ h => h)
      · have w := Classical.not_not.mp w
        unfold pIx at w
        split at w
        · cases w
        · exact w
  have go406 : ∀ y0 : Int, (y0 = 0 ↔ pSt (pF σ) (pk σ) = none) → zW (ZL (d + 5) 406 [.inl (S.1 18), .inl y0] S) Q := by
    intro y0 hy
    refine zl_clause_p29 ?_
    unfold zb_clause_p29
    refine zW_let (zW_isZ 20 (by decide) (by omega) Z (fun w => zW_f (by decide) (go 1 (Or.inl ⟨rfl, Or.inl w⟩))) (fun n20 => zW_t rfl (zW_if (fun w1 => ?_) (fun w1 => go 0 (Or.inr ⟨rfl, ?_⟩)))))
    · have h1 : (pc σ).1 = 1 := by omega
      refine zW_tst (d := d + 4) (z_isInfix (d := d + 2) Z (ZZ_nm Z (by omega))) (fun w2 => zW_f (by decide) (go 0 (Or.inr ⟨rfl, ?_⟩))) (fun w2 => zW_t rfl (zW_if (fun w3 => go 1 (Or.inl ⟨rfl, Or.inr ⟨⟨h1, by rw [pSt_e Z h1]; exact Classical.not_not.mp w2⟩, hy.mp w3⟩⟩)) (fun w3 => go 0 (Or.inr ⟨rfl, ?_⟩))))
      · rintro (z | z)
        · exact n20 z
        · exact w2 (by rw [← pSt_e Z h1]; exact z.1.2)
      · rintro (z | z)
        · exact n20 z
        · exact w3 (hy.mpr z.2)
    · rintro (z | z)
      · exact n20 z
      · have := z.1.1
        omega
  refine zl_clause ?_
  unfold zb_clause
  refine zW_let (zW_if (fun w => ?_) (fun w => go406 0 ⟨fun _ => ?_, fun _ => rfl⟩))
  · have h1 : (pk σ).1 = 1 := by omega
    refine zW_tst (d := d + 4) (z_isInfix (d := d + 2) Z (ZZ_nn Z (by omega))) (fun w2 => zW_f (by decide) (go406 1 ⟨fun z => absurd z (by decide), fun z => absurd (by rw [← pStn_e Z h1]; exact z) w2⟩)) (fun w2 => zW_t rfl (go406 0 ⟨fun _ => by rw [pStn_e Z h1]; exact Classical.not_not.mp w2, fun _ => rfl⟩))
  · unfold pSt
    rw [if_neg (by omega)]
end ZCla
