set_option maxRecDepth 100000
/-! THE REFERENCE'S PARSER: patterns with types and as -/
def ZL596 (t : List Int) (fs : Gt → Ps → PR) : Prop :=
  ∀ (Γ : Zg) (S : ZS) (σ : Ps) (W : List (List Int)) (τ0 : Gt) (x x2 x3 x4 x5 : Int) (I : List Zi) (A : List Int × List (Int × Int × Int)) (K : List Zk) (g : Int) (d : Nat) (Q : Option (Option ZV) → ZS → Prop) (r : (Int × Nat) ⊕ (Gt × Ps)), ZZ t Γ S σ W (([τ0], x, x) :: I, A, K) g → gk τ0 ∈ kPa → (1 ≤ x4 ∧ x4 + (pmu t σ : Int) ≤ 10000) → (x2 = 0 ∨ 2 ≤ x4 ∨ ¬ pIs σ 2) → g ≤ 150 → dep t σ + 6 ≤ d → fs τ0 σ = some r →
    (∀ e p S', r = .inl (e, p) → ThZ t Γ S' e p → Q none S') →
    (∀ τ σ1 S1 W1 a y', r = .inr (τ, σ1) → ZZ t Γ S1 σ1 W1 (([τ], a, y') :: I, A, K) g → gk τ ∈ kPa → Qx t 0 0 σ σ1 → Q (some (some (.inl a))) S1) → zW (ZL d 596 [.inl x, .inl x2, .inl x3, .inl x4, .inl x5] S) Q
section ZPt3
variable {t : List Int} {Γ : Zg} {S S' : ZS} {σ σ1 : Ps} {W W' : List (List Int)} {M : Zm} {g g' G : Int} {d n tag : Nat} {Q : Option (Option ZV) → ZS → Prop} {r : (Int × Nat) ⊕ (Gt × Ps)} {I : List Zi} {A : List Int × List (Int × Int × Int)} {K : List Zk} {cs : List Gt} {x y z p x2 : Int} {τ : Gt} {R : PX} {o : ZO} {lo hi : Int}
theorem ZZ_55' {v : Int} (Z : ZZ t Γ S σ W M g) : ZZ t Γ (zput S 55 v) σ W M g := ZZ_55 (I := M.1) (A := M.2.1.1) (B := M.2.1.2) (K := M.2.2) Z
/-- the second one goes -/
theorem ZZ_d1 {q q2 : Zi} (Z : ZZ t Γ S σ W (q :: q2 :: I, A, K) g) : ZZ t Γ S σ W (q :: I, A, K) g := by
  obtain ⟨a, b, c1, c2, c3, ⟨m, m1, m2, ⟨m', m3, m4, m5⟩⟩, c⟩ := Z
  exact ⟨a, b, c1, c2, c3, ⟨m', by omega, zit_k (fun _ _ w => w) (fun _ _ w => w) (fun _ _ _ _ _ => rfl) m3 (Int.le_refl _) m2, m5⟩, c⟩
theorem z31 {p : Gt} (i : Nat) (Z : ZZ t Γ S σ W M g) (hi : M.1[i]? = some ([p], x, y)) (hk : gk p = 31) (hg : g ≤ 185) : zname W (S.2.2.1 12 x) ((gp p).getD 1 []) ∧ S.2.2.1 15 x = hq (gp p) 1 ∧ 0 ≤ x ∧ x < 84000 := by
  have hin : Γ.1.1 40 ≤ x ∧ x < S.1 40 := ZZ_in Z i hi (List.cons_ne_nil _ _)
  have h40 := (ZZ_40 Z hg).1
  have h41 : 0 ≤ S.1 41 ∧ S.1 41 ≤ Γ.1.1 40 := ⟨Z.2.1.2.2.2.2.2.1, Z.2.2.2.2.1.1⟩
  obtain ⟨m, hi', w1, w2, w3⟩ := zits_at M.1 i Z.2.2.2.2.2.1 hi
  obtain ⟨z1, z2, ⟨z3, z4, -⟩, -⟩ := zit_1 w3
  have z4 : zrt (zo S W) p m (x + 1) x := z4
  cases p with
  | leaf p => exact z4.elim
  | branch k l r =>
    have hk : k = 31 := hk
    subst hk
    rw [zrt_br] at z4
    have h : zrtA (zo S W) 31 (gpl l) (zIm (zo S W) (gsp r)) m (x + 1) x := z4
    unfold zrtA zrtB at h
    rw [if_neg (by decide), if_neg (by decide), if_neg (by decide), if_neg (by decide), if_neg (by decide), if_neg (by decide)] at h
    have hf := h.2.2.2.1
    have e1 : zname W (S.2.2.1 12 x) ((gpl l).getD 1 []) := hf (2, 1, 1) (by show _ ∈ [(1, 0, 0), (2, 1, 1), (3, 0, 2), (4, 4, 1), (5, 0, 1)]; decide)
    have e2 : S.2.2.1 15 x = hq (gpl l) 1 := hf (5, 0, 1) (by show _ ∈ [(1, 0, 0), (2, 1, 1), (3, 0, 2), (4, 4, 1), (5, 0, 1)]; decide)
    exact ⟨e1, e2, by omega, by omega⟩
/-- a node of no use -/
theorem zW_gar {kk : Int → ZS → ZR ZS} {w pl nm x3 x4 x5 : Int} (hd : 1 ≤ d) (Z : ZZ t Γ S σ W M g) (hg : g ≤ 185) (hh : ∀ a S1, ZZ t Γ S1 σ W M (g + 1) → zW (kk a S1) Q) : zW (zI (zc ZL d 52 [.inl w, .inl pl, .inl nm, .inl x3, .inl x4, .inl x5] S) kk) Q := by
  obtain ⟨d, rfl⟩ : ∃ e, d = e + 1 := ⟨d - 1, by omega⟩
  have h40 := ZZ_40 Z hg
  exact zW_Ie (z_node h40.1 h40.2) (hh _ _ (ZZ_gar Z))
/-- as -/
theorem zr_as {p0 : Gt} {ys : List Gt} {x1 x3 x4 x5 xr yr : Int} (h20 : ZCf t (R 20 [] []) 55 noA 7 one okP) (hd : dep t σ + 6 ≤ d) (Z : ZZ t Γ S σ W ((ys, xr, yr) :: ([p0], x5, x5) :: I, A, K) g) (hk31 : gk p0 = 31) (hx : (x4 = 0 ∧ xr = -1) ∨ (x4 = 1 ∧ xr = x3)) (n38 : ¬ pIs σ 38) (w2 : pIs σ 2) (hg : g ≤ 150) (he : pT (pPass t σ) (fun σ4 => pB (R 20 [] [] σ4) fun q σ5 => pR (gn 37 [[gbg p0, ((gp p0).getD 0 []).getD 1 0], (gp p0).getD 1 []] (q :: ys)) σ5) = some r) (her : ∀ e p S', r = .inl (e, p) → ThZ t Γ S' e p → Q none S') (hk : ∀ τ σ1 S1 W1 a y', r = .inr (τ, σ1) → ZZ t Γ S1 σ1 W1 (([τ], a, y') :: I, A, K) (g - 5) → gk τ ∈ kPa → Qx t 0 1 σ σ1 → Q (some (some (.inl a))) S1) : zW (ZL d 596 [.inl x1, .inl 1, .inl x3, .inl x4, .inl x5] S) Q := by
  have d40 := dep_40z Z
  refine zl_pattern_p28 ?_
  unfold zb_pattern_p28
  refine zW_hasZ (f := fun _ => none) (e0 := some r) 38 (by decide) (by omega) Z (by omega) (by rw [if_neg n38]) her (fun _ _ => zW_t rfl (zW_p (zW_f (by decide) (zW_t (by omega) ?_)))) (fun w => absurd w n38)
  have Z3 := ZZ_55' (v := -1) Z
  refine zW_isZ 2 (by decide) (by omega) Z3 (fun _ => zW_f (by decide) ?_) (fun w => absurd w2 w)
  refine zW_stepZ (by omega) Z3 (by have := w2.1; omega) (by omega) he her (fun σ6 S6 W6 Z6 p6 he => ?_)
  have q6 := Qx_p p6
  have dl6 := dep_le q6
  refine zW_subZ h20 (by omega) Z6 (by omega) rfl he her (fun q σ7 S7 W7 a Z7 o7 q7 he => zW_let (zW_p ?_))
  have q7 := Qx_to (Qx_t q6 q7) (k' := 0) (m' := 1) (by omega) (by omega)
  have Z8 := ZZ_55' (v := -1) Z7
  have ok0 : okZ p0 := kPa_Z (by rw [hk31]; decide)
  obtain ⟨h1, h2, h3⟩ := z31 2 Z8 rfl hk31 (by omega)
  refine zW_whZ 2 Z8 (by omega) rfl ok0 (zW_a h3 ?_)
  have fin : ∀ x4' : Int, xr = x4' → zW (za (zput S7 55 (-1)) 15 84000 x5 fun v13 => zI (zc ZL d 52 [.inl 37, .inl (gbg p0), .inl ((zput S7 55 (-1)).2.2.1 12 x5), .inl a, .inl x4', .inl v13] (zput S7 55 (-1))) fun v15 S14 => zrI v15 S14) Q := by
    intro x4' hx4
    subst hx4
    refine zW_a h3 ?_
    rw [h2]
    exact zW_nodeZ (M0 := ([p0], x5, x5) :: I) [(ys, xr, yr), ([q], a, a)] 37 [[gbg p0, ((gp p0).getD 0 []).getD 1 0], (gp p0).getD 1 []] (q :: ys) (by omega) Z8 (by omega) (by decide) rfl (zqc rfl (zqc h1 (zqc rfl zqn))) ⟨rfl, rfl, ⟨q, rfl, rfl⟩, rfl, rfl⟩ (fun f S9 Z9 => zW_rI (hk _ σ7 S9 W7 f f (Option.some.inj he).symm (ZZ_mono (ZZ_d1 Z9) (by omega)) (by show 37 ∈ kPa; decide) q7))
  rcases hx with ⟨rfl, hx⟩ | ⟨rfl, hx⟩
  · exact zW_t rfl (fin _ hx)
  · exact zW_f (by decide) (fin _ hx)
theorem zr_patL (h30 : ZCf t (R 30 [] []) 69 noA 4 one okA) (hL : ZL596 t (fun a => R 21 [] [a])) : ZL596 t (fun a => gPatR t R a) := by
  intro Γ S σ W τ0 x x2 x3 x4 x5 I A K g d Q r Z ok0 h4 hx2 hg hd he her hk
  have d40 := dep_40z Z
  have he : gPatR t R τ0 σ = some r := he
  unfold gPatR at he
  refine zl_pattern_p28 ?_
  unfold zb_pattern_p28
  refine zW_hasZ 38 (by decide) (by omega) Z (by omega) he her (fun n38 he => zW_t rfl (zW_p ?_)) (fun _ σ1 S1 W1 Z1 p1 he => zW_f (by decide) ?_)
  · have Z3 := ZZ_55' (v := -1) Z
    have fin : zW (zrI x (zput S 55 (-1))) Q := zW_rI (hk _ σ _ W x x (Option.some.inj he).symm Z3 ok0 Qx_0)
    refine zW_if (fun _ => fin) (fun n0 => zW_if (fun l1 => ?_) (fun _ => fin))
    exact zW_isZ 2 (by decide) (by omega) Z3 (fun w => by rcases hx2 with z | z | z; exact absurd z n0; omega; exact absurd w z) (fun _ => zW_t rfl fin)
  · have q1 := Qx_p p1
    have dl1 := dep_le q1
    refine zW_subZ h30 (by omega) Z1 (by omega) rfl he her (fun τ σ3 S3 W3 a Z3 _ q3 he => zW_let ?_)
    have q3 := Qx_to (Qx_t q1 q3) (k' := 0) (m' := 2) (by omega) (by omega)
    have dl3 := dep_le q3
    have hmu := q3.2.2.1
    refine zW_G (by omega) (zW_let (zW_whZ 1 Z3 (by omega) rfl (kPa_Z ok0) ?_))
    refine zW_node38 true (by omega) Z3 (by omega) (fun f S4 Z4 => zW_let ?_)
    exact hL Γ S4 σ3 W3 _ f x2 a (x4 + 1) x5 I A K _ d Q r Z4 (by show 38 ∈ kPa; decide) ⟨by omega, by omega⟩ (Or.inr (Or.inl (by omega))) (by omega) (by omega) he her (fun τ' σ7 S7 W7 a' y' w Z7 o7 q7 => hk τ' σ7 S7 W7 a' y' w (ZZ_mono Z7 (by omega)) o7 (Qx_to (Qx_t q3 q7) (by omega) (by omega)))
theorem zr_pat (hlen : t.length ≤ 900) (h9 : ZCf t (R 9 [1] []) 56 (fun _ => [.inl 1]) 6 one (okI 1)) (h20 : ZCf t (R 20 [] []) 55 noA 7 one okP) (h30 : ZCf t (R 30 [] []) 69 noA 4 one okA) (hL : ZL596 t (fun a => R 21 [] [a])) : ZCf t (gPat t R) 55 noA 7 one okP := by
  intro Γ S σ W M g d Q r Z hg hd he her hk
  obtain ⟨I, A, K⟩ := M
  have d40 := dep_40z Z
  unfold gPat at he
  refine zl_pattern ?_
  unfold zb_pattern
  refine zW_subZ h9 (by omega) Z (by omega) rfl he her (fun p0 σ1 S1 W1 a Z1 o1 q1 he => zW_let ?_)
  have dl1 := dep_le q1
  obtain ⟨ok0, ob⟩ := o1
  have ok0 : gk p0 ∈ kPa := ok0
  have ob := ob rfl
  have hmu : pmu t σ ≤ t.length + 2 := pmu_le
  have go : ∀ y0 : Int, (y0 = 1 ∧ (tNf (pF σ) (pc σ) ∧ gk p0 = 31)) ∨ (y0 = 0 ∧ ¬ (tNf (pF σ) (pc σ) ∧ gk p0 = 31)) → zW (ZL d 374 [.inl a, .inl y0] S1) Q := by
    intro y0 hy
    refine zl_pattern_p19 ?_
    unfold zb_pattern_p19
    refine zW_let (zW_let (zW_let (zW_let ?_)))
    by_cases w38 : pIs σ1 38
    · rw [if_pos w38] at he
      refine zl_pattern_p28 ?_
      unfold zb_pattern_p28
      refine zW_hasZ (e0 := none) 38 (by decide) (by omega) Z1 (by omega) (by rw [if_pos w38]; exact he) her (fun n _ => absurd w38 n) (fun _ σ2 S2 W2 Z2 p2 he => zW_f (by decide) ?_)
      have q2 := Qx_to (Qx_t q1 (Qx_p p2)) (k' := 0) (m' := 2) (by omega) (by omega)
      have dl2 := dep_le q2
      refine zW_subZ h30 (by omega) Z2 (by omega) rfl he her (fun τ σ3 S3 W3 b Z3 _ q3 he => zW_let (zW_G (by omega) (zW_let ?_)))
      have q3 := Qx_to (Qx_t q2 q3) (k' := 0) (m' := 3) (by omega) (by omega)
      have dl3 := dep_le q3
      have hmu3 := q3.2.2.1
      refine zW_whZ 1 Z3 (by omega) rfl (kPa_Z ok0) ?_
      by_cases has : (tNf (pF σ) (pc σ) ∧ gk p0 = 31) ∧ pIs σ3 2
      · rw [if_pos has] at he
        have y1 : y0 = 1 := by
          rcases hy with z | z
          · exact z.1
          · exact absurd has.1 z.2
        subst y1
        refine zW_gar (by omega) Z3 (by omega) (fun f S4 Z4 => zW_let ?_)
        exact zr_as (ys := [τ]) h20 (by omega) Z4 has.1.2 (Or.inr ⟨rfl, rfl⟩) (fun z => tIs_ne (by decide) z has.2) has.2 (by omega) he her (fun τ' σ7 S7 W7 a' y' w Z7 o7 q7 => hk τ' σ7 S7 W7 a' y' w (ZZ_mono Z7 (by omega)) o7 (Qx_to (Qx_t q3 q7) (by omega) (by omega)))
      · rw [if_neg has] at he
        refine zW_node38 true (by omega) Z3 (by omega) (fun f S4 Z4 => zW_let ?_)
        refine hL Γ S4 σ3 W3 _ f y0 b (0 + 1) a I A K _ d Q r Z4 (by show 38 ∈ kPa; decide) ⟨by omega, by omega⟩ ?_ (by omega) (by omega) he her (fun τ' σ7 S7 W7 a' y' w Z7 o7 q7 => hk τ' σ7 S7 W7 a' y' w (ZZ_mono Z7 (by omega)) o7 (Qx_to (Qx_t q3 q7) (by omega) (by omega)))
        rcases hy with z | z
        · exact Or.inr (Or.inr (fun w => has ⟨z.2, w⟩))
        · exact Or.inl z.1
    · rw [if_neg w38] at he
      by_cases has : (tNf (pF σ) (pc σ) ∧ gk p0 = 31) ∧ pIs σ1 2
      · rw [if_pos has] at he
        have y1 : y0 = 1 := by
          rcases hy with z | z
          · exact z.1
          · exact absurd has.1 z.2
        subst y1
        exact zr_as (ys := []) h20 (by omega) (ZZ_e Z1) has.1.2 (Or.inl ⟨rfl, rfl⟩) w38 has.2 (by omega) he her (fun τ' σ7 S7 W7 a' y' w Z7 o7 q7 => hk τ' σ7 S7 W7 a' y' w (ZZ_mono Z7 (by omega)) o7 (Qx_to (Qx_t q1 q7) (by omega) (by omega)))
      · rw [if_neg has] at he
        refine zl_pattern_p28 ?_
        unfold zb_pattern_p28
        refine zW_hasZ (f := fun _ => none) (e0 := some r) 38 (by decide) (by omega) Z1 (by omega) (by rw [if_neg w38]) her (fun _ _ => zW_t rfl (zW_p ?_)) (fun w => absurd w w38)
        have Z3 := ZZ_55' (v := -1) Z1
        have fin : zW (zrI a (zput S1 55 (-1))) Q := zW_rI (hk _ σ1 _ W1 a a (Option.some.inj he).symm Z3 ok0 q1)
        refine zW_if (fun _ => fin) (fun n0 => zW_t (by decide) (zW_isZ 2 (by decide) (by omega) Z3 (fun w => ?_) (fun _ => zW_t rfl fin)))
        rcases hy with z | z
        · exact absurd ⟨z.2, w⟩ has
        · exact absurd z.1 n0
  refine zW_if (fun w => go 1 (Or.inl ⟨rfl, ob.mp w⟩)) (fun w => go 0 (Or.inr ⟨rfl, fun z => w (ob.mpr z)⟩))
end ZPt3
