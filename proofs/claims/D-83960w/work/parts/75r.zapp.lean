set_option maxRecDepth 100000
/-! THE REFERENCE'S PARSER: applications -/
/-- a function with what it is applied to -/
def gAp (f : Gt) (xs : List Gt) : Gt := if xs = [] then f else gn 6 [[gbg f]] (f :: xs)
def ZL389 (t : List Int) (fs : Ps → PR) : Prop :=
  ∀ (Γ : Zg) (S : ZS) (σ : Ps) (W : List (List Int)) (f0 : Gt) (xs : List Gt) (x : Int) (I : List Zi) (A : List Int × List (Int × Int × Int)) (K : List Zk) (g : Int) (d : Nat) (Q : Option (Option ZV) → ZS → Prop) (r : (Int × Nat) ⊕ (Gt × Ps)), ZZ t Γ S σ W (([gAp f0 xs], x, x) :: I, A, K) g → gk f0 ∈ kEx → g ≤ 150 → dep t σ + 3 ≤ d → pB (fs σ) (fun l σ1 => pR (gAp f0 (xs ++ gs l)) σ1) = some r →
    (∀ e p S', r = .inl (e, p) → ThZ t Γ S' e p → Q none S') →
    (∀ τ σ1 S1 W1 a, r = .inr (τ, σ1) → ZZ t Γ S1 σ1 W1 (([τ], a, a) :: I, A, K) g → gk τ ∈ kEx → Qx t 0 0 σ σ1 → Q (some (some (.inl a))) S1) → zW (ZL d 389 [.inl x] S) Q
section ZApp
variable {t : List Int} {Γ : Zg} {S S' : ZS} {σ σ1 : Ps} {W W' : List (List Int)} {M : Zm} {g g' G : Int} {d n tag m : Nat} {Q : Option (Option ZV) → ZS → Prop} {r : (Int × Nat) ⊕ (Gt × Ps)} {I : List Zi} {A : List Int × List (Int × Int × Int)} {K : List Zk} {cs : List Gt} {x y z p x2 c q : Int} {τ b : Gt} {R R' : PX} {o o' : ZO} {lo hi : Int}
theorem gAp_k {f : Gt} {xs : List Gt} (h : gk f ∈ kEx) : gk (gAp f xs) ∈ kEx := by
  unfold gAp
  split
  · exact h
  · show 6 ∈ kEx; decide
theorem ztab_6 : ∀ k ∈ kEx, k ≠ 6 → ∀ e : Bool, (ztab k e).1 ≠ 6 ∧ k ≠ 0 ∧ k ≠ 63 ∧ k ≠ 53 ∧ k ≠ 54 ∧ k ≠ 80 ∧ ¬ (k = 38 ∨ k = 78) := by decide +kernel
theorem zwhat {f : Gt} {a : Int} (hf : gk f ∈ kEx) (h : zrt o f lo hi a) (h6 : o.1 0 a = 6) : gk f = 6 := by
  by_cases k6 : gk f = 6
  · exact k6
  exfalso
  cases f with
  | leaf p => exact h.elim
  | branch k l r =>
    have hk := ztab_6 k hf k6 (gsp r).isEmpty
    rw [zrt_br] at h
    have h : zrtA o k (gpl l) (zIm o (gsp r)) lo hi a := h
    unfold zrtA zrtB at h
    have k6 : ¬ k = 6 := k6
    rw [if_neg (by omega), if_neg k6, if_neg hk.2.2.2.1, if_neg hk.2.2.2.2.1, if_neg hk.2.2.2.2.2.1, if_neg hk.2.2.2.2.2.2, zIm_em] at h
    have := h.2.2.1
    omega
/-- one more -/
theorem zapf_app (h1 : ∀ i b, o.2.1 i b → o'.2.1 i b) (h2 : ∀ i b, o.2.2 i b → o'.2.2 i b) (he : zeq o o' lo c fun j i => j = 5 ∧ i = x) (hx : x < y ∧ y < c) (hb : zch o (b, zrt o b) (x + 1) (y + 1) y) (e0 : o'.1 0 c = 6) (e3 : o'.1 3 c = x) (e4 : o'.1 4 c = y) (e5 : o'.1 0 x = 6 → o'.1 5 x = c) : ∀ (xs : List Gt) {g : Int}, lo ≤ g → zapf o q (zIm o xs) g x → (xs ≠ [] → o.1 1 x = q) → zapf o' q (zIm o' (xs ++ [b])) g c
  | [], g, hg, h, _ => by
    have h : g = x := h
    subst h
    refine ⟨y, c, hx.1, hx.2, Int.le_refl _, zch_k0 (zrt_k h1 h2 b) (zeq_mono he (by omega) (by omega) (fun _ _ _ _ w => by have := w.2; omega)) (Int.le_refl _) (Int.le_refl _) ⟨by omega, by omega⟩ hb, e0, fun w => absurd rfl w, e3, e4, e5, rfl⟩
  | a :: xs, g, hg, h, hq => by
    obtain ⟨y', f, g1, g2, g3, g4, g5, g6, g7, g8, g9, g10⟩ := h
    have e := fun j (hj : j ≠ 5) => he j f (by omega) (by omega) (fun w => hj w.1)
    refine ⟨y', f, g1, g2, by omega, zch_k0 (zrt_k h1 h2 a) (zeq_mono he (by omega) (by omega) (fun _ _ _ _ w => by have := w.2; omega)) (Int.le_refl _) (Int.le_refl _) ⟨by omega, by omega⟩ g4, by rw [e 0 (by omega)]; exact g5, fun _ => ?_, by rw [e 3 (by omega)]; exact g7, by rw [e 4 (by omega)]; exact g8, fun w => ?_, zapf_app h1 h2 he hx hb e0 e3 e4 e5 xs (by omega) g10 (fun _ => hq (List.cons_ne_nil _ _))⟩
    · rw [e 1 (by omega)]
      cases xs with
      | nil =>
        have : f = x := g10
        rw [this]; exact hq (List.cons_ne_nil _ _)
      | cons a1 xs => exact g6 (List.cons_ne_nil _ _)
    · rw [he 5 g hg (by omega) (fun w => by have := w.2; omega)]
      rw [he 0 g hg (by omega) (fun w => by have := w.2; omega)] at w
      exact g9 w
theorem zrt_app {f : Gt} {xs : List Gt} (h1 : ∀ i b, o.2.1 i b → o'.2.1 i b) (h2 : ∀ i b, o.2.2 i b → o'.2.2 i b) (hf : gk f ∈ kEx) (he : zeq o o' lo c fun j i => (j = 5 ∧ i = x) ∧ o.1 0 x = 6) (hF : zrt o (gAp f xs) lo (x + 1) x) (hlo : lo ≤ x) (hw : o.1 1 x = gbg f) (hx : x < y ∧ y < c) (hb : zch o (b, zrt o b) (x + 1) (y + 1) y) (e0 : o'.1 0 c = 6) (e1 : o'.1 1 c = gbg f) (e3 : o'.1 3 c = x) (e4 : o'.1 4 c = y) (e5 : o'.1 0 x = 6 → o'.1 5 x = c) : zrt o' (gAp f (xs ++ [b])) lo (c + 1) c := by
  have gnf : gnd f := by
    have : ∀ k ∈ kEx, k ≠ 0 ∧ k ≠ 63 := by decide
    exact this _ hf
  have hne : xs ++ [b] ≠ [] := List.append_ne_nil_of_right_ne_nil _ (List.cons_ne_nil _ _)
  have he' : zeq o o' lo c fun j i => j = 5 ∧ i = x := zeq_mono he (Int.le_refl _) (Int.le_refl _) (fun _ _ _ _ w => w.1)
  unfold gAp
  rw [if_neg hne, zrt_gn]
  show zrtA o' 6 [[gbg f]] ((f, zrt o' f) :: zIm o' (xs ++ [b])) lo (c + 1) c
  unfold zrtA zrtB
  rw [if_neg (by decide), if_pos rfl]
  refine ⟨by omega, by omega, ?_⟩
  show zIm o' (xs ++ [b]) ≠ [] ∧ o'.1 1 c = gbg f ∧ ∃ g, lo ≤ g ∧ g < c ∧ gnd f ∧ zrt o' f lo (g + 1) g ∧ zapf o' (gbg f) (zIm o' (xs ++ [b])) g c
  refine ⟨zIm_ne.mpr hne, e1, ?_⟩
  by_cases hxs : xs = []
  · subst hxs
    have hF : zrt o f lo (x + 1) x := hF
    refine ⟨x, hlo, by omega, gnf, zrt_k h1 h2 f _ _ _ _ _ (zeq_mono he (by omega) (by omega) (fun j i _ _ w => ⟨w.1.2, gnf, Or.inr ⟨w.1.1, zwhat hf hF w.2⟩⟩)) (Int.le_refl _) (Int.le_refl _) hF, ?_⟩
    exact zapf_app h1 h2 he' hx hb e0 e3 e4 e5 [] hlo rfl (fun w => absurd rfl w)
  · unfold gAp at hF
    rw [if_neg hxs, zrt_gn] at hF
    have hF : zrtA o 6 [[gbg f]] ((f, zrt o f) :: zIm o xs) lo (x + 1) x := hF
    unfold zrtA zrtB at hF
    rw [if_neg (by decide), if_pos rfl] at hF
    obtain ⟨_, _, _, _, g, g3, g4, g5, g6, g7⟩ := hF
    exact ⟨g, g3, by omega, gnf, zrt_k h1 h2 f _ _ _ _ _ (zeq_mono he (by omega) (by omega) (fun j i _ _ w => by have := w.1.2; omega)) (Int.le_refl _) (Int.le_refl _) g6, zapf_app h1 h2 he' hx hb e0 e3 e4 e5 xs g3 g7 (fun _ => hw)⟩
theorem zits_app {f : Gt} {xs : List Gt} {lo0 m4 m1 : Int} (h1 : ∀ i b, o.2.1 i b → o'.2.1 i b) (h2 : ∀ i b, o.2.2 i b → o'.2.2 i b) (hf : gk f ∈ kEx) (hI : zits o lo0 I m4) (ha : zit o m4 m1 ([gAp f xs], x, x)) (hb : zit o m1 c ([b], y, y)) (hw : o.1 1 x = gbg f) (he : zeq o o' lo0 c fun j i => (j = 5 ∧ i = x) ∧ o.1 0 x = 6) (e0 : o'.1 0 c = 6) (e1 : o'.1 1 c = gbg f) (e3 : o'.1 3 c = x) (e4 : o'.1 4 c = y) (e5c : o'.1 5 c = -1) (e6c : o'.1 6 c = -1) (e5 : o'.1 0 x = 6 → o'.1 5 x = c) : zits o' lo0 (([gAp f (xs ++ [b])], c, c) :: I) (c + 1) := by
  have l0 := zits_lo I hI
  obtain ⟨a1, a2, a3, a4, -⟩ := zit_1 ha
  obtain ⟨b1, b2, b3, b4, -⟩ := zit_1 hb
  refine ⟨m4, by omega, ⟨⟨by show m4 ≤ c; omega, by show c < c + 1; omega, ⟨?_, ?_, fun _ => e5c⟩, e6c, by show c + 1 ≤ c + 1; omega⟩, rfl⟩, zits_k h1 h2 I (zeq_mono he (Int.le_refl _) (by omega) (fun _ _ _ _ w => by have := w.1.2; omega)) (Int.le_refl _) hI⟩
  · have : ∀ k ∈ kEx, k ≠ 0 ∧ k ≠ 63 := by decide
    exact this _ (gAp_k hf)
  · exact zrt_app h1 h2 hf (zeq_mono he l0 (Int.le_refl _) (fun _ _ _ _ w => w)) a3.2.1 a1 hw ⟨by omega, b2⟩ (zch_k0 (zrt_k (fun _ _ w => w) (fun _ _ w => w) b) (fun _ _ _ _ _ => rfl) (by omega) (Int.le_refl _) ⟨b1, by omega⟩ b3) e0 e1 e3 e4 e5
theorem zr_appL (h13 : ZCf t (R 13 [] []) 80 noA 2 one okEz) (hL : ZL389 t (R 12 [] [])) : ZL389 t (gAppR R) := by
  intro Γ S σ W f0 xs x I A K g d Q r Z hf hg hd he her hk
  have d40 := dep_40z Z
  obtain ⟨d, rfl⟩ : ∃ e, d = e + 5 := ⟨d - 5, by omega⟩
  unfold gAppR at he
  refine zl_applications_p5 ?_
  unfold zb_applications_p5
  refine zW_tst (d := d + 4) (z_begAt (d := d) Z) (fun w => zW_f (by decide) ?_) (fun w => zW_t rfl ?_)
  · rw [if_pos w] at he
    simp only [cons1, pB_ass, pB_pR, gs_gl] at he
    refine zW_subZ h13 (by omega) Z (by omega) rfl he her (fun b σ3 S3 W3 y Z3 _ q3 he => zW_let (zW_let ?_))
    have dl3 := dep_le q3
    have ok1 : okZ (gAp f0 xs) := kEx_Z (gAp_k hf)
    have hgb : gbg (gAp f0 xs) = gbg f0 := by
      unfold gAp
      split <;> rfl
    have Z3' : ZZ t Γ S3 σ3 W3 (([b], y, y) :: ([gAp f0 xs], x, x) :: I, A, K) (g - 2) := Z3
    refine zW_whZ 1 Z3' (by omega) rfl ok1 ?_
    rw [hgb]
    have h40 := ZZ_40 Z3' (by omega)
    refine zW_Ie (z_node h40.1 h40.2) (zW_let ?_)
    have hwx : (zo S3 W3).1 1 x = gbg f0 := (zwh_at 1 Z3' rfl ok1).trans hgb
    have Zg := ZZ_gar (v := zav 6 (gbg f0) 0 x y (-1)) Z3'
    obtain ⟨m1, m2, m3, m4, m5, m6, m7⟩ := Z3'.2.2.2.2.2.1
    have l0 := zits_lo I m7
    have a1 := (zit_1 m6).1
    have a2 := (zit_1 m6).2.1
    have b1 := (zit_1 m3).1
    have b2 := (zit_1 m3).2.1
    have h41 : 0 ≤ S3.1 41 ∧ S3.1 41 ≤ Γ.1.1 40 := ⟨Z3'.2.1.2.2.2.2.2.1, Z3'.2.2.2.2.1.1⟩
    have hxr : 0 ≤ x ∧ x < 84000 := by omega
    have o2 : (zo (zmk S3 (zav 6 (gbg f0) 0 x y (-1))) W3).2 = (zo S3 W3).2 := zo_2 rfl rfl
    have he : pB (R 12 [] [] σ3) (fun l σ1 => pR (gAp f0 ((xs ++ [b]) ++ gs l)) σ1) = some r := by
      simp only [List.append_assoc, List.singleton_append]
      exact he
    have at' : ∀ j, j ≤ 6 → (zo (zmk S3 (zav 6 (gbg f0) 0 x y (-1))) W3).1 j (S3.1 40) = zav 6 (gbg f0) 0 x y (-1) j := fun j hj => zmk_at hj
    have fin : ∀ S5, ZZ t Γ S5 σ3 W3 (([gAp f0 (xs ++ [b])], S3.1 40, S3.1 40) :: I, A, K) (g - 2 + 1) → zW (ZL (d + 5) 389 [.inl (S3.1 40)] S5) Q := fun S5 Z5 => hL Γ S5 σ3 W3 f0 (xs ++ [b]) _ I A K _ (d + 5) Q r Z5 hf (by omega) (by omega) he her (fun τ' σ7 S7 W7 a' w Z7 o7 q7 => hk τ' σ7 S7 W7 a' w (ZZ_mono Z7 (by omega)) o7 (Qx_to (Qx_t q3 q7) (by omega) (by omega)))
    refine zW_a hxr (zW_if (fun w6 => zW_st hxr (fin _ ?_)) (fun w6 => fin _ ?_))
    · refine ZZ_cell (j := 5) (i := x) (Or.inr (Or.inl rfl)) Zg (by omega) ?_
      have c2 : (zo (zset (zmk S3 (zav 6 (gbg f0) 0 x y (-1))) 15 x (S3.1 40)) W3).2 = (zo S3 W3).2 := (zcell_2 (j := 5) (Or.inr (Or.inl rfl))).trans o2
      have ce : ∀ lo hi, zeq (zo (zmk S3 (zav 6 (gbg f0) 0 x y (-1))) W3) (zo (zset (zmk S3 (zav 6 (gbg f0) 0 x y (-1))) 15 x (S3.1 40)) W3) lo hi (fun j' i' => j' = 5 ∧ i' = x) := fun lo hi => zcell_eq (j := 5) (i := x) (Or.inr (Or.inl rfl))
      have ca : ∀ j, j ≤ 6 → (zo (zset (zmk S3 (zav 6 (gbg f0) 0 x y (-1))) 15 x (S3.1 40)) W3).1 j (S3.1 40) = zav 6 (gbg f0) 0 x y (-1) j := fun j hj => (ce (S3.1 40) (S3.1 40 + 1) j (S3.1 40) (by omega) (by omega) (fun w => by have := w.2; omega)).trans (at' j hj)
      have w6' : (zo S3 W3).1 0 x = 6 := (zmk_lt (v := zav 6 (gbg f0) 0 x y (-1)) (W' := W3) (by omega)).symm.trans w6
      have k1 : ∀ i b, (zo S3 W3).2.1 i b → (zo (zset (zmk S3 (zav 6 (gbg f0) 0 x y (-1))) 15 x (S3.1 40)) W3).2.1 i b := fun i b w => by rw [c2]; exact w
      have k2 : ∀ i b, (zo S3 W3).2.2 i b → (zo (zset (zmk S3 (zav 6 (gbg f0) 0 x y (-1))) 15 x (S3.1 40)) W3).2.2 i b := fun i b w => by rw [c2]; exact w
      exact zits_app k1 k2 hf m7 m6 m3 hwx (fun j i q1 q2 q3 => (ce i (i + 1) j i (by omega) (by omega) (fun w => q3 ⟨w, w6'⟩)).trans (zmk_lt q2)) (ca 0 (by omega)) (ca 1 (by omega)) (ca 3 (by omega)) (ca 4 (by omega)) (ca 5 (by omega)) (ca 6 (by omega)) (fun _ => zcell_at (j := 5) (i := x) (Or.inr (Or.inl rfl)))
    · have hI : zits (zo (zmk S3 (zav 6 (gbg f0) 0 x y (-1))) W3) (Γ.1.1 40) (([gAp f0 (xs ++ [b])], S3.1 40, S3.1 40) :: I) (S3.1 40 + 1) := zits_app (fun i b w => by rw [o2]; exact w) (fun i b w => by rw [o2]; exact w) hf m7 m6 m3 hwx (fun j i q1 q2 q3 => zmk_lt q2) (at' 0 (by omega)) (at' 1 (by omega)) (at' 3 (by omega)) (at' 4 (by omega)) (at' 5 (by omega)) (at' 6 (by omega)) (fun w => absurd w w6)
      exact ZZ_mkI Z3' hI
  · rw [if_neg w] at he
    have he : pR (gAp f0 (xs ++ gs (gl []))) σ = some r := he
    rw [gs_gl, List.append_nil] at he
    exact zW_rI (hk _ σ S W x (Option.some.inj he).symm Z (gAp_k hf) Qx_0)
theorem zr_app (h13 : ZCf t (R 13 [] []) 80 noA 2 one okEz) (hL : ZL389 t (R 12 [] [])) (hS : YSt (R 12 [] []) (fun σ => tAt (pF σ) (pc σ))) : ZCf t (gApp R) 79 noA 3 one (okOz 0) := by
  intro Γ S σ W M g d Q r Z hg hd he her hk
  obtain ⟨I, A, K⟩ := M
  have d40 := dep_40z Z
  unfold gApp at he
  refine zl_applications ?_
  unfold zb_applications
  refine zW_subZ h13 (by omega) Z (by omega) rfl he her (fun f σ1 S1 W1 a Z1 o1 q1 he => zW_let ?_)
  have dl1 := dep_le q1
  have he : pB (R 12 [] [] σ1) (fun l σ2 => pR (gAp f ([] ++ gs l)) σ2) = some r ∨ (¬ tAt (pF σ1) (pc σ1) ∧ r = .inr (f, σ1)) := by
    by_cases w : tAt (pF σ1) (pc σ1)
    · rw [if_pos w] at he
      left
      obtain ⟨u, hu, h⟩ := pB_c he
      rw [hu]
      rcases h with ⟨e, rfl, rfl⟩ | ⟨l, σ2, rfl, h⟩
      · rfl
      · have := hS.2 σ1 l σ2 hu w
        show pR (gAp f ([] ++ gs l)) σ2 = some r
        unfold gAp
        rw [List.nil_append, if_neg this]
        exact h
    · rw [if_neg w] at he
      exact Or.inr ⟨w, (Option.some.inj he).symm⟩
  have okk : ∀ {τ' : Gt} {S7 : ZS} {a' : Int}, gk τ' ∈ kEx → okOz 0 σ τ' S7 a' := fun h => ⟨h, fun z => by cases z⟩
  rcases he with he | ⟨w, hr⟩
  · exact hL Γ S1 σ1 W1 f [] a I A K _ d Q r Z1 o1 (by omega) (by omega) he her (fun τ' σ7 S7 W7 a' w Z7 o7 q7 => hk τ' σ7 S7 W7 a' a' w Z7 (okk o7) (Qx_to (Qx_t q1 q7) (by omega) (by omega)))
  · obtain ⟨d, rfl⟩ : ∃ e, d = e + 5 := ⟨d - 5, by omega⟩
    refine zl_applications_p5 ?_
    unfold zb_applications_p5
    exact zW_tst (d := d + 4) (z_begAt (d := d) Z1) (fun w2 => absurd w2 w) (fun _ => zW_t rfl (zW_rI (hk _ σ1 S1 W1 a a hr Z1 (okk o1) q1)))
end ZApp
