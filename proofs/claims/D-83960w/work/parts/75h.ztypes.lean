set_option maxRecDepth 100000
/-! THE REFERENCE'S PARSER: types -/
abbrev noA : Ps → List ZV := fun _ => []
abbrev atA : Ps → List ZV := fun σ => [.inl ((pc σ).2.1 : Int)]
abbrev one : Gt → List Gt := fun τ => [τ]
abbrev okA : Ps → Gt → ZS → Int → Prop := fun _ _ _ _ => True
/-- a loop that goes on to the end of its method: a row under way, what is made of it -/
def ZLn (t : List Int) (fs : Ps → PR) (tag lev : Nat) (ge : Ps → List Gt → Int → Int → List ZV → Prop) (F : List Gt → Ps → PR) (kd : Int) (im : Gt → List Gt) (ok : Gt → ZS → Int → Prop) (u : Int) : Prop :=
  ∀ (Γ : Zg) (S : ZS) (σ : Ps) (W : List (List Int)) (cs : List Gt) (x y : Int) (I : List Zi) (A : List Int × List (Int × Int × Int)) (K : List Zk) (g : Int) (d : Nat) (Q : Option (Option ZV) → ZS → Prop) (r : (Int × Nat) ⊕ (Gt × Ps)) (as : List ZV), ZZ t Γ S σ W ((cs, x, y) :: I, A, K) g → ge σ cs x y as → g ≤ 150 → 0 ≤ (pd σ : Int) + kd → dep t σ + lev ≤ d → pB (fs σ) (fun l σ1 => F (cs ++ gs l) σ1) = some r →
    (∀ e p S', r = .inl (e, p) → ThZ t Γ S' e p → Q none S') →
    (∀ τ σ1 S1 W1 a y', r = .inr (τ, σ1) → ZZ t Γ S1 σ1 W1 ((im τ, a, y') :: I, A, K) (g + u) → ok τ S1 a → Qx t kd 0 σ σ1 → Q (some (some (.inl a))) S1) → zW (ZL d tag as S) Q
theorem zqn {α : Type} {P : α → Prop} : ∀ q ∈ ([] : List α), P q := fun _ h => nomatch h
theorem zqc {α : Type} {P : α → Prop} {a : α} {l : List α} (h : P a) (t : ∀ q ∈ l, P q) : ∀ q ∈ a :: l, P q := List.forall_mem_cons.mpr ⟨h, t⟩
section ZTyp
variable {t : List Int} {Γ : Zg} {S S' : ZS} {σ σ1 : Ps} {W W' : List (List Int)} {M : Zm} {g g' : Int} {d n tag : Nat} {Q : Option (Option ZV) → ZS → Prop} {r : (Int × Nat) ⊕ (Gt × Ps)} {I : List Zi} {A : List Int × List (Int × Int × Int)} {K : List Zk} {cs : List Gt} {x y z : Int} {τ : Gt} {R : PX} {o : ZO} {lo hi : Int}
theorem dep_40z (Z : ZZ t Γ S σ W M g) : 40 ≤ dep t σ := by
  have := Z.2.2.1.2
  unfold dep
  omega
/-- nothing is a row -/
theorem ZZ_e (Z : ZZ t Γ S σ W (I, A, K) g) : ZZ t Γ S σ W (([], -1, -1) :: I, A, K) g := by
  obtain ⟨a, b, c1, c2, c3, c4, c⟩ := Z
  exact ⟨a, b, c1, c2, c3, ⟨S.1 40, Int.le_refl _, ⟨⟨rfl, Int.le_refl _⟩, rfl⟩, c4⟩, c⟩
theorem ZZ_e0 (Z : ZZ t Γ S σ W (([], x, y) :: I, A, K) g) : x = -1 ∧ y = -1 ∧ ZZ t Γ S σ W (I, A, K) g := by
  obtain ⟨a, b, c1, c2, c3, ⟨m, m1, ⟨m2, m3⟩, m4⟩, c⟩ := Z
  refine ⟨m2.1, m3, a, b, c1, c2, c3, ?_, c⟩
  exact zits_k (fun _ _ w => w) (fun _ _ w => w) I (fun _ _ _ _ _ => rfl) m1 m4
/-- an empty row below goes -/
theorem ZZ_e1 {q : Zi} (Z : ZZ t Γ S σ W (q :: ([], x, y) :: I, A, K) g) : ZZ t Γ S σ W (q :: I, A, K) g := by
  obtain ⟨a, b, c1, c2, c3, ⟨m, m1, m2, ⟨m', m3, ⟨m4, m5⟩, m6⟩⟩, c⟩ := Z
  exact ⟨a, b, c1, c2, c3, ⟨m', by omega, zit_k (fun _ _ w => w) (fun _ _ w => w) (fun _ _ _ _ _ => rfl) (by omega) (Int.le_refl _) (zit_k (fun _ _ w => w) (fun _ _ w => w) (fun _ _ _ _ _ => rfl) (by omega) (Int.le_refl _) m2), m6⟩, c⟩
theorem ZZ_x0 (Z : ZZ t Γ S σ W ((cs, x, y) :: I, A, K) g) (hc : cs ≠ []) : 0 ≤ x := by
  obtain ⟨m, m1, m2, m3⟩ := Z.2.2.2.2.2.1
  have h1 := zits_lo I m3
  have h2 := Z.2.2.2.2.1.1
  have h3 := Z.2.1.2.2.2.2.2.1
  cases cs with
  | nil => exact absurd rfl hc
  | cons c cs =>
    have h4 : m ≤ x := m2.1.1
    omega
/-- a row is begun, or gets one more -/
theorem zW_rowZ {KK : Int → ZS → ZR ZS} (Z : ZZ t Γ S σ W (([τ], z, z) :: (cs, x, y) :: I, A, K) g) (hg : g ≤ 185) (hk : ∀ x' S1, ZZ t Γ S1 σ W ((cs ++ [τ], x', z) :: I, A, K) g → zW (KK x' S1) Q) : zW (if x = -1 then zlet z fun x' => KK x' S else zs S 16 84000 y z fun S1 => KK x S1) Q := by
  cases cs with
  | nil =>
    have Z1 := ZZ_e1 Z
    obtain ⟨m, m1, m2, m', m3, m4, m5⟩ := Z.2.2.2.2.2.1
    exact zW_t m4.1.1 (zW_let (hk z S Z1))
  | cons c cs =>
    have hx : 0 ≤ x := by
      obtain ⟨m, m1, m2, m', m3, m4, m5⟩ := Z.2.2.2.2.2.1
      have h1 := zits_lo I m5
      have h2 := Z.2.2.2.2.1.1
      have h3 := Z.2.1.2.2.2.2.2.1
      have h4 : m' ≤ x := m4.1.1
      omega
    exact zW_f (by omega) (zW_appR Z (List.cons_ne_nil _ _) hg (fun S1 _ _ Z1 => hk x S1 Z1))
/-- a row gets one more, and it is read back -/
theorem zW_rowY {KK : ZS → ZR ZS} (Z : ZZ t Γ S σ W (([τ], z, z) :: (cs, x, y) :: I, A, K) g) (hc : cs ≠ []) (hg : g ≤ 185) (hk : ∀ S1, ZZ t Γ S1 σ W ((cs ++ [τ], x, z) :: I, A, K) g → zW (KK S1) Q) : zW (zs S 16 84000 y z fun S1 => za S1 16 84000 y fun v => zlet v fun x' => if x' = z then KK S1 else none) Q := zW_appR Z hc hg (fun S1 e hb Z1 => zW_a hb (zW_let (zW_t e (hk S1 Z1))))
theorem zW_rowW {KK : Int → ZS → ZR ZS} (Z : ZZ t Γ S σ W (([τ], z, z) :: (cs, x, y) :: I, A, K) g) (hc : cs ≠ []) (hg : g ≤ 185) (hk : ∀ S1, ZZ t Γ S1 σ W ((cs ++ [τ], x, z) :: I, A, K) g → zW (KK z S1) Q) : zW (zs S 16 84000 y z fun S1 => za S1 16 84000 y fun v => zlet v fun x' => KK x' S1) Q := zW_appR Z hc hg (fun S1 e hb Z1 => zW_a hb (zW_let (by rw [e]; exact hk S1 Z1)))
/-- the end of a row of fields -/
theorem zr_rowEnd {p : Int} (hd : 8 ≤ d) (hp : 0 < pd σ) (Z : ZZ t Γ S σ W ((cs, x, y) :: I, A, K) g) (hg : g ≤ 160) (he : pCloses t 33 σ (fun σ3 => pR (gn 52 [] cs) σ3) = some r) (her : ∀ e p S', r = .inl (e, p) → ThZ t Γ S' e p → Q none S') (hk : ∀ τ σ1 S1 W1 a y', r = .inr (τ, σ1) → ZZ t Γ S1 σ1 W1 (([τ], a, y') :: I, A, K) (g - 3) → Qx t (-1) 0 σ σ1 → Q (some (some (.inl a))) S1) : zW (ZL d 387 [.inl p, .inl x] S) Q := by
  refine zl_typeRow_p94 ?_
  unfold zb_typeRow_p94
  refine zW_closesZ 33 (by decide) hp (by omega) Z (by omega) he her (fun q σ1 S1 W1 Z1 p1 he => ?_)
  refine zW_nodeZ (M0 := I) [(cs, x, y)] 52 [] cs (by omega) Z1 (by omega) (by decide) rfl zqn ⟨rfl, rfl, rfl⟩ (fun a S2 Z2 => zW_rI ?_)
  exact hk _ σ1 S2 W1 a a (Option.some.inj he).symm (ZZ_mono Z2 (by omega)) (Qx_to (Qx_o p1) (by omega) (by omega))
abbrev F38 (t : List Int) : List Gt → Ps → PR := fun l σ => pCloses t 33 σ (fun σ3 => pR (gn 52 [] l) σ3)
abbrev L38 (p : Int) : Ps → List Gt → Int → Int → List ZV → Prop := fun _ _ x y as => as = [.inl p, .inl x, .inl y, .inl 1]
theorem zr_flds {p : Int} (h30 : ZCf t (R 30 [] []) 69 noA 4 one okA) (hL : ZLn t (R 38 [] []) 386 9 (L38 p) (F38 t) (-1) one (fun _ _ _ => True) 0) : ZLn t (gFldT t R) 386 9 (L38 p) (F38 t) (-1) one (fun _ _ _ => True) 0 := by
  intro Γ S σ W cs x y I A K g d Q r as Z ga hg hp hd he her hk
  cases ga
  have d40 := dep_40z Z
  have e18 := (ZZ_c Z).2
  unfold gFldT at he
  simp only [pB_pT, pB_ite, pB_pR, pB_pWr, pB_in, pB_ass, pB_pNeed, pB_pOpens, pB_pCloses, pB_pName, pB_pAny, pB_pOpn, pB_pLab, gs_gl, cons1] at he
  refine zl_typeRow_p20 ?_
  unfold zb_typeRow_p20
  refine zW_f (by decide) (zW_let (zW_labZ (by omega) Z (by omega) he her (fun σ1 S1 W1 l b _ Z1 p1 he => zW_let ?_)))
  have q1 := Qx_p p1
  have dl1 := dep_le q1
  refine zW_needZ 38 (by decide) (by omega) Z1 (by omega) he her (fun _ σ2 S2 W2 Z2 p2 he => ?_)
  have q2 := Qx_to (Qx_t q1 (Qx_p p2)) (k' := 0) (m' := 2) (by omega) (by omega)
  have dl2 := dep_le q2
  refine zW_subZ h30 (by omega) Z2 (by omega) rfl he her (fun τ σ3 S3 W3 a Z3 _ q3 he => ?_)
  have q3 := Qx_to (Qx_t q2 q3) (k' := 0) (m' := 3) (by omega) (by omega)
  have dl3 := dep_le q3
  obtain ⟨hl, Z3⟩ := zK_f Z3
  refine zW_nodeZ (M0 := (cs, x, y) :: I) [([τ], a, a)] 60 [[((pc σ).2.1 : Int)], b] [τ] (by omega) Z3 (by omega) (by decide) rfl (zqc e18 (zqc hl zqn)) ⟨⟨_, rfl, rfl⟩, rfl, rfl⟩ (fun f S4 Z4 => zW_let ?_)
  refine zW_rowZ (KK := fun x' S' => ZL d 604 [.inl p, .inl x', .inl f] S') Z4 (by omega) (fun x' S5 Z5 => zl_typeRow_p80 ?_)
  unfold zb_typeRow_p80
  refine zW_let (zW_hasZ 34 (by decide) (by omega) Z5 (by omega) he her (fun _ he => zW_let ?_) (fun _ σ6 S6 W6 Z6 p6 he => zW_let ?_))
  · refine zl_typeRow_p20 ?_
    unfold zb_typeRow_p20
    refine zW_t rfl (zr_rowEnd (by omega) (by have := q3.1; omega) Z5 (by omega) he her (fun τ' σ7 S7 W7 a' y' w Z7 q7 => hk τ' σ7 S7 W7 a' y' w (ZZ_mono Z7 (by omega)) trivial (Qx_to (Qx_t q3 q7) (by omega) (by omega))))
  · have q6 := Qx_to (Qx_t q3 (Qx_p p6)) (k' := 0) (m' := 3) (by omega) (by omega)
    have dl6 := dep_le q6
    have he : pB (R 38 [] [] σ6) (fun l σ7 => F38 t ((cs ++ [gn 60 [[((pc σ).2.1 : Int)], b] [τ]]) ++ gs l) σ7) = some r := by
      simp only [List.append_assoc, List.singleton_append]
      exact he
    exact hL Γ S6 σ6 W6 _ x' f I A K _ d Q r _ Z6 rfl (by omega) (by have := q6.1; omega) (by omega) he her (fun τ' σ7 S7 W7 a' y' w Z7 o7 q7 => hk τ' σ7 S7 W7 a' y' w (ZZ_mono Z7 (by omega)) o7 (Qx_to (Qx_t q6 q7) (by omega) (by omega)))
theorem ZZ_in (Z : ZZ t Γ S σ W M g) {q : Zi} (i : Nat) (hi : M.1[i]? = some q) (hc : q.1 ≠ []) : Γ.1.1 40 ≤ q.2.1 ∧ q.2.1 < S.1 40 := by
  obtain ⟨m, hi', w1, w2, w3, w4⟩ := zits_at M.1 i Z.2.2.2.2.2.1 hi
  cases e : q.1 with
  | nil => exact absurd e hc
  | cons c cs =>
    rw [e] at w3
    have h1 : m ≤ q.2.1 := w3.1
    have h2 : q.2.1 < hi' := w3.2.1
    omega
theorem zW_whB {k : Int → ZR ZS} (Z : ZZ t Γ S σ W M g) (hg : g ≤ 185) (hx : Γ.1.1 40 ≤ x ∧ x < S.1 40) (hk : ∀ v, zW (k v) Q) : zW (za S 11 4200 (x - S.1 41) k) Q := by
  have h40 := ZZ_40 Z hg
  have h41 : 0 ≤ S.1 41 ∧ S.1 41 ≤ Γ.1.1 40 := ⟨Z.2.1.2.2.2.2.2.1, Z.2.2.2.2.1.1⟩
  exact zW_a (by omega) (hk _)
theorem zstar (Z : ZZ t Γ S σ W M g) (h1 : (pc σ).1 = 1) : S.1 19 = S.1 15 ↔ (pc σ).2.2.1 = [42] := zname_inj Z (ZZ_nm Z (by omega)) (ZZ_st Z).1
abbrev g73 (t : List Int) (R : PX) : Ps → PR := fun σ => pOpens t σ fun σ1 => pB (if pIs σ1 33 then pR (gl []) σ1 else R 38 [] [] σ1) fun l σ2 => pCloses t 33 σ2 fun σ3 => pR (gn 52 [] (gs l)) σ3
theorem zr_ty73 (hL : ∀ p : Int, ZLn t (R 38 [] []) 386 9 (L38 p) (F38 t) (-1) one (fun _ _ _ => True) 0) : ZCf t (nE 32 (g73 t R)) 73 atA 0 one okA := by
  intro Γ S σ W M g d Q r Z hg hd he her hk
  obtain ⟨I, A, K⟩ := M
  have d40 := dep_40z Z
  obtain ⟨w32, he⟩ := nE_is he
  unfold g73 at he
  simp only [pB_pT, pB_ite, pB_pR, pB_pWr, pB_in, pB_ass, pB_pNeed, pB_pOpens, pB_pCloses, pB_pName, pB_pAny, pB_pOpn, pB_pLab, gs_gl, cons1] at he
  refine zl_typeRow ?_
  unfold zb_typeRow
  refine zW_opensZ (by omega) Z (by have := w32.1; omega) (by omega) he her (fun hp σ1 S1 W1 Z1 p1 he => zW_let (zW_let ?_))
  have q1 := Qx_to (Qx_o p1) (k' := 1) (m' := 1) (by omega) (by omega)
  have dl1 := dep_op q1 hp
  have hp1 := p1.2.1
  refine zW_isZ 33 (by decide) (by omega) Z1 (fun w => zW_f (by decide) ?_) (fun w => zW_t rfl (zW_let ?_))
  · rw [if_pos w] at he
    exact zr_rowEnd (by omega) (by omega) (ZZ_e Z1) (by omega) he her (fun τ' σ7 S7 W7 a' y' w Z7 q7 => hk τ' σ7 S7 W7 a' y' w (ZZ_mono Z7 (by omega)) trivial (Qx_to (Qx_t q1 q7) (by omega) (by omega)))
  · rw [if_neg w] at he
    exact hL _ Γ S1 σ1 W1 [] (-1) (-1) I A K _ d Q r _ (ZZ_e Z1) rfl (by omega) (by omega) (by omega) he her (fun τ' σ7 S7 W7 a' y' w Z7 o7 q7 => hk τ' σ7 S7 W7 a' y' w (ZZ_mono Z7 (by omega)) trivial (Qx_to (Qx_t q1 q7) (by omega) (by omega)))
abbrev F603 (t : List Int) : List Gt → Ps → PR := fun l σ => pCloses t 29 σ fun σ4 => if l.drop 1 = [] then pR (l.getD 0 (gl [])) σ4 else gNamed t l σ4
abbrev L603 (p : Int) : Ps → List Gt → Int → Int → List ZV → Prop := fun _ cs x y as => cs ≠ [] ∧ as = [.inl p, .inl x, .inl y, .inl (if cs.drop 1 = [] then 0 else 1)]
theorem zr_tyargs {p : Int} (h30 : ZCf t (R 30 [] []) 69 noA 4 one okA) (hL : ZLn t (R 14 [34, 30] []) 603 9 (L603 p) (F603 t) (-1) one (fun _ _ _ => True) 0) : ZLn t (gSeq t 34 30 R) 603 9 (L603 p) (F603 t) (-1) one (fun _ _ _ => True) 0 := by
  intro Γ S σ W cs x y I A K g d Q r as Z ga hg hp hd he her hk
  obtain ⟨hc, rfl⟩ := ga
  have d40 := dep_40z Z
  unfold gSeq at he
  simp only [pB_pT, pB_ite, pB_pR, pB_pWr, pB_in, pB_ass, pB_pNeed, pB_pOpens, pB_pCloses, pB_pName, pB_pAny, pB_pOpn, pB_pLab, gs_gl, cons1] at he
  refine zl_atomicType_p117 ?_
  unfold zb_atomicType_p117
  refine zW_hasZ 34 (by decide) (by omega) Z (by omega) he her (fun _ he => zW_t rfl ?_) (fun _ σ1 S1 W1 Z1 p1 he => zW_f (by decide) (zW_let ?_))
  · rw [List.append_nil] at he
    refine zW_closesZ 29 (by decide) (by omega) (by omega) Z (by omega) he her (fun q σ1 S1 W1 Z1 p1 he => ?_)
    have q1 := Qx_to (Qx_o p1) (k' := -1) (m' := 1) (by omega) (by omega)
    have e17 := ZZ_c Z1
    by_cases h1 : cs.drop 1 = []
    · rw [if_pos h1] at he ⊢
      refine zW_t rfl (zW_rI ?_)
      cases cs with
      | nil => exact absurd rfl hc
      | cons c cs =>
        have : cs = [] := h1
        subst this
        exact hk _ σ1 S1 W1 x y (Option.some.inj he).symm (ZZ_mono Z1 (by omega)) trivial (Qx_to q1 rfl (by omega))
    · rw [if_neg h1] at he ⊢
      unfold gNamed at he
      refine zW_f (by decide) (zW_if (fun w1 => ?_) (fun w1 => ?_))
      · have c1 : (pc σ1).1 = 1 := by omega
        have hs := zstar Z1 c1
        refine zW_if (fun w2 => ?_) (fun w2 => ?_)
        · rw [if_neg (fun z => z.2 (hs.mp w2))] at he
          rw [e17.2]
          exact zW_thr (her _ _ _ (Option.some.inj he).symm (ThZ_th Z1 (by omega)))
        · rw [if_pos ⟨c1, fun z => w2 (hs.mpr z)⟩] at he
          refine zW_nodeZ (M0 := I) [(cs, x, y)] 51 [[((pc σ1).2.1 : Int)], (pc σ1).2.2.1] cs (by omega) Z1 (by omega) (by decide) rfl (zqc (ZZ_nm Z1 (by omega)) (zqc e17.2 zqn)) ⟨rfl, rfl, rfl⟩ (fun a S2 Z2 => zW_let ?_)
          exact zW_stepZ (by omega) Z2 (by omega) (by omega) he her (fun σ3 S3 W3 Z3 p3 he => zW_rI (hk _ σ3 S3 W3 a a (Option.some.inj he).symm (ZZ_mono Z3 (by omega)) trivial (Qx_to (Qx_t q1 (Qx_p p3)) (by omega) (by omega))))
      · rw [if_neg (fun z => by have := z.1; omega)] at he
        rw [e17.2]
        exact zW_thr (her _ _ _ (Option.some.inj he).symm (ThZ_th Z1 (by omega)))
  · have q1 := Qx_p p1
    have dl1 := dep_le q1
    refine zW_subZ h30 (by omega) Z1 (by omega) rfl he her (fun τ σ3 S3 W3 a Z3 _ q3 he => ?_)
    have q3 := Qx_to (Qx_t q1 q3) (k' := 0) (m' := 2) (by omega) (by omega)
    have dl3 := dep_le q3
    refine zW_rowW (KK := fun v S' => ZL d 603 [.inl p, .inl x, .inl v, .inl 1] S') Z3 hc (by omega) (fun S4 Z4 => ?_)
    have hd1 : (cs ++ [τ]).drop 1 ≠ [] := by
      cases cs with
      | nil => exact absurd rfl hc
      | cons c cs =>
        show cs ++ [τ] ≠ []
        exact List.append_ne_nil_of_right_ne_nil _ (List.cons_ne_nil _ _)
    have he : pB (R 14 [34, 30] [] σ3) (fun l σ7 => F603 t ((cs ++ [τ]) ++ gs l) σ7) = some r := by
      simp only [List.append_assoc, List.singleton_append]
      exact he
    exact hL Γ S4 σ3 W3 _ x a I A K _ d Q r _ Z4 ⟨List.append_ne_nil_of_right_ne_nil _ (List.cons_ne_nil _ _), by rw [if_neg hd1]⟩ (by omega) (by have := q3.1; omega) (by omega) he her (fun τ' σ7 S7 W7 a' y' w Z7 o7 q7 => hk τ' σ7 S7 W7 a' y' w (ZZ_mono Z7 (by omega)) o7 (Qx_to (Qx_t q3 q7) (by omega) (by omega)))
end ZTyp
