set_option maxRecDepth 100000
/-! THE REFERENCE'S PARSER: types, all of them -/
/-- a tree that grows -/
def ZLa (t : List Int) (fs : Gt → Ps → PR) (tag lev : Nat) (okin : Gt → Prop) (ok : Gt → Prop) : Prop :=
  ∀ (Γ : Zg) (S : ZS) (σ : Ps) (W : List (List Int)) (τ0 : Gt) (x : Int) (I : List Zi) (A : List Int × List (Int × Int × Int)) (K : List Zk) (g : Int) (d : Nat) (Q : Option (Option ZV) → ZS → Prop) (r : (Int × Nat) ⊕ (Gt × Ps)), ZZ t Γ S σ W (([τ0], x, x) :: I, A, K) g → okin τ0 → g ≤ 150 → dep t σ + lev ≤ d → fs τ0 σ = some r →
    (∀ e p S', r = .inl (e, p) → ThZ t Γ S' e p → Q none S') →
    (∀ τ σ1 S1 W1 a y', r = .inr (τ, σ1) → ZZ t Γ S1 σ1 W1 (([τ], a, y') :: I, A, K) g → ok τ → Qx t 0 0 σ σ1 → Q (some (some (.inl a))) S1) → zW (ZL d tag [.inl x] S) Q
def gnum : Nat → List Gt → List Gt
  | _, [] => []
  | k, c :: s => gn 64 [[(k : Int)]] [c] :: gnum (k + 1) s
theorem gnum_app : ∀ (s : List Gt) (k : Nat) (c : Gt), gnum k (s ++ [c]) = gnum k s ++ [gn 64 [[((k + s.length : Nat) : Int)]] [c]]
  | [], _, _ => rfl
  | x :: s, k, c => by
    show _ :: gnum (k + 1) (s ++ [c]) = _
    rw [gnum_app s (k + 1) c]
    show _ :: (_ ++ [gn 64 [[((k + 1 + s.length : Nat) : Int)]] [c]]) = _ :: gnum (k + 1) s ++ [gn 64 [[((k + (s.length + 1) : Nat) : Int)]] [c]]
    rw [show k + 1 + s.length = k + (s.length + 1) by omega]; rfl
section ZTyq
variable {t : List Int} {Γ : Zg} {S S' : ZS} {σ σ1 : Ps} {W W' : List (List Int)} {M : Zm} {g g' : Int} {d n tag : Nat} {Q : Option (Option ZV) → ZS → Prop} {r : (Int × Nat) ⊕ (Gt × Ps)} {I : List Zi} {A : List Int × List (Int × Int × Int)} {K : List Zk} {cs : List Gt} {x y z : Int} {τ : Gt} {R : PX} {o : ZO} {lo hi : Int}
theorem zr_ty72 (h30 : ZCf t (R 30 [] []) 69 noA 4 one okA) (h73 : ZCf t (nE 32 (g73 t R)) 73 atA 0 one okA) (hL : ∀ p : Int, ZLn t (R 14 [34, 30] []) 603 9 (L603 p) (F603 t) (-1) one (fun _ _ _ => True) 0) : ZCf t (gAtT t R) 72 noA 1 one okA := by
  intro Γ S σ W M g d Q r Z hg hd he her hk
  obtain ⟨I, A, K⟩ := M
  have d40 := dep_40z Z
  have e17 := ZZ_c Z
  unfold gAtT at he
  refine zl_atomicType ?_
  unfold zb_atomicType
  have big : ¬ (pc σ).1 = 2 → ¬ tTyn (pc σ) → zW (ZL d 385 [.inl (S.1 18)] S) Q := by
    intro n2 nt
    rw [if_neg n2] at he
    refine zl_atomicType_p74 ?_
    unfold zb_atomicType_p74
    refine zW_isZ 32 (by decide) (by omega) Z (fun w => zW_f (by decide) ?_) (fun w => zW_t rfl (zW_isZ 28 (by decide) (by omega) Z (fun w2 => zW_f (by decide) ?_) (fun w2 => zW_t rfl ?_)))
    · rw [if_pos w] at he
      refine zW_subZ h73 (by omega) Z (by omega) (by rw [e17.2]) (nE_he w he) her (fun τ σ1 S1 W1 a Z1 _ q1 he => zW_rI (hk _ σ1 S1 W1 a a (Option.some.inj he).symm Z1 trivial q1))
    · rw [if_neg w, if_pos w2] at he
      refine zW_opensZ (by omega) Z (by have := w2.1; omega) (by omega) he her (fun hp σ1 S1 W1 Z1 p1 he => ?_)
      have q1 := Qx_to (Qx_o p1) (k' := 1) (m' := 1) (by omega) (by omega)
      have dl1 := dep_op q1 hp
      have hp1 := p1.2.1
      refine zW_subZ h30 (by omega) Z1 (by omega) rfl he her (fun τ σ3 S3 W3 a Z3 _ q3 he => zW_let (zW_let (zW_let ?_)))
      have q3 := Qx_to (Qx_t q1 q3) (k' := 1) (m' := 2) (by omega) (by omega)
      have dl3 := dep_op q3 hp
      have he : pB (R 14 [34, 30] [] σ3) (fun l σ7 => F603 t ([τ] ++ gs l) σ7) = some r := he
      exact hL _ Γ S3 σ3 W3 _ a a I A K _ d Q r _ Z3 ⟨List.cons_ne_nil _ _, rfl⟩ (by omega) (by have := q3.1; omega) (by omega) he her (fun τ' σ7 S7 W7 a' y' w Z7 o7 q7 => hk τ' σ7 S7 W7 a' y' w (ZZ_mono Z7 (by omega)) trivial (Qx_to (Qx_t q3 q7) (by omega) (by omega)))
    · rw [if_neg w, if_neg w2] at he
      unfold gNamed at he
      rw [if_neg nt] at he
      rw [e17.2]
      exact zW_thr (her _ _ _ (Option.some.inj he).symm (ThZ_th Z (by omega)))
  refine zW_let (zW_if (fun q => ?_) (fun q => zW_if (fun q' => ?_) (fun q' => big (by omega) (fun z => by have := z.1; omega))))
  · have h2 : (pc σ).1 = 2 := by omega
    rw [if_pos h2] at he
    refine zW_nodeZ (M0 := I) [] 50 [[((pc σ).2.1 : Int)], (pc σ).2.2.1] [] (by omega) Z (by omega) (by decide) rfl (zqc e17.2 (zqc (ZZ_nm Z (by omega)) zqn)) rfl (fun a S1 Z1 => zW_let ?_)
    exact zW_stepZ (by omega) Z1 (by omega) (by omega) he her (fun σ1 S2 W2 Z2 p he => zW_rI (hk _ σ1 S2 W2 a a (Option.some.inj he).symm (ZZ_mono Z2 (by omega)) trivial (Qx_p p)))
  · have c1 : (pc σ).1 = 1 := by omega
    have hs := zstar Z c1
    refine zW_if (fun w2 => big (by omega) (fun z => z.2 (hs.mp w2))) (fun w2 => ?_)
    have n32 : ¬ pIs σ 32 := fun z => by have := z.1; omega
    have n28 : ¬ pIs σ 28 := fun z => by have := z.1; omega
    rw [if_neg (by omega), if_neg n32, if_neg n28] at he
    unfold gNamed at he
    rw [if_pos ⟨c1, fun z => w2 (hs.mpr z)⟩] at he
    refine zW_nodeZ (M0 := I) [([], -1, -1)] 51 [[((pc σ).2.1 : Int)], (pc σ).2.2.1] [] (by omega) (ZZ_e Z) (by omega) (by decide) rfl (zqc (ZZ_nm Z (by omega)) (zqc e17.2 zqn)) ⟨rfl, rfl, rfl⟩ (fun a S2 Z2 => zW_let ?_)
    exact zW_stepZ (by omega) Z2 (by omega) (by omega) he her (fun σ3 S3 W3 Z3 p3 he => zW_rI (hk _ σ3 S3 W3 a a (Option.some.inj he).symm (ZZ_mono Z3 (by omega)) trivial (Qx_p p3)))
theorem zr_sufL (hL : ZLa t (fun a => R 35 [] [a]) 384 1 (fun _ => True) (fun _ => True)) : ZLa t (fun a => gSufR t R a) 384 1 (fun _ => True) (fun _ => True) := by
  intro Γ S σ W τ0 x I A K g d Q r Z oi hg hd he her hk
  have d40 := dep_40z Z
  have e17 := ZZ_c Z
  have he : gSufR t R τ0 σ = some r := he
  unfold gSufR at he
  refine zl_suffixed_p5 ?_
  unfold zb_suffixed_p5
  refine zW_if (fun q => ?_) (fun q => ?_)
  · have c1 : (pc σ).1 = 1 := by omega
    have hs := zstar Z c1
    refine zW_if (fun w2 => ?_) (fun w2 => zW_let ?_)
    · rw [if_neg (fun z => z.2 (hs.mp w2))] at he
      exact zW_rI (hk _ σ S W x x (Option.some.inj he).symm Z trivial Qx_0)
    · rw [if_pos ⟨c1, fun z => w2 (hs.mpr z)⟩] at he
      refine zW_whA 0 Z (by omega) rfl (List.cons_ne_nil _ _) rfl (fun v => ?_)
      refine zW_nodeZ (M0 := I) [([τ0], x, x)] 51 [[((pc σ).2.1 : Int)], (pc σ).2.2.1] [τ0] (by omega) Z (by omega) (by decide) rfl (zqc (ZZ_nm Z (by omega)) (zqc e17.2 zqn)) ⟨rfl, rfl, rfl⟩ (fun a S2 Z2 => zW_let ?_)
      refine zW_stepZ (by omega) Z2 (by omega) (by omega) he her (fun σ3 S3 W3 Z3 p3 he => ?_)
      have q3 := Qx_p p3
      have dl3 := dep_le q3
      exact hL Γ S3 σ3 W3 _ a I A K _ d Q r Z3 trivial (by omega) (by omega) he her (fun τ' σ7 S7 W7 a' y' w Z7 o7 q7 => hk τ' σ7 S7 W7 a' y' w (ZZ_mono Z7 (by omega)) trivial (Qx_to (Qx_t q3 q7) (by omega) (by omega)))
  · rw [if_neg (fun z => by have := z.1; omega)] at he
    exact zW_rI (hk _ σ S W x x (Option.some.inj he).symm Z trivial Qx_0)
theorem zr_ty71 (h36 : ZCf t (R 36 [] []) 72 noA 1 one okA) (hL : ZLa t (fun a => R 35 [] [a]) 384 1 (fun _ => True) (fun _ => True)) : ZCf t (gSuf R) 71 noA 2 one okA := by
  intro Γ S σ W M g d Q r Z hg hd he her hk
  obtain ⟨I, A, K⟩ := M
  have d40 := dep_40z Z
  unfold gSuf at he
  refine zl_suffixed ?_
  unfold zb_suffixed
  refine zW_subZ h36 (by omega) Z (by omega) rfl he her (fun τ σ1 S1 W1 a Z1 _ q1 he => zW_let ?_)
  have dl1 := dep_le q1
  exact hL Γ S1 σ1 W1 _ a I A K _ d Q r Z1 trivial (by omega) (by omega) he her (fun τ' σ7 S7 W7 a' y' w Z7 o7 q7 => hk τ' σ7 S7 W7 a' y' w (ZZ_mono Z7 (by omega)) trivial (Qx_to (Qx_t q1 q7) (by omega) (by omega)))
/-- numbered fields of a row -/
theorem zrl_num : ∀ (s : List Gt) {k : Nat} {lo hi x : Int}, zrl o (zIm o (gnum k s)) lo hi x → zrf o (zIm o s) (k : Int) lo hi x
  | [], _, _, _, _, h => h
  | c :: s, k, lo, hi, x, h => by
    obtain ⟨h1, h2, ⟨h3, h4, -⟩, h5⟩ := h
    have h4 : zrt o (gn 64 [[(k : Int)]] [c]) lo (x + 1) x := h4
    rw [zrt_gn] at h4
    have h4 : zrtA o 64 [[(k : Int)]] (zIm o [c]) lo (x + 1) x := h4
    unfold zrtA zrtB at h4
    rw [if_neg (by decide), if_neg (by decide), if_neg (by decide), if_neg (by decide), if_neg (by decide), if_neg (by decide)] at h4
    obtain ⟨g1, g2, g3, g4, g5⟩ := h4
    have g3 : o.1 0 x = 60 := g3
    have g4 : o.1 2 x = -1 - (k : Int) := g4 (2, 6, 0) (List.mem_cons_self ..)
    have g5 : lo ≤ o.1 3 x ∧ o.1 3 x < x ∧ zch o (c, zrt o c) lo (o.1 3 x + 1) (o.1 3 x) ∧ o.1 3 x + 1 ≤ x := g5
    show lo ≤ o.1 3 x ∧ o.1 3 x < x ∧ x < hi ∧ o.1 0 x = 60 ∧ o.1 2 x = -1 - (k : Int) ∧ zch o (c, zrt o c) lo (o.1 3 x + 1) (o.1 3 x) ∧ zrf o (zIm o s) ((k : Int) + 1) (x + 1) hi (o.1 6 x)
    have ih := zrl_num s (k := k + 1) h5
    rw [show ((k + 1 : Nat) : Int) = (k : Int) + 1 by omega] at ih
    exact ⟨g5.1, g5.2.1, h2, g3, g4, g5.2.2.1, ih⟩
/-- a new node whose parts do not stand in the table -/
theorem zW_nodeG {kk : Int → ZS → ZR ZS} {w pl nm x3 x4 x5 : Int} {M0 : List Zi} (its : List Zi) (k : Nat) (p : List (List Int)) (s : List Gt) (hd : 1 ≤ d) (Z : ZZ t Γ S σ W (its.reverse ++ M0, A, K) g) (hg : g ≤ 185) (hk : k ≠ 0 ∧ k ≠ 63 ∧ (k = 6 → x5 = -1)) (hp : ∀ (o : ZO) (a m : Int), (∀ j, j ≤ 6 → o.1 j a = zav w pl nm x3 x4 x5 j) → o.2 = (zo S W).2 → zseg o its m a → m ≤ a → zrtB o k p (zIm o s) m a) (hh : ∀ a S1, ZZ t Γ S1 σ W (([gn k p s], a, a) :: M0, A, K) (g + 1) → zW (kk a S1) Q) : zW (zI (zc ZL d 52 [.inl w, .inl pl, .inl nm, .inl x3, .inl x4, .inl x5] S) kk) Q := by
  obtain ⟨d, rfl⟩ : ∃ e, d = e + 1 := ⟨d - 1, by omega⟩
  have h40 := ZZ_40 Z hg
  refine zW_Ie (z_node h40.1 h40.2) (hh _ _ ?_)
  obtain ⟨m0, w0, w1, w2⟩ := zits_seg its Z.2.2.2.2.2.1
  have o2 : (zo (zmk S (zav w pl nm x3 x4 x5)) W).2 = (zo S W).2 := zo_2 rfl rfl
  refine ZZ_mk (M := (its.reverse ++ M0, A, K)) Z rfl hg ⟨m0, w0, w1, ?_⟩ ⟨hk.1, hk.2.1⟩ hk.2.2
  rw [zrt_gn]
  show zrtA _ k p (zIm _ s) m0 (S.1 40 + 1) (S.1 40)
  unfold zrtA
  rw [if_neg (by omega)]
  exact ⟨w0, by omega, hp _ _ _ (fun j hj => zmk_at hj) o2 (zseg_k (fun i b w => by rw [o2]; exact w) (fun i b w => by rw [o2]; exact w) its (zeq_mono zeq_mk (Int.le_refl _) (Int.le_refl _) (fun _ _ _ _ w => w)) w2) w0⟩
def ZL383 (t : List Int) (fs : Ps → PR) : Prop :=
  ∀ (Γ : Zg) (S : ZS) (σ : Ps) (W : List (List Int)) (cs : List Gt) (x1 x y : Int) (I : List Zi) (A : List Int × List (Int × Int × Int)) (K : List Zk) (g : Int) (d : Nat) (Q : Option (Option ZV) → ZS → Prop) (r : (Int × Nat) ⊕ (Gt × Ps)), ZZ t Γ S σ W ((gnum 1 cs, x, y) :: I, A, K) g → cs ≠ [] → (Γ.1.1 40 ≤ x1 ∧ x1 < x) → cs.length + pmu t σ ≤ 10000 → g ≤ 150 → dep t σ + 3 ≤ d → pB (fs σ) (fun l σ1 => pR (gn 54 [] (cs ++ gs l)) σ1) = some r →
    (∀ e p S', r = .inl (e, p) → ThZ t Γ S' e p → Q none S') →
    (∀ τ σ1 S1 W1 a y', r = .inr (τ, σ1) → ZZ t Γ S1 σ1 W1 (([τ], a, y') :: I, A, K) (if tStar (pc σ) then g - 4 else g + 1) → Qx t 0 0 σ σ1 → Q (some (some (.inl a))) S1) → zW (ZL d 383 [.inl x1, .inl x, .inl y, .inl (cs.length : Int)] S) Q
theorem gnum_ne (hc : cs ≠ []) {k : Nat} : gnum k cs ≠ [] := by
  cases cs with
  | nil => exact absurd rfl hc
  | cons c cs => exact List.cons_ne_nil _ _
theorem zr_tupL (h34 : ZCf t (R 34 [] []) 71 noA 2 one okA) (hL : ZL383 t (R 33 [] [])) : ZL383 t (gTupR t R) := by
  intro Γ S σ W cs x1 x y I A K g d Q r Z hc hx hn hg hd he her hk
  have d40 := dep_40z Z
  have e17 := ZZ_c Z
  unfold gTupR at he
  simp only [pB_pT, pB_ite, pB_pR, pB_pWr, pB_in, pB_ass, pB_pNeed, pB_pOpens, pB_pCloses, pB_pName, pB_pAny, pB_pOpn, pB_pLab, gs_gl, cons1] at he
  refine zl_tupleType_p56 ?_
  unfold zb_tupleType_p56
  have hlt := (ZZ_in Z 0 rfl (gnum_ne hc)).2
  have ex : ¬ tStar (pc σ) → zW (ZL d 602 [.inl x1, .inl x] S) Q := by
    intro ns
    rw [if_neg ns, List.append_nil] at he
    refine zl_tupleType_p131 ?_
    unfold zb_tupleType_p131
    refine zW_whB Z (by omega) ⟨hx.1, by have h9 : x < S.1 40 := hlt; omega⟩ (fun v => ?_)
    refine zW_nodeG (M0 := I) [(gnum 1 cs, x, y)] 54 [] cs (by omega) Z (by omega) (by decide) (fun o a m e1 e2 hs hm => ?_) (fun a S1 Z1 => zW_rI (hk _ σ S1 W a a (Option.some.inj he).symm (ZZ_mono Z1 (by rw [if_neg ns]; omega)) Qx_0))
    unfold zrtB
    rw [if_neg (by decide), if_neg (by decide), if_pos rfl]
    refine ⟨(e1 0 (by omega)), ?_⟩
    rw [show o.1 3 a = x from e1 3 (by omega)]
    obtain ⟨m', h1, h2, h3⟩ := hs
    have h3 : m' ≤ a := h3
    exact zrf_k cs (fun c _ => zrt_k (fun _ _ w => w) (fun _ _ w => w) c) (fun _ _ _ _ _ => rfl) (Int.le_refl _) h3 (zrl_num cs (k := 1) h2.1)
  refine zW_if (fun q => ?_) (fun q => ex (fun z => by have := z.1; omega))
  have c1 : (pc σ).1 = 1 := by omega
  have hs := zstar Z c1
  refine zW_if (fun w2 => ?_) (fun w2 => ex (fun z => w2 (hs.mpr z.2)))
  have ts : tStar (pc σ) := ⟨c1, hs.mp w2⟩
  rw [if_pos ts] at he
  refine zW_stepZ (by omega) Z (by omega) (by omega) he her (fun σ2 S2 W2 Z2 p2 he => ?_)
  have q2 := Qx_p p2
  have dl2 := dep_le q2
  refine zW_subZ h34 (by omega) Z2 (by omega) rfl he her (fun τ σ3 S3 W3 a Z3 _ q3 he => zW_let (zW_G (by omega) (zW_let ?_)))
  have q3 := Qx_to (Qx_t q2 q3) (k' := 0) (m' := 2) (by omega) (by omega)
  have dl3 := dep_le q3
  refine zW_whA 0 Z3 (by omega) rfl (List.cons_ne_nil _ _) rfl (fun v => ?_)
  obtain ⟨d, rfl⟩ : ∃ e, d = e + 1 := ⟨d - 1, by omega⟩
  refine zW_Ie (zW_get (zW_c (zW_eq (z_number (by omega)) ⟨rfl, rfl⟩))) ?_
  refine zW_nodeZ (M0 := (gnum 1 cs, x, y) :: I) [([τ], a, a)] 64 [[((1 + cs.length : Nat) : Int)]] [τ] (by omega) Z3 (by omega) (by decide) rfl (zqc (show -1 - ((cs.length : Int) + 1) = -1 - ((1 + cs.length : Nat) : Int) by omega) zqn) ⟨⟨_, rfl, rfl⟩, rfl, rfl⟩ (fun f S4 Z4 => ?_)
  refine zW_rowW (KK := fun v S' => ZL (d + 1) 383 [.inl x1, .inl x, .inl v, .inl ((cs.length : Int) + 1)] S') Z4 (gnum_ne hc) (by omega) (fun S5 Z5 => ?_)
  rw [← gnum_app] at Z5
  have he : pB (R 33 [] [] σ3) (fun l σ7 => pR (gn 54 [] ((cs ++ [τ]) ++ gs l)) σ7) = some r := by
    simp only [List.append_assoc, List.singleton_append]
    exact he
  have := hL Γ S5 σ3 W3 _ x1 x f I A K _ (d + 1) Q r Z5 (List.append_ne_nil_of_right_ne_nil _ (List.cons_ne_nil _ _)) hx (by rw [List.length_append]; have := q3.2.2.1; show cs.length + 1 + _ ≤ _; omega) (by omega) (by omega) he her (fun τ' σ7 S7 W7 a' y' w Z7 q7 => hk τ' σ7 S7 W7 a' y' w (ZZ_mono Z7 (by rw [if_pos ts]; split <;> omega)) (Qx_to (Qx_t q3 q7) (by omega) (by omega)))
  rw [List.length_append, show ((cs.length + [τ].length : Nat) : Int) = (cs.length : Int) + 1 from rfl] at this
  exact this
theorem zr_ty70 (h34 : ZCf t (R 34 [] []) 71 noA 2 one okA) (hL : ZL383 t (R 33 [] [])) (hS : YSt (R 33 [] []) (fun σ => tStar (pc σ))) (hlen : t.length ≤ 900) : ZCf t (gTup R) 70 noA 3 one okA := by
  intro Γ S σ W M g d Q r Z hg hd he her hk
  obtain ⟨I, A, K⟩ := M
  have d40 := dep_40z Z
  unfold gTup at he
  refine zl_tupleType ?_
  unfold zb_tupleType
  refine zW_subZ h34 (by omega) Z (by omega) rfl he her (fun τ σ1 S1 W1 a Z1 _ q1 he => zW_let ?_)
  have dl1 := dep_le q1
  have e17 := ZZ_c Z1
  have ex : ¬ tStar (pc σ1) → zW (zrI a S1) Q := by
    intro ns
    obtain ⟨q, hq, w1, w2⟩ := pB_e he
    have := hS.1 σ1 q hq ns
    have := w2 _ _ this
    rw [gs_gl, if_pos rfl] at this
    exact zW_rI (hk _ σ1 S1 W1 a a (Option.some.inj this).symm Z1 trivial q1)
  refine zW_if (fun q => ?_) (fun q => ex (fun z => by have := z.1; omega))
  have c1 : (pc σ1).1 = 1 := by omega
  have hs := zstar Z1 c1
  refine zW_if (fun w2 => ?_) (fun w2 => ex (fun z => w2 (hs.mpr z.2)))
  have ts : tStar (pc σ1) := ⟨c1, hs.mp w2⟩
  have he : pB (R 33 [] [] σ1) (fun l σ2 => pR (gn 54 [] ([τ] ++ gs l)) σ2) = some r := by
    obtain ⟨u, hq, w2⟩ := pB_c he
    rw [hq]
    rcases w2 with ⟨e, rfl, rfl⟩ | ⟨l, σ2, rfl, w⟩
    · rfl
    · have := hS.2 σ1 l σ2 hq ts
      rw [if_neg this] at w
      exact w
  refine zW_whA 0 Z1 (by omega) rfl (List.cons_ne_nil _ _) rfl (fun v => ?_)
  obtain ⟨d, rfl⟩ : ∃ e, d = e + 1 := ⟨d - 1, by omega⟩
  refine zW_Ie (zW_get (zW_c (zW_eq (z_number (by omega)) ⟨rfl, rfl⟩))) ?_
  have hin : Γ.1.1 40 ≤ a ∧ a < S1.1 40 := ZZ_in Z1 0 rfl (List.cons_ne_nil _ _)
  refine zW_nodeX (M0 := I) [([τ], a, a)] 64 [[((1 : Nat) : Int)]] [τ] (by omega) Z1 (by omega) (by decide) rfl (zqc rfl zqn) ⟨⟨_, rfl, rfl⟩, rfl, rfl⟩ (fun f S4 ef Z4 => zW_let (zW_let (zW_let ?_)))
  have hmu : pmu t σ1 ≤ 902 := by
    unfold pmu
    split
    · omega
    · split
      · omega
      · omega
  exact hL Γ S4 σ1 W1 [τ] a f f I A K _ (d + 1) Q r Z4 (List.cons_ne_nil _ _) ⟨hin.1, by have h9 : a < S1.1 40 := hin.2; omega⟩ (by show 1 + pmu t σ1 ≤ 10000; omega) (by omega) (by omega) he her (fun τ' σ7 S7 W7 a' y' w Z7 q7 => hk τ' σ7 S7 W7 a' y' w (ZZ_mono Z7 (by rw [if_pos ts]; omega)) trivial (Qx_to (Qx_t q1 q7) (by omega) (by omega)))
def tyOf (l : List Gt) : Gt := match l with
  | [a] => a
  | l => gn 53 [] l
abbrev imT : Gt → List Gt := fun τ => [tyOf (gs τ)]
abbrev okTl : Ps → Gt → ZS → Int → Prop := fun _ τ _ _ => gs τ ≠ []
def gTyL (R : PX) : Ps → PR := fun σ => pB (R 32 [] [] σ) fun a σ1 => cons1 a (R 31 [] [] σ1)
theorem gTy_L : gTy R σ = pB (gTyL R σ) fun l σ2 => pR (tyOf (gs l)) σ2 := by
  unfold gTy gTyL cons1
  simp only [pB_ass, pB_pR, gs_gl]
  congr 1
  funext a σ1
  congr 1
  funext l σ2
  cases gs l with
  | nil => rfl
  | cons b bs => rfl
theorem zarr_of {l : List Gt} {v m : Int} (hl : l ≠ []) (h : zch o (tyOf l, zrt o (tyOf l)) m (v + 1) v) (hm : lo ≤ m) (hv : m ≤ v) : zarr o (zIm o l) lo v := by
  match l, hl, h with
  | [b], _, h => exact ⟨by omega, zch_k0 (zrt_k (fun _ _ w => w) (fun _ _ w => w) b) (fun _ _ _ _ _ => rfl) hm (Int.le_refl _) ⟨by omega, by omega⟩ h⟩
  | b :: c :: l, _, h =>
    have h2 : zrt o (gn 53 [] (b :: c :: l)) m (v + 1) v := h.2.1
    rw [zrt_gn] at h2
    have h2 : zrtA o 53 [] (zIm o (b :: c :: l)) m (v + 1) v := h2
    unfold zrtA zrtB at h2
    rw [if_neg (by decide), if_neg (by decide), if_pos rfl] at h2
    exact zarr_k _ (fun c _ => zrt_k (fun _ _ w => w) (fun _ _ w => w) c) (fun _ _ _ _ _ => rfl) hm h2.2.2
/-- what comes of the one comes of the other -/
def PLe (x y : PR) : Prop := ∀ r, x = some r → y = some r
theorem pB_le {x y : PR} {f : Gt → Ps → PR} {r : (Int × Nat) ⊕ (Gt × Ps)} (h : PLe x y) (he : pB x f = some r) : pB y f = some r := by
  obtain ⟨q, hq, -⟩ := pB_e he
  rw [h q hq, ← hq]
  exact he
theorem zr_ty69 {R' : PX} (h32 : ZCf t (R 32 [] []) 70 noA 3 one okA) (h31 : ∀ σ, PLe (R 31 [] [] σ) (gArrR t R' σ)) (ih : ZCf t (gTyL R') 69 noA 4 imT okTl) : ZCf t (gTyL R) 69 noA 4 imT okTl := by
  intro Γ S σ W M g d Q r Z hg hd he her hk
  obtain ⟨I, A, K⟩ := M
  have d40 := dep_40z Z
  unfold gTyL at he
  refine zl_type_2 ?_
  unfold zb_type_2
  refine zW_subZ h32 (by omega) Z (by omega) rfl he her (fun τ σ1 S1 W1 a Z1 _ q1 he => zW_let ?_)
  have dl1 := dep_le q1
  replace he : cons1 τ (gArrR t R' σ1) = some r := pB_le (h31 σ1) he
  unfold gArrR at he
  refine zW_isZ 42 (by decide) (by omega) Z1 (fun w => zW_f (by decide) ?_) (fun w => zW_t rfl ?_)
  · rw [if_pos w] at he
    have he : pT (pPass t σ1) (fun σ2 => cons1 τ (gTyL R' σ2)) = some r := by
      unfold cons1 at he ⊢
      rw [pB_pT] at he
      exact he
    refine zW_stepZ (by omega) Z1 (by have := w.1; omega) (by omega) he her (fun σ2 S2 W2 Z2 p2 he => ?_)
    have q2 := Qx_to (Qx_t q1 (Qx_p p2)) (k' := 0) (m' := 2) (by omega) (by omega)
    have dl2 := dep_le q2
    refine zW_whA 0 Z2 (by omega) rfl (List.cons_ne_nil _ _) rfl (fun v => ?_)
    refine zW_subR ih (by omega) Z2 (by omega) rfl he her (fun l σ3 S3 W3 b y Z3 hl q3 he => ?_)
    have q3 := Qx_to (Qx_t q2 q3) (k' := 0) (m' := 1) (by omega) (by omega)
    refine zW_nodeG (M0 := I) [([τ], a, a), ([tyOf (gs l)], b, y)] 53 [] (τ :: gs l) (by omega) Z3 (by omega) (by decide) (fun o A m e1 e2 hs hm => ?_) (fun A S4 Z4 => zW_rI (hk _ σ3 S4 W3 A A (Option.some.inj he).symm (ZZ_mono (g := g - 2 - 4 - 2 + 1) ?_ (by omega)) ?_ q3))
    · unfold zrtB
      rw [if_neg (by decide), if_pos rfl]
      obtain ⟨m1, h1, h2, m2, h3, h4, h5⟩ := hs
      obtain ⟨a1, a2, a3, a4, a5⟩ := zit_1 h2
      obtain ⟨b1, b2, b3, b4, b5⟩ := zit_1 h4
      have h5 : m2 ≤ A := h5
      have e3 : o.1 3 A = a := e1 3 (by omega)
      have e4 : o.1 4 A = b := e1 4 (by omega)
      have e0 : o.1 0 A = 53 := e1 0 (by omega)
      cases el : gs l with
      | nil => exact absurd el hl
      | cons c cs =>
        show m ≤ o.1 3 A ∧ o.1 3 A < A ∧ o.1 0 A = 53 ∧ zch o (τ, zrt o τ) m (o.1 3 A + 1) (o.1 3 A) ∧ o.1 3 A < o.1 4 A ∧ o.1 4 A < A ∧ zarr o (zIm o (c :: cs)) (o.1 3 A + 1) (o.1 4 A)
        rw [e3, e4, ← el]
        exact ⟨a1, by omega, e0, a3, by omega, by omega, zarr_of hl b3 (by omega) (by omega)⟩
    · have : tyOf (gs (gl (τ :: gs l))) = gn 53 [] (τ :: gs l) := by
        rw [gs_gl]
        cases el : gs l with
        | nil => exact absurd el hl
        | cons c cs => rfl
      show ZZ t Γ S4 σ3 W3 (([tyOf (gs (gl (τ :: gs l)))], A, A) :: I, _, K) _
      rw [this]
      exact Z4
    · show gs (gl _) ≠ []
      rw [gs_gl]
      exact List.cons_ne_nil _ _
  · rw [if_neg w] at he
    have he : r = .inr (gl (τ :: gs (gl [])), σ1) := (Option.some.inj he).symm
    rw [gs_gl] at he
    refine zW_rI (hk _ σ1 S1 W1 a a he ?_ ?_ q1)
    · show ZZ t Γ S1 σ1 W1 (([tyOf (gs (gl [τ]))], a, a) :: I, A, K) _
      rw [gs_gl]
      exact Z1
    · show gs (gl _) ≠ []
      rw [gs_gl]
      exact List.cons_ne_nil _ _
theorem zr_ty30 (h : ZCf t (gTyL R) 69 noA 4 imT okTl) : ZCf t (gTy R) 69 noA 4 one okA := by
  intro Γ S σ W M g d Q r Z hg hd he her hk
  rw [gTy_L] at he
  obtain ⟨q, hq, w1, w2⟩ := pB_e he
  exact h Γ S σ W M g d Q q Z hg hd hq (fun e p S' w T => her e p S' (w1 _ w) T) (fun τ σ1 S1 W1 a y w Z1 _ q1 => hk _ σ1 S1 W1 a y (Option.some.inj (w2 _ _ w)).symm Z1 trivial q1)
end ZTyq
