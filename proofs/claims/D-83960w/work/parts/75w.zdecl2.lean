set_option maxRecDepth 100000
/-! THE REFERENCE'S PARSER: constructors, datatypes, exceptions -/
section ZDc2
variable {t : List Int} {Γ : Zg} {S S' : ZS} {σ σ1 : Ps} {W W' : List (List Int)} {M : Zm} {g g' G : Int} {d n tag m : Nat} {Q : Option (Option ZV) → ZS → Prop} {r : (Int × Nat) ⊕ (Gt × Ps)} {I : List Zi} {A : List Int × List (Int × Int × Int)} {K : List Zk} {cs cs2 : List Gt} {x y z p x2 c q y2 m0 : Int} {τ b : Gt} {R R' : PX} {o o' : ZO} {lo hi : Int} {F : Fx}
/-- a name that is bound -/
theorem zW_bnZ {KK : Int → Int → ZS → ZR ZS} {f : Nat → List Int → Ps → PR} (hd : 8 ≤ d) (Z : ZZ t Γ S σ W (I, A, K) g) (hg : g ≤ 160) (he : pOpn t σ f = some r) (her : ∀ e p S', r = .inl (e, p) → ThZ t Γ S' e p → Q none S') (hk : ∀ σ1 S1 W1 (q : Nat) x b, ZZ t Γ S1 σ1 W1 (I, A, kN x b :: K) (g - 4) → Qx t 0 1 σ σ1 → f q b σ1 = some r → zW (KK (q : Int) x S1) Q) : zW (zI (zc ZL d 53 [.inl 20] S) fun v2 S1 => zlet v2 fun x4 => zlet (S1.1 18) fun x5 => if x4 = 0 then zI (zc ZL d 104 [] S1) fun v6 S5 => KK x5 v6 S5 else zI (zc ZL d 76 [] S1) fun v8 S7 => KK x5 v8 S7) Q := by
  have e17 := ZZ_c Z
  unfold pOpn at he
  refine zW_hasZ 20 (by decide) (by omega) Z (by omega) he her (fun _ he => zW_let (zW_let (zW_t rfl ?_))) (fun _ σ1 S1 W1 Z1 p1 he => zW_let (zW_let (zW_f (by decide) ?_)))
  · refine zW_freeZ (by omega) Z (by omega) he her (fun _ σ1 S1 W1 x Z1 p1 he => ?_)
    rw [e17.2]
    exact hk σ1 S1 W1 _ x _ Z1 (Qx_p p1) he
  · refine zW_anyZ (by omega) Z1 (by omega) he her (fun σ2 S2 W2 x Z2 p2 he => ?_)
    rw [(ZZ_c Z1).2]
    exact hk σ2 S2 W2 _ x _ (ZZ_mono Z2 (by omega)) (Qx_to (Qx_t (Qx_p p1) (Qx_p p2)) (by omega) (by omega)) he
/-- of and a type, or not -/
theorem zW_ofZ {KK : Int → ZS → ZR ZS} {f : Gt → Ps → PR} (h30 : ZCf t (R 30 [] []) 69 noA 4 one okA) (hd : dep t σ + 3 ≤ d) (Z : ZZ t Γ S σ W (I, A, K) g) (hg : g ≤ 150) (he : pB (gOf t R σ) f = some r) (her : ∀ e p S', r = .inl (e, p) → ThZ t Γ S' e p → Q none S') (hk : ∀ ys σ1 S1 W1 x y, ZZ t Γ S1 σ1 W1 ((gs ys, x, y) :: I, A, K) g → Qx t 0 0 σ σ1 → f ys σ1 = some r → zW (KK x S1) Q) : zW (zI (zc ZL d 53 [.inl 19] S) fun v S1 => if v = 0 then KK (-1) S1 else zI (zc ZL d 69 [] S1) fun v5 S4 => KK v5 S4) Q := by
  have d40 := dep_40z Z
  unfold gOf at he
  simp only [pB_pT, pB_ite, pB_pR, pB_ass] at he
  refine zW_hasZ 19 (by decide) (by omega) Z (by omega) he her (fun _ he => zW_t rfl (hk _ σ S W (-1) (-1) (by rw [gs_gl]; exact ZZ_e Z) Qx_0 he)) (fun _ σ1 S1 W1 Z1 p1 he => zW_f (by decide) ?_)
  have q1 := Qx_p p1
  have dl1 := dep_le q1
  exact zW_subZ h30 (by omega) Z1 (by omega) rfl he her (fun y σ3 S3 W3 a Z3 _ q3 he => hk _ σ3 S3 W3 a a (by rw [gs_gl]; exact ZZ_mono Z3 (by omega)) (Qx_to (Qx_t q1 q3) (by omega) (by omega)) he)
theorem zr_consL (h30 : ZCf t (R 30 [] []) 69 noA 4 one okA) (hL : ZLn t (R 50 [] []) 409 5 Lxy FgL 0 imRz okRow (-2)) : ZLn t (gCons t R) 409 5 Lxy FgL 0 imRz okRow (-2) := by
  intro Γ S σ W cs x y I A K g d Q r as Z ga hg hp hd he her hk
  cases ga
  have d40 := dep_40z Z
  unfold gCons pBn at he
  rw [pB_pOpn] at he
  refine zl_constructors_p6 ?_
  unfold zb_constructors_p6
  refine zW_f (by decide) (zW_bnZ (KK := fun x5 v S' => ZL d 612 [.inl x, .inl y, .inl x5, .inl v] S') (by omega) Z (by omega) he her (fun σ1 S1 W1 q nm b Z1 q1 he => zl_constructors_p40 ?_))
  unfold zb_constructors_p40
  have dl1 := dep_le q1
  rw [pB_ass] at he
  refine zW_let (zW_ofZ (KK := fun v S' => ZL d 718 [.inl x, .inl y, .inl v, .inl nm, .inl (q : Int), .inl 82] S') h30 (by omega) Z1 (by omega) he her (fun ys σ3 S3 W3 a y3 Z3 q3 he => zl_constructors_p66 ?_))
  unfold zb_constructors_p66
  have q3 := Qx_to (Qx_t q1 q3) (k' := 0) (m' := 1) (by omega) (by omega)
  have dl3 := dep_le q3
  obtain ⟨hn, Z3⟩ := zK_t Z3
  simp only [pB_pT, pB_ite, pB_pR, pB_pWr, pB_in, pB_ass, gs_gl, cons1] at he
  refine zW_nodeZ (M0 := (cs, x, y) :: I) [(gs ys, a, y3)] 82 [[(q : Int)], b] (gs ys) (by omega) Z3 (by omega) (by decide) rfl (zqc rfl (zqc hn zqn)) ⟨rfl, rfl, rfl⟩ (fun f S4 Z4 => zW_let ?_)
  refine zW_rowZ (KK := fun x' S' => ZL d 790 [.inl x', .inl f] S') Z4 (by omega) (fun x' S5 Z5 => zl_constructors_p92 ?_)
  unfold zb_constructors_p92
  refine zW_let (zW_hasZ 39 (by decide) (by omega) Z5 (by omega) he her (fun _ he => zW_let (zl_constructors_p6 ?_)) (fun _ σ6 S6 W6 Z6 p6 he => zW_let ?_))
  · unfold zb_constructors_p6
    exact zW_t rfl (zW_rI (hk _ σ3 S5 W3 x' f (Option.some.inj he).symm (by show ZZ t Γ S5 σ3 W3 ((gs (gl (cs ++ [gn 82 [[(q : Int)], b] (gs ys)])), x', f) :: I, A, K) _; rw [gs_gl]; exact ZZ_mono Z5 (by omega)) ⟨by rw [gs_gl]; exact List.append_ne_nil_of_right_ne_nil _ (List.cons_ne_nil _ _), by rw [gs_gl]⟩ (Qx_to q3 rfl (by omega))))
  · have q6 := Qx_to (Qx_t q3 (Qx_p p6)) (k' := 0) (m' := 2) (by omega) (by omega)
    have dl6 := dep_le q6
    have he : pB (R 50 [] [] σ6) (fun l σ7 => FgL ((cs ++ [gn 82 [[(q : Int)], b] (gs ys)]) ++ gs l) σ7) = some r := by
      simp only [List.append_assoc, List.singleton_append]
      exact he
    exact hL Γ S6 σ6 W6 _ x' f I A K _ d Q r _ Z6 rfl (by omega) (by have := q6.1; omega) (by omega) he her (fun τ' σ7 S7 W7 a' y' w Z7 o7 q7 => hk τ' σ7 S7 W7 a' y' w (ZZ_mono Z7 (by omega)) o7 (Qx_to (Qx_t q6 q7) (by omega) (by omega)))
/-- from a loop to its method -/
theorem zW_loopR {kk : Int → ZS → ZR ZS} {fs : Ps → PR} {fK : Gt → Ps → PR} {tag2 lev : Nat} {u : Int} (hz : ∀ (d : Nat) (S : ZS) (Q : Option (Option ZV) → ZS → Prop), zW (ZL d tag2 [.inl (-1), .inl (-1), .inl 1] S) Q → zW (ZL d tag [] S) Q) (hL : ZLn t fs tag2 lev Lxy FgL 0 imRz okRow u) (hd : dep t σ + lev + 1 ≤ d) (Z : ZZ t Γ S σ W (I, A, K) g) (hg : g ≤ 150) (he : pB (fs σ) fK = some r) (hfs : ∀ l σ1, fs σ = some (.inr (l, σ1)) → l = gl (gs l)) (her : ∀ e p S', r = .inl (e, p) → ThZ t Γ S' e p → Q none S') (hk : ∀ l σ1 S1 W1 a y, ZZ t Γ S1 σ1 W1 ((gs l, a, y) :: I, A, K) (g + u) → gs l ≠ [] ∧ l = gl (gs l) → Qx t 0 0 σ σ1 → fK l σ1 = some r → zW (kk a S1) Q) : zW (zI (zc ZL d tag [] S) kk) Q := by
  obtain ⟨d, rfl⟩ : ∃ e, d = e + 1 := ⟨d - 1, by omega⟩
  obtain ⟨q, hq, h1, h2⟩ := pB_e he
  have hq' : pB (fs σ) (fun l σ1 => FgL ([] ++ gs l) σ1) = some q := by
    rw [hq]
    rcases q with e | ⟨l, σ1⟩
    · rfl
    · show pR (gl ([] ++ gs l)) σ1 = _
      rw [List.nil_append, ← hfs l σ1 hq]
      rfl
  refine zW_I (P := fun v S' => zW (kk v S') Q) (T := fun S' => Q none S') (zW_c (hz _ _ _ (hL Γ S σ W [] (-1) (-1) I A K g d _ q _ (ZZ_e Z) rfl hg (by omega) (by omega) hq' (fun e p S' w T => her e p S' (h1 _ w) T) (fun τ σ1 S1 W1 a y w Z1 o1 q1 => hk τ σ1 S1 W1 a y Z1 o1 q1 (h2 _ _ w))))) (fun _ _ q => q) (fun _ q => q)
def isGl (fs : Ps → PR) : Prop := ∀ σ l σ1, fs σ = some (.inr (l, σ1)) → l = gl (gs l)
theorem z103 : ∀ (d : Nat) (S : ZS) (Q : Option (Option ZV) → ZS → Prop), zW (ZL d 409 [.inl (-1), .inl (-1), .inl 1] S) Q → zW (ZL d 103 [] S) Q := by
  intro d S Q h
  refine zl_constructors ?_
  unfold zb_constructors
  exact zW_let (zW_let (zW_let h))
theorem z102 : ∀ (d : Nat) (S : ZS) (Q : Option (Option ZV) → ZS → Prop), zW (ZL d 408 [.inl (-1), .inl (-1), .inl 1] S) Q → zW (ZL d 102 [] S) Q := by
  intro d S Q h
  refine zl_datas ?_
  unfold zb_datas
  exact zW_let (zW_let (zW_let h))
theorem z54 : ∀ (d : Nat) (S : ZS) (Q : Option (Option ZV) → ZS → Prop), zW (ZL d 373 [.inl (-1), .inl (-1), .inl 1] S) Q → zW (ZL d 54 [] S) Q := by
  intro d S Q h
  refine zl_binds ?_
  unfold zb_binds
  exact zW_let (zW_let (zW_let h))
theorem z96 : ∀ (d : Nat) (S : ZS) (Q : Option (Option ZV) → ZS → Prop), zW (ZL d 404 [.inl (-1), .inl (-1), .inl 1] S) Q → zW (ZL d 96 [] S) Q := by
  intro d S Q h
  refine zl_functions ?_
  unfold zb_functions
  exact zW_let (zW_let (zW_let h))
theorem zr_datasL (h47 : ZVf t (R 47 [] []) 100 1) (h50 : ZLn t (R 50 [] []) 409 5 Lxy FgL 0 imRz okRow (-2)) (hg50 : isGl (R 50 [] [])) (hL : ZLn t (R 49 [] []) 408 7 Lxy FgL 0 imRz okRow (-2)) : ZLn t (gDatas t R) 408 7 Lxy FgL 0 imRz okRow (-2) := by
  intro Γ S σ W cs x y I A K g d Q r as Z ga hg hp hd he her hk
  cases ga
  have d40 := dep_40z Z
  unfold gDatas at he
  simp only [pB_pT, pB_ite, pB_pR, pB_pWr, pB_in, pB_ass, pB_pNeed, pB_pOpens, pB_pCloses, pB_pName, pB_pAny, pB_pOpn, pB_pLab, gs_gl, cons1] at he
  refine zl_datas_p6 ?_
  unfold zb_datas_p6
  obtain ⟨u, hu, h1, h2⟩ := pB_e he
  obtain ⟨d, rfl⟩ : ∃ e, d = e + 1 := ⟨d - 1, by omega⟩
  refine zW_f (by decide) (zW_I (P := fun v S1 => ∃ vs σ1 W1 y1, ZZ t Γ S1 σ1 W1 ((gs vs, v, y1) :: (cs, x, y) :: I, A, K) g ∧ Qx t 0 0 σ σ1 ∧ u = .inr (vs, σ1)) (T := fun S' => Q none S') (zW_c (h47 Γ S σ W _ g d _ u Z hg (by omega) hu (fun e p S' w T => her e p S' (h1 _ w) T) (fun vs σ1 S1 W1 a y1 w Z1 q1 => ⟨vs, σ1, W1, y1, Z1, q1, w⟩))) (fun v S1 ⟨vs, σ1, W1, y1, Z1, q1, w⟩ => zW_let (zW_let ?_)) (fun _ q => q))
  have he := h2 _ _ w
  have e17 := ZZ_c Z1
  have dl1 := dep_le q1
  refine zW_nameZ (by omega) Z1 (by omega) he her (fun _ σ2 S2 W2 nm Z2 p2 he => zW_let ?_)
  have q2 := Qx_to (Qx_t q1 (Qx_p p2)) (k' := 0) (m' := 1) (by omega) (by omega)
  have dl2 := dep_le q2
  refine zW_needZ 40 (by decide) (by omega) Z2 (by omega) he her (fun _ σ3 S3 W3 Z3 p3 he => ?_)
  have q3 := Qx_to (Qx_t q2 (Qx_p p3)) (k' := 0) (m' := 2) (by omega) (by omega)
  have dl3 := dep_le q3
  refine zW_loopR z103 h50 (by omega) Z3 (by omega) he (fun l σ' h => hg50 _ l σ' h) her (fun l σ4 S4 W4 a y4 Z4 hl q4 he => ?_)
  have q4 := Qx_to (Qx_t q3 q4) (k' := 0) (m' := 2) (by omega) (by omega)
  have dl4 := dep_le q4
  obtain ⟨hn, Z4⟩ := zK_t Z4
  refine zW_nodeZ (M0 := (cs, x, y) :: I) [(gs vs, v, y1), (gs l, a, y4)] 81 [[((pc σ1).2.1 : Int)], (pc σ1).2.2.1] [gl (gs vs), gl (gs l)] (by omega) Z4 (by omega) (by decide) rfl (zqc e17.2 (zqc hn (zqc e17.2 zqn))) ⟨⟨0, [], Or.inl rfl, rfl⟩, rfl, ⟨0, [], Or.inl rfl, rfl⟩, rfl, rfl⟩ (fun f S5 Z5 => zW_let ?_)
  refine zW_rowZ (KK := fun x' S' => ZL (d + 1) 611 [.inl x', .inl f] S') Z5 (by omega) (fun x' S6 Z6 => zl_datas_p73 ?_)
  unfold zb_datas_p73
  refine zW_let (zW_hasZ 0 (by decide) (by omega) Z6 (by omega) he her (fun _ he => zW_let (zl_datas_p6 ?_)) (fun _ σ7 S7 W7 Z7 p7 he => zW_let ?_))
  · unfold zb_datas_p6
    exact zW_t rfl (zW_rI (hk _ σ4 S6 W4 x' f (Option.some.inj he).symm (by show ZZ t Γ S6 σ4 W4 ((gs (gl (cs ++ [gn 81 [[((pc σ1).2.1 : Int)], (pc σ1).2.2.1] [gl (gs vs), gl (gs l)]])), x', f) :: I, A, K) _; rw [gs_gl]; exact ZZ_mono Z6 (by omega)) ⟨by rw [gs_gl]; exact List.append_ne_nil_of_right_ne_nil _ (List.cons_ne_nil _ _), by rw [gs_gl]⟩ (Qx_to q4 rfl (by omega))))
  · have q7 := Qx_to (Qx_t q4 (Qx_p p7)) (k' := 0) (m' := 3) (by omega) (by omega)
    have dl7 := dep_le q7
    have he : pB (R 49 [] [] σ7) (fun l' σ8 => FgL ((cs ++ [gn 81 [[((pc σ1).2.1 : Int)], (pc σ1).2.2.1] [gl (gs vs), gl (gs l)]]) ++ gs l') σ8) = some r := by
      simp only [List.append_assoc, List.singleton_append]
      exact he
    exact hL Γ S7 σ7 W7 _ x' f I A K _ (d + 1) Q r _ Z7 rfl (by omega) (by have := q7.1; omega) (by omega) he her (fun τ' σ8 S8 W8 a' y' w Z8 o8 q8 => hk τ' σ8 S8 W8 a' y' w (ZZ_mono Z8 (by omega)) o8 (Qx_to (Qx_t q7 q8) (by omega) (by omega)))
/-- exceptions -/
abbrev gExc (t : List Int) (R : PX) : Ps → PR := fun σ1 => pBn t σ1 fun q b σ2 =>
    if pIs σ2 40 then pT (pPass t σ2) fun σ3 => pBn t σ3 fun q' b' σ4 => pR (gn 76 [[(q : Int), (q' : Int)], b, b'] []) σ4
    else pB (gOf t R σ2) fun ys σ3 => pR (gn 75 [[(q : Int)], b] (gs ys)) σ3
theorem zr_exc (h30 : ZCf t (R 30 [] []) 69 noA 4 one okA) : ZCf t (gExc t R) 105 (fun _ => [.inl p]) 5 one okA := by
  intro Γ S σ W M g d Q r Z hg hd he her hk
  obtain ⟨I, A, K⟩ := M
  have d40 := dep_40z Z
  unfold gExc pBn at he
  refine zl_exception ?_
  unfold zb_exception
  refine zW_bnZ (KK := fun x3 v S' => ZL d 410 [.inl p, .inl x3, .inl v] S') (by omega) Z (by omega) he her (fun σ1 S1 W1 q nm b Z1 q1 he => zl_exception_p27 ?_)
  unfold zb_exception_p27
  have dl1 := dep_le q1
  refine zW_let (zW_hasZ 40 (by decide) (by omega) Z1 (by omega) he her (fun _ he => zW_t rfl ?_) (fun _ σ2 S2 W2 Z2 p2 he => zW_f (by decide) ?_))
  · refine zW_ofZ (KK := fun v S' => zI (zc ZL d 52 [.inl 75, .inl p, .inl nm, .inl v, .inl 0, .inl (q : Int)] S') fun v7 S6 => zrI v7 S6) h30 (by omega) Z1 (by omega) he her (fun ys σ3 S3 W3 a y3 Z3 q3 he => ?_)
    obtain ⟨hn, Z3⟩ := zK_t Z3
    exact zW_nodeZ (M0 := I) [(gs ys, a, y3)] 75 [[(q : Int)], b] (gs ys) (by omega) Z3 (by omega) (by decide) rfl (zqc hn (zqc rfl zqn)) ⟨rfl, rfl, rfl⟩ (fun f S4 Z4 => zW_rI (hk _ σ3 S4 W3 f f (Option.some.inj he).symm (ZZ_mono Z4 (by omega)) trivial (Qx_to (Qx_t q1 q3) (by omega) (by omega))))
  · have q2 := Qx_to (Qx_t q1 (Qx_p p2)) (k' := 0) (m' := 2) (by omega) (by omega)
    refine zW_bnZ (KK := fun x6 v S' => ZL d 613 [.inl p, .inl (q : Int), .inl nm, .inl x6, .inl v] S') (by omega) Z2 (by omega) he her (fun σ3 S3 W3 q' nm' b' Z3 q3 he => zl_exception_p68 ?_)
    unfold zb_exception_p68
    obtain ⟨hn', Z3⟩ := zK_t Z3
    obtain ⟨hn, Z3⟩ := zK_t Z3
    exact zW_let (zW_nodeZ (M0 := I) [] 76 [[(q : Int), (q' : Int)], b, b'] [] (by omega) Z3 (by omega) (by decide) rfl (zqc hn (zqc hn' (zqc rfl (zqc rfl zqn)))) rfl (fun f S4 Z4 => zW_rI (hk _ σ3 S4 W3 f f (Option.some.inj he).symm (ZZ_mono Z4 (by omega)) trivial (Qx_to (Qx_t q2 q3) (by omega) (by omega)))))
end ZDc2
