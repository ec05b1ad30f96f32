set_option maxRecDepth 100000
/-! THE REFERENCE'S PARSER: atomic patterns -/
abbrev okP : Ps → Gt → ZS → Int → Prop := fun _ τ _ _ => gk τ ∈ kPa
abbrev okp : Gt → ZS → Int → Prop := fun τ _ _ => gk τ ∈ kPa
def fHeld (p : Int) (x2 : Int) (l : List Gt) : Gt := if x2 = 0 then (match l with | [q] => gsb p q | s => gn 41 [[p]] s) else gn 39 [[p]] l
abbrev F74 (t : List Int) (p x2 : Int) : List Gt → Ps → PR := fun l σ => pCloses t (if x2 = 0 then 29 else 31) σ fun σ4 => pR (fHeld p x2 l) σ4
abbrev L74 (t : List Int) (p x2 : Int) : Ps → List Gt → Int → Int → List ZV → Prop := fun σ cs x y as => cs ≠ [] ∧ cs.length + pmu t σ ≤ 10000 ∧ (∀ c ∈ cs, gk c ∈ kPa) ∧ as = [.inl p, .inl x2, .inl (if x2 = 0 then 29 else 31), .inl x, .inl ((cs.length : Int) - 1), .inl y]
section ZPat
variable {t : List Int} {Γ : Zg} {S S' : ZS} {σ σ1 : Ps} {W W' : List (List Int)} {M : Zm} {g g' : Int} {d n tag : Nat} {Q : Option (Option ZV) → ZS → Prop} {r : (Int × Nat) ⊕ (Gt × Ps)} {I : List Zi} {A : List Int × List (Int × Int × Int)} {K : List Zk} {cs : List Gt} {x y z p x2 : Int} {τ : Gt} {R : PX} {o : ZO} {lo hi : Int}
theorem kPa_Z {τ : Gt} (h : gk τ ∈ kPa) : okZ τ := List.mem_append.mpr (Or.inr h)
theorem kEx_Z {τ : Gt} (h : gk τ ∈ kEx) : okZ τ := List.mem_append.mpr (Or.inl h)
/-- a constant -/
theorem zW_constZ {kk : Int → ZS → ZR ZS} {f : Gt → Ps → PR} {w : Int} (k : Nat) (hk0 : (k = 32 ∧ w = 32 + ((pc σ).1 - 3 : Int)) ∨ (k = 90 ∧ w = ((pc σ).1 - 3 : Int))) (hd : 7 ≤ d) (Z : ZZ t Γ S σ W (I, A, K) g) (hc : tCon (pc σ)) (hg : g ≤ 160) (he : pB (gConst t k σ) f = some r) (her : ∀ e p S', r = .inl (e, p) → ThZ t Γ S' e p → Q none S') (hk : ∀ σ1 S1 W1 a, ZZ t Γ S1 σ1 W1 (([gn (k + ((pc σ).1 - 3)) [[((pc σ).2.1 : Int), (pc σ).2.2.2], (pc σ).2.2.1] []], a, a) :: I, A, K) (g - 3) → Qx t 0 1 σ σ1 → f (gn (k + ((pc σ).1 - 3)) [[((pc σ).2.1 : Int), (pc σ).2.2.2], (pc σ).2.2.1] []) σ1 = some r → zW (kk a S1) Q) : zW (zI (zc ZL d 64 [.inl w] S) kk) Q := by
  obtain ⟨d, rfl⟩ : ∃ e, d = e + 1 := ⟨d - 1, by omega⟩
  have e17 := ZZ_c Z
  obtain ⟨c1, c2, c3, c4, c5, c6⟩ := Z.1.2.2.1
  unfold gConst at he
  rw [pB_pT] at he
  have h6 : (pc σ).1 ≠ 6 := by rcases hc with h | h | h <;> omega
  refine zW_I (P := fun v S' => zW (kk v S') Q) (T := fun S' => Q none S') (zW_c (zl_constant ?_)) (fun _ _ q => q) (fun _ q => q)
  unfold zb_constant
  refine zW_if (fun q => ?_) (fun q => ?_)
  · have h4 : (pc σ).1 = 4 := by omega
    rw [h4] at hk he hk0
    have str : (zo S W).2.1 (S.1 20) (pc σ).2.2.1 := c5 h4
    rcases hk0 with ⟨rfl, hw⟩ | ⟨rfl, hw⟩ <;> subst hw
    · exact zW_nodeZ (M0 := I) [] 33 [[((pc σ).2.1 : Int), (pc σ).2.2.2], (pc σ).2.2.1] [] (by omega) Z (by omega) (by decide) rfl (zqc e17.2 (zqc str zqn)) rfl (fun a S1 Z1 => zW_let (zW_stepZ (by omega) Z1 h6 (by omega) he her (fun σ1 S2 W2 Z2 p2 he => zW_rI (hk σ1 S2 W2 a (ZZ_mono Z2 (by omega)) (Qx_p p2) he))))
    · exact zW_nodeZ (M0 := I) [] 91 [[((pc σ).2.1 : Int), (pc σ).2.2.2], (pc σ).2.2.1] [] (by omega) Z (by omega) (by decide) rfl (zqc e17.2 (zqc str zqn)) rfl (fun a S1 Z1 => zW_let (zW_stepZ (by omega) Z1 h6 (by omega) he her (fun σ1 S2 W2 Z2 p2 he => zW_rI (hk σ1 S2 W2 a (ZZ_mono Z2 (by omega)) (Qx_p p2) he))))
  · have h35 : (pc σ).1 = 3 ∨ (pc σ).1 = 5 := by rcases hc with h | h | h <;> omega
    have e19 : S.1 19 = (pc σ).2.2.2 := by
      rcases h35 with h | h
      · exact (c4 h).1
      · exact c6 h
    rcases h35 with h3 | h5
    · rw [h3] at hk he hk0
      rcases hk0 with ⟨rfl, hw⟩ | ⟨rfl, hw⟩ <;> subst hw
      · exact zW_nodeZ (M0 := I) [] 32 [[((pc σ).2.1 : Int), (pc σ).2.2.2], (pc σ).2.2.1] [] (by omega) Z (by omega) (by decide) rfl (zqc e17.2 (zqc e19 zqn)) rfl (fun a S1 Z1 => zW_let (zW_stepZ (by omega) Z1 h6 (by omega) he her (fun σ1 S2 W2 Z2 p2 he => zW_rI (hk σ1 S2 W2 a (ZZ_mono Z2 (by omega)) (Qx_p p2) he))))
      · exact zW_nodeZ (M0 := I) [] 90 [[((pc σ).2.1 : Int), (pc σ).2.2.2], (pc σ).2.2.1] [] (by omega) Z (by omega) (by decide) rfl (zqc e17.2 (zqc e19 zqn)) rfl (fun a S1 Z1 => zW_let (zW_stepZ (by omega) Z1 h6 (by omega) he her (fun σ1 S2 W2 Z2 p2 he => zW_rI (hk σ1 S2 W2 a (ZZ_mono Z2 (by omega)) (Qx_p p2) he))))
    · rw [h5] at hk he hk0
      rcases hk0 with ⟨rfl, hw⟩ | ⟨rfl, hw⟩ <;> subst hw
      · exact zW_nodeZ (M0 := I) [] 34 [[((pc σ).2.1 : Int), (pc σ).2.2.2], (pc σ).2.2.1] [] (by omega) Z (by omega) (by decide) rfl (zqc e17.2 (zqc e19 zqn)) rfl (fun a S1 Z1 => zW_let (zW_stepZ (by omega) Z1 h6 (by omega) he her (fun σ1 S2 W2 Z2 p2 he => zW_rI (hk σ1 S2 W2 a (ZZ_mono Z2 (by omega)) (Qx_p p2) he))))
      · exact zW_nodeZ (M0 := I) [] 92 [[((pc σ).2.1 : Int), (pc σ).2.2.2], (pc σ).2.2.1] [] (by omega) Z (by omega) (by decide) rfl (zqc e17.2 (zqc e19 zqn)) rfl (fun a S1 Z1 => zW_let (zW_stepZ (by omega) Z1 h6 (by omega) he her (fun σ1 S2 W2 Z2 p2 he => zW_rI (hk σ1 S2 W2 a (ZZ_mono Z2 (by omega)) (Qx_p p2) he))))
/-- no name stands here -/
theorem zW_opnE {kk : Int → ZS → ZR ZS} (hd : 8 ≤ d) (Z : ZZ t Γ S σ W (I, A, K) g) (hn : ¬ tNf (pF σ) (pc σ)) (hg : g ≤ 185) (he : pWr σ = some r) (her : ∀ e p S', r = .inl (e, p) → ThZ t Γ S' e p → Q none S') : zW (zI (zc ZL d 75 [] S) kk) Q := by
  obtain ⟨d, rfl⟩ : ∃ e, d = e + 4 := ⟨d - 4, by omega⟩
  have e17 := ZZ_c Z
  have n20 : ¬ pIs σ 20 := fun z => hn (Or.inl z)
  refine zW_I (P := fun v S' => zW (kk v S') Q) (T := fun S' => Q none S') (zW_c (zl_opName ?_)) (fun _ _ q => q) (fun _ q => q)
  unfold zb_opName
  have th : zW (zthrow 2 (S.1 18) S) (oI (fun v S' => zW (kk v S') Q) fun S' => Q none S') := by
    rw [e17.2]
    exact zW_thr (her _ _ _ (Option.some.inj he).symm (ThZ_th Z hg))
  refine zW_hasZ (f := fun _ => none) (e0 := pWr σ) 20 (by decide) (by omega) Z hg (by rw [if_neg n20]; exact he) her (fun _ _ => zW_t rfl (zW_if (fun q => ?_) (fun q => th))) (fun q => absurd q n20)
  have h1 : (pc σ).1 = 1 := by omega
  refine zW_tst (d := d + 2) (z_isInfix Z (ZZ_nm Z (by omega))) (fun _ => zW_f (by decide) th) (fun w => absurd (Or.inr ⟨h1, ?_⟩) hn)
  rw [pSt_e Z h1]
  exact Classical.not_not.mp w
/-- patterns between brackets: the end of them -/
theorem zr_heldEnd (hx2 : x2 = 0 ∨ x2 = 1) (hd : 8 ≤ d) (hp : 0 < pd σ) (Z : ZZ t Γ S σ W ((cs, x, y) :: I, A, K) g) (hok : ∀ c ∈ cs, gk c ∈ kPa) (hg : g ≤ 160) (he : F74 t p x2 cs σ = some r) (her : ∀ e p S', r = .inl (e, p) → ThZ t Γ S' e p → Q none S') (hk : ∀ τ σ1 S1 W1 a y', r = .inr (τ, σ1) → ZZ t Γ S1 σ1 W1 (([τ], a, y') :: I, A, K) (g - 3) → gk τ ∈ kPa → Qx t (-1) 0 σ σ1 → Q (some (some (.inl a))) S1) : zW (ZL d 605 [.inl p, .inl x2, .inl (if x2 = 0 then 29 else 31), .inl x, .inl y, .inl (cs.length : Int), .inl 0] S) Q := by
  refine zl_patternHeld_p40 ?_
  unfold zb_patternHeld_p40
  rcases hx2 with rfl | rfl
  · refine zW_t rfl (zW_closesZ 29 (by decide) hp (by omega) Z (by omega) he her (fun q σ1 S1 W1 Z1 p1 he => ?_))
    have q1 := Qx_to (Qx_o p1) (k' := -1) (m' := 0) (by omega) (by omega)
    refine zW_t rfl (zW_if (fun c1 => ?_) (fun c1 => zW_if (fun c0 => ?_) (fun c0 => ?_)))
    · match cs, c1 with
      | [c], _ =>
        have hy : x = y ∧ True := by
          obtain ⟨m, m1, m2, m3⟩ := Z1.2.2.2.2.2.1
          exact ⟨m2.2.symm, trivial⟩
        refine zW_gsbZ Z1 (kPa_Z (hok c (List.mem_cons_self ..))) (by omega) (fun S2 Z2 => zW_rI (hk _ σ1 S2 W1 x x (Option.some.inj he).symm (ZZ_mono Z2 (by omega)) ?_ q1))
        exact hok c (List.mem_cons_self ..)
      | [], c1 => cases c1
      | _ :: _ :: _, c1 => rw [List.length_cons, List.length_cons] at c1; omega
    · have hc : cs = [] := List.eq_nil_of_length_eq_zero (by omega)
      subst hc
      obtain ⟨ex, ey, Z2⟩ := ZZ_e0 Z1
      exact zW_nodeZ (M0 := I) [([], -1, -1)] 41 [[p]] [] (by omega) (ZZ_e Z2) (by omega) (by decide) rfl (zqc rfl (zqc rfl zqn)) ⟨rfl, rfl, rfl⟩ (fun a S3 Z3 => zW_rI (hk _ σ1 S3 W1 a a (Option.some.inj he).symm (ZZ_mono Z3 (by omega)) (by show 41 ∈ kPa; decide) q1))
    · match cs, c0, c1 with
      | [], c0, _ => exact absurd rfl c0
      | [_], _, c1 => exact absurd rfl c1
      | c :: c' :: cs, _, _ =>
        exact zW_nodeZ (M0 := I) [(c :: c' :: cs, x, y)] 41 [[p]] (c :: c' :: cs) (by omega) Z1 (by omega) (by decide) rfl (zqc rfl zqn) ⟨rfl, rfl, rfl⟩ (fun a S3 Z3 => zW_rI (hk _ σ1 S3 W1 a a (Option.some.inj he).symm (ZZ_mono Z3 (by omega)) (by show 41 ∈ kPa; decide) q1))
  · refine zW_t rfl (zW_closesZ 31 (by decide) hp (by omega) Z (by omega) he her (fun q σ1 S1 W1 Z1 p1 he => ?_))
    have q1 := Qx_to (Qx_o p1) (k' := -1) (m' := 0) (by omega) (by omega)
    exact zW_f (by decide) (zW_nodeZ (M0 := I) [(cs, x, y)] 39 [[p]] cs (by omega) Z1 (by omega) (by decide) rfl (zqc rfl zqn) ⟨rfl, rfl, rfl⟩ (fun a S3 Z3 => zW_rI (hk _ σ1 S3 W1 a a (Option.some.inj he).symm (ZZ_mono Z3 (by omega)) (by show 39 ∈ kPa; decide) q1)))
/-- one more pattern, or the end -/
theorem zr_heldL (hx2 : x2 = 0 ∨ x2 = 1) (h20 : ZCf t (R 20 [] []) 55 noA 7 one okP) (hL : ZLn t (R 14 [34, 20] []) 715 9 (L74 t p x2) (F74 t p x2) (-1) one okp 0) (hlen : t.length ≤ 900) : ZLn t (gSeq t 34 20 R) 715 9 (L74 t p x2) (F74 t p x2) (-1) one okp 0 := by
  intro Γ S σ W cs x y I A K g d Q r as Z ga hg hp hd he her hk
  obtain ⟨hc, hl, hok, rfl⟩ := ga
  have d40 := dep_40z Z
  unfold gSeq at he
  simp only [pB_pT, pB_ite, pB_pR, pB_pWr, pB_in, pB_ass, pB_pNeed, pB_pOpens, pB_pCloses, pB_pName, pB_pAny, pB_pOpn, pB_pLab, gs_gl, cons1] at he
  refine zl_patternHeld_p73 ?_
  unfold zb_patternHeld_p73
  refine zW_let (zW_G (by omega) (zW_let ?_))
  rw [Int.sub_add_cancel]
  refine zW_hasZ 34 (by decide) (by omega) Z (by omega) he her (fun _ he => zW_let ?_) (fun _ σ1 S1 W1 Z1 p1 he => zW_let ?_)
  · rw [List.append_nil] at he
    exact zr_heldEnd hx2 (by omega) (by omega) Z hok (by omega) he her (fun τ' σ7 S7 W7 a' y' w Z7 o7 q7 => hk τ' σ7 S7 W7 a' y' w (ZZ_mono Z7 (by omega)) o7 q7)
  · have q1 := Qx_p p1
    have dl1 := dep_le q1
    refine zl_patternHeld_p40 ?_
    unfold zb_patternHeld_p40
    refine zW_f (by decide) (zW_subZ h20 (by omega) Z1 (by omega) rfl he her (fun τ σ3 S3 W3 a Z3 o3 q3 he => zW_let ?_))
    have q3 := Qx_to (Qx_t q1 q3) (k' := 0) (m' := 2) (by omega) (by omega)
    have dl3 := dep_le q3
    refine zW_rowZ (KK := fun x' S' => ZL d 715 [.inl p, .inl x2, .inl (if x2 = 0 then 29 else 31), .inl x', .inl (cs.length : Int), .inl a] S') Z3 (by omega) (fun x' S5 Z5 => ?_)
    have hc1 : cs ++ [τ] ≠ [] := List.append_ne_nil_of_right_ne_nil _ (List.cons_ne_nil _ _)
    have hl1 : (cs ++ [τ]).length = cs.length + 1 := by rw [List.length_append]; rfl
    have he : pB (R 14 [34, 20] [] σ3) (fun l σ7 => F74 t p x2 ((cs ++ [τ]) ++ gs l) σ7) = some r := by
      simp only [List.append_assoc, List.singleton_append]
      exact he
    exact hL Γ S5 σ3 W3 _ x' a I A K _ d Q r _ Z5 ⟨hc1, by rw [hl1]; have := q3.2.2.1; omega, fun c w => by
      rcases List.mem_append.mp w with w | w
      · exact hok c w
      · rw [List.mem_singleton.mp w]; exact o3, by rw [hl1, show ((cs.length + 1 : Nat) : Int) - 1 = cs.length by omega]⟩ (by omega) (by have := q3.1; omega) (by omega) he her (fun τ' σ7 S7 W7 a' y' w Z7 o7 q7 => hk τ' σ7 S7 W7 a' y' w (ZZ_mono Z7 (by omega)) o7 (Qx_to (Qx_t q3 q7) (by omega) (by omega)))
/-- patterns between brackets -/
abbrev gHeld (t : List Int) (R : PX) (x2 : Int) : Ps → PR := fun σ => pOpens t σ fun σ1 => pB (if pIs σ1 (if x2 = 0 then 29 else 31) then pR (gl []) σ1 else pB (R 20 [] [] σ1) fun e σ2 => cons1 e (R 14 [34, 20] [] σ2)) fun l σ3 => F74 t ((pc σ).2.1 : Int) x2 (gs l) σ3
theorem zr_held (hx2 : x2 = 0 ∨ x2 = 1) (h20 : ZCf t (R 20 [] []) 55 noA 7 one okP) (hL : ∀ p : Int, ZLn t (R 14 [34, 20] []) 715 9 (L74 t p x2) (F74 t p x2) (-1) one okp 0) (hlen : t.length ≤ 900) : ZCf t (nE (if x2 = 0 then 28 else 30) (gHeld t R x2)) 74 (fun σ => [.inl ((pc σ).2.1 : Int), .inl x2]) 0 one okP := by
  intro Γ S σ W M g d Q r Z hg hd he her hk
  obtain ⟨I, A, K⟩ := M
  have d40 := dep_40z Z
  obtain ⟨w32, he⟩ := nE_is he
  have h6 : (pc σ).1 ≠ 6 := by have := w32.1; omega
  unfold gHeld at he
  simp only [pB_pT, pB_ite, pB_pR, pB_pWr, pB_in, pB_ass, pB_pNeed, pB_pOpens, pB_pCloses, pB_pName, pB_pAny, pB_pOpn, pB_pLab, gs_gl, cons1] at he
  refine zl_patternHeld ?_
  unfold zb_patternHeld
  refine zW_opensZ (by omega) Z h6 (by omega) he her (fun hp σ1 S1 W1 Z1 p1 he => ?_)
  have q1 := Qx_to (Qx_o p1) (k' := 1) (m' := 1) (by omega) (by omega)
  have dl1 := dep_op q1 hp
  have hp1 := p1.2.1
  have hmu : pmu t σ ≤ t.length + 2 := pmu_le
  have go : zW (ZL d 388 [.inl ((pc σ).2.1 : Int), .inl x2, .inl (if x2 = 0 then 29 else 31)] S1) Q := by
    refine zl_patternHeld_p15 ?_
    unfold zb_patternHeld_p15
    refine zW_let (zW_let (zW_let (zW_let ?_)))
    have hcast : (if x2 = 0 then (29 : Int) else 31) = (((if x2 = 0 then 29 else 31) : Nat) : Int) := by split <;> rfl
    have fin : ∀ v : Int, v = (if pIs σ1 (if x2 = 0 then 29 else 31) then 1 else 0) → zW (if v = 0 then zlet (1 : Int) fun x7 => ZL d 605 [.inl ((pc σ).2.1 : Int), .inl x2, .inl (if x2 = 0 then 29 else 31), .inl (-1), .inl (-1), .inl 0, .inl x7] S1 else zlet (0 : Int) fun x7 => ZL d 605 [.inl ((pc σ).2.1 : Int), .inl x2, .inl (if x2 = 0 then 29 else 31), .inl (-1), .inl (-1), .inl 0, .inl x7] S1) Q := by
      intro v hv
      by_cases w : pIs σ1 (if x2 = 0 then 29 else 31)
      · rw [if_pos w] at he hv
        subst hv
        refine zW_f (by decide) (zW_let ?_)
        exact zr_heldEnd hx2 (by omega) (by omega) (ZZ_e Z1) (fun c w => nomatch w) (by omega) he her (fun τ' σ7 S7 W7 a' y' w Z7 o7 q7 => hk τ' σ7 S7 W7 a' y' w (ZZ_mono Z7 (by omega)) o7 (Qx_to (Qx_t q1 q7) (by omega) (by omega)))
      · rw [if_neg w] at he hv
        subst hv
        refine zW_t rfl (zW_let (zl_patternHeld_p40 ?_))
        unfold zb_patternHeld_p40
        refine zW_f (by decide) (zW_subZ h20 (by omega) Z1 (by omega) rfl he her (fun τ σ3 S3 W3 a Z3 o3 q3 he => zW_let (zW_t rfl (zW_let ?_))))
        have q3 := Qx_to (Qx_t q1 q3) (k' := 1) (m' := 2) (by omega) (by omega)
        have dl3 := dep_op q3 hp
        have he : pB (R 14 [34, 20] [] σ3) (fun l σ7 => F74 t ((pc σ).2.1 : Int) x2 ([τ] ++ gs l) σ7) = some r := he
        exact hL _ Γ S3 σ3 W3 [τ] a a I A K _ d Q r _ Z3 ⟨List.cons_ne_nil _ _, by show 1 + pmu t σ3 ≤ 10000; have := q3.2.2.1; omega, fun c w => by rw [List.mem_singleton.mp w]; exact o3, rfl⟩ (by omega) (by have := q3.1; omega) (by omega) he her (fun τ' σ7 S7 W7 a' y' w Z7 o7 q7 => hk τ' σ7 S7 W7 a' y' w (ZZ_mono Z7 (by omega)) o7 (Qx_to (Qx_t q3 q7) (by omega) (by omega)))
    rw [hcast]
    refine zW_isZ _ (by split <;> decide) (by omega) Z1 (fun w => ?_) (fun w => ?_)
    · rw [← hcast]; exact fin 1 (by rw [if_pos w])
    · rw [← hcast]; exact fin 0 (by rw [if_neg w])
  rcases hx2 with rfl | rfl
  · exact zW_t rfl go
  · exact zW_f (by decide) go
end ZPat
