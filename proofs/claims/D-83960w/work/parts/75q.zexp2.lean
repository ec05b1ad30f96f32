set_option maxRecDepth 100000
/-! THE REFERENCE'S PARSER: orelse, andalso, types behind, handles -/
section ZEx2
variable {t : List Int} {Γ : Zg} {S S' : ZS} {σ σ1 : Ps} {W W' : List (List Int)} {M : Zm} {g g' G : Int} {d n tag m : Nat} {Q : Option (Option ZV) → ZS → Prop} {r : (Int × Nat) ⊕ (Gt × Ps)} {I : List Zi} {A : List Int × List (Int × Int × Int)} {K : List Zk} {cs : List Gt} {x y z p x2 : Int} {τ : Gt} {R R' : PX} {o o' : ZO} {lo hi : Int}
theorem zr_eitherL (hW : ZCf t (nW (R 1 [] [])) 82 noA 10 one okEz) (h5 : ZCf t (R 5 [] []) 86 noA 8 one okEz) (hL : ZLa t (fun a => R 4 [] [a]) 396 5 oke oke) : ZLa t (fun a => gEitherR t R a) 396 5 oke oke := by
  intro Γ S σ W τ0 x I A K g d Q r Z oi hg hd he her hk
  have d40 := dep_40z Z
  have he : gEitherR t R τ0 σ = some r := he
  unfold gEitherR at he
  refine zl_orelse_p5 ?_
  unfold zb_orelse_p5
  refine zW_isZ 21 (by decide) (by omega) Z (fun w => zW_f (by decide) ?_) (fun w => zW_t rfl ?_)
  · rw [if_pos w] at he
    refine zW_opensZ (by omega) Z (by have := w.1; omega) (by omega) he her (fun hp σ1 S1 W1 Z1 p1 he => ?_)
    have q1 := Qx_to (Qx_o p1) (k' := 1) (m' := 1) (by omega) (by omega)
    have dl1 := dep_op q1 hp
    have fin : ∀ b σ2 S2 W2 v, ZZ t Γ S2 σ2 W2 (([b], v, v) :: ([τ0], x, x) :: I, A, K) (g - 4 - 2) → Qx t 0 1 σ1 σ2 → R 4 [] [gn 14 [[gbg τ0]] [τ0, b]] (psd σ2 (pd σ2 - 1)) = some r → zW (ZL d 607 [.inl x, .inl v] S2) Q := by
      intro b σ2 S2 W2 v Z2 q2 he
      have q2 := Qx_to (Qx_t q1 q2) (k' := 1) (m' := 2) (by omega) (by omega)
      have dl2 := dep_op q2 hp
      obtain ⟨hp2, q3⟩ := Qx_dz q2
      have dl3 := dep_le q3
      refine zl_orelse_p36 ?_
      unfold zb_orelse_p36
      refine zW_let (zW_decZ hp2 Z2 (fun S3 Z3 => ?_))
      refine zW_whZ 1 Z3 (by omega) rfl (kEx_Z oi) ?_
      refine zW_nodeZ (M0 := I) [([τ0], x, x), ([b], v, v)] 14 [[gbg τ0]] [τ0, b] (by omega) Z3 (by omega) (by decide) rfl (zqc rfl zqn) ⟨⟨_, rfl, rfl⟩, rfl, ⟨_, rfl, rfl⟩, rfl, rfl⟩ (fun f S4 Z4 => zW_let ?_)
      exact hL Γ S4 _ W2 _ f I A K _ d Q r Z4 (by show 14 ∈ kEx; decide) (by omega) (by omega) he her (fun τ' σ7 S7 W7 a' y' w Z7 o7 q7 => hk τ' σ7 S7 W7 a' y' w (ZZ_mono Z7 (by omega)) o7 (Qx_to (Qx_t q3 q7) (by omega) (by omega)))
    obtain ⟨d, rfl⟩ : ∃ e, d = e + 2 := ⟨d - 2, by omega⟩
    refine zW_tst (z_begBig Z1) (fun w2 => zW_f (by decide) ?_) (fun w2 => zW_t rfl ?_)
    · simp only [if_pos w2] at he
      have e1 : nW (R 1 [] []) σ1 = R 1 [] [] σ1 := if_pos w2
      rw [← e1] at he
      exact zW_subZ hW (by omega) Z1 (by omega) rfl he her (fun b σ2 S2 W2 v Z2 _ q2 he => fin b σ2 S2 W2 v Z2 q2 he)
    · simp only [if_neg w2] at he
      exact zW_subZ h5 (by omega) Z1 (by omega) rfl he her (fun b σ2 S2 W2 v Z2 _ q2 he => fin b σ2 S2 W2 v Z2 q2 he)
  · rw [if_neg w] at he
    exact zW_rI (hk _ σ S W x x (Option.some.inj he).symm Z oi Qx_0)
theorem zr_either (h5 : ZCf t (R 5 [] []) 86 noA 8 one okEz) (hL : ZLa t (fun a => R 4 [] [a]) 396 5 oke oke) : ZCf t (gEither R) 85 noA 9 one okEz := by
  intro Γ S σ W M g d Q r Z hg hd he her hk
  obtain ⟨I, A, K⟩ := M
  have d40 := dep_40z Z
  unfold gEither at he
  refine zl_orelse ?_
  unfold zb_orelse
  refine zW_subZ h5 (by omega) Z (by omega) rfl he her (fun τ σ1 S1 W1 a Z1 o1 q1 he => zW_let ?_)
  have dl1 := dep_le q1
  exact hL Γ S1 σ1 W1 _ a I A K _ d Q r Z1 o1 (by omega) (by omega) he her (fun τ' σ7 S7 W7 a' y' w Z7 o7 q7 => hk τ' σ7 S7 W7 a' y' w (ZZ_mono Z7 (by omega)) o7 (Qx_to (Qx_t q1 q7) (by omega) (by omega)))
theorem zr_bothL (hW : ZCf t (nW (R 1 [] [])) 82 noA 10 one okEz) (h5 : ZCf t (R 7 [] []) 87 noA 7 one okEz) (hL : ZLa t (fun a => R 6 [] [a]) 397 5 oke oke) : ZLa t (fun a => gBothR t R a) 397 5 oke oke := by
  intro Γ S σ W τ0 x I A K g d Q r Z oi hg hd he her hk
  have d40 := dep_40z Z
  have he : gBothR t R τ0 σ = some r := he
  unfold gBothR at he
  refine zl_andalso_p5 ?_
  unfold zb_andalso_p5
  refine zW_isZ 1 (by decide) (by omega) Z (fun w => zW_f (by decide) ?_) (fun w => zW_t rfl ?_)
  · rw [if_pos w] at he
    refine zW_opensZ (by omega) Z (by have := w.1; omega) (by omega) he her (fun hp σ1 S1 W1 Z1 p1 he => ?_)
    have q1 := Qx_to (Qx_o p1) (k' := 1) (m' := 1) (by omega) (by omega)
    have dl1 := dep_op q1 hp
    have fin : ∀ b σ2 S2 W2 v, ZZ t Γ S2 σ2 W2 (([b], v, v) :: ([τ0], x, x) :: I, A, K) (g - 4 - 2) → Qx t 0 1 σ1 σ2 → R 6 [] [gn 15 [[gbg τ0]] [τ0, b]] (psd σ2 (pd σ2 - 1)) = some r → zW (ZL d 608 [.inl x, .inl v] S2) Q := by
      intro b σ2 S2 W2 v Z2 q2 he
      have q2 := Qx_to (Qx_t q1 q2) (k' := 1) (m' := 2) (by omega) (by omega)
      have dl2 := dep_op q2 hp
      obtain ⟨hp2, q3⟩ := Qx_dz q2
      have dl3 := dep_le q3
      refine zl_andalso_p35 ?_
      unfold zb_andalso_p35
      refine zW_let (zW_decZ hp2 Z2 (fun S3 Z3 => ?_))
      refine zW_whZ 1 Z3 (by omega) rfl (kEx_Z oi) ?_
      refine zW_nodeZ (M0 := I) [([τ0], x, x), ([b], v, v)] 15 [[gbg τ0]] [τ0, b] (by omega) Z3 (by omega) (by decide) rfl (zqc rfl zqn) ⟨⟨_, rfl, rfl⟩, rfl, ⟨_, rfl, rfl⟩, rfl, rfl⟩ (fun f S4 Z4 => zW_let ?_)
      exact hL Γ S4 _ W2 _ f I A K _ d Q r Z4 (by show 15 ∈ kEx; decide) (by omega) (by omega) he her (fun τ' σ7 S7 W7 a' y' w Z7 o7 q7 => hk τ' σ7 S7 W7 a' y' w (ZZ_mono Z7 (by omega)) o7 (Qx_to (Qx_t q3 q7) (by omega) (by omega)))
    obtain ⟨d, rfl⟩ : ∃ e, d = e + 2 := ⟨d - 2, by omega⟩
    refine zW_tst (z_begBig Z1) (fun w2 => zW_f (by decide) ?_) (fun w2 => zW_t rfl ?_)
    · simp only [if_pos w2] at he
      have e1 : nW (R 1 [] []) σ1 = R 1 [] [] σ1 := if_pos w2
      rw [← e1] at he
      exact zW_subZ hW (by omega) Z1 (by omega) rfl he her (fun b σ2 S2 W2 v Z2 _ q2 he => fin b σ2 S2 W2 v Z2 q2 he)
    · simp only [if_neg w2] at he
      exact zW_subZ h5 (by omega) Z1 (by omega) rfl he her (fun b σ2 S2 W2 v Z2 _ q2 he => fin b σ2 S2 W2 v Z2 q2 he)
  · rw [if_neg w] at he
    exact zW_rI (hk _ σ S W x x (Option.some.inj he).symm Z oi Qx_0)
theorem zr_both (h5 : ZCf t (R 7 [] []) 87 noA 7 one okEz) (hL : ZLa t (fun a => R 6 [] [a]) 397 5 oke oke) : ZCf t (gBoth R) 86 noA 8 one okEz := by
  intro Γ S σ W M g d Q r Z hg hd he her hk
  obtain ⟨I, A, K⟩ := M
  have d40 := dep_40z Z
  unfold gBoth at he
  refine zl_andalso ?_
  unfold zb_andalso
  refine zW_subZ h5 (by omega) Z (by omega) rfl he her (fun τ σ1 S1 W1 a Z1 o1 q1 he => zW_let ?_)
  have dl1 := dep_le q1
  exact hL Γ S1 σ1 W1 _ a I A K _ d Q r Z1 o1 (by omega) (by omega) he her (fun τ' σ7 S7 W7 a' y' w Z7 o7 q7 => hk τ' σ7 S7 W7 a' y' w (ZZ_mono Z7 (by omega)) o7 (Qx_to (Qx_t q1 q7) (by omega) (by omega)))
theorem zr_typedL (h30 : ZCf t (R 30 [] []) 69 noA 4 one okA) (hL : ZLa t (fun a => R 8 [] [a]) 398 5 oke oke) : ZLa t (fun a => gTypedR t R a) 398 5 oke oke := by
  intro Γ S σ W τ0 x I A K g d Q r Z oi hg hd he her hk
  have d40 := dep_40z Z
  have he : gTypedR t R τ0 σ = some r := he
  unfold gTypedR at he
  refine zl_typed_p6 ?_
  unfold zb_typed_p6
  refine zW_hasZ 38 (by decide) (by omega) Z (by omega) he her (fun _ he => zW_t rfl (zW_rI (hk _ σ S W x x (Option.some.inj he).symm Z oi Qx_0))) (fun _ σ1 S1 W1 Z1 p1 he => zW_f (by decide) ?_)
  have q1 := Qx_p p1
  have dl1 := dep_le q1
  refine zW_whZ 0 Z1 (by omega) rfl (kEx_Z oi) ?_
  refine zW_subZ h30 (by omega) Z1 (by omega) rfl he her (fun τ σ3 S3 W3 a Z3 _ q3 he => ?_)
  have q3 := Qx_to (Qx_t q1 q3) (k' := 0) (m' := 2) (by omega) (by omega)
  have dl3 := dep_le q3
  refine zW_nodeZ (M0 := I) [([τ0], x, x), ([τ], a, a)] 16 [[gbg τ0]] [τ0, τ] (by omega) Z3 (by omega) (by decide) rfl (zqc rfl zqn) ⟨⟨_, rfl, rfl⟩, rfl, ⟨_, rfl, rfl⟩, rfl, rfl⟩ (fun f S4 Z4 => zW_let ?_)
  exact hL Γ S4 σ3 W3 _ f I A K _ d Q r Z4 (by show 16 ∈ kEx; decide) (by omega) (by omega) he her (fun τ' σ7 S7 W7 a' y' w Z7 o7 q7 => hk τ' σ7 S7 W7 a' y' w (ZZ_mono Z7 (by omega)) o7 (Qx_to (Qx_t q3 q7) (by omega) (by omega)))
theorem zr_typed (h9 : ZCf t (R 9 [] []) 56 (fun _ => [.inl 0]) 6 one (okI 0)) (hL : ZLa t (fun a => R 8 [] [a]) 398 5 oke oke) : ZCf t (gTyped R) 87 noA 7 one okEz := by
  intro Γ S σ W M g d Q r Z hg hd he her hk
  obtain ⟨I, A, K⟩ := M
  have d40 := dep_40z Z
  unfold gTyped at he
  refine zl_typed ?_
  unfold zb_typed
  refine zW_subZ h9 (by omega) Z (by omega) rfl he her (fun τ σ1 S1 W1 a Z1 o1 q1 he => zW_let ?_)
  have dl1 := dep_le q1
  exact hL Γ S1 σ1 W1 _ a I A K _ d Q r Z1 o1.1 (by omega) (by omega) he her (fun τ' σ7 S7 W7 a' y' w Z7 o7 q7 => hk τ' σ7 S7 W7 a' y' w (ZZ_mono Z7 (by omega)) o7 (Qx_to (Qx_t q1 q7) (by omega) (by omega)))
theorem zr_hdlL (h2 : ZCf t (R 2 [] []) 83 noA 9 imRz okR) (hL : ZLa t (fun a => R 16 [] [a]) 394 5 oke oke) : ZLa t (fun a => gHdl t R a) 394 5 oke oke := by
  intro Γ S σ W τ0 x I A K g d Q r Z oi hg hd he her hk
  have d40 := dep_40z Z
  have e18 := (ZZ_c Z).2
  have he : gHdl t R τ0 σ = some r := he
  unfold gHdl at he
  refine zl_expression_p254 ?_
  unfold zb_expression_p254
  refine zW_isZ 11 (by decide) (by omega) Z (fun w => zW_f (by decide) (zW_let ?_)) (fun w => zW_t rfl ?_)
  · rw [if_pos w] at he
    refine zW_opensZ (by omega) Z (by have := w.1; omega) (by omega) he her (fun hp σ1 S1 W1 Z1 p1 he => ?_)
    have q1 := Qx_to (Qx_o p1) (k' := 1) (m' := 1) (by omega) (by omega)
    have dl1 := dep_op q1 hp
    refine zW_subR h2 (by omega) Z1 (by omega) rfl he her (fun l σ2 S2 W2 a2 y2 Z2 hl q2 he => zW_let ?_)
    have q2 := Qx_to (Qx_t q1 q2) (k' := 1) (m' := 2) (by omega) (by omega)
    have dl2 := dep_op q2 hp
    obtain ⟨hp2, q3⟩ := Qx_dz q2
    have dl3 := dep_le q3
    refine zW_decZ hp2 Z2 (fun S3 Z3 => ?_)
    refine zW_whZ 1 Z3 (by omega) rfl (kEx_Z oi) ?_
    refine zW_nodeZ (M0 := I) [([τ0], x, x), (gs l, a2, y2)] 13 [[gbg τ0, ((pc σ).2.1 : Int)]] [τ0, l] (by omega) Z3 (by omega) (by decide) rfl (zqc rfl (zqc e18 zqn)) ⟨⟨_, rfl, rfl⟩, rfl, ⟨0, [], Or.inl rfl, congrArg some hl.2⟩, rfl, rfl⟩ (fun f S4 Z4 => zW_let ?_)
    exact hL Γ S4 _ W2 _ f I A K _ d Q r Z4 (by show 13 ∈ kEx; decide) (by omega) (by omega) he her (fun τ' σ7 S7 W7 a' y' w Z7 o7 q7 => hk τ' σ7 S7 W7 a' y' w (ZZ_mono Z7 (by omega)) o7 (Qx_to (Qx_t q3 q7) (by omega) (by omega)))
  · rw [if_neg w] at he
    exact zW_rI (hk _ σ S W x x (Option.some.inj he).symm Z oi Qx_0)
theorem zr_exp (hW : ZCf t (nW (R 1 [] [])) 82 noA 10 one okEz) (h3 : ZCf t (R 3 [] []) 85 noA 9 one okEz) (hL : ZLa t (fun a => R 16 [] [a]) 394 5 oke oke) : ZCf t (gExp R) 82 noA 10 one okEz := by
  intro Γ S σ W M g d Q r Z hg hd he her hk
  have d40 := dep_40z Z
  unfold gExp at he
  by_cases w : tWide (pc σ)
  · rw [if_pos w] at he
    exact hW Γ S σ W M g d Q r Z hg hd ((if_pos w : nW (R 1 [] []) σ = _).trans he) her hk
  · rw [if_neg w] at he
    obtain ⟨I, A, K⟩ := M
    refine zl_expression ?_
    unfold zb_expression
    refine zW_let (zW_isZ 22 (by decide) (by omega) Z (fun z => absurd (Or.inl z) w) (fun n22 => zW_t rfl (zW_isZ 12 (by decide) (by omega) Z (fun z => absurd (Or.inr (Or.inl z)) w) (fun n12 => zW_t rfl (zW_isZ 27 (by decide) (by omega) Z (fun z => absurd (Or.inr (Or.inr (Or.inl z))) w) (fun n27 => zW_t rfl (zW_isZ 3 (by decide) (by omega) Z (fun z => absurd (Or.inr (Or.inr (Or.inr (Or.inl z)))) w) (fun n3 => zW_t rfl (zW_isZ 9 (by decide) (by omega) Z (fun z => absurd (Or.inr (Or.inr (Or.inr (Or.inr z)))) w) (fun n9 => zW_t rfl ?_))))))))))
    refine zW_subZ h3 (by omega) Z (by omega) rfl he her (fun τ σ1 S1 W1 a Z1 o1 q1 he => zW_let ?_)
    have dl1 := dep_le q1
    exact hL Γ S1 σ1 W1 _ a I A K _ d Q r Z1 o1 (by omega) (by omega) he her (fun τ' σ7 S7 W7 a' y' w Z7 o7 q7 => hk τ' σ7 S7 W7 a' y' w (ZZ_mono Z7 (by omega)) o7 (Qx_to (Qx_t q1 q7) (by omega) (by omega)))
end ZEx2
