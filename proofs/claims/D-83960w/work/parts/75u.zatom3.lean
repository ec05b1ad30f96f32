set_option maxRecDepth 100000
/-! THE REFERENCE'S PARSER: any atom -/
section ZAt3
variable {t : List Int} {Γ : Zg} {S S' : ZS} {σ σ1 : Ps} {W W' : List (List Int)} {M : Zm} {g g' G : Int} {d n tag m : Nat} {Q : Option (Option ZV) → ZS → Prop} {r : (Int × Nat) ⊕ (Gt × Ps)} {I : List Zi} {A : List Int × List (Int × Int × Int)} {K : List Zk} {cs cs2 : List Gt} {x y z p x2 c q y2 m0 : Int} {τ b : Gt} {R R' : PX} {o o' : ZO} {lo hi : Int} {F : Fx}
theorem zr_listEnd (hd : 8 ≤ d) (hp : 0 < pd σ) (Z : ZZ t Γ S σ W ((cs, x, y) :: I, A, K) g) (hg : g ≤ 160) (he : pCloses t 31 σ (fun σ4 => pR (gn 19 [[p]] cs) σ4) = some r) (her : ∀ e p S', r = .inl (e, p) → ThZ t Γ S' e p → Q none S') (hk : ∀ τ σ1 S1 W1 a y', r = .inr (τ, σ1) → ZZ t Γ S1 σ1 W1 (([τ], a, y') :: I, A, K) (g - 3) → gk τ ∈ kEx → Qx t (-1) 0 σ σ1 → Q (some (some (.inl a))) S1) : zW (ZL d 392 [.inl x, .inl 0, .inl p, .inl 19] S) Q := by
  refine zl_atom_p155 ?_
  unfold zb_atom_p155
  exact zW_nodeZ (M0 := I) [(cs, x, y)] 19 [[p]] cs (by omega) Z (by omega) (by decide) rfl (zqc rfl zqn) ⟨rfl, rfl, rfl⟩ (fun a S2 Z2 => zW_let (zW_closesZ 31 (by decide) hp (by omega) Z2 (by omega) he her (fun q σ1 S1 W1 Z1 p1 he => zW_rI (hk _ σ1 S1 W1 a a (Option.some.inj he).symm (ZZ_mono Z1 (by omega)) (by show 19 ∈ kEx; decide) (Qx_to (Qx_o p1) (by omega) (by omega))))))
abbrev gLst (t : List Int) (R : PX) : Ps → PR := fun σ => pOpens t σ fun σ1 => pB (if pIs σ1 31 then pR (gl []) σ1 else gRowE R 34 σ1) fun l σ3 => pCloses t 31 σ3 fun σ4 => pR (gn 19 [[((pc σ).2.1 : Int)]] (gs l)) σ4
theorem gAt_eq : gAt t R σ = if tCon (pc σ) then gConst t 90 σ else if pIs σ 43 then pT (pPass t σ) (fun σ1 => pLab t σ1 fun l σ2 => pR (gn 4 [[((pc σ).2.1 : Int), ((pc σ).2.1 : Int)], l] []) σ2) else if pIs σ 32 then gERow t R σ else if pIs σ 28 then gBrE t R σ else if pIs σ 30 then gLst t R σ else if pIs σ 16 then gLet t R σ else if tNf (pF σ) (pc σ) then pOpn t σ (fun q b σ1 => pR (gn 3 [[((pc σ).2.1 : Int), (q : Int)], b] []) σ1) else pWr σ := by
  unfold gAt
  by_cases h2 : tCon (pc σ)
  · rw [if_neg (fun z => z (Or.inl h2)), if_pos h2, if_pos h2]
  rw [if_neg h2, if_neg h2]
  by_cases h43 : pIs σ 43
  · have n28 : ¬ pIs σ 28 := fun z => tIs_ne (by decide) h43 z
    have n32 : ¬ pIs σ 32 := fun z => tIs_ne (by decide) h43 z
    have n30 : ¬ pIs σ 30 := fun z => tIs_ne (by decide) h43 z
    have n16 : ¬ pIs σ 16 := fun z => tIs_ne (by decide) h43 z
    rw [if_neg (fun z => z (Or.inr (Or.inr (Or.inr (Or.inl h43))))), if_neg n28, if_neg n32, if_neg n30, if_neg n16, if_pos h43, if_pos h43]
  by_cases h32 : pIs σ 32
  · have n28 : ¬ pIs σ 28 := fun z => tIs_ne (by decide) h32 z
    rw [if_neg (fun z => z (Or.inr (Or.inr (Or.inr (Or.inr (Or.inl h32)))))), if_neg n28, if_pos h32, if_neg h43, if_pos h32]
  by_cases h28 : pIs σ 28
  · rw [if_neg (fun z => z (Or.inr (Or.inr (Or.inr (Or.inr (Or.inr (Or.inl h28))))))), if_pos h28, if_neg h43, if_neg h32, if_pos h28]
  by_cases h30 : pIs σ 30
  · rw [if_neg (fun z => z (Or.inr (Or.inr (Or.inr (Or.inr (Or.inr (Or.inr (Or.inl h30)))))))), if_neg h28, if_neg h32, if_pos h30, if_neg h43, if_neg h32, if_neg h28, if_pos h30]
    rfl
  by_cases h16 : pIs σ 16
  · rw [if_neg (fun z => z (Or.inr (Or.inr (Or.inr (Or.inr (Or.inr (Or.inr (Or.inr h16)))))))), if_neg h28, if_neg h32, if_neg h30, if_pos h16, if_neg h43, if_neg h32, if_neg h28, if_neg h30, if_pos h16]
  rw [if_neg h28, if_neg h32, if_neg h30, if_neg h16, if_neg h43, if_neg h43, if_neg h32, if_neg h28, if_neg h30, if_neg h16]
  by_cases h6 : tNf (pF σ) (pc σ)
  · rw [if_pos h6, if_neg]
    exact fun z => z (h6.elim (fun w => Or.inr (Or.inr (Or.inl w))) (fun w => Or.inr (Or.inl w)))
  · rw [if_neg h6, if_pos]
    rintro (w | w | w | w | w | w | w | w)
    · exact h2 w
    · exact h6 (Or.inr w)
    · exact h6 (Or.inl w)
    · exact h43 w
    · exact h32 w
    · exact h28 w
    · exact h30 w
    · exact h16 w
theorem zr_atom (h81 : ZCf t (nE 32 (gERow t R)) 81 atA 0 one okEz) (h89 : ZCf t (nE 28 (gBrE t R)) 89 atA 0 one okEz) (h91 : ZCf t (nE 16 (gLet t R)) 91 atA 0 one okEz) (h90 : ZCf t (gRowE R 34) 90 (fun _ => [.inl 34]) 11 imRz okR) : ZCf t (gAt t R) 80 noA 2 one okEz := by
  intro Γ S σ W M g d Q r Z hg hd he her hk
  obtain ⟨I, A, K⟩ := M
  have d40 := dep_40z Z
  have e17 := ZZ_c Z
  have e22 := ZZ_n Z
  rw [gAt_eq] at he
  refine zl_atom ?_
  unfold zb_atom
  have con : tCon (pc σ) → zW (ZL d 390 [] S) Q := by
    intro hc
    rw [if_pos hc] at he
    have he : pB (gConst t 90 σ) pR = some r := by rw [pB_id]; exact he
    refine zl_atom_p29 ?_
    unfold zb_atom_p29
    have go : ∀ w : Int, w = ((pc σ).1 - 3 : Int) → zW (zI (zc ZL d 64 [.inl w] S) fun v S1 => zlet v fun x => zrI x S1) Q := fun w hw => zW_constZ 90 (Or.inr ⟨rfl, hw⟩) (by omega) Z hc (by omega) he her (fun σ1 S1 W1 a Z1 q1 he => zW_let (zW_rI (hk _ σ1 S1 W1 a a (Option.some.inj he).symm (ZZ_mono Z1 (by omega)) (by
      show 90 + ((pc σ).1 - 3) ∈ kEx
      rcases hc with h | h | h <;> rw [h] <;> decide) q1)))
    refine zW_if (fun w => go 0 (by omega)) (fun w => zW_if (fun w2 => go 1 (by omega)) (fun w2 => go 2 ?_))
    rcases hc with h | h | h <;> omega
  refine zW_let (zW_if (fun w => con (Or.inl (by omega))) (fun w3 => zW_if (fun w => con (Or.inr (Or.inl (by omega)))) (fun w4 => zW_if (fun w => con (Or.inr (Or.inr (by omega)))) (fun w5 => ?_))))
  rw [if_neg (fun z => by rcases z with z | z | z <;> omega)] at he
  refine zW_isZ 43 (by decide) (by omega) Z (fun w => zW_f (by decide) ?_) (fun n43 => zW_t rfl (zW_isZ 32 (by decide) (by omega) Z (fun w => zW_f (by decide) ?_) (fun n32 => zW_t rfl (zW_isZ 28 (by decide) (by omega) Z (fun w => zW_f (by decide) ?_) (fun n28 => zW_t rfl (zW_isZ 30 (by decide) (by omega) Z (fun w => zW_f (by decide) ?_) (fun n30 => zW_t rfl (zW_isZ 16 (by decide) (by omega) Z (fun w => zW_f (by decide) ?_) (fun n16 => zW_t rfl ?_)))))))))
  · rw [if_pos w] at he
    refine zW_stepZ (by omega) Z (by have := w.1; omega) (by omega) he her (fun σ1 S1 W1 Z1 p1 he => ?_)
    refine zW_labZ (by omega) Z1 (by omega) he her (fun σ2 S2 W2 l b _ Z2 p2 he => ?_)
    obtain ⟨hl, Z2⟩ := zK_f Z2
    exact zW_nodeZ (M0 := I) [] 4 [[((pc σ).2.1 : Int), ((pc σ).2.1 : Int)], b] [] (by omega) Z2 (by omega) (by decide) rfl (zqc e17.2 (zqc hl (zqc e17.2 zqn))) rfl (fun a S3 Z3 => zW_rI (hk _ σ2 S3 W2 a a (Option.some.inj he).symm (ZZ_mono Z3 (by omega)) (by show 4 ∈ kEx; decide) (Qx_to (Qx_t (Qx_p p1) (Qx_p p2)) (by omega) (by omega))))
  · rw [if_neg n43, if_pos w] at he
    exact zW_subZ h81 (by omega) Z (by omega) (by rw [e17.2]) (nE_he w he) her (fun τ σ1 S1 W1 a Z1 o1 q1 he => zW_rI (hk _ σ1 S1 W1 a a (Option.some.inj he).symm Z1 o1 q1))
  · rw [if_neg n43, if_neg n32, if_pos w] at he
    exact zW_subZ h89 (by omega) Z (by omega) (by rw [e17.2]) (nE_he w he) her (fun τ σ1 S1 W1 a Z1 o1 q1 he => zW_rI (hk _ σ1 S1 W1 a a (Option.some.inj he).symm Z1 o1 q1))
  · rw [if_neg n43, if_neg n32, if_neg n28, if_pos w] at he
    have he : gLst t R σ = some r := he
    unfold gLst at he
    rw [e17.2]
    refine zW_opensZ (by omega) Z (by have := w.1; omega) (by omega) he her (fun hp σ1 S1 W1 Z1 p1 he => ?_)
    have q1 := Qx_to (Qx_o p1) (k' := 1) (m' := 1) (by omega) (by omega)
    have dl1 := dep_op q1 hp
    have hp1 := p1.2.1
    refine zW_isZ 31 (by decide) (by omega) Z1 (fun w => zW_f (by decide) ?_) (fun w => zW_t rfl ?_)
    · rw [if_pos w] at he
      have he : pCloses t 31 σ1 (fun σ4 => pR (gn 19 [[((pc σ).2.1 : Int)]] (gs (gl []))) σ4) = some r := he
      rw [gs_gl] at he
      exact zr_listEnd (by omega) (by omega) (ZZ_e Z1) (by omega) he her (fun τ' σ7 S7 W7 a' y' w Z7 o7 q7 => hk τ' σ7 S7 W7 a' y' w (ZZ_mono Z7 (by omega)) o7 (Qx_to (Qx_t q1 q7) (by omega) (by omega)))
    · rw [if_neg w] at he
      refine zW_subR h90 (by omega) Z1 (by omega) rfl he her (fun l σ2 S2 W2 v y2 Z2 hl q2 he => ?_)
      have q2 := Qx_to (Qx_t q1 q2) (k' := 1) (m' := 1) (by omega) (by omega)
      have hpd2 := q2.1
      exact zr_listEnd (by omega) (by omega) Z2 (by omega) he her (fun τ' σ7 S7 W7 a' y' w Z7 o7 q7 => hk τ' σ7 S7 W7 a' y' w (ZZ_mono Z7 (by omega)) o7 (Qx_to (Qx_t q2 q7) (by omega) (by omega)))
  · rw [if_neg n43, if_neg n32, if_neg n28, if_neg n30, if_pos w] at he
    exact zW_subZ h91 (by omega) Z (by omega) (by rw [e17.2]) (nE_he w he) her (fun τ σ1 S1 W1 a Z1 o1 q1 he => zW_rI (hk _ σ1 S1 W1 a a (Option.some.inj he).symm Z1 o1 q1))
  · rw [if_neg n43, if_neg n32, if_neg n28, if_neg n30, if_neg n16] at he
    have go : zW (ZL d 391 [.inl (S.1 18), .inl (if pIs σ 20 then ((pk σ).2.1 : Int) else ((pc σ).2.1 : Int))] S) Q := by
      refine zl_atom_p201 ?_
      unfold zb_atom_p201
      refine zW_let ?_
      by_cases hn : tNf (pF σ) (pc σ)
      · rw [if_pos hn] at he
        refine zW_opnZ (by omega) Z hn (by omega) he her (fun σ1 S1 W1 x b Z1 q1 he => ?_)
        obtain ⟨hx, Z1⟩ := zK_t Z1
        rw [e17.2]
        refine zW_nodeZ (M0 := I) [] 3 [[((pc σ).2.1 : Int), ((if pIs σ 20 then (pk σ).2.1 else (pc σ).2.1 : Nat) : Int)], b] [] (by omega) Z1 (by omega) (by decide) rfl (zqc rfl (zqc hx (zqc ?_ zqn))) rfl (fun a S2 Z2 => zW_rI (hk _ σ1 S2 W1 a a (Option.some.inj he).symm (ZZ_mono Z2 (by omega)) (by show 3 ∈ kEx; decide) q1))
        show (if pIs σ 20 then ((pk σ).2.1 : Int) else ((pc σ).2.1 : Int)) = ((if pIs σ 20 then (pk σ).2.1 else (pc σ).2.1 : Nat) : Int)
        split <;> rfl
      · rw [if_neg hn] at he
        exact zW_opnE (by omega) Z hn (by omega) he her
    refine zW_isZ 20 (by decide) (by omega) Z (fun w => zW_f (by decide) ?_) (fun w => zW_t rfl ?_)
    · rw [if_pos w] at go
      rw [e22.2]; exact go
    · rw [if_neg w] at go
      rw [e17.2] at go ⊢; exact go
end ZAt3
