set_option maxRecDepth 100000
/-! THE REFERENCE'S PARSER: infix names -/
abbrev Zop : Type := (Int × Int × Int) × (Int × Int) × List Int
def opT (q : Zop) : Gt := gn 98 [[q.1.2.2, q.2.1.1, q.2.1.2], q.2.2] []
abbrev itX (x : List (Gt × Int)) : List Zi := x.map fun q => ([q.1], q.2, q.2)
abbrev ixX (x : List (Gt × Int)) : List Int := x.map fun q => q.2
abbrev opB (os : List Zop) : List (Int × Int × Int) := os.map fun q => q.1
abbrev opK (os : List Zop) : List Zk := os.flatMap fun q => [kN q.1.2.1 q.2.2, kS q.1.1 q.2.1.1 q.2.1.2]
abbrev kP (p : Int) : List Nat := if p = 0 then kEx else kPa
theorem kP_Z {p : Int} {τ : Gt} (h : gk τ ∈ kP p) : okZ τ := by
  unfold kP at h
  split at h
  · exact kEx_Z h
  · exact kPa_Z h
/-- a bare name or not: where it is said -/
def okOz (p : Int) : Ps → Gt → ZS → Int → Prop := fun σ τ S a => gk τ ∈ kP p ∧ (p = 1 → S.1 55 < S.1 40 ∧ (S.1 55 = a ↔ tNf (pF σ) (pc σ) ∧ gk τ = 31))
abbrev tgO (p : Int) : Nat := if p = 0 then 11 else 24
abbrev mtO (p : Int) : Nat := if p = 0 then 79 else 58
section ZInf
variable {t : List Int} {Γ : Zg} {S S' : ZS} {σ σ1 : Ps} {W W' : List (List Int)} {M : Zm} {g g' : Int} {d n tag : Nat} {Q : Option (Option ZV) → ZS → Prop} {r : (Int × Nat) ⊕ (Gt × Ps)} {I : List Zi} {A A' : List Int} {B B' : List (Int × Int × Int)} {K : List Zk} {cs : List Gt} {x y z p x2 : Int} {τ : Gt} {R : PX} {o : ZO} {lo hi : Int}
theorem ZZ_stk (Z : ZZ t Γ S σ W (I, (A, B), K) g) (ag : zAg [53, 54, 55] [19, 20, 21, 22] S S') (h1 : S'.1 53 = (A'.length : Int)) (h2 : S'.1 54 = (B'.length : Int)) (h3 : B'.length ≤ A'.length) (h4 : A'.length + pmu t σ ≤ 2000) (h5 : zA S' A') (h6 : zB S' B') : ZZ t Γ S' σ W (I, (A', B'), K) g := by
  obtain ⟨⟨a1, a2, a3, a4, a5, a6, a7, a8, a9, a10, a11⟩, ⟨b1, b2, b3, b4, b5, b6, b7⟩, c1, c2, c3, c4, c5, c6, c7⟩ := Z
  have e := fun f (hf : f ∉ [53, 54, 55]) => ag.1 f hf
  have ea := fun f (hf : f ∉ [19, 20, 21, 22]) => ag.2.2.1 f hf
  have e30 := e 30 (by decide)
  have e40 := e 40 (by decide)
  have e41 := e 41 (by decide)
  have e46 := e 46 (by decide)
  have zs : zseq S S' := ⟨by omega, fun _ _ => by rw [ea 9 (by decide)], by omega, fun _ _ => by rw [ea 17 (by decide), ea 18 (by decide)]; exact ⟨rfl, rfl⟩⟩
  have zn : znod S S' := ⟨e40, e41, fun j q1 q2 => ea j (by intro w; have : ∀ x ∈ [19, 20, 21, 22], 19 ≤ x := by decide
                                                            have := this j w; omega)⟩
  refine ⟨⟨Lx_ag ag (by decide) (by decide) a1, ⟨NT_ag ag (by decide) (by decide) a2.1, a2.2⟩, TkC_re a3 ag (by decide) List.prefix_rfl (by omega) zs.2.1, TkM_re a4 ag (by decide) List.prefix_rfl (by omega) zs.2.1, a5, by rw [e 27 (by decide)]; exact a6, by rw [e 28 (by decide)]; exact a7, a8, a9, by rw [e 15 (by decide), e 56 (by decide)]; exact a10, by omega⟩, ⟨b1, b2, by omega, by omega, by omega, by omega, by omega⟩, by rw [e 48 (by decide)]; exact c1, by rw [e 47 (by decide)]; exact zFc_k zs.2.2.1 zs.2.2.2 List.prefix_rfl c2, ⟨by rw [e41]; exact c3.1, by rw [e40, e41, e46]; exact c3.2⟩, by rw [e40]; exact zits_nod zn zs List.prefix_rfl c4, ⟨⟨h1, h2⟩, h3, h4, h5, h6⟩, fun q z => zks_k zs List.prefix_rfl (c6 q z), Zmo_trans c7 ⟨zAg_mono ag (by decide) (by decide), List.prefix_rfl, by show S.1 40 ≤ _; omega, fun j w1 w2 w3 i _ => by rw [zn.2.2 j w1 w2], fun i _ => by rw [ea 11 (by decide)], zs.1, zs.2.1, zs.2.2.1, zs.2.2.2⟩⟩
theorem ZZ_55 {v : Int} (Z : ZZ t Γ S σ W (I, (A, B), K) g) : ZZ t Γ (zput S 55 v) σ W (I, (A, B), K) g := by
  have c5 := Z.2.2.2.2.2.2.1
  exact ZZ_stk Z (zAg_put (by decide) zAg_refl) c5.1.1 c5.1.2 c5.2.1 c5.2.2.1 (zA_e (S := S) rfl c5.2.2.2.1) (zB_e (S := S) ⟨rfl, rfl, rfl⟩ c5.2.2.2.2)
theorem ZZ_AB (Z : ZZ t Γ S σ W (I, (A, B), K) g) : (S.1 53 = (A.length : Int) ∧ S.1 54 = (B.length : Int)) ∧ B.length ≤ A.length ∧ A.length + pmu t σ ≤ 2000 ∧ zA S A ∧ zB S B := Z.2.2.2.2.2.2.1
/-- an operand is laid down -/
theorem ZZ_pushA {v : Int} (Z : ZZ t Γ S σ W (I, (A, B), K) g) (h : A.length + 1 + pmu t σ ≤ 2000) : ZZ t Γ (zput (zset S 19 (S.1 53) v) 53 (S.1 53 + 1)) σ W (I, (v :: A, B), K) g := by
  obtain ⟨⟨h1, h2⟩, h3, h4, h5, h6⟩ := ZZ_AB Z
  refine ZZ_stk Z (zAg_put (by decide) (zAg_set (by decide) zAg_refl)) ?_ h2 (by rw [List.length_cons]; omega) (by rw [List.length_cons]; omega) ⟨?_, zA_k (n := A.length) (Int.le_refl _) (fun i hi => ?_) h5⟩ (zB_e (S := S) ⟨rfl, rfl, rfl⟩ h6)
  · show S.1 53 + 1 = ((A.length + 1 : Nat) : Int); omega
  · show (if _ then v else _) = v
    rw [if_pos ⟨rfl, h1.symm⟩]
  · show (if 19 = 19 ∧ i = S.1 53 then v else S.2.2.1 19 i) = _
    rw [if_neg (fun w => by have := w.2; omega)]
theorem zW_pushZ {k : ZS → ZR ZS} {f : Gt → Ps → PR} {lev : Nat} (hp01 : p = 0 ∨ p = 1) (ih : ZCf t (R (tgO p) [] []) (mtO p) noA lev one (okOz p)) (hd : dep t σ + lev + 3 ≤ d) (Z : ZZ t Γ S σ W (I, (A, B), K) g) (hg : g ≤ 150) (he : pB (R (tgO p) [] [] σ) f = some r) (her : ∀ e p S', r = .inl (e, p) → ThZ t Γ S' e p → Q none S') (hk : ∀ τ σ1 S1 W1 a, ZZ t Γ S1 σ1 W1 (([τ], a, a) :: I, (a :: A, B), K) (g - 2) → okOz p σ τ S1 a → Qx t 0 1 σ σ1 → f τ σ1 = some r → zW (k S1) Q) : zW (zV (zc ZL d 57 [.inl p] S) k) Q := by
  obtain ⟨d, rfl⟩ : ∃ e, d = e + 1 := ⟨d - 1, by omega⟩
  refine zW_V (P := fun S' => zW (k S') Q) (T := fun S' => Q none S') (zW_c (zl_push ?_)) (fun _ q => q) (fun _ q => q)
  unfold zb_push
  have hA := (ZZ_AB Z).2.2.1
  have go : zW (zI (zc ZL d (mtO p) [] S) fun v S1 => ZL d 376 [.inl v] S1) (oV (fun S' => zW (k S') Q) fun S' => Q none S') := by
    refine zW_subZ ih (by omega) Z hg rfl he her (fun τ σ1 S1 W1 a Z1 o1 q1 he => zl_push_p15 ?_)
    unfold zb_push_p15
    have h53 := (ZZ_AB Z1).1.1
    have hp1 := (ZZ_AB Z1).2.2.1
    have := q1.2.2.1
    have hb : inI (S1.1 53 + 1) := by omega
    exact zW_let (zW_st (by omega) (zW_G hb (zW_p (zW_rV (hk τ σ1 _ W1 a (ZZ_pushA Z1 (by omega)) o1 q1 he)))))
  rcases hp01 with rfl | rfl
  · exact zW_t rfl go
  · exact zW_f (by decide) go
/-- the latest name takes its operands -/
theorem zW_redZ {k : ZS → ZR ZS} {a b : Gt} {ja jb f nm pl s r' : Int} {name : List Int} (hp01 : p = 0 ∨ p = 1) (hd : 3 ≤ d) (Z : ZZ t Γ S σ W (([b], jb, jb) :: ([a], ja, ja) :: I, (jb :: ja :: A, (f, nm, pl) :: B), kN nm name :: kS f s r' :: K) g) (ha : okZ a) (hg : g ≤ 160) (hk : ∀ S1 j, ZZ t Γ S1 σ W (([gn (if p = 0 then 7 else 40) [[gbg a, pl], name] [a, b]], j, j) :: I, (j :: A, B), K) (g + 1) → (j = S.1 40 ∧ S1.1 55 = S.1 55 ∧ S1.1 40 = S.1 40 + 1 ∧ S1.2.2.1 17 = S.2.2.1 17 ∧ S1.1 46 = S.1 46) → zW (k S1) Q) : zW (zV (zc ZL d 95 [.inl p] S) k) Q := by
  obtain ⟨d, rfl⟩ : ∃ e, d = e + 1 := ⟨d - 1, by omega⟩
  refine zW_V (P := fun S' => zW (k S') Q) (T := fun S' => Q none S') (zW_c (zl_reduce ?_)) (fun _ q => q) (fun _ q => q)
  unfold zb_reduce
  obtain ⟨⟨h1, h2⟩, h3, h4, ⟨h5, h5', h5''⟩, ⟨h6, h7, h8, h9⟩⟩ := ZZ_AB Z
  rw [List.length_cons, List.length_cons] at h1 h4 h3
  rw [List.length_cons] at h2 h3
  rw [List.length_cons] at h5
  have Z6 : ZZ t Γ (zput (zput S 54 (S.1 54 - 1)) 53 (S.1 53 - 1)) σ W (([b], jb, jb) :: ([a], ja, ja) :: I, (ja :: A, B), kN nm name :: kS f s r' :: K) g := by
    refine ZZ_stk Z (zAg_put (by decide) (zAg_put (by decide) zAg_refl)) ?_ ?_ (by rw [List.length_cons]; omega) (by rw [List.length_cons]; omega) (zA_e (S := S) rfl ⟨h5', h5''⟩) (zB_e (S := S) ⟨rfl, rfl, rfl⟩ h9)
    · show S.1 53 - 1 = ((A.length + 1 : Nat) : Int); omega
    · show S.1 54 - 1 = (B.length : Int); omega
  have f54 : inI (S.1 54 - 1) := by omega
  have f53 : inI (S.1 53 - 1) := by omega
  have f53' : inI (S.1 53 - 1 - 1) := by omega
  have go : zW (ZL d 403 [.inl jb, .inl ja, .inl nm, .inl pl, .inl (if p = 0 then 7 else 40), .inl (S.1 53 - 1 - 1)] (zput (zput S 54 (S.1 54 - 1)) 53 (S.1 53 - 1))) (oV (fun S' => zW (k S') Q) fun S' => Q none S') := by
    refine zl_reduce_p88 ?_
    unfold zb_reduce_p88
    refine zW_whZ 1 Z6 (by omega) rfl ha ?_
    obtain ⟨hn, Z7⟩ := zK_t Z6
    obtain ⟨-, Z7⟩ := ZZ_k1 Z7
    have fin : ∀ {j : Int} {S1 : ZS}, (j = S.1 40 ∧ S1.1 55 = S.1 55 ∧ S1.1 40 = S.1 40 + 1 ∧ S1.2.2.1 17 = S.2.2.1 17 ∧ S1.1 46 = S.1 46) → ZZ t Γ S1 σ W (([gn (if p = 0 then 7 else 40) [[gbg a, pl], name] [a, b]], j, j) :: I, (ja :: A, B), K) (g + 1) → zW (zs S1 19 2100 (S.1 53 - 1 - 1) j fun S4 => zrV S4) (oV (fun S' => zW (k S') Q) fun S' => Q none S') := by
      intro j S1 ej Z8
      obtain ⟨⟨g1, g2⟩, g3, g4, ⟨g5, g5'⟩, g6⟩ := ZZ_AB Z8
      rw [List.length_cons] at g1 g3 g4
      refine zW_st (by omega) (zW_rV (hk _ j ?_ ej))
      refine ZZ_stk Z8 (zAg_set (by decide) zAg_refl) (by show S1.1 53 = ((A.length + 1 : Nat) : Int); omega) g2 (by rw [List.length_cons]; omega) (by rw [List.length_cons]; omega) ⟨?_, zA_k (n := A.length) (Int.le_refl _) (fun i hi => ?_) g5'⟩ (zB_e (S := S1) ⟨rfl, rfl, rfl⟩ g6)
      · show (if 19 = 19 ∧ (A.length : Int) = S.1 53 - 1 - 1 then j else _) = j
        rw [if_pos ⟨rfl, by omega⟩]
      · show (if 19 = 19 ∧ i = S.1 53 - 1 - 1 then j else S1.2.2.1 19 i) = _
        rw [if_neg (fun w => by have := w.2; omega)]
    rcases hp01 with rfl | rfl
    · exact zW_nodeX (M0 := I) [([a], ja, ja), ([b], jb, jb)] 7 [[gbg a, pl], name] [a, b] (by omega) Z7 (by omega) (by decide) rfl (zqc rfl (zqc hn (zqc rfl zqn))) ⟨⟨_, rfl, rfl⟩, rfl, ⟨_, rfl, rfl⟩, rfl, rfl⟩ (fun j S1 ej Z8 => fin ej Z8)
    · exact zW_nodeX (M0 := I) [([a], ja, ja), ([b], jb, jb)] 40 [[gbg a, pl], name] [a, b] (by omega) Z7 (by omega) (by decide) rfl (zqc rfl (zqc hn (zqc rfl zqn))) ⟨⟨_, rfl, rfl⟩, rfl, ⟨_, rfl, rfl⟩, rfl, rfl⟩ (fun j S1 ej Z8 => fin ej Z8)
  refine zW_G f54 (zW_p (zW_a (by show 0 ≤ S.1 53 - 1 ∧ S.1 53 - 1 < _; omega) (zW_let (zW_a (by show 0 ≤ S.1 53 - 2 ∧ S.1 53 - 2 < _; omega) (zW_let (zW_G f53 (zW_p (zW_a (by show 0 ≤ S.1 54 - 1 ∧ S.1 54 - 1 < _; omega) (zW_let (zW_a (by show 0 ≤ S.1 54 - 1 ∧ S.1 54 - 1 < _; omega) (zW_let ?_)))))))))))
  have r1 : S.2.2.1 19 (S.1 53 - 1) = jb := by rw [show S.1 53 - 1 = ((A.length + 1 : Nat) : Int) by omega]; exact h5
  have r2 : S.2.2.1 19 (S.1 53 - 2) = ja := by rw [show S.1 53 - 2 = (A.length : Int) by omega]; exact h5'
  have r3 : S.2.2.1 21 (S.1 54 - 1) = nm := by rw [show S.1 54 - 1 = (B.length : Int) by omega]; exact h7
  have r4 : S.2.2.1 22 (S.1 54 - 1) = pl := by rw [show S.1 54 - 1 = (B.length : Int) by omega]; exact h8
  rw [← r1, ← r2, ← r3, ← r4] at go
  rcases hp01 with rfl | rfl
  · exact zW_t rfl (zW_G f53' go)
  · exact zW_f (by decide) (zW_G f53' go)
end ZInf
