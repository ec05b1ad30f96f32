set_option maxRecDepth 100000
/-! THE REFERENCE'S PARSER: rows of expressions, brackets, fields -/
def gRowE (R : PX) (m : Nat) : Ps → PR := fun σ => pB (R 0 [] [] σ) fun e σ2 => cons1 e (R 14 [(m : Int), 0] [] σ2)
section ZAtm
variable {t : List Int} {Γ : Zg} {S S' : ZS} {σ σ1 : Ps} {W W' : List (List Int)} {M : Zm} {g g' G : Int} {d n tag m : Nat} {Q : Option (Option ZV) → ZS → Prop} {r : (Int × Nat) ⊕ (Gt × Ps)} {I : List Zi} {A : List Int × List (Int × Int × Int)} {K : List Zk} {cs cs2 : List Gt} {x y z p x2 c q y2 m0 : Int} {τ b : Gt} {R R' : PX} {o o' : ZO} {lo hi : Int}
theorem zrl_join (h1 : ∀ i b, o.2.1 i b → o'.2.1 i b) (h2 : ∀ i b, o.2.2 i b → o'.2.2 i b) (hy : o'.1 6 y = z) (hz : zit o m0 hi (cs2, z, y2)) (hc2 : cs2 ≠ []) : ∀ (cs : List Gt) {lo x : Int}, zeq o o' lo hi (fun j i => j = 6 ∧ i = y) → cs ≠ [] → m0 ≤ hi → zrl o (zIm o cs) lo m0 x → zla o (zIm o cs) x y → zrl o' (zIm o' (cs ++ cs2)) lo hi x ∧ zla o' (zIm o' (cs ++ cs2)) x y2
  | [], _, _, _, h, _, _, _ => absurd rfl h
  | [c], lo, x, he, _, hm, h, h' => by
    have h' : y = x := h'
    subst h'
    obtain ⟨q1, q2, q3, q4⟩ := h
    have ze : zeq o o' m0 hi zE0 := zeq_mono he (by omega) (Int.le_refl _) (fun _ _ _ _ w => by have := w.2; omega)
    refine ⟨⟨q1, by omega, zch_k (zrt_k h1 h2 c) (zeq_mono he (by omega) (by omega) (fun _ _ _ _ w => w)) (Int.le_refl _) (Int.le_refl _) ⟨q1, by omega⟩ q3, ?_⟩, ?_⟩
    · rw [hy]
      exact zrl_k cs2 (fun c _ => zrt_k h1 h2 c) ze (by omega) (Int.le_refl _) hz.1
    · cases cs2 with
      | nil => exact absurd rfl hc2
      | cons c2 cs2 =>
        show zla o' (zIm o' (c2 :: cs2)) (o'.1 6 y) y2
        rw [hy]
        exact zla_k h1 h2 _ ze hz.1 hz.2
  | c :: c1 :: cs, lo, x, he, _, hm, ⟨q1, q2, q3, q4⟩, h' => by
    have h' : zla o (zIm o (c1 :: cs)) (o.1 6 x) y := h'
    have hyb := zit_y (c1 :: cs) (List.cons_ne_nil _ _) q4 h'
    have e6 : o'.1 6 x = o.1 6 x := he 6 x (by omega) (by omega) (fun w => by have := w.2; omega)
    have ih := zrl_join h1 h2 hy hz hc2 (c1 :: cs) (zeq_mono he (by omega) (by omega) (fun _ _ _ _ w => w)) (List.cons_ne_nil _ _) hm q4 h'
    rw [← e6] at ih
    exact ⟨⟨q1, by omega, zch_k0 (zrt_k h1 h2 c) (zeq_mono he (by omega) (by omega) (fun _ _ _ _ w => by have := w.2; omega)) (Int.le_refl _) (Int.le_refl _) ⟨q1, by omega⟩ q3, ih.1⟩, ih.2⟩
theorem zW_joinX {k : ZS → ZR ZS} (Z : ZZ t Γ S σ W ((cs2, z, y2) :: (cs, x, y) :: I, A, K) g) (hc : cs ≠ []) (hc2 : cs2 ≠ []) (hg : g ≤ 185) (hk : ∀ S1, (S1.2.2.1 11 = S.2.2.1 11 ∧ S1.1 = S.1) → ZZ t Γ S1 σ W ((cs ++ cs2, x, y2) :: I, A, K) g → zW (k S1) Q) : zW (zs S 16 84000 y z k) Q := by
  obtain ⟨m1, m2, m3, m0, m4, m5, m6⟩ := Z.2.2.2.2.2.1
  have y1 : m0 ≤ y ∧ y < m1 := zit_y cs hc m5.1 m5.2
  have l0 := zits_lo I m6
  have h40 := (ZZ_40 Z hg).1
  have h41 : 0 ≤ S.1 41 ∧ S.1 41 ≤ Γ.1.1 40 := ⟨Z.2.1.2.2.2.2.2.1, Z.2.2.2.2.1.1⟩
  have hb : 0 ≤ y ∧ y < 84000 := by omega
  refine zW_st hb (hk _ ⟨by funext k; rw [zset_3, if_neg (fun w => absurd w.1 (by decide))], rfl⟩ ?_)
  refine ZZ_cell (j := 6) (i := y) (Or.inr (Or.inr rfl)) Z (by omega) ?_
  have o2 : (zo (zset S 16 y z) W).2 = (zo S W).2 := zcell_2 (j := 6) (Or.inr (Or.inr rfl))
  have ze : ∀ lo hi, zeq (zo S W) (zo (zset S 16 y z) W) lo hi (fun j' i' => j' = 6 ∧ i' = y) := fun lo hi => zcell_eq (j := 6) (i := y) (Or.inr (Or.inr rfl))
  have h1 : ∀ i b, (zo S W).2.1 i b → (zo (zset S 16 y z) W).2.1 i b := fun i b w => by rw [o2]; exact w
  have h2 : ∀ i b, (zo S W).2.2 i b → (zo (zset S 16 y z) W).2.2 i b := fun i b w => by rw [o2]; exact w
  exact ⟨m0, by omega, zrl_join h1 h2 (zcell_at (j := 6) (i := y) (Or.inr (Or.inr rfl))) m3 hc2 cs (ze _ _) hc m2 m5.1 m5.2, zits_k h1 h2 I (zeq_mono (ze (Γ.1.1 40) m0) (Int.le_refl _) (Int.le_refl _) (fun _ _ _ _ w => by have := w.2; omega)) (Int.le_refl _) m6⟩
theorem zW_joinZ {k : ZS → ZR ZS} (Z : ZZ t Γ S σ W ((cs2, z, y2) :: (cs, x, y) :: I, A, K) g) (hc : cs ≠ []) (hc2 : cs2 ≠ []) (hg : g ≤ 185) (hk : ∀ S1, ZZ t Γ S1 σ W ((cs ++ cs2, x, y2) :: I, A, K) g → zW (k S1) Q) : zW (zs S 16 84000 y z k) Q := zW_joinX Z hc hc2 hg (fun S1 _ Z1 => hk S1 Z1)
/-- rows of expressions -/
theorem zr_rowL (hm : m < 44) (h0 : ZCf t (R 0 [] []) 82 noA 10 one okEz) (hL : ZLr t (R 14 [(m : Int), 0] []) 400 11 (fun x y => [.inl (m : Int), .inl x, .inl y])) : ZLr t (gSeq t m 0 R) 400 11 (fun x y => [.inl (m : Int), .inl x, .inl y]) := by
  intro Γ S σ W cs x y I A K g d Q r Z hc hg hd he her hk
  have d40 := dep_40z Z
  unfold gSeq at he
  refine zl_row_p7 ?_
  unfold zb_row_p7
  refine zW_hasZ m hm (by omega) Z (by omega) he her (fun _ he => zW_t rfl (zW_rI ?_)) (fun _ σ1 S1 W1 Z1 p1 he => zW_f (by decide) ?_)
  · exact hk _ σ S W y (Option.some.inj he).symm (by rw [gs_gl]) (by rw [gs_gl, List.append_nil]; exact Z) Qx_0
  · have q1 := Qx_p p1
    have dl1 := dep_le q1
    refine zW_subZ h0 (by omega) Z1 (by omega) rfl he her (fun c σ3 S3 W3 a Z3 _ q3 he => ?_)
    have q3 := Qx_to (Qx_t q1 q3) (k' := 0) (m' := 1) (by omega) (by omega)
    have dl3 := dep_le q3
    obtain ⟨q, hq, w1, w2⟩ := cons1_c he
    refine zW_rowW (KK := fun v S' => ZL d 400 [.inl (m : Int), .inl x, .inl v] S') Z3 hc (by omega) (fun S4 Z4 => ?_)
    exact hL Γ S4 σ3 W3 (cs ++ [c]) x a I A K _ d Q q Z4 (List.append_ne_nil_of_right_ne_nil _ (List.cons_ne_nil _ _)) (by omega) (by omega) hq (fun e p S' w T => her e p S' (w1 _ w) T) (fun l σ7 S7 W7 y' w hl Z7 q7 => hk _ σ7 S7 W7 y' (w2 _ _ w) (by rw [gs_gl]) (by rw [gs_gl]; rw [List.append_assoc] at Z7; exact ZZ_mono Z7 (by omega)) (Qx_to (Qx_t q3 q7) (by omega) (by omega)))
theorem zr_row (h0 : ZCf t (R 0 [] []) 82 noA 10 one okEz) (hL : ZLr t (R 14 [(m : Int), 0] []) 400 11 (fun x y => [.inl (m : Int), .inl x, .inl y])) : ZCf t (gRowE R m) 90 (fun _ => [.inl (m : Int)]) 11 imRz okR := by
  intro Γ S σ W M g d Q r Z hg hd he her hk
  obtain ⟨I, A, K⟩ := M
  have d40 := dep_40z Z
  unfold gRowE at he
  refine zl_row ?_
  unfold zb_row
  refine zW_subZ h0 (by omega) Z (by omega) rfl he her (fun c σ1 S1 W1 a Z1 _ q1 he => zW_let (zW_let ?_))
  have dl1 := dep_le q1
  obtain ⟨q, hq, w1, w2⟩ := cons1_c he
  exact hL Γ S1 σ1 W1 [c] a a I A K _ d Q q Z1 (List.cons_ne_nil _ _) (by omega) (by omega) hq (fun e p S' w T => her e p S' (w1 _ w) T) (fun l σ7 S7 W7 y' w hl Z7 q7 => hk _ σ7 S7 W7 a y' (w2 _ _ w) (by show ZZ t Γ S7 σ7 W7 ((gs (gl (c :: gs l)), a, y') :: I, A, K) _; rw [gs_gl]; exact Z7) ⟨by rw [gs_gl]; exact List.cons_ne_nil _ _, by rw [gs_gl]⟩ (Qx_to (Qx_t q1 q7) (by omega) (by omega)))
theorem pB_cg {X : PR} {f f' : Gt → Ps → PR} {r : (Int × Nat) ⊕ (Gt × Ps)} (h : pB X f = some r) (hf : ∀ l σ, X = some (.inr (l, σ)) → f l σ = f' l σ) : pB X f' = some r := by
  rcases X with _ | _ | ⟨l, σ⟩
  · exact h
  · exact h
  · rw [← h]
    exact (hf l σ rfl).symm
theorem gRowE_ne {l : Gt} {σ σ1 : Ps} (h : gRowE R m σ = some (.inr (l, σ1))) : gs l ≠ [] := by
  unfold gRowE at h
  obtain ⟨q, hq, h1, h2⟩ := pB_e h
  rcases q with e | ⟨e, σ2⟩
  · cases h1 e rfl
  · obtain ⟨q2, hq2, g1, g2⟩ := cons1_c (h2 e σ2 rfl)
    rcases q2 with e' | ⟨l', σ'⟩
    · cases g1 e' rfl
    · cases g2 l' σ' rfl
      rw [gs_gl]
      exact List.cons_ne_nil _ _
/-- expressions in round brackets -/
theorem zr_heldE (h0 : ZCf t (R 0 [] []) 82 noA 10 one okEz) (h14 : ∀ (m : Nat) σ, PLe (R 14 [(m : Int), 0] [] σ) (gSeq t m 0 R' σ)) (h90 : ∀ m, m = 34 ∨ m = 35 → ZCf t (gRowE R' m) 90 (fun _ => [.inl (m : Int)]) 11 imRz okR) : ZCf t (nE 28 (gBrE t R)) 89 atA 0 one okEz := by
  intro Γ S σ W M g d Q r Z hg hd he her hk
  obtain ⟨I, A, K⟩ := M
  have d40 := dep_40z Z
  obtain ⟨w28, he⟩ := nE_is he
  unfold gBrE at he
  refine zl_expressionHeld ?_
  unfold zb_expressionHeld
  refine zW_opensZ (by omega) Z (by have := w28.1; omega) (by omega) he her (fun hp σ1 S1 W1 Z1 p1 he => ?_)
  have q1 := Qx_to (Qx_o p1) (k' := 1) (m' := 1) (by omega) (by omega)
  have dl1 := dep_op q1 hp
  have hp1 := p1.2.1
  refine zW_isZ 29 (by decide) (by omega) Z1 (fun w => zW_f (by decide) ?_) (fun w => zW_t rfl ?_)
  · rw [if_pos w] at he
    refine zW_closesZ 29 (by decide) (by omega) (by omega) Z1 (by omega) he her (fun q σ2 S2 W2 Z2 p2 he => ?_)
    have q2 := Qx_to (Qx_t q1 (Qx_o p2)) (k' := 0) (m' := 1) (by omega) (by omega)
    exact zW_nodeZ (M0 := I) [([], -1, -1)] 20 [[((pc σ).2.1 : Int)]] [] (by omega) (ZZ_e Z2) (by omega) (by decide) rfl (zqc rfl zqn) ⟨rfl, rfl, rfl⟩ (fun a S3 Z3 => zW_rI (hk _ σ2 S3 W2 a a (Option.some.inj he).symm (ZZ_mono Z3 (by omega)) (by show 20 ∈ kEx; decide) q2))
  · rw [if_neg w] at he
    refine zW_subZ h0 (by omega) Z1 (by omega) rfl he her (fun e σ2 S2 W2 a Z2 oe q2 he => zW_let (zW_let ?_))
    have q2 := Qx_to (Qx_t q1 q2) (k' := 1) (m' := 2) (by omega) (by omega)
    have dl2 := dep_op q2 hp
    have hpd2 := q2.1
    have oe : gk e ∈ kEx := oe
    have cast : ∀ b : Prop, [Decidable b] → (if b then (34 : Int) else 35) = ((if b then 34 else 35 : Nat) : Int) := fun b _ => by split <;> rfl
    rw [cast] at he
    replace he := pB_le (h14 _ σ2) he
    have more : ∀ (m K' : Nat), (m = 34 ∧ K' = 20) ∨ (m = 35 ∧ K' = 17) → pIs σ2 m → pB (pT (pPass t σ2) (gRowE R' m)) (fun l σ3 => pCloses t 29 σ3 fun σ4 => pR (gn K' [[((pc σ).2.1 : Int)]] (e :: gs l)) σ4) = some r → zW (zV (zc ZL d 43 [] S2) fun S19 => zI (zc ZL d 90 [.inl (m : Int)] S19) fun v21 S20 => zs S20 16 84000 a v21 fun S22 => zI (zc ZL d 52 [.inl (K' : Int), .inl ((pc σ).2.1 : Int), .inl 0, .inl a, .inl 0, .inl 0] S22) fun v24 S23 => zlet v24 fun x3_25 => ZL d 399 [.inl ((pc σ).2.1 : Int), .inl a, .inl x3_25] S23) Q := by
      intro m K' hm wm he
      rw [pB_pT] at he
      refine zW_stepZ (by omega) Z2 (by have := wm.1; omega) (by omega) he her (fun σ3 S3 W3 Z3 p3 he => ?_)
      have q3 := Qx_to (Qx_t q2 (Qx_p p3)) (k' := 1) (m' := 2) (by omega) (by omega)
      have dl3 := dep_op q3 hp
      refine zW_subR (h90 m (by omega)) (by omega) Z3 (by omega) rfl he her (fun l σ4 S4 W4 v y4 Z4 hl q4 he => ?_)
      have q4 := Qx_to (Qx_t q3 q4) (k' := 1) (m' := 2) (by omega) (by omega)
      have hpd4 := q4.1
      refine zW_joinZ (cs := [e]) Z4 (List.cons_ne_nil _ _) hl.1 (by omega) (fun S5 Z5 => ?_)
      have hin : Γ.1.1 40 ≤ a ∧ a < S5.1 40 := ZZ_in Z5 0 rfl (List.cons_ne_nil _ _)
      have fin : ∀ f S6, (f = S5.1 40 ∧ S6.1 55 = S5.1 55 ∧ S6.1 40 = S5.1 40 + 1 ∧ S6.2.2.1 17 = S5.2.2.1 17 ∧ S6.1 46 = S5.1 46) → ZZ t Γ S6 σ4 W4 (([gn K' [[((pc σ).2.1 : Int)]] (e :: gs l)], f, f) :: I, A, K) (g - 4 - 2 - 4 - 2 + 1) → zW (ZL d 399 [.inl ((pc σ).2.1 : Int), .inl a, .inl f] S6) Q := by
        intro f S6 ef Z6
        refine zl_expressionHeld_p114 ?_
        unfold zb_expressionHeld_p114
        refine zW_closesZ 29 (by decide) (by omega) (by omega) Z6 (by omega) he her (fun q σ7 S7 W7 Z7 p7 he => zW_f (by omega) (zW_rI ?_))
        refine hk _ σ7 S7 W7 f f (Option.some.inj he).symm (ZZ_mono Z7 (by omega)) ?_ (Qx_to (Qx_t q4 (Qx_o p7)) (by omega) (by omega))
        show K' ∈ kEx
        rcases hm with h | h <;> rw [h.2] <;> decide
      rcases hm with ⟨rfl, rfl⟩ | ⟨rfl, rfl⟩
      · exact zW_nodeX (M0 := I) [(e :: gs l, a, y4)] 20 [[((pc σ).2.1 : Int)]] (e :: gs l) (by omega) Z5 (by omega) (by decide) rfl (zqc rfl zqn) ⟨rfl, rfl, rfl⟩ (fun f S6 ef Z6 => zW_let (fin f S6 ef Z6))
      · exact zW_nodeX (M0 := I) [(e :: gs l, a, y4)] 17 [[((pc σ).2.1 : Int)]] (e :: gs l) (by omega) Z5 (by omega) (by decide) rfl (zqc rfl zqn) ⟨rfl, rfl, rfl⟩ (fun f S6 ef Z6 => zW_let (fin f S6 ef Z6))
    have ne : ∀ (m : Nat) l σ3, pT (pPass t σ2) (gRowE R' m) = some (.inr (l, σ3)) → gs l ≠ [] := by
      intro m l σ3 h
      cases hp : pPass t σ2 with
      | inl e => rw [hp] at h; cases h
      | inr σ5 => rw [hp] at h; exact gRowE_ne h
    refine zW_isZ 34 (by decide) (by omega) Z2 (fun w34 => zW_f (by decide) ?_) (fun n34 => zW_t rfl (zW_isZ 35 (by decide) (by omega) Z2 (fun w35 => zW_f (by decide) ?_) (fun n35 => zW_t rfl ?_)))
    · rw [if_pos w34] at he
      have he : pB (if pIs σ2 34 then pT (pPass t σ2) (gRowE R' 34) else pR (gl []) σ2) _ = some r := he
      rw [if_pos w34] at he
      refine more 34 20 (Or.inl ⟨rfl, rfl⟩) w34 (pB_cg he (fun l σ3 h => ?_))
      rw [if_neg (ne 34 l σ3 h), if_pos w34]
    · rw [if_neg n34] at he
      have he : pB (if pIs σ2 35 then pT (pPass t σ2) (gRowE R' 35) else pR (gl []) σ2) _ = some r := he
      rw [if_pos w35] at he
      refine more 35 17 (Or.inr ⟨rfl, rfl⟩) w35 (pB_cg he (fun l σ3 h => ?_))
      rw [if_neg (ne 35 l σ3 h), if_neg n34]
    · rw [if_neg n34] at he
      have he : pB (if pIs σ2 35 then pT (pPass t σ2) (gRowE R' 35) else pR (gl []) σ2) _ = some r := he
      rw [if_neg n35] at he
      have he : pCloses t 29 σ2 (fun σ4 => pR (if gs (gl []) = [] then gsb ((pc σ).2.1 : Int) e else if pIs σ2 34 then gn 20 [[((pc σ).2.1 : Int)]] (e :: gs (gl [])) else gn 17 [[((pc σ).2.1 : Int)]] (e :: gs (gl []))) σ4) = some r := he
      rw [gs_gl, if_pos rfl] at he
      refine zl_expressionHeld_p114 ?_
      unfold zb_expressionHeld_p114
      refine zW_closesZ 29 (by decide) (by omega) (by omega) Z2 (by omega) he her (fun q σ7 S7 W7 Z7 p7 he => zW_t rfl (zW_gsbZ Z7 (kEx_Z oe) (by omega) (fun S8 Z8 => zW_rI ?_)))
      exact hk _ σ7 S8 W7 a a (Option.some.inj he).symm (ZZ_mono Z8 (by omega)) oe (Qx_to (Qx_t q2 (Qx_o p7)) (by omega) (by omega))
end ZAtm
