set_option maxRecDepth 100000
/-! THE REFERENCE'S PARSER: what stands between infix names -/
/-- what is bare -/
def zJ' (p : Int) (BARE : Prop) (S : ZS) (x : List (Gt × Int)) (os : List Zop) : Prop := p = 1 → S.1 55 < S.1 40 ∧ (os = [] → ∀ q ∈ x, (S.1 55 = q.2 ↔ BARE ∧ gk q.1 = 31))
abbrev ZV' (t : List Int) (Γ : Zg) (S : ZS) (σ : Ps) (W : List (List Int)) (x : List (Gt × Int)) (os : List Zop) (I : List Zi) (A : List Int) (B : List (Int × Int × Int)) (K : List Zk) (G : Int) : Prop := ZZ t Γ S σ W (itX x ++ I, (ixX x ++ A, opB os ++ B), opK os ++ K) (G - os.length)
def ZL375 (t : List Int) (fs : List Gt → List Gt → Ps → PR) (p : Int) (lev : Nat) : Prop :=
  ∀ (Γ : Zg) (S : ZS) (σ : Ps) (W : List (List Int)) (x : List (Gt × Int)) (os : List Zop) (I : List Zi) (A : List Int) (B : List (Int × Int × Int)) (K : List Zk) (G : Int) (d : Nat) (Q : Option (Option ZV) → ZS → Prop) (r : (Int × Nat) ⊕ (Gt × Ps)) (BARE : Prop), ZV' t Γ S σ W x os I A B K G → x.length = os.length + 1 → (∀ q ∈ x, gk q.1 ∈ kP p) → zJ' p BARE S x os → B.length ≤ A.length → G ≤ 150 → dep t σ + lev ≤ d → fs (x.map fun q => q.1) (os.map opT) σ = some r →
    (∀ e p S', r = .inl (e, p) → ThZ t Γ S' e p → Q none S') →
    (∀ τ σ1 S1 W1 a, r = .inr (τ, σ1) → ZZ t Γ S1 σ1 W1 (([τ], a, a) :: I, (A, B), K) G → gk τ ∈ kP p → (p = 1 → (S1.1 55 = a ↔ BARE ∧ gk τ = 31)) → Qx t 0 0 σ σ1 → Q (some (some (.inl a))) S1) → zW (ZL d 375 [.inl p, .inl (B.length : Int)] S) Q
section ZIn2
variable {t : List Int} {Γ : Zg} {S S' : ZS} {σ σ1 : Ps} {W W' : List (List Int)} {M : Zm} {g g' G : Int} {d n tag : Nat} {Q : Option (Option ZV) → ZS → Prop} {r : (Int × Nat) ⊕ (Gt × Ps)} {I : List Zi} {A A' : List Int} {B B' : List (Int × Int × Int)} {K : List Zk} {cs : List Gt} {y z p x2 : Int} {τ : Gt} {R : PX} {o : ZO} {lo hi : Int} {BARE : Prop}
theorem zJ_red {os : List Zop} {x : List (Gt × Int)} {a b : Gt × Int} {q : Zop} {p1 : List (List Int)} {s1 : List Gt} {j : Int} {S1 : ZS} (hp01 : p = 0 ∨ p = 1) (hx : (b :: a :: x).length = (q :: os).length + 1) (hJ : zJ' p BARE S (b :: a :: x) (q :: os)) (ej : j = S.1 40 ∧ S1.1 55 = S.1 55 ∧ S1.1 40 = S.1 40 + 1 ∧ S1.2.2.1 17 = S.2.2.1 17 ∧ S1.1 46 = S.1 46) : zJ' p BARE S1 ((gn (if p = 0 then 7 else 40) p1 s1, j) :: x) os := by
  intro hp1
  obtain ⟨h1, -⟩ := hJ hp1
  refine ⟨by omega, fun ho q' hq' => ?_⟩
  subst ho
  have hx0 : x = [] := by
    rw [List.length_cons, List.length_cons, List.length_cons] at hx
    exact List.eq_nil_of_length_eq_zero (by rw [List.length_nil] at hx; omega)
  subst hx0
  rw [List.mem_singleton.mp hq']
  refine ⟨fun z => ?_, fun z => ?_⟩
  · have z : S1.1 55 = j := z
    omega
  · have z : (if p = 0 then 7 else 40) = 31 := z.2
    rw [if_neg (by omega)] at z
    cases z
theorem kP_red {p1 : List (List Int)} {s1 : List Gt} (hp01 : p = 0 ∨ p = 1) : gk (gn (if p = 0 then 7 else 40) p1 s1) ∈ kP p := by
  show (if p = 0 then 7 else 40) ∈ kP p
  rcases hp01 with rfl | rfl
  · show 7 ∈ kEx; decide
  · show 40 ∈ kPa; decide
theorem zr_inEnd (hp01 : p = 0 ∨ p = 1) (hd : 8 ≤ d) (hBA : B.length ≤ A.length) (hG : G ≤ 150) : ∀ (os : List Zop) (x : List (Gt × Int)) (S : ZS), ZV' t Γ S σ W x os I A B K G → x.length = os.length + 1 → (∀ q ∈ x, gk q.1 ∈ kP p) → zJ' p BARE S x os → (∀ S1 a, ZZ t Γ S1 σ W (([(gall p (x.map fun q => q.1) (os.map opT)).getD 0 (gl [])], a, a) :: I, (A, B), K) G → gk ((gall p (x.map fun q => q.1) (os.map opT)).getD 0 (gl [])) ∈ kP p → (p = 1 → (S1.1 55 = a ↔ BARE ∧ gk ((gall p (x.map fun q => q.1) (os.map opT)).getD 0 (gl [])) = 31)) → Q (some (some (.inl a))) S1) → zW (ZL d 597 [.inl p, .inl (B.length : Int)] S) Q
  | [], [q], S, Z, hx, hk, hJ, hQ => by
    have Z : ZZ t Γ S σ W (([q.1], q.2, q.2) :: I, (q.2 :: A, B), K) (G - (0 : Nat)) := Z
    obtain ⟨⟨h1, h2⟩, h3, h4, ⟨h5, h5'⟩, h6⟩ := ZZ_AB Z
    rw [List.length_cons] at h1 h3 h4
    refine zl_infixed_p239 ?_
    unfold zb_infixed_p239
    have f53 : inI (S.1 53 - 1) := by omega
    have r19 : S.2.2.1 19 (S.1 53 - 1) = q.2 := by rw [show S.1 53 - 1 = (A.length : Int) by omega]; exact h5
    refine zW_t (by omega) (zW_G f53 (zW_p (zW_a (by show 0 ≤ S.1 53 - 1 ∧ S.1 53 - 1 < _; omega) ?_)))
    show zW (zrI (S.2.2.1 19 (S.1 53 - 1)) _) Q
    rw [r19]
    refine zW_rI (hQ _ q.2 (ZZ_mono (ZZ_stk Z (zAg_put (by decide) zAg_refl) (by show S.1 53 - 1 = _; omega) h2 hBA (by omega) (zA_e (S := S) rfl h5') (zB_e (S := S) ⟨rfl, rfl, rfl⟩ h6)) (by omega)) (hk q (List.mem_cons_self ..)) (fun hp1 => (hJ hp1).2 rfl q (List.mem_cons_self ..)))
  | [], [], S, Z, hx, hk, hJ, hQ => by cases hx
  | [], _ :: _ :: _, S, Z, hx, hk, hJ, hQ => by rw [List.length_cons, List.length_cons, List.length_nil] at hx; omega
  | q :: os, b :: a :: x, S, Z, hx, hk, hJ, hQ => by
    have Z' : ZZ t Γ S σ W (([b.1], b.2, b.2) :: ([a.1], a.2, a.2) :: (itX x ++ I), (b.2 :: a.2 :: (ixX x ++ A), (q.1.1, q.1.2.1, q.1.2.2) :: (opB os ++ B)), kN q.1.2.1 q.2.2 :: kS q.1.1 q.2.1.1 q.2.1.2 :: (opK os ++ K)) (G - ((os.length + 1 : Nat) : Int)) := Z
    obtain ⟨⟨h1, h2⟩, h3, h4, -⟩ := ZZ_AB Z'
    have l2 : (opB os ++ B).length = os.length + B.length := by rw [List.length_append, List.length_map]
    rw [List.length_cons, l2] at h2
    refine zl_infixed_p239 ?_
    unfold zb_infixed_p239
    refine zW_f (by omega) (zW_redZ hp01 (by omega) Z' (kP_Z (hk a (List.mem_cons_of_mem _ (List.mem_cons_self ..)))) (by omega) (fun S1 j Z1 ej => ?_))
    have hx' : ((gn (if p = 0 then 7 else 40) [[gbg a.1, q.1.2.2], q.2.2] [a.1, b.1], j) :: x).length = os.length + 1 := by
      rw [List.length_cons, List.length_cons, List.length_cons] at hx
      rw [List.length_cons]; omega
    refine zr_inEnd hp01 hd hBA hG os ((gn (if p = 0 then 7 else 40) [[gbg a.1, q.1.2.2], q.2.2] [a.1, b.1], j) :: x) S1 (ZZ_mono Z1 (by omega)) hx' (fun q' hq' => ?_) (zJ_red hp01 hx hJ ej) hQ
    rcases List.mem_cons.mp hq' with w | w
    · rw [w]; exact kP_red hp01
    · exact hk q' (List.mem_cons_of_mem _ (List.mem_cons_of_mem _ w))
  | _ :: _, [], S, Z, hx, hk, hJ, hQ => by cases hx
  | _ :: _, [_], S, Z, hx, hk, hJ, hQ => by rw [List.length_cons, List.length_cons, List.length_nil] at hx; omega
theorem zFv_17 {f : Int} {u : Option (Int × Int)} (h : S'.2.2.1 17 = S.2.2.1 17) (q : zFv S f u) : zFv S' f u := by
  unfold zFv at q ⊢
  split at q
  · exact q
  · rw [h]; exact q
theorem zr_ahead {f3 s r' : Int} (hp01 : p = 0 ∨ p = 1) (hd : 7 ≤ d) (hBA : B.length ≤ A.length) (hG : G ≤ 150) : ∀ (os : List Zop) (x : List (Gt × Int)) (S : ZS), ZV' t Γ S σ W x os I A B K G → x.length = os.length + 1 → (∀ q ∈ x, gk q.1 ∈ kP p) → zJ' p BARE S x os → zFv S f3 (some (s, r')) → f3 < S.1 46 → (∀ x1 os1 S1, gahd p s r' (x.map fun q => q.1) (os.map opT) = some (x1.map (fun q : Gt × Int => q.1), os1.map opT) → ZV' t Γ S1 σ W x1 os1 I A B K G → x1.length = os1.length + 1 → (∀ q ∈ x1, gk q.1 ∈ kP p) → zJ' p BARE S1 x1 os1 → zFv S1 f3 (some (s, r')) → f3 < S1.1 46 → zW (ZL (d + 1) 713 [.inl p, .inl (B.length : Int), .inl f3, .inl 0] S1) Q) → (gahd p s r' (x.map fun q => q.1) (os.map opT) = none → ∀ S1, ThZ t Γ S1 2 (pc σ).2.1 → Q none S1) → zW (ZL (d + 1) 713 [.inl p, .inl (B.length : Int), .inl f3, .inl (if os = [] then 0 else 1)] S) Q
  | [], x, S, Z, hx, hk, hJ, hv, h46, hQ, hN => hQ x [] S rfl Z hx hk hJ hv h46
  | q :: os, [], S, Z, hx, hk, hJ, hv, h46, hQ, hN => by cases hx
  | q :: os, [_], S, Z, hx, hk, hJ, hv, h46, hQ, hN => by rw [List.length_cons, List.length_cons, List.length_nil] at hx; omega
  | q :: os, b :: a :: x, S, Z, hx, hk, hJ, hv, h46, hQ, hN => by
    have Z' : ZZ t Γ S σ W (([b.1], b.2, b.2) :: ([a.1], a.2, a.2) :: (itX x ++ I), (b.2 :: a.2 :: (ixX x ++ A), (q.1.1, q.1.2.1, q.1.2.2) :: (opB os ++ B)), kN q.1.2.1 q.2.2 :: kS q.1.1 q.2.1.1 q.2.1.2 :: (opK os ++ K)) (G - ((os.length + 1 : Nat) : Int)) := Z
    obtain ⟨⟨h1, h2⟩, h3, h4, h5, ⟨h6, -⟩⟩ := ZZ_AB Z'
    have l2 : (opB os ++ B).length = os.length + B.length := by rw [List.length_append, List.length_map]
    rw [List.length_cons] at h2
    have ks : q.1.1 < S.1 46 ∧ zFv S q.1.1 (some (q.2.1.1, q.2.1.2)) := (ZZ_k1 (ZZ_k1 Z').2).1
    have b4 := (ZZ_AB Z').2.2.1
    have r20 : S.2.2.1 20 (S.1 54 - 1) = q.1.1 := by rw [show S.1 54 - 1 = ((opB os ++ B).length : Int) by omega]; exact h6
    rw [List.length_cons] at h4 h3
    refine zl_infixed_p54 ?_
    unfold zb_infixed_p54
    rw [if_neg (List.cons_ne_nil _ _)]
    refine zW_f (by decide) (zW_a (by omega) (zW_let ?_))
    rw [r20]
    have st1 := fun d => z_strength (d := d) ks.2
    have st2 := fun d => z_strength (d := d) hv
    have ri1 := fun d => z_isRight (d := d) ks.2
    have ri2 := fun d => z_isRight (d := d) hv
    have hr01 : r' = 0 ∨ r' = 1 := hv.2.2.2.2.2
    have gd : gahd p s r' ((b :: a :: x).map fun q => q.1) ((q :: os).map opT) = if q.2.1.1 = s ∧ q.2.1.2 ≠ r' then none else if s < q.2.1.1 ∨ (q.2.1.1 = s ∧ q.2.1.2 = 0) then gahd p s r' (gn (if p = 0 then 7 else 40) [[gbg a.1, q.1.2.2], q.2.2] [a.1, b.1] :: x.map fun q => q.1) (os.map opT) else some ((b :: a :: x).map fun q => q.1, (q :: os).map opT) := rfl
    have red : (s < q.2.1.1 ∨ (q.2.1.1 = s ∧ q.2.1.2 = 0)) → ¬ (q.2.1.1 = s ∧ q.2.1.2 ≠ r') → zW (ZL (d + 1) 818 [.inl p, .inl (B.length : Int), .inl f3, .inl 1] S) Q := by
      intro c1 c2
      rw [if_neg c2, if_pos c1] at gd
      refine zl_infixed_p146 ?_
      unfold zb_infixed_p146
      refine zW_let (zW_f (by decide) (zW_redZ hp01 (by omega) Z' (kP_Z (hk a (List.mem_cons_of_mem _ (List.mem_cons_self ..)))) (by omega) (fun S1 j Z1 ej => ?_)))
      have hx' : ((gn (if p = 0 then 7 else 40) [[gbg a.1, q.1.2.2], q.2.2] [a.1, b.1], j) :: x).length = os.length + 1 := by
        rw [List.length_cons, List.length_cons, List.length_cons] at hx
        rw [List.length_cons]; omega
      have h54 : S1.1 54 = (os.length + B.length : Nat) := by
        have := (ZZ_AB Z1).1.2
        rw [l2] at this
        exact this
      have rcx := zr_ahead hp01 hd hBA hG os ((gn (if p = 0 then 7 else 40) [[gbg a.1, q.1.2.2], q.2.2] [a.1, b.1], j) :: x) S1 (ZZ_mono Z1 (by omega)) hx' (fun q' hq' => by
        rcases List.mem_cons.mp hq' with w | w
        · rw [w]; exact kP_red hp01
        · exact hk q' (List.mem_cons_of_mem _ (List.mem_cons_of_mem _ w))) (zJ_red hp01 hx hJ ej) (zFv_17 ej.2.2.2.1 hv) (by omega) (fun x1 os1 S2 w => hQ x1 os1 S2 (gd.trans w)) (fun w => hN (gd.trans w))
      refine zl_infixed_p158 ?_
      unfold zb_infixed_p158
      refine zW_f (by decide) ?_
      by_cases ho : os = []
      · subst ho
        rw [if_pos rfl] at rcx
        exact zW_t (by rw [h54]; show (((0 : Nat) + B.length : Nat) : Int) ≤ _; omega) (zW_let rcx)
      · rw [if_neg ho] at rcx
        have : 0 < os.length := List.length_pos_iff.mpr ho
        exact zW_f (by rw [h54]; omega) (zW_let rcx)
    have keep : ¬ (s < q.2.1.1 ∨ (q.2.1.1 = s ∧ q.2.1.2 = 0)) → ¬ (q.2.1.1 = s ∧ q.2.1.2 ≠ r') → zW (ZL (d + 1) 818 [.inl p, .inl (B.length : Int), .inl f3, .inl 0] S) Q := by
      intro c1 c2
      rw [if_neg c2, if_neg c1] at gd
      refine zl_infixed_p146 ?_
      unfold zb_infixed_p146
      refine zW_let (zW_t rfl (zl_infixed_p158 ?_))
      unfold zb_infixed_p158
      exact zW_t rfl (zW_let (hQ _ _ S gd Z hx hk hJ hv h46))
    have big : ¬ (q.2.1.1 = s ∧ q.2.1.2 ≠ r') → zW (ZL (d + 1) 787 [.inl p, .inl (B.length : Int), .inl f3, .inl q.1.1] S) Q := by
      intro c2
      refine zl_infixed_p105 ?_
      unfold zb_infixed_p105
      refine zW_Ie (st1 _) (zW_Ie (st2 _) (zW_if (fun w => zW_Ie (st1 _) (zW_Ie (st2 _) (zW_if (fun w2 => zW_Ie (ri2 _) (zW_if (fun w3 => ?_) (fun w3 => ?_))) (fun w2 => ?_)))) (fun w => ?_)))
      · have w2 : q.2.1.1 = s := w2
        have w3 : r' = 0 := w3
        refine red (Or.inr ⟨w2, ?_⟩) c2
        by_cases z : q.2.1.2 = 0
        · exact z
        · exact absurd ⟨w2, by rw [w3]; exact z⟩ c2
      · have w2 : q.2.1.1 = s := w2
        have w3 : ¬ r' = 0 := w3
        refine keep (fun z => ?_) c2
        rcases z with z | z
        · omega
        · exact c2 ⟨w2, by rw [z.2]; exact fun y => w3 y.symm⟩
      · have w : q.2.1.1 ≤ s := w
        have w2 : ¬ q.2.1.1 = s := w2
        exact keep (fun z => by omega) c2
      · have w : ¬ q.2.1.1 ≤ s := w
        exact red (Or.inl (by omega)) c2
    refine zW_Ie (st1 _) (zW_Ie (st2 _) (zW_if (fun w => zW_Ie (ri1 _) (zW_Ie (ri2 _) (zW_if (fun w2 => ?_) (fun w2 => ?_)))) (fun w => ?_)))
    · have w2 : q.2.1.2 = r' := w2
      exact big (fun z => z.2 w2)
    · have w : q.2.1.1 = s := w
      have w2 : ¬ q.2.1.2 = r' := w2
      rw [if_pos ⟨w, w2⟩] at gd
      rw [(ZZ_c Z).2]
      exact zW_thr (hN gd _ (ThZ_th Z (by omega)))
    · have w : ¬ q.2.1.1 = s := w
      exact big (fun z => w z.1)
end ZIn2
