set_option maxRecDepth 100000
/-! THE REFERENCE'S PARSER: what begins here; names, labels -/
section ZTst
variable {t : List Int} {Γ : Zg} {S S' : ZS} {σ σ1 : Ps} {W W' : List (List Int)} {M : Zm} {g g' : Int} {d n tag : Nat} {Q : Option (Option ZV) → ZS → Prop} {r : (Int × Nat) ⊕ (Gt × Ps)} {e0 : PR} {F : Fx} {b : List Int} {x h v : Int} {c : Tok} {I : List Zi} {A : List Int × List (Int × Int × Int)} {K : List Zk}
theorem zW_tst {P : Prop} [Decidable P] {as : List ZV} {kk : Int → ZS → ZR ZS} (e : ZL d tag as S = some (some (some (.inl (if P then 1 else 0))), S)) (h1 : P → zW (kk 1 S) Q) (h0 : ¬ P → zW (kk 0 S) Q) : zW (zI (zc ZL (d + 1) tag as S) kk) Q := by
  refine zW_Ie e ?_
  by_cases q : P
  · rw [if_pos q]; exact h1 q
  · rw [if_neg q]; exact h0 q
/-- what a test gives, in the end -/
def zT (S : ZS) (P : Prop) [Decidable P] : Option (Option ZV) → ZS → Prop := fun o S' => o = some (some (.inl (if P then 1 else 0))) ∧ S' = S
theorem zT_1 {P : Prop} [Decidable P] (h : P) : zW (zrZ 1 S) (zT S P) := zW_rZ (Or.inr rfl) ⟨by rw [if_pos h], rfl⟩
theorem zT_0 {P : Prop} [Decidable P] (h : ¬ P) : zW (zrZ 0 S) (zT S P) := zW_rZ (Or.inl rfl) ⟨by rw [if_neg h], rfl⟩
theorem zW_isO {P : Prop} [Decidable P] {B : ZS → ZR ZS} (m : Nat) (hm : m < 44) (Z : ZZ t Γ S σ W M g) (hp : pIs σ m → P) (h : ¬ pIs σ m → zW (B S) (zT S P)) : zW (zI (zc ZL (d + 1) 45 [.inl (m : Int)] S) fun v S1 => if v = 0 then B S1 else zrZ 1 S1) (zT S P) := zW_isZ m hm (by omega) Z (fun q => zW_f (by decide) (zT_1 (hp q))) (fun q => zW_t rfl (h q))
theorem pSt_e (Z : ZZ t Γ S σ W M g) (h : (pc σ).1 = 1) : pSt (pF σ) (pc σ) = pFe (pF σ) (pc σ).2.2.1 := by
  unfold pSt pFe
  rw [if_pos h, if_neg (Z.1.2.2.2.2.1.1.2.1 h)]
theorem pStn_e (Z : ZZ t Γ S σ W M g) (h : (pk σ).1 = 1) : pSt (pF σ) (pk σ) = pFe (pF σ) (pk σ).2.2.1 := by
  unfold pSt pFe
  rw [if_pos h, if_neg (Z.1.2.2.2.2.1.2.1.2.1 h)]
theorem tNm_1 (h : tNm F c) : c.1 = 1 := h.1
theorem tIs_0 {m : Nat} (h : tIs c m) : c.1 = 0 := h.1
theorem z_isOpName (Z : ZZ t Γ S σ W M g) : ZL (d + 3) 59 [] S = some (some (some (.inl (if tNf (pF σ) (pc σ) then 1 else 0))), S) := by
  have e17 := (ZZ_c Z).1
  refine zW_get (zl_isOpName ?_)
  unfold zb_isOpName
  refine zW_isO 20 (by decide) Z (fun q => Or.inl q) (fun q0 => zW_if (fun q1 => ?_) (fun q1 => zT_0 ?_))
  · have h1 : (pc σ).1 = 1 := by omega
    refine zW_tst (d := d + 2) (z_isInfix Z (ZZ_nm Z (by omega))) (fun q2 => zW_f (by decide) (zT_0 ?_)) (fun q2 => zW_t rfl (zT_1 ?_))
    · rintro (w | w)
      · exact q0 w
      · exact q2 (by rw [← pSt_e Z h1]; exact w.2)
    · exact Or.inr ⟨h1, by rw [pSt_e Z h1]; exact Classical.not_not.mp q2⟩
  · rintro (w | w)
    · exact q0 w
    · have := w.1
      omega
theorem z_isInfixHere (Z : ZZ t Γ S σ W M g) : ZL (d + 4) 93 [] S = some (some (some (.inl (if pIx (pF σ) (pc σ) ≠ none then 1 else 0))), S) := by
  have e17 := (ZZ_c Z).1
  have fin : ∀ {u : Option (Int × Int)} (d : Nat), (pc σ).1 < 3 → pFe (pF σ) (pc σ).2.2.1 = u → ZL (d + 3) 402 [] S = some (some (some (.inl (if u ≠ none then 1 else 0))), S) := by
    intro u d h3 hu
    refine zW_get (zl_isInfixHere_p17 ?_)
    unfold zb_isInfixHere_p17
    have := z_isInfix (d := d) Z (ZZ_nm Z h3)
    rw [hu] at this
    refine zW_Ie this ?_
    by_cases w : u ≠ none
    · rw [if_pos w]; exact zW_f (by decide) (zW_rZ (Or.inr rfl) ⟨rfl, rfl⟩)
    · rw [if_neg w]; exact zW_t rfl (zW_rZ (Or.inl rfl) ⟨rfl, rfl⟩)
  refine zW_get (zl_isInfixHere ?_)
  unfold zb_isInfixHere
  refine zW_if (fun q1 => ?_) (fun q1 => ?_)
  · have h1 : (pc σ).1 = 1 := by omega
    have hu : pFe (pF σ) (pc σ).2.2.1 = pIx (pF σ) (pc σ) := by
      unfold pIx
      rw [if_neg (fun w => by have := w.1; omega), pSt_e Z h1]
    exact zW_eq (fin (d + 1) (by omega) hu) ⟨rfl, rfl⟩
  · refine zW_isZ 40 (by decide) (by omega) Z (fun q => zW_f (by decide) ?_) (fun q => zW_t rfl (zW_rZ (Or.inl rfl) ⟨?_, rfl⟩))
    · have hu : pFe (pF σ) (pc σ).2.2.1 = pIx (pF σ) (pc σ) := by
        unfold pIx pFe
        rw [if_pos q, if_pos (show (pc σ).2.2.1 = [61] from q.2)]
      exact zW_eq (fin (d + 1) (by have := q.1; omega) hu) ⟨rfl, rfl⟩
    · have : pIx (pF σ) (pc σ) = none := by
        unfold pIx pSt
        rw [if_neg q, if_neg (by omega)]
      rw [if_neg (fun w => w this)]
theorem z_begAtP (Z : ZZ t Γ S σ W M g) : ZL (d + 4) 78 [] S = some (some (some (.inl (if tAtP (pF σ) (pc σ) then 1 else 0))), S) := by
  have e17 := (ZZ_c Z).1
  refine zW_get (zl_beginsAtomPattern ?_)
  unfold zb_beginsAtomPattern
  refine zW_isO 37 (by decide) Z (fun q => Or.inl q) (fun q1 => zW_if (fun q2 => zT_1 ?_) (fun q2 => zW_if (fun q3 => zT_1 ?_) (fun q3 => zW_if (fun q4 => zT_1 ?_) (fun q4 => zW_tst (d := d + 3) (z_isOpName Z) (fun q5 => zW_f (by decide) (zT_1 ?_)) (fun q5 => zW_t rfl (zW_isO 32 (by decide) Z (fun q => ?_) (fun q6 => zW_isO 28 (by decide) Z (fun q => ?_) (fun q7 => zW_isO 30 (by decide) Z (fun q => ?_) (fun q8 => zT_0 ?_)))))))))
  · exact Or.inr (Or.inl (Or.inl (by omega)))
  · exact Or.inr (Or.inl (Or.inr (Or.inl (by omega))))
  · exact Or.inr (Or.inl (Or.inr (Or.inr (by omega))))
  · exact Or.inr (Or.inr (Or.inl q5))
  · exact Or.inr (Or.inr (Or.inr (Or.inl q)))
  · exact Or.inr (Or.inr (Or.inr (Or.inr (Or.inl q))))
  · exact Or.inr (Or.inr (Or.inr (Or.inr (Or.inr q))))
  · rintro (w | w | w | w | w | w)
    · exact q1 w
    · rcases w with w | w | w <;> omega
    · exact q5 w
    · exact q6 w
    · exact q7 w
    · exact q8 w
theorem z_begAt (Z : ZZ t Γ S σ W M g) : ZL (d + 4) 92 [] S = some (some (some (.inl (if tAt (pF σ) (pc σ) then 1 else 0))), S) := by
  have e17 := (ZZ_c Z).1
  refine zW_get (zl_beginsAtom ?_)
  unfold zb_beginsAtom
  refine zW_if (fun q1 => zT_1 (Or.inl (Or.inl (by omega)))) (fun q1 => zW_if (fun q2 => zT_1 (Or.inl (Or.inr (Or.inl (by omega))))) (fun q2 => zW_if (fun q3 => zT_1 (Or.inl (Or.inr (Or.inr (by omega))))) (fun q3 => zW_if (fun q4 => ?_) (fun q4 => ?_))))
  · have h1 : (pc σ).1 = 1 := by omega
    refine zW_tst (d := d + 3) (z_isInfix Z (ZZ_nm Z (by omega))) (fun q5 => zW_f (by decide) (zT_0 ?_)) (fun q5 => zW_t rfl (zT_1 (Or.inr (Or.inl ⟨h1, by rw [pSt_e Z h1]; exact Classical.not_not.mp q5⟩))))
    rintro (w | w | w | w | w | w | w | w)
    · rcases w with w | w | w <;> omega
    · exact q5 (by rw [← pSt_e Z h1]; exact w.2)
    all_goals (have := w.1; omega)
  · refine zW_isO 20 (by decide) Z (fun q => Or.inr (Or.inr (Or.inl q))) (fun p1 => zW_isO 43 (by decide) Z (fun q => Or.inr (Or.inr (Or.inr (Or.inl q)))) (fun p2 => zW_isO 32 (by decide) Z (fun q => Or.inr (Or.inr (Or.inr (Or.inr (Or.inl q))))) (fun p3 => zW_isO 28 (by decide) Z (fun q => Or.inr (Or.inr (Or.inr (Or.inr (Or.inr (Or.inl q)))))) (fun p4 => zW_isO 30 (by decide) Z (fun q => Or.inr (Or.inr (Or.inr (Or.inr (Or.inr (Or.inr (Or.inl q))))))) (fun p5 => zW_isO 16 (by decide) Z (fun q => Or.inr (Or.inr (Or.inr (Or.inr (Or.inr (Or.inr (Or.inr q))))))) (fun p6 => zT_0 ?_))))))
    rintro (w | w | w | w | w | w | w | w)
    · rcases w with w | w | w <;> omega
    · have := w.1
      omega
    · exact p1 w
    · exact p2 w
    · exact p3 w
    · exact p4 w
    · exact p5 w
    · exact p6 w
theorem z_begBig (Z : ZZ t Γ S σ W M g) : ZL (d + 1) 88 [] S = some (some (some (.inl (if tWide (pc σ) then 1 else 0))), S) := by
  refine zW_get (zl_beginsBig ?_)
  unfold zb_beginsBig
  refine zW_isO 22 (by decide) Z (fun q => Or.inl q) (fun p1 => zW_isO 12 (by decide) Z (fun q => Or.inr (Or.inl q)) (fun p2 => zW_isO 27 (by decide) Z (fun q => Or.inr (Or.inr (Or.inl q))) (fun p3 => zW_isO 3 (by decide) Z (fun q => Or.inr (Or.inr (Or.inr (Or.inl q)))) (fun p4 => zW_isO 9 (by decide) Z (fun q => Or.inr (Or.inr (Or.inr (Or.inr q)))) (fun p5 => zT_0 ?_)))))
  rintro (w | w | w | w | w)
  · exact p1 w
  · exact p2 w
  · exact p3 w
  · exact p4 w
  · exact p5 w
theorem z_begDec (Z : ZZ t Γ S σ W M g) : ZL (d + 1) 44 [] S = some (some (some (.inl (if tDec (pc σ) then 1 else 0))), S) := z_beginsDec Z.1.2.2.1 Z.1.2.1
theorem z_number (h : inI (-1 - x)) : ZL d 16 [.inl x] S = some (some (some (.inl (-1 - x))), S) := by
  refine zW_get (zl_number ?_)
  unfold zb_number
  exact zW_G h (zW_rI ⟨rfl, rfl⟩)
/-- names -/
theorem zW_nameZ {kk : Int → ZS → ZR ZS} {f : List Int → Ps → PR} (hd : 6 ≤ d) (Z : ZZ t Γ S σ W (I, A, K) g) (hg : g ≤ 185) (he : pName t σ f = some r) (her : ∀ e p S', r = .inl (e, p) → ThZ t Γ S' e p → Q none S') (hk : (pc σ).1 = 1 → ∀ σ1 S1 W1 x, ZZ t Γ S1 σ1 W1 (I, A, kN x (pc σ).2.2.1 :: K) (g - 4) → Pn t σ σ1 → f (pc σ).2.2.1 σ1 = some r → zW (kk x S1) Q) : zW (zI (zc ZL d 77 [] S) kk) Q := by
  obtain ⟨d, rfl⟩ : ∃ e, d = e + 1 := ⟨d - 1, by omega⟩
  have e17 := ZZ_c Z
  unfold pName at he
  refine zW_I (P := fun v S' => zW (kk v S') Q) (T := fun S' => Q none S') (zW_c (zl_plainName ?_)) (fun _ _ q => q) (fun _ q => q)
  unfold zb_plainName
  refine zW_if (fun q => zW_let ?_) (fun q => ?_)
  · have h1 : (pc σ).1 = 1 := by omega
    rw [if_pos h1] at he
    exact zW_stepZ (by omega) (ZZ_k (q := kN (S.1 19) (pc σ).2.2.1) Z (ZZ_nm Z (by omega))) (by omega) hg he her (fun σ1 S1 W1 Z1 p e => zW_rI (hk h1 σ1 S1 W1 _ Z1 p e))
  · rw [if_neg (by omega)] at he
    rw [e17.2]
    exact zW_thr (her _ _ _ (Option.some.inj he).symm (ThZ_th Z hg))
theorem zW_freeZ {kk : Int → ZS → ZR ZS} {f : List Int → Ps → PR} (hd : 7 ≤ d) (Z : ZZ t Γ S σ W (I, A, K) g) (hg : g ≤ 185) (he : pName t σ f = some r) (her : ∀ e p S', r = .inl (e, p) → ThZ t Γ S' e p → Q none S') (hk : (pc σ).1 = 1 → ∀ σ1 S1 W1 x, ZZ t Γ S1 σ1 W1 (I, A, kN x (pc σ).2.2.1 :: K) (g - 4) → Pn t σ σ1 → f (pc σ).2.2.1 σ1 = some r → zW (kk x S1) Q) : zW (zI (zc ZL d 104 [] S) kk) Q := by
  obtain ⟨d, rfl⟩ : ∃ e, d = e + 1 := ⟨d - 1, by omega⟩
  refine zW_I (P := fun v S' => zW (kk v S') Q) (T := fun S' => Q none S') (zW_c (zl_freeName ?_)) (fun _ _ q => q) (fun _ q => q)
  unfold zb_freeName
  exact zW_nameZ (by omega) Z hg he her (fun h1 σ1 S1 W1 x Z1 p e => zW_rI (hk h1 σ1 S1 W1 x Z1 p e))
theorem zW_anyZ {kk : Int → ZS → ZR ZS} {f : List Int → Ps → PR} (hd : 7 ≤ d) (Z : ZZ t Γ S σ W (I, A, K) g) (hg : g ≤ 185) (he : pAny t σ f = some r) (her : ∀ e p S', r = .inl (e, p) → ThZ t Γ S' e p → Q none S') (hk : ∀ σ1 S1 W1 x, ZZ t Γ S1 σ1 W1 (I, A, kN x (pc σ).2.2.1 :: K) (g - 4) → Pn t σ σ1 → f (pc σ).2.2.1 σ1 = some r → zW (kk x S1) Q) : zW (zI (zc ZL d 76 [] S) kk) Q := by
  obtain ⟨d, rfl⟩ : ∃ e, d = e + 1 := ⟨d - 1, by omega⟩
  have e17 := ZZ_c Z
  unfold pAny at he
  refine zW_I (P := fun v S' => zW (kk v S') Q) (T := fun S' => Q none S') (zW_c (zl_anyName ?_)) (fun _ _ q => q) (fun _ q => q)
  unfold zb_anyName
  have go : (pc σ).1 = 1 ∨ pIs σ 40 → zW (zlet (S.1 19) fun x2 => zV (zc ZL d 43 [] S) fun S5 => zrI x2 S5) (oI (fun v S' => zW (kk v S') Q) fun S' => Q none S') := by
    intro h
    rw [if_pos h] at he
    have h3 : (pc σ).1 < 3 := by
      rcases h with h | h
      · omega
      · have := h.1; omega
    exact zW_let (zW_stepZ (by omega) (ZZ_k (q := kN (S.1 19) (pc σ).2.2.1) Z (ZZ_nm Z h3)) (by omega) hg he her (fun σ1 S1 W1 Z1 p e => zW_rI (hk σ1 S1 W1 _ Z1 p e)))
  refine zW_isZ 40 (by decide) (by omega) Z (fun q => zW_let (zW_if (fun w => go (Or.inl (by omega))) (fun w => zW_f (by decide) (go (Or.inr q))))) (fun q => zW_let (zW_if (fun w => go (Or.inl (by omega))) (fun w => zW_t rfl ?_)))
  rw [if_neg (fun z => z.elim (fun z => by omega) q)] at he
  rw [e17.2]
  exact zW_thr (her _ _ _ (Option.some.inj he).symm (ThZ_th Z hg))
theorem zW_opnZ {kk : Int → ZS → ZR ZS} {f : Nat → List Int → Ps → PR} (hd : 8 ≤ d) (Z : ZZ t Γ S σ W (I, A, K) g) (hn : tNf (pF σ) (pc σ)) (hg : g ≤ 185) (he : pOpn t σ f = some r) (her : ∀ e p S', r = .inl (e, p) → ThZ t Γ S' e p → Q none S') (hk : ∀ σ1 S1 W1 x b, ZZ t Γ S1 σ1 W1 (I, A, kN x b :: K) (g - 4) → Qx t 0 1 σ σ1 → f (if pIs σ 20 then (pk σ).2.1 else (pc σ).2.1) b σ1 = some r → zW (kk x S1) Q) : zW (zI (zc ZL d 75 [] S) kk) Q := by
  obtain ⟨d, rfl⟩ : ∃ e, d = e + 1 := ⟨d - 1, by omega⟩
  have e17 := ZZ_c Z
  unfold pOpn at he
  refine zW_I (P := fun v S' => zW (kk v S') Q) (T := fun S' => Q none S') (zW_c (zl_opName ?_)) (fun _ _ q => q) (fun _ q => q)
  unfold zb_opName
  refine zW_hasZ 20 (by decide) (by omega) Z hg he her (fun q he => zW_t rfl ?_) (fun q σ1 S1 W1 Z1 p he => zW_f (by decide) (zW_anyZ (by omega) Z1 (by omega) he her (fun σ2 S2 W2 x Z2 p2 he => zW_rI (hk σ2 S2 W2 x _ (ZZ_mono Z2 (by omega)) (Qx_to (Qx_t (Qx_p p) (Qx_p p2)) (by omega) (by omega)) ?_))))
  · rw [if_neg q] at hk
    have h1 : (pc σ).1 = 1 := by
      rcases hn with w | w
      · exact absurd w q
      · exact w.1
    have hs : pFe (pF σ) (pc σ).2.2.1 = none := by
      rcases hn with w | w
      · exact absurd w q
      · rw [← pSt_e Z h1]; exact w.2
    obtain ⟨d, rfl⟩ : ∃ e, d = e + 3 := ⟨d - 3, by omega⟩
    refine zW_t (by omega) (zW_tst (d := d + 2) (z_isInfix Z (ZZ_nm Z (by omega))) (fun w => absurd hs w) (fun _ => zW_t rfl (zW_nameZ (by omega) Z hg he her (fun _ σ2 S2 W2 x Z2 p2 he => zW_rI (hk σ2 S2 W2 x _ Z2 (Qx_p p2) he)))))
  · rw [if_pos q, ← p.1]
    exact he
theorem z_isLabel (Z : ZZ t Γ S σ W M g) : ZL d 68 [] S = some (some (some (.inl (if (pc σ).1 = 1 ∨ ((pc σ).1 = 3 ∧ ¬ ((pc σ).2.2.1 = [126] ∨ (pc σ).2.2.2 < 1 ∨ 9 < (pc σ).2.2.2)) then 1 else 0))), S) := by
  have e17 := ZZ_c Z
  have e19 := Z.1.2.2.1.2.2.2.1
  have tq := Z.1.2.2.2.2.1.1.2.2
  refine zW_get (zl_isLabel ?_)
  unfold zb_isLabel
  refine zW_if (fun q1 => zT_1 (Or.inl (by omega))) (fun q1 => zW_if (fun q2 => ?_) (fun q2 => zT_0 (by omega)))
  have h3 : (pc σ).1 = 3 := by omega
  obtain ⟨e1, e2⟩ := e19 h3
  rw [e1, e2]
  refine zW_if (fun q3 => zT_0 ?_) (fun q3 => zW_if (fun q4 => zW_if (fun q5 => zT_1 ?_) (fun q5 => zT_0 ?_)) (fun q4 => zT_0 ?_))
  · rintro (w | w)
    · omega
    · exact w.2 (Or.inr (Or.inl (by omega)))
  · refine Or.inr ⟨h3, ?_⟩
    rintro (w | w | w)
    · rw [w, if_neg (by decide)] at q5; omega
    · omega
    · omega
  · rintro (w | w)
    · omega
    · refine w.2 (Or.inl ?_)
      rcases tq h3 with z | z
      · rw [if_pos z.1] at q5; exact absurd rfl q5
      · exact z.1
  · rintro (w | w)
    · omega
    · exact w.2 (Or.inr (Or.inr (by omega)))
theorem zW_labZ {kk : Int → ZS → ZR ZS} {f : List Int → Ps → PR} (hd : 6 ≤ d) (Z : ZZ t Γ S σ W (I, A, K) g) (hg : g ≤ 185) (he : pLab t σ f = some r) (her : ∀ e p S', r = .inl (e, p) → ThZ t Γ S' e p → Q none S') (hk : ∀ σ1 S1 W1 x b, ((pc σ).1 = 1 → zname W1 x (pc σ).2.2.1 ∧ b = (pc σ).2.2.1) → ZZ t Γ S1 σ1 W1 (I, A, kL x b :: K) (g - 4) → Pn t σ σ1 → f b σ1 = some r → zW (kk x S1) Q) : zW (zI (zc ZL d 67 [] S) kk) Q := by
  obtain ⟨d, rfl⟩ : ∃ e, d = e + 2 := ⟨d - 2, by omega⟩
  have e17 := ZZ_c Z
  unfold pLab pName at he
  refine zW_I (P := fun v S' => zW (kk v S') Q) (T := fun S' => Q none S') (zW_c (zl_label ?_)) (fun _ _ q => q) (fun _ q => q)
  unfold zb_label
  refine zW_tst (z_isLabel Z) (fun q => zW_f (by decide) (zW_if (fun w => ?_) (fun w => ?_))) (fun q => zW_t rfl ?_)
  · have h3 : (pc σ).1 = 3 := by omega
    have hb : ¬ ((pc σ).2.2.1 = [126] ∨ (pc σ).2.2.2 < 1 ∨ 9 < (pc σ).2.2.2) := by
      rcases q with z | z
      · omega
      · exact z.2
    rw [if_pos h3, if_neg hb] at he
    have e19 := (Z.1.2.2.1.2.2.2.1 h3).1
    have hr : 1 ≤ (pc σ).2.2.2 ∧ (pc σ).2.2.2 ≤ 9 := by
      constructor
      · by_cases z : (pc σ).2.2.2 < 1
        · exact absurd (Or.inr (Or.inl z)) hb
        · omega
      · by_cases z : 9 < (pc σ).2.2.2
        · exact absurd (Or.inr (Or.inr z)) hb
        · omega
    rw [e19]
    refine zW_G (by omega) (zW_let (zW_stepZ (by omega) (ZZ_k (q := kL (-1 - (pc σ).2.2.2) [48 + (pc σ).2.2.2]) Z ?_) (by omega) hg he her (fun σ1 S1 W1 Z1 p e => zW_rI (hk σ1 S1 W1 _ _ (fun z => absurd z (by omega)) Z1 p e))))
    show zlbl (zo S W) (-1 - (pc σ).2.2.2) [48 + (pc σ).2.2.2]
    have hn : (((pc σ).2.2.2.toNat : Nat) : Int) = (pc σ).2.2.2 := by omega
    exact Or.inr ⟨(pc σ).2.2.2.toNat, by omega, by omega, by rw [hn], by rw [hn]⟩
  · have h1 : (pc σ).1 = 1 := by
      rcases q with z | z
      · exact z
      · omega
    rw [if_neg (by omega), if_pos h1] at he
    have hn := ZZ_nm Z (by omega)
    refine zW_let (zW_stepZ (by omega) (ZZ_k (q := kL (S.1 19) (pc σ).2.2.1) (ZZ_k (q := kN (S.1 19) (pc σ).2.2.1) Z hn) ?_) (by omega) hg he her (fun σ1 S1 W1 Z1 p e => zW_rI ?_))
    · show zlbl (zo S W) _ _
      exact Or.inl hn
    · obtain ⟨k1, Z2⟩ := ZZ_k1 Z1
      obtain ⟨k2, Z3⟩ := ZZ_k1 Z2
      exact hk σ1 S1 W1 _ _ (fun _ => ⟨k2, rfl⟩) (ZZ_k Z3 k1) p e
  · rw [e17.2]
    refine zW_thr (her 2 (pc σ).2.1 _ ?_ (ThZ_th Z hg))
    by_cases h3 : (pc σ).1 = 3
    · rw [if_pos h3] at he
      by_cases hb : (pc σ).2.2.1 = [126] ∨ (pc σ).2.2.2 < 1 ∨ 9 < (pc σ).2.2.2
      · rw [if_pos hb] at he; exact (Option.some.inj he).symm
      · exact absurd (Or.inr ⟨h3, hb⟩) q
    · rw [if_neg h3, if_neg (fun z => q (Or.inl z))] at he
      exact (Option.some.inj he).symm
/-- what is kept, given up -/
theorem zK_t {b : List Int} (Z : ZZ t Γ S σ W (I, A, kN x b :: K) g) : zname W x b ∧ ZZ t Γ S σ W (I, A, K) g := by
  obtain ⟨k1, Z2⟩ := ZZ_k1 Z
  exact ⟨k1, Z2⟩
theorem zK_f {b : List Int} (Z : ZZ t Γ S σ W (I, A, kL x b :: K) g) : zlbl (zo S W) x b ∧ ZZ t Γ S σ W (I, A, K) g := by
  obtain ⟨k1, Z2⟩ := ZZ_k1 Z
  exact ⟨k1, Z2⟩
end ZTst
