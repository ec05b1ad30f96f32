set_option maxRecDepth 100000
/-! THE REFERENCE'S TYPES: admit -/
/-- names of variables tell whether they admit equality -/
def ZEq (S : ZS) (μ : Zmp) (n : Nat) : Prop := ∀ z : Nat, z < n → zyk S z = 1 → (0 ≤ zyc S z ∧ zyc S z < 15000) ∧ (0 ≤ S.2.2.1 4 (zyc S z) ∧ S.2.2.1 4 (zyc S z) + 1 < 44000) ∧ mE μ (zyc S z) = decide (1 < S.2.2.1 5 (zyc S z) ∧ S.2.2.1 3 (S.2.2.1 4 (zyc S z) + 1) = 39)
/-- parts of roots that are not through -/
noncomputable def tPhd (G : TG) (B : Nat → Zfl) (n : Nat) : Int := isum (fun z => @ite Int (G.1 z = z ∧ (B z).2.2.2.2 = false) (Classical.propDecidable _) ((tkids (G.2 z)).length : Int) 0) n
/-- what equality leaves alone -/
def ZAf2 (S S' : ZS) : Prop := zAg [79] [24, 25, 39] S S' ∧ ∀ z : Nat, zyk S z ≠ 4 → zyc S' z = zyc S z
section ZAdm2
variable {adm : Nat → Bool} {d : Nat} {S S1 S' S0 : ZS} {μ : Zmp} {G G' G0 : TG} {n n' m x y z a b : Nat} {fl fl' : Nat → List Nat} {B B' : Nat → Zfl} {F : List Nat} {N : TN} {Q : Option (Option ZV) → ZS → Prop} {i v w c f l t : Int} {R R' : Nat → Prop} {W : TW} {E : List Nat}
theorem ZAf2_refl : ZAf2 S S := ⟨zAg_refl, fun _ _ => rfl⟩
theorem ZAf2_k (h : ZAf2 S S') : zyk S' = zyk S := h.1.2.2.1 23 (by decide)
theorem ZAf2_trans {S'' : ZS} (h : ZAf2 S S') (h' : ZAf2 S' S'') : ZAf2 S S'' := ⟨zAg_trans h.1 h'.1, fun z hz => by rw [h'.2 z (by rw [ZAf2_k h]; exact hz), h.2 z hz]⟩
theorem ZAd_f (h : ZAf2 S S') (q : ZAd S μ adm) : ZAd S' μ adm := ⟨⟨q.1.1, fun c hc => by rw [h.1.2.2.1 36 (by decide)]; exact q.1.2 c hc⟩, q.2⟩
theorem ZEq_f (h : ZAf2 S S') (q : ZEq S μ n) : ZEq S' μ n := by
  intro z hz hk
  have e := ZAf2_k h
  rw [e] at hk
  rw [h.2 z (by rw [hk]; decide), h.1.2.2.1 3 (by decide), h.1.2.2.1 4 (by decide), h.1.2.2.1 5 (by decide)]
  exact q z hz hk
theorem z_isEqV (h : ZEq S μ n) (hz : z < n) (hk : zyk S z = 1) : ZL d 149 [.inl (zyc S z)] S = some (some (some (.inl (bI (mE μ (zyc S z))))), S) := by
  obtain ⟨h1, h2, h3⟩ := h z hz hk
  refine zW_get (zl_isEqualVariable ?_)
  unfold zb_isEqualVariable
  rw [h3]
  refine zW_a (by omega) (zW_if (fun e => ?_) (fun e => ?_))
  · exact zW_rZ (Or.inl rfl) ⟨by rw [decide_eq_false (fun q => by omega)]; rfl, rfl⟩
  · refine zW_a (by omega) (zW_a (by omega) (zW_if (fun e2 => ?_) (fun e2 => ?_)))
    · exact zW_rZ (Or.inr rfl) ⟨by rw [decide_eq_true ⟨by omega, e2⟩]; rfl, rfl⟩
    · exact zW_rZ (Or.inl rfl) ⟨by rw [decide_eq_false (fun q => e2 q.2)]; rfl, rfl⟩
theorem z_adm_kids {lab : Nat} {loose : Bool} {kids : List (Ky × Nat)} (hw0 : tWF G0 n) (hx : x < n) (hy : y < n) (hz : z < n) (ha : admq adm lab) (hl : lab ≠ 18) : ∀ (F : List Nat) (x2 : Int) (S : ZS) (G : TG) (B : Nat → Zfl) (E D : List Nat), JI G0 n x y G n [] → ZMx adm S μ G n fl B R W E (some z) → G.1 z = z → G.2 z = (true, .inr (lab, loose, kids)) → tBel G0 x y z → fl z = D ++ F → (∀ f ∈ D, (G.2 (G.1 (zft S (f : Nat)).toNat)).1 = true) → ZCh S F x2 → (∀ t ∈ E, tBel G0 x y t) → (E.length : Int) + F.length ≤ 56999 → S.1 67 ≤ 106000 → (∀ S' G' B' E', JI G0 n x y G' n [] → ZM adm S' μ G' n fl B' R W E' → ZAf2 S S' → (G'.1 = G.1 ∧ ∀ y, (G'.2 y).2 = (G.2 y).2) → E'.length ≤ E.length + F.length → (∀ t ∈ E', tBel G0 x y t) → (∀ y, (B' y).2.2.2.2 = (B y).2.2.2.2) → zW (ZL (d + 2) 148 [] S') Q) → zW (ZL (d + 2) 630 [.inl x2] S) Q := by
  intro F
  induction F with
  | nil =>
    intro x2 S G B E D hJ h hr hg hb hf hD hc hE hlen h67 next
    have hc : x2 = -1 := hc
    refine zl_admit_p152 ?_
    unfold zb_admit_p152
    refine zW_t hc (next S G B E hJ ?_ ZAf2_refl ⟨rfl, fun _ => rfl⟩ (by rw [List.length_nil]; omega) hE (fun _ => rfl))
    have cl : zcl adm G z := by
      intro lab' loose' kids' hg'
      rw [hg] at hg'
      cases hg'
      refine ⟨ha, fun _ l c m => ?_⟩
      obtain ⟨f, m', e⟩ := ZG_kid h.1 hz hr (l := l) (k := c) (by rw [hg]; exact m)
      rw [hf, List.append_nil] at m'
      rw [e]; exact hD f m'
    refine ⟨h.1, h.2.1, h.2.2.1, fun y hy hry => ?_⟩
    obtain ⟨p1, p2⟩ := h.2.2.2 y hy hry
    refine ⟨fun he => ?_, fun hd => ?_⟩
    · rcases p1 he with q | q | q
      · exact Or.inl q
      · exact Or.inr q
      · have q : z = y := Option.some.inj q
        subst q
        refine Or.inr ⟨cl, fun hk => ?_⟩
        obtain ⟨i, g, _⟩ := ZG_1 h.1 hz hr hk
        rw [hg] at g
        have := congrArg Prod.snd g
        cases this
    · obtain ⟨q1, q2, q3, q4⟩ := p2 hd
      refine ⟨q1, q2, q3, ?_⟩
      rcases q4 with q | q
      · exact q
      · have q : z = y := Option.some.inj q
        rw [← q]; exact cl
  | cons f F ih =>
    intro x2 S G B E D hJ h hr hg hb hf hD hc hE hlen h67 next
    obtain ⟨c1, c2, c3, c4⟩ := hc
    rw [List.length_cons] at hlen
    have fm : f ∈ fl z := by rw [hf]; exact List.mem_append_right _ (List.mem_cons_self ..)
    obtain ⟨⟨l, ml⟩, hk1, hk2⟩ := ZG_fld h.1 hJ.1 hz hr fm
    have ml' : (l, (zft S (f : Nat)).toNat) ∈ kids := by rw [hg] at ml; exact ml
    have rz := JI_kid hw0 hx hy hJ (c := z) hz hb (l := l) (z := (zft S (f : Nat)).toNat) (by rw [hr]; exact ml)
    have hs := fun (adm' : Nat → Bool) (w : Nat → Ttr) => tS_down (e := true) (adm := adm') (v := w) (G := G) (ec := (G.2 (G.1 (zft S (f : Nat)).toNat)).1) (N0 := (G.2 (G.1 (zft S (f : Nat)).toNat)).2) hJ.1 hz hr hg ml' hl rfl
    obtain ⟨S', B', E', e1, e2, e3, e4, e5, e6, e7, e8⟩ := z_asks (d := d) hJ hw0 hx hy h hk1 rz.2 hs (by omega) hE
    refine zl_admit_p152 ?_
    unfold zb_admit_p152
    rw [c1]
    refine zW_f (by omega) (zW_a (by omega) ?_)
    rw [show S.2.2.1 30 (f : Int) = ((zft S f).toNat : Int) by show zft S f = _; omega]
    have a30 : S'.2.2.1 30 = S.2.2.1 30 := e4.2.2.1 30 (by decide)
    have a31 : S'.2.2.1 31 = S.2.2.1 31 := e4.2.2.1 31 (by decide)
    have a67 : S'.1 67 = S.1 67 := e4.1 67 (by decide)
    refine zW_Ve (zc_s.trans e1) (zW_a (by omega) (zW_let ?_))
    rw [a31]
    have gz : (tset G (G.1 (zft S (f : Nat)).toNat) (true, (G.2 (G.1 (zft S (f : Nat)).toNat)).2)).2 z = (true, .inr (lab, loose, kids)) := by
      show (if z = G.1 (zft S (f : Nat)).toNat then ((true, (G.2 (G.1 (zft S (f : Nat)).toNat)).2) : TN) else G.2 z) = _
      split
      · next q => rw [← q, hg]
      · exact hg
    have fg : ∀ c, (G.2 c).1 = true → ((tset G (G.1 (zft S (f : Nat)).toNat) (true, (G.2 (G.1 (zft S (f : Nat)).toNat)).2)).2 c).1 = true := by
      intro c hc
      show (if c = G.1 (zft S (f : Nat)).toNat then ((true, (G.2 (G.1 (zft S (f : Nat)).toNat)).2) : TN) else G.2 c).1 = true
      split
      · rfl
      · exact hc
    refine ih _ S' _ B' E' (D ++ [f]) e2 e3 hr gz hb (by rw [hf, List.append_assoc]; rfl) (fun g hg' => ?_) ?_ e7 (by omega) (by rw [a67]; exact h67) (fun S2 G2 B2 E2 q1 q2 q3 q4 q5 q6 q7 => next S2 G2 B2 E2 q1 q2 (ZAf2_trans ⟨e4, e5⟩ q3) ⟨q4.1, fun y => ?_⟩ (by rw [List.length_cons]; omega) q6 (fun y => (q7 y).trans (e8 y)))
    · show ((tset G _ _).2 ((tset G (G.1 (zft S (f : Nat)).toNat) (true, (G.2 (G.1 (zft S (f : Nat)).toNat)).2)).1 (S'.2.2.1 30 (g : Int)).toNat)).1 = true
      rw [a30]
      rcases List.mem_append.mp hg' with q | q
      · exact fg _ (hD g q)
      · have : g = f := by simpa using q
        rw [this]
        show (if G.1 (zft S (f : Nat)).toNat = G.1 (zft S (f : Nat)).toNat then ((true, (G.2 (G.1 (zft S (f : Nat)).toNat)).2) : TN) else _).1 = true
        rw [if_pos rfl]
    · exact ZCh_eq (S := S) (by rw [a67]; exact Int.le_refl _) (fun g _ => ⟨by show S'.2.2.1 30 _ = _; rw [a30], by show S'.2.2.1 31 _ = _; rw [a31]⟩) c4
    · rw [q4.2 y]
      show (if y = G.1 (zft S (f : Nat)).toNat then ((true, (G.2 (G.1 (zft S (f : Nat)).toNat)).2) : TN) else G.2 y).2 = _
      split
      · next q => rw [q]
      · rfl
end ZAdm2
