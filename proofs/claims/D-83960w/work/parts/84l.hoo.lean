set_option maxRecDepth 100000
/-! THE HOUSE'S TYPES: two open rows become a third one -/
/-- labels of the second one that the first one lacks -/
noncomputable def cNw (f g : Nat → List Int) (ka : Nat) : Nat → Nat → Nat
  | 0, _ => 0
  | r + 1, j => @ite Nat (∃ i, i < ka ∧ f i = g j) (Classical.propDecidable _) 0 1 + cNw f g ka r (j + 1)
section HOo
variable {B : Nat → Prop} {T : Nat → Nat} {ν : Hmp} {H H' H2 : YS} {C : YC} {d f k j n m x y a z t n0 a0 b0 : Nat} {fs as fs' as' : List Nat} {v w i : Int} {Q : Option (Option ZV) → YS → Prop} {r s : Option Nat} {G G' G0 : TG} {fl fl0 fl' : Nat → Yfl} {sp : Nat → Nat × Nat} {lb lb' : Nat → List Int} {N : TN} {b : Nat} {b' : Yfl} {W : TW} {E E' : List Nat} {adm : Nat → Bool} {K : Nat → Nat → Prop} {Rz : Nat → Prop}
theorem cNw_le {f g : Nat → List Int} {ka : Nat} : ∀ r j, cNw f g ka r j ≤ r
  | 0, _ => Nat.le_refl _
  | r + 1, j => by
    have := cNw_le (f := f) (g := g) (ka := ka) r (j + 1)
    unfold cNw
    split <;> omega
/-- how many there will be -/
theorem h_oo_count (hC : CW C) (hT : HtA T H) (hG : HG B T ν H G n m fl sp lb Rz0) (ha : a < n) (hb : b < n) : ∀ (r i acc : Nat), i + r = (sp b).2 → acc ≤ 1000 + i → zW (YL C (d + 3) 549 [zr (T 0), .inl (a : Int), .inl (b : Int), .inl ((acc + cNw (fun i => lb ((sp a).1 + i)) (fun i => lb ((sp b).1 + i)) (sp a).2 r i : Nat) : Int), .inl ((sp b).2 : Int)] H) Q → zW (YL C (d + 3) 549 [zr (T 0), .inl (a : Int), .inl (b : Int), .inl (acc : Int), .inl (i : Int)] H) Q := by
  have ix := HG_x hG ha
  have iy := HG_x hG hb
  obtain ⟨_, _, s1, l1, l2⟩ := hG.2.2.1 a ha
  obtain ⟨_, _, s2, l3, l4⟩ := hG.2.2.1 b hb
  have hm5 := hG.1.2.2.2
  intro r
  induction r with
  | zero =>
    intro i acc hi hac h
    have e : i = (sp b).2 := by omega
    subst e
    exact h
  | succ r ih =>
    intro i acc hi hac h
    obtain ⟨_, sB, pb2, pb3, pb4⟩ := hG.2.2.2.2.1 ((sp b).1 + i) (by omega) (fun z hz q => q.elim)
    obtain ⟨v, e1, e2⟩ := h_find (d := d) hC hT hG (fun _ _ q => q) ha pb3
    refine yl_Types_opens_p92 ?_
    unfold yb_Types_opens_p92
    rw [ycv_T hT]
    refine zW_Ie (zc_s.trans (h_many hT iy s2 l4 (by omega))) (zW_t (by omega) ?_)
    rw [ycv_T hT]
    refine zW_Qe (zc_s.trans (h_label hT iy s2 (by omega) (by omega))) ?_
    rw [pb2, ycv_T hT]
    refine zW_Ie (zc_s.trans e1) ?_
    unfold cNw at h
    rcases e2 with ⟨rfl, e2⟩ | ⟨j', j1, rfl, j2⟩
    · rw [if_neg (fun ⟨i', q1, q2⟩ => e2 i' q1 q2)] at h
      refine zW_t rfl (zW_G (by omega) (zW_let (zW_G (by omega) (zW_let ?_))))
      rw [show (acc : Int) + 1 = ((acc + 1 : Nat) : Int) by omega, show (i : Int) + 1 = ((i + 1 : Nat) : Int) by omega]
      refine ih (i + 1) (acc + 1) (by omega) (by omega) ?_
      rw [Nat.add_assoc]; exact h
    · rw [if_pos ⟨j', j1, j2⟩, Nat.zero_add] at h
      refine zW_f (by omega) (zW_G (by omega) (zW_let (zW_G (by omega) (zW_let ?_))))
      rw [show (acc : Int) + 0 = (acc : Int) by omega, show (i : Int) + 1 = ((i + 1 : Nat) : Int) by omega]
      exact ih (i + 1) acc (by omega) (by omega) h
/-- while the new row is filled: k are there, i and j of both are through -/
def hMs (B : Nat → Prop) (T : Nat → Nat) (H H1 : YS) (n m : Nat) (f g : Nat → List Int) (ka kb sa sb : Nat) (W : TW) (Hi : YS) (k i j : Nat) (o : Nat → List Int) (W1 : TW) : Prop :=
  (hAg T [1217] [6, 7, 8] H1 Hi ∧ (hWs T Hi (W1 ++ W) ∧ hin T Hi 1217 = ((W1 ++ W).length : Int))) ∧ (∀ p : Nat, p < m → hpt T Hi p = hpt T H p ∧ hla T Hi p = hla T H p) ∧
  (∀ q, q < k → (∃ s, hla T Hi ((m + q : Nat) : Int) = some s ∧ StrY B Hi s (o q) ∧ (o q).length ≤ 200) ∧ o q ≠ [] ∧ ((∃ i', i' < i ∧ o q = f i' ∧ hpt T Hi ((m + q : Nat) : Int) = hpt T H ((sa + i' : Nat) : Int)) ∨ ∃ j', j' < j ∧ o q = g j' ∧ hpt T Hi ((m + q : Nat) : Int) = hpt T H ((sb + j' : Nat) : Int))) ∧
  ((∀ i', i' < i → ∃ q, q < k ∧ o q = f i') ∧ ∀ j', j' < j → ∃ q, q < k ∧ o q = g j') ∧
  (lsrt o k ∧ ∀ q, q < k → (∀ i', i ≤ i' → i' < ka → lcmp (o q) (f i') < 0) ∧ ∀ j', j ≤ j' → j' < kb → lcmp (o q) (g j') < 0) ∧
  ((∀ i' j', i' < i → j' < j → f i' = g j' → ((hpt T H ((sa + i' : Nat) : Int)).toNat, (hpt T H ((sb + j' : Nat) : Int)).toNat) ∈ W1) ∧ (∀ q ∈ W1, ∃ i' j', i' < ka ∧ j' < kb ∧ f i' = g j' ∧ q = ((hpt T H ((sa + i' : Nat) : Int)).toNat, (hpt T H ((sb + j' : Nat) : Int)).toNat)) ∧ W1.length + k = i + j) ∧ i ≤ ka ∧ j ≤ kb
/-- one label more -/
theorem hMs_step {H1 Hi Hj : YS} {f g : Nat → List Int} {ka kb sa sb i j i2 j2 sl : Nat} {o : Nat → List Int} {W1 W2 : TW} {bl : List Int} {vp : Int} (hT : HtA T H1) (h : hMs B T H H1 n m f g ka kb sa sb W Hi k i j o W1) (h1 : hAg T [1217] [6, 7, 8] Hi Hj) (h2 : hWs T Hj (W2 ++ W) ∧ hin T Hj 1217 = ((W2 ++ W).length : Int)) (hp : ∀ p : Nat, hpt T Hj p = if p = m + k then vp else hpt T Hi p) (hl : ∀ p : Nat, hla T Hj p = if p = m + k then some sl else hla T Hi p) (hs : StrY B Hj sl bl ∧ bl.length ≤ 200 ∧ bl ≠ []) (hi : i2 = i ∨ i2 = i + 1 ∧ i < ka ∧ bl = f i) (hj : j2 = j ∨ j2 = j + 1 ∧ j < kb ∧ bl = g j) (src : (i2 = i + 1 ∧ vp = hpt T H ((sa + i : Nat) : Int)) ∨ (j2 = j + 1 ∧ vp = hpt T H ((sb + j : Nat) : Int))) (gf : ∀ i', i2 ≤ i' → i' < ka → lcmp bl (f i') < 0) (gg : ∀ j', j2 ≤ j' → j' < kb → lcmp bl (g j') < 0) (hW : (W2 = W1 ∧ (i2 = i ∨ j2 = j) ∧ i2 + j2 = i + j + 1) ∨ (W2 = ((hpt T H ((sa + i : Nat) : Int)).toNat, (hpt T H ((sb + j : Nat) : Int)).toNat) :: W1 ∧ i2 = i + 1 ∧ j2 = j + 1)) : hMs B T H H1 n m f g ka kb sa sb W Hj (k + 1) i2 j2 (fun q => if q = k then bl else o q) W2 := by
  obtain ⟨⟨p1, p2⟩, p3, p4, ⟨p5, p6⟩, ⟨p7, p8⟩, ⟨p9, p10, p11⟩, p12, p13⟩ := h
  have Ti := HtA_ag hT p1
  have ok : ∀ q, q < k → (fun q => if q = k then bl else o q) q = o q := fun q hq => if_neg (by omega)
  have okk : (fun q => if q = k then bl else o q) k = bl := if_pos rfl
  have ile : i ≤ i2 ∧ i2 ≤ i + 1 := by rcases hi with q | q <;> omega
  have jle : j ≤ j2 ∧ j2 ≤ j + 1 := by rcases hj with q | q <;> omega
  -- all that was there is ahead of what comes
  have old : ∀ q, q < k → lcmp (o q) bl < 0 := by
    intro q hq
    obtain ⟨q1, q2⟩ := p8 q hq
    rcases src with ⟨e, _⟩ | ⟨e, _⟩
    · rcases hi with w | ⟨w1, w2, w3⟩
      · omega
      · rw [w3]; exact q1 i (Nat.le_refl _) w2
    · rcases hj with w | ⟨w1, w2, w3⟩
      · omega
      · rw [w3]; exact q2 j (Nat.le_refl _) w2
  refine ⟨⟨hAg_trans p1 h1, h2⟩, fun p hp' => ?_, fun q hq => ?_, ⟨fun i' hi' => ?_, fun j' hj' => ?_⟩, ⟨fun p q hpq hq => ?_, fun q hq => ?_⟩, ⟨fun i' j' hi' hj' e => ?_, fun q hq => ?_, ?_⟩, ?_, ?_⟩
  · rw [hp, hl, if_neg (by omega), if_neg (by omega)]; exact p3 p hp'
  · by_cases e : q = k
    · subst e
      rw [hp, hl, if_pos rfl, if_pos rfl, okk]
      refine ⟨⟨sl, rfl, hs.1, hs.2.1⟩, hs.2.2, ?_⟩
      rcases src with ⟨e, e2⟩ | ⟨e, e2⟩
      · rcases hi with w | ⟨w1, w2, w3⟩
        · omega
        · exact Or.inl ⟨i, by omega, w3, e2⟩
      · rcases hj with w | ⟨w1, w2, w3⟩
        · omega
        · exact Or.inr ⟨j, by omega, w3, e2⟩
    · obtain ⟨⟨s, q1, q2, q3⟩, q4, q5⟩ := p4 q (by omega)
      rw [hp, hl, if_neg (by omega), if_neg (by omega), ok q (by omega)]
      refine ⟨⟨s, q1, hAg_StrY Ti (by decide) h1 q2, q3⟩, q4, ?_⟩
      rcases q5 with ⟨i', a1, a2⟩ | ⟨j', a1, a2⟩
      · exact Or.inl ⟨i', by omega, a2⟩
      · exact Or.inr ⟨j', by omega, a2⟩
  · by_cases e : i' < i
    · obtain ⟨q, q1, q2⟩ := p5 i' e
      exact ⟨q, by omega, by rw [ok q q1]; exact q2⟩
    · rcases hi with w | ⟨w1, w2, w3⟩
      · omega
      · exact ⟨k, by omega, by rw [okk, w3, show i' = i by omega]⟩
  · by_cases e : j' < j
    · obtain ⟨q, q1, q2⟩ := p6 j' e
      exact ⟨q, by omega, by rw [ok q q1]; exact q2⟩
    · rcases hj with w | ⟨w1, w2, w3⟩
      · omega
      · exact ⟨k, by omega, by rw [okk, w3, show j' = j by omega]⟩
  · rw [ok p (by omega)]
    by_cases e : q = k
    · rw [e, okk]; exact old p (by omega)
    · rw [ok q (by omega)]; exact p7 p q hpq (by omega)
  · by_cases e : q = k
    · rw [e, okk]; exact ⟨gf, gg⟩
    · rw [ok q (by omega)]
      obtain ⟨q1, q2⟩ := p8 q (by omega)
      exact ⟨fun i' a1 a2 => q1 i' (by omega) a2, fun j' a1 a2 => q2 j' (by omega) a2⟩
  · have sub : ∀ q ∈ W1, q ∈ W2 := by
      rcases hW with ⟨w, _⟩ | ⟨w, _⟩ <;> rw [w]
      · exact fun q m => m
      · exact fun q m => List.mem_cons_of_mem _ m
    by_cases ei : i' < i
    · by_cases ej : j' < j
      · exact sub _ (p9 i' j' ei ej e)
      · -- what was there of the first one is ahead of what comes of the second one
        exfalso
        have ej2 : j' = j ∧ j < kb := by
          rcases hj with w | ⟨w1, w2, w3⟩
          · omega
          · exact ⟨by omega, w2⟩
        obtain ⟨q, q1, q2⟩ := p5 i' ei
        have := (p8 q q1).2 j (Nat.le_refl _) ej2.2
        rw [q2, e, ej2.1] at this
        exact lcmp_irr this
    · have ei2 : i' = i ∧ i < ka ∧ bl = f i := by
        rcases hi with w | ⟨w1, w2, w3⟩
        · omega
        · exact ⟨by omega, w2, w3⟩
      by_cases ej : j' < j
      · exfalso
        obtain ⟨q, q1, q2⟩ := p6 j' ej
        have := (p8 q q1).1 i (Nat.le_refl _) ei2.2.1
        rw [q2, ← e, ei2.1] at this
        exact lcmp_irr this
      · rcases hW with ⟨w, w2, w3⟩ | ⟨w, w2, w3⟩
        · omega
        · rw [w, ei2.1, show j' = j by omega]; exact List.mem_cons_self ..
  · rcases hW with ⟨w, _⟩ | ⟨w, w2, w3⟩
    · rw [w] at hq; exact p10 q hq
    · rw [w] at hq
      rcases List.mem_cons.mp hq with e | hq
      · refine ⟨i, j, ?_, ?_, ?_, e⟩
        · rcases hi with q | q <;> omega
        · rcases hj with q | q <;> omega
        · rcases hi with q | ⟨_, _, q⟩
          · omega
          · rcases hj with q' | ⟨_, _, q'⟩
            · omega
            · rw [← q, q']
      · exact p10 q hq
  · rcases hW with ⟨w, w2, w3⟩ | ⟨w, w2, w3⟩
    · rw [w]; omega
    · rw [w, List.length_cons]; omega
  · rcases hi with q | q <;> omega
  · rcases hj with q | q <;> omega
end HOo
