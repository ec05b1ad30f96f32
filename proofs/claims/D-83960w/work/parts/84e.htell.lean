set_option maxRecDepth 100000
/-! THE HOUSE'S TYPES: what joining keeps; an unknown one is told -/
/-- rows, pairs that wait, those that were touched -/
def HM (adm : Nat → Bool) (B : Nat → Prop) (T : Nat → Nat) (ν : Hmp) (H : YS) (G : TG) (n m : Nat) (fl : Nat → Yfl) (sp : Nat → Nat × Nat) (lb : Nat → List Int) (W : TW) (E : List Nat) : Prop := HtA T H ∧ HG B T ν H G n m fl sp lb Rz0 ∧ (hWs T H W ∧ hin T H 1217 = (W.length : Int)) ∧ (hEs T H E ∧ hin T H 1216 = (E.length : Int) ∧ ∀ t ∈ E, t < n) ∧ hJE adm G n E
/-- told by K, x and y being one -/
def tDB0 (G0 : TG) (n0 x y : Nat) (K : Nat → Prop) (p : Nat) : Prop := ∀ w w2, tSol tT G0 n0 w → w x = w y → tSol tT G0 n0 w2 → w2 x = w2 y → (∀ k, K k → w k = w2 k) → w p = w2 p
/-- levels while joining -/
def hLv (K : Nat → Nat → Prop) (G0 : TG) (n0 x y : Nat) (fl0 : Nat → Yfl) (G : TG) (n : Nat) (fl : Nat → Yfl) (E : List Nat) : Prop :=
  (∀ z, z < n → G.1 z = z → (∃ t ∈ E, G.1 t = z) ∨ ∀ l c, (l, c) ∈ tkids (G.2 z) → lvl (fl (G.1 c)) ≤ lvl (fl z)) ∧
  (∀ l p, p < n0 → lvl (fl (G.1 p)) ≤ l → tDB0 G0 n0 x y (K l) p) ∧ (∀ z, z < n → ∃ p, p < n0 ∧ G.1 p = G.1 z) ∧
  (∀ z, z < n0 → G0.1 z = z → ¬ tBel G0 x y z → fl z = fl0 z) ∧ ∀ t ∈ E, t < n0 → tBel G0 x y t
abbrev hJf (T : Nat → Nat) (H H' : YS) : Prop := hAg T [1211, 1212, 1216, 1217] [1, 2, 3, 4, 5, 6, 7, 8] H H'
/-- weights of open rows: how many parts joining may still make -/
noncomputable def tw (G : TG) (z : Nat) : Int := match G.2 z with
  | (_, .inr (_, true, kids)) => @ite Int (G.1 z = z) (Classical.propDecidable _) (if kids = [] then 1 else (kids.length : Int)) 0
  | _ => 0
noncomputable def hY (m : Int) (G : TG) (n : Nat) : Int := 2 * m + (isum (tw G) n * isum (tw G) n - isum (fun z => tw G z * tw G z) n) + 2 * tKN G n
noncomputable def hS (G : TG) (n : Nat) : Int := isum (tw G) n
/-- how many places there may be -/
noncomputable def hN (G : TG) (n : Nat) : Int := n + tKN G n
/-- what a step of joining gives -/
def HStep (adm : Nat → Bool) (B : Nat → Prop) (T : Nat → Nat) (ν : Hmp) (K : Nat → Nat → Prop) (G0 : TG) (n0 x y : Nat) (fl0 : Nat → Yfl) (H : YS) (G : TG) (n m : Nat) (W : TW) (E : List Nat) (a b : Nat) (r : Int) (H' : YS) : Prop :=
  (r = 0 ∧ hJf T H H' ∧ ∀ w, ¬ (tSol tT G n w ∧ tGen G n w ∧ w a = w b)) ∨
  (r = 1 ∧ hJf T H H' ∧ ∃ G' n' m' fl' sp' lb' W' E', JI G0 n0 x y G' n' W' ∧ HM adm B T ν H' G' n' m' fl' sp' lb' W' E' ∧ hLv K G0 n0 x y fl0 G' n' fl' E' ∧
    (W'.length : Int) + tPhi G' n' ≤ W.length + 1 + tPhi G n ∧ (E'.length : Int) + 2 * troots G' n' ≤ E.length + 2 * troots G n ∧ troots G' n' < troots G n ∧ hY m' G' n' ≤ hY m G n ∧ hN G' n' ≤ hN G n ∧ hS G' n' ≤ hS G n)
section HTell
variable {B : Nat → Prop} {T : Nat → Nat} {ν : Hmp} {H H' H2 : YS} {C : YC} {d f k j n m x y a z t n0 a0 b0 : Nat} {fs as fs' as' : List Nat} {v w i : Int} {Q : Option (Option ZV) → YS → Prop} {r s : Option Nat} {G G' G0 : TG} {fl fl0 : Nat → Yfl} {sp : Nat → Nat × Nat} {lb : Nat → List Int} {N : TN} {b : Nat} {b' : Yfl} {W : TW} {E : List Nat} {adm : Nat → Bool} {K : Nat → Nat → Prop}
theorem HNode_0 (h : HG B T ν H G n m fl sp lb Rz0) (hx : x < n) (rx : G.1 x = x) (k0 : (fl x).1 = 0) : hti T H x = -1 ∧ G.2 x = ((fl x).2.1, .inl (if (fl x).2.2.1 then 1 else 0)) := by
  rcases h.2.2.2.2.2.1 x hx rx (fun q => q) with ⟨_, _, h3, h4⟩ | ⟨h1, _⟩ | ⟨h1, _⟩ | ⟨h1, _⟩ | ⟨h1, _⟩
  · exact ⟨h3, h4⟩
  all_goals rw [k0] at h1; exact absurd h1 (by decide)
theorem HNode_5 (h : HG B T ν H G n m fl sp lb Rz0) (hx : x < n) (rx : G.1 x = x) (k0 : (fl x).1 = 5) : ∃ f : Nat, hti T H x = -2 - (f : Int) ∧ (f : Int) < hin T H 1219 ∧ G.2 x = (nR ν (nX ν f) || (fl x).2.1, .inl (nX ν f + 2)) := by
  rcases h.2.2.2.2.2.1 x hx rx (fun q => q) with ⟨h1, _⟩ | ⟨_, _, h3⟩ | ⟨h1, _⟩ | ⟨h1, _⟩ | ⟨h1, _⟩
  · rw [k0] at h1; exact absurd h1 (by decide)
  · exact h3
  all_goals rw [k0] at h1; exact absurd h1 (by decide)
theorem HNode_3 (h : HG B T ν H G n m fl sp lb Rz0) (hx : x < n) (rx : G.1 x = x) (k0 : (fl x).1 = 3) : ∃ c : Nat, hti T H x = -2 - (c : Int) ∧ c < nD ν ∧ (sp x).2 = nA ν c ∧ G.2 x = ((fl x).2.1, .inr (nC ν c, false, hkd T H kI (sp x).1 (sp x).2)) := by
  rcases h.2.2.2.2.2.1 x hx rx (fun q => q) with ⟨h1, _⟩ | ⟨h1, _⟩ | ⟨_, h3⟩ | ⟨h1, _⟩ | ⟨h1, _⟩
  · rw [k0] at h1; exact absurd h1 (by decide)
  · rw [k0] at h1; exact absurd h1 (by decide)
  · exact h3
  all_goals rw [k0] at h1; exact absurd h1 (by decide)
theorem HNode_4 (h : HG B T ν H G n m fl sp lb Rz0) (hx : x < n) (rx : G.1 x = x) (k0 : (fl x).1 = 4) : (sp x).2 = 2 ∧ hti T H x = -1 ∧ G.2 x = ((fl x).2.1, .inr (5, false, hkd T H kI (sp x).1 (sp x).2)) := by
  rcases h.2.2.2.2.2.1 x hx rx (fun q => q) with ⟨h1, _⟩ | ⟨h1, _⟩ | ⟨h1, _⟩ | ⟨_, h3⟩ | ⟨h1, _⟩
  · rw [k0] at h1; exact absurd h1 (by decide)
  · rw [k0] at h1; exact absurd h1 (by decide)
  · rw [k0] at h1; exact absurd h1 (by decide)
  · exact h3
  · rw [k0] at h1; exact absurd h1 (by decide)
theorem HNode_12 (h : HG B T ν H G n m fl sp lb Rz0) (hx : x < n) (rx : G.1 x = x) (k0 : (fl x).1 = 2 ∨ (fl x).1 = 1) : hti T H x = -1 ∧ G.2 x = ((fl x).2.1, .inr (2, decide ((fl x).1 = 1), hkd T H (fun i => lb ((sp x).1 + i)) (sp x).1 (sp x).2)) ∧ (∀ i j, i < j → j < (sp x).2 → lcmp (lb ((sp x).1 + i)) (lb ((sp x).1 + j)) < 0) ∧ ∀ i, i < (sp x).2 → lb ((sp x).1 + i) ≠ [] := by
  rcases h.2.2.2.2.2.1 x hx rx (fun q => q) with ⟨h1, _⟩ | ⟨h1, _⟩ | ⟨h1, _⟩ | ⟨h1, _⟩ | ⟨_, h3⟩
  · rw [h1] at k0; omega
  · rw [h1] at k0; omega
  · rw [h1] at k0; omega
  · rw [h1] at k0; omega
  · exact h3
theorem HNode_kind (h : HG B T ν H G n m fl sp lb Rz0) (hx : x < n) (rx : G.1 x = x) : (fl x).1 = 0 ∨ (fl x).1 = 5 ∨ (fl x).1 = 3 ∨ (fl x).1 = 4 ∨ (fl x).1 = 2 ∨ (fl x).1 = 1 := by
  rcases h.2.2.2.2.2.1 x hx rx (fun q => q) with ⟨h1, _⟩ | ⟨h1, _⟩ | ⟨h1, _⟩ | ⟨h1, _⟩ | ⟨h1, _⟩
  · exact Or.inl h1
  · exact Or.inr (Or.inl h1)
  · exact Or.inr (Or.inr (Or.inl h1))
  · exact Or.inr (Or.inr (Or.inr (Or.inl h1)))
  · rcases h1 with h1 | h1
    · exact Or.inr (Or.inr (Or.inr (Or.inr (Or.inl h1))))
    · exact Or.inr (Or.inr (Or.inr (Or.inr (Or.inr h1))))
/-- solutions give both sides of a pair one value -/
theorem JI_pair (hJ : JI G0 n0 x y G n ((a0, b0) :: W)) {wv : Nat → Ttr} {p q : Nat} (hs : tSol tT G0 n0 wv) (hv : wv x = wv y) (hp : p < n0) (hq : q < n0) (e : G.1 p = G.1 q ∨ (G.1 p = G.1 a0 ∧ G.1 q = G.1 b0) ∨ (G.1 p = G.1 b0 ∧ G.1 q = G.1 a0)) : wv p = wv q := by
  obtain ⟨w', q1, q2, q3⟩ := hJ.2.2.2.1 _ wv hs hv
  have hn := hJ.2.2.2.2.1.1
  have e0 : w' a0 = w' b0 := q3 (a0, b0) (List.mem_cons_self ..)
  have h2 := hJ.2.1 (a0, b0) (List.mem_cons_self ..)
  have la : a0 < n := by have : a0 < n0 := h2.1.1; omega
  have lb' : b0 < n := by have : b0 < n0 := h2.2.1; omega
  rw [← q1 p hp, ← q1 q hq, q2.1 p (by omega), q2.1 q (by omega)]
  rw [q2.1 a0 la, q2.1 b0 lb'] at e0
  rcases e with e | ⟨e1, e2⟩ | ⟨e1, e2⟩
  · rw [e]
  · rw [e1, e2, e0]
  · rw [e1, e2, e0]
theorem tDB0_of (h : tDB0 G0 n0 x y (K k) a) {p : Nat} (e : ∀ wv, tSol tT G0 n0 wv → wv x = wv y → wv p = wv a) : tDB0 G0 n0 x y (K k) p := fun w w2 s1 e1 s2 e2 hk => by rw [e w s1 e1, e w2 s2 e2]; exact h w w2 s1 e1 s2 e2 hk
theorem JI_belb2 (hJ : JI G0 n0 x y G n ((a0, b0) :: W)) (hab : JAb G a0 b0 a b) (hb : b < n0) : tBel G0 x y b := by
  have h2 := hJ.2.1 (a0, b0) (List.mem_cons_self ..)
  have h6 := hJ.2.2.2.2.2.1
  rcases hab with ⟨_, e⟩ | ⟨_, e⟩
  · have := h6 b0 h2.2.1 h2.2.2 (by rw [e]; exact hb)
    rw [e] at this; exact this
  · have := h6 a0 h2.1.1 h2.1.2 (by rw [e]; exact hb)
    rw [e] at this; exact this
/-- levels behind a link -/
theorem hLv_link (hJ : JI G0 n0 x y G n ((a0, b0) :: W)) (hab : JAb G a0 b0 a b) (hne : a ≠ b) (h : hLv K G0 n0 x y fl0 G n fl E) (hl : lvl b' = min (lvl (fl a)) (lvl (fl b))) : hLv K G0 n0 x y fl0 (tlink G a b N) n (fup fl b b') (E ++ [b]) := by
  obtain ⟨⟨ha, ra⟩, hb, rb⟩ := JI_at hJ hab
  obtain ⟨l1, l2, l3, l4, l5⟩ := h
  have h2 := hJ.2.1 (a0, b0) (List.mem_cons_self ..)
  have pa : a0 < n0 := h2.1.1
  have pb : b0 < n0 := h2.2.1
  have hn := hJ.2.2.2.2.1.1
  have r1 : (tlink G a b N).1 b = b := by
    show (if G.1 b = a then b else G.1 b) = b
    rw [rb, if_neg (fun q => hne q.symm)]
  have lvb : ∀ c, lvl (fup fl b b' ((tlink G a b N).1 c)) ≤ lvl (fl (G.1 c)) := by
    intro c
    show lvl (fup fl b b' (if G.1 c = a then b else G.1 c)) ≤ _
    by_cases q : G.1 c = a
    · rw [if_pos q, show fup fl b b' b = b' from if_pos rfl, hl, q]; omega
    · rw [if_neg q]
      by_cases q' : G.1 c = b
      · rw [q', show fup fl b b' b = b' from if_pos rfl, hl]; omega
      · rw [show fup fl b b' (G.1 c) = fl (G.1 c) from if_neg q']; exact Nat.le_refl _
  refine ⟨fun z hz hr => ?_, fun l p hp hlp => ?_, fun z hz => ?_, fun z hz rz hnb => ?_, fun t m => ?_⟩
  · by_cases q : z = b
    · exact Or.inl ⟨b, by simp, by rw [r1, q]⟩
    · have e2 : (tlink G a b N).2 z = G.2 z := if_neg q
      have hr' : (if G.1 z = a then b else G.1 z) = z := hr
      have hr2 : G.1 z = z ∧ z ≠ a := by
        split at hr'
        · exact absurd hr'.symm q
        · next w => exact ⟨hr', fun w2 => w (by rw [hr', w2])⟩
      rcases l1 z hz hr2.1 with ⟨t, m1, m2⟩ | w
      · refine Or.inl ⟨t, by simp [m1], ?_⟩
        show (if G.1 t = a then b else G.1 t) = z
        rw [m2, if_neg hr2.2]
      · refine Or.inr (fun l c m => ?_)
        rw [e2] at m
        have := w l c m
        have := lvb c
        rw [show fup fl b b' z = fl z from if_neg q]
        omega
  · have both : lvl (fl (G.1 p)) ≤ l ∨ ((G.1 p = a ∨ G.1 p = b) ∧ (lvl (fl a) ≤ l ∨ lvl (fl b) ≤ l)) := by
      have hlp : lvl (fup fl b b' (if G.1 p = a then b else G.1 p)) ≤ l := hlp
      by_cases q : G.1 p = a
      · rw [if_pos q, show fup fl b b' b = b' from if_pos rfl, hl] at hlp
        exact Or.inr ⟨Or.inl q, by omega⟩
      · rw [if_neg q] at hlp
        by_cases q' : G.1 p = b
        · rw [q', show fup fl b b' b = b' from if_pos rfl, hl] at hlp
          exact Or.inr ⟨Or.inr q', by omega⟩
        · rw [show fup fl b b' (G.1 p) = fl (G.1 p) from if_neg q'] at hlp
          exact Or.inl hlp
    rcases both with q | ⟨q1, q2⟩
    · exact l2 l p hp q
    · have key : ∀ c, c < n0 → (G.1 c = a ∨ G.1 c = b) → lvl (fl (G.1 c)) ≤ l → tDB0 G0 n0 x y (K l) p := by
        intro c hc hcab hcl
        refine tDB0_of (l2 l c hc hcl) (fun wv s1 s2 => JI_pair hJ s1 s2 hp hc ?_)
        rcases hab with ⟨u1, u2⟩ | ⟨u1, u2⟩ <;> rcases q1 with q1 | q1 <;> rcases hcab with hcab | hcab
        · exact Or.inl (by rw [q1, hcab])
        · exact Or.inr (Or.inl ⟨by rw [q1, u1], by rw [hcab, u2]⟩)
        · exact Or.inr (Or.inr ⟨by rw [q1, u2], by rw [hcab, u1]⟩)
        · exact Or.inl (by rw [q1, hcab])
        · exact Or.inl (by rw [q1, hcab])
        · exact Or.inr (Or.inr ⟨by rw [q1, u1], by rw [hcab, u2]⟩)
        · exact Or.inr (Or.inl ⟨by rw [q1, u2], by rw [hcab, u1]⟩)
        · exact Or.inl (by rw [q1, hcab])
      have pla : ∃ c, c < n0 ∧ G.1 c = a := by
        rcases hab with ⟨u1, u2⟩ | ⟨u1, u2⟩
        · exact ⟨a0, pa, u1⟩
        · exact ⟨b0, pb, u1⟩
      have plb : ∃ c, c < n0 ∧ G.1 c = b := by
        rcases hab with ⟨u1, u2⟩ | ⟨u1, u2⟩
        · exact ⟨b0, pb, u2⟩
        · exact ⟨a0, pa, u2⟩
      rcases q2 with q2 | q2
      · obtain ⟨c, c1, c2⟩ := pla
        exact key c c1 (Or.inl c2) (by rw [c2]; exact q2)
      · obtain ⟨c, c1, c2⟩ := plb
        exact key c c1 (Or.inr c2) (by rw [c2]; exact q2)
  · obtain ⟨p, p1, p2⟩ := l3 z hz
    refine ⟨p, p1, ?_⟩
    show (if G.1 p = a then b else G.1 p) = if G.1 z = a then b else G.1 z
    rw [p2]
  · have : z ≠ b := by
      intro q
      apply hnb
      have := JI_belb2 hJ hab (by rw [← q]; exact hz)
      rw [q]; exact this
    rw [show fup fl b b' z = fl z from if_neg this]
    exact l4 z hz rz hnb
  · intro ht
    rcases List.mem_append.mp m with m | m
    · exact l5 t m ht
    · have : t = b := by simpa using m
      rw [this]; exact JI_belb2 hJ hab (by rw [← this]; exact ht)
/-- rows behind a link -/
theorem HM_link (h : HM adm B T ν H G n m fl sp lb W E) (ha : a < n) (hb : b < n) (ra : G.1 a = a) (rb : G.1 b = b) (hne : a ≠ b) (hag : hAg T [1216] [1, 3, 5] H H') (e1 : ∀ z : Nat, z < n → hfl T H' z = if z = b then (yfb b' : Int) else hfl T H z) (e3 : ∀ z : Nat, z < n → hti T H' z = if z = a then (b : Int) else hti T H z) (e5 : ∀ k : Int, yA H' (T 5) k = if k = (E.length : Int) then (b : Int) else yA H (T 5) k) (e16 : hin T H' 1216 = (E.length : Int) + 1) (ob : yfOK b') (hN : HNode T ν H lb N b' (sp b).1 (sp b).2 b) (hN1 : N.1 = ((G.2 a).1 || (G.2 b).1)) : HM adm B T ν H' (tlink G a b N) n m (fup fl b b') sp lb W (E ++ [b]) := by
  obtain ⟨hT, hG, ⟨w1, w2⟩, ⟨q1, q2, q3⟩, hJE⟩ := h
  refine ⟨HtA_ag hT hag, HG_link hT hG ha hb ra rb hne hag (by decide) (by decide) e1 e3 ob hN, ⟨hWs_a (hAg_a hT (by decide) (by decide) (by decide) hag) w1, by rw [hAg_f (by decide) hag]; exact w2⟩, ⟨hEs_app q1 (fun k hk => by rw [e5, if_neg (by omega)]) (by rw [e5, if_pos rfl]), by rw [e16, List.length_append, List.length_singleton]; omega, fun t mt => ?_⟩, hJE_link hJE hb rb hne hN1 (fun t mt => List.mem_append_left _ mt) (by simp)⟩
  rcases List.mem_append.mp mt with mt | mt
  · exact q3 t mt
  · have : t = b := by simpa using mt
    rw [this]; exact hb
end HTell
