set_option maxRecDepth 100000
/-! THE REFERENCE'S TYPES: isEndless -/
/-- what walks leave alone -/
def ZWk (S S' : ZS) : Prop := zAg [68] [25, 27, 28, 40, 41] S S' ∧ ∀ z : Nat, zyk S z ≠ 4 → zyc S' z = zyc S z
def zRg (S : ZS) (μ : Zmp) (G : TG) (n : Nat) (fl : Nat → List Nat) (B : Nat → Zfl) (R : Nat → Prop) (st : Int) (x : Nat) (K : List (Nat × List Nat)) (Bk : Nat → Prop) (rk : Nat → Nat) (c : Nat) : Prop := ZG S μ G n fl B R ∧ zSk S K ∧ tStk S G n fl Bk x none K ∧ tBk G n Bk rk c ∧ S.1 68 = st ∧ (∀ z : Nat, z < n → (zymk S z = st ↔ z ∈ K.map Prod.fst) ∧ (zymk S z = st + 1 ↔ Bk z)) ∧ (∀ z : Int, 0 ≤ z → z < 57000 → zymk S z ≤ st + 1) ∧ (Bk x ∨ tlf G x ∨ x ∈ K.map Prod.fst)
section ZRing2
variable {adm : Nat → Bool} {d : Nat} {S S1 S' S0 : ZS} {μ : Zmp} {G G' G0 : TG} {n n' m x y z a b : Nat} {fl fl' : Nat → List Nat} {B B' : Nat → Zfl} {F : List Nat} {N : TN} {Q : Option (Option ZV) → ZS → Prop} {i v w f l t st : Int} {R R' : Nat → Prop} {W : TW} {E : List Nat} {K : List (Nat × List Nat)} {Bk Bk' : Nat → Prop} {rk : Nat → Nat} {up : Option Nat} {c : Nat}
theorem nd_of_map {α : Type} {g : Nat → α} : ∀ {F : List Nat}, (F.map g).Nodup → F.Nodup
  | [], _ => List.nodup_nil
  | f :: F, h => by
    rw [List.map_cons, List.nodup_cons] at h
    exact List.nodup_cons.mpr ⟨fun q => h.1 (List.mem_map.mpr ⟨f, q, rfl⟩), nd_of_map h.2⟩
theorem ZG_nd (h : ZG S μ G n fl B R) (hx : x < n) (hr : G.1 x = x) : (fl x).Nodup := by
  rcases h.2.2.2.2.1 x hx hr with ⟨_, _, q⟩ | ⟨_, _, q⟩ | ⟨_, _, _, _, q⟩ | ⟨_, _, _, _, q, _⟩
  · rw [q]; exact List.nodup_nil
  · rw [q]; exact List.nodup_nil
  · refine nd_of_map (g := zfl S ∘ Nat.cast) ?_
    rw [q]
    have nd : ∀ l : List Nat, l.Nodup → (l.map (Nat.cast : Nat → Int)).Nodup := by
      intro l
      induction l with
      | nil => exact fun _ => List.nodup_nil
      | cons a l ih =>
        intro h
        rw [List.nodup_cons] at h
        rw [List.map_cons, List.nodup_cons]
        refine ⟨fun q => ?_, ih h.2⟩
        obtain ⟨b, m, e⟩ := List.mem_map.mp q
        have : b = a := by omega
        exact h.1 (by rw [← this]; exact m)
    exact nd _ List.nodup_range
  · exact zsrt_nd q
theorem ZWk_refl : ZWk S S := ⟨zAg_refl, fun _ _ => rfl⟩
theorem ZWk_k (h : ZWk S S') : zyk S' = zyk S := h.1.2.2.1 23 (by decide)
theorem ZWk_trans {S'' : ZS} (h : ZWk S S') (h' : ZWk S' S'') : ZWk S S'' := ⟨zAg_trans h.1 h'.1, fun z hz => by rw [h'.2 z (by rw [ZWk_k h]; exact hz), h.2 z hz]⟩
theorem ZWk_lk (h : ZLk S S') : ZWk S S' := ⟨zAg_mono h.1 (by decide) (by decide), h.2⟩
theorem ZWk_ag {F A : List Nat} (h : zAg F A S S') (hF : ∀ f ∈ F, f ∈ [68]) (hA : ∀ j ∈ A, j ∈ [27, 28, 40, 41]) : ZWk S S' := ⟨zAg_mono h hF (fun j hj => by have := hA j hj; simp at this ⊢; omega), fun z _ => by
  show S'.2.2.1 25 _ = _
  rw [h.2.2.1 25 (fun q => by have := hA 25 q; simp at this)]⟩
theorem zSk_ag {F A : List Nat} (h : zAg F A S S') (h67 : 67 ∉ F) (hA : 30 ∉ A ∧ 31 ∉ A ∧ 40 ∉ A ∧ 41 ∉ A) (hs : zSk S K) : zSk S' K := zSk_eq (fun i _ => by rw [h.2.2.1 40 hA.2.2.1, h.2.2.1 41 hA.2.2.2]; exact ⟨rfl, rfl⟩) (h.1 67 h67) (h.2.2.1 30 hA.1) (h.2.2.1 31 hA.2.1) hs
theorem tStk_ft (h : S'.2.2.1 30 = S.2.2.1 30) : ∀ {K : List (Nat × List Nat)} {up : Option Nat}, tStk S G n fl Bk x up K → tStk S' G n fl Bk x up K
  | [], _, _ => trivial
  | q :: K, up, hs => by
    obtain ⟨h1, ⟨D, d1, d2⟩, h3, h4⟩ := hs
    refine ⟨h1, ⟨D, d1, fun f hf => ?_⟩, ?_, tStk_ft h h4⟩
    · show Bk (G.1 (S'.2.2.1 30 f).toNat) ∨ tlf G (G.1 (S'.2.2.1 30 f).toNat) ∨ up = some (G.1 (S'.2.2.1 30 f).toNat)
      rw [h]; exact d2 f hf
    · cases K with
      | nil => exact h3
      | cons q' K =>
        obtain ⟨f, f1, f2⟩ := h3
        refine ⟨f, f1, ?_⟩
        show G.1 (S'.2.2.1 30 (f : Int)).toNat = _
        rw [h]; exact f2
/-- more is through -/
theorem tStk_bk (hb : ∀ z, Bk z → Bk' z) : ∀ {K : List (Nat × List Nat)} {up : Option Nat}, (∀ z ∈ K.map Prod.fst, ¬ Bk' z) → tStk S G n fl Bk x up K → tStk S G n fl Bk' x up K
  | [], _, _, _ => trivial
  | q :: K, up, hn, hs => by
    obtain ⟨⟨h1, h2, h3, h4⟩, ⟨D, d1, d2⟩, h5, h6⟩ := hs
    exact ⟨⟨h1, h2, hn _ (List.mem_cons_self ..), h4⟩, ⟨D, d1, fun f hf => (d2 f hf).imp (hb _) (fun q => q)⟩, h5, tStk_bk hb (fun z hz => hn z (List.mem_cons_of_mem _ hz)) h6⟩
theorem tStk_up {z : Nat} (hz : Bk z) : ∀ {K : List (Nat × List Nat)}, tStk S G n fl Bk x (some z) K → tStk S G n fl Bk x none K
  | [], _ => trivial
  | q :: K, hs => by
    obtain ⟨h1, ⟨D, d1, d2⟩, h5, h6⟩ := hs
    refine ⟨h1, ⟨D, d1, fun f hf => ?_⟩, h5, h6⟩
    rcases d2 f hf with q | q | q
    · exact Or.inl q
    · exact Or.inr (Or.inl q)
    · left
      have : z = G.1 (zft S f).toNat := Option.some.inj q
      rw [← this]; exact hz
/-- how much is left -/
noncomputable def zms (n : Nat) (K : List (Nat × List Nat)) (Bk : Nat → Prop) : Nat := 110000 * cnt (fun z => z ∉ K.map Prod.fst ∧ ¬ Bk z) n + zsz K
theorem tStk_lt : ∀ {K : List (Nat × List Nat)} {up : Option Nat}, tStk S G n fl Bk x up K → (∀ z ∈ K.map Prod.fst, z < n ∧ G.1 z = z ∧ ¬ Bk z) ∧ (K.map Prod.fst).Nodup
  | [], _, _ => ⟨fun z m => absurd m (List.not_mem_nil), List.nodup_nil⟩
  | q :: K, up, hs => by
    obtain ⟨⟨h1, h2, h3, h4⟩, _, _, h6⟩ := hs
    obtain ⟨r1, r2⟩ := tStk_lt h6
    refine ⟨fun z m => ?_, List.nodup_cons.mpr ⟨h4, r2⟩⟩
    rcases List.mem_cons.mp m with e | m
    · rw [e]; exact ⟨h1, h2, h3⟩
    · exact r1 z m
theorem tStk_len (hs : tStk S G n fl Bk x up K) : K.length ≤ n := by
  obtain ⟨r1, r2⟩ := tStk_lt hs
  have := sub_len (K.map Prod.fst) (List.range n) r2 (fun g hg => by rw [List.mem_range]; exact (r1 g hg).1)
  rwa [List.length_map, List.length_range] at this
theorem z_endless_loop (hw : tWF G n) (hst : st ≤ 2000000000 ∧ 0 ≤ st) : ∀ (N : Nat) (K : List (Nat × List Nat)) (S : ZS) (Bk : Nat → Prop) (rk : Nat → Nat) (c : Nat), zms n K Bk ≤ N → zRg S μ G n fl B R st x K Bk rk c → zW (ZL (d + 1) 629 [.inl (K.length : Int)] S) (oI (fun r S' => ZWk S S' ∧ ZG S' μ G n fl B R ∧ S'.1 68 = st ∧ (∀ z : Int, 0 ≤ z → z < 57000 → zymk S' z ≤ st + 1) ∧ ((r = 1 ∧ ∀ w, ¬ (tSol tT G n w ∧ tFin (w x))) ∨ (r = 0 ∧ ∃ Bk rk c, tBk G n Bk rk c ∧ (Bk x ∨ tlf G x)))) (fun _ => False)) := by
  intro N
  induction N with
  | zero =>
    intro K S Bk rk c hN h
    obtain ⟨hG, hs, hk, hb, h68, hm, hm2, hx⟩ := h
    cases K with
    | nil =>
      refine zl_isEndless_p67 ?_
      unfold zb_isEndless_p67
      refine zW_t (Int.le_refl _) (zW_rZ (Or.inl rfl) ⟨ZWk_refl, hG, h68, hm2, Or.inr ⟨rfl, Bk, rk, c, hb, ?_⟩⟩)
      rcases hx with q | q | q
      · exact Or.inl q
      · exact Or.inr q
      · exact absurd q (List.not_mem_nil)
    | cons q K =>
      unfold zms zsz at hN; omega
  | succ N ih =>
    intro K S Bk rk c hN h
    have h' := h
    obtain ⟨hG, hs, hk, hb, h68, hm, hm2, hx⟩ := h
    obtain ⟨hn66, ⟨hn, hn2, hn3⟩, _⟩ := hG
    have hG := h'.1
    cases K with
    | nil =>
      refine zl_isEndless_p67 ?_
      unfold zb_isEndless_p67
      refine zW_t (Int.le_refl _) (zW_rZ (Or.inl rfl) ⟨ZWk_refl, hG, h68, hm2, Or.inr ⟨rfl, Bk, rk, c, hb, ?_⟩⟩)
      rcases hx with q | q | q
      · exact Or.inl q
      · exact Or.inr q
      · exact absurd q (List.not_mem_nil)
    | cons q K =>
      obtain ⟨z, F⟩ := q
      have hlen := tStk_len hk
      rw [List.length_cons] at hlen
      obtain ⟨s40, s41, sK⟩ := hs
      obtain ⟨⟨k1, k2, k3, k4⟩, ⟨D, d1, d2⟩, k5, k6⟩ := hk
      have s40 : S.2.2.1 40 (K.length : Int) = (z : Int) := s40
      have k1 : z < n := k1
      have k2 : G.1 z = z := k2
      have k3 : ¬ Bk z := k3
      have k4 : z ∉ K.map Prod.fst := k4
      have d1 : fl z = D ++ F := d1
      have e1 : ((((z, F) :: K).length : Nat) : Int) = (K.length : Int) + 1 := by rw [List.length_cons]; omega
      have hk0 := h'.2.2.1
      rw [e1]
      refine zl_isEndless_p67 ?_
      unfold zb_isEndless_p67
      refine zW_f (by omega) ?_
      rw [show (K.length : Int) + 1 - 1 = (K.length : Int) by omega, show (K.length : Int) + 1 + -1 = (K.length : Int) by omega]
      refine zW_a (by omega) (zW_let ?_)
      cases F with
      | nil =>
        have s41 : S.2.2.1 41 (K.length : Int) = -1 := s41
        rw [s41]
        refine zW_t rfl (zW_G (by omega) (zW_let (zW_a (by omega) ?_)))
        rw [s40, h68]
        refine zW_G (by omega) (zW_st (by omega) ?_)
        -- z is through
        have ag : zAg [] [27] S (zset S 27 z (st + 1)) := zAg_set (by decide) zAg_refl
        have km := fun (y : Nat) => (show zymk (zset S 27 z (st + 1)) y = if y = z then st + 1 else zymk S y from by
          show (if 27 = 27 ∧ (y : Int) = (z : Int) then st + 1 else zymk S y) = _
          by_cases q : y = z
          · rw [if_pos q, if_pos ⟨rfl, by omega⟩]
          · rw [if_neg q, if_neg (fun w => q (by omega))])
        obtain ⟨r1, r2⟩ := tStk_lt hk0
        have hR : zRg (zset S 27 z (st + 1)) μ G n fl B R st x K (fun y => Bk y ∨ y = z) (fup rk z c) (c + 1) := by
          refine ⟨ZG_ag hG ag (by decide) (by decide), zSk_ag ag (by decide) (by decide) sK, tStk_ft (S := S) (S' := zset S 27 (z : Int) (st + 1)) (Bk := fun y => Bk y ∨ y = z) rfl (tStk_up (z := z) (Or.inr rfl) (tStk_bk (Bk := Bk) (fun _ q => Or.inl q) (fun y hy => ?_) k6)), fun y hy => ?_, h68, fun y hy => ⟨?_, ?_⟩, fun y hy hy2 => ?_, ?_⟩
          · rintro (q | q)
            · exact (r1 y (List.mem_cons_of_mem _ hy)).2.2 q
            · exact k4 (by rw [← q]; exact hy)
          · by_cases q : y = z
            · subst q
              refine ⟨⟨k1, k2, by show (if y = y then c else rk y) < c + 1; rw [if_pos rfl]; omega⟩, fun l dd m => ?_⟩
              obtain ⟨f, f1, f2⟩ := ZG_kid hG k1 k2 m
              rw [d1, List.append_nil] at f1
              rw [f2]
              rcases d2 f f1 with w | w | w
              · left
                refine ⟨Or.inl w, ?_⟩
                have := (hb _ w).1.2.2
                show (if G.1 (zft S f).toNat = y then c else rk _) < (if y = y then c else rk y)
                rw [if_pos rfl, if_neg (fun q => k3 (by rw [← q]; exact w))]; exact this
              · exact Or.inr w
              · cases w
            · have hy' : Bk y := hy.resolve_right q
              obtain ⟨⟨q1, q2, q3⟩, q4⟩ := hb y hy'
              refine ⟨⟨q1, q2, by show (if y = z then c else rk y) < c + 1; rw [if_neg q]; omega⟩, fun l dd m => ?_⟩
              rcases q4 l dd m with ⟨w1, w2⟩ | w
              · left
                refine ⟨Or.inl w1, ?_⟩
                show (if G.1 dd = z then c else rk _) < (if y = z then c else rk y)
                rw [if_neg q, if_neg (fun q => k3 (by rw [← q]; exact w1))]; exact w2
              · exact Or.inr w
          · rw [km y]
            by_cases q : y = z
            · rw [if_pos q]
              constructor
              · intro w; omega
              · intro w; rw [q] at w; exact absurd w k4
            · rw [if_neg q, (hm y hy).1]
              show y ∈ z :: K.map Prod.fst ↔ _
              rw [List.mem_cons]
              exact ⟨fun w => w.resolve_left q, Or.inr⟩
          · rw [km y]
            by_cases q : y = z
            · rw [if_pos q]; exact ⟨fun _ => Or.inr q, fun _ => rfl⟩
            · rw [if_neg q, (hm y hy).2]
              exact ⟨Or.inl, fun w => w.resolve_right q⟩
          · show (if 27 = 27 ∧ y = (z : Int) then st + 1 else zymk S y) ≤ st + 1
            split
            · omega
            · exact hm2 y hy hy2
          · rcases hx with q | q | q
            · exact Or.inl (Or.inl q)
            · exact Or.inr (Or.inl q)
            · rcases List.mem_cons.mp q with q | q
              · exact Or.inl (Or.inr q)
              · exact Or.inr (Or.inr q)
        have hms : zms n K (fun y => Bk y ∨ y = z) ≤ N := by
          unfold zms at hN ⊢
          have e2 : zsz ((z, []) :: K) = 0 + 1 + zsz K := rfl
          have := cnt_le (n := n) (P := fun y => y ∉ K.map Prod.fst ∧ ¬ (Bk y ∨ y = z)) (Q := fun y => y ∉ ((z, ([] : List Nat)) :: K).map Prod.fst ∧ ¬ Bk y) (fun y _ ⟨h1, h2⟩ => ⟨fun q => by
            rcases List.mem_cons.mp q with q | q
            · exact h2 (Or.inr q)
            · exact h1 q, fun q => h2 (Or.inl q)⟩)
          show 110000 * cnt (fun y => y ∉ K.map Prod.fst ∧ ¬ (Bk y ∨ y = z)) n + zsz K ≤ N
          omega
        refine zW_mono (ih K _ _ _ _ hms hR) (fun o S' hq => ?_)
        rcases o with _ | _ | r | r | r
        · exact hq
        · exact hq
        · exact ⟨ZWk_trans (ZWk_ag ag (by decide) (by decide)) hq.1, hq.2⟩
        · exact hq
        · exact hq
      | cons f F =>
        obtain ⟨f1, f2, f3, f4⟩ := s41
        have f1 : S.2.2.1 41 (K.length : Int) = (f : Int) := f1
        rw [f1]
        refine zW_f (by omega) (zW_a (by omega) (zW_st (by omega) ?_))
        have fm : f ∈ fl z := by rw [d1]; exact List.mem_append_right _ (List.mem_cons_self ..)
        obtain ⟨⟨l, ml⟩, hk1, hk2⟩ := ZG_fld hG hw k1 k2 fm
        have ag1 : zAg [] [41] S (zset S 41 (K.length : Int) (S.2.2.1 31 (f : Int))) := zAg_set (by decide) zAg_refl
        have hG1 := ZG_ag hG ag1 (by decide) (by decide)
        refine zW_a (by omega) ?_
        rw [show (zset S 41 (K.length : Int) (S.2.2.1 31 (f : Int))).2.2.1 30 (f : Int) = ((zft S f).toNat : Int) by
          show zft S f = _; omega]
        obtain ⟨S2, g1, g2, g3⟩ := z_find (d := d) hG1 hk1
        refine zW_Ie (zc_s.trans g1) (zW_let ?_)
        generalize ht : G.1 (zft S f).toNat = tt at g1
        have ht1 := hw.1 _ hk1
        rw [ht] at ht1
        -- what is there by now
        have a40 : S2.2.2.1 40 = S.2.2.1 40 := (g2.1.2.2.1 40 (by decide)).trans (ag1.2.2.1 40 (by decide))
        have a41 : S2.2.2.1 41 = fun i => if i = (K.length : Int) then zfn S f else S.2.2.1 41 i := by
          rw [g2.1.2.2.1 41 (by decide)]
          funext i
          show (if 41 = 41 ∧ i = (K.length : Int) then _ else S.2.2.1 41 i) = _
          by_cases q : i = (K.length : Int)
          · rw [if_pos ⟨rfl, q⟩, if_pos q]
          · rw [if_neg (fun w => q w.2), if_neg q]
        have a30 : S2.2.2.1 30 = S.2.2.1 30 := (g2.1.2.2.1 30 (by decide)).trans (ag1.2.2.1 30 (by decide))
        have a31 : S2.2.2.1 31 = S.2.2.1 31 := (g2.1.2.2.1 31 (by decide)).trans (ag1.2.2.1 31 (by decide))
        have a27 : S2.2.2.1 27 = S.2.2.1 27 := (g2.1.2.2.1 27 (by decide)).trans (ag1.2.2.1 27 (by decide))
        have a67 : S2.1 67 = S.1 67 := (g2.1.1 67 (by decide)).trans (ag1.1 67 (by decide))
        have a68 : S2.1 68 = st := ((g2.1.1 68 (by decide)).trans (ag1.1 68 (by decide))).trans h68
        have wk : ZWk S S2 := ZWk_trans (ZWk_ag ag1 (by decide) (by decide)) (ZWk_lk g2)
        have sK2 : zSk S2 ((z, F) :: K) := by
          refine ⟨by rw [a40]; exact s40, ?_, zSk_eq (fun i hi => ?_) a67 a30 a31 sK⟩
          · rw [a41]
            show ZCh S2 F (if (K.length : Int) = (K.length : Int) then zfn S f else _)
            rw [if_pos rfl]
            exact ZCh_eq (by rw [a67]; exact Int.le_refl _) (fun f _ => ⟨by show S2.2.2.1 30 _ = _; rw [a30], by show S2.2.2.1 31 _ = _; rw [a31]⟩) f4
          · rw [a40, a41]
            exact ⟨rfl, if_neg (by omega)⟩
        have fin : ∀ (h3 : Bk tt ∨ tlf G tt), zW (ZL (d + 1) 629 [.inl ((K.length : Int) + 1)] S2) (oI (fun r S' => ZWk S S' ∧ ZG S' μ G n fl B R ∧ S'.1 68 = st ∧ (∀ z : Int, 0 ≤ z → z < 57000 → zymk S' z ≤ st + 1) ∧ ((r = 1 ∧ ∀ w, ¬ (tSol tT G n w ∧ tFin (w x))) ∨ (r = 0 ∧ ∃ Bk rk c, tBk G n Bk rk c ∧ (Bk x ∨ tlf G x)))) (fun _ => False)) := by
          intro h3
          have hR : zRg S2 μ G n fl B R st x ((z, F) :: K) Bk rk c := by
            refine ⟨g3, sK2, tStk_ft a30 ⟨⟨k1, k2, k3, k4⟩, ⟨D ++ [f], by rw [d1]; simp, fun g hg => ?_⟩, k5, k6⟩, hb, a68, fun y hy => ?_, fun y hy hy2 => ?_, hx⟩
            · rcases List.mem_append.mp hg with q | q
              · exact d2 g q
              · have : g = f := by simpa using q
                rw [this, ht]
                exact h3.imp (fun q => q) Or.inl
            · show (S2.2.2.1 27 (y : Int) = st ↔ _) ∧ (S2.2.2.1 27 (y : Int) = st + 1 ↔ _)
              rw [a27]; exact hm y hy
            · show S2.2.2.1 27 y ≤ _
              rw [a27]; exact hm2 y hy hy2
          have hms : zms n ((z, F) :: K) Bk ≤ N := by
            unfold zms at hN ⊢
            have e2 : zsz ((z, f :: F) :: K) = F.length + 1 + 1 + zsz K := rfl
            have e3 : zsz ((z, F) :: K) = F.length + 1 + zsz K := rfl
            have e4 : ((z, f :: F) :: K).map Prod.fst = ((z, F) :: K).map Prod.fst := rfl
            rw [e4] at hN
            omega
          have := ih ((z, F) :: K) S2 Bk rk c hms hR
          rw [show ((((z, F) :: K).length : Nat) : Int) = (K.length : Int) + 1 by rw [List.length_cons]; omega] at this
          refine zW_mono this (fun o S' hq => ?_)
          rcases o with _ | _ | r | r | r
          · exact hq
          · exact hq
          · exact ⟨ZWk_trans wk hq.1, hq.2⟩
          · exact hq
          · exact hq
        have mt := hm tt ht1.1
        have m2 : S2.2.2.1 27 (tt : Int) = zymk S tt := by rw [a27]
        refine zW_a (by omega) ?_
        rw [m2, a68]
        refine zW_if (fun e => ?_) (fun e => ?_)
        · -- a ring
          refine zW_rZ (Or.inr rfl) ⟨wk, g3, a68, fun y hy hy2 => by show S2.2.2.1 27 y ≤ _; rw [a27]; exact hm2 y hy hy2, Or.inl ⟨rfl, ?_⟩⟩
          have hin := mt.1.mp e
          obtain ⟨p, hp⟩ := tStk_path hG hw hk0 tt hin
          obtain ⟨px, hpx⟩ := tStk_path hG hw hk0 x (tStk_bot hk0)
          rcases hg : G.2 z with ⟨e0, o | ⟨lab, loose, kids⟩⟩
          · rw [hg] at ml; exact absurd ml (List.not_mem_nil)
          · rw [hg] at ml
            have xl : x < n := ((tStk_lt hk0).1 x (tStk_bot hk0)).1
            have r1 := tPl_snoc hw p tt z ht1.1 hp _ _ _ _ hg l _ ml
            have r2 := tPl_snoc hw px x z xl hpx _ _ _ _ hg l _ ml
            rw [ht] at r1 r2
            exact fun w => tRing_no hw xl r2 r1 (by simp)
        · refine zW_a (by omega) ?_
          rw [m2]
          refine zW_G (by omega) (zW_if (fun e2 => fin (Or.inl (mt.2.mp e2))) (fun e2 => ?_))
          have k23 : zyk S2 tt = zyk S tt := congrFun (ZWk_k wk) _
          have push : zyk S tt = 2 ∨ zyk S tt = 3 → zW (ZL (d + 1) 726 [.inl ((K.length : Int) + 1), .inl (tt : Int)] S2) (oI (fun r S' => ZWk S S' ∧ ZG S' μ G n fl B R ∧ S'.1 68 = st ∧ (∀ z : Int, 0 ≤ z → z < 57000 → zymk S' z ≤ st + 1) ∧ ((r = 1 ∧ ∀ w, ¬ (tSol tT G n w ∧ tFin (w x))) ∨ (r = 0 ∧ ∃ Bk rk c, tBk G n Bk rk c ∧ (Bk x ∨ tlf G x)))) (fun _ => False)) := by
            intro hkd
            have nin : tt ∉ ((z, F) :: K).map Prod.fst := fun q => e (mt.1.mpr q)
            have nbk : ¬ Bk tt := fun q => e2 (mt.2.mpr q)
            have l2 : K.length + 2 ≤ n := by
              obtain ⟨r1, r2⟩ := tStk_lt hk0
              have := sub_len (tt :: ((z, F) :: K).map Prod.fst) (List.range n) (List.nodup_cons.mpr ⟨nin, r2⟩) (fun g hg => by
                rw [List.mem_range]
                rcases List.mem_cons.mp hg with q | q
                · rw [q]; exact ht1.1
                · exact (r1 g q).1)
              rw [List.length_cons, List.length_map, List.length_cons, List.length_range] at this
              omega
            refine zl_isEndless_p191 ?_
            unfold zb_isEndless_p191
            rw [a68]
            refine zW_st (by omega) (zW_st (by omega) (zW_a (by omega) (zW_st (by omega) (zW_G (by omega) (zW_let ?_)))))
            generalize hS4 : zset (zset (zset S2 27 (tt : Int) st) 40 ((K.length : Int) + 1) (tt : Int)) 41 ((K.length : Int) + 1) ((zset (zset S2 27 (tt : Int) st) 40 ((K.length : Int) + 1) (tt : Int)).2.2.1 26 (tt : Int)) = S4
            have ag4 : zAg [] [27, 40, 41] S2 S4 := by rw [← hS4]; exact zAg_set (by decide) (zAg_set (by decide) (zAg_set (by decide) zAg_refl))
            have b40 : S4.2.2.1 40 = fun i => if i = (K.length : Int) + 1 then (tt : Int) else S2.2.2.1 40 i := by
              rw [← hS4]; funext i
              show (if 40 = 40 ∧ i = (K.length : Int) + 1 then (tt : Int) else S2.2.2.1 40 i) = _
              by_cases q : i = (K.length : Int) + 1
              · rw [if_pos ⟨rfl, q⟩, if_pos q]
              · rw [if_neg (fun w => q w.2), if_neg q]
            have b41 : S4.2.2.1 41 = fun i => if i = (K.length : Int) + 1 then zy1 S2 tt else S2.2.2.1 41 i := by
              rw [← hS4]; funext i
              show (if 41 = 41 ∧ i = (K.length : Int) + 1 then _ else S2.2.2.1 41 i) = _
              by_cases q : i = (K.length : Int) + 1
              · rw [if_pos ⟨rfl, q⟩, if_pos q]; rfl
              · rw [if_neg (fun w => q w.2), if_neg q]
            have b27 : ∀ y : Int, zymk S4 y = if y = (tt : Int) then st else zymk S y := by
              intro y
              rw [← hS4]
              show (if 27 = 27 ∧ y = (tt : Int) then st else S2.2.2.1 27 y) = _
              rw [a27]
              by_cases q : y = (tt : Int)
              · rw [if_pos ⟨rfl, q⟩, if_pos q]
              · rw [if_neg (fun w => q w.2), if_neg q]
            have hG4 := ZG_ag g3 ag4 (by decide) (by decide)
            have chT : ZCh S2 (fl tt) (zy1 S2 tt) := by
              rcases hkd with q | q
              · exact (ZG_2 g3 ht1.1 ht1.2 (by rw [k23]; exact q)).2.2.1
              · exact (ZG_3 g3 ht1.1 ht1.2 (by rw [k23]; exact q)).2.2.1
            have hR : zRg S4 μ G n fl B R st x ((tt, fl tt) :: (z, F) :: K) Bk rk c := by
              refine ⟨hG4, ⟨?_, ?_, zSk_eq (fun i hi => ?_) (ag4.1 67 (by decide)) (ag4.2.2.1 30 (by decide)) (ag4.2.2.1 31 (by decide)) sK2⟩, tStk_ft (S := S) ((ag4.2.2.1 30 (by decide)).trans a30) ⟨⟨ht1.1, ht1.2, nbk, nin⟩, ⟨[], rfl, fun g hg => absurd hg (List.not_mem_nil)⟩, ⟨f, fm, ht⟩, ⟨k1, k2, k3, k4⟩, ⟨D ++ [f], by rw [d1]; simp, fun g hg => ?_⟩, k5, k6⟩, hb, (ag4.1 68 (by decide)).trans a68, fun y hy => ⟨?_, ?_⟩, fun y hy hy2 => ?_, ?_⟩
              · rw [b40]
                show (if ((((z, F) :: K).length : Nat) : Int) = (K.length : Int) + 1 then (tt : Int) else _) = _
                rw [if_pos (by rw [List.length_cons]; omega)]
              · rw [b41]
                show ZCh S4 (fl tt) (if ((((z, F) :: K).length : Nat) : Int) = (K.length : Int) + 1 then zy1 S2 tt else _)
                rw [if_pos (by rw [List.length_cons]; omega)]
                exact ZCh_eq (by rw [ag4.1 67 (by decide)]; exact Int.le_refl _) (fun f _ => ⟨congrFun (ag4.2.2.1 30 (by decide)) _, congrFun (ag4.2.2.1 31 (by decide)) _⟩) chT
              · rw [List.length_cons] at hi
                rw [b40, b41]
                exact ⟨if_neg (by omega), if_neg (by omega)⟩
              · rcases List.mem_append.mp hg with q | q
                · rcases d2 g q with w | w | w
                  · exact Or.inl w
                  · exact Or.inr (Or.inl w)
                  · cases w
                · have : g = f := by simpa using q
                  rw [this, ht]
                  exact Or.inr (Or.inr rfl)
              · rw [b27 y]
                by_cases q : y = tt
                · rw [if_pos (by omega)]
                  exact ⟨fun _ => by rw [q]; exact List.mem_cons_self .., fun _ => rfl⟩
                · rw [if_neg (by omega), (hm y hy).1]
                  show y ∈ z :: K.map Prod.fst ↔ y ∈ tt :: z :: K.map Prod.fst
                  rw [List.mem_cons (a := y) (b := tt)]
                  exact ⟨Or.inr, fun w => w.resolve_left q⟩
              · rw [b27 y]
                by_cases q : y = tt
                · rw [if_pos (by omega)]
                  exact ⟨fun w => by omega, fun w => absurd (by rw [← q]; exact w) nbk⟩
                · rw [if_neg (by omega)]; exact (hm y hy).2
              · rw [b27 y]
                split
                · omega
                · exact hm2 y hy hy2
              · rcases hx with q | q | q
                · exact Or.inl q
                · exact Or.inr (Or.inl q)
                · exact Or.inr (Or.inr (List.mem_cons_of_mem _ q))
            have hms : zms n ((tt, fl tt) :: (z, F) :: K) Bk ≤ N := by
              have lf : (fl tt).length ≤ 106000 := by
                have := two_len (FA := fl tt) (FB := []) (m := 106000) (ZG_nd g3 ht1.1 ht1.2) List.nodup_nil (fun f m => List.not_mem_nil) (fun f m => by have := ZCh_lt chT f m; omega) (fun f m => absurd m (List.not_mem_nil))
                rw [List.length_nil] at this; omega
              unfold zms at hN ⊢
              have e2 : zsz ((z, f :: F) :: K) = F.length + 1 + 1 + zsz K := rfl
              have e3 : zsz ((tt, fl tt) :: (z, F) :: K) = (fl tt).length + 1 + (F.length + 1 + zsz K) := rfl
              have := cnt_lt (n := n) (x := tt) (P := fun y => y ∉ ((tt, fl tt) :: (z, F) :: K).map Prod.fst ∧ ¬ Bk y) (Q := fun y => y ∉ ((z, f :: F) :: K).map Prod.fst ∧ ¬ Bk y) (fun y _ ⟨h1, h2⟩ => ⟨fun q => h1 (List.mem_cons_of_mem _ q), h2⟩) ht1.1 (fun q => q.1 (List.mem_cons_self ..)) ⟨nin, nbk⟩
              omega
            have := ih _ S4 Bk rk c hms hR
            rw [show ((((tt, fl tt) :: (z, F) :: K).length : Nat) : Int) = (K.length : Int) + 1 + 1 by rw [List.length_cons, List.length_cons]; omega] at this
            refine zW_mono this (fun o S' hq => ?_)
            rcases o with _ | _ | r | r | r
            · exact hq
            · exact hq
            · exact ⟨ZWk_trans wk (ZWk_trans (ZWk_ag ag4 (by decide) (by decide)) hq.1), hq.2⟩
            · exact hq
            · exact hq
          refine zW_a (by omega) ?_
          rw [show S2.2.2.1 23 (tt : Int) = zyk S tt from k23]
          refine zW_if (fun e3 => push (Or.inl e3)) (fun e3 => zW_a (by omega) ?_)
          rw [show S2.2.2.1 23 (tt : Int) = zyk S tt from k23]
          refine zW_if (fun e4 => push (Or.inr e4)) (fun e4 => fin (Or.inr ?_))
          rcases ZG_kind hG ht1.1 ht1.2 with q | q | q | q
          · exact ⟨_, _, (ZG_0 hG ht1.1 ht1.2 q).1⟩
          · obtain ⟨i, g, _⟩ := ZG_1 hG ht1.1 ht1.2 q
            exact ⟨_, _, g⟩
          · exact absurd q e3
          · exact absurd q e4
end ZRing2
