set_option maxRecDepth 100000
/-! THE REFERENCE'S TYPES: how big a type is -/
/-- sizes: one, and those of the parts -/
def tSzs (G : TG) (n : Nat) (sz : Nat → Nat) : Prop := ∀ z, z < n → G.1 z = z → sz z = 1 + ((tkids (G.2 z)).map fun q => sz (G.1 q.2)).sum
def zSv (S0 : ZS) (μ : Zmp) (G : TG) (n : Nat) (fl : Nat → List Nat) (B : Nat → Zfl) (R : Nat → Prop) (st : Int) (x : Nat) (sz : Nat → Nat) (up : Option Nat) (S : ZS) (K : List (Nat × List Nat)) (Bk : Nat → Prop) : Prop :=
  (ZG S μ G n fl B R ∧ ZWk S0 S) ∧ (zSk S K ∧ tStc S0 G n fl Bk x up K) ∧
  (S.1 68 = st ∧ (∀ z : Nat, z < n → (zymk S z = st ↔ z ∈ K.map Prod.fst ∨ Bk z)) ∧ ∀ z : Int, 0 ≤ z → z < 57000 → zymk S z ≤ st + 1) ∧
  (∀ z : Nat, Bk z → S.2.2.1 28 (z : Int) = min 1000 (sz z : Int) ∧ z < n ∧ G.1 z = z) ∧ (Bk x ∨ x ∈ K.map Prod.fst ∨ up = some x)
section ZSize
variable {adm : Nat → Bool} {d : Nat} {S S1 S2 S' S0 : ZS} {μ : Zmp} {G G' G'' : TG} {n n' m x y z a b t : Nat} {fl fl' : Nat → List Nat} {B B' : Nat → Zfl} {F L : List Nat} {i v w st : Int} {R Bk Bk' : Nat → Prop} {sz : Nat → Nat} {K : List (Nat × List Nat)} {up : Option Nat} {Q : Option (Option ZV) → ZS → Prop}
theorem zSv_add (hA : ZG S2 μ G n fl B R ∧ ZWk S0 S2) (hB : zSk S2 K ∧ tStc S0 G n fl Bk x (some t) K) (ht : t ∉ K.map Prod.fst) (htn : t < n ∧ G.1 t = t)
    (hC : S2.1 68 = st ∧ (∀ z : Nat, z < n → (zymk S2 z = st ↔ z ∈ K.map Prod.fst ∨ Bk z ∨ z = t)) ∧ ∀ z : Int, 0 ≤ z → z < 57000 → zymk S2 z ≤ st + 1)
    (hD : ∀ z : Nat, Bk z → S2.2.2.1 28 (z : Int) = min 1000 (sz z : Int) ∧ z < n ∧ G.1 z = z) (h28t : S2.2.2.1 28 (t : Int) = min 1000 (sz t : Int)) (hF : Bk x ∨ x ∈ K.map Prod.fst ∨ t = x) : zSv S0 μ G n fl B R st x sz none S2 K (fun y => Bk y ∨ y = t) := by
  have stk := (tStk_lt (tStc_stk hB.2)).1
  refine ⟨hA, ⟨hB.1, tStc_up (t := t) (Or.inr rfl) (tStc_bk (Bk := Bk) (fun _ q => Or.inl q) (fun y hy => ?_) hB.2)⟩, hC, fun z hz => ?_, ?_⟩
  · rintro (q | q)
    · exact (stk y hy).2.2 q
    · exact ht (by rw [← q]; exact hy)
  · rcases hz with q | q
    · exact hD z q
    · rw [q]; exact ⟨h28t, htn⟩
  · rcases hF with q | q | q
    · exact Or.inl (Or.inl q)
    · exact Or.inr (Or.inl q)
    · exact Or.inl (Or.inr q.symm)
theorem z_enterSize (h0 : ZG S0 μ G n fl B R) (hsz : tSzs G n sz) (ht : t < n) (hr : G.1 t = t) (h : zSv S0 μ G n fl B R st x sz (some t) S K Bk) (hm : zymk S t ≠ st) (hrel : tRel S0 G fl x t K) : zW (ZL (d + 1) 185 [.inl (t : Int), .inl (K.length : Int)] S) (oI (fun v S' => ∃ K' Bk', v = (List.length (K' : List (Nat × List Nat)) : Int) ∧ zSv S0 μ G n fl B R st x sz none S' K' Bk' ∧ zms n K' Bk' < zms n K Bk) (fun _ => False)) := by
  obtain ⟨⟨hG, hq⟩, ⟨hsk, hst⟩, ⟨h68, hmk, hmb⟩, hD, hF⟩ := h
  obtain ⟨hn, hn2, hn3⟩ := hG.2.1
  have tn : t ∉ K.map Prod.fst ∧ ¬ Bk t := ⟨fun q => hm ((hmk t ht).mpr (Or.inl q)), fun q => hm ((hmk t ht).mpr (Or.inr q))⟩
  have kt : zyk S t = zyk S0 t := congrFun (ZWk_k hq) _
  have hxF : Bk x ∨ x ∈ K.map Prod.fst ∨ t = x := by
    rcases hF with q | q | q
    · exact Or.inl q
    · exact Or.inr (Or.inl q)
    · exact Or.inr (Or.inr (Option.some.inj q))
  have klen : K.length < n := by
    obtain ⟨r1, r2⟩ := tStk_lt (tStc_stk hst)
    have := sub_len (t :: K.map Prod.fst) (List.range n) (List.nodup_cons.mpr ⟨tn.1, r2⟩) (fun g hg => by
      rw [List.mem_range]
      rcases List.mem_cons.mp hg with q | q
      · rw [q]; exact ht
      · exact (r1 g q).1)
    rw [List.length_cons, List.length_map, List.length_range] at this
    omega
  generalize hS2 : zset (zset S 27 (t : Int) st) 28 (t : Int) 1 = S2
  have ag2 : zAg [] [27, 28] S S2 := by rw [← hS2]; exact zAg_set (by decide) (zAg_set (by decide) zAg_refl)
  have G2 := ZG_ag hG ag2 (by decide) (by decide)
  have q2 : ZWk S0 S2 := ZWk_trans hq (ZWk_ag ag2 (by decide) (by decide))
  have e1 : S2.1 = S.1 := funext fun f => ag2.1 f List.not_mem_nil
  have a27 : ∀ y : Int, zymk S2 y = if y = (t : Int) then st else zymk S y := by
    intro y
    rw [← hS2]
    show (if 27 = 28 ∧ y = (t : Int) then (1 : Int) else if 27 = 27 ∧ y = (t : Int) then st else zymk S y) = _
    rw [if_neg (fun q => by cases q.1)]
    by_cases q : y = (t : Int)
    · rw [if_pos ⟨rfl, q⟩, if_pos q]
    · rw [if_neg (fun w => q w.2), if_neg q]
  have a28 : ∀ y : Int, S2.2.2.1 28 y = if y = (t : Int) then 1 else S.2.2.1 28 y := by
    intro y
    rw [← hS2]
    show (if 28 = 28 ∧ y = (t : Int) then (1 : Int) else if 28 = 27 ∧ y = (t : Int) then st else S.2.2.1 28 y) = _
    by_cases q : y = (t : Int)
    · rw [if_pos ⟨rfl, q⟩, if_pos q]
    · rw [if_neg (fun w => q w.2), if_neg (fun w => q w.2), if_neg q]
  have sk2 : zSk S2 K := zSk_eq (fun i _ => by rw [ag2.2.2.1 40 (by decide), ag2.2.2.1 41 (by decide)]; exact ⟨rfl, rfl⟩) (by rw [e1]) (ag2.2.2.1 30 (by decide)) (ag2.2.2.1 31 (by decide)) hsk
  have mk2 : (∀ z : Nat, z < n → (zymk S2 z = st ↔ z ∈ K.map Prod.fst ∨ Bk z ∨ z = t)) ∧ ∀ z : Int, 0 ≤ z → z < 57000 → zymk S2 z ≤ st + 1 := by
    refine ⟨fun z hz => ?_, fun z h1 h2 => ?_⟩
    · rw [a27]
      by_cases q : z = t
      · rw [if_pos (by omega)]
        exact ⟨fun _ => Or.inr (Or.inr q), fun _ => rfl⟩
      · rw [if_neg (by omega), hmk z hz]
        exact ⟨fun w => w.imp (fun q => q) Or.inl, fun w => w.imp (fun q => q) (fun w => w.resolve_right q)⟩
    · rw [a27]
      split
      · omega
      · exact hmb z h1 h2
  have D2 : ∀ z : Nat, Bk z → S2.2.2.1 28 (z : Int) = min 1000 (sz z : Int) ∧ z < n ∧ G.1 z = z := by
    intro z hz
    have : z ≠ t := fun q => tn.2 (by rw [← q]; exact hz)
    rw [a28, if_neg (by omega)]
    exact hD z hz
  have ms1 : cnt (fun z => z ∉ K.map Prod.fst ∧ ¬ (Bk z ∨ z = t)) n < cnt (fun z => z ∉ K.map Prod.fst ∧ ¬ Bk z) n := cnt_lt (x := t) (fun z _ h => ⟨h.1, fun q => h.2 (Or.inl q)⟩) ht (fun h => h.2 (Or.inr rfl)) tn
  have k2 : ∀ y : Nat, S2.2.2.1 23 (y : Int) = zyk S y := fun y => congrFun (ag2.2.2.1 23 (by decide)) _
  refine zl_enterSize ?_
  unfold zb_enterSize
  rw [h68]
  refine zW_st (by omega) (zW_st (by omega) ?_)
  rw [hS2]
  have push : (zyk S0 t = 2 ∨ zyk S0 t = 3) → zW (ZL (d + 1) 470 [.inl (t : Int), .inl (K.length : Int)] S2) (oI (fun v S' => ∃ K' Bk', v = (List.length (K' : List (Nat × List Nat)) : Int) ∧ zSv S0 μ G n fl B R st x sz none S' K' Bk' ∧ zms n K' Bk' < zms n K Bk) (fun _ => False)) := by
    intro hkd
    have chT : ZCh S2 (fl t) (S2.2.2.1 26 (t : Int)) := by
      rcases hkd with w | w
      · exact (ZG_2 G2 ht hr (by rw [show zyk S2 t = zyk S t from k2 t, kt]; exact w)).2.2.1
      · exact (ZG_3 G2 ht hr (by rw [show zyk S2 t = zyk S t from k2 t, kt]; exact w)).2.2.1
    refine zl_enterSize_p39 ?_
    unfold zb_enterSize_p39
    refine zW_st (by omega) (zW_a (by omega) (zW_st (by omega) (zW_G (by omega) (zW_rI ?_))))
    generalize hS4 : zset (zset S2 40 (K.length : Int) (t : Int)) 41 (K.length : Int) ((zset S2 40 (K.length : Int) (t : Int)).2.2.1 26 (t : Int)) = S4
    have ag4 : zAg [] [40, 41] S2 S4 := by rw [← hS4]; exact zAg_set (by decide) (zAg_set (by decide) zAg_refl)
    have e4 : S4.1 = S2.1 := funext fun f => ag4.1 f List.not_mem_nil
    have b40 : ∀ i : Int, S4.2.2.1 40 i = if i = (K.length : Int) then (t : Int) else S2.2.2.1 40 i := by
      intro i
      rw [← hS4]
      show (if 40 = 41 ∧ i = (K.length : Int) then S2.2.2.1 26 (t : Int) else if 40 = 40 ∧ i = (K.length : Int) then (t : Int) else S2.2.2.1 40 i) = _
      rw [if_neg (fun q => by cases q.1)]
      by_cases q : i = (K.length : Int)
      · rw [if_pos ⟨rfl, q⟩, if_pos q]
      · rw [if_neg (fun w => q w.2), if_neg q]
    have b41 : ∀ i : Int, S4.2.2.1 41 i = if i = (K.length : Int) then S2.2.2.1 26 (t : Int) else S2.2.2.1 41 i := by
      intro i
      rw [← hS4]
      show (if 41 = 41 ∧ i = (K.length : Int) then S2.2.2.1 26 (t : Int) else if 41 = 40 ∧ i = (K.length : Int) then (t : Int) else S2.2.2.1 41 i) = _
      by_cases q : i = (K.length : Int)
      · rw [if_pos ⟨rfl, q⟩, if_pos q]
      · rw [if_neg (fun w => q w.2), if_neg (fun q => by cases q.1), if_neg q]
    have f30 := ag4.2.2.1 30 (by decide)
    have f31 := ag4.2.2.1 31 (by decide)
    have f27 : zymk S4 = zymk S2 := ag4.2.2.1 27 (by decide)
    refine ⟨(t, fl t) :: K, Bk, by rw [List.length_cons]; omega, ⟨⟨ZG_ag G2 ag4 (by decide) (by decide), ZWk_trans q2 (ZWk_ag ag4 (by decide) (by decide))⟩, ⟨⟨?_, ?_, zSk_eq (S := S2) (fun i hi => ?_) (by rw [e4]) f30 f31 sk2⟩, ⟨⟨⟨ht, hr, tn.2, tn.1⟩, hkd⟩, ⟨[], rfl, fun f m => absurd m List.not_mem_nil⟩, tRel_m (p := (t, fl t)) hrel, hst⟩⟩, ⟨by rw [e4, e1]; exact h68, fun z hz => ?_, fun z h1 h2 => ?_⟩, fun z hz => ?_, ?_⟩, ?_⟩
    · rw [b40, if_pos rfl]
    · rw [b41, if_pos rfl]
      exact ZCh_eq (by rw [e4]; exact Int.le_refl _) (fun f _ => ⟨congrFun f30 _, congrFun f31 _⟩) chT
    · rw [b40, b41, if_neg (by omega), if_neg (by omega)]
      exact ⟨rfl, rfl⟩
    · rw [f27, mk2.1 z hz]
      constructor
      · rintro (q | q | q)
        · exact Or.inl (List.mem_cons_of_mem _ q)
        · exact Or.inr q
        · rw [q]; exact Or.inl (List.mem_cons_self ..)
      · rintro (q | q)
        · rcases List.mem_cons.mp q with q | q
          · exact Or.inr (Or.inr q)
          · exact Or.inl q
        · exact Or.inr (Or.inl q)
    · rw [f27]; exact mk2.2 z h1 h2
    · rw [ag4.2.2.1 28 (by decide)]
      exact D2 z hz
    · rcases hxF with q | q | q
      · exact Or.inl q
      · exact Or.inr (Or.inl (List.mem_cons_of_mem _ q))
      · rw [← q]; exact Or.inr (Or.inl (List.mem_cons_self ..))
    · have := ZG_flen h0 ht hr
      have ms2 : cnt (fun z => z ∉ ((t, fl t) :: K).map Prod.fst ∧ ¬ Bk z) n < cnt (fun z => z ∉ K.map Prod.fst ∧ ¬ Bk z) n := cnt_lt (x := t) (fun z _ h => ⟨fun q => h.1 (List.mem_cons_of_mem _ q), h.2⟩) ht (fun h => h.1 (List.mem_cons_self ..)) tn
      show 110000 * cnt (fun z => z ∉ ((t, fl t) :: K).map Prod.fst ∧ ¬ Bk z) n + ((fl t).length + 1 + zsz K) < 110000 * cnt (fun z => z ∉ K.map Prod.fst ∧ ¬ Bk z) n + zsz K
      omega
  refine zW_a (by omega) ?_
  rw [k2, kt]
  refine zW_if (fun e => push (Or.inl e)) (fun e => zW_a (by omega) ?_)
  rw [k2, kt]
  refine zW_if (fun e' => push (Or.inr e')) (fun e' => zW_rI ?_)
  have nk : tkids (G.2 t) = [] := by
    rcases ZG_kind h0 ht hr with q | q | q | q
    · rw [(ZG_0 h0 ht hr q).1]; rfl
    · obtain ⟨i, g, _⟩ := ZG_1 h0 ht hr q
      rw [g]; rfl
    · exact absurd q e
    · exact absurd q e'
  have s1 : sz t = 1 := by rw [hsz t ht hr, nk]; rfl
  refine ⟨K, _, rfl, zSv_add ⟨G2, q2⟩ ⟨sk2, hst⟩ tn.1 ⟨ht, hr⟩ ⟨by rw [e1]; exact h68, mk2⟩ D2 (by rw [a28, if_pos rfl, s1]; rfl) hxF, ?_⟩
  show 110000 * cnt (fun z => z ∉ K.map Prod.fst ∧ ¬ (Bk z ∨ z = t)) n + zsz K < 110000 * cnt (fun z => z ∉ K.map Prod.fst ∧ ¬ Bk z) n + zsz K
  omega
/-- parts' sizes are summed up -/
theorem z_size_sum (hw : tWF G n) (hz : z < n) (hr : G.1 z = z) : ∀ (F D : List Nat) (acc : Nat) (x7 : Int) (S : ZS), ZG S μ G n fl B R → fl z = D ++ F → ZCh S F x7 → (∀ f ∈ F, S.2.2.1 28 (G.1 (zft S (f : Nat)).toNat : Nat) = min 1000 (sz (G.1 (zft S (f : Nat)).toNat) : Int)) → (∀ S', ZLk S S' → ZG S' μ G n fl B R → zW (ZL (d + 1) 641 [.inl (x : Int), .inl i, .inl (z : Int), .inl (min 1000 ((acc + (F.map fun (f : Nat) => sz (G.1 (zft S f).toNat)).sum : Nat) : Int)), .inl (-1)] S') Q) → zW (ZL (d + 1) 641 [.inl (x : Int), .inl i, .inl (z : Int), .inl (min 1000 (acc : Int)), .inl x7] S) Q := by
  intro F
  induction F with
  | nil =>
    intro D acc x7 S hG hf hc h28 nx
    have hc : x7 = -1 := hc
    rw [hc]
    exact nx S ZLk_refl hG
  | cons f F ih =>
    intro D acc x7 S hG hf hc h28 nx
    obtain ⟨c1, c2, c3, c4⟩ := hc
    have h67 := hG.2.1
    have fm : f ∈ fl z := by rw [hf]; exact List.mem_append_right _ (List.mem_cons_self ..)
    obtain ⟨_, hk1, hk2⟩ := ZG_fld hG hw hz hr fm
    have e28 := h28 f (List.mem_cons_self ..)
    obtain ⟨S2, g1, g2, g3⟩ := z_find (d := d) hG hk1
    have a : ∀ j, j ≠ 25 → S2.2.2.1 j = S.2.2.1 j := fun j hj => g2.1.2.2.1 j (by simp [hj])
    have e67 : S2.1 67 = S.1 67 := g2.1.1 67 (by decide)
    have hrt := hw.1 _ hk1
    have e30 : ∀ g : Nat, zft S2 (g : Nat) = zft S (g : Nat) := fun g => congrFun (a 30 (by decide)) _
    refine zl_sizeOf_p138 ?_
    unfold zb_sizeOf_p138
    rw [c1]
    refine zW_f (by omega) (zW_a (by omega) ?_)
    rw [show S.2.2.1 30 (f : Int) = ((zft S f).toNat : Int) by show zft S f = _; omega]
    refine zW_Ie (zc_s.trans g1) (zW_a (by omega) ?_)
    rw [a 28 (by decide), e28]
    refine zW_G (by omega) (zW_Ie (zc_s.trans z_min) (zW_let (zW_a (by omega) (zW_let ?_))))
    rw [a 31 (by decide), show min 1000 (min 1000 (acc : Int) + min 1000 (sz (G.1 (zft S f).toNat) : Int)) = min 1000 ((acc + sz (G.1 (zft S f).toNat) : Nat) : Int) by omega]
    refine ih (D ++ [f]) _ _ S2 g3 (by rw [hf, List.append_assoc]; rfl) ?_ (fun g hg => ?_) (fun S' l' g' => ?_)
    · exact ZCh_eq (by rw [e67]; exact Int.le_refl _) (fun g _ => ⟨congrFun (a 30 (by decide)) _, congrFun (a 31 (by decide)) _⟩) c4
    · rw [e30, a 28 (by decide)]
      exact h28 g (List.mem_cons_of_mem _ hg)
    · have := nx S' (ZLk_trans g2 l') g'
      rw [List.map_cons, List.sum_cons] at this
      rw [show (F.map fun (f : Nat) => sz (G.1 (zft S2 f).toNat)) = F.map fun (f : Nat) => sz (G.1 (zft S f).toNat) from List.map_congr_left fun g _ => by rw [e30], Nat.add_assoc]
      exact this
/-- the result: sizes up to a thousand -/
def zSo (S0 : ZS) (μ : Zmp) (G : TG) (n : Nat) (fl : Nat → List Nat) (B : Nat → Zfl) (R : Nat → Prop) (st : Int) (x : Nat) (sz : Nat → Nat) (v : Int) (S' : ZS) : Prop := v = min 1000 (sz x : Int) ∧ ZG S' μ G n fl B R ∧ ZWk S0 S' ∧ S'.1 68 = st ∧ ∀ z : Int, 0 ≤ z → z < 57000 → zymk S' z ≤ st + 1
theorem z_size_loop (h0 : ZG S0 μ G n fl B R) (hw : tWF G n) (hf : tFinS G n) (hsz : tSzs G n sz) : ∀ (M : Nat) (K : List (Nat × List Nat)) (S : ZS) (Bk : Nat → Prop), zms n K Bk ≤ M → zSv S0 μ G n fl B R st x sz none S K Bk → zW (ZL (d + 2) 469 [.inl (x : Int), .inl (K.length : Int)] S) (oI (zSo S0 μ G n fl B R st x sz) (fun _ => False)) := by
  have nil : ∀ (S : ZS) (Bk : Nat → Prop), zSv S0 μ G n fl B R st x sz none S [] Bk → zW (ZL (d + 2) 469 [.inl (x : Int), .inl 0] S) (oI (zSo S0 μ G n fl B R st x sz) (fun _ => False)) := by
    intro S Bk h
    have hx : Bk x := by
      rcases h.2.2.2.2 with q | q | q
      · exact q
      · exact absurd q List.not_mem_nil
      · cases q
    obtain ⟨e28, hx1, hx2⟩ := h.2.2.2.1 x hx
    have := h.1.1.2.1
    refine zl_sizeOf_p40 ?_
    unfold zb_sizeOf_p40
    refine zW_t (Int.le_refl _) (zW_a (by omega) ?_)
    rw [e28]
    exact zW_rI ⟨rfl, h.1.1, h.1.2, h.2.2.1.1, h.2.2.1.2.2⟩
  intro M
  induction M with
  | zero =>
    intro K S Bk hM h
    cases K with
    | nil => exact nil S Bk h
    | cons q K => unfold zms zsz at hM; omega
  | succ M ih =>
    intro K S Bk hM h
    cases K with
    | nil => exact nil S Bk h
    | cons q K =>
      obtain ⟨z, F⟩ := q
      have el : ((((z, F) :: K).length : Nat) : Int) = (K.length : Int) + 1 := by rw [List.length_cons]; omega
      rw [el]
      obtain ⟨⟨hG, hq⟩, ⟨hsk, hst⟩, ⟨h68, hmk, hmb⟩, hD, hF⟩ := h
      have hlen := tStk_len (tStc_stk hst)
      rw [List.length_cons] at hlen
      have hst' := hst
      obtain ⟨s40, s41, sK⟩ := hsk
      obtain ⟨⟨⟨z1, z2, z3, z4⟩, hkd⟩, ⟨D, d1, d2⟩, k5, k6⟩ := hst
      have s40 : S.2.2.1 40 (K.length : Int) = (z : Int) := s40
      have z1 : z < n := z1
      have z2 : G.1 z = z := z2
      have z4 : z ∉ K.map Prod.fst := z4
      have z3 : ¬ Bk z := z3
      have d1 : fl z = D ++ F := d1
      have hkd : zyk S0 z = 2 ∨ zyk S0 z = 3 := hkd
      obtain ⟨hn, hn2, hn3⟩ := hG.2.1
      have f30 : S.2.2.1 30 = S0.2.2.1 30 := hq.1.2.2.1 30 (by decide)
      have kz : zyk S z = zyk S0 z := congrFun (ZWk_k hq) _
      refine zl_sizeOf_p40 ?_
      unfold zb_sizeOf_p40
      refine zW_f (by omega) ?_
      rw [show (K.length : Int) + 1 - 1 = (K.length : Int) by omega, show (K.length : Int) + 1 + -1 = (K.length : Int) by omega]
      refine zW_a (by omega) (zW_let (zW_a (by omega) (zW_let ?_)))
      cases F with
      | nil =>
        have s41 : S.2.2.1 41 (K.length : Int) = -1 := s41
        have d1 : fl z = D := by rw [d1, List.append_nil]
        rw [s40, s41]
        refine zW_t rfl (zW_G (by omega) (zW_let (zW_let (zW_a (by omega) (zW_let ?_)))))
        have ch : ZCh S (fl z) (S.2.2.1 26 (z : Int)) := by
          rcases hkd with w | w
          · exact (ZG_2 hG z1 z2 (by rw [kz]; exact w)).2.2.1
          · exact (ZG_3 hG z1 z2 (by rw [kz]; exact w)).2.2.1
        have hsum := z_size_sum (d := d + 1) (sz := sz) (x := x) (i := (K.length : Int)) (Q := oI (zSo S0 μ G n fl B R st x sz) (fun _ => False)) hw z1 z2 (fl z) [] 1 _ S hG rfl ch (fun f m => ?_) (fun S' l' g' => ?_)
        · rw [show min 1000 (((1 : Nat) : Nat) : Int) = 1 from rfl] at hsum
          exact hsum
        · rcases d2 f (by rw [← d1]; exact m) with q | q
          · rw [show zft S (f : Nat) = zft S0 (f : Nat) from congrFun f30 _]
            exact (hD _ q).1
          · cases q
        · have e2 : (1 + ((fl z).map fun (f : Nat) => sz (G.1 (zft S f).toNat)).sum : Nat) = sz z := by
            rw [hsz z z1 z2]
            congr 1
            have : ∃ key, tkids (G.2 z) = zkd S key (fl z) := by
              rcases hkd with w | w
              · exact ⟨_, by rw [(ZG_2 hG z1 z2 (by rw [kz]; exact w)).2.1]; rfl⟩
              · exact ⟨_, by rw [(ZG_3 hG z1 z2 (by rw [kz]; exact w)).2.1]; rfl⟩
            obtain ⟨key, hk⟩ := this
            rw [hk]
            unfold zkd
            rw [List.map_map]
            rfl
          rw [e2]
          refine zl_sizeOf_p138 ?_
          unfold zb_sizeOf_p138
          refine zW_t rfl (zW_st (by omega) ?_)
          have ag : zAg [] [28] S' (zset S' 28 (z : Int) (min 1000 (sz z : Int))) := zAg_set (by decide) zAg_refl
          have aa : ∀ j, j ≠ 25 → S'.2.2.1 j = S.2.2.1 j := fun j hj => l'.1.2.2.1 j (by simp [hj])
          have e1 : S'.1 = S.1 := funext fun f => l'.1.1 f (List.not_mem_nil)
          have f28 : ∀ y : Int, (zset S' 28 (z : Int) (min 1000 (sz z : Int))).2.2.1 28 y = if y = (z : Int) then min 1000 (sz z : Int) else S.2.2.1 28 y := by
            intro y
            show (if 28 = 28 ∧ y = (z : Int) then min 1000 (sz z : Int) else S'.2.2.1 28 y) = _
            by_cases q : y = (z : Int)
            · rw [if_pos ⟨rfl, q⟩, if_pos q]
            · rw [if_neg (fun w => q w.2), if_neg q, aa 28 (by decide)]
          have m27 : (zset S' 28 (z : Int) (min 1000 (sz z : Int))).2.2.1 27 = S.2.2.1 27 := (ag.2.2.1 27 (by decide)).trans (aa 27 (by decide))
          refine ih K _ (fun y => Bk y ∨ y = z) ?_ (zSv_add ⟨ZG_ag g' ag (by decide) (by decide), ZWk_trans (ZWk_trans hq (ZWk_lk l')) (ZWk_ag ag (by decide) (by decide))⟩ ⟨zSk_eq (S := S) (fun i _ => ⟨(congrFun (ag.2.2.1 40 (by decide)) _).trans (congrFun (aa 40 (by decide)) _), (congrFun (ag.2.2.1 41 (by decide)) _).trans (congrFun (aa 41 (by decide)) _)⟩) (by show S'.1 67 = _; rw [e1]) ((ag.2.2.1 30 (by decide)).trans (aa 30 (by decide))) ((ag.2.2.1 31 (by decide)).trans (aa 31 (by decide))) sK, k6⟩ z4 ⟨z1, z2⟩ ⟨by show S'.1 68 = st; rw [e1]; exact h68, fun y hy => ?_, fun y h1 h2 => ?_⟩ (fun y hy => ?_) (by rw [f28, if_pos rfl]) ?_)
          · have e2 : zsz ((z, []) :: K) = 0 + 1 + zsz K := rfl
            have := cnt_le (n := n) (P := fun y => y ∉ K.map Prod.fst ∧ ¬ (Bk y ∨ y = z)) (Q := fun y => y ∉ ((z, ([] : List Nat)) :: K).map Prod.fst ∧ ¬ Bk y) (fun y _ ⟨h1, h2⟩ => ⟨fun q => by
              rcases List.mem_cons.mp q with q | q
              · exact h2 (Or.inr q)
              · exact h1 q, fun q => h2 (Or.inl q)⟩)
            unfold zms at hM ⊢
            show 110000 * cnt (fun y => y ∉ K.map Prod.fst ∧ ¬ (Bk y ∨ y = z)) n + zsz K ≤ M
            omega
          · show (zset S' 28 (z : Int) (min 1000 (sz z : Int))).2.2.1 27 (y : Int) = st ↔ _
            rw [m27]
            rw [show S.2.2.1 27 (y : Int) = zymk S y from rfl, hmk y hy]
            constructor
            · rintro (q | q)
              · rcases List.mem_cons.mp q with q | q
                · exact Or.inr (Or.inr q)
                · exact Or.inl q
              · exact Or.inr (Or.inl q)
            · rintro (q | q | q)
              · exact Or.inl (List.mem_cons_of_mem _ q)
              · exact Or.inr q
              · rw [q]; exact Or.inl (List.mem_cons_self ..)
          · show (zset S' 28 (z : Int) (min 1000 (sz z : Int))).2.2.1 27 y ≤ _
            rw [m27]; exact hmb y h1 h2
          · have : y ≠ z := fun q => z3 (by rw [← q]; exact hy)
            rw [f28, if_neg (by omega)]
            exact hD y hy
          · rcases hF with q | q | q
            · exact Or.inl q
            · rcases List.mem_cons.mp q with q | q
              · exact Or.inr (Or.inr q.symm)
              · exact Or.inr (Or.inl q)
            · cases q
      | cons f F =>
        obtain ⟨f1, f2, f3, f4⟩ := s41
        have f1 : S.2.2.1 41 (K.length : Int) = (f : Int) := f1
        have fm : f ∈ fl z := by rw [d1]; exact List.mem_append_right _ (List.mem_cons_self ..)
        obtain ⟨⟨l, ml⟩, hk1, hk2⟩ := ZG_fld hG hw z1 z2 fm
        have ft : zft S (f : Nat) = zft S0 (f : Nat) := congrFun f30 _
        rw [f1]
        refine zW_f (by omega) (zW_a (by omega) (zW_st (by omega) ?_))
        have ag1 : zAg [] [41] S (zset S 41 (K.length : Int) (S.2.2.1 31 (f : Int))) := zAg_set (by decide) zAg_refl
        have hG1 := ZG_ag hG ag1 (by decide) (by decide)
        refine zW_a (by omega) ?_
        rw [show (zset S 41 (K.length : Int) (S.2.2.1 31 (f : Int))).2.2.1 30 (f : Int) = ((zft S f).toNat : Int) by
          show zft S f = _; omega]
        obtain ⟨S2, g1, g2, g3⟩ := z_find (d := d + 1) hG1 hk1
        refine zW_Ie (zc_s.trans g1) (zW_let ?_)
        generalize ht : G.1 (zft S f).toNat = tt at g1
        have ht1 := hw.1 _ hk1
        rw [ht] at ht1
        have a40 : S2.2.2.1 40 = S.2.2.1 40 := (g2.1.2.2.1 40 (by decide)).trans (ag1.2.2.1 40 (by decide))
        have a41 : S2.2.2.1 41 = fun i => if i = (K.length : Int) then zfn S f else S.2.2.1 41 i := by
          rw [g2.1.2.2.1 41 (by decide)]
          funext i
          show (if 41 = 41 ∧ i = (K.length : Int) then _ else S.2.2.1 41 i) = _
          by_cases q : i = (K.length : Int)
          · rw [if_pos ⟨rfl, q⟩, if_pos q]
          · rw [if_neg (fun w => q w.2), if_neg q]
        have a30 : S2.2.2.1 30 = S.2.2.1 30 := (g2.1.2.2.1 30 (by decide)).trans (ag1.2.2.1 30 (by decide))
        have a31 : S2.2.2.1 31 = S.2.2.1 31 := (g2.1.2.2.1 31 (by decide)).trans (ag1.2.2.1 31 (by decide))
        have a27 : S2.2.2.1 27 = S.2.2.1 27 := (g2.1.2.2.1 27 (by decide)).trans (ag1.2.2.1 27 (by decide))
        have a28 : S2.2.2.1 28 = S.2.2.1 28 := (g2.1.2.2.1 28 (by decide)).trans (ag1.2.2.1 28 (by decide))
        have a67 : S2.1 67 = S.1 67 := (g2.1.1 67 (by decide)).trans (ag1.1 67 (by decide))
        have a68 : S2.1 68 = st := ((g2.1.1 68 (by decide)).trans (ag1.1 68 (by decide))).trans h68
        have sK2 : zSk S2 ((z, F) :: K) := by
          refine ⟨by rw [a40]; exact s40, ?_, zSk_eq (fun i hi => ?_) a67 a30 a31 sK⟩
          · rw [a41]
            show ZCh S2 F (if (K.length : Int) = (K.length : Int) then zfn S f else _)
            rw [if_pos rfl]
            exact ZCh_eq (by rw [a67]; exact Int.le_refl _) (fun f _ => ⟨by show S2.2.2.1 30 _ = _; rw [a30], by show S2.2.2.1 31 _ = _; rw [a31]⟩) f4
          · rw [a40, a41]
            exact ⟨rfl, if_neg (by omega)⟩
        have base : ∀ up, (Bk tt ∨ up = some tt) → zSv S0 μ G n fl B R st x sz up S2 ((z, F) :: K) Bk := by
          intro up hup
          refine ⟨⟨g3, ZWk_trans (ZWk_trans hq (ZWk_ag ag1 (by decide) (by decide))) (ZWk_lk g2)⟩, ⟨sK2, ⟨⟨⟨z1, z2, z3, z4⟩, hkd⟩, ⟨D ++ [f], by rw [d1]; simp, fun g hg => ?_⟩, k5, k6⟩⟩, ⟨a68, fun y hy => ?_, fun y hy hy2 => ?_⟩, fun y hy => by rw [a28]; exact hD y hy, ?_⟩
          · rcases List.mem_append.mp hg with q | q
            · rcases d2 g q with q | q
              · exact Or.inl q
              · cases q
            · have : g = f := by simpa using q
              rw [this, ← ft, ht]
              exact hup
          · show S2.2.2.1 27 (y : Int) = st ↔ _
            rw [a27]; exact hmk y hy
          · show S2.2.2.1 27 y ≤ _
            rw [a27]; exact hmb y hy hy2
          · rcases hF with q | q | q
            · exact Or.inl q
            · exact Or.inr (Or.inl q)
            · cases q
        have mt := hmk tt ht1.1
        refine zW_a (by omega) ?_
        rw [show S2.2.2.1 27 (tt : Int) = zymk S tt by rw [a27], a68]
        refine zW_if (fun e => ?_) (fun e => ?_)
        · have hb : Bk tt := by
            rcases mt.mp e with q | q
            · exfalso
              obtain ⟨w, w1, w2⟩ := hf
              obtain ⟨p, hp⟩ := tStk_path h0 hw (tStc_stk hst') tt q
              obtain ⟨px, hpx⟩ := tStk_path h0 hw (tStc_stk hst') x (tStk_bot (tStc_stk hst'))
              rcases hgz : G.2 z with ⟨e0, o | ⟨lab, loose, kids⟩⟩
              · rw [hgz] at ml; exact absurd ml (List.not_mem_nil)
              · rw [hgz] at ml
                have xl : x < n := ((tStk_lt (tStc_stk hst')).1 x (tStk_bot (tStc_stk hst'))).1
                have r1 := tPl_snoc hw p tt z ht1.1 hp _ _ _ _ hgz l _ ml
                have r2 := tPl_snoc hw px x z xl hpx _ _ _ _ hgz l _ ml
                rw [ht] at r1 r2
                exact tRing_no hw xl r2 r1 (by simp) ⟨w1, w2 x xl⟩
            · exact q
          have := ih ((z, F) :: K) S2 Bk ?_ (base none (Or.inl hb))
          · rw [show ((((z, F) :: K).length : Nat) : Int) = (K.length : Int) + 1 by rw [List.length_cons]; omega] at this
            exact this
          · unfold zms at hM ⊢
            have e2 : zsz ((z, f :: F) :: K) = F.length + 1 + 1 + zsz K := rfl
            have e3 : zsz ((z, F) :: K) = F.length + 1 + zsz K := rfl
            have e4 : ((z, f :: F) :: K).map Prod.fst = ((z, F) :: K).map Prod.fst := rfl
            rw [e4] at hM
            omega
        · have hent := z_enterSize (d := d) h0 hsz ht1.1 ht1.2 (base (some tt) (Or.inr rfl)) (by show S2.2.2.1 27 (tt : Int) ≠ st; rw [a27]; exact e) (show tRel S0 G fl x tt ((z, F) :: K) from ⟨f, fm, by rw [← ft]; exact ht⟩)
          rw [show ((((z, F) :: K).length : Nat) : Int) = (K.length : Int) + 1 by rw [List.length_cons]; omega] at hent
          refine zW_I (P := _) (T := fun _ => False) (by exact hent) (fun r S3 hr => zW_let ?_) (fun S5 q => False.elim q)
          obtain ⟨K3, Bk3, rfl, r1, r2⟩ := hr
          refine ih K3 S3 Bk3 ?_ r1
          unfold zms at hM r2 ⊢
          have e2 : zsz ((z, f :: F) :: K) = F.length + 1 + 1 + zsz K := rfl
          have e3 : zsz ((z, F) :: K) = F.length + 1 + zsz K := rfl
          have e4 : ((z, f :: F) :: K).map Prod.fst = ((z, F) :: K).map Prod.fst := rfl
          rw [e4] at hM
          omega
/-- how big a type of the text is -/
theorem z_sizeOf (hT : ZTG adm S μ G n R) (hsz : tSzs G n sz) (hb : b < n) (h68 : S.1 68 ≤ 1999999990) : zW (ZL (d + 3) 184 [.inl (b : Int)] S) (oI (fun v S' => v = min 1000 (sz (G.1 b) : Int) ∧ ZTG adm S' μ G n R ∧ ZDq S S' ∧ S'.1 68 = S.1 68 + 2) (fun _ => False)) := by
  obtain ⟨⟨fl, B, h1, hJE⟩, hV, hA, ⟨m0, m1⟩, hri, hG⟩ := hT
  have hw := hG.1
  obtain ⟨x1, x2⟩ := hw.1 b hb
  have hn2 := h1.2.1.2.1
  have ag1 : zAg [68] [] S (zput S 68 (S.1 68 + 2)) := zAg_put (by decide) zAg_refl
  obtain ⟨S0, g1, g2, g3⟩ := z_find (d := d + 2) (ZG_ag h1 ag1 (by decide) (by decide)) hb
  have ag0 : zAg [68] [25] S S0 := zAg_trans (zAg_mono ag1 (by decide) (by decide)) (zAg_mono g2.1 (by decide) (by decide))
  have e68 : S0.1 68 = S.1 68 + 2 := g2.1.1 68 (by decide)
  have em : zymk S0 = zymk S := ag0.2.2.1 27 (by decide)
  have w0 : ZWk S S0 := ⟨zAg_mono ag0 (by decide) (by decide), g2.2⟩
  have iv : zSv S0 μ G n fl B R (S.1 68 + 2) (G.1 b) sz (some (G.1 b)) S0 [] (fun _ => False) := by
    refine ⟨⟨g3, ZWk_refl⟩, ⟨trivial, trivial⟩, ⟨e68, fun z hz => ⟨fun q => ?_, fun q => ?_⟩, fun z w1 w2 => ?_⟩, fun z hz => False.elim hz, Or.inr (Or.inr rfl)⟩
    · rw [em] at q
      have := m1 z (by omega) (by omega)
      omega
    · rcases q with q | q
      · exact absurd q List.not_mem_nil
      · exact False.elim q
    · rw [em]
      have := m1 z w1 w2
      omega
  have hm : zymk S0 (G.1 b : Nat) ≠ S.1 68 + 2 := by
    rw [em]
    have := m1 (G.1 b : Nat) (by omega) (by omega)
    omega
  refine zl_sizeOf ?_
  unfold zb_sizeOf
  refine zW_G (by omega) (zW_p (zW_Ie (zc_s.trans g1) (zW_let (zW_a (by omega) ?_))))
  rw [e68]
  refine zW_f hm ?_
  have hent := z_enterSize (d := d + 1) g3 hsz x1 x2 iv hm (show tRel S0 G fl (G.1 b) (G.1 b) [] from rfl)
  refine zW_I (P := _) (T := fun _ => False) (by exact hent) (fun r S3 hr => zW_let ?_) (fun S5 q => False.elim q)
  obtain ⟨K3, Bk3, rfl, r1, r2⟩ := hr
  refine zW_mono (z_size_loop (d := d + 1) g3 hw hG.2.1 hsz _ K3 S3 Bk3 (Nat.le_refl _) r1) (fun o S' hq => ?_)
  rcases o with _ | _ | v | v | v
  · exact hq
  · exact hq
  · obtain ⟨v1, v2, v3, v4, v5⟩ := hq
    have w := ZWk_trans w0 v3
    have ek := ZWk_k w
    have j : ZJr R S S' := ZJr_ag w.1 (by decide) (by decide) w.2
    refine ⟨v1, ⟨⟨fl, B, v2, fun z hz hr => ?_⟩, ZEq_r j hV, ZAd_r j hA, ⟨by omega, fun z w1 w2 => by rw [v4]; exact v5 z w1 w2⟩, hri, hG⟩, ?_, v4⟩
    · rw [ek, w.2 z ((ZG_root h1 hz).mp hr)]
      exact hJE z hz hr
    · refine ⟨zAg_mono w.1 (by decide) (by decide), ⟨by rw [w.1.1 66 (by decide)]; exact Int.le_refl _, by rw [w.1.1 67 (by decide)]; exact Int.le_refl _⟩, fun f _ => ⟨congrFun (w.1.2.2.1 29 (by decide)) _, congrFun (w.1.2.2.1 30 (by decide)) _, congrFun (w.1.2.2.1 31 (by decide)) _⟩, fun z _ => ⟨congrFun ek _, congrFun (w.1.2.2.1 24 (by decide)) _, congrFun (w.1.2.2.1 26 (by decide)) _, w.2 z⟩⟩
  · exact hq
  · exact hq
/-! sizes there are -/
def szk (G : TG) : Nat → Nat → Nat
  | 0, _ => 0
  | k + 1, z => 1 + ((tkids (G.2 z)).map fun q => szk G k (G.1 q.2)).sum
theorem szk_eq {r : Nat → Nat} (hr : ∀ z, z < n → G.1 z = z → ∀ l c, (l, c) ∈ tkids (G.2 z) → (G.1 c < n ∧ G.1 (G.1 c) = G.1 c) ∧ r (G.1 c) < r z) : ∀ k k' z, z < n → G.1 z = z → r z < k → r z < k' → szk G k z = szk G k' z := by
  intro k
  induction k with
  | zero => intro k' z _ _ h _; omega
  | succ k ih =>
    intro k' z hz hzr h1 h2
    cases k' with
    | zero => omega
    | succ k' =>
      show 1 + _ = 1 + _
      congr 2
      refine List.map_congr_left fun q m => ?_
      obtain ⟨⟨q1, q2⟩, q3⟩ := hr z hz hzr q.1 q.2 m
      exact ih k' _ q1 q2 (by omega) (by omega)
theorem tSzs_ex (hw : tWF G n) (hf : tFinS G n) : ∃ sz, tSzs G n sz := by
  obtain ⟨r, hr⟩ := tFinS_rank hw hf
  have hr' : ∀ z, z < n → G.1 z = z → ∀ l c, (l, c) ∈ tkids (G.2 z) → (G.1 c < n ∧ G.1 (G.1 c) = G.1 c) ∧ r (G.1 c) < r z := by
    intro z hz hzr l c m
    rcases hg : G.2 z with ⟨e, o | ⟨lab, loose, kids⟩⟩
    · rw [hg] at m; exact absurd m List.not_mem_nil
    · rw [hg] at m
      exact ⟨hw.1 c ((hw.2 z hz hzr _ _ _ _ hg).2 l c m), hr z hz hzr _ _ _ _ hg l c m⟩
  refine ⟨fun z => szk G (r z + 1) z, fun z hz hzr => ?_⟩
  show 1 + _ = 1 + _
  congr 2
  refine List.map_congr_left fun q m => ?_
  obtain ⟨⟨q1, q2⟩, q3⟩ := hr' z hz hzr q.1 q.2 m
  exact szk_eq hr' _ _ _ q1 q2 q3 (by omega)
end ZSize
