set_option maxRecDepth 100000
/-! THE REFERENCE'S TYPES: whether anything is unknown in a type -/
def zNs (S : ZS) : List Nat → Prop
  | [] => True
  | z :: K => S.2.2.1 40 (K.length : Int) = (z : Int) ∧ zNs S K
def zUnk (S : ZS) (z : Nat) : Prop := zyk S z = 0 ∧ zandI (zyf S z) 4 = 0
def zFi (S0 : ZS) (μ : Zmp) (G : TG) (n : Nat) (fl : Nat → List Nat) (B : Nat → Zfl) (R : Nat → Prop) (st : Int) (b : Nat) (S : ZS) (K : List Nat) (Vis : Nat → Prop) (zx : Option (Nat × List Nat)) : Prop :=
  (ZG S μ G n fl B R ∧ ZWk S0 S) ∧ zNs S K ∧ (S.1 68 = st ∧ (∀ z : Nat, z < n → (zymk S z = st ↔ Vis z)) ∧ ∀ z : Int, 0 ≤ z → z < 57000 → zymk S z ≤ st + 1) ∧
  (∀ z, Vis z → (z < n ∧ G.1 z = z) ∧ (∃ p, tPl G p b = some z) ∧ (z ∈ K ∨ (∃ F, zx = some (z, F)) ∨ (¬ zUnk S0 z ∧ ∀ l c, (l, c) ∈ tkids (G.2 z) → Vis (G.1 c)))) ∧
  (∀ z F, zx = some (z, F) → Vis z ∧ ∃ D, fl z = D ++ F ∧ ∀ f ∈ D, Vis (G.1 (zft S0 (f : Nat)).toNat)) ∧ (K.Nodup ∧ ∀ z ∈ K, Vis z) ∧ Vis (G.1 b)
section ZFlood
variable {adm : Nat → Bool} {d : Nat} {S S1 S2 S' S0 : ZS} {μ : Zmp} {G G' G'' : TG} {n n' m x y z a b t : Nat} {fl fl' : Nat → List Nat} {B B' : Nat → Zfl} {F L : List Nat} {i v w st : Int} {R Vis : Nat → Prop} {K : List Nat} {Q : Option (Option ZV) → ZS → Prop}
theorem zNs_eq : ∀ {K : List Nat}, (∀ i : Int, i < K.length → S'.2.2.1 40 i = S.2.2.1 40 i) → zNs S K → zNs S' K
  | [], _, _ => trivial
  | z :: K, h, hs => ⟨by rw [h _ (by rw [List.length_cons]; omega)]; exact hs.1, zNs_eq (fun i hi => h i (by rw [List.length_cons]; omega)) hs.2⟩
theorem zFi_len {zx : Option (Nat × List Nat)} (h : zFi S0 μ G n fl B R st b S K Vis zx) : K.length ≤ n := by
  obtain ⟨_, _, _, h4, _, ⟨h6, h7⟩, _⟩ := h
  have := sub_len K (List.range n) h6 (fun g hg => by rw [List.mem_range]; exact (h4 g (h7 g hg)).1.1)
  rwa [List.length_range] at this
/-- parts are put on the stack -/
theorem z_hu_kids (h0 : ZG S0 μ G n fl B R) (hw : tWF G n) (hb : b < n) (hst : st ≤ 2000000000) (hz : ¬ zUnk S0 z) : ∀ (F : List Nat) (x5 : Int) (S : ZS) (K : List Nat) (Vis : Nat → Prop), zFi S0 μ G n fl B R st b S K Vis (some (z, F)) → ZCh S F x5 → (∀ S' K' Vis', zFi S0 μ G n fl B R st b S' K' Vis' none → 2 * cnt (fun y => ¬ Vis' y) n + K'.length ≤ 2 * cnt (fun y => ¬ Vis y) n + K.length → zW (ZL (d + 1) 487 [.inl (K'.length : Int)] S') Q) → zW (ZL (d + 1) 751 [.inl (K.length : Int), .inl x5] S) Q := by
  intro F
  induction F with
  | nil =>
    intro x5 S K Vis h hc nx
    have hc : x5 = -1 := hc
    refine zl_hasUnknown_p108 ?_
    unfold zb_hasUnknown_p108
    refine zW_t hc (nx S K Vis ?_ (Nat.le_refl _))
    obtain ⟨h1, h2, h3, h4, h5, h6, h7⟩ := h
    obtain ⟨vz, D, d1, d2⟩ := h5 z [] rfl
    refine ⟨h1, h2, h3, fun y hy => ?_, (fun y F q => by cases q), h6, h7⟩
    obtain ⟨p1, p2, p3⟩ := h4 y hy
    refine ⟨p1, p2, ?_⟩
    rcases p3 with q | ⟨F, q⟩ | q
    · exact Or.inl q
    · have q : z = y := (Prod.mk.inj (Option.some.inj q)).1
      subst q
      refine Or.inr (Or.inr ⟨hz, fun l c m => ?_⟩)
      obtain ⟨f, f1, f2⟩ := ZG_kid h0 p1.1 p1.2 m
      rw [f2]
      exact d2 f (by rw [d1, List.append_nil] at f1; exact f1)
    · exact Or.inr (Or.inr q)
  | cons f F ih =>
    intro x5 S K Vis h hc nx
    have hlen := zFi_len h
    have hh := h
    obtain ⟨⟨hG, hq⟩, h2, ⟨h68, hmk, hmb⟩, h4, h5, ⟨h6, h6'⟩, h7⟩ := h
    obtain ⟨vz, D, d1, d2⟩ := h5 z (f :: F) rfl
    obtain ⟨c1, c2, c3, c4⟩ := hc
    obtain ⟨⟨z1, z2⟩, ⟨pz, hpz⟩, _⟩ := h4 z vz
    obtain ⟨hn, hn2, hn3⟩ := hG.2.1
    have fm : f ∈ fl z := by rw [d1]; exact List.mem_append_right _ (List.mem_cons_self ..)
    obtain ⟨⟨l, ml⟩, hk1, hk2⟩ := ZG_fld hG hw z1 z2 fm
    have f30 : S.2.2.1 30 = S0.2.2.1 30 := hq.1.2.2.1 30 (by decide)
    have ft : zft S (f : Nat) = zft S0 (f : Nat) := congrFun f30 _
    obtain ⟨S2, g1, g2, g3⟩ := z_find (d := d) hG hk1
    have a : ∀ j, j ≠ 25 → S2.2.2.1 j = S.2.2.1 j := fun j hj => g2.1.2.2.1 j (by simp [hj])
    have e1 : S2.1 = S.1 := funext fun f => g2.1.1 f (List.not_mem_nil)
    have ht1 := hw.1 _ hk1
    have pk : ∃ p, tPl G p b = some (G.1 (zft S (f : Nat)).toNat) := by
      rcases hgz : G.2 z with ⟨e0, o | ⟨lab, loose, kids⟩⟩
      · rw [hgz] at ml; exact absurd ml (List.not_mem_nil)
      · rw [hgz] at ml
        exact ⟨_, tPl_snoc hw pz b z hb hpz _ _ _ _ hgz l _ ml⟩
    generalize hte : G.1 (zft S (f : Nat)).toNat = tt at g1 ht1 pk
    refine zl_hasUnknown_p108 ?_
    unfold zb_hasUnknown_p108
    rw [c1]
    refine zW_f (by omega) (zW_a (by omega) ?_)
    rw [show S.2.2.1 30 (f : Int) = ((zft S f).toNat : Int) by show zft S f = _; omega]
    refine zW_Ie (zc_s.trans g1) (zW_let (zW_a (by omega) ?_))
    rw [a 27 (by decide), e1, h68]
    refine zW_if (fun e => ?_) (fun e => ?_)
    · -- seen
      have vt : Vis tt := (hmk tt ht1.1).mp e
      refine zW_a (by omega) (zW_let ?_)
      rw [a 31 (by decide)]
      refine ih _ S2 K Vis ⟨⟨g3, ZWk_trans hq (ZWk_lk g2)⟩, zNs_eq (fun i _ => congrFun (a 40 (by decide)) _) h2, ⟨by rw [e1]; exact h68, fun y hy => by show S2.2.2.1 27 _ = _ ↔ _; rw [a 27 (by decide)]; exact hmk y hy, fun y w1 w2 => by show S2.2.2.1 27 _ ≤ _; rw [a 27 (by decide)]; exact hmb y w1 w2⟩, fun y hy => ?_, fun y F' q => ?_, ⟨h6, h6'⟩, h7⟩ (ZCh_eq (by rw [e1]; exact Int.le_refl _) (fun g _ => ⟨congrFun (a 30 (by decide)) _, congrFun (a 31 (by decide)) _⟩) c4) nx
      · obtain ⟨p1, p2, p3⟩ := h4 y hy
        refine ⟨p1, p2, ?_⟩
        rcases p3 with q | ⟨F', q⟩ | q
        · exact Or.inl q
        · exact Or.inr (Or.inl ⟨F, by rw [(Prod.mk.inj (Option.some.inj q)).1]⟩)
        · exact Or.inr (Or.inr q)
      · obtain ⟨q1, q2⟩ := Prod.mk.inj (Option.some.inj q)
        subst q1; subst q2
        refine ⟨vz, D ++ [f], by rw [d1]; simp, fun g hg => ?_⟩
        rcases List.mem_append.mp hg with w | w
        · exact d2 g w
        · have : g = f := by simpa using w
          rw [this, ← ft, hte]; exact vt
    · have nv : ¬ Vis tt := fun q => e ((hmk tt ht1.1).mpr q)
      have nk : tt ∉ K := fun q => nv (h6' tt q)
      have klt : K.length < n := by
        have := sub_len (tt :: K) (List.range n) (List.nodup_cons.mpr ⟨nk, h6⟩) (fun g hg => by
          rw [List.mem_range]
          rcases List.mem_cons.mp hg with q | q
          · rw [q]; exact ht1.1
          · exact (h4 g (h6' g q)).1.1)
        rw [List.length_cons, List.length_range] at this
        omega
      refine zW_st (by omega) (zW_st (by omega) (zW_G (by omega) (zW_let (zW_a (by omega) (zW_let ?_)))))
      generalize hS4 : zset (zset S2 27 (tt : Int) st) 40 (K.length : Int) (tt : Int) = S4
      have ag4 : zAg [] [27, 40] S2 S4 := by rw [← hS4]; exact zAg_set (by decide) (zAg_set (by decide) zAg_refl)
      have e4 : S4.1 = S.1 := (funext fun f => ag4.1 f List.not_mem_nil).trans e1
      have b27 : ∀ y : Int, zymk S4 y = if y = (tt : Int) then st else zymk S y := by
        intro y
        rw [← hS4]
        show (if 27 = 40 ∧ y = (K.length : Int) then (tt : Int) else if 27 = 27 ∧ y = (tt : Int) then st else S2.2.2.1 27 y) = _
        rw [if_neg (fun q => by cases q.1), a 27 (by decide)]
        by_cases q : y = (tt : Int)
        · rw [if_pos ⟨rfl, q⟩, if_pos q]
        · rw [if_neg (fun w => q w.2), if_neg q]
      have b40 : ∀ i : Int, S4.2.2.1 40 i = if i = (K.length : Int) then (tt : Int) else S.2.2.1 40 i := by
        intro i
        rw [← hS4]
        show (if 40 = 40 ∧ i = (K.length : Int) then (tt : Int) else if 40 = 27 ∧ i = (tt : Int) then st else S2.2.2.1 40 i) = _
        by_cases q : i = (K.length : Int)
        · rw [if_pos ⟨rfl, q⟩, if_pos q]
        · rw [if_neg (fun w => q w.2), if_neg (fun q => by cases q.1), if_neg q, a 40 (by decide)]
      have f31 : S4.2.2.1 31 = S.2.2.1 31 := (ag4.2.2.1 31 (by decide)).trans (a 31 (by decide))
      have f30' : S4.2.2.1 30 = S.2.2.1 30 := (ag4.2.2.1 30 (by decide)).trans (a 30 (by decide))
      rw [f31, show (K.length : Int) + 1 = ((tt :: K).length : Int) by rw [List.length_cons]; omega]
      have cl : cnt (fun y => ¬ (Vis y ∨ y = tt)) n < cnt (fun y => ¬ Vis y) n := cnt_lt (x := tt) (fun y _ q w => q (Or.inl w)) ht1.1 (fun q => q (Or.inr rfl)) nv
      refine ih _ S4 (tt :: K) (fun y => Vis y ∨ y = tt) ⟨⟨ZG_ag g3 ag4 (by decide) (by decide), ZWk_trans (ZWk_trans hq (ZWk_lk g2)) (ZWk_ag ag4 (by decide) (by decide))⟩, ⟨by rw [b40, if_pos rfl], zNs_eq (S := S) (fun i hi => by rw [b40, if_neg (by omega)]) h2⟩, ⟨by rw [e4]; exact h68, fun y hy => ?_, fun y w1 w2 => ?_⟩, fun y hy => ?_, fun y F' q => ?_, ⟨List.nodup_cons.mpr ⟨nk, h6⟩, fun y hy => ?_⟩, Or.inl h7⟩ (ZCh_eq (by rw [e4]; exact Int.le_refl _) (fun g _ => ⟨congrFun f30' _, congrFun f31 _⟩) c4) (fun S' K' Vis' r1 r2 => nx S' K' Vis' r1 ?_)
      · rw [b27]
        by_cases q : y = tt
        · rw [if_pos (by omega)]; exact ⟨fun _ => Or.inr q, fun _ => rfl⟩
        · rw [if_neg (by omega), hmk y hy]; exact ⟨Or.inl, fun w => w.resolve_right q⟩
      · rw [b27]
        split
        · omega
        · exact hmb y w1 w2
      · by_cases q : y = tt
        · rw [q]; exact ⟨ht1, pk, Or.inl (List.mem_cons_self ..)⟩
        · obtain ⟨p1, p2, p3⟩ := h4 y (hy.resolve_right q)
          refine ⟨p1, p2, ?_⟩
          rcases p3 with q | ⟨F', q⟩ | ⟨q1, q2⟩
          · exact Or.inl (List.mem_cons_of_mem _ q)
          · exact Or.inr (Or.inl ⟨F, by rw [(Prod.mk.inj (Option.some.inj q)).1]⟩)
          · exact Or.inr (Or.inr ⟨q1, fun l c m => Or.inl (q2 l c m)⟩)
      · obtain ⟨q1, q2⟩ := Prod.mk.inj (Option.some.inj q)
        subst q1; subst q2
        refine ⟨Or.inl vz, D ++ [f], by rw [d1]; simp, fun g hg => ?_⟩
        rcases List.mem_append.mp hg with w | w
        · exact Or.inl (d2 g w)
        · have : g = f := by simpa using w
          rw [this, ← ft, hte]; exact Or.inr rfl
      · rcases List.mem_cons.mp hy with q | q
        · exact Or.inr q
        · exact Or.inl (h6' y q)
      · have r2 : 2 * cnt (fun y => ¬ Vis' y) n + K'.length ≤ 2 * cnt (fun y => ¬ (Vis y ∨ y = tt)) n + (tt :: K).length := r2
        rw [List.length_cons] at r2
        omega
/-- the walk -/
theorem z_hu_loop (h0 : ZG S0 μ G n fl B R) (hw : tWF G n) (hb : b < n) (hst : st ≤ 2000000000) : ∀ (M : Nat) (K : List Nat) (S : ZS) (Vis : Nat → Prop), 2 * cnt (fun y => ¬ Vis y) n + K.length ≤ M → zFi S0 μ G n fl B R st b S K Vis none → zW (ZL (d + 1) 487 [.inl (K.length : Int)] S) (oI (fun r S' => (ZG S' μ G n fl B R ∧ ZWk S0 S' ∧ S'.1 68 = st ∧ ∀ z : Int, 0 ≤ z → z < 57000 → zymk S' z ≤ st + 1) ∧ ((r = 0 ∧ ∃ Vis, tSet G n Vis ∧ Vis (G.1 b) ∧ ∀ z, Vis z → ¬ zUnk S0 z) ∨ (r = 1 ∧ ∃ z, (z < n ∧ G.1 z = z) ∧ (∃ p, tPl G p b = some z) ∧ zUnk S0 z))) (fun _ => False)) := by
  have nil : ∀ (S : ZS) (Vis : Nat → Prop), zFi S0 μ G n fl B R st b S [] Vis none → zW (ZL (d + 1) 487 [.inl 0] S) (oI (fun r S' => (ZG S' μ G n fl B R ∧ ZWk S0 S' ∧ S'.1 68 = st ∧ ∀ z : Int, 0 ≤ z → z < 57000 → zymk S' z ≤ st + 1) ∧ ((r = 0 ∧ ∃ Vis, tSet G n Vis ∧ Vis (G.1 b) ∧ ∀ z, Vis z → ¬ zUnk S0 z) ∨ (r = 1 ∧ ∃ z, (z < n ∧ G.1 z = z) ∧ (∃ p, tPl G p b = some z) ∧ zUnk S0 z))) (fun _ => False)) := by
    intro S Vis h
    obtain ⟨⟨hG, hq⟩, h2, ⟨h68, hmk, hmb⟩, h4, h5, ⟨h6, h6'⟩, h7⟩ := h
    have ok : ∀ z, Vis z → (z < n ∧ G.1 z = z) ∧ ¬ zUnk S0 z ∧ ∀ l c, (l, c) ∈ tkids (G.2 z) → Vis (G.1 c) := by
      intro z hz
      obtain ⟨p1, _, p3⟩ := h4 z hz
      rcases p3 with q | ⟨F, q⟩ | q
      · exact absurd q List.not_mem_nil
      · cases q
      · exact ⟨p1, q⟩
    refine zl_hasUnknown_p35 ?_
    unfold zb_hasUnknown_p35
    exact zW_t (Int.le_refl _) (zW_rZ (Or.inl rfl) ⟨⟨hG, hq, h68, hmb⟩, Or.inl ⟨rfl, Vis, fun z hz => ⟨(ok z hz).1, (ok z hz).2.2⟩, h7, fun z hz => (ok z hz).2.1⟩⟩)
  intro M
  induction M with
  | zero =>
    intro K S Vis hM h
    cases K with
    | nil => exact nil S Vis h
    | cons z K => rw [List.length_cons] at hM; omega
  | succ M ih =>
    intro K S Vis hM h
    cases K with
    | nil => exact nil S Vis h
    | cons z K =>
      have hlen := zFi_len h
      obtain ⟨⟨hG, hq⟩, ⟨h40, h2⟩, ⟨h68, hmk, hmb⟩, h4, h5, ⟨h6, h6'⟩, h7⟩ := h
      rw [List.length_cons] at hlen hM
      obtain ⟨hn, hn2, hn3⟩ := hG.2.1
      have vz : Vis z := h6' z (List.mem_cons_self ..)
      obtain ⟨⟨z1, z2⟩, pz, _⟩ := h4 z vz
      rw [List.nodup_cons] at h6
      have kz : S.2.2.1 23 (z : Int) = zyk S0 z := congrFun (ZWk_k hq) _
      have fz : S.2.2.1 24 (z : Int) = zyf S0 z := congrFun (hq.1.2.2.1 24 (by decide)) _
      refine zl_hasUnknown_p35 ?_
      unfold zb_hasUnknown_p35
      rw [show ((((z :: K).length : Nat) : Int)) = (K.length : Int) + 1 by rw [List.length_cons]; omega]
      refine zW_f (by omega) ?_
      rw [show (K.length : Int) + 1 + -1 = (K.length : Int) by omega]
      refine zW_G (by omega) (zW_let (zW_a (by omega) (zW_let ?_)))
      rw [h40]
      refine zW_a (by omega) ?_
      rw [kz]
      -- what is left when z is seen to be known
      have go : ¬ zUnk S0 z → zW (ZL (d + 1) 660 [.inl (K.length : Int), .inl (z : Int)] S) (oI (fun r S' => (ZG S' μ G n fl B R ∧ ZWk S0 S' ∧ S'.1 68 = st ∧ ∀ z : Int, 0 ≤ z → z < 57000 → zymk S' z ≤ st + 1) ∧ ((r = 0 ∧ ∃ Vis, tSet G n Vis ∧ Vis (G.1 b) ∧ ∀ z, Vis z → ¬ zUnk S0 z) ∨ (r = 1 ∧ ∃ z, (z < n ∧ G.1 z = z) ∧ (∃ p, tPl G p b = some z) ∧ zUnk S0 z))) (fun _ => False)) := by
        intro nu
        have base : ∀ F, fl z = F → zFi S0 μ G n fl B R st b S K Vis (some (z, F)) := by
          intro F hF
          refine ⟨⟨hG, hq⟩, h2, ⟨h68, hmk, hmb⟩, fun y hy => ?_, fun y F' q => ?_, ⟨h6.2, fun y hy => h6' y (List.mem_cons_of_mem _ hy)⟩, h7⟩
          · obtain ⟨p1, p2, p3⟩ := h4 y hy
            refine ⟨p1, p2, ?_⟩
            rcases p3 with q | ⟨F', q⟩ | q
            · rcases List.mem_cons.mp q with q | q
              · exact Or.inr (Or.inl ⟨F, by rw [q]⟩)
              · exact Or.inl q
            · cases q
            · exact Or.inr (Or.inr q)
          · obtain ⟨q1, q2⟩ := Prod.mk.inj (Option.some.inj q)
            subst q1; subst q2
            exact ⟨vz, [], hF, fun f m => absurd m List.not_mem_nil⟩
        have nx : ∀ S' K' Vis', zFi S0 μ G n fl B R st b S' K' Vis' none → 2 * cnt (fun y => ¬ Vis' y) n + K'.length ≤ 2 * cnt (fun y => ¬ Vis y) n + K.length → zW (ZL (d + 1) 487 [.inl (K'.length : Int)] S') (oI (fun r S' => (ZG S' μ G n fl B R ∧ ZWk S0 S' ∧ S'.1 68 = st ∧ ∀ z : Int, 0 ≤ z → z < 57000 → zymk S' z ≤ st + 1) ∧ ((r = 0 ∧ ∃ Vis, tSet G n Vis ∧ Vis (G.1 b) ∧ ∀ z, Vis z → ¬ zUnk S0 z) ∨ (r = 1 ∧ ∃ z, (z < n ∧ G.1 z = z) ∧ (∃ p, tPl G p b = some z) ∧ zUnk S0 z))) (fun _ => False)) := fun S' K' Vis' r1 r2 => ih K' S' Vis' (by omega) r1
        refine zl_hasUnknown_p74 ?_
        unfold zb_hasUnknown_p74
        refine zW_a (by omega) ?_
        rw [kz]
        refine zW_if (fun e => ?_) (fun e => zW_a (by omega) ?_)
        · have ch := (ZG_2 hG z1 z2 (kz.trans e)).2.2.1
          exact zW_a (by omega) (zW_let (z_hu_kids h0 hw hb hst nu (fl z) _ S K Vis (base _ rfl) ch nx))
        · rw [kz]
          refine zW_if (fun e' => ?_) (fun e' => ?_)
          · have ch := (ZG_3 hG z1 z2 (kz.trans e')).2.2.1
            exact zW_a (by omega) (zW_let (z_hu_kids h0 hw hb hst nu (fl z) _ S K Vis (base _ rfl) ch nx))
          · have nk : tkids (G.2 z) = [] := by
              rcases ZG_kind h0 z1 z2 with q | q | q | q
              · rw [(ZG_0 h0 z1 z2 q).1]; rfl
              · obtain ⟨i, g, _⟩ := ZG_1 h0 z1 z2 q
                rw [g]; rfl
              · exact absurd q e
              · exact absurd q e'
            refine nx S K Vis ⟨⟨hG, hq⟩, h2, ⟨h68, hmk, hmb⟩, fun y hy => ?_, (fun y F q => by cases q), ⟨h6.2, fun y hy => h6' y (List.mem_cons_of_mem _ hy)⟩, h7⟩ (Nat.le_refl _)
            obtain ⟨p1, p2, p3⟩ := h4 y hy
            refine ⟨p1, p2, ?_⟩
            rcases p3 with q | ⟨F', q⟩ | q
            · rcases List.mem_cons.mp q with q | q
              · rw [q]
                exact Or.inr (Or.inr ⟨nu, fun l c m => by rw [nk] at m; exact absurd m List.not_mem_nil⟩)
              · exact Or.inl q
            · cases q
            · exact Or.inr (Or.inr q)
      refine zW_if (fun e => zW_a (by omega) ?_) (fun e => go (fun q => e q.1))
      rw [fz]
      refine zW_if (fun e4 => ?_) (fun e4 => go (fun q => e4 q.2))
      exact zW_rZ (Or.inr rfl) ⟨⟨hG, hq, h68, hmb⟩, Or.inr ⟨rfl, z, ⟨z1, z2⟩, pz, e, e4⟩⟩
/-- whether anything is unknown in a type of the text -/
theorem z_hasUnknown (hT : ZTG adm S μ G n R) (hb : b < n) (h68 : S.1 68 ≤ 1999999990) : zW (ZL (d + 2) 206 [.inl (b : Int)] S) (oI (fun r S' => (ZTG adm S' μ G n R ∧ ZDq S S' ∧ S'.1 68 = S.1 68 + 2) ∧ ((r = 0 ∧ ∃ Vis, tSet G n Vis ∧ Vis (G.1 b) ∧ ∀ z, Vis z → ¬ zUnk S z) ∨ (r = 1 ∧ ∃ z, (z < n ∧ G.1 z = z) ∧ (∃ p, tPl G p b = some z) ∧ zUnk S z))) (fun _ => False)) := by
  obtain ⟨⟨fl, B, h1, hJE⟩, hV, hA, ⟨m0, m1⟩, hri, hG⟩ := hT
  have hw := hG.1
  obtain ⟨x1, x2⟩ := hw.1 b hb
  have hn2 := h1.2.1.2.1
  have ag1 : zAg [68] [] S (zput S 68 (S.1 68 + 2)) := zAg_put (by decide) zAg_refl
  obtain ⟨S0, g1, g2, g3⟩ := z_find (d := d + 1) (ZG_ag h1 ag1 (by decide) (by decide)) hb
  have ag0 : zAg [68] [25] S S0 := zAg_trans (zAg_mono ag1 (by decide) (by decide)) (zAg_mono g2.1 (by decide) (by decide))
  have e68 : S0.1 68 = S.1 68 + 2 := g2.1.1 68 (by decide)
  have em : zymk S0 = zymk S := ag0.2.2.1 27 (by decide)
  have ek0 : zyk S0 = zyk S := ag0.2.2.1 23 (by decide)
  have ef0 : zyf S0 = zyf S := ag0.2.2.1 24 (by decide)
  have eu : ∀ z, zUnk S0 z ↔ zUnk S z := fun z => by unfold zUnk; rw [ek0, ef0]
  have w0 : ZWk S S0 := ⟨zAg_mono ag0 (by decide) (by decide), g2.2⟩
  refine zl_hasUnknown ?_
  unfold zb_hasUnknown
  refine zW_G (by omega) (zW_p (zW_Ie (zc_s.trans g1) (zW_let (zW_st (by omega) (zW_st (by omega) (zW_let ?_))))))
  rw [show (zset S0 40 0 (G.1 b : Nat)).1 68 = S.1 68 + 2 from e68]
  generalize hS4 : zset (zset S0 40 0 (G.1 b : Nat)) 27 (G.1 b : Nat) (S.1 68 + 2) = S4
  have ag4 : zAg [] [27, 40] S0 S4 := by rw [← hS4]; exact zAg_set (by decide) (zAg_set (by decide) zAg_refl)
  have e4 : S4.1 = S0.1 := funext fun f => ag4.1 f List.not_mem_nil
  have b27 : ∀ y : Int, zymk S4 y = if y = ((G.1 b : Nat) : Int) then S.1 68 + 2 else zymk S y := by
    intro y
    rw [← hS4, ← em]
    show (if 27 = 27 ∧ y = ((G.1 b : Nat) : Int) then S.1 68 + 2 else zymk S0 y) = _
    by_cases q : y = ((G.1 b : Nat) : Int)
    · rw [if_pos ⟨rfl, q⟩, if_pos q]
    · rw [if_neg (fun w => q w.2), if_neg q]
  have b40 : S4.2.2.1 40 0 = ((G.1 b : Nat) : Int) := by rw [← hS4]; rfl
  have iv : zFi S0 μ G n fl B R (S.1 68 + 2) b S4 [G.1 b] (fun z => z = G.1 b) none := by
    refine ⟨⟨ZG_ag g3 ag4 (by decide) (by decide), ZWk_ag ag4 (by decide) (by decide)⟩, ⟨b40, trivial⟩, ⟨by rw [e4]; exact e68, fun y hy => ?_, fun y w1 w2 => ?_⟩, fun y hy => ?_, (fun y F q => by cases q), ⟨by simp, fun y hy => by simpa using hy⟩, rfl⟩
    · rw [b27]
      have := m1 y (by omega) (by omega)
      by_cases q : y = G.1 b
      · rw [if_pos (by omega)]; exact ⟨fun _ => q, fun _ => rfl⟩
      · rw [if_neg (by omega)]; exact ⟨fun w => by omega, fun w => absurd w q⟩
    · rw [b27]
      have := m1 y w1 w2
      split <;> omega
    · rw [hy]
      exact ⟨⟨x1, x2⟩, ⟨[], rfl⟩, Or.inl (List.mem_cons_self ..)⟩
  refine zW_mono (z_hu_loop (d := d + 1) g3 hw hb (by omega) _ [G.1 b] S4 _ (Nat.le_refl _) iv) (fun o S' hq => ?_)
  rcases o with _ | _ | r | r | r
  · exact hq
  · exact hq
  · obtain ⟨⟨v2, v3, v4, v5⟩, v6⟩ := hq
    have w := ZWk_trans w0 v3
    have ek := ZWk_k w
    have j : ZJr R S S' := ZJr_ag w.1 (by decide) (by decide) w.2
    refine ⟨⟨⟨⟨fl, B, v2, fun z hz hr => ?_⟩, ZEq_r j hV, ZAd_r j hA, ⟨by omega, fun z w1 w2 => by rw [v4]; exact v5 z w1 w2⟩, hri, hG⟩, ?_, v4⟩, ?_⟩
    · rw [ek, w.2 z ((ZG_root h1 hz).mp hr)]
      exact hJE z hz hr
    · refine ⟨zAg_mono w.1 (by decide) (by decide), ⟨by rw [w.1.1 66 (by decide)]; exact Int.le_refl _, by rw [w.1.1 67 (by decide)]; exact Int.le_refl _⟩, fun f _ => ⟨congrFun (w.1.2.2.1 29 (by decide)) _, congrFun (w.1.2.2.1 30 (by decide)) _, congrFun (w.1.2.2.1 31 (by decide)) _⟩, fun z _ => ⟨congrFun ek _, congrFun (w.1.2.2.1 24 (by decide)) _, congrFun (w.1.2.2.1 26 (by decide)) _, w.2 z⟩⟩
    · rcases v6 with ⟨rfl, Vis, r1, r2, r3⟩ | ⟨rfl, z, r1, r2, r3⟩
      · exact Or.inl ⟨rfl, Vis, r1, r2, fun z hz q => r3 z hz ((eu z).mpr q)⟩
      · exact Or.inr ⟨rfl, z, r1, r2, (eu z).mp r3⟩
  · exact hq
  · exact hq
end ZFlood
