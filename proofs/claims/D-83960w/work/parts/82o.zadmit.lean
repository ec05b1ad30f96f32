set_option maxRecDepth 100000
/-! THE REFERENCE'S TYPES: isEndless whole; equality -/
/-- what admits equality, as the reference has it -/
def ZAd (S : ZS) (μ : Zmp) (adm : Nat → Bool) : Prop := (mT μ ≤ 7500 ∧ ∀ c : Nat, c < mT μ → (S.2.2.1 36 (c : Int) = 0 ↔ adm (mC μ c) = false)) ∧ (adm 2 = true ∧ adm 3 = true ∧ adm 6 = true) ∧ adm 0 = true ∧ ∀ i, adm (3 * i + 1) = mR μ i
/-- demands, but that one place is being looked at -/
def JEx (adm : Nat → Bool) (S : ZS) (μ : Zmp) (G : TG) (n : Nat) (B : Nat → Zfl) (E : List Nat) (zx : Option Nat) : Prop := ∀ z, z < n → G.1 z = z →
  ((G.2 z).1 = true → (∃ t ∈ E, G.1 t = z) ∨ (zcl adm G z ∧ (zyk S z = 1 → mE μ (zyc S z) = true)) ∨ zx = some z) ∧
  ((B z).2.2.2.2 = true → zyk S z ≠ 0 ∧ zyk S z ≠ 1 ∧ (G.2 z).1 = true ∧ (zcl adm G z ∨ zx = some z))
def ZMx (adm : Nat → Bool) (S : ZS) (μ : Zmp) (G : TG) (n : Nat) (fl : Nat → List Nat) (B : Nat → Zfl) (R : Nat → Prop) (W : TW) (E : List Nat) (zx : Option Nat) : Prop := ZG S μ G n fl B R ∧ (zWs S W ∧ S.1 78 = (W.length : Int)) ∧ (zEs S E ∧ S.1 79 = (E.length : Int) ∧ ∀ t ∈ E, t < n ∧ (G.2 (G.1 t)).1 = true) ∧ JEx adm S μ G n B E zx
section ZAdm
variable {adm : Nat → Bool} {d : Nat} {S S1 S' S0 : ZS} {μ : Zmp} {G G' G0 : TG} {n n' m x y z a b : Nat} {fl fl' : Nat → List Nat} {B B' : Nat → Zfl} {F : List Nat} {N : TN} {Q : Option (Option ZV) → ZS → Prop} {i v w c f l t : Int} {R R' : Nat → Prop} {W : TW} {E : List Nat}
theorem ZMx_of {zx : Option Nat} (h : ZM adm S μ G n fl B R W E) : ZMx adm S μ G n fl B R W E zx := ⟨h.1, h.2.1, h.2.2.1, fun z hz hr => by
  obtain ⟨p1, p2⟩ := h.2.2.2 z hz hr
  exact ⟨fun he => (p1 he).imp (fun q => q) Or.inl, fun hd => by
    obtain ⟨q1, q2, q3, q4⟩ := p2 hd
    exact ⟨q1, q2, q3, Or.inl q4⟩⟩⟩
theorem ZMx_none (h : ZMx adm S μ G n fl B R W E none) : ZM adm S μ G n fl B R W E := ⟨h.1, h.2.1, h.2.2.1, fun z hz hr => by
  obtain ⟨p1, p2⟩ := h.2.2.2 z hz hr
  refine ⟨fun he => ?_, fun hd => ?_⟩
  · rcases p1 he with q | q | q
    · exact Or.inl q
    · exact Or.inr q
    · cases q
  · obtain ⟨q1, q2, q3, q4⟩ := p2 hd
    exact ⟨q1, q2, q3, q4.resolve_right (fun q => by cases q)⟩⟩
theorem z_isEndless (h : ZG S μ G n fl B R) (hw : tWF G n) (hx : x < n) (hr : G.1 x = x) (hm : zMk S) (h68 : S.1 68 ≤ 1999999990) : zW (ZL (d + 1) 147 [.inl (x : Int)] S) (oI (fun r S' => ZWk S S' ∧ ZG S' μ G n fl B R ∧ S'.1 68 = S.1 68 + 2 ∧ zMk S' ∧ ((r = 1 ∧ ∀ w, ¬ (tSol tT G n w ∧ tFin (w x))) ∨ (r = 0 ∧ tFin (tV G (tU0 G) x)))) (fun _ => False)) := by
  obtain ⟨hn, hn2, hn3⟩ := h.2.1
  obtain ⟨m0, m1⟩ := hm
  have go : ∀ p : Int, ZCh S (fl x) p → zW (ZL (d + 1) 438 [.inl (x : Int), .inl p, .inl 0] (zset (zput S 68 (S.1 68 + 2)) 40 0 x)) (oI (fun r S' => ZWk S S' ∧ ZG S' μ G n fl B R ∧ S'.1 68 = S.1 68 + 2 ∧ zMk S' ∧ ((r = 1 ∧ ∀ w, ¬ (tSol tT G n w ∧ tFin (w x))) ∨ (r = 0 ∧ tFin (tV G (tU0 G) x)))) (fun _ => False)) := by
    intro p hp
    refine zl_isEndless_p54 ?_
    unfold zb_isEndless_p54
    refine zW_st (by omega) (zW_st (by omega) (zW_let ?_))
    generalize hS3 : zset (zset (zset (zput S 68 (S.1 68 + 2)) 40 0 x) 41 0 p) 27 x ((zset (zset (zput S 68 (S.1 68 + 2)) 40 0 x) 41 0 p).1 68) = S3
    have ag : zAg [68] [27, 40, 41] S S3 := by rw [← hS3]; exact zAg_set (by decide) (zAg_set (by decide) (zAg_set (by decide) (zAg_put (by decide) zAg_refl)))
    have b68 : S3.1 68 = S.1 68 + 2 := by rw [← hS3]; rfl
    have b27 : ∀ y : Int, zymk S3 y = if y = (x : Int) then S.1 68 + 2 else zymk S y := by
      intro y
      rw [← hS3]
      show (if 27 = 27 ∧ y = (x : Int) then S.1 68 + 2 else S.2.2.1 27 y) = _
      by_cases q : y = (x : Int)
      · rw [if_pos ⟨rfl, q⟩, if_pos q]
      · rw [if_neg (fun w => q w.2), if_neg q]
    have b40 : S3.2.2.1 40 0 = (x : Int) := by rw [← hS3]; rfl
    have b41 : S3.2.2.1 41 0 = p := by rw [← hS3]; rfl
    have hG3 := ZG_ag h ag (by decide) (by decide)
    have hR : zRg S3 μ G n fl B R (S.1 68 + 2) x [(x, fl x)] (fun _ => False) (fun _ => 0) 0 := by
      refine ⟨hG3, ⟨b40, ?_, trivial⟩, ⟨⟨hx, hr, fun q => q, List.not_mem_nil⟩, ⟨[], rfl, fun f m => absurd m (List.not_mem_nil)⟩, rfl, trivial⟩, fun z q => False.elim q, b68, fun z hz => ⟨?_, ?_⟩, fun z hz hz2 => ?_, Or.inr (Or.inr (List.mem_cons_self ..))⟩
      · show ZCh S3 (fl x) (S3.2.2.1 41 0)
        rw [b41]
        exact ZCh_eq (by rw [ag.1 67 (by decide)]; exact Int.le_refl _) (fun f _ => ⟨congrFun (ag.2.2.1 30 (by decide)) _, congrFun (ag.2.2.1 31 (by decide)) _⟩) hp
      · rw [b27 z]
        have := m1 z (by omega) (by omega)
        show _ ↔ z ∈ [x]
        rw [List.mem_singleton]
        by_cases q : z = x
        · rw [if_pos (by omega)]; exact ⟨fun _ => q, fun _ => rfl⟩
        · rw [if_neg (by omega)]; exact ⟨fun w => by omega, fun w => absurd w q⟩
      · rw [b27 z]
        have := m1 z (by omega) (by omega)
        refine ⟨fun w => ?_, fun w => False.elim w⟩
        split at w <;> omega
      · rw [b27 z]
        have := m1 z hz hz2
        split <;> omega
    refine zW_mono (z_endless_loop (d := d) hw ⟨by omega, by omega⟩ _ [(x, fl x)] S3 _ _ _ (Nat.le_refl _) hR) (fun o S' hq => ?_)
    rcases o with _ | _ | r | r | r
    · exact hq
    · exact hq
    · obtain ⟨q1, q2, q3, q4, q5⟩ := hq
      refine ⟨ZWk_trans (ZWk_ag ag (by decide) (by decide)) q1, q2, q3, ⟨by omega, fun z hz hz2 => by rw [q3]; exact q4 z hz hz2⟩, ?_⟩
      rcases q5 with q | ⟨q, Bk, rk, c, w1, w2⟩
      · exact Or.inl q
      · exact Or.inr ⟨q, tBk_fin hw w1 tU0_fin hx hr w2⟩
    · exact hq
    · exact hq
  refine zl_isEndless ?_
  unfold zb_isEndless
  refine zW_G (by omega) (zW_p (zW_let (zW_st (by omega) (zW_a (by omega) (zW_if (fun e => ?_) (fun e => zW_a (by omega) (zW_if (fun e2 => ?_) (fun e2 => ?_))))))))
  · exact zW_a (by omega) (go _ (ZG_2 h hx hr e).2.2.1)
  · exact zW_a (by omega) (go _ (ZG_3 h hx hr e2).2.2.1)
  · refine go (-1) ?_
    have e : zyk S x ≠ 2 := e
    have e2 : zyk S x ≠ 3 := e2
    rcases h.2.2.2.2.1 x hx hr with ⟨_, _, q⟩ | ⟨_, _, q⟩ | ⟨q, _⟩ | ⟨q, _⟩
    · rw [q]; rfl
    · rw [q]; rfl
    · exact absurd q e
    · exact absurd q e2
/-- a place is asked to admit equality -/
theorem z_asks (hJ : JI G0 n x y G n []) (hw0 : tWF G0 n) (hx : x < n) (hy : y < n) {zx : Option Nat} (h : ZMx adm S μ G n fl B R W E zx) {c : Nat} (hc : c < n) (hb : tBel G0 x y c) (hs : ∀ adm w, tSol adm (tset G (G.1 c) (true, (G.2 (G.1 c)).2)) n w ↔ tSol adm G n w) (hE : (E.length : Int) < 57000) (hEb : ∀ t ∈ E, tBel G0 x y t) : ∃ S' B' E', ZL (d + 1) 150 [.inl (c : Int)] S = some (some none, S') ∧ JI G0 n x y (tset G (G.1 c) (true, (G.2 (G.1 c)).2)) n [] ∧ ZMx adm S' μ (tset G (G.1 c) (true, (G.2 (G.1 c)).2)) n fl B' R W E' zx ∧ zAg [79] [24, 25, 39] S S' ∧ (∀ z : Nat, zyk S z ≠ 4 → zyc S' z = zyc S z) ∧ E'.length ≤ E.length + 1 ∧ (∀ t ∈ E', tBel G0 x y t) ∧ (∀ z, (B' z).2.2.2.2 = (B z).2.2.2.2) := by
  obtain ⟨S1, g1, g2, g3⟩ := z_find (d := d) h.1 hc
  have hr := hJ.1.1 c hc
  have hn2 := h.1.2.1.2.1
  have hJ' := JI_set (ec := (G.2 (G.1 c)).1) hw0 hx hy (fun q => hJ.2.2.2.2.2.1 c hc hb q) hJ hr.1 hr.2 rfl hs
  have ag1 : zAg [] [25] S S1 := g2.1
  -- the state behind find
  have hM1 : ZMx adm S1 μ G n fl B R W E zx := by
    refine ⟨g3, ⟨zWs_a (ag1.2.2.1 37 (by decide)) (ag1.2.2.1 38 (by decide)) h.2.1.1, by rw [ag1.1 78 (by decide)]; exact h.2.1.2⟩, ⟨zEs_a (ag1.2.2.1 39 (by decide)) h.2.2.1.1, by rw [ag1.1 79 (by decide)]; exact h.2.2.1.2.1, h.2.2.1.2.2⟩, fun z hz hz' => ?_⟩
    have e1 : zyk S1 = zyk S := ag1.2.2.1 23 (by decide)
    obtain ⟨p1, p2⟩ := h.2.2.2 z hz hz'
    rw [e1, g2.2 z ((ZG_root h.1 hz).mp hz')]
    exact ⟨p1, p2⟩
  generalize hrr : G.1 c = r at *
  obtain ⟨hr1, hr2⟩ := hr
  have same : (true, (G.2 r).2) = G.2 r → tset G r (true, (G.2 r).2) = G := fun e => by
    refine Prod.ext rfl (funext fun z => ?_)
    show (if z = r then _ else G.2 z) = G.2 z
    by_cases q : z = r
    · rw [if_pos q, e, q]
    · rw [if_neg q]
  by_cases e : (B r).1 = true ∧ (B r).2.2.2.2 = true
  · -- it is through already
    obtain ⟨_, _, p3, _⟩ := (hM1.2.2.2 r hr1 hr2).2 e.2
    have eG := same (Prod.ext p3.symm rfl)
    refine ⟨S1, B, E, zW_get (zl_asks ?_), by rw [eG]; exact hJ, by rw [eG]; exact hM1, zAg_mono ag1 (by decide) (by decide), g2.2, Nat.le_succ _, hEb, fun _ => rfl⟩
    unfold zb_asks
    refine zW_Ie (zc_s.trans g1) (zW_let (zW_a (by omega) ?_))
    rw [show S1.2.2.1 24 (r : Int) = zfb (B r) from hM1.1.2.2.2.1 r hr1, zfb_17, e.1, e.2]
    exact zW_t rfl (zW_rV ⟨rfl, rfl⟩)
  · have hE79 := hM1.2.2.1.2.1
    let b' : Zfl := (true, (B r).2)
    generalize hS5 : zput (zset (zset S1 24 r (zfb b')) 39 (E.length : Int) r) 79 ((E.length : Int) + 1) = S5
    have ag5 : zAg [79] [24, 39] S1 S5 := by rw [← hS5]; exact zAg_put (by decide) (zAg_set (by decide) (zAg_set (by decide) zAg_refl))
    have b24 : ∀ z : Nat, zyf S5 z = if z = r then zfb b' else zyf S1 z := by
      intro z
      rw [← hS5]
      show (if 24 = 24 ∧ (z : Int) = (r : Int) then zfb b' else zyf S1 z) = _
      by_cases q : z = r
      · rw [if_pos ⟨rfl, by omega⟩, if_pos q]
      · rw [if_neg (fun w => q (by omega)), if_neg q]
    have b39 : ∀ i : Int, S5.2.2.1 39 i = if i = (E.length : Int) then (r : Int) else S1.2.2.1 39 i := by
      intro i
      rw [← hS5]
      show (if 39 = 39 ∧ i = (E.length : Int) then (r : Int) else S1.2.2.1 39 i) = _
      by_cases q : i = (E.length : Int)
      · rw [if_pos ⟨rfl, q⟩, if_pos q]
      · rw [if_neg (fun w => q w.2), if_neg q]
    have nd := hM1.1.2.2.2.2.1 r hr1 hr2
    have nd' := ZNode_e (e := (B r).2.2.2.2) rfl nd
    have g1' : ∀ z, (G.2 z).1 = true → ((tset G r (true, (G.2 r).2)).2 z).1 = true := by
      intro z hz
      show (if z = r then ((true, (G.2 r).2) : TN) else G.2 z).1 = true
      split
      · rfl
      · exact hz
    have cl : ∀ z, zcl adm G z → zcl adm (tset G r (true, (G.2 r).2)) z := by
      intro z hz lab loose kids hg
      have hg : (if z = r then ((true, (G.2 r).2) : TN) else G.2 z).2 = _ := hg
      have hg : (G.2 z).2 = .inr (lab, loose, kids) := by
        by_cases q : z = r
        · rw [if_pos q] at hg; rw [q]; exact hg
        · rw [if_neg q] at hg; exact hg
      obtain ⟨p1, p2⟩ := hz lab loose kids hg
      exact ⟨p1, fun hl l c m => g1' _ (p2 hl l c m)⟩
    refine ⟨S5, fup B r b', r :: E, zW_get (zl_asks ?_), hJ', ⟨?_, ⟨zWs_a (ag5.2.2.1 37 (by decide)) (ag5.2.2.1 38 (by decide)) hM1.2.1.1, by rw [ag5.1 78 (by decide)]; exact hM1.2.1.2⟩, ⟨⟨?_, zEs_eq (fun i hi => ?_) hM1.2.2.1.1⟩, ?_, ?_⟩, fun z hz hz' => ?_⟩, zAg_trans (zAg_mono ag1 (by decide) (by decide)) (zAg_mono ag5 (by decide) (by decide)), fun z hz => ?_, by rw [List.length_cons]; omega, ?_, fun z => ?_⟩
    · unfold zb_asks
      refine zW_Ie (zc_s.trans g1) (zW_let (zW_a (by omega) ?_))
      rw [show S1.2.2.1 24 (r : Int) = zfb (B r) from hM1.1.2.2.2.1 r hr1, zfb_17]
      refine zW_f (fun q => e ?_) (zW_a (by omega) ?_)
      · cases q1 : (B r).1 <;> cases q2 : (B r).2.2.2.2 <;> rw [q1, q2] at q <;> first | exact ⟨rfl, rfl⟩ | cases q
      · rw [show S1.2.2.1 24 (r : Int) = zfb (B r) from hM1.1.2.2.2.1 r hr1, zfb_se]
        refine zW_st (by omega) ?_
        rw [show (zset S1 24 (r : Int) (zfb (true, (B r).2))).1 79 = (E.length : Int) from hE79]
        refine zW_st (by omega) ?_
        rw [show (zset (zset S1 24 (r : Int) (zfb (true, (B r).2))) 39 (E.length : Int) (r : Int)).1 79 = (E.length : Int) from hE79]
        exact zW_G (by omega) (zW_p (zW_rV ⟨rfl, hS5⟩))
    · have ej : ∀ j, j ≠ 24 → j ≠ 39 → S5.2.2.1 j = S1.2.2.1 j := fun j h1 h2 => ag5.2.2.1 j (by simp [h1, h2])
      refine ZG_at (fl' := fl) hM1.1 hr1 hr2 (ag5.1 66 (by decide)) (ag5.1 67 (by decide)) (fun z hz => ⟨congrFun (ej 23 (by decide) (by decide)) _, by rw [b24 z, if_neg hz], congrFun (ej 25 (by decide) (by decide)) _, congrFun (ej 26 (by decide) (by decide)) _⟩) (fun z _ _ _ f _ => ⟨congrFun (ej 29 (by decide) (by decide)) _, congrFun (ej 30 (by decide) (by decide)) _, congrFun (ej 31 (by decide) (by decide)) _⟩) ?_ ?_ (fun z hz => if_neg hz) (fun _ _ => rfl) ?_ (fun z hz rz zb f hf => fun q => hM1.1.2.2.2.2.2.1 z r hz hr1 rz hr2 zb f q hf) (fun f hf => ⟨hM1.1.2.2.2.2.2.2.1 f hf, fun z hz rz _ => hM1.1.2.2.2.2.2.2.2 f hf z hz rz, hM1.1.2.2.2.2.2.2.2 f hf r hr1 hr2⟩)
      · rw [show zyk S5 r = zyk S1 r from congrFun (ej 23 (by decide) (by decide)) _]
        exact (ZG_root hM1.1 hr1).mp hr2
      · rw [b24 r, if_pos rfl, show fup B r b' r = b' from if_pos rfl]
      · rw [show fup B r b' r = b' from if_pos rfl]
        exact ZNode_eq (S := S1) (by rw [ag5.1 67 (by decide)]; exact Int.le_refl _) (congrFun (ej 23 (by decide) (by decide)) _) (congrFun (ej 25 (by decide) (by decide)) _) (congrFun (ej 26 (by decide) (by decide)) _) (fun f _ => ⟨congrFun (ej 29 (by decide) (by decide)) _, congrFun (ej 30 (by decide) (by decide)) _, congrFun (ej 31 (by decide) (by decide)) _⟩) nd'
    · rw [b39, if_pos rfl]
    · rw [b39, if_neg (by omega)]
    · rw [← hS5]
      show ((E.length : Int) + 1) = _
      rw [List.length_cons]; omega
    · intro t ht
      rcases List.mem_cons.mp ht with q | q
      · rw [q]
        refine ⟨hr1, ?_⟩
        show (if G.1 r = r then ((true, (G.2 r).2) : TN) else G.2 (G.1 r)).1 = true
        rw [if_pos hr2]
      · exact ⟨(hM1.2.2.1.2.2 t q).1, g1' _ (hM1.2.2.1.2.2 t q).2⟩
    · have e1 : zyk S5 = zyk S1 := ag5.2.2.1 23 (by decide)
      have e2 : zyc S5 = zyc S1 := ag5.2.2.1 25 (by decide)
      rw [e1, e2]
      obtain ⟨p1, p2⟩ := hM1.2.2.2 z hz hz'
      by_cases q : z = r
      · subst q
        refine ⟨fun _ => Or.inl ⟨z, List.mem_cons_self .., hz'⟩, fun hd => ?_⟩
        have hd : (B z).2.2.2.2 = true := by
          rw [show fup B z b' z = b' from if_pos rfl] at hd; exact hd
        obtain ⟨w1, w2, w3, w4⟩ := p2 hd
        exact ⟨w1, w2, g1' z w3, w4.imp (cl z) (fun q => q)⟩
      · have gz : (tset G r (true, (G.2 r).2)).2 z = G.2 z := if_neg q
        rw [gz, show fup B r b' z = B z from if_neg q]
        refine ⟨fun he => ?_, fun hd => ?_⟩
        · rcases p1 he with ⟨t, t1, t2⟩ | ⟨w1, w2⟩ | w
          · exact Or.inl ⟨t, List.mem_cons_of_mem _ t1, t2⟩
          · exact Or.inr (Or.inl ⟨cl z w1, w2⟩)
          · exact Or.inr (Or.inr w)
        · obtain ⟨w1, w2, w3, w4⟩ := p2 hd
          exact ⟨w1, w2, w3, w4.imp (cl z) (fun q => q)⟩
    · show S5.2.2.1 25 _ = _
      rw [ag5.2.2.1 25 (by decide)]; exact g2.2 z hz
    · intro t ht
      rcases List.mem_cons.mp ht with q | q
      · rw [q]
        have := hJ.2.2.2.2.2.1 c hc hb (by rw [hrr]; exact hr1)
        rw [hrr] at this; exact this
      · exact hEb t q
    · unfold fup
      by_cases q : z = r
      · rw [if_pos q, q]
      · rw [if_neg q]
end ZAdm
