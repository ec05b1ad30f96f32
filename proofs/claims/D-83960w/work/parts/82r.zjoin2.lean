set_option maxRecDepth 100000
/-! THE REFERENCE'S TYPES: join -/
/-- what a join leaves alone -/
def ZJr (R : Nat → Prop) (S S' : ZS) : Prop := zAg [67, 68, 78, 79] [23, 24, 25, 26, 27, 28, 29, 30, 31, 37, 38, 39, 40, 41] S S' ∧ S.1 67 ≤ S'.1 67 ∧ (∀ f : Nat, R f → zfl S' f = zfl S f ∧ zft S' f = zft S f ∧ zfn S' f = zfn S f) ∧ ∀ y : Nat, zyk S' y = 1 → zyk S y = 1 ∧ zyc S' y = zyc S y
/-- types at rest -/
def ZTG (adm : Nat → Bool) (S : ZS) (μ : Zmp) (G : TG) (n : Nat) (R : Nat → Prop) : Prop := (∃ fl B, ZG S μ G n fl B R ∧ JE adm S μ G n B []) ∧ ZEq S μ n ∧ ZAd S μ adm ∧ zMk S ∧ tRI G n ∧ TGI adm G n
section ZJoin3
variable {adm : Nat → Bool} {d : Nat} {S S1 S' S0 : ZS} {μ : Zmp} {G G' G0 : TG} {n n' m x y z a b n0 : Nat} {fl fl' : Nat → List Nat} {B B' : Nat → Zfl} {F : List Nat} {N : TN} {Q : Option (Option ZV) → ZS → Prop} {i v w c f l t : Int} {R R' : Nat → Prop} {W : TW} {E : List Nat}
theorem ZJr_refl : ZJr R S S := ⟨zAg_refl, Int.le_refl _, fun _ _ => ⟨rfl, rfl, rfl⟩, fun _ h => ⟨h, rfl⟩⟩
theorem ZJr_trans {S'' : ZS} (h : ZJr R S S') (h' : ZJr R S' S'') : ZJr R S S'' := ⟨zAg_trans h.1 h'.1, by have := h.2.1; have := h'.2.1; omega, fun f hf => by
  obtain ⟨a1, a2, a3⟩ := h.2.2.1 f hf
  obtain ⟨b1, b2, b3⟩ := h'.2.2.1 f hf
  exact ⟨b1.trans a1, b2.trans a2, b3.trans a3⟩, fun y hy => by
  obtain ⟨q1, q2⟩ := h'.2.2.2 y hy
  obtain ⟨r1, r2⟩ := h.2.2.2 y q1
  exact ⟨r1, q2.trans r2⟩⟩
theorem ZJr_of (h : ZJf R S S') : ZJr R S S' := ⟨zAg_mono h.1 (by decide) (by decide), h.2⟩
theorem ZJr_ag {F A : List Nat} (h : zAg F A S S') (hF : ∀ f ∈ F, f ∈ [68, 78, 79]) (hA : ∀ f ∈ A, f ∈ [24, 25, 26, 27, 28, 37, 38, 39, 40, 41]) (hc : ∀ z : Nat, zyk S z ≠ 4 → zyc S' z = zyc S z) : ZJr R S S' := by
  have h := zAg_mono h hF hA
  have e23 : zyk S' = zyk S := h.2.2.1 23 (by decide)
  refine ⟨zAg_mono h (by decide) (by decide), by rw [h.1 67 (by decide)]; exact Int.le_refl _, fun f _ => ⟨congrFun (h.2.2.1 29 (by decide)) _, congrFun (h.2.2.1 30 (by decide)) _, congrFun (h.2.2.1 31 (by decide)) _⟩, fun y hy => ?_⟩
  rw [e23] at hy
  exact ⟨hy, hc y (by rw [hy]; decide)⟩
theorem ZAd_r (h : ZJr R S S') (q : ZAd S μ adm) : ZAd S' μ adm := ⟨⟨q.1.1, fun c hc => by rw [h.1.2.2.1 36 (by decide)]; exact q.1.2 c hc⟩, q.2⟩
theorem ZEq_r (h : ZJr R S S') (q : ZEq S μ n) : ZEq S' μ n := by
  intro z hz hk
  obtain ⟨k1, k2⟩ := h.2.2.2 z hk
  rw [k2, h.1.2.2.1 3 (by decide), h.1.2.2.1 4 (by decide), h.1.2.2.1 5 (by decide)]
  exact q z hz k1
theorem JI_start (hw : tWF G n) (hx : x < n) (hy : y < n) : JI G n x y G n [(x, y)] := by
  have bx : tBel G x y x := ⟨[], Or.inl rfl⟩
  have b_y : tBel G x y y := ⟨[], Or.inr rfl⟩
  refine ⟨hw, fun q hq => ?_, fun adm w hs hq => ⟨hs, hq (x, y) (List.mem_cons_self ..)⟩, fun adm w hs hv => ⟨w, fun _ _ => rfl, hs, fun q hq => ?_⟩, ⟨Nat.le_refl _, fun z _ hr => Or.inr ⟨hr, rfl⟩, fun z hz hr => Or.inl ⟨hz, hr, rfl⟩⟩, fun c hc hb _ => ?_, fun z hz hr k hg => ⟨hr, hg⟩, fun z hz hr k hg => ⟨hz, hr, hg⟩, fun z hz => ((hw.1 z hz).2).symm⟩
  · have : q = (x, y) := by simpa using hq
    subst this
    exact ⟨⟨hx, bx⟩, hy, b_y⟩
  · have : q = (x, y) := by simpa using hq
    subst this
    exact hv
  · obtain ⟨p, q⟩ := hb
    exact ⟨p, by rw [(hw.1 c hc).2]; exact q⟩
theorem JI_RI (h : JI G0 n0 x y G n W) (q : tRI G0 n0) : tRI G n := by
  intro z z' k hz hz' hr hr' g g'
  obtain ⟨a1, a2, e1, a3⟩ := h.2.2.2.2.2.2.2.1 z hz hr k ⟨(G.2 z).1, Prod.ext rfl g⟩
  obtain ⟨b1, b2, e2, b3⟩ := h.2.2.2.2.2.2.2.1 z' hz' hr' k ⟨(G.2 z').1, Prod.ext rfl g'⟩
  exact q z z' k a1 b1 a2 b2 (by rw [a3]) (by rw [b3])
theorem JRes_eq2 (hx : x < n0) (h : JI G0 n0 x y G n []) (hf : tFinS G n) {G1 : TG} (h1 : JI G0 n0 x y G1 n []) (hr : ∀ w, ¬ (tSol adm G1 n w ∧ tGen G1 n w)) : JRes adm G0 n0 x y 10 G1 n := by
  obtain ⟨s1, s2⟩ := tSol_ext h.1
  obtain ⟨q0, q9⟩ := JI_nil h
  obtain ⟨_, q8⟩ := JI_nil h1
  obtain ⟨q1, q2⟩ := q0 _ _ s1
  refine Or.inr (Or.inr (Or.inl ⟨rfl, ⟨_, q1, JI_gen' h s2, q2, tV_fin h.1 hf tU0_fin x (by have := h.2.2.2.2.1.1; omega)⟩, ?_⟩))
  rintro w ⟨r1, r2, r3⟩
  obtain ⟨w', p1, p2⟩ := q8 _ w r1 r3
  exact hr w' ⟨p2, JI_gen h1 p1 r2⟩
/-- what is left when all waits are over -/
theorem ZM_rest (h : ZM adm S μ G n fl B R W []) (hA : ZAd S μ adm) : tClo adm G n ∧ tRE adm G n := by
  obtain ⟨hG, _, _, hJ⟩ := h
  constructor
  · intro z hz hr lab loose kids hg
    rcases (hJ z hz hr).1 (by rw [hg]) with ⟨t, m, _⟩ | ⟨q, _⟩
    · exact absurd m List.not_mem_nil
    · exact q lab loose kids (by rw [hg])
  · intro z hz hr k hg
    rcases (hJ z hz hr).1 (by rw [hg]) with ⟨t, m, _⟩ | ⟨_, q⟩
    · exact absurd m List.not_mem_nil
    · rcases hG.2.2.2.2.1 z hz hr with ⟨_, q1, _⟩ | ⟨q0, ⟨i, q1, q2⟩, _⟩ | ⟨_, _, q1, _⟩ | ⟨_, _, q1, _⟩
      · rw [hg] at q1
        have := congrArg Prod.snd q1
        have this : (Sum.inl (k + 2) : Nat ⊕ (Nat × Bool × List (Ky × Nat))) = Sum.inl (if (B z).2.1 then 1 else 0) := this
        have := Sum.inl.inj this
        split at this <;> omega
      · rw [hg] at q1
        have := congrArg Prod.snd q1
        have this : (Sum.inl (k + 2) : Nat ⊕ (Nat × Bool × List (Ky × Nat))) = Sum.inl (i + 2) := this
        have := Sum.inl.inj this
        have : k = i := by omega
        rw [this, hA.2.2.2 i, q2]
        exact q q0
      · rw [hg] at q1
        have := congrArg Prod.snd q1
        cases this
      · rw [hg] at q1
        have := congrArg Prod.snd q1
        cases this
def ZJo (adm : Nat → Bool) (R : Nat → Prop) (S0 : ZS) (μ : Zmp) (G0 : TG) (n x y : Nat) (Y : Int) (r : Int) (S' : ZS) : Prop := ZJr R S0 S' ∧ S'.1 68 ≤ S0.1 68 + 2 ∧ zMk S' ∧ ∃ G', JRes adm G0 n x y r G' n ∧ (r = 0 → ZTG adm S' μ G' n R ∧ zY (S'.1 67) G' n ≤ Y ∧ JI G0 n x y G' n [])
theorem tPhd_le : tPhd G B n ≤ tPhi G n := by
  have := isum_nn (n := n) (d := fun z => @ite Int (G.1 z = z) (Classical.propDecidable _) ((tkids (G.2 z)).length : Int) 0 - @ite Int (G.1 z = z ∧ (B z).2.2.2.2 = false) (Classical.propDecidable _) ((tkids (G.2 z)).length : Int) 0) (fun z _ => by
    show 0 ≤ _ - _
    by_cases q : G.1 z = z ∧ (B z).2.2.2.2 = false
    · rw [if_pos q, if_pos q.1]; omega
    · rw [if_neg q]; split <;> omega)
  rw [isum_sub] at this
  unfold tPhd tPhi
  omega
theorem zMk_a {F A : List Nat} (h : zAg F A S S') (hF : 68 ∉ F) (hA : 27 ∉ A) (q : zMk S) : zMk S' := by
  obtain ⟨q1, q2⟩ := q
  have e : zymk S' = zymk S := h.2.2.1 27 hA
  unfold zMk
  rw [h.1 68 hF, e]
  exact ⟨q1, q2⟩
theorem zY_eq (h1 : G'.1 = G.1) (h2 : ∀ y, (G'.2 y).2 = (G.2 y).2) : zY v G' n = zY v G n := by
  have e1 : tlo G' = tlo G := funext fun z => by
    unfold tlo
    have := h2 z
    rw [h1]
    generalize G'.2 z = N' at *
    generalize G.2 z = N1 at *
    obtain ⟨_, N'⟩ := N'
    obtain ⟨_, N1⟩ := N1
    have this : N' = N1 := this
    subst this
    rcases N' with o | ⟨lab, b, kids⟩
    · rfl
    · cases b <;> rfl
  have e2 : tln G' = tln G := funext fun z => by
    unfold tln
    have := h2 z
    rw [h1]
    generalize G'.2 z = N' at *
    generalize G.2 z = N1 at *
    obtain ⟨_, N'⟩ := N'
    obtain ⟨_, N1⟩ := N1
    have this : N' = N1 := this
    subst this
    rcases N' with o | ⟨lab, b, kids⟩
    · rfl
    · cases b <;> rfl
  unfold zY tK1 tK2 tKN
  rw [e1, e2]
theorem tFinS_same (h1 : G'.1 = G.1) (h2 : ∀ y, (G'.2 y).2 = (G.2 y).2) (h : tFinS G n) : tFinS G' n := by
  obtain ⟨w, hs, hf⟩ := h
  refine ⟨w, ⟨fun x hx => by rw [h1]; exact hs.1 x hx, fun x hx hr => ?_⟩, hf⟩
  rw [h1] at hr
  exact ⟨fun _ => tEq_t, by rw [h2]; exact (hs.2 x hx hr).2⟩
/-- the end of a join -/
theorem z_joined_end (hw0 : tWF G0 n) (hf0 : tFinS G0 n) (hri : tRI G0 n) (hμ : Mok μ) (hx : x < n) (hy : y < n) (hJ : JI G0 n x y G n []) (h : ZM adm S μ G n fl B R W E) (hE : ∀ t ∈ E, tBel G0 x y t) (hA : ZAd S μ adm) (hV : ZEq S μ n) (hm : zMk S) (h68 : S.1 68 ≤ 1999999990) (hM : (E.length : Int) + tPhi G n ≤ 56999) : zW (ZL (d + 3) 625 [.inl (x : Int), .inl 1] S) (oI (fun r S' => ZJo adm R S μ G0 n x y (zY (S.1 67) G n) r S') (fun _ => False)) := by
  obtain ⟨S1, g1, g2, g3⟩ := z_find (d := d + 2) h.1 hx
  obtain ⟨r1, r2⟩ := hJ.1.1 x hx
  have e23 : zyk S1 = zyk S := g2.1.2.2.1 23 (by decide)
  have j1 : ZJr R S S1 := ZJr_ag g2.1 (by decide) (by decide) g2.2
  have m1 : zMk S1 := zMk_a g2.1 (by decide) (by decide) hm
  have e68 : S1.1 68 = S.1 68 := g2.1.1 68 (by decide)
  have wx : ∀ adm' w, tSol adm' G n w → w x = w (G.1 x) := fun adm' w hs => hs.1 x hx
  refine zl_joined_p73 ?_
  unfold zb_joined_p73
  refine zW_f (by decide) (zW_Ie (zc_s.trans g1) (zW_I (P := _) (T := fun _ => False) (by exact (z_isEndless (d := d + 1) g3 hJ.1 r1 r2 m1 (by omega))) (fun r S3 hr => ?_) (fun S3 q => False.elim q)))
  obtain ⟨w1, w2, w3, w4, w5⟩ := hr
  have j3 : ZJr R S S3 := ZJr_trans j1 (ZJr_ag w1.1 (by decide) (by decide) w1.2)
  rcases w5 with ⟨rfl, w5⟩ | ⟨rfl, w5⟩
  · refine zW_f (by decide) (zW_rI ⟨j3, by omega, w4, G, JRes_ring hx hJ (fun w hq => w5 w ⟨hq.1, ?_⟩), fun q => by cases q⟩)
    rw [← wx _ w hq.1]; exact hq.2
  · have fx : tFin (tV G (tU0 G) x) := by
      have : tV G (tU0 G) x = tV G (tU0 G) (G.1 x) := funext fun p => tW_root r2 p
      rw [this]; exact w5
    have hf := JI_fin hw0 hf0 hx hy hJ fx
    have f1 : zAg [68] [25, 27, 28, 40, 41] S S3 := zAg_trans (zAg_mono g2.1 (by decide) (by decide)) w1.1
    have k3 : zyk S3 = zyk S := f1.2.2.1 23 (by decide)
    have M3 : ZM adm S3 μ G n fl B R W E := by
      refine ⟨w2, ⟨zWs_a (f1.2.2.1 37 (by decide)) (f1.2.2.1 38 (by decide)) h.2.1.1, by rw [f1.1 78 (by decide)]; exact h.2.1.2⟩, ⟨zEs_a (f1.2.2.1 39 (by decide)) h.2.2.1.1, by rw [f1.1 79 (by decide)]; exact h.2.2.1.2.1, h.2.2.1.2.2⟩, fun z hz hr => ?_⟩
      have := h.2.2.2 z hz hr
      rw [k3, w1.2 z (by rw [e23]; exact (ZG_root h.1 hz).mp hr), g2.2 z ((ZG_root h.1 hz).mp hr)]
      exact this
    refine zW_t rfl (zW_I (P := _) (T := fun _ => False) (by exact (z_admit_loop (d := d) hμ hw0 hx hy _ S3 G B E (Nat.le_refl _) hJ M3 (ZAd_r j3 hA) (ZEq_r j3 hV) hE (by have := tPhd_le (G := G) (B := B) (n := n); omega))) (fun r S5 hr => ?_) (fun S5 q => False.elim q))
    obtain ⟨a1, a2⟩ := hr
    have j5 : ZJr R S S5 := ZJr_trans j3 (ZJr_ag a1.1 (by decide) (by decide) a1.2)
    have m5 : zMk S5 := zMk_a a1.1 (by decide) (by decide) w4
    have e5 : S5.1 68 = S3.1 68 := a1.1.1 68 (by decide)
    rcases a2 with ⟨rfl, G', b1, b2⟩ | ⟨rfl, G', B', b1, b2, b3, b4⟩
    · exact zW_t rfl (zW_rI ⟨j5, by omega, m5, G', JRes_eq2 hx hJ hf b1 b2, fun q => by cases q⟩)
    · have A5 := ZAd_r j5 hA
      obtain ⟨c1, c2⟩ := ZM_rest b2 A5
      have fin : TGI adm G' n := by
        exact ⟨b1.1, tFinS_same b3 b4 hf, c1, c2, A5.2.2.1⟩
      refine zW_f (by decide) (zW_rI ⟨j5, by omega, m5, G', Or.inr (Or.inr (Or.inr ⟨rfl, fin, b1⟩)), fun _ => ⟨⟨⟨fl, B', b2.1, b2.2.2.2⟩, ZEq_r j5 hV, A5, m5, JI_RI b1 hri, fin⟩, ?_, b1⟩⟩)
      have e67 : S5.1 67 = S.1 67 := by rw [a1.1.1 67 (by decide), f1.1 67 (by decide)]
      rw [e67, zY_eq b3 b4]
      exact Int.le_refl _
theorem ZJo_of {Y Y' r : Int} (j : ZJr R S S1) (h68 : S1.1 68 = S.1 68) (hY : Y ≤ Y') (h : ZJo adm R S1 μ G0 n x y Y r S') : ZJo adm R S μ G0 n x y Y' r S' := by
  obtain ⟨h1, h2, h3, G', h4, h5⟩ := h
  refine ⟨ZJr_trans j h1, by omega, h3, G', h4, fun q => ?_⟩
  obtain ⟨q1, q2, q3⟩ := h5 q
  exact ⟨q1, by omega, q3⟩
theorem z_joined_no (h : Q (some (some (.inl 8))) S) : zW (ZL d 431 [.inl (x : Int), .inl 0] S) Q := by
  have e : ZL d 431 [.inl (x : Int), .inl 0] S = some (some (some (.inl 8)), S) := by
    refine zW_get (zl_joined_p18 ?_)
    unfold zb_joined_p18
    have k : zW (ZL d 625 [.inl (x : Int), .inl 0] S) (fun o S' => o = some (some (.inl 8)) ∧ S' = S) := by
      refine zl_joined_p73 ?_
      unfold zb_joined_p73
      exact zW_t rfl (zW_rI ⟨rfl, rfl⟩)
    exact zW_if (fun _ => k) (fun _ => zW_t rfl k)
  exact zW_eq e h
theorem z_joined_loop (hμ : Mok μ) (hri : tRI G0 n) (hw0 : tWF G0 n) (hf0 : tFinS G0 n) (hx : x < n) (hy : y < n) {Y : Int} (hY : Y ≤ 4559920) : ∀ (M : Nat) (S : ZS) (G : TG) (fl : Nat → List Nat) (B : Nat → Zfl) (W : TW) (E : List Nat), 60000 * troots G n + W.length ≤ M → JI G0 n x y G n W → ZM adm S μ G n fl B R W E → (∀ t ∈ E, tBel G0 x y t) → ZAd S μ adm → ZEq S μ n → zMk S → S.1 68 ≤ 1999999990 → (E.length : Int) + W.length + tPhi G n ≤ 56999 → zY (S.1 67) G n ≤ Y → zW (ZL (d + 5) 431 [.inl (x : Int), .inl 1] S) (oI (fun r S' => ZJo adm R S μ G0 n x y Y r S') (fun _ => False)) := by
  intro M
  induction M with
  | zero =>
    intro S G fl B W E hM hJ h hE hA hV hm h68 hP hYY
    have : W = [] := List.length_eq_zero_iff.mp (by omega)
    subst this
    refine zl_joined_p18 ?_
    unfold zb_joined_p18
    have := h.2.1.2
    rw [List.length_nil] at this hP
    refine zW_t (by omega) (zW_mono (z_joined_end (d := d + 2) hw0 hf0 hri hμ hx hy hJ h hE hA hV hm h68 (by omega)) (fun o S' hq => ?_))
    rcases o with _ | _ | r | r | r
    · exact hq
    · exact hq
    · exact ZJo_of ZJr_refl rfl hYY hq
    · exact hq
    · exact hq
  | succ M ih =>
    intro S G fl B W E hM hJ h hE hA hV hm h68 hP hYY
    cases W with
    | nil =>
      refine zl_joined_p18 ?_
      unfold zb_joined_p18
      have := h.2.1.2
      rw [List.length_nil] at this hP
      refine zW_t (by omega) (zW_mono (z_joined_end (d := d + 2) hw0 hf0 hri hμ hx hy hJ h hE hA hV hm h68 (by omega)) (fun o S' hq => ?_))
      rcases o with _ | _ | r | r | r
      · exact hq
      · exact hq
      · exact ZJo_of ZJr_refl rfl hYY hq
      · exact hq
      · exact hq
    | cons q W =>
      obtain ⟨a0, b0⟩ := q
      rw [List.length_cons] at hM hP
      have e78 := h.2.1.2
      rw [List.length_cons] at e78
      have hPhi : 0 ≤ tPhi G n := isum_nn (fun z _ => by split <;> omega)
      obtain ⟨⟨ha0, ba0⟩, hb0, bb0⟩ := hJ.2.1 (a0, b0) (List.mem_cons_self ..)
      have hnn := hJ.2.2.2.2.1.1
      refine zl_joined_p18 ?_
      unfold zb_joined_p18
      refine zW_f (by omega) (zW_f (by decide) (zW_G (by omega) (zW_p ?_)))
      rw [show S.1 78 - 1 = (W.length : Int) by omega]
      have ag1 : zAg [78] [] S (zput S 78 (W.length : Int)) := zAg_put (by decide) zAg_refl
      rw [show (zput S 78 (W.length : Int)).1 78 = (W.length : Int) from rfl]
      refine zW_a (by omega) ?_
      rw [show (zput S 78 (W.length : Int)).2.2.1 37 (W.length : Int) = (a0 : Int) from h.2.1.1.1]
      have hG1 : ZG (zput S 78 (W.length : Int)) μ G n fl B R := ZG_ag h.1 ag1 (by decide) (by decide)
      obtain ⟨S3, g1, g2, g3⟩ := z_find (d := d + 4) hG1 ha0
      refine zW_Ie (zc_s.trans g1) ?_
      rw [show S3.1 78 = (W.length : Int) by rw [g2.1.1 78 (by decide)]; rfl]
      refine zW_a (by omega) ?_
      rw [show S3.2.2.1 38 (W.length : Int) = (b0 : Int) by rw [g2.1.2.2.1 38 (by decide)]; exact h.2.1.1.2.1]
      obtain ⟨S6, k1, k2, k3⟩ := z_find (d := d + 4) g3 hb0
      refine zW_Ie (zc_s.trans k1) ?_
      have ag6 : zAg [78] [25] S S6 := zAg_trans (zAg_mono ag1 (by decide) (by decide)) (zAg_trans (zAg_mono g2.1 (by decide) (by decide)) (zAg_mono k2.1 (by decide) (by decide)))
      have c6 : ∀ z : Nat, zyk S z ≠ 4 → zyc S6 z = zyc S z := fun z hz => by
        have e3 : zyk S3 = zyk S := g2.1.2.2.1 23 (by decide)
        rw [k2.2 z (by rw [e3]; exact hz), g2.2 z hz]; rfl
      have j6 : ZJr R S S6 := ZJr_ag ag6 (by decide) (by decide) c6
      have k6 : zyk S6 = zyk S := ag6.2.2.1 23 (by decide)
      have M6 : ZM adm S6 μ G n fl B R W E := by
        refine ⟨k3, ⟨zWs_a (ag6.2.2.1 37 (by decide)) (ag6.2.2.1 38 (by decide)) h.2.1.1.2.2, ?_⟩, ⟨zEs_a (ag6.2.2.1 39 (by decide)) h.2.2.1.1, by rw [ag6.1 79 (by decide)]; exact h.2.2.1.2.1, h.2.2.1.2.2⟩, fun z hz hr => ?_⟩
        · rw [k2.1.1 78 (by decide), g2.1.1 78 (by decide)]; rfl
        · have := h.2.2.2 z hz hr
          rw [k6, c6 z ((ZG_root h.1 hz).mp hr)]
          exact this
      have m6 : zMk S6 := zMk_a ag6 (by decide) (by decide) hm
      have e68 : S6.1 68 = S.1 68 := ag6.1 68 (by decide)
      have e67 : S6.1 67 = S.1 67 := ag6.1 67 (by decide)
      by_cases hab : G.1 a0 = G.1 b0
      · have em : ZL (d + 4) 139 [.inl (G.1 a0 : Nat), .inl (G.1 b0 : Nat)] S6 = some (some (some (.inl 1)), S6) := by
          refine zW_get (zl_merge ?_)
          unfold zb_merge
          exact zW_t (by rw [hab]) (zW_rZ (Or.inr rfl) ⟨rfl, rfl⟩)
        refine zW_Ie (zc_s.trans em) (zW_let ?_)
        refine zW_mono (ih S6 G fl B W E (by omega) (JI_pop hJ hab) M6 hE (ZAd_r j6 hA) (ZEq_r j6 hV) m6 (by omega) (by omega) (by rw [e67]; exact hYY)) (fun o S' hq => ?_)
        rcases o with _ | _ | r | r | r
        · exact hq
        · exact hq
        · exact ZJo_of j6 e68 (Int.le_refl _) hq
        · exact hq
        · exact hq
      · refine zW_I (P := _) (T := fun _ => False) (by exact (z_merge (d := d) hμ hri hw0 hx hy hJ rfl rfl M6 hab (by omega) (by rw [e67]; omega))) (fun r S8 hr => zW_let ?_) (fun S8 q => False.elim q)
        rcases hr with ⟨rfl, j8, h8⟩ | ⟨rfl, j8, G', fl', B', W', E', a1, a2, a3, a4, a5, a6⟩
        · refine z_joined_no ?_
          have m8 : zMk S8 := zMk_a j8.1 (by decide) (by decide) m6
          have e8 : S8.1 68 = S6.1 68 := j8.1.1 68 (by decide)
          have j8 := ZJr_trans j6 (ZJr_of j8)
          exact ⟨j8, by omega, m8, G, Or.inl ⟨rfl, JI_clash hJ (Or.inl ⟨rfl, rfl⟩) h8⟩, fun q => by cases q⟩
        · have m8 : zMk S8 := zMk_a j8.1 (by decide) (by decide) m6
          have e8 : S8.1 68 = S6.1 68 := j8.1.1 68 (by decide)
          have j8 := ZJr_trans j6 (ZJr_of j8)
          rw [e67] at a5
          have hPhi2 : 0 ≤ tPhi G' n := isum_nn (fun z _ => by split <;> omega)
          refine zW_mono (ih S8 G' fl' B' W' E' (by omega) a1 a2 (fun t m => (a6 t m).elim (hE t) (fun q => q)) (ZAd_r j8 hA) (ZEq_r j8 hV) m8 (by omega) (by omega) (by omega)) (fun o S' hq => ?_)
          rcases o with _ | _ | r | r | r
          · exact hq
          · exact hq
          · exact ZJo_of j8 (by omega) (Int.le_refl _) hq
          · exact hq
          · exact hq
/-- two types are made one -/
theorem z_joined (hμ : Mok μ) (hG : ZTG adm S μ G n R) (hx : x < n) (hy : y < n) (h68 : S.1 68 ≤ 1999999990) (hP : tPhi G n ≤ 56998) (hY : zY (S.1 67) G n ≤ 4559920) : zW (ZL (d + 5) 137 [.inl (x : Int), .inl (y : Int)] S) (oI (fun r S' => ZJo adm R S μ G n x y (zY (S.1 67) G n) r S') (fun _ => False)) := by
  obtain ⟨⟨fl, B, h1, h2⟩, hV, hA, hm, hri, hT⟩ := hG
  refine zl_joined ?_
  unfold zb_joined
  refine zW_p (zW_p (zW_Ve (zc_s.trans (z_later (m := 0) rfl (by omega))) (zW_let ?_)))
  generalize hS : zlat (zput (zput S 78 0) 79 0) 0 (x : Int) (y : Int) = S1
  have ag : zAg [78, 79] [37, 38] S S1 := by rw [← hS]; exact zAg_trans (zAg_put (by decide) (zAg_put (by decide) zAg_refl)) (zAg_mono zlat_ag (by decide) (by decide))
  have j1 : ZJr R S S1 := ZJr_ag ag (by decide) (by decide) (fun z _ => congrFun (ag.2.2.1 25 (by decide)) _)
  have e23 : zyk S1 = zyk S := ag.2.2.1 23 (by decide)
  have e25 : zyc S1 = zyc S := ag.2.2.1 25 (by decide)
  have e67 : S1.1 67 = S.1 67 := ag.1 67 (by decide)
  have e68 : S1.1 68 = S.1 68 := ag.1 68 (by decide)
  refine zW_mono (z_joined_loop (R := R) (d := d) hμ hri hT.1 hT.2.1 hx hy (Y := zY (S.1 67) G n) hY _ S1 G fl B [(x, y)] [] (Nat.le_refl _) (JI_start hT.1 hx hy) ⟨ZG_ag h1 ag (by decide) (by decide), ⟨?_, ?_⟩, ⟨trivial, ?_, fun t m => absurd m List.not_mem_nil⟩, fun z hz hr => ?_⟩ (fun t m => absurd m List.not_mem_nil) (ZAd_r j1 hA) (ZEq_r j1 hV) (zMk_a ag (by decide) (by decide) hm) (by omega) ?_ (by rw [e67]; exact Int.le_refl _)) (fun o S' hq => ?_)
  · rw [← hS]
    exact zlat_W (q := (x, y)) (W := []) trivial rfl
  · rw [← hS]; rfl
  · rw [← hS]; rfl
  · rw [e23, e25]; exact h2 z hz hr
  · rw [List.length_singleton, List.length_nil]; omega
  · rcases o with _ | _ | r | r | r
    · exact hq
    · exact hq
    · exact ZJo_of j1 e68 (Int.le_refl _) hq
    · exact hq
    · exact hq
/-- a join in the text: what it finds, it says -/
theorem z_join (hμ : Mok μ) (hG : ZTG adm S μ G n R) (hx : x < n) (hy : y < n) (h68 : S.1 68 ≤ 1999999990) (hP : tPhi G n ≤ 56998) (hY : zY (S.1 67) G n ≤ 4559920) : zW (ZL (d + 6) 136 [.inl (x : Int), .inl (y : Int), .inl w] S) (fun o S' => ∃ r S1, ZJo adm R S μ G n x y (zY (S.1 67) G n) r S1 ∧ ((o = some none ∧ r = 0 ∧ S' = S1) ∨ (o = none ∧ r > 0 ∧ S' = zthr S1 r w))) := by
  refine zl_join ?_
  unfold zb_join
  refine zW_I (P := _) (T := fun _ => False) (by exact (z_joined (d := d) hμ hG hx hy h68 hP hY)) (fun r S1 h => zW_let ?_) (fun S1 q => False.elim q)
  refine zW_if (fun e => zW_rV ⟨r, S1, h, Or.inl ⟨rfl, ?_, rfl⟩⟩) (fun e => zW_thr ⟨r, S1, h, Or.inr ⟨rfl, by omega, rfl⟩⟩)
  obtain ⟨_, _, _, G', h4, _⟩ := h
  rcases h4 with ⟨q, _⟩ | ⟨q, _⟩ | ⟨q, _⟩ | ⟨q, _⟩ <;> omega
end ZJoin3
