set_option maxRecDepth 100000
/-! THE REFERENCE'S TYPES: merge -/
section ZMrg3
variable {adm : Nat → Bool} {d : Nat} {S S1 S' S0 : ZS} {μ : Zmp} {G G' G0 : TG} {n n' m x y z a b a0 b0 : Nat} {fl fl' : Nat → List Nat} {B B' : Nat → Zfl} {F P K T O L FA FB : List Nat} {N : TN} {Q : Option (Option ZV) → ZS → Prop} {i v w k c f l t : Int} {R R' : Nat → Prop} {W W1 : TW} {E : List Nat}
theorem ZStep_swap {r : Int} (h : ZStep adm G0 n x y S μ G R W E a b r S') : ZStep adm G0 n x y S μ G R W E b a r S' := by
  rcases h with ⟨h1, h2, h3⟩ | h
  · exact Or.inl ⟨h1, h2, fun w hq => h3 w ⟨hq.1, hq.2.1, hq.2.2.symm⟩⟩
  · exact Or.inr h
theorem ZG_kind (h : ZG S μ G n fl B R) (hx : x < n) (hr : G.1 x = x) : zyk S x = 0 ∨ zyk S x = 1 ∨ zyk S x = 2 ∨ zyk S x = 3 := by
  rcases h.2.2.2.2.1 x hx hr with ⟨q, _⟩ | ⟨q, _⟩ | ⟨q, _⟩ | ⟨q, _⟩
  · exact Or.inl q
  · exact Or.inr (Or.inl q)
  · exact Or.inr (Or.inr (Or.inl q))
  · exact Or.inr (Or.inr (Or.inr q))
theorem ZG_0 (h : ZG S μ G n fl B R) (hx : x < n) (hr : G.1 x = x) (hk : zyk S x = 0) : G.2 x = ((B x).1, .inl (if (B x).2.1 then 1 else 0)) ∧ fl x = [] := by
  rcases h.2.2.2.2.1 x hx hr with ⟨_, q⟩ | ⟨q, _⟩ | ⟨q, _⟩ | ⟨q, _⟩
  · exact q
  · rw [hk] at q; cases q
  · rw [hk] at q; cases q
  · rw [hk] at q; cases q
theorem ZG_1 (h : ZG S μ G n fl B R) (hx : x < n) (hr : G.1 x = x) (hk : zyk S x = 1) : ∃ i, G.2 x = (mE μ (zyc S x) || (B x).1, .inl (i + 2)) ∧ mR μ i = mE μ (zyc S x) := by
  rcases h.2.2.2.2.1 x hx hr with ⟨q, _⟩ | ⟨_, q, _⟩ | ⟨q, _⟩ | ⟨q, _⟩
  · rw [hk] at q; cases q
  · exact q
  · rw [hk] at q; cases q
  · rw [hk] at q; cases q
theorem ZG_2 (h : ZG S μ G n fl B R) (hx : x < n) (hr : G.1 x = x) (hk : zyk S x = 2) : (0 ≤ zyc S x ∧ zyc S x < mT μ) ∧ G.2 x = ((B x).1, .inr (mC μ (zyc S x).toNat, false, zkd S kA (fl x))) ∧ ZCh S (fl x) (zy1 S x) ∧ (fl x).map (zfl S ∘ Nat.cast) = (List.range (mA μ (zyc S x).toNat)).map Nat.cast := by
  rcases h.2.2.2.2.1 x hx hr with ⟨q, _⟩ | ⟨q, _⟩ | ⟨_, q⟩ | ⟨q, _⟩
  · rw [hk] at q; cases q
  · rw [hk] at q; cases q
  · exact q
  · rw [hk] at q; cases q
theorem ZG_3 (h : ZG S μ G n fl B R) (hx : x < n) (hr : G.1 x = x) (hk : zyk S x = 3) : 0 ≤ zyc S x ∧ G.2 x = ((B x).1, .inr (2, (B x).2.2.2.1, zkd S (mK μ) (fl x))) ∧ ZCh S (fl x) (zy1 S x) ∧ zsrt S (fl x) ∧ ∀ f ∈ fl x, mL μ (zfl S (f : Nat)) = true := by
  rcases h.2.2.2.2.1 x hx hr with ⟨q, _⟩ | ⟨q, _⟩ | ⟨q, _⟩ | ⟨_, q⟩
  · rw [hk] at q; cases q
  · rw [hk] at q; cases q
  · rw [hk] at q; cases q
  · exact q
/-- what a place has: a label that is not of a variable -/
theorem ZG_lab (hμ : Mok μ) (h : ZG S μ G n fl B R) (hx : x < n) (hr : G.1 x = x) (hk : zyk S x = 2 ∨ zyk S x = 3) : ∃ lab loose kids, G.2 x = ((B x).1, .inr (lab, loose, kids)) ∧ lab % 3 ≠ 1 ∧ ((lab = 0 ∨ lab = 3 ∨ lab = 6) → zyk S x = 2 ∧ zyc S x ≤ 2) ∧ (zyk S x = 2 ∧ zyc S x ≤ 2 → (lab = 0 ∨ lab = 3 ∨ lab = 6) ∧ loose = false ∧ kids = []) ∧ (zyk S x = 3 ↔ lab = 2) := by
  rcases hk with hk | hk
  · obtain ⟨⟨c0, cT⟩, g, ch, ar⟩ := ZG_2 h hx hr hk
    refine ⟨_, _, _, g, ?_, fun q => ⟨hk, ?_⟩, fun q => ⟨?_, rfl, ?_⟩, ?_⟩
    · rcases hμ.2.1 (zyc S x).toNat with q | q <;> omega
    · obtain ⟨m0, m1, m2, _, _⟩ := hμ.1
      have hT := hμ.2.2.2.1.2.2.2
      rcases q with q | q | q
      · have := hμ.2.2.1 _ 0 (by omega) (by omega) (q.trans m0.symm); omega
      · have := hμ.2.2.1 _ 1 (by omega) (by omega) (q.trans m1.symm); omega
      · have := hμ.2.2.1 _ 2 (by omega) (by omega) (q.trans m2.symm); omega
    · obtain ⟨m0, m1, m2, _, _⟩ := hμ.1
      have : (zyc S x).toNat = 0 ∨ (zyc S x).toNat = 1 ∨ (zyc S x).toNat = 2 := by omega
      rcases this with q | q | q <;> rw [q]
      · exact Or.inl m0
      · exact Or.inr (Or.inl m1)
      · exact Or.inr (Or.inr m2)
    · have ar0 : mA μ (zyc S x).toNat = 0 := by
        have : (zyc S x).toNat = 0 ∨ (zyc S x).toNat = 1 ∨ (zyc S x).toNat = 2 := by omega
        rcases this with q | q | q <;> rw [q]
        · exact hμ.2.2.2.1.1
        · exact hμ.2.2.2.1.2.1
        · exact hμ.2.2.2.1.2.2.1
      rw [ar0] at ar
      have : fl x = [] := List.map_eq_nil_iff.mp ar
      rw [this]; rfl
    · rw [hk]
      constructor
      · intro q; cases q
      · intro q
        rcases hμ.2.1 (zyc S x).toNat with w | w <;> omega
  · obtain ⟨c0, g, ch, sr, lv⟩ := ZG_3 h hx hr hk
    refine ⟨_, _, _, g, by decide, fun q => by omega, fun q => ?_, by rw [hk]; exact ⟨fun _ => rfl, fun _ => rfl⟩⟩
    rw [hk] at q; cases q.1
/-- variables of a text have each its own place -/
def tRI (G : TG) (n : Nat) : Prop := ∀ z z' k, z < n → z' < n → G.1 z = z → G.1 z' = z' → (G.2 z).2 = .inl (k + 2) → (G.2 z').2 = .inl (k + 2) → z = z'
/-- an unknown one's order goes over -/
theorem ZM_ord (h : ZM adm S μ G n fl B R W E) (hb : b < n) (rb : G.1 b = b) (kb : zyk S b = 0) {o : Bool} : ZM adm (zset S 24 b (zfb ((B b).1, o, (B b).2.2))) μ (tset G b ((B b).1, .inl (if o then 1 else 0))) n fl (fup B b ((B b).1, o, (B b).2.2)) R W E := by
  obtain ⟨gb, fb⟩ := ZG_0 h.1 hb rb kb
  have e24 : ∀ z : Nat, z ≠ b → zyf (zset S 24 b (zfb ((B b).1, o, (B b).2.2))) z = zyf S z := fun z hz => if_neg (fun q => hz (by omega))
  have ej : ∀ j, j ≠ 24 → (zset S 24 b (zfb ((B b).1, o, (B b).2.2))).2.2.1 j = S.2.2.1 j := fun j hj => funext fun i => if_neg (fun q => hj q.1)
  obtain ⟨h1, h2, h3, h4⟩ := h
  refine ⟨ZG_at (fl' := fl) h1 hb rb rfl rfl (fun z hz => ⟨congrFun (ej 23 (by decide)) _, e24 z hz, congrFun (ej 25 (by decide)) _, congrFun (ej 26 (by decide)) _⟩) (fun z _ _ _ f _ => ⟨congrFun (ej 29 (by decide)) _, congrFun (ej 30 (by decide)) _, congrFun (ej 31 (by decide)) _⟩) ?_ ?_ (fun z hz => if_neg hz) (fun _ _ => rfl) ?_ (fun z hz rz zb f hf => by rw [fb] at hf; exact absurd hf (List.not_mem_nil)) (fun f hf => ⟨h1.2.2.2.2.2.2.1 f hf, fun z hz rz _ => h1.2.2.2.2.2.2.2 f hf z hz rz, by rw [fb]; exact List.not_mem_nil⟩), ⟨zWs_a (ej 37 (by decide)) (ej 38 (by decide)) h2.1, h2.2⟩, ⟨zEs_a (ej 39 (by decide)) h3.1, h3.2.1, fun t ht => ⟨(h3.2.2 t ht).1, ?_⟩⟩, fun z hz hr => ?_⟩
  · rw [show zyk (zset S 24 b (zfb ((B b).1, o, (B b).2.2))) b = zyk S b from congrFun (ej 23 (by decide)) _, kb]; decide
  · rw [show fup B b ((B b).1, o, (B b).2.2) b = ((B b).1, o, (B b).2.2) from if_pos rfl]
    exact if_pos ⟨rfl, rfl⟩
  · rw [show fup B b ((B b).1, o, (B b).2.2) b = ((B b).1, o, (B b).2.2) from if_pos rfl]
    exact Or.inl ⟨by rw [show zyk (zset S 24 b (zfb ((B b).1, o, (B b).2.2))) b = zyk S b from congrFun (ej 23 (by decide)) _, kb], rfl, fb⟩
  · show (if G.1 t = b then (((B b).1, .inl (if o then 1 else 0)) : TN) else G.2 (G.1 t)).1 = true
    have := (h3.2.2 t ht).2
    by_cases q : G.1 t = b
    · rw [if_pos q]; rw [q, gb] at this; exact this
    · rw [if_neg q]; exact this
  · have e1 : zyk (zset S 24 b (zfb ((B b).1, o, (B b).2.2))) = zyk S := ej 23 (by decide)
    have e2 : zyc (zset S 24 b (zfb ((B b).1, o, (B b).2.2))) = zyc S := ej 25 (by decide)
    have g1 : ∀ c, ((tset G b ((B b).1, .inl (if o then 1 else 0))).2 c).1 = (G.2 c).1 := by
      intro c
      show (if c = b then (((B b).1, .inl (if o then 1 else 0)) : TN) else G.2 c).1 = _
      by_cases q : c = b
      · rw [if_pos q, q, gb]
      · rw [if_neg q]
    have cl : zcl adm G z → zcl adm (tset G b ((B b).1, .inl (if o then 1 else 0))) z := by
      intro hc lab loose kids hg
      have hg : (if z = b then (((B b).1, .inl (if o then 1 else 0)) : TN) else G.2 z).2 = _ := hg
      by_cases q : z = b
      · rw [if_pos q] at hg; cases hg
      · rw [if_neg q] at hg
        obtain ⟨p1, p2⟩ := hc lab loose kids hg
        exact ⟨p1, fun hl l c m => by rw [g1]; exact p2 hl l c m⟩
    obtain ⟨p1, p2⟩ := h4 z hz hr
    rw [e1, e2, g1]
    refine ⟨fun he => ?_, fun hd => ?_⟩
    · rcases p1 he with q | ⟨q1, q2⟩
      · exact Or.inl q
      · exact Or.inr ⟨cl q1, q2⟩
    · have : (B z).2.2.2.2 = true := by
        by_cases q : z = b
        · rw [q] at hd ⊢
          rw [show fup B b ((B b).1, o, (B b).2.2) b = ((B b).1, o, (B b).2.2) from if_pos rfl] at hd
          exact hd
        · rw [show fup B b ((B b).1, o, (B b).2.2) z = B z from if_neg q] at hd; exact hd
      obtain ⟨q1, q2, q3, q4⟩ := p2 this
      exact ⟨q1, q2, q3, cl q4⟩
theorem z_merge (hμ : Mok μ) (hri : tRI G0 n) (hw0 : tWF G0 n) (hx : x < n) (hy : y < n) (hJ : JI G0 n x y G n ((a0, b0) :: W)) (ea : G.1 a0 = a) (eb : G.1 b0 = b) (h : ZM adm S μ G n fl B R W E) (hab : a ≠ b) (hM : (E.length : Int) + W.length + 1 + tPhi G n ≤ 56999) (hY : zY (S.1 67) G n ≤ 4559920) : zW (ZL (d + 4) 139 [.inl (a : Int), .inl (b : Int)] S) (oI (fun r S' => ZStep adm G0 n x y S μ G R W E a b r S') (fun _ => False)) := by
  have hab0 : JAb G a0 b0 a b := Or.inl ⟨ea, eb⟩
  have hab0' : JAb G a0 b0 b a := Or.inr ⟨eb, ea⟩
  obtain ⟨⟨ha, ra⟩, hb, rb⟩ := JI_at hJ hab0
  obtain ⟨hn, hn2, hn3⟩ := h.1.2.1
  have hE : (E.length : Int) ≤ 56998 := by
    have : 0 ≤ tPhi G n := isum_nn (fun z _ => by split <;> omega)
    omega
  have kA := ZG_kind h.1 ha ra
  have kB := ZG_kind h.1 hb rb
  -- one unknown one: u becomes t
  have unk : ∀ (u t : Nat), JAb G a0 b0 u t → u ≠ t → zyk S u = 0 → zyk S t ≠ 0 → zW (ZL (d + 4) 794 [.inl (u : Int), .inl (t : Int)] S) (oI (fun r S' => ZStep adm G0 n x y S μ G R W E u t r S') (fun _ => False)) := by
    intro u t hut hne ku kt
    obtain ⟨⟨hu, ru⟩, ht, rt⟩ := JI_at hJ hut
    obtain ⟨gu, fu⟩ := ZG_0 h.1 hu ru ku
    have kT := ZG_kind h.1 ht rt
    have okJ : ((B u).2.1 = true → zyk S t = 2 ∧ zyc S t ≤ 2) → JI G0 n x y (tlink G u t ((G.2 u).1 || (G.2 t).1, (G.2 t).2)) n W := by
      intro ho
      by_cases k1 : zyk S t = 1
      · obtain ⟨i, gt, _⟩ := ZG_1 h.1 ht rt k1
        have o0 : (B u).2.1 = false := by
          cases q : (B u).2.1 with
          | false => rfl
          | true => have := (ho q).1; rw [k1] at this; cases this
        rw [o0] at gu
        have := JI_both (o3 := i + 2) hw0 hx hy hJ hut hne gu gt (by decide) (fun _ => ⟨rfl, rfl⟩) (fun q => by omega)
        rw [gu, gt]; exact this
      · obtain ⟨lab, loose, kids, gt, p1, p2, p3, _⟩ := ZG_lab hμ h.1 ht rt (by omega)
        have := JI_tell hw0 hx hy hJ hut gu gt (by split <;> omega) (fun q => p3 (ho (by
          cases e : (B u).2.1 with
          | true => rfl
          | false => rw [e] at q; cases q)))
        rw [gu, gt]; exact this
    refine zl_merge_p94 ?_
    unfold zb_merge_p94
    refine zW_let (zW_a (by omega) ?_)
    rw [show S.2.2.1 24 (u : Int) = zfb (B u) from h.1.2.2.2.1 u hu, zfb_2]
    cases q : (B u).2.1 with
    | false =>
      obtain ⟨S', e1, e2⟩ := z_unk (d := d + 3) hw0 hx hy h hJ.1 hu ht ru rt hne ku (okJ (fun w => by rw [q] at w; cases w)) hE (JI_belb hJ hut)
      exact zW_t rfl (zW_Ve (zc_s.trans e1) (zW_rZ (Or.inr rfl) e2))
    | true =>
      refine zW_f (by decide) ?_
      have ord : ZL (d + 3) 141 [.inl (t : Int)] S = some (some (some (.inl (if zyk S t = 2 ∧ zyc S t ≤ 2 then 1 else 0))), S) := by
        refine zW_get (zl_isOrdered ?_)
        unfold zb_isOrdered
        refine zW_a (by omega) (zW_if (fun e => zW_a (by omega) (zW_if (fun e2 => zW_rZ (Or.inr rfl) ⟨?_, rfl⟩) (fun e2 => zW_rZ (Or.inl rfl) ⟨?_, rfl⟩))) (fun e => zW_rZ (Or.inl rfl) ⟨?_, rfl⟩))
        · rw [if_pos ⟨e, e2⟩]
        · rw [if_neg (fun w => e2 w.2)]
        · rw [if_neg (fun w => e w.1)]
      refine zW_Ie (zc_s.trans ord) ?_
      by_cases hc : zyk S t = 2 ∧ zyc S t ≤ 2
      · rw [if_pos hc]
        obtain ⟨S', e1, e2⟩ := z_unk (d := d + 3) hw0 hx hy h hJ.1 hu ht ru rt hne ku (okJ (fun _ => hc)) hE (JI_belb hJ hut)
        exact zW_f (by decide) (zW_Ve (zc_s.trans e1) (zW_rZ (Or.inr rfl) e2))
      · rw [if_neg hc]
        refine zW_t rfl (zW_rZ (Or.inl rfl) (Or.inl ⟨rfl, ZJf_refl, fun w hq => ?_⟩))
        rw [q] at gu
        by_cases k1 : zyk S t = 1
        · obtain ⟨i, gt, _⟩ := ZG_1 h.1 ht rt k1
          exact tS_rig1 ht hu rt ru gt gu ⟨hq.1, hq.2.1, hq.2.2.symm⟩
        · obtain ⟨lab, loose, kids, gt, p1, p2, p3, _⟩ := ZG_lab hμ h.1 ht rt (by omega)
          exact tS_ord hu ht ru rt gu gt (fun w => hc (p2 w)) ⟨hq.1, hq.2.2⟩
  refine zl_merge ?_
  unfold zb_merge
  refine zW_f (by omega) (zW_a (by omega) ?_)
  -- both are known, or one is
  have rest : ¬ (zyk S a = 0 ∧ zyk S b = 0) → zW (ZL (d + 4) 432 [.inl (a : Int), .inl (b : Int)] S) (oI (fun r S' => ZStep adm G0 n x y S μ G R W E a b r S') (fun _ => False)) := by
    intro hnn
    refine zl_merge_p51 ?_
    unfold zb_merge_p51
    have one : ∀ (hk : zyk S a = 0 ∨ zyk S b = 0), zW (ZL (d + 4) 626 [.inl (a : Int), .inl (b : Int)] S) (oI (fun r S' => ZStep adm G0 n x y S μ G R W E a b r S') (fun _ => False)) := by
      intro hk
      refine zl_merge_p69 ?_
      unfold zb_merge_p69
      refine zW_a (by omega) (zW_if (fun e => ?_) (fun e => ?_))
      · refine zl_merge_p83 ?_
        unfold zb_merge_p83
        exact zW_let (zW_t rfl (unk a b hab0 hab e (fun q => hnn ⟨e, q⟩)))
      · refine zl_merge_p83 ?_
        unfold zb_merge_p83
        refine zW_let (zW_f (by omega) ?_)
        refine zW_mono (unk b a hab0' (fun q => hab q.symm) (hk.resolve_left e) e) (fun o S' hq => ?_)
        rcases o with _ | _ | r | r | r
        · exact hq
        · exact hq
        · exact ZStep_swap hq
        · exact hq
        · exact hq
    refine zW_a (by omega) (zW_if (fun e => one (Or.inl e)) (fun e1 => zW_a (by omega) (zW_if (fun e => one (Or.inr e)) (fun e2 => ?_))))
    have e1 : zyk S a ≠ 0 := e1
    have e2 : zyk S b ≠ 0 := e2
    refine zW_a (by omega) (zW_a (by omega) (zW_if (fun e => ?_) (fun e => ?_)))
    · have e : zyk S a = zyk S b := e
      refine zW_a (by omega) (zW_if (fun k1 => ?_) (fun k1 => ?_))
      · have k1 : zyk S a = 1 := k1
        obtain ⟨i, gA, _⟩ := ZG_1 h.1 ha ra k1
        obtain ⟨j, gB, _⟩ := ZG_1 h.1 hb rb (by rw [← e]; exact k1)
        refine zW_rZ (Or.inl rfl) (Or.inl ⟨rfl, ZJf_refl, fun w hq => ?_⟩)
        refine tS_rig2 ha hb ra rb gA gB (fun q => ?_) ⟨hq.2.1, hq.2.2⟩
        obtain ⟨p1, p2, e', p3⟩ := hJ.2.2.2.2.2.2.2.1 a ha ra i ⟨_, gA⟩
        obtain ⟨q1, q2, e'', q3⟩ := hJ.2.2.2.2.2.2.2.1 b hb rb j ⟨_, gB⟩
        exact hab (hri a b i p1 q1 p2 q2 (by rw [p3]) (by rw [q3, q]))
      · have k1 : zyk S a ≠ 1 := k1
        refine zW_a (by omega) (zW_if (fun k3 => ?_) (fun k3 => ?_))
        · have k3 : zyk S a = 3 := k3
          refine zW_I (zW_c (z_mergeRows (d := d) hμ hw0 hx hy hJ ea eb h hab k3 (by rw [← e]; exact k3) hM hY)) (fun r S' hq => ?_) (fun S' hq => False.elim hq)
          have : r = 0 ∨ r = 1 := by rcases hq with ⟨q, _⟩ | ⟨q, _⟩ <;> omega
          exact zW_rZ this hq
        · have k3 : zyk S a ≠ 3 := k3
          refine zW_I (zW_c (z_mergeMade (d := d + 2) hμ hw0 hx hy hJ ea eb h hab (by omega) (by omega) hM)) (fun r S' hq => ?_) (fun S' hq => False.elim hq)
          have : r = 0 ∨ r = 1 := by rcases hq with ⟨q, _⟩ | ⟨q, _⟩ <;> omega
          exact zW_rZ this hq
    · have e : zyk S a ≠ zyk S b := e
      refine zW_rZ (Or.inl rfl) (Or.inl ⟨rfl, ZJf_refl, fun w hq => ?_⟩)
      by_cases ka1 : zyk S a = 1
      · obtain ⟨i, gA, _⟩ := ZG_1 h.1 ha ra ka1
        obtain ⟨lab, loose, kids, gB, p1, _⟩ := ZG_lab hμ h.1 hb rb (by omega)
        exact tS_rig ha hb ra rb gA gB p1 hq
      · by_cases kb1 : zyk S b = 1
        · obtain ⟨i, gB, _⟩ := ZG_1 h.1 hb rb kb1
          obtain ⟨lab, loose, kids, gA, p1, _⟩ := ZG_lab hμ h.1 ha ra (by omega)
          exact tS_rig hb ha rb ra gB gA p1 ⟨hq.1, hq.2.1, hq.2.2.symm⟩
        · obtain ⟨lab, loose, kids, gA, _, _, _, p4⟩ := ZG_lab hμ h.1 ha ra (by omega)
          obtain ⟨lab', loose', kids', gB, _, _, _, p4'⟩ := ZG_lab hμ h.1 hb rb (by omega)
          refine tS_clash ha hb ra rb gA gB (fun q => e ?_) ⟨hq.1, hq.2.2⟩
          by_cases k3 : zyk S a = 3
          · rw [k3, p4'.mpr (by rw [← q]; exact p4.mp k3)]
          · have : zyk S b ≠ 3 := fun w => k3 (p4.mpr (by rw [q]; exact p4'.mp w))
            omega
  refine zW_if (fun e1 => zW_a (by omega) (zW_if (fun e2 => ?_) (fun e2 => rest (fun q => e2 q.2)))) (fun e1 => rest (fun q => e1 q.1))
  -- both are unknown
  have e1 : zyk S a = 0 := e1
  have e2 : zyk S b = 0 := e2
  refine zW_a (by omega) (zW_a (by omega) ?_)
  rw [show S.2.2.1 24 (b : Int) = zfb (B b) from h.1.2.2.2.1 b hb, show S.2.2.1 24 (a : Int) = zfb (B a) from h.1.2.2.2.1 a ha, zfb_o]
  refine zW_st (by omega) ?_
  obtain ⟨gA, fA⟩ := ZG_0 h.1 ha ra e1
  obtain ⟨gB, fB⟩ := ZG_0 h.1 hb rb e2
  have hM1 := ZM_ord (o := (B b).2.1 || (B a).2.1) h hb rb e2
  have hJ1 := JI_both (o3 := if ((B b).2.1 || (B a).2.1) = true then 1 else 0) hw0 hx hy hJ hab0 hab gA gB (by split <;> omega) (fun q => by split at q <;> omega) (fun _ => by
    cases (B a).2.1 <;> cases (B b).2.1 <;> decide)
  have g2a : (tset G b ((B b).1, .inl (if ((B b).2.1 || (B a).2.1) = true then 1 else 0))).2 a = G.2 a := if_neg hab
  have g2b : (tset G b ((B b).1, .inl (if ((B b).2.1 || (B a).2.1) = true then 1 else 0))).2 b = ((B b).1, .inl (if ((B b).2.1 || (B a).2.1) = true then 1 else 0)) := if_pos rfl
  have eG : tlink (tset G b ((B b).1, .inl (if ((B b).2.1 || (B a).2.1) = true then 1 else 0))) a b (((tset G b ((B b).1, .inl (if ((B b).2.1 || (B a).2.1) = true then 1 else 0))).2 a).1 || ((tset G b ((B b).1, .inl (if ((B b).2.1 || (B a).2.1) = true then 1 else 0))).2 b).1, ((tset G b ((B b).1, .inl (if ((B b).2.1 || (B a).2.1) = true then 1 else 0))).2 b).2) = tlink G a b ((B a).1 || (B b).1, .inl (if ((B b).2.1 || (B a).2.1) = true then 1 else 0)) := by
    rw [g2a, g2b, gA]
    refine Prod.ext rfl (funext fun z => ?_)
    show (if z = b then _ else if z = b then _ else G.2 z) = if z = b then _ else G.2 z
    by_cases q : z = b
    · rw [if_pos q, if_pos q]
    · rw [if_neg q, if_neg q, if_neg q]
  have wf1 : tWF (tset G b ((B b).1, .inl (if ((B b).2.1 || (B a).2.1) = true then 1 else 0))) n := by
    refine ⟨hJ.1.1, fun z hz hr e lab loose kids hg => ?_⟩
    have hg : (if z = b then (((B b).1, .inl (if ((B b).2.1 || (B a).2.1) = true then 1 else 0)) : TN) else G.2 z) = _ := hg
    by_cases q : z = b
    · rw [if_pos q] at hg; cases hg
    · rw [if_neg q] at hg; exact hJ.1.2 z hz hr e lab loose kids hg
  obtain ⟨S', s1, s2⟩ := z_unk (d := d + 3) hw0 hx hy hM1 wf1 ha hb ra rb hab (by
    rw [show zyk (zset S 24 b (zfb ((B b).1, (B b).2.1 || (B a).2.1, (B b).2.2))) a = zyk S a from rfl]; exact e1) (by rw [eG]; exact hJ1) hE (JI_belb hJ hab0)
  refine zW_Ve (zc_s.trans s1) (zW_rZ (Or.inr rfl) ?_)
  have kd : ∀ z, tkids ((tset G b ((B b).1, .inl (if ((B b).2.1 || (B a).2.1) = true then 1 else 0))).2 z) = tkids (G.2 z) := by
    intro z
    show tkids (if z = b then (((B b).1, .inl (if ((B b).2.1 || (B a).2.1) = true then 1 else 0)) : TN) else G.2 z) = _
    by_cases q : z = b
    · rw [if_pos q, q, gB]; rfl
    · rw [if_neg q]
  have ph : tPhi (tset G b ((B b).1, .inl (if ((B b).2.1 || (B a).2.1) = true then 1 else 0))) n = tPhi G n := isum_eq (fun z _ => by rw [kd]; rfl)
  have lo : ∀ z, tlo (tset G b ((B b).1, .inl (if ((B b).2.1 || (B a).2.1) = true then 1 else 0))) z = tlo G z ∧ tln (tset G b ((B b).1, .inl (if ((B b).2.1 || (B a).2.1) = true then 1 else 0))) z = tln G z := by
    intro z
    by_cases q : z = b
    · unfold tlo tln
      rw [q, g2b, gB]; exact ⟨rfl, rfl⟩
    · have : (tset G b ((B b).1, .inl (if ((B b).2.1 || (B a).2.1) = true then 1 else 0))).2 z = G.2 z := if_neg q
      unfold tlo tln
      rw [this]; exact ⟨rfl, rfl⟩
  have yy : zY (S.1 67) (tset G b ((B b).1, .inl (if ((B b).2.1 || (B a).2.1) = true then 1 else 0))) n = zY (S.1 67) G n := by
    unfold zY tK1 tK2 tKN
    rw [show isum (tlo (tset G b ((B b).1, .inl (if ((B b).2.1 || (B a).2.1) = true then 1 else 0)))) n = isum (tlo G) n from isum_eq (fun z _ => (lo z).1), show isum (fun z => tlo (tset G b ((B b).1, .inl (if ((B b).2.1 || (B a).2.1) = true then 1 else 0))) z * tlo (tset G b ((B b).1, .inl (if ((B b).2.1 || (B a).2.1) = true then 1 else 0))) z) n = isum (fun z => tlo G z * tlo G z) n from isum_eq (fun z _ => by rw [(lo z).1]), show isum (tln (tset G b ((B b).1, .inl (if ((B b).2.1 || (B a).2.1) = true then 1 else 0)))) n = isum (tln G) n from isum_eq (fun z _ => (lo z).2)]
  have jf : ZJf R S (zset S 24 b (zfb ((B b).1, (B b).2.1 || (B a).2.1, (B b).2.2))) := ⟨zAg_set (by decide) zAg_refl, Int.le_refl _, fun f _ => ⟨rfl, rfl, rfl⟩, fun y hy => ⟨hy, rfl⟩⟩
  rcases s2 with ⟨q, _⟩ | ⟨_, q1, G', fl', B', W', E', q2, q3, q4, q5, q6, q7⟩
  · cases q
  · exact Or.inr ⟨rfl, ZJf_trans jf q1, G', fl', B', W', E', q2, q3, by rw [ph] at q4; exact q4, q5, by
      have q6 : zY (S'.1 67) G' n ≤ zY (S.1 67) _ n := q6
      rw [yy] at q6; exact q6, q7⟩
end ZMrg3
