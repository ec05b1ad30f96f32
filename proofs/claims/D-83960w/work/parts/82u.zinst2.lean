set_option maxRecDepth 100000
/-! THE REFERENCE'S TYPES: instances: a place is entered -/
/-- what is general, as the flags have it -/
def zGen (S : ZS) (G : TG) (n : Nat) (B : Nat → Zfl) (P Q : Nat → Prop) : Prop := tGQ G n P Q ∧ (∀ z, Q z → P z ∨ ∃ l c, (l, c) ∈ tkids (G.2 z) ∧ Q (G.1 c)) ∧ (∀ z : Nat, z < n → G.1 z = z → zyk S z = 0 → (P z ↔ (B z).2.2.1 = true)) ∧ ∀ z : Nat, z < n → G.1 z = z → zyk S z = 1 → (B z).2.2.1 = false
def tRel (S : ZS) (G : TG) (fl : Nat → List Nat) (x t : Nat) : List (Nat × List Nat) → Prop
  | [] => t = x
  | q' :: _ => ∃ f ∈ fl q'.1, G.1 (zft S (f : Nat)).toNat = t
theorem tRel_m {S : ZS} {G : TG} {fl : Nat → List Nat} {x : Nat} {p : Nat × List Nat} : ∀ {K : List (Nat × List Nat)}, tRel S G fl x p.1 K → match K with
    | [] => p.1 = x
    | q' :: _ => ∃ f ∈ fl q'.1, G.1 (zft S (f : Nat)).toNat = p.1
  | [], h => h
  | _ :: _, h => h
section ZInst2
variable {adm : Nat → Bool} {d : Nat} {S S1 S' S0 : ZS} {μ : Zmp} {G G' G'' : TG} {n n' m x y z a b t N1 : Nat} {fl fl' : Nat → List Nat} {B B' : Nat → Zfl} {F L : List Nat} {N : TN} {i v w c st N2 : Int} {R P Q Kp Bk Bk' : Nat → Prop} {cp : Nat → Nat} {K : List (Nat × List Nat)} {up : Option Nat}
theorem ZG_flen (h : ZG S μ G n fl B R) (hx : x < n) (hr : G.1 x = x) : (fl x).length ≤ 106000 := by
  have h1 := ZG_nd h hx hr
  have h2 := ZNode_lt (h.2.2.2.2.1 x hx hr)
  have h3 := h.2.1
  have := sub_len (fl x) (List.range 106000) h1 (fun g hg => by
    rw [List.mem_range]
    have := h2 g hg
    omega)
  rwa [List.length_range] at this
theorem ZDq_n (h : ZDq S0 S) (h0 : ZG S0 μ G n fl B R) (hz : z < n) : zyk S z = zyk S0 z ∧ zyf S z = zfb (B z) := by
  obtain ⟨h1, h2, _⟩ := h.2.2.2 z (by rw [h0.1]; omega)
  exact ⟨h1, h2.trans (h0.2.2.2.1 z hz)⟩
theorem z_enter (h0 : ZG S0 μ G n fl B R) (hg : zGen S0 G n B P Q) (hKp : tSet G n Kp) (hN1 : N1 ≤ 57000) (ht : t < n) (hr : G.1 t = t) (hk : Kp t) (h : zIv P Q Kp S0 μ G n fl B R st x N1 N2 (some t) S G' n' fl' B' K Bk cp) (hm : zymk S t ≠ st) (hrel : tRel S0 G fl x t K) : zW (ZL (d + 1) 130 [.inl (t : Int), .inl (K.length : Int)] S) (oI (fun v S' => ∃ G'' m fl'' B'' K' Bk' cp', v = (List.length (K' : List (Nat × List Nat)) : Int) ∧ zIv P Q Kp S0 μ G n fl B R st x N1 N2 none S' G'' m fl'' B'' K' Bk' cp' ∧ zms n K' Bk' < zms n K Bk) (fun _ => False)) := by
  obtain ⟨⟨hG, hq, he, hfb, hnl⟩, ⟨hsk, hst⟩, ⟨h68, hmk, hmb⟩, hD, hE, hF⟩ := h
  obtain ⟨gq, gx, gP, gV⟩ := hg
  obtain ⟨hn, hn2, hn3⟩ := hG.2.1
  have tn : t ∉ K.map Prod.fst ∧ ¬ Bk t := ⟨fun q => hm ((hmk t ht).mpr (Or.inl q)), fun q => hm ((hmk t ht).mpr (Or.inr q))⟩
  have tl' : t < n' := by have := he.1; omega
  have rt' : G'.1 t = t := by rw [(he.2 t ht).1]; exact hr
  have g2' : G'.2 t = G.2 t := (he.2 t ht).2
  obtain ⟨kt, ft⟩ := ZDq_n hq h0 ht
  have hxF : Bk x ∨ x ∈ K.map Prod.fst ∨ t = x := by
    rcases hF with q | q | q
    · exact Or.inl q
    · exact Or.inr (Or.inl q)
    · exact Or.inr (Or.inr (Option.some.inj q))
  have klen : K.length < n := by
    obtain ⟨r1, r2⟩ := tStk_lt (tStc_stk hst)
    have := sub_len (t :: K.map Prod.fst) (List.range n) (List.nodup_cons.mpr ⟨tn.1, r2⟩) (fun g hg => by
      rw [List.mem_range]
      rcases List.mem_cons.mp hg with q | q
      · rw [q]; exact ht
      · exact (r1 g q).1)
    rw [List.length_cons, List.length_map, List.length_range] at this
    omega
  have hn57 : n ≤ 57000 := by have := he.1; omega
  generalize hS2 : zset (zset S 27 (t : Int) st) 28 (t : Int) (t : Int) = S2
  have ag2 : zAg [] [27, 28] S S2 := by rw [← hS2]; exact zAg_set (by decide) (zAg_set (by decide) zAg_refl)
  have G2 := ZG_ag hG ag2 (by decide) (by decide)
  have q2 : ZDq S0 S2 := ZDq_trans hq (ZDq_ag ag2 (by decide) (by decide))
  have e1 : S2.1 = S.1 := funext fun f => ag2.1 f List.not_mem_nil
  have a27 : ∀ y : Int, zymk S2 y = if y = (t : Int) then st else zymk S y := by
    intro y
    rw [← hS2]
    show (if 27 = 28 ∧ y = (t : Int) then (t : Int) else if 27 = 27 ∧ y = (t : Int) then st else zymk S y) = _
    rw [if_neg (fun q => by cases q.1)]
    by_cases q : y = (t : Int)
    · rw [if_pos ⟨rfl, q⟩, if_pos q]
    · rw [if_neg (fun w => q w.2), if_neg q]
  have a28 : ∀ y : Int, S2.2.2.1 28 y = if y = (t : Int) then (t : Int) else S.2.2.1 28 y := by
    intro y
    rw [← hS2]
    show (if 28 = 28 ∧ y = (t : Int) then (t : Int) else if 28 = 27 ∧ y = (t : Int) then st else S.2.2.1 28 y) = _
    by_cases q : y = (t : Int)
    · rw [if_pos ⟨rfl, q⟩, if_pos q]
    · rw [if_neg (fun w => q w.2), if_neg (fun w => q w.2), if_neg q]
  have sk2 : zSk S2 K := zSk_eq (fun i _ => by rw [ag2.2.2.1 40 (by decide), ag2.2.2.1 41 (by decide)]; exact ⟨rfl, rfl⟩) (by rw [e1]) (ag2.2.2.1 30 (by decide)) (ag2.2.2.1 31 (by decide)) hsk
  have mk2 : (∀ z : Nat, z < n → (zymk S2 z = st ↔ z ∈ K.map Prod.fst ∨ Bk z ∨ z = t)) ∧ ∀ z : Int, 0 ≤ z → z < 57000 → zymk S2 z ≤ st + 1 := by
    refine ⟨fun z hz => ?_, fun z h1 h2 => ?_⟩
    · rw [a27]
      by_cases q : z = t
      · rw [if_pos (by omega)]
        exact ⟨fun _ => Or.inr (Or.inr q), fun _ => rfl⟩
      · rw [if_neg (by omega), hmk z hz]
        exact ⟨fun w => w.imp (fun q => q) Or.inl, fun w => w.imp (fun q => q) (fun w => w.resolve_right q)⟩
    · rw [a27]
      split
      · omega
      · exact hmb z h1 h2
  have c1 := zcnt_one (Kp := Kp) ht hk tn.2
  have c2 := zleft_one (G := G) (Kp := Kp) ht hk tn.2
  have ms1 : cnt (fun z => z ∉ K.map Prod.fst ∧ ¬ (Bk z ∨ z = t)) n < cnt (fun z => z ∉ K.map Prod.fst ∧ ¬ Bk z) n := cnt_lt (x := t) (fun z _ h => ⟨h.1, fun q => h.2 (Or.inl q)⟩) ht (fun h => h.2 (Or.inr rfl)) tn
  have k2 : ∀ y : Nat, S2.2.2.1 23 (y : Int) = zyk S y := fun y => congrFun (ag2.2.2.1 23 (by decide)) _
  refine zl_enter ?_
  unfold zb_enter
  rw [h68]
  refine zW_st (by omega) (zW_st (by omega) ?_)
  rw [hS2]
  have push : (zyk S0 t = 2 ∨ zyk S0 t = 3) → zW (ZL (d + 1) 426 [.inl (t : Int), .inl (K.length : Int)] S2) (oI (fun v S' => ∃ G'' m fl'' B'' K' Bk' cp', v = (List.length (K' : List (Nat × List Nat)) : Int) ∧ zIv P Q Kp S0 μ G n fl B R st x N1 N2 none S' G'' m fl'' B'' K' Bk' cp' ∧ zms n K' Bk' < zms n K Bk) (fun _ => False)) := by
    intro hkd
    have flt := (hfb t ht).1
    have chT : ZCh S2 (fl t) (S2.2.2.1 26 (t : Int)) := by
      rw [← flt]
      rcases hkd with w | w
      · exact (ZG_2 G2 tl' rt' (by rw [show zyk S2 t = zyk S t from k2 t, kt]; exact w)).2.2.1
      · exact (ZG_3 G2 tl' rt' (by rw [show zyk S2 t = zyk S t from k2 t, kt]; exact w)).2.2.1
    refine zl_enter_p37 ?_
    unfold zb_enter_p37
    refine zW_st (by omega) (zW_a (by omega) (zW_st (by omega) (zW_G (by omega) (zW_rI ?_))))
    generalize hS4 : zset (zset S2 40 (K.length : Int) (t : Int)) 41 (K.length : Int) ((zset S2 40 (K.length : Int) (t : Int)).2.2.1 26 (t : Int)) = S4
    have ag4 : zAg [] [40, 41] S2 S4 := by rw [← hS4]; exact zAg_set (by decide) (zAg_set (by decide) zAg_refl)
    have e4 : S4.1 = S2.1 := funext fun f => ag4.1 f List.not_mem_nil
    have b40 : ∀ i : Int, S4.2.2.1 40 i = if i = (K.length : Int) then (t : Int) else S2.2.2.1 40 i := by
      intro i
      rw [← hS4]
      show (if 40 = 41 ∧ i = (K.length : Int) then S2.2.2.1 26 (t : Int) else if 40 = 40 ∧ i = (K.length : Int) then (t : Int) else S2.2.2.1 40 i) = _
      rw [if_neg (fun q => by cases q.1)]
      by_cases q : i = (K.length : Int)
      · rw [if_pos ⟨rfl, q⟩, if_pos q]
      · rw [if_neg (fun w => q w.2), if_neg q]
    have b41 : ∀ i : Int, S4.2.2.1 41 i = if i = (K.length : Int) then S2.2.2.1 26 (t : Int) else S2.2.2.1 41 i := by
      intro i
      rw [← hS4]
      show (if 41 = 41 ∧ i = (K.length : Int) then S2.2.2.1 26 (t : Int) else if 41 = 40 ∧ i = (K.length : Int) then (t : Int) else S2.2.2.1 41 i) = _
      by_cases q : i = (K.length : Int)
      · rw [if_pos ⟨rfl, q⟩, if_pos q]
      · rw [if_neg (fun w => q w.2), if_neg (fun q => by cases q.1), if_neg q]
    have f30 := ag4.2.2.1 30 (by decide)
    have f31 := ag4.2.2.1 31 (by decide)
    have f27 : zymk S4 = zymk S2 := ag4.2.2.1 27 (by decide)
    refine ⟨G', n', fl', B', (t, fl t) :: K, Bk, cp, by rw [List.length_cons]; omega, ⟨⟨ZG_ag G2 ag4 (by decide) (by decide), ZDq_trans q2 (ZDq_ag ag4 (by decide) (by decide)), he, hfb, hnl.1, by rw [e4, e1]; exact hnl.2⟩, ⟨⟨?_, ?_, zSk_eq (S := S2) (fun i hi => ?_) (by rw [e4]) f30 f31 sk2⟩, ⟨⟨⟨ht, hr, tn.2, tn.1⟩, hkd⟩, ⟨[], rfl, fun f m => absurd m List.not_mem_nil⟩, tRel_m (p := (t, fl t)) hrel, hst⟩⟩, ⟨by rw [e4, e1]; exact h68, fun z hz => ?_, fun z h1 h2 => ?_⟩, ⟨fun z hz => ?_, hD.2⟩, ⟨fun z hz => ?_, hE.2.1, by rw [e4, e1]; exact hE.2.2⟩, ?_⟩, ?_⟩
    · rw [b40, if_pos rfl]
    · rw [b41, if_pos rfl]
      exact ZCh_eq (by rw [e4]; exact Int.le_refl _) (fun f _ => ⟨congrFun f30 _, congrFun f31 _⟩) chT
    · rw [b40, b41, if_neg (by omega), if_neg (by omega)]
      exact ⟨rfl, rfl⟩
    · rw [f27, mk2.1 z hz]
      constructor
      · rintro (q | q | q)
        · exact Or.inl (List.mem_cons_of_mem _ q)
        · exact Or.inr q
        · rw [q]; exact Or.inl (List.mem_cons_self ..)
      · rintro (q | q)
        · rcases List.mem_cons.mp q with q | q
          · exact Or.inr (Or.inr q)
          · exact Or.inl q
        · exact Or.inr (Or.inl q)
    · rw [f27]; exact mk2.2 z h1 h2
    · have : z ≠ t := fun q => tn.2 (by rw [← q]; exact hz)
      rw [ag4.2.2.1 28 (by decide), a28, if_neg (by omega)]
      exact hD.1 z hz
    · rcases hz with q | q
      · rcases List.mem_cons.mp q with q | q
        · rw [q]; exact hk
        · exact hE.1 z (Or.inl q)
      · exact hE.1 z (Or.inr q)
    · rcases hxF with q | q | q
      · exact Or.inl q
      · exact Or.inr (Or.inl (List.mem_cons_of_mem _ q))
      · rw [← q]; exact Or.inr (Or.inl (List.mem_cons_self ..))
    · have := ZG_flen h0 ht hr
      have ms2 : cnt (fun z => z ∉ ((t, fl t) :: K).map Prod.fst ∧ ¬ Bk z) n < cnt (fun z => z ∉ K.map Prod.fst ∧ ¬ Bk z) n := cnt_lt (x := t) (fun z _ h => ⟨fun q => h.1 (List.mem_cons_of_mem _ q), h.2⟩) ht (fun h => h.1 (List.mem_cons_self ..)) tn
      show 110000 * cnt (fun z => z ∉ ((t, fl t) :: K).map Prod.fst ∧ ¬ Bk z) n + ((fl t).length + 1 + zsz K) < 110000 * cnt (fun z => z ∉ K.map Prod.fst ∧ ¬ Bk z) n + zsz K
      omega
  refine zW_a (by omega) ?_
  rw [k2, kt]
  refine zW_if (fun e => push (Or.inl e)) (fun e => zW_a (by omega) ?_)
  rw [k2, kt]
  refine zW_if (fun e' => push (Or.inr e')) (fun e' => zW_a (by omega) ?_)
  have lf : zyk S0 t = 0 ∨ zyk S0 t = 1 := by
    rcases ZG_kind h0 ht hr with q | q | q | q
    · exact Or.inl q
    · exact Or.inr q
    · exact absurd q e
    · exact absurd q e'
  have nk : tkids (G.2 t) = [] := by
    rcases lf with q | q
    · rw [(ZG_0 h0 ht hr q).1]; rfl
    · obtain ⟨i, g, _⟩ := ZG_1 h0 ht hr q
      rw [g]; rfl
  rw [show S2.2.2.1 24 (t : Int) = zfb (B t) by rw [ag2.2.2.1 24 (by decide)]; exact ft, zfb_4]
  refine zW_if (fun e4 => zW_rI ?_) (fun e4 => zW_a (by omega) ?_)
  · -- it stays
    have g0 : (B t).2.2.1 = false := by
      cases q : (B t).2.2.1 with
      | false => rfl
      | true => rw [q] at e4; cases e4
    have nP : ¬ P t := by
      intro hp
      rcases lf with q | q
      · rw [(gP t ht hr q), g0] at hp; cases hp
      · obtain ⟨i, g, _⟩ := ZG_1 h0 ht hr q
        obtain ⟨_, e, g'⟩ := gq.2.1 t hp
        rw [g] at g'
        have := congrArg Prod.snd g'
        have this : (Sum.inl (i + 2) : Nat ⊕ (Nat × Bool × List (Ky × Nat))) = Sum.inl 0 := this
        have := Sum.inl.inj this
        omega
    have nQ : ¬ Q t := fun hqt => by
      rcases gx t hqt with q | ⟨l, c, q, _⟩
      · exact nP q
      · rw [nk] at q; exact absurd q List.not_mem_nil
    refine ⟨G', n', fl', B', K, _, _, rfl, zIv_add (S := S) (cp := cp) (c := t) (t := t) ⟨G2, q2, he, hfb, hnl.1, by rw [e1]; exact hnl.2⟩ he.1 ⟨Nat.le_refl _, fun z _ => ⟨rfl, rfl⟩⟩ ⟨sk2, hst⟩ tn.1 tn.2 ⟨by rw [e1]; exact h68, mk2⟩ hD (fun y hy => by rw [a28, if_neg (by omega)]) (by rw [a28, if_pos rfl]) ⟨⟨ht, hr⟩, fun l c q => by rw [nk] at q; exact absurd q List.not_mem_nil, Or.inl ⟨nQ, if_pos rfl⟩⟩ (fun q => by omega) (fun y h1 h2 => by omega) ⟨hE.1, hk, by have := hE.2.1; omega, by rw [e1]; have := hE.2.2; omega⟩ hxF, ?_⟩
    show 110000 * cnt (fun z => z ∉ K.map Prod.fst ∧ ¬ (Bk z ∨ z = t)) n + zsz K < 110000 * cnt (fun z => z ∉ K.map Prod.fst ∧ ¬ Bk z) n + zsz K
    omega
  · -- a new one
    have g1 : (B t).2.2.1 = true := by
      cases q : (B t).2.2.1 with
      | true => rfl
      | false => rw [q] at e4; exact absurd rfl e4
    have k0 : zyk S0 t = 0 := by
      rcases lf with q | q
      · exact q
      · have := gV t ht hr q
        rw [g1] at this; cases this
    have pt : P t := (gP t ht hr k0).mpr g1
    have qt : Q t := (gq.2.1 t pt).1
    obtain ⟨g, _⟩ := ZG_0 h0 ht hr k0
    have o0 : (B t).2.1 = false := by
      obtain ⟨_, e, g'⟩ := gq.2.1 t pt
      rw [g] at g'
      have := congrArg Prod.snd g'
      have this : (Sum.inl (if (B t).2.1 = true then 1 else 0) : Nat ⊕ (Nat × Bool × List (Ky × Nat))) = Sum.inl 0 := this
      have := Sum.inl.inj this
      cases q : (B t).2.1 with
      | false => rfl
      | true => rw [q] at this; cases this
    rw [show S2.2.2.1 24 (t : Int) = zfb (B t) by rw [ag2.2.2.1 24 (by decide)]; exact ft]
    have e3 : zandI (zfb (B t)) 3 = zfb ((B t).1, false, false, false, false) := by
      rw [zfb_3, o0]
      cases (B t).1 <;> rfl
    rw [e3]
    have h66 : S2.1 66 = (n' : Int) := by rw [e1]; exact hG.1
    have nlt : n' < 57000 := by have := hE.2.1; omega
    refine zW_Ie (zc_s.trans (z_type (n := n') h66 nlt (Or.inl rfl))) (zW_st (by omega) (zW_rI ?_))
    generalize hb' : (((B t).1, false, false, false, false) : Zfl) = b'
    have nd : ZNode (ztyp S2 n' 0 0 (-1) (zfb b')) μ ((B t).1, .inl 0) [] b' n' := Or.inl ⟨ztyp_n.1, by rw [← hb']; rfl, rfl⟩
    have G3 := ZG_add (F := []) G2 nlt (by decide) (fun f m => absurd m List.not_mem_nil) nd
    have ag3 : zAg [] [28] (ztyp S2 n' 0 0 (-1) (zfb b')) (zset (ztyp S2 n' 0 0 (-1) (zfb b')) 28 (t : Int) (n' : Int)) := zAg_set (by decide) zAg_refl
    have G4 := ZG_R (ZG_ag G3 ag3 (by decide) (by decide)) (R' := R) (fun f hf => ⟨hf, List.not_mem_nil⟩)
    have q4 : ZDq S0 (zset (ztyp S2 n' 0 0 (-1) (zfb b')) 28 (t : Int) (n' : Int)) := ZDq_trans (ZDq_trans q2 (ZDq_cq (ZCq_typ h66))) (ZDq_ag ag3 (by decide) (by decide))
    have ex : tExt G' n' (gAdd G' n' ((B t).1, .inl 0)) (n' + 1) := tAdd_g.1
    have ca : ∀ j, j ≠ 23 ∧ j ≠ 24 ∧ j ≠ 25 ∧ j ≠ 26 → j ≠ 28 → (zset (ztyp S2 n' 0 0 (-1) (zfb b')) 28 (t : Int) (n' : Int)).2.2.1 j = S2.2.2.1 j := fun j h1 h2 => (ag3.2.2.1 j (by simp [h2])).trans (ztyp_a h1)
    have c28 : ∀ y : Int, (zset (ztyp S2 n' 0 0 (-1) (zfb b')) 28 (t : Int) (n' : Int)).2.2.1 28 y = if y = (t : Int) then (n' : Int) else S.2.2.1 28 y := by
      intro y
      show (if 28 = 28 ∧ y = (t : Int) then (n' : Int) else (ztyp S2 n' 0 0 (-1) (zfb b')).2.2.1 28 y) = _
      by_cases q : y = (t : Int)
      · rw [if_pos ⟨rfl, q⟩, if_pos q]
      · rw [if_neg (fun w => q w.2), if_neg q, ztyp_a (by decide), a28, if_neg q]
    refine ⟨gAdd G' n' ((B t).1, .inl 0), n' + 1, fup fl' n' [], fup B' n' b', K, _, _, rfl, zIv_add (S := S) (cp := cp) (c := n') (t := t) (n' := n') (G' := G') ⟨G4, q4, ⟨by have := he.1; omega, fun z hz => ?_⟩, fun z hz => ?_, fun y h1 h2 => ?_, by rw [tPhi_add]; show tPhi G' n' + 0 + S0.1 67 ≤ tPhi G n + S2.1 67; rw [e1]; have := hnl.2; omega⟩ he.1 ex ⟨?_, hst⟩ tn.1 tn.2 ⟨?_, ?_, ?_⟩ hD (fun y hy => by rw [c28, if_neg (by omega)]) (by rw [c28, if_pos rfl]) ⟨⟨ht, hr⟩, fun l c q => by rw [nk] at q; exact absurd q List.not_mem_nil, Or.inr ⟨qt, ?_, Or.inl ⟨pt, ?_⟩⟩⟩ (fun q => Nat.le_refl _) (fun y h1 h2 => by omega) ⟨hE.1, hk, by have := hE.2.1; omega, ?_⟩ hxF, ?_⟩
    · have hz' : z < n' := by have := he.1; omega
      rw [(ex.2 z hz').1, (ex.2 z hz').2]
      exact he.2 z hz
    · have : z ≠ n' := by have := he.1; omega
      rw [show fup fl' n' [] z = fl' z from if_neg this, show fup B' n' b' z = B' z from if_neg this]
      exact hfb z hz
    · by_cases q : y = n'
      · rw [q, show fup B' n' b' n' = b' from if_pos rfl, ← hb']
        refine ⟨rfl, fun e lab kids q => ?_⟩
        rw [show (gAdd G' n' ((B t).1, .inl 0)).2 n' = ((B t).1, .inl 0) from if_pos rfl] at q
        have := congrArg Prod.snd q
        cases this
      · rw [show fup B' n' b' y = B' y from if_neg q, show (gAdd G' n' ((B t).1, .inl 0)).2 y = G'.2 y from if_neg q]
        exact hnl.1 y h1 (by omega)
    · exact zSk_eq (S := S2) (fun i _ => by rw [ca 40 (by decide) (by decide), ca 41 (by decide) (by decide)]; exact ⟨rfl, rfl⟩) rfl (ca 30 (by decide) (by decide)) (ca 31 (by decide) (by decide)) sk2
    · show S2.1 68 = st
      rw [e1]; exact h68
    · intro z hz
      have := mk2.1 z hz
      show (zset (ztyp S2 n' 0 0 (-1) (zfb b')) 28 (t : Int) (n' : Int)).2.2.1 27 (z : Int) = st ↔ _
      rw [ca 27 (by decide) (by decide)]; exact this
    · intro z h1 h2
      show (zset (ztyp S2 n' 0 0 (-1) (zfb b')) 28 (t : Int) (n' : Int)).2.2.1 27 z ≤ _
      rw [ca 27 (by decide) (by decide)]; exact mk2.2 z h1 h2
    · rw [show fup cp t n' t = n' from if_pos rfl]
      exact ⟨he.1, by omega, if_pos rfl⟩
    · rw [show fup cp t n' t = n' from if_pos rfl, show (gAdd G' n' ((B t).1, .inl 0)).2 n' = ((B t).1, .inl 0) from if_pos rfl, g, o0]
      rfl
    · have := hE.2.2
      show S2.1 67 + _ ≤ N2
      rw [e1]; omega
    · show 110000 * cnt (fun z => z ∉ K.map Prod.fst ∧ ¬ (Bk z ∨ z = t)) n + zsz K < 110000 * cnt (fun z => z ∉ K.map Prod.fst ∧ ¬ Bk z) n + zsz K
      omega
end ZInst2
