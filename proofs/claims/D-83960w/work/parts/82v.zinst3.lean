set_option maxRecDepth 100000
/-! THE REFERENCE'S TYPES: instances: the walk -/
section ZInst3
variable {adm : Nat → Bool} {d : Nat} {S S1 S' S0 : ZS} {μ : Zmp} {G G' G'' : TG} {n n' m x y z a b t N1 : Nat} {fl fl' : Nat → List Nat} {B B' : Nat → Zfl} {F L : List Nat} {N : TN} {i v w c st N2 : Int} {R P Q Kp Bk Bk' : Nat → Prop} {cp : Nat → Nat} {K : List (Nat × List Nat)} {up : Option Nat}
theorem nd_val {α β : Type} {l : α} {a b : β} : ∀ {k : List (α × β)}, (k.map Prod.fst).Nodup → (l, a) ∈ k → (l, b) ∈ k → a = b
  | [], _, h, _ => absurd h List.not_mem_nil
  | q :: k, hn, h1, h2 => by
    rw [List.map_cons, List.nodup_cons] at hn
    rcases List.mem_cons.mp h1 with e1 | m1
    · rcases List.mem_cons.mp h2 with e2 | m2
      · rw [← e1] at e2; exact (Prod.mk.inj e2).2.symm
      · exact absurd (List.mem_map.mpr ⟨(l, b), m2, by rw [← e1]⟩) hn.1
    · rcases List.mem_cons.mp h2 with e2 | m2
      · exact absurd (List.mem_map.mpr ⟨(l, a), m1, by rw [← e2]⟩) hn.1
      · exact nd_val hn.2 m1 m2
theorem zIv_wf (hw : tWF G n) (h : zIv P Q Kp S0 μ G n fl B R st x N1 N2 up S G' n' fl' B' K Bk cp) (hP : ∀ z, P z → ∃ e, G.2 z = (e, .inl 0)) : tWF G' n' := by
  obtain ⟨⟨_, _, he, _⟩, _, _, ⟨hD, _, sur⟩, _⟩ := h
  have new : ∀ y, n ≤ y → y < n' → ∃ z, Bk z ∧ cp z = y ∧ G'.1 y = y := by
    intro y h1 h2
    obtain ⟨z, z1, z2⟩ := sur y h1 h2
    refine ⟨z, z1, z2, ?_⟩
    obtain ⟨_, q1, _, q3⟩ := hD z z1
    rcases q3 with ⟨_, q⟩ | ⟨_, q, _⟩
    · omega
    · rw [← z2]; exact q.2.2
  refine ⟨fun y hy => ?_, fun y hy hr e lab loose kids hg => ?_⟩
  · by_cases q : y < n
    · have := hw.1 y q
      rw [(he.2 y q).1, (he.2 _ this.1).1]
      exact ⟨by have := he.1; omega, this.2⟩
    · obtain ⟨_, _, _, r⟩ := new y (by omega) hy
      rw [r, r]; exact ⟨hy, rfl⟩
  · by_cases q : y < n
    · rw [(he.2 y q).1] at hr
      rw [(he.2 y q).2] at hg
      have := hw.2 y q hr e lab loose kids hg
      exact ⟨this.1, fun l c m => by have := this.2 l c m; have := he.1; omega⟩
    · obtain ⟨z, z1, z2, r⟩ := new y (by omega) hy
      obtain ⟨_, ⟨h1, h2⟩, _, q3⟩ := hD z z1
      rcases q3 with ⟨_, q'⟩ | ⟨_, _, ⟨hp, q'⟩ | ⟨e1, e2, lab1, k1, k2, q1, q2, q3, q4, q5⟩⟩
      · omega
      · obtain ⟨e0, g0⟩ := hP z hp
        rw [z2, hg, g0] at q'
        have := congrArg Prod.snd q'
        cases this
      · rw [z2, hg] at q2
        cases q2
        have := hw.2 z h1 h2 _ _ _ _ q1
        refine ⟨by rw [q4]; exact this.1, fun l c m => ?_⟩
        obtain ⟨d, md⟩ := map_mem q4 m
        exact (q5 l d c md m).1
theorem zSk_cq (h : ZCq S S1) (ag : zAg [] [28] S1 S') : ∀ {K : List (Nat × List Nat)}, zSk S K → zSk S' K
  | [], _ => trivial
  | q :: K, hs => by
    obtain ⟨h1, h2, h3⟩ := hs
    have e40 : S'.2.2.1 40 = S.2.2.1 40 := (ag.2.2.1 40 (by decide)).trans (h.1.2.2.1 40 (by decide))
    have e41 : S'.2.2.1 41 = S.2.2.1 41 := (ag.2.2.1 41 (by decide)).trans (h.1.2.2.1 41 (by decide))
    refine ⟨by rw [e40]; exact h1, ?_, zSk_cq h ag h3⟩
    rw [e41]
    refine ZCh_eq (by rw [ag.1 67 List.not_mem_nil]; exact h.2.1.2) (fun f m => ?_) h2
    obtain ⟨_, q1, q2⟩ := h.2.2.1 f (ZCh_lt h2 f m)
    exact ⟨(congrFun (ag.2.2.1 30 (by decide)) _).trans q1, (congrFun (ag.2.2.1 31 (by decide)) _).trans q2⟩
/-- the result of the walk -/
def zIo (P Q Kp : Nat → Prop) (S0 : ZS) (μ : Zmp) (G : TG) (n : Nat) (fl : Nat → List Nat) (B : Nat → Zfl) (R : Nat → Prop) (st : Int) (x N1 : Nat) (N2 : Int) (v : Int) (S' : ZS) : Prop := ∃ G' n' fl' B' Bk cp, v = (cp x : Int) ∧ Bk x ∧ zIv P Q Kp S0 μ G n fl B R st x N1 N2 none S' G' n' fl' B' [] Bk cp
/-- a place is left -/
theorem z_inst_pop (h0 : ZG S0 μ G n fl B R) (hw : tWF G n) (hg : zGen S0 G n B P Q) (hN1 : N1 ≤ 57000) (hN2 : N2 ≤ 106000) (h : zIv P Q Kp S0 μ G n fl B R st x N1 N2 none S G' n' fl' B' ((z, []) :: K) Bk cp) (next : ∀ S2 G'' m fl'' B'' cp', zIv P Q Kp S0 μ G n fl B R st x N1 N2 none S2 G'' m fl'' B'' K (fun y => Bk y ∨ y = z) cp' → zW (ZL (d + 2) 425 [.inl (x : Int), .inl (K.length : Int)] S2) (oI (zIo P Q Kp S0 μ G n fl B R st x N1 N2) (fun _ => False))) : zW (ZL (d + 2) 425 [.inl (x : Int), .inl ((K.length : Int) + 1)] S) (oI (zIo P Q Kp S0 μ G n fl B R st x N1 N2) (fun _ => False)) := by
  have hw' := zIv_wf hw h (fun z hp => (hg.1.2.1 z hp).2)
  have hx57 := h
  obtain ⟨⟨hG, hq, he, hfb, hnl⟩, ⟨hsk, hst⟩, ⟨h68, hmk, hmb⟩, hD, hE, hF⟩ := h
  obtain ⟨gq, gx, gP, gV⟩ := hg
  have hlen := tStk_len (tStc_stk hst)
  rw [List.length_cons] at hlen
  obtain ⟨s40, s41, sK⟩ := hsk
  obtain ⟨⟨⟨z1, z2, z3, z4⟩, hkd⟩, ⟨D, d1, d2⟩, k5, k6⟩ := hst
  have s40 : S.2.2.1 40 (K.length : Int) = (z : Int) := s40
  have s41 : S.2.2.1 41 (K.length : Int) = -1 := s41
  have z1 : z < n := z1
  have z2 : G.1 z = z := z2
  have z3 : ¬ Bk z := z3
  have z4 : z ∉ K.map Prod.fst := z4
  have d1 : fl z = D := by have d1 : fl z = D ++ [] := d1; rw [d1, List.append_nil]
  have hkz : Kp z := hE.1 z (Or.inl (List.mem_cons_self ..))
  have c1 := zcnt_one (Kp := Kp) z1 hkz z3
  have c2 := zleft_one (G := G) (Kp := Kp) z1 hkz z3
  obtain ⟨hn, hn2, hn3⟩ := hG.2.1
  have hnn := he.1
  obtain ⟨kz, fz⟩ := ZDq_n hq h0 z1
  have hk : zyk S z = 2 ∨ zyk S z = 3 := by rw [kz]; exact hkd
  have fz' := hfb z z1
  have lt0 := ZNode_lt (h0.2.2.2.2.1 z z1 z2)
  have ft : ∀ f ∈ fl z, zft S (f : Nat) = zft S0 (f : Nat) ∧ zfl S (f : Nat) = zfl S0 (f : Nat) := fun f m => ⟨(hq.2.2.1 f (lt0 f m)).2.1, (hq.2.2.1 f (lt0 f m)).1⟩
  have kid : ∀ f ∈ fl z, (zft S0 (f : Nat)).toNat < n ∧ Bk (G.1 (zft S0 (f : Nat)).toNat) ∧ G'.1 (zft S (f : Nat)).toNat = G.1 (zft S0 (f : Nat)).toNat := by
    intro f m
    obtain ⟨_, q1, _⟩ := ZG_fld h0 hw z1 z2 m
    refine ⟨q1, ?_, by rw [(ft f m).1, (he.2 _ q1).1]⟩
    rcases d2 f (by rw [← d1]; exact m) with q | q
    · exact q
    · cases q
  have zl0 : 0 ≤ zleft G n Kp (fun y => Bk y ∨ y = z) := isum_nn (fun z _ => by split <;> omega)
  -- what z is
  obtain ⟨e0, lab, loose, kids, key, hgz, hkey, hkk, hlen2⟩ : ∃ e0 lab loose kids key, G.2 z = (e0, .inr (lab, loose, kids)) ∧ kids = zkd S0 key (fl z) ∧ (∀ f ∈ fl z, (if zyk S z = 2 then kA (zfl S (f : Nat)) else mK μ (zfl S (f : Nat))) = key (zfl S0 (f : Nat))) ∧ e0 = (B z).1 := by
    rcases hkd with q | q
    · obtain ⟨_, g, _, _⟩ := ZG_2 h0 z1 z2 q
      exact ⟨_, _, _, _, kA, g, rfl, fun f m => by rw [kz, q, (ft f m).2]; rfl, rfl⟩
    · obtain ⟨_, g, _, _⟩ := ZG_3 h0 z1 z2 q
      exact ⟨_, _, _, _, mK μ, g, rfl, fun f m => by rw [kz, q, (ft f m).2]; rfl, rfl⟩
  have nP : ¬ P z := fun hp => by
    obtain ⟨_, e, g⟩ := gq.2.1 z hp
    rw [hgz] at g
    have := congrArg Prod.snd g
    cases this
  have tk : (tkids (G.2 z)).length = (fl z).length := by
    rw [hgz, hkey]
    exact zkd_len
  have cpk : ∀ k, Bk k → G'.1 (cp k) = cp k ∧ cp k < n' := by
    intro k hb
    obtain ⟨_, ⟨h1, h2⟩, _, q⟩ := hD.1 k hb
    rcases q with ⟨_, q⟩ | ⟨_, q, _⟩
    · rw [q, (he.2 k h1).1]; exact ⟨h2, by omega⟩
    · exact ⟨q.2.2, q.2.1⟩
  refine zl_instanceOf_p28 ?_
  unfold zb_instanceOf_p28
  refine zW_f (by omega) ?_
  rw [show (K.length : Int) + 1 - 1 = (K.length : Int) by omega, show (K.length : Int) + 1 + -1 = (K.length : Int) by omega]
  refine zW_a (by omega) (zW_let (zW_a (by omega) (zW_let ?_)))
  rw [s40, s41]
  refine zW_t rfl (zW_G (by omega) (zW_let ?_))
  have hc := z_copied (d := d) (cp := cp) (n := n') hw' (by omega) (by rw [(he.2 z z1).1]; exact z2) (by have := hE.2.1; omega) hk hG (fun f m => by
    rw [fz'.1] at m
    obtain ⟨q1, q2, q3⟩ := kid f m
    rw [q3]
    exact (hD.1 _ q2).1) (by rw [fz'.1]; have := hE.2.2; omega)
  have fin : ∀ (S5 : ZS) (G'' : TG) (m : Nat) (fl'' : Nat → List Nat) (B'' : Nat → Zfl) (c : Nat), ZCq S S5 → (ZG S5 μ G'' m fl'' B'' R ∧ tExt G n G'' m ∧ (∀ z, z < n → fl'' z = fl z ∧ B'' z = B z) ∧ (∀ y, n ≤ y → y < m → (B'' y).2.2.2.2 = false ∧ ∀ e lab kids, G''.2 y ≠ (e, .inr (lab, true, kids))) ∧ tPhi G'' m + S0.1 67 ≤ tPhi G n + S5.1 67) → tExt G' n' G'' m → zDone G n P Q G'' m (fun y => Bk y ∨ y = z) (fup cp z c) z → (n ≤ c → n' ≤ c) → (∀ y, n' ≤ y → y < m → y = c) → m + cnt (fun y => Kp y ∧ ¬ (Bk y ∨ y = z)) n ≤ N1 → S5.1 67 + zleft G n Kp (fun y => Bk y ∨ y = z) ≤ N2 → zW (zs S5 28 57000 (z : Int) (c : Int) fun S9 => ZL (d + 2) 425 [.inl (x : Int), .inl (K.length : Int)] S9) (oI (zIo P Q Kp S0 μ G n fl B R st x N1 N2) (fun _ => False)) := by
    intro S5 G'' m fl'' B'' c hcq ⟨A1, A2, A3, A4⟩ hex hdn hi hs hm1 hm2
    refine zW_st (by omega) ?_
    have ag : zAg [] [28] S5 (zset S5 28 (z : Int) (c : Int)) := zAg_set (by decide) zAg_refl
    have f27 : (zset S5 28 (z : Int) (c : Int)).2.2.1 27 = S.2.2.1 27 := (ag.2.2.1 27 (by decide)).trans (hcq.1.2.2.1 27 (by decide))
    have f28 : ∀ y : Int, (zset S5 28 (z : Int) (c : Int)).2.2.1 28 y = if y = (z : Int) then (c : Int) else S.2.2.1 28 y := by
      intro y
      show (if 28 = 28 ∧ y = (z : Int) then (c : Int) else S5.2.2.1 28 y) = _
      by_cases q : y = (z : Int)
      · rw [if_pos ⟨rfl, q⟩, if_pos q]
      · rw [if_neg (fun w => q w.2), if_neg q, hcq.1.2.2.1 28 (by decide)]
    refine next _ G'' m fl'' B'' _ (zIv_add (S := S) (cp := cp) (c := c) (t := z) (n' := n') (G' := G') ⟨ZG_ag A1 ag (by decide) (by decide), ZDq_trans (ZDq_trans hq (ZDq_cq hcq)) (ZDq_ag ag (by decide) (by decide)), A2, A3, A4⟩ hnn hex ⟨zSk_cq hcq ag sK, k6⟩ z4 z3 ⟨?_, fun y hy => ?_, fun y h1 h2 => ?_⟩ hD (fun y hy => by rw [f28, if_neg (by omega)]) (by rw [f28, if_pos rfl]) hdn hi hs ⟨fun y hy => hE.1 y (hy.imp (fun q => List.mem_cons_of_mem _ q) (fun q => q)), hkz, hm1, hm2⟩ ?_)
    · rw [← h68, ← hcq.1.1 68 (by decide)]; rfl
    · show (zset S5 28 (z : Int) (c : Int)).2.2.1 27 (y : Int) = st ↔ _
      rw [f27]
      have := hmk y hy
      rw [show S.2.2.1 27 (y : Int) = zymk S y from rfl, this]
      constructor
      · rintro (q | q)
        · rcases List.mem_cons.mp q with q | q
          · exact Or.inr (Or.inr q)
          · exact Or.inl q
        · exact Or.inr (Or.inl q)
      · rintro (q | q | q)
        · exact Or.inl (List.mem_cons_of_mem _ q)
        · exact Or.inr q
        · rw [q]; exact Or.inl (List.mem_cons_self ..)
    · show (zset S5 28 (z : Int) (c : Int)).2.2.1 27 y ≤ _
      rw [f27]; exact hmb y h1 h2
    · rcases hF with q | q | q
      · exact Or.inl q
      · rcases List.mem_cons.mp q with q | q
        · exact Or.inr (Or.inr q.symm)
        · exact Or.inr (Or.inl q)
      · cases q
  have kidB : ∀ l c, (l, c) ∈ tkids (G.2 z) → Bk (G.1 c) := by
    intro l c m
    obtain ⟨f, f1, f2⟩ := ZG_kid h0 z1 z2 m
    rw [f2]
    exact (kid f f1).2.1
  refine zW_I (P := _) (T := fun _ => False) (by exact hc) (fun r S5 hr => ?_) (fun S5 q => False.elim q)
  rcases hr with ⟨same, rfl, l5, g5⟩ | ⟨diff, rfl, L, cq, h66, h67, hge, hL, g5⟩
  · have nQ : ¬ Q z := by
      intro hqz
      rcases gx z hqz with q | ⟨l, c, q, qc⟩
      · exact nP q
      · obtain ⟨f, f1, f2⟩ := ZG_kid h0 z1 z2 q
        obtain ⟨q1, q2, q3⟩ := kid f f1
        have sm := same f (by rw [fz'.1]; exact f1)
        rw [q3] at sm
        rw [f2] at qc
        obtain ⟨_, _, _, w⟩ := hD.1 _ q2
        rcases w with ⟨w, _⟩ | ⟨_, w, _⟩
        · exact w qc
        · have := (hw.1 _ q1).1
          omega
    have e67 : S5.1 67 = S.1 67 := l5.1.1 67 (by decide)
    refine fin S5 G' n' fl' B' z (ZCq_lk l5) ⟨g5, he, hfb, hnl.1, by rw [e67]; exact hnl.2⟩ ⟨Nat.le_refl _, fun y _ => ⟨rfl, rfl⟩⟩ ⟨⟨z1, z2⟩, fun l c m => Or.inl (kidB l c m), Or.inl ⟨nQ, if_pos rfl⟩⟩ (fun q => by omega) (fun y h1 h2 => by omega) (by have := hE.2.1; omega) (by rw [e67]; have := hE.2.2; omega)
  · have hqz : Q z := by
      obtain ⟨f, f1, f2⟩ := diff
      rw [fz'.1] at f1
      obtain ⟨q1, q2, q3⟩ := kid f f1
      rw [q3] at f2
      obtain ⟨_, _, _, w⟩ := hD.1 _ q2
      rcases w with ⟨_, w⟩ | ⟨w, _, _⟩
      · exact absurd w f2
      · refine Classical.byContradiction fun nq => ?_
        obtain ⟨⟨l, ml⟩, _⟩ := ZG_fld h0 hw z1 z2 f1
        exact gq.2.2.1 z z1 z2 nq l _ ml w
    have lo : loose = false := by
      cases q : loose with
      | false => rfl
      | true => rw [q] at hgz; exact absurd hgz (gq.2.2.2 z hqz e0 lab kids)
    subst lo
    have g2z : G'.2 z = G.2 z := (he.2 z z1).2
    have gN : zcpN S μ G' cp z (fl' z) (B' z).1 = (e0, .inr (lab, false, zcpk S μ G' cp z (fl z))) := by
      unfold zcpN
      rw [g2z, hgz, fz'.1, fz'.2, hlen2]
    rw [gN] at g5
    have kmem : ∀ l d', (l, d') ∈ zcpk S μ G' cp z (fl z) → ∃ f ∈ fl z, l = key (zfl S0 (f : Nat)) ∧ d' = cp (G.1 (zft S0 (f : Nat)).toNat) := by
      intro l d' m
      obtain ⟨f, f1, f2⟩ := List.mem_map.mp m
      obtain ⟨e1, e2⟩ := Prod.mk.inj f2
      refine ⟨f, f1, by rw [← e1]; exact hkk f f1, by rw [← e2, (kid f f1).2.2]⟩
    have kfst : (zcpk S μ G' cp z (fl z)).map Prod.fst = kids.map Prod.fst := by
      rw [hkey]
      unfold zcpk zkd
      rw [List.map_map, List.map_map]
      exact List.map_congr_left fun f m => hkk f m
    have ex : tExt G' n' (gAdd G' n' (e0, .inr (lab, false, zcpk S μ G' cp z (fl z)))) (n' + 1) := tAdd_g.1
    refine fin S5 _ (n' + 1) _ _ n' cq ⟨g5, ⟨by omega, fun y hy => ?_⟩, fun y hy => ?_, fun y h1 h2 => ?_, by
      rw [tPhi_add, show (tkids ((e0, .inr (lab, false, zcpk S μ G' cp z (fl z))) : TN)).length = (fl z).length from by show (zcpk S μ G' cp z (fl z)).length = _; unfold zcpk; rw [List.length_map], h67, fz'.1]
      have := hnl.2
      omega⟩ ex ⟨⟨z1, z2⟩, fun l c m => Or.inl (kidB l c m), Or.inr ⟨hqz, ?_, Or.inr ⟨e0, e0, lab, kids, zcpk S μ G' cp z (fl z), hgz, ?_, rfl, kfst, fun l dd d' m1 m2 => ?_⟩⟩⟩ (fun _ => Nat.le_refl _) (fun y h1 h2 => by omega) (by have := hE.2.1; omega) (by rw [h67, fz'.1]; have := hE.2.2; omega)
    · have hy' : y < n' := by omega
      rw [(ex.2 y hy').1, (ex.2 y hy').2]
      exact he.2 y hy
    · have : y ≠ n' := by omega
      rw [show fup fl' n' L y = fl' y from if_neg this]
      refine ⟨(hfb y hy).1, ?_⟩
      rw [← (hfb y hy).2]
      exact if_neg this
    · by_cases q : y = n'
      · subst q
        refine ⟨?_, fun e lab' kids' q => ?_⟩
        · show (fup B' y _ y).2.2.2.2 = false
          unfold fup; rw [if_pos rfl]
        · rw [show (gAdd G' y (e0, .inr (lab, false, zcpk S μ G' cp z (fl z)))).2 y = _ from if_pos rfl] at q
          cases q
      · have := hnl.1 y h1 (by omega)
        refine ⟨?_, ?_⟩
        · show (fup B' n' _ y).2.2.2.2 = false
          unfold fup; rw [if_neg q]; exact this.1
        · rw [show (gAdd G' n' (e0, .inr (lab, false, zcpk S μ G' cp z (fl z)))).2 y = G'.2 y from if_neg q]
          exact this.2
    · rw [show fup cp z n' z = n' from if_pos rfl]
      exact ⟨hnn, by omega, if_pos rfl⟩
    · rw [show fup cp z n' z = n' from if_pos rfl]
      exact if_pos rfl
    · obtain ⟨f, f1, f2, f3⟩ := kmem l d' m2
      have m3 : (l, (zft S0 (f : Nat)).toNat) ∈ kids := by
        rw [hkey, f2]
        exact zkd_mem.mpr ⟨f, f1, rfl, rfl⟩
      have e5 := nd_val (hw.2 z z1 z2 _ _ _ _ hgz).1 m1 m3
      rw [e5, f3]
      obtain ⟨q1, q2, q3⟩ := kid f f1
      obtain ⟨r1, r2⟩ := cpk _ q2
      have nz : G.1 (zft S0 (f : Nat)).toNat ≠ z := fun q => z3 (by rw [← q]; exact q2)
      rw [show fup cp z n' (G.1 (zft S0 (f : Nat)).toNat) = cp (G.1 (zft S0 (f : Nat)).toNat) from if_neg nz, (ex.2 _ r2).1]
      exact ⟨by omega, r1⟩
/-- the walk -/
theorem z_inst_loop (h0 : ZG S0 μ G n fl B R) (hw : tWF G n) (hf : tFinS G n) (hg : zGen S0 G n B P Q) (hKp : tSet G n Kp) (hN1 : N1 ≤ 57000) (hN2 : N2 ≤ 106000) : ∀ (M : Nat) (K : List (Nat × List Nat)) (S : ZS) (G' : TG) (n' : Nat) (fl' : Nat → List Nat) (B' : Nat → Zfl) (Bk : Nat → Prop) (cp : Nat → Nat), zms n K Bk ≤ M → zIv P Q Kp S0 μ G n fl B R st x N1 N2 none S G' n' fl' B' K Bk cp → zW (ZL (d + 2) 425 [.inl (x : Int), .inl (K.length : Int)] S) (oI (zIo P Q Kp S0 μ G n fl B R st x N1 N2) (fun _ => False)) := by
  intro M
  induction M with
  | zero =>
    intro K S G' n' fl' B' Bk cp hM h
    cases K with
    | nil =>
      have hx : Bk x := by
        rcases h.2.2.2.2.2 with q | q | q
        · exact q
        · exact absurd q List.not_mem_nil
        · cases q
      obtain ⟨e28, hd⟩ := h.2.2.2.1.1 x hx
      have := h.1.1.2.1
      have := h.1.2.2.1.1
      have := hd.1.1
      refine zl_instanceOf_p28 ?_
      unfold zb_instanceOf_p28
      refine zW_t (Int.le_refl _) (zW_a (by omega) ?_)
      rw [e28]
      exact zW_rI ⟨G', n', fl', B', Bk, cp, rfl, hx, h⟩
    | cons q K => unfold zms zsz at hM; omega
  | succ M ih =>
    intro K S G' n' fl' B' Bk cp hM h
    cases K with
    | nil =>
      have hx : Bk x := by
        rcases h.2.2.2.2.2 with q | q | q
        · exact q
        · exact absurd q List.not_mem_nil
        · cases q
      obtain ⟨e28, hd⟩ := h.2.2.2.1.1 x hx
      have := h.1.1.2.1
      have := h.1.2.2.1.1
      have := hd.1.1
      refine zl_instanceOf_p28 ?_
      unfold zb_instanceOf_p28
      refine zW_t (Int.le_refl _) (zW_a (by omega) ?_)
      rw [e28]
      exact zW_rI ⟨G', n', fl', B', Bk, cp, rfl, hx, h⟩
    | cons q K =>
      obtain ⟨z, F⟩ := q
      have el : ((((z, F) :: K).length : Nat) : Int) = (K.length : Int) + 1 := by rw [List.length_cons]; omega
      rw [el]
      cases F with
      | nil =>
        refine z_inst_pop h0 hw hg hN1 hN2 h (fun S2 G2 m fl2 B2 cp2 h2 => ih K S2 G2 m fl2 B2 _ cp2 ?_ h2)
        have e2 : zsz ((z, []) :: K) = 0 + 1 + zsz K := rfl
        have := cnt_le (n := n) (P := fun y => y ∉ K.map Prod.fst ∧ ¬ (Bk y ∨ y = z)) (Q := fun y => y ∉ ((z, ([] : List Nat)) :: K).map Prod.fst ∧ ¬ Bk y) (fun y _ ⟨h1, h2⟩ => ⟨fun q => by
          rcases List.mem_cons.mp q with q | q
          · exact h2 (Or.inr q)
          · exact h1 q, fun q => h2 (Or.inl q)⟩)
        unfold zms at hM ⊢
        show 110000 * cnt (fun y => y ∉ K.map Prod.fst ∧ ¬ (Bk y ∨ y = z)) n + zsz K ≤ M
        omega
      | cons f F =>
        have hh := h
        obtain ⟨⟨hG, hq, he, hfb, hnl⟩, ⟨hsk, hst⟩, ⟨h68, hmk, hmb⟩, hD, hE, hF⟩ := h
        have hlen := tStk_len (tStc_stk hst)
        rw [List.length_cons] at hlen
        have hst' := hst
        obtain ⟨s40, s41, sK⟩ := hsk
        obtain ⟨⟨⟨z1, z2, z3, z4⟩, hkd⟩, ⟨D, d1, d2⟩, k5, k6⟩ := hst
        have s40 : S.2.2.1 40 (K.length : Int) = (z : Int) := s40
        obtain ⟨f1, f2, f3, f4⟩ := s41
        have f1 : S.2.2.1 41 (K.length : Int) = (f : Int) := f1
        have z1 : z < n := z1
        have z2 : G.1 z = z := z2
        have d1 : fl z = D ++ f :: F := d1
        have hnn := he.1
        obtain ⟨hn, hn2, hn3⟩ := hG.2.1
        have fm : f ∈ fl z := by rw [d1]; exact List.mem_append_right _ (List.mem_cons_self ..)
        obtain ⟨⟨l, ml⟩, hk1, hk2⟩ := ZG_fld h0 hw z1 z2 fm
        have lt0 := ZNode_lt (h0.2.2.2.2.1 z z1 z2)
        have ft := (hq.2.2.1 f (lt0 f fm)).2.1
        have hkz : Kp z := hE.1 z (Or.inl (List.mem_cons_self ..))
        refine zl_instanceOf_p28 ?_
        unfold zb_instanceOf_p28
        refine zW_f (by omega) ?_
        rw [show (K.length : Int) + 1 - 1 = (K.length : Int) by omega, show (K.length : Int) + 1 + -1 = (K.length : Int) by omega]
        refine zW_a (by omega) (zW_let (zW_a (by omega) (zW_let ?_)))
        rw [f1]
        refine zW_f (by omega) (zW_a (by omega) (zW_st (by omega) ?_))
        have ag1 : zAg [] [41] S (zset S 41 (K.length : Int) (S.2.2.1 31 (f : Int))) := zAg_set (by decide) zAg_refl
        have hG1 := ZG_ag hG ag1 (by decide) (by decide)
        refine zW_a (by omega) ?_
        rw [show (zset S 41 (K.length : Int) (S.2.2.1 31 (f : Int))).2.2.1 30 (f : Int) = ((zft S0 f).toNat : Int) by
          show zft S f = _; omega]
        obtain ⟨S2, g1, g2, g3⟩ := z_find (d := d + 1) (x := (zft S0 (f : Nat)).toNat) hG1 (by omega)
        rw [(he.2 _ hk1).1] at g1
        refine zW_Ie (zc_s.trans g1) (zW_let ?_)
        generalize ht : G.1 (zft S0 f).toNat = tt at g1
        have ht1 := hw.1 _ hk1
        rw [ht] at ht1
        have a40 : S2.2.2.1 40 = S.2.2.1 40 := (g2.1.2.2.1 40 (by decide)).trans (ag1.2.2.1 40 (by decide))
        have a41 : S2.2.2.1 41 = fun i => if i = (K.length : Int) then zfn S f else S.2.2.1 41 i := by
          rw [g2.1.2.2.1 41 (by decide)]
          funext i
          show (if 41 = 41 ∧ i = (K.length : Int) then _ else S.2.2.1 41 i) = _
          by_cases q : i = (K.length : Int)
          · rw [if_pos ⟨rfl, q⟩, if_pos q]
          · rw [if_neg (fun w => q w.2), if_neg q]
        have a30 : S2.2.2.1 30 = S.2.2.1 30 := (g2.1.2.2.1 30 (by decide)).trans (ag1.2.2.1 30 (by decide))
        have a31 : S2.2.2.1 31 = S.2.2.1 31 := (g2.1.2.2.1 31 (by decide)).trans (ag1.2.2.1 31 (by decide))
        have a27 : S2.2.2.1 27 = S.2.2.1 27 := (g2.1.2.2.1 27 (by decide)).trans (ag1.2.2.1 27 (by decide))
        have a28 : S2.2.2.1 28 = S.2.2.1 28 := (g2.1.2.2.1 28 (by decide)).trans (ag1.2.2.1 28 (by decide))
        have a67 : S2.1 67 = S.1 67 := (g2.1.1 67 (by decide)).trans (ag1.1 67 (by decide))
        have a68 : S2.1 68 = st := ((g2.1.1 68 (by decide)).trans (ag1.1 68 (by decide))).trans h68
        have sK2 : zSk S2 ((z, F) :: K) := by
          refine ⟨by rw [a40]; exact s40, ?_, zSk_eq (fun i hi => ?_) a67 a30 a31 sK⟩
          · rw [a41]
            show ZCh S2 F (if (K.length : Int) = (K.length : Int) then zfn S f else _)
            rw [if_pos rfl]
            exact ZCh_eq (by rw [a67]; exact Int.le_refl _) (fun f _ => ⟨by show S2.2.2.1 30 _ = _; rw [a30], by show S2.2.2.1 31 _ = _; rw [a31]⟩) f4
          · rw [a40, a41]
            exact ⟨rfl, if_neg (by omega)⟩
        have base : ∀ up, (Bk tt ∨ up = some tt) → (up = none → True) → zIv P Q Kp S0 μ G n fl B R st x N1 N2 up S2 G' n' fl' B' ((z, F) :: K) Bk cp := by
          intro up hup _
          refine ⟨⟨g3, ZDq_trans (ZDq_trans hq (ZDq_ag ag1 (by decide) (by decide))) (ZDq_cq (ZCq_lk g2)), he, hfb, hnl.1, by rw [a67]; exact hnl.2⟩, ⟨sK2, ⟨⟨⟨z1, z2, z3, z4⟩, hkd⟩, ⟨D ++ [f], by rw [d1]; simp, fun g hg => ?_⟩, k5, k6⟩⟩, ⟨a68, fun y hy => ?_, fun y hy hy2 => ?_⟩, ⟨fun y hy => by rw [a28]; exact hD.1 y hy, hD.2⟩, ⟨hE.1, hE.2.1, by rw [a67]; exact hE.2.2⟩, ?_⟩
          · rcases List.mem_append.mp hg with q | q
            · rcases d2 g q with q | q
              · exact Or.inl q
              · cases q
            · have : g = f := by simpa using q
              rw [this, ht]
              exact hup
          · show S2.2.2.1 27 (y : Int) = st ↔ _
            rw [a27]; exact hmk y hy
          · show S2.2.2.1 27 y ≤ _
            rw [a27]; exact hmb y hy hy2
          · rcases hF with q | q | q
            · exact Or.inl q
            · exact Or.inr (Or.inl q)
            · cases q
        have mt := hmk tt ht1.1
        refine zW_a (by omega) ?_
        rw [show S2.2.2.1 27 (tt : Int) = zymk S tt by rw [a27], a68]
        refine zW_if (fun e => ?_) (fun e => ?_)
        · have hb : Bk tt := by
            rcases mt.mp e with q | q
            · exfalso
              obtain ⟨w, w1, w2⟩ := hf
              obtain ⟨p, hp⟩ := tStk_path h0 hw (tStc_stk hst') tt q
              obtain ⟨px, hpx⟩ := tStk_path h0 hw (tStc_stk hst') x (tStk_bot (tStc_stk hst'))
              rcases hgz : G.2 z with ⟨e0, o | ⟨lab, loose, kids⟩⟩
              · rw [hgz] at ml; exact absurd ml (List.not_mem_nil)
              · rw [hgz] at ml
                have xl : x < n := ((tStk_lt (tStc_stk hst')).1 x (tStk_bot (tStc_stk hst'))).1
                have r1 := tPl_snoc hw p tt z ht1.1 hp _ _ _ _ hgz l _ ml
                have r2 := tPl_snoc hw px x z xl hpx _ _ _ _ hgz l _ ml
                rw [ht] at r1 r2
                exact tRing_no hw xl r2 r1 (by simp) ⟨w1, w2 x xl⟩
            · exact q
          have := ih ((z, F) :: K) S2 G' n' fl' B' Bk cp ?_ (base none (Or.inl hb) (fun _ => trivial))
          · rw [show ((((z, F) :: K).length : Nat) : Int) = (K.length : Int) + 1 by rw [List.length_cons]; omega] at this
            exact this
          · unfold zms at hM ⊢
            have e2 : zsz ((z, f :: F) :: K) = F.length + 1 + 1 + zsz K := rfl
            have e3 : zsz ((z, F) :: K) = F.length + 1 + zsz K := rfl
            have e4 : ((z, f :: F) :: K).map Prod.fst = ((z, F) :: K).map Prod.fst := rfl
            rw [e4] at hM
            omega
        · have hent := z_enter (d := d) h0 hg hKp hN1 ht1.1 ht1.2 (by rw [← ht]; exact (hKp z hkz).2 l _ ml) (base (some tt) (Or.inr rfl) (fun _ => trivial)) (by show S2.2.2.1 27 (tt : Int) ≠ st; rw [a27]; exact e) (show tRel S0 G fl x tt ((z, F) :: K) from ⟨f, fm, ht⟩)
          rw [show ((((z, F) :: K).length : Nat) : Int) = (K.length : Int) + 1 by rw [List.length_cons]; omega] at hent
          refine zW_I (P := _) (T := fun _ => False) (by exact hent) (fun r S3 hr => zW_let ?_) (fun S5 q => False.elim q)
          obtain ⟨G3, m3, fl3, B3, K3, Bk3, cp3, rfl, r1, r2⟩ := hr
          refine ih K3 S3 G3 m3 fl3 B3 Bk3 cp3 ?_ r1
          unfold zms at hM r2 ⊢
          have e2 : zsz ((z, f :: F) :: K) = F.length + 1 + 1 + zsz K := rfl
          have e3 : zsz ((z, F) :: K) = F.length + 1 + zsz K := rfl
          have e4 : ((z, f :: F) :: K).map Prod.fst = ((z, F) :: K).map Prod.fst := rfl
          rw [e4] at hM
          omega
end ZInst3
