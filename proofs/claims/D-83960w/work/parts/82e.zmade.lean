set_option maxRecDepth 100000
/-! THE REFERENCE'S TYPES: made ones, unknown ones become one -/
/-- roots -/
noncomputable abbrev troots (G : TG) (n : Nat) : Nat := cnt (fun z => G.1 z = z) n
/-- what a step of joining gives -/
def ZStep (adm : Nat → Bool) (G0 : TG) (n x y : Nat) (S : ZS) (μ : Zmp) (G : TG) (R : Nat → Prop) (W : TW) (E : List Nat) (a b : Nat) (r : Int) (S' : ZS) : Prop :=
  (r = 0 ∧ ZJf R S S' ∧ ∀ w, ¬ (tSol tT G n w ∧ tGen G n w ∧ w a = w b)) ∨
  (r = 1 ∧ ZJf R S S' ∧ ∃ G' fl' B' W' E', JI G0 n x y G' n W' ∧ ZM adm S' μ G' n fl' B' R W' E' ∧ (E'.length : Int) + W'.length + tPhi G' n ≤ E.length + W.length + 1 + tPhi G n ∧ troots G' n < troots G n ∧ zY (S'.1 67) G' n ≤ zY (S.1 67) G n ∧ ∀ t ∈ E', t ∈ E ∨ tBel G0 x y t)
section ZMade
variable {adm : Nat → Bool} {d : Nat} {S S' : ZS} {μ : Zmp} {G G' G0 : TG} {n n' m x y z a b a0 b0 : Nat} {fl fl' : Nat → List Nat} {B B' : Nat → Zfl} {F : List Nat} {N : TN} {Q : Option (Option ZV) → ZS → Prop} {i v w k c f l t : Int} {R R' : Nat → Prop} {W : TW} {E : List Nat} {ba bb : Zfl}
theorem troots_link (ha : a < n) (rb : G.1 b = b) (ra : G.1 a = a) (hab : a ≠ b) : troots (tlink G a b N) n < troots G n := by
  refine cnt_lt (x := a) (fun z hz h => ?_) ha ?_ ra
  · have h : (if G.1 z = a then b else G.1 z) = z := h
    split at h
    · next q => rw [← h]; exact rb
    · exact h
  · intro h
    have h : (if G.1 a = a then b else G.1 a) = a := h
    rw [if_pos ra] at h; exact hab h.symm
theorem JI_belb (hJ : JI G0 n x y G n ((a0, b0) :: W)) (hab : JAb G a0 b0 a b) : tBel G0 x y b := by
  have h2 := hJ.2.1 (a0, b0) (List.mem_cons_self ..)
  have h6 := hJ.2.2.2.2.2.1
  have hb := (JI_at hJ hab).2.1
  rcases hab with ⟨_, e⟩ | ⟨_, e⟩
  · have := h6 b0 h2.2.1 h2.2.2 (by rw [e]; exact hb)
    rw [e] at this; exact this
  · have := h6 a0 h2.1.1 h2.1.2 (by rw [e]; exact hb)
    rw [e] at this; exact this
theorem zeb_bel (h : tBel G0 x y b) : ∀ t ∈ zeb b ba bb E, t ∈ E ∨ tBel G0 x y t := by
  unfold zeb; split
  · intro t ht
    rcases List.mem_cons.mp ht with rfl | ht
    · exact Or.inr h
    · exact Or.inl ht
  · exact fun t ht => Or.inl ht
theorem zeb_len : (zeb b ba bb E).length ≤ E.length + 1 := by
  unfold zeb; split
  · rw [List.length_cons]; omega
  · omega
theorem tlink_fl {N2 : Nat ⊕ (Nat × Bool × List (Ky × Nat))} {c : Nat} (hc : (G.2 (G.1 c)).1 = true) : ((tlink G a b ((G.2 a).1 || (G.2 b).1, N2)).2 ((tlink G a b ((G.2 a).1 || (G.2 b).1, N2)).1 c)).1 = true := by
  show (if (if G.1 c = a then b else G.1 c) = b then (((G.2 a).1 || (G.2 b).1, N2) : TN) else G.2 (if G.1 c = a then b else G.1 c)).1 = true
  by_cases q : G.1 c = a
  · rw [if_pos q, if_pos rfl]
    rw [q] at hc
    show ((G.2 a).1 || (G.2 b).1) = true
    rw [hc]; rfl
  · rw [if_neg q]
    by_cases q' : G.1 c = b
    · rw [if_pos q']
      rw [q'] at hc
      show ((G.2 a).1 || (G.2 b).1) = true
      rw [hc, Bool.or_true]
    · rw [if_neg q']; exact hc
theorem zeb_lt {N2 : Nat ⊕ (Nat × Bool × List (Ky × Nat))} (h : ZG S μ G n fl B R) (hE : ∀ t ∈ E, t < n ∧ (G.2 (G.1 t)).1 = true) (ha : a < n) (hb : b < n) (ra : G.1 a = a) (rb : G.1 b = b) (hab : a ≠ b) : ∀ t ∈ zeb b (B a) (B b) E, t < n ∧ ((tlink G a b ((G.2 a).1 || (G.2 b).1, N2)).2 ((tlink G a b ((G.2 a).1 || (G.2 b).1, N2)).1 t)).1 = true := by
  have old : ∀ t ∈ E, t < n ∧ ((tlink G a b ((G.2 a).1 || (G.2 b).1, N2)).2 ((tlink G a b ((G.2 a).1 || (G.2 b).1, N2)).1 t)).1 = true := fun t ht => ⟨(hE t ht).1, tlink_fl (hE t ht).2⟩
  unfold zeb; split
  · next e =>
    intro t ht
    rcases List.mem_cons.mp ht with rfl | ht
    · refine ⟨hb, ?_⟩
      have na := ZNode_1 (h.2.2.2.2.1 a ha ra)
      have nb := ZNode_1 (h.2.2.2.2.1 t hb rb)
      have e1 : (tlink G a t ((G.2 a).1 || (G.2 t).1, N2)).1 t = t := by
        show (if G.1 t = a then t else G.1 t) = t
        rw [rb, if_neg (fun q => hab q.symm)]
      rw [e1, show (tlink G a t ((G.2 a).1 || (G.2 t).1, N2)).2 t = ((G.2 a).1 || (G.2 t).1, N2) from if_pos rfl]
      show ((G.2 a).1 || (G.2 t).1) = true
      rw [na, nb]
      cases q1 : (B a).1 <;> cases q2 : (B t).1 <;> simp_all
    · exact old t ht
  · exact old
theorem zbec_k (hz : z ≠ a) : zyk (zbec S a b m ba bb) z = zyk S z ∧ zyc (zbec S a b m ba bb) z = zyc S z := by
  unfold zbec
  split
  · exact ⟨(congrFun (zbe2_j (by decide) (by decide)) _).trans (zbe1_o hz), (congrFun (zbe2_j (by decide) (by decide)) _).trans (zbe1_o hz)⟩
  · exact ⟨zbe1_o hz, zbe1_o hz⟩
/-- behind becomes, b's node the same but for equality -/
theorem ZM_bec (hw : tWF G n) (h : ZM adm S μ G n fl B R W E) (ha : a < n) (hb : b < n) (ra : G.1 a = a) (rb : G.1 b = b) (hab : a ≠ b) (ka : zyk S a ≠ 1) : ZM adm (zbec S a b E.length (B a) (B b)) μ (tlink G a b ((G.2 a).1 || (G.2 b).1, (G.2 b).2)) n fl (fup B b (zbb (B a) (B b))) (fun f => R f ∨ f ∈ fl a) W (zeb b (B a) (B b) E) := by
  obtain ⟨h1, ⟨h2, h3⟩, ⟨h4, h5, h6⟩, h7⟩ := h
  obtain ⟨e1, e2⟩ := zbec_E (S := S) (a := a) (b := b) (ba := B a) (bb := B b) h4 h5
  refine ⟨ZG_bec h1 ha hb ra rb hab ka, ⟨zWs_a (zbec_j (by decide) (by decide) (by decide) (by decide)) (zbec_j (by decide) (by decide) (by decide) (by decide)) h2, by rw [zbec_f (by decide)]; exact h3⟩, ⟨e1, e2, zeb_lt h1 h6 ha hb ra rb hab⟩, ?_⟩
  exact JE_link hw h1 h7 ha hb ra rb hab ka (fun z hz => if_neg hz) (by rw [show fup B b (zbb (B a) (B b)) b = zbb (B a) (B b) from if_pos rfl]) (fun z hz => (zbec_k hz).1) (fun z hz _ => (zbec_k hz).2) (fun _ => rfl)
theorem ZM_R (h : ZM adm S μ G n fl B R W E) (hR : ∀ f, R' f → R f) : ZM adm S μ G n fl B R' W E := ⟨ZG_R h.1 hR, h.2⟩
/-- what does not touch types, but pairs -/
theorem ZM_W {A : List Nat} (h : ZM adm S μ G n fl B R W E) (hg : zAg [78] [37, 38] S S') {W' : TW} (hW : zWs S' W' ∧ S'.1 78 = (W'.length : Int)) : ZM adm S' μ G n fl B R W' E := by
  obtain ⟨h1, _, ⟨h4, h5, h6⟩, h7⟩ := h
  refine ⟨ZG_ag h1 hg (by decide) (by decide), hW, ⟨zEs_a (hg.2.2.1 39 (by decide)) h4, by rw [hg.1 79 (by decide)]; exact h5, h6⟩, ?_⟩
  have e1 : zyk S' = zyk S := hg.2.2.1 23 (by decide)
  have e2 : zyc S' = zyc S := hg.2.2.1 25 (by decide)
  intro z hz hr
  have := h7 z hz hr
  rw [e1, e2]; exact this
theorem ZJf_W (hg : zAg [78] [37, 38] S S') : ZJf R S S' := ⟨zAg_mono hg (by decide) (by decide), by rw [hg.1 67 (by decide)]; exact Int.le_refl _, fun f _ => ⟨congrFun (hg.2.2.1 29 (by decide)) _, congrFun (hg.2.2.1 30 (by decide)) _, congrFun (hg.2.2.1 31 (by decide)) _⟩, fun y hy => ⟨by rw [← hy]; exact (congrFun (hg.2.2.1 23 (by decide)) _).symm, congrFun (hg.2.2.1 25 (by decide)) _⟩⟩
theorem ZCh_W (hg : zAg [78] [37, 38] S S') (h : ZCh S F c) : ZCh S' F c := by
  refine ZCh_eq (by rw [hg.1 67 (by decide)]; exact Int.le_refl _) (fun f _ => ⟨?_, ?_⟩) h
  · exact congrFun (hg.2.2.1 30 (by decide)) _
  · exact congrFun (hg.2.2.1 31 (by decide)) _
/-- pairs of parts -/
def zprs (S : ZS) (F1 F2 : List Nat) : TW := (F1.map fun (f : Nat) => (zft S f).toNat).zip (F2.map fun (f : Nat) => (zft S f).toNat)
theorem z_mm : ∀ (F1 F2 : List Nat) (x3 x4 : Int) (S : ZS) (W : TW), ZCh S F1 x3 → ZCh S F2 x4 → F1.length = F2.length → (zWs S W ∧ S.1 78 = (W.length : Int)) → W.length + F1.length ≤ 56999 → S.1 67 ≤ 106000 → zW (ZL (d + 1) 437 [.inl x3, .inl x4] S) (oI (fun r S' => r = 1 ∧ zAg [78] [37, 38] S S' ∧ zWs S' ((zprs S F1 F2).reverse ++ W) ∧ S'.1 78 = (((zprs S F1 F2).reverse ++ W).length : Int)) (fun _ => False))
  | [], F2, x3, x4, S, W, h1, h2, hl, hW, _, _ => by
    have h1 : x3 = -1 := h1
    refine zl_mergeMade_p38 ?_
    unfold zb_mergeMade_p38
    exact zW_t h1 (zW_rZ (Or.inr rfl) ⟨rfl, zAg_refl, by unfold zprs; exact hW⟩)
  | f1 :: F1, [], x3, x4, S, W, _, _, hl, _, _, _ => by cases hl
  | f1 :: F1, f2 :: F2, x3, x4, S, W, h1, h2, hl, hW, hn, h67 => by
    obtain ⟨e1, l1, p1, c1⟩ := h1
    obtain ⟨e2, l2, p2, c2⟩ := h2
    have hl : F1.length = F2.length := by rw [List.length_cons, List.length_cons] at hl; omega
    rw [List.length_cons] at hn
    subst e1; subst e2
    refine zl_mergeMade_p38 ?_
    unfold zb_mergeMade_p38
    refine zW_f (by omega) (zW_a (by omega) (zW_a (by omega) ?_))
    have q1 : S.2.2.1 30 (f1 : Int) = ((zft S f1).toNat : Int) := by have : S.2.2.1 30 (f1 : Int) = zft S f1 := rfl; omega
    have q2 : S.2.2.1 30 (f2 : Int) = ((zft S f2).toNat : Int) := by have : S.2.2.1 30 (f2 : Int) = zft S f2 := rfl; omega
    rw [q1, q2]
    refine zW_Ve (zc_s.trans (z_later (m := W.length) hW.2 (by omega))) (zW_a (by omega) (zW_let (zW_a (by omega) (zW_let ?_))))
    have hg : zAg [78] [37, 38] S (zlat S W.length ((zft S f1).toNat : Int) ((zft S f2).toNat : Int)) := zlat_ag
    have n1 : (zlat S W.length ((zft S f1).toNat : Int) ((zft S f2).toNat : Int)).2.2.1 31 (f1 : Int) = zfn S f1 := congrFun (hg.2.2.1 31 (by decide)) _
    have n2 : (zlat S W.length ((zft S f1).toNat : Int) ((zft S f2).toNat : Int)).2.2.1 31 (f2 : Int) = zfn S f2 := congrFun (hg.2.2.1 31 (by decide)) _
    rw [n1, n2]
    have eF : ∀ F : List Nat, (F.map fun (f : Nat) => (zft (zlat S W.length ((zft S f1).toNat : Int) ((zft S f2).toNat : Int)) f).toNat) = F.map fun (f : Nat) => (zft S f).toNat := fun F => List.map_congr_left fun f _ => by rw [show zft (zlat S W.length ((zft S f1).toNat : Int) ((zft S f2).toNat : Int)) f = zft S f from congrFun (hg.2.2.1 30 (by decide)) _]
    have eP : zprs (zlat S W.length ((zft S f1).toNat : Int) ((zft S f2).toNat : Int)) F1 F2 = zprs S F1 F2 := by unfold zprs; rw [eF, eF]
    have := z_mm F1 F2 _ _ _ (((zft S f1).toNat, (zft S f2).toNat) :: W) (ZCh_W hg c1) (ZCh_W hg c2) hl ⟨zlat_W (q := ((zft S f1).toNat, (zft S f2).toNat)) hW.1 rfl, by show ((W.length : Int) + 1) = _; rw [List.length_cons]; omega⟩ (by rw [List.length_cons]; omega) (by rw [hg.1 67 (by decide)]; exact h67)
    refine zW_mono this (fun o S' h => ?_)
    rcases o with _ | _ | r | r | r
    · exact h
    · exact h
    · obtain ⟨r1, r2, r3, r4⟩ := h
      rw [eP] at r3 r4
      have e : (zprs S (f1 :: F1) (f2 :: F2)).reverse ++ W = (zprs S F1 F2).reverse ++ ((zft S f1).toNat, (zft S f2).toNat) :: W := by
        unfold zprs
        rw [List.map_cons, List.map_cons, List.zip_cons_cons, List.reverse_cons, List.append_assoc]; rfl
      exact ⟨r1, zAg_trans hg r2, by rw [e]; exact r3, by rw [e]; exact r4⟩
    · exact h
    · exact h
theorem zkd_keys {key : Int → Ky} : (zkd S key F).map Prod.fst = F.map fun (f : Nat) => key (zfl S f) := by
  unfold zkd; rw [List.map_map]; rfl
theorem zkd_vals {key : Int → Ky} : (zkd S key F).map Prod.snd = F.map fun (f : Nat) => (zft S f).toNat := by
  unfold zkd; rw [List.map_map]; rfl
theorem zkd_len {key : Int → Ky} : (zkd S key F).length = F.length := List.length_map ..
/-- two made ones -/
theorem z_mergeMade (hμ : Mok μ) (hw0 : tWF G0 n) (hx : x < n) (hy : y < n) (hJ : JI G0 n x y G n ((a0, b0) :: W)) (ea : G.1 a0 = a) (eb : G.1 b0 = b) (h : ZM adm S μ G n fl B R W E) (hab : a ≠ b) (ka : zyk S a = 2) (kb : zyk S b = 2) (hM : (E.length : Int) + W.length + 1 + tPhi G n ≤ 56999) : zW (ZL (d + 1) 146 [.inl (a : Int), .inl (b : Int)] S) (oI (fun r S' => ZStep adm G0 n x y S μ G R W E a b r S') (fun _ => False)) := by
  have hw := hJ.1
  have hab0 : JAb G a0 b0 a b := Or.inl ⟨ea, eb⟩
  obtain ⟨⟨ha, ra⟩, hb, rb⟩ := JI_at hJ hab0
  obtain ⟨hn, hn2, hn3⟩ := h.1.2.1
  rcases h.1.2.2.2.2.1 a ha ra with ⟨q, _⟩ | ⟨q, _⟩ | ⟨_, ⟨ca0, caT⟩, gA, chA, raA⟩ | ⟨q, _⟩
  · rw [ka] at q; cases q
  · rw [ka] at q; cases q
  rotate_left
  · rw [ka] at q; cases q
  rcases h.1.2.2.2.2.1 b hb rb with ⟨q, _⟩ | ⟨q, _⟩ | ⟨_, ⟨cb0, cbT⟩, gB, chB, raB⟩ | ⟨q, _⟩
  · rw [kb] at q; cases q
  · rw [kb] at q; cases q
  rotate_left
  · rw [kb] at q; cases q
  refine zl_mergeMade ?_
  unfold zb_mergeMade
  refine zW_a (by omega) (zW_a (by omega) (zW_if (fun e => ?_) (fun e => ?_)))
  · have e : zyc S a = zyc S b := e
    refine zW_a (by omega) (zW_let (zW_a (by omega) (zW_let ?_)))
    have h79 := h.2.2.1.2.1
    have hE : (E.length : Int) ≤ 56999 := by
      have : 0 ≤ tPhi G n := isum_nn (fun z _ => by split <;> omega)
      omega
    refine zW_Ve (zc_s.trans (z_becomes (by omega) (by omega) hab (h.1.2.2.2.1 a ha) (h.1.2.2.2.1 b hb) h79 (by omega))) ?_
    have hM1 := ZM_bec hw h ha hb ra rb hab (by rw [ka]; decide)
    have hlen : (fl a).length = (fl b).length := by
      have := congrArg List.length (raA.trans (by rw [e] : _ = _) |>.trans raB.symm)
      rwa [List.length_map, List.length_map] at this
    have cj : ∀ {j : Nat}, j ≠ 23 → j ≠ 25 → j ≠ 24 → j ≠ 39 → (zbec S a b E.length (B a) (B b)).2.2.1 j = S.2.2.1 j := fun h1 h2 h3 h4 => zbec_j h1 h2 h3 h4
    have chA' : ZCh (zbec S a b E.length (B a) (B b)) (fl a) (zy1 S a) := ZCh_eq (by rw [zbec_f (by decide)]; exact Int.le_refl _) (fun f _ => ⟨congrFun (cj (by decide) (by decide) (by decide) (by decide)) _, congrFun (cj (by decide) (by decide) (by decide) (by decide)) _⟩) chA
    have chB' : ZCh (zbec S a b E.length (B a) (B b)) (fl b) (zy1 S b) := ZCh_eq (by rw [zbec_f (by decide)]; exact Int.le_refl _) (fun f _ => ⟨congrFun (cj (by decide) (by decide) (by decide) (by decide)) _, congrFun (cj (by decide) (by decide) (by decide) (by decide)) _⟩) chB
    have eP : zprs (zbec S a b E.length (B a) (B b)) (fl a) (fl b) = zprs S (fl a) (fl b) := by
      unfold zprs
      have : ∀ F : List Nat, (F.map fun (f : Nat) => (zft (zbec S a b E.length (B a) (B b)) f).toNat) = F.map fun (f : Nat) => (zft S f).toNat := fun F => List.map_congr_left fun f _ => by rw [show zft (zbec S a b E.length (B a) (B b)) f = zft S f from congrFun (cj (by decide) (by decide) (by decide) (by decide)) _]
      rw [this, this]
    have hPhi := tPhi_link (N := ((G.2 a).1 || (G.2 b).1, (G.2 b).2)) ha hb ra rb hab
    have kA1 : tkids (G.2 a) = zkd S kA (fl a) := by rw [gA]; rfl
    have kB1 : tkids (G.2 b) = zkd S kA (fl b) := by rw [gB]; rfl
    have kN : tkids (((G.2 a).1 || (G.2 b).1, (G.2 b).2) : TN) = tkids (G.2 b) := rfl
    rw [kN, kA1, kB1, zkd_len, zkd_len] at hPhi
    have hPn : 0 ≤ tPhi (tlink G a b ((G.2 a).1 || (G.2 b).1, (G.2 b).2)) n := isum_nn (fun z _ => by split <;> omega)
    refine zW_mono (z_mm (fl a) (fl b) _ _ _ W chA' chB' hlen hM1.2.1 (by omega) (by rw [zbec_f (by decide)]; omega)) (fun o S' hq => ?_)
    rcases o with _ | _ | r | r | r
    · exact hq
    · exact hq
    · obtain ⟨r1, r2, r3, r4⟩ := hq
      rw [eP] at r3 r4
      have keys : (zkd S kA (fl a)).map Prod.fst = (zkd S kA (fl b)).map Prod.fst := by
        have e3 : ∀ F : List Nat, (F.map fun (f : Nat) => kA (zfl S f)) = (F.map (zfl S ∘ Nat.cast)).map kA := fun F => by rw [List.map_map]; rfl
        rw [zkd_keys, zkd_keys, e3, e3, raA, raB, e]
      have gA' : G.2 a = ((G.2 a).1, .inr (mC μ (zyc S b).toNat, false, zkd S kA (fl a))) := by rw [gA, e]
      have gB' : G.2 b = ((G.2 b).1, .inr (mC μ (zyc S b).toNat, false, zkd S kA (fl b))) := by rw [gB]
      have hJ' := JI_same (W1 := (zprs S (fl a) (fl b)).reverse) hw0 hx hy hJ hab0 hab gA' gB' keys (fun q => by
        rw [List.mem_reverse]
        unfold zprs tzip
        rw [zkd_vals, zkd_vals])
      have eN : (((G.2 a).1 || (G.2 b).1, .inr (mC μ (zyc S b).toNat, false, zkd S kA (fl b))) : TN) = ((G.2 a).1 || (G.2 b).1, (G.2 b).2) := by rw [gB]
      rw [eN] at hJ'
      have l1 : (zprs S (fl a) (fl b)).length = (fl a).length := by
        unfold zprs
        rw [List.length_zip, List.length_map, List.length_map]; omega
      have l2 := zeb_len (b := b) (ba := B a) (bb := B b) (E := E)
      refine Or.inr ⟨r1, ZJf_trans zbec_Jf (ZJf_W r2), _, fl, _, _, _, hJ', ZM_R (ZM_W (A := []) hM1 r2 ⟨r3, r4⟩) (fun f hf => Or.inl hf), ?_, troots_link ha rb ra hab, ?_, zeb_bel (JI_belb hJ hab0)⟩
      · rw [List.length_append, List.length_reverse, l1]
        omega
      · rw [r2.1 67 (by decide), zbec_f (by decide)]
        obtain ⟨m, hm⟩ : ∃ m : Nat, S.1 67 = (m : Int) := ⟨(S.1 67).toNat, by omega⟩
        rw [hm]
        exact zY_same ha hb ra rb hab rfl (fun lab kids => by rw [gA]; intro q; cases q)
    · exact hq
    · exact hq
  · have e : zyc S a ≠ zyc S b := e
    refine zW_rZ (Or.inl rfl) (Or.inl ⟨rfl, ZJf_refl, fun w hq => ?_⟩)
    refine tS_clash (v := w) ha hb ra rb gA gB (fun q => e ?_) ⟨hq.1, hq.2.2⟩
    have := hμ.2.2.1 _ _ (by omega) (by omega) q
    omega
end ZMade
