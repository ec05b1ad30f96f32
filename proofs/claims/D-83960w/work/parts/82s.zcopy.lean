set_option maxRecDepth 100000
/-! THE REFERENCE'S TYPES: copies of one place -/
/-- what making places leaves alone -/
def ZCq (S S' : ZS) : Prop := zAg [66, 67] [23, 24, 25, 26, 29, 30, 31] S S' ∧ (S.1 66 ≤ S'.1 66 ∧ S.1 67 ≤ S'.1 67) ∧ (∀ f : Nat, (f : Int) < S.1 67 → zfl S' f = zfl S f ∧ zft S' f = zft S f ∧ zfn S' f = zfn S f) ∧ ∀ z : Nat, (z : Int) < S.1 66 → zyk S' z = zyk S z ∧ zyf S' z = zyf S z ∧ zy1 S' z = zy1 S z ∧ (zyk S z ≠ 4 → zyc S' z = zyc S z)
section ZCopy
variable {adm : Nat → Bool} {d : Nat} {S S1 S' S0 : ZS} {μ : Zmp} {G G' G0 : TG} {n n' m x y z a b p : Nat} {fl fl' : Nat → List Nat} {B B' : Nat → Zfl} {F L : List Nat} {N : TN} {Q : Option (Option ZV) → ZS → Prop} {i v w c f l t k : Int} {R R' : Nat → Prop} {cp : Nat → Nat}
theorem ZCq_refl : ZCq S S := ⟨zAg_refl, ⟨Int.le_refl _, Int.le_refl _⟩, fun _ _ => ⟨rfl, rfl, rfl⟩, fun _ _ => ⟨rfl, rfl, rfl, fun _ => rfl⟩⟩
theorem ZCq_trans {S'' : ZS} (h : ZCq S S') (h' : ZCq S' S'') : ZCq S S'' := by
  obtain ⟨a1, ⟨a2, a3⟩, a4, a5⟩ := h
  obtain ⟨b1, ⟨b2, b3⟩, b4, b5⟩ := h'
  refine ⟨zAg_trans a1 b1, ⟨by omega, by omega⟩, fun f hf => ?_, fun z hz => ?_⟩
  · obtain ⟨p1, p2, p3⟩ := a4 f hf
    obtain ⟨q1, q2, q3⟩ := b4 f (by omega)
    exact ⟨q1.trans p1, q2.trans p2, q3.trans p3⟩
  · obtain ⟨p1, p2, p3, p4⟩ := a5 z hz
    obtain ⟨q1, q2, q3, q4⟩ := b5 z (by omega)
    exact ⟨q1.trans p1, q2.trans p2, q3.trans p3, fun h => (q4 (by rw [p1]; exact h)).trans (p4 h)⟩
theorem ZCq_lk (h : ZLk S S') : ZCq S S' := by
  have a : ∀ j, j ≠ 25 → S'.2.2.1 j = S.2.2.1 j := fun j hj => h.1.2.2.1 j (by simp [hj])
  have e1 : S'.1 = S.1 := funext fun f => h.1.1 f (List.not_mem_nil)
  refine ⟨zAg_mono h.1 (by decide) (by decide), ⟨by rw [e1]; exact Int.le_refl _, by rw [e1]; exact Int.le_refl _⟩, fun f _ => ⟨congrFun (a 29 (by decide)) _, congrFun (a 30 (by decide)) _, congrFun (a 31 (by decide)) _⟩, fun z _ => ⟨congrFun (a 23 (by decide)) _, congrFun (a 24 (by decide)) _, congrFun (a 26 (by decide)) _, h.2 z⟩⟩
theorem ZCq_typ (h : S.1 66 = (n : Int)) : ZCq S (ztyp S n k c f v) := ⟨zAg_mono ztyp_ag (by decide) (by decide), ⟨by show S.1 66 ≤ n + 1; omega, Int.le_refl _⟩, fun f _ => ⟨congrFun (ztyp_a (by decide)) _, congrFun (ztyp_a (by decide)) _, congrFun (ztyp_a (by decide)) _⟩, fun z hz => ⟨ztyp_o (by omega), ztyp_o (by omega), ztyp_o (by omega), fun _ => ztyp_o (by omega)⟩⟩
theorem ZCq_fld (h : S.1 67 = (m : Int)) : ZCq S (zfld S m l t f) := ⟨zAg_mono zfld_ag (by decide) (by decide), ⟨Int.le_refl _, by show S.1 67 ≤ m + 1; omega⟩, fun f hf => ⟨zfld_o (by omega), zfld_o (by omega), zfld_o (by omega)⟩, fun z hz => ⟨congrFun (zfld_a (by decide)) _, congrFun (zfld_a (by decide)) _, congrFun (zfld_a (by decide)) _, fun _ => congrFun (zfld_a (by decide)) _⟩⟩
/-- whether all parts are copies of themselves -/
theorem z_copied_same (hw : tWF G n) (hz : z < n) (hr : G.1 z = z) : ∀ (F : List Nat) (D : List Nat) (x3 : Int) (S : ZS), ZG S μ G n fl B R → fl z = D ++ F → ZCh S F x3 → (∀ f ∈ F, S.2.2.1 28 (G.1 (zft S (f : Nat)).toNat : Nat) = (cp (G.1 (zft S (f : Nat)).toNat) : Int)) → (∀ S', ZLk S S' → ZG S' μ G n fl B R → (∀ f ∈ F, cp (G.1 (zft S (f : Nat)).toNat) = G.1 (zft S (f : Nat)).toNat) → zW (ZL (d + 1) 623 [.inl (z : Int), .inl 1] S') Q) → (∀ S', ZLk S S' → ZG S' μ G n fl B R → (∃ f ∈ F, cp (G.1 (zft S (f : Nat)).toNat) ≠ G.1 (zft S (f : Nat)).toNat) → zW (ZL (d + 1) 623 [.inl (z : Int), .inl 0] S') Q) → zW (ZL (d + 1) 427 [.inl (z : Int), .inl 1, .inl x3] S) Q := by
  intro F
  induction F with
  | nil =>
    intro D x3 S hG hf hc h28 n1 n2
    have hc : x3 = -1 := hc
    refine zl_copied_p9 ?_
    unfold zb_copied_p9
    exact zW_t hc (n1 S ZLk_refl hG (fun f m => absurd m List.not_mem_nil))
  | cons f F ih =>
    intro D x3 S hG hf hc h28 n1 n2
    obtain ⟨c1, c2, c3, c4⟩ := hc
    have h67 := hG.2.1
    have fm : f ∈ fl z := by rw [hf]; exact List.mem_append_right _ (List.mem_cons_self ..)
    obtain ⟨_, hk1, hk2⟩ := ZG_fld hG hw hz hr fm
    have e28 := h28 f (List.mem_cons_self ..)
    obtain ⟨S2, g1, g2, g3⟩ := z_find (d := d) hG hk1
    have a : ∀ j, j ≠ 25 → S2.2.2.1 j = S.2.2.1 j := fun j hj => g2.1.2.2.1 j (by simp [hj])
    obtain ⟨S6, k1, k2, k3⟩ := z_find (d := d) g3 hk1
    have a' : ∀ j, j ≠ 25 → S6.2.2.1 j = S.2.2.1 j := fun j hj => (k2.1.2.2.1 j (by simp [hj])).trans (a j hj)
    have lk := ZLk_trans g2 k2
    have e67 : S6.1 67 = S.1 67 := lk.1.1 67 (by decide)
    have hrt := hw.1 _ hk1
    have hn2 := hG.2.1.2.1
    refine zl_copied_p9 ?_
    unfold zb_copied_p9
    rw [c1]
    refine zW_f (by omega) (zW_f (by decide) (zW_a (by omega) ?_))
    rw [show S.2.2.1 30 (f : Int) = ((zft S f).toNat : Int) by show zft S f = _; omega]
    refine zW_Ie (zc_s.trans g1) (zW_a (by omega) (zW_a (by omega) ?_))
    rw [a 30 (by decide), show S.2.2.1 30 (f : Int) = ((zft S f).toNat : Int) by show zft S f = _; omega]
    refine zW_Ie (zc_s.trans k1) ?_
    rw [a 28 (by decide), e28]
    have c6 : ∀ (x2 : Int) (Q : Option (Option ZV) → ZS → Prop), zW (ZL (d + 1) 427 [.inl (z : Int), .inl x2, .inl (zfn S f)] S6) Q → zW (ZL (d + 1) 624 [.inl (z : Int), .inl (f : Int), .inl x2] S6) Q := by
      intro x2 Q h
      refine zl_copied_p51 ?_
      unfold zb_copied_p51
      refine zW_let (zW_a (by omega) (zW_let ?_))
      rw [a' 31 (by decide)]
      exact h
    refine zW_if (fun e => c6 _ _ ?_) (fun e => c6 _ _ ?_)
    · have e : cp (G.1 (zft S f).toNat) = G.1 (zft S f).toNat := by omega
      have e30 : ∀ g : Nat, zft S6 (g : Nat) = zft S (g : Nat) := fun g => congrFun (a' 30 (by decide)) _
      refine ih (D ++ [f]) _ S6 k3 (by rw [hf, List.append_assoc]; rfl) ?_ (fun g hg => ?_) (fun S' l' g' h' => n1 S' (ZLk_trans lk l') g' (fun g hg => ?_)) (fun S' l' g' h' => n2 S' (ZLk_trans lk l') g' ?_)
      · exact ZCh_eq (by rw [e67]; exact Int.le_refl _) (fun g _ => ⟨congrFun (a' 30 (by decide)) _, congrFun (a' 31 (by decide)) _⟩) c4
      · rw [e30, a' 28 (by decide)]
        exact h28 g (List.mem_cons_of_mem _ hg)
      · rcases List.mem_cons.mp hg with q | q
        · rw [q]; exact e
        · have := h' g q
          rw [e30] at this; exact this
      · obtain ⟨g, g1, g2⟩ := h'
        rw [e30] at g2
        exact ⟨g, List.mem_cons_of_mem _ g1, g2⟩
    · refine zl_copied_p9 ?_
      unfold zb_copied_p9
      have r := n2 S6 lk k3 ⟨f, List.mem_cons_self .., fun q => e (by rw [q])⟩
      exact zW_if (fun _ => r) (fun _ => zW_t rfl r)
theorem ZCq_fs (h : ZCq S0 S) (hp : S0.1 67 ≤ (p : Int)) : ZCq S0 (zset S 31 p v) := by
  refine ⟨zAg_trans h.1 (zAg_set (by decide) zAg_refl), h.2.1, fun f hf => ?_, h.2.2.2⟩
  obtain ⟨h1, h2, h3⟩ := h.2.2.1 f hf
  refine ⟨h1, h2, ?_⟩
  show (if 31 = 31 ∧ (f : Int) = (p : Int) then v else S.2.2.1 31 f) = _
  rw [if_neg (fun q => by omega)]
  exact h3
/-- a part that none has is changed -/
theorem ZG_fs (h : ZG S μ G n fl B R) (hp : R p) : ZG (zset S 31 p v) μ G n fl B R := by
  obtain ⟨h1, h2, h3, h4, h5, h6, h7, h8⟩ := h
  refine ⟨h1, h2, h3, h4, fun x hx hr => ?_, h6, h7, h8⟩
  refine ZNode_eq (S := S) (Int.le_refl (S.1 67)) rfl rfl rfl (fun f hf => ⟨rfl, rfl, ?_⟩) (h5 x hx hr)
  have : f ≠ p := fun e => h8 p hp x hx hr (by rw [← e]; exact hf)
  show (if 31 = 31 ∧ (f : Int) = (p : Int) then v else S.2.2.1 31 f) = _
  rw [if_neg (fun q => this (by omega))]
theorem headO_snoc (h : L ≠ []) : headO (L ++ [m]) = headO L := by
  cases L with
  | nil => exact absurd rfl h
  | cons a L => rfl
theorem ZCh_head : ∀ {L : List Nat} {x : Int}, ZCh S L x → x = headO L
  | [], _, h => h
  | _ :: _, _, h => h.1
/-- one more behind a row -/
theorem ZCh_snoc {l t : Int} (hm : S.1 67 = (m : Int)) (ht : 0 ≤ t) : ∀ {L : List Nat} {x : Int} {p : Nat}, L.Nodup → L.getLast? = some p → ZCh S L x → ZCh (zset (zfld S m l t (-1)) 31 p m) (L ++ [m]) x
  | [], _, _, _, h, _ => by cases h
  | [f], x, p, _, h, hc => by
    have e : f = p := by simpa using h
    subst e
    obtain ⟨c1, c2, c3, _⟩ := hc
    refine ⟨c1, by show (f : Int) < m + 1; omega, ?_, ?_⟩
    · show 0 ≤ (zfld S m l t (-1)).2.2.1 30 f
      rw [zfld_o (by omega)]; exact c3
    · have e31 : zfn (zset (zfld S m l t (-1)) 31 f m) f = (m : Int) := if_pos ⟨rfl, rfl⟩
      rw [e31]
      refine ⟨rfl, by show (m : Int) < m + 1; omega, ?_, ?_⟩
      · show 0 ≤ zft (zfld S m l t (-1)) m
        rw [zfld_n.2.1]; exact ht
      · show (if 31 = 31 ∧ (m : Int) = (f : Int) then (m : Int) else (zfld S m l t (-1)).2.2.1 31 m) = -1
        rw [if_neg (fun q => by omega)]
        exact zfld_n.2.2
  | f :: g :: L, x, p, hn, h, hc => by
    obtain ⟨c1, c2, c3, c4⟩ := hc
    rw [List.nodup_cons] at hn
    have h' : (g :: L).getLast? = some p := by
      rw [List.getLast?_cons_cons] at h; exact h
    have hp : p ∈ g :: L := List.mem_of_getLast? h'
    have fp : f ≠ p := fun e => hn.1 (by rw [e]; exact hp)
    refine ⟨c1, by show (f : Int) < m + 1; omega, ?_, ?_⟩
    · show 0 ≤ (zfld S m l t (-1)).2.2.1 30 f
      rw [zfld_o (by omega)]; exact c3
    · have : zfn (zset (zfld S m l t (-1)) 31 p m) f = zfn S f := by
        show (if 31 = 31 ∧ (f : Int) = (p : Int) then (m : Int) else (zfld S m l t (-1)).2.2.1 31 f) = _
        rw [if_neg (fun q => fp (by omega))]
        exact zfld_o (by omega)
      rw [this]
      exact ZCh_snoc hm ht hn.2 h' c4
theorem zsrt_map : ∀ {L P : List Nat}, P.map (fun (g : Nat) => zfl S' g) = L.map (fun (g : Nat) => zfl S g) → zsrt S L → zsrt S' P
  | [], [], _, _ => trivial
  | [], _ :: _, e, _ => by cases e
  | _ :: _, [], e, _ => by cases e
  | a :: L, b :: P, e, h => by
    rw [List.map_cons, List.map_cons] at e
    obtain ⟨e1, e2⟩ := List.cons.inj e
    refine ⟨fun g hg => ?_, zsrt_map e2 h.2⟩
    have : zfl S' g ∈ P.map (fun (g : Nat) => zfl S' g) := List.mem_map.mpr ⟨g, hg, rfl⟩
    rw [e2] at this
    obtain ⟨f, fm, fe⟩ := List.mem_map.mp this
    rw [e1, ← fe]
    exact h.1 f fm
/-- a copy is made -/
theorem z_copied_make (hw : tWF G n) (hz : z < n) (hr : G.1 z = z) (hn : n < 57000) (hk : zyk S0 z = 2 ∨ zyk S0 z = 3) (h0 : ZG S0 μ G n fl B R) (hcp : ∀ f ∈ fl z, S0.2.2.1 28 (G.1 (zft S0 (f : Nat)).toNat : Nat) = (cp (G.1 (zft S0 (f : Nat)).toNat) : Int)) (h67 : S0.1 67 + (fl z).length ≤ 106000) (next : ∀ (S' : ZS) (L : List Nat), ZCq S0 S' → S'.1 66 = (n : Int) + 1 → S'.1 67 = S0.1 67 + (fl z).length → (∀ f : Nat, f ∈ L → S0.1 67 ≤ (f : Int)) → L.length = (fl z).length → ZG S' μ (gAdd G n ((B z).1, match (G.2 z).2 with
    | .inl o => .inl o
    | .inr q => .inr (q.1, q.2.1, (fl z).map fun (f : Nat) => ((if zyk S0 z = 2 then kA (zfl S0 f) else mK μ (zfl S0 f)), cp (G.1 (zft S0 f).toNat))))) (n + 1) (fup fl n L) (fup B n ((B z).1, (B z).2.1, (B z).2.2.1, (B z).2.2.2.1, false)) R → Q (some (some (.inl (n : Int)))) S') : ∀ (F D : List Nat) (L : List Nat) (S : ZS), fl z = D ++ F → ZG S μ G n fl B (fun f => R f ∨ f ∈ L) → ZCq S0 S → S.1 66 = (n : Int) → S.1 67 = S0.1 67 + L.length → (∀ f : Nat, f ∈ L → S0.1 67 ≤ (f : Int)) → L.Nodup → ZCh S L (headO L) → ZCh S F (headO F) → L.map (fun (g : Nat) => zfl S g) = D.map (fun (f : Nat) => zfl S0 f) → L.map (fun (g : Nat) => zft S g) = D.map (fun (f : Nat) => (cp (G.1 (zft S0 f).toNat) : Int)) → zW (ZL (d + 1) 722 [.inl (z : Int), .inl (headO L), .inl (lastO L), .inl (headO F)] S) Q := by
  intro F
  induction F with
  | nil =>
    intro D L S hf hG q h66 hS67 hge hnd hL hF m1 m2
    have hD : fl z = D := by rw [hf, List.append_nil]
    obtain ⟨c1, c2, c3, c4⟩ := q.2.2.2 z (by rw [h0.1]; omega)
    have c4 := c4 (by rcases hk with w | w <;> rw [w] <;> decide)
    refine zl_copied_p81 ?_
    unfold zb_copied_p81
    refine zW_t rfl (zW_a (by omega) (zW_a (by omega) (zW_a (by omega) (zW_a (by omega) ?_))))
    have e24 : zandI (S.2.2.1 24 (z : Int)) (-17) = zfb ((B z).1, (B z).2.1, (B z).2.2.1, (B z).2.2.2.1, false) := by
      rw [show S.2.2.1 24 (z : Int) = zfb (B z) from c2.trans (h0.2.2.2.1 z hz), zfb_nd]
    rw [show S.2.2.1 23 (z : Int) = zyk S0 z from c1, show S.2.2.1 25 (z : Int) = zyc S0 z from c4, e24]
    have hlen : L.length = (fl z).length := by
      have := congrArg List.length m1
      rw [List.length_map, List.length_map] at this
      rw [this, hD]
    have kd : ∀ (key : Int → Ky) (S' : ZS), (∀ g : Nat, g ∈ L → zfl S' g = zfl S g ∧ zft S' g = zft S g) → zkd S' key L = (fl z).map fun (f : Nat) => (key (zfl S0 f), cp (G.1 (zft S0 f).toNat)) := by
      intro key S' hS'
      rw [hD]
      have gen : ∀ (L D : List Nat), (∀ g : Nat, g ∈ L → zfl S' g = zfl S g ∧ zft S' g = zft S g) → L.map (fun (g : Nat) => zfl S g) = D.map (fun (f : Nat) => zfl S0 f) → L.map (fun (g : Nat) => zft S g) = D.map (fun (f : Nat) => (cp (G.1 (zft S0 f).toNat) : Int)) → zkd S' key L = D.map fun (f : Nat) => (key (zfl S0 f), cp (G.1 (zft S0 f).toNat)) := by
        intro L
        induction L with
        | nil =>
          intro D _ e1 _
          cases D with
          | nil => rfl
          | cons d D => cases e1
        | cons g L ih =>
          intro D hS e1 e2
          cases D with
          | nil => cases e1
          | cons f D =>
            rw [List.map_cons, List.map_cons] at e1 e2
            obtain ⟨p1, p2⟩ := List.cons.inj e1
            obtain ⟨q1, q2⟩ := List.cons.inj e2
            obtain ⟨r1, r2⟩ := hS g (List.mem_cons_self ..)
            show (key (zfl S' g), (zft S' g).toNat) :: zkd S' key L = _
            rw [ih D (fun g hg => hS g (List.mem_cons_of_mem _ hg)) p2 q2, r1, r2, p1, q1, List.map_cons]
            simp
      exact gen L D hS' m1 m2
    have oldL : ∀ (k c : Int) (g : Nat), g ∈ L → zfl (ztyp S n k c (headO L) (zfb ((B z).1, (B z).2.1, (B z).2.2.1, (B z).2.2.2.1, false))) g = zfl S g ∧ zft (ztyp S n k c (headO L) (zfb ((B z).1, (B z).2.1, (B z).2.2.1, (B z).2.2.2.1, false))) g = zft S g := fun k c g _ => ⟨congrFun (ztyp_a (by decide)) _, congrFun (ztyp_a (by decide)) _⟩
    have chL : ∀ (k c : Int), ZCh (ztyp S n k c (headO L) (zfb ((B z).1, (B z).2.1, (B z).2.2.1, (B z).2.2.2.1, false))) L (headO L) := fun k c => ZCh_eq (S := S) (S' := ztyp S n k c (headO L) (zfb ((B z).1, (B z).2.1, (B z).2.2.1, (B z).2.2.2.1, false))) (Int.le_refl (S.1 67)) (fun g _ => ⟨congrFun (ztyp_a (by decide)) _, congrFun (ztyp_a (by decide)) _⟩) hL
    rcases hk with hk | hk
    · rw [hk]
      obtain ⟨⟨z0, zT⟩, g, ch, ar⟩ := ZG_2 h0 hz hr hk
      refine zW_Ie (zc_s.trans (z_type (n := n) h66 hn (Or.inr (Or.inr rfl)))) (zW_rI ?_)
      refine next _ L (ZCq_trans q (ZCq_typ h66)) rfl (by show S.1 67 = _; omega) hge hlen ?_
      refine ZG_R (ZG_add (F := L) hG hn (by decide) (fun f hf => Or.inr hf) ?_) (fun f hf => ⟨Or.inl hf, fun w => by have := hge f w; have := h0.2.2.2.2.2.2.1 f hf; omega⟩)
      refine Or.inr (Or.inr (Or.inl ⟨ztyp_n.1, by rw [show zyc (ztyp S n 2 _ _ _) n = zyc S0 z from ztyp_n.2.2.1]; exact ⟨z0, zT⟩, ?_, by rw [show zy1 (ztyp S n 2 _ _ _) n = headO L from ztyp_n.2.2.2]; exact chL _ _, ?_⟩))
      · rw [show zyc (ztyp S n 2 _ _ _) n = zyc S0 z from ztyp_n.2.2.1, kd kA _ (oldL 2 _)]
        simp only [g, hk, if_true]
      · rw [show zyc (ztyp S n 2 _ _ _) n = zyc S0 z from ztyp_n.2.2.1, ← ar, hD]
        exact m1
    · rw [hk]
      obtain ⟨z0, g, ch, srt, lv⟩ := ZG_3 h0 hz hr hk
      refine zW_Ie (zc_s.trans (z_type3 (n := n) h66 hn)) (zW_rI ?_)
      refine next _ L (ZCq_trans q (ZCq_typ h66)) rfl (by show S.1 67 = _; omega) hge hlen ?_
      refine ZG_R (ZG_add (F := L) hG hn (by decide) (fun f hf => Or.inr hf) ?_) (fun f hf => ⟨Or.inl hf, fun w => by have := hge f w; have := h0.2.2.2.2.2.2.1 f hf; omega⟩)
      refine Or.inr (Or.inr (Or.inr ⟨ztyp_n.1, by rw [show zyc (ztyp S n 3 _ _ _) n = zyc S0 z from ztyp_n.2.2.1]; exact z0, ?_, by rw [show zy1 (ztyp S n 3 _ _ _) n = headO L from ztyp_n.2.2.2]; exact chL _ _, ?_, fun f hf => ?_⟩))
      · rw [kd (mK μ) _ (oldL 3 _)]
        simp only [g, hk, show ¬ ((3 : Int) = 2) by decide, if_false]
      · refine zsrt_map (S := S0) (L := fl z) ?_ srt
        rw [hD]; exact m1
      · have : zfl S f ∈ L.map (fun (g : Nat) => zfl S g) := List.mem_map.mpr ⟨f, hf, rfl⟩
        rw [m1] at this
        obtain ⟨g, gm, ge⟩ := List.mem_map.mp this
        rw [(oldL 3 _ f hf).1, ← ge]
        exact lv g (by rw [hD]; exact gm)
  | cons f F ih =>
    intro D L S hf hG q h66 hS67 hge hnd hL hF m1 m2
    obtain ⟨c1, c2, c3, c4⟩ := hF
    have fm : f ∈ fl z := by rw [hf]; exact List.mem_append_right _ (List.mem_cons_self ..)
    obtain ⟨_, hk1, hk2⟩ := ZG_fld h0 hw hz hr fm
    have lt0 := ZNode_lt (h0.2.2.2.2.1 z hz hr)
    obtain ⟨o1, o2, o3⟩ := q.2.2.1 f (lt0 f fm)
    have b1 := hG.2.1
    have hlen : L.length + (F.length + 1) = (fl z).length := by
      have := congrArg List.length m1
      rw [List.length_map, List.length_map] at this
      rw [this, hf, List.length_append, List.length_cons]
    obtain ⟨m, hm⟩ : ∃ m : Nat, S.1 67 = (m : Int) := ⟨(S.1 67).toNat, by omega⟩
    obtain ⟨S9, g1, g2, g3⟩ := z_find (d := d) hG hk1
    have a : ∀ j, j ≠ 25 → S9.2.2.1 j = S.2.2.1 j := fun j hj => g2.1.2.2.1 j (by simp [hj])
    have e1 : S9.1 = S.1 := funext fun f => g2.1.1 f (List.not_mem_nil)
    have hm9 : S9.1 67 = (m : Int) := by rw [e1]; exact hm
    have hrt := hw.1 _ hk1
    have e28 : S.2.2.1 28 (G.1 (zft S0 (f : Nat)).toNat : Nat) = (cp (G.1 (zft S0 (f : Nat)).toNat) : Int) := by
      rw [q.1.2.2.1 28 (by decide)]; exact hcp f fm
    refine zl_copied_p81 ?_
    unfold zb_copied_p81
    have hx : headO (f :: F) = (f : Int) := rfl
    rw [hx]
    refine zW_f (by omega) (zW_a (by omega) (zW_a (by omega) ?_))
    rw [show S.2.2.1 30 (f : Int) = ((zft S0 f).toNat : Int) by show zft S f = _; omega, show S.2.2.1 29 (f : Int) = zfl S0 f from o1]
    refine zW_Ie (zc_s.trans g1) (zW_a (by omega) ?_)
    rw [a 28 (by decide), e28]
    refine zW_Ie (zc_s.trans (z_field hm9 (by omega))) (zW_let ?_)
    generalize hcc : cp (G.1 (zft S0 f).toNat) = cc at *
    -- what is behind
    have q12 : ZCq S0 (zfld S9 m (zfl S0 f) (cc : Int) (-1)) := ZCq_trans (ZCq_trans q (ZCq_lk g2)) (ZCq_fld hm9)
    have G12 := ZG_field (l := zfl S0 f) (t := (cc : Int)) (a := -1) g3 hm9 (by omega)
    have old : ∀ g : Nat, (g : Int) < m → zfl (zfld S9 m (zfl S0 f) (cc : Int) (-1)) g = zfl S g ∧ zft (zfld S9 m (zfl S0 f) (cc : Int) (-1)) g = zft S g ∧ zfn (zfld S9 m (zfl S0 f) (cc : Int) (-1)) g = zfn S g := fun g hg => ⟨(zfld_o (by omega)).trans (congrFun (a 29 (by decide)) _), (zfld_o (by omega)).trans (congrFun (a 30 (by decide)) _), (zfld_o (by omega)).trans (congrFun (a 31 (by decide)) _)⟩
    have nw := zfld_n (S := S9) (m := m) (l := zfl S0 f) (t := (cc : Int)) (a := -1)
    have Llt : ∀ g : Nat, g ∈ L → (g : Int) < m := fun g hg => by have := ZCh_lt hL g hg; omega
    have last : ∀ S16, (∀ j, j ≠ 31 → S16.2.2.1 j = (zfld S9 m (zfl S0 f) (cc : Int) (-1)).2.2.1 j) → S16.1 = (zfld S9 m (zfl S0 f) (cc : Int) (-1)).1 → (∀ g : Nat, (g : Int) < S0.1 67 → zfn S16 g = zfn S g) → ZG S16 μ G n fl B (fun f => R f ∨ f ∈ L ++ [m]) → ZCq S0 S16 → ZCh S16 (L ++ [m]) (headO (L ++ [m])) → zW (ZL (d + 1) 793 [.inl (z : Int), .inl (headO (L ++ [m])), .inl (f : Int), .inl (m : Int)] S16) Q := by
      intro S16 hj h1 h31 hG16 q16 ch16
      refine zl_copied_p137 ?_
      unfold zb_copied_p137
      refine zW_let (zW_a (by omega) (zW_let ?_))
      rw [show S16.2.2.1 31 (f : Int) = zfn S f from h31 f (lt0 f fm), ZCh_head c4, ← lastO_app (P := L) (a := m)]
      have r29 : ∀ g : Nat, zfl S16 g = zfl (zfld S9 m (zfl S0 f) (cc : Int) (-1)) g := fun g => congrFun (hj 29 (by decide)) _
      have r30 : ∀ g : Nat, zft S16 g = zft (zfld S9 m (zfl S0 f) (cc : Int) (-1)) g := fun g => congrFun (hj 30 (by decide)) _
      refine ih (D ++ [f]) (L ++ [m]) S16 (by rw [hf, List.append_assoc]; rfl) hG16 q16 (by rw [h1]; show S9.1 66 = _; rw [e1]; exact h66) (by rw [h1, List.length_append, List.length_singleton]; show (m : Int) + 1 = _; omega) (fun g hg => ?_) ?_ ch16 ?_ ?_ ?_
      · rcases List.mem_append.mp hg with w | w
        · exact hge g w
        · have : g = m := by simpa using w
          omega
      · refine List.nodup_append.mpr ⟨hnd, by simp, fun x hx y hy e => ?_⟩
        have : y = m := by simpa using hy
        have := Llt x hx
        omega
      · rw [← ZCh_head c4]
        refine ZCh_eq (S := S) (by rw [h1]; show S.1 67 ≤ (m : Int) + 1; omega) (fun g hg => ?_) c4
        have gl := lt0 g (by rw [hf]; exact List.mem_append_right _ (List.mem_cons_of_mem _ hg))
        exact ⟨(r30 g).trans (old g (by omega)).2.1, h31 g gl⟩
      · rw [List.map_append, List.map_append]
        refine congr (congrArg _ ?_) ?_
        · rw [← m1]
          exact List.map_congr_left fun g hg => (r29 g).trans (old g (Llt g hg)).1
        · show [zfl S16 m] = [zfl S0 f]
          rw [r29, nw.1]
      · rw [List.map_append, List.map_append]
        refine congr (congrArg _ ?_) ?_
        · rw [← m2]
          exact List.map_congr_left fun g hg => (r30 g).trans (old g (Llt g hg)).2.1
        · show [zft S16 m] = [(cp (G.1 (zft S0 f).toNat) : Int)]
          rw [r30, nw.2.1, hcc]
    cases hL0 : L with
    | nil =>
      subst hL0
      refine zW_t rfl (zW_let ?_)
      refine last _ (fun _ _ => rfl) rfl (fun g hg => (old g (by omega)).2.2) (ZG_R G12 (fun g hg => ?_)) q12 ?_
      · rcases hg with w | w
        · exact Or.inl (Or.inl w)
        · exact Or.inr (by simpa using w)
      · exact ⟨rfl, by show (m : Int) < m + 1; omega, by rw [nw.2.1]; omega, nw.2.2⟩
    | cons g0 L0 =>
      have ne : L ≠ [] := by rw [hL0]; exact fun q => by cases q
      rw [← hL0]
      obtain ⟨p, p1, p2⟩ := lastO_some ne
      have pm : p ∈ L := List.mem_of_getLast? p1
      have pl := Llt p pm
      have pg := hge p pm
      rw [p2]
      refine zW_f (by rw [hL0]; show (g0 : Int) ≠ -1; omega) (zW_st (by omega) ?_)
      have hh := last (zset (zfld S9 m (zfl S0 f) (cc : Int) (-1)) 31 p m) (fun j hj => funext fun i => if_neg (fun w => hj w.1)) rfl (fun g hg => ?_) (ZG_R (ZG_fs (p := p) (v := (m : Int)) G12 (Or.inl (Or.inr pm))) (fun g hg => ?_)) ?_ ?_
      · rw [headO_snoc ne] at hh
        exact hh
      · show (if 31 = 31 ∧ (g : Int) = (p : Int) then (m : Int) else (zfld S9 m (zfl S0 f) (cc : Int) (-1)).2.2.1 31 g) = _
        rw [if_neg (fun w => by omega)]
        exact (old g (by omega)).2.2
      · rcases hg with w | w
        · exact Or.inl (Or.inl w)
        · rcases List.mem_append.mp w with w | w
          · exact Or.inl (Or.inr w)
          · exact Or.inr (by simpa using w)
      · exact ZCq_fs q12 pg
      · rw [headO_snoc ne]
        refine ZCh_snoc hm9 (by omega) hnd p1 (ZCh_eq (S := S) (by rw [e1]; exact Int.le_refl _) (fun g _ => ⟨congrFun (a 30 (by decide)) _, congrFun (a 31 (by decide)) _⟩) hL)
/-- the kids of a copy -/
noncomputable def zcpk (S : ZS) (μ : Zmp) (G : TG) (cp : Nat → Nat) (z : Nat) (F : List Nat) : List (Ky × Nat) := F.map fun (f : Nat) => ((if zyk S z = 2 then kA (zfl S f) else mK μ (zfl S f)), cp (G.1 (zft S f).toNat))
noncomputable def zcpN (S : ZS) (μ : Zmp) (G : TG) (cp : Nat → Nat) (z : Nat) (F : List Nat) (e : Bool) : TN := (e, match (G.2 z).2 with
    | .inl o => .inl o
    | .inr q => .inr (q.1, q.2.1, zcpk S μ G cp z F))
def ZCo (S : ZS) (μ : Zmp) (G : TG) (n : Nat) (fl : Nat → List Nat) (B : Nat → Zfl) (R : Nat → Prop) (cp : Nat → Nat) (z : Nat) (v : Int) (S' : ZS) : Prop :=
  ((∀ f ∈ fl z, cp (G.1 (zft S (f : Nat)).toNat) = G.1 (zft S (f : Nat)).toNat) ∧ v = (z : Int) ∧ ZLk S S' ∧ ZG S' μ G n fl B R) ∨
  ((∃ f ∈ fl z, cp (G.1 (zft S (f : Nat)).toNat) ≠ G.1 (zft S (f : Nat)).toNat) ∧ v = (n : Int) ∧ ∃ L : List Nat, ZCq S S' ∧ S'.1 66 = (n : Int) + 1 ∧ S'.1 67 = S.1 67 + (fl z).length ∧ (∀ f : Nat, f ∈ L → S.1 67 ≤ (f : Int)) ∧ L.length = (fl z).length ∧ ZG S' μ (gAdd G n (zcpN S μ G cp z (fl z) (B z).1)) (n + 1) (fup fl n L) (fup B n ((B z).1, (B z).2.1, (B z).2.2.1, (B z).2.2.2.1, false)) R)
theorem z_copied (hw : tWF G n) (hz : z < n) (hr : G.1 z = z) (hn : n < 57000) (hk : zyk S z = 2 ∨ zyk S z = 3) (h : ZG S μ G n fl B R) (hcp : ∀ f ∈ fl z, S.2.2.1 28 (G.1 (zft S (f : Nat)).toNat : Nat) = (cp (G.1 (zft S (f : Nat)).toNat) : Int)) (h67 : S.1 67 + (fl z).length ≤ 106000) : zW (ZL (d + 1) 131 [.inl (z : Int)] S) (oI (fun v S' => ZCo S μ G n fl B R cp z v S') (fun _ => False)) := by
  have ch : ∀ S1, ZG S1 μ G n fl B R → zyk S1 z = zyk S z → ZCh S1 (fl z) (zy1 S1 z) := by
    intro S1 h1 e
    rcases hk with w | w
    · exact (ZG_2 h1 hz hr (by rw [e]; exact w)).2.2.1
    · exact (ZG_3 h1 hz hr (by rw [e]; exact w)).2.2.1
  refine zl_copied ?_
  unfold zb_copied
  refine zW_let (zW_a (by omega) (zW_let ?_))
  refine z_copied_same (cp := cp) hw hz hr (fl z) [] _ S h rfl (ch S h rfl) hcp (fun S' l' g' h' => ?_) (fun S' l' g' h' => ?_)
  · refine zl_copied_p62 ?_
    unfold zb_copied_p62
    exact zW_f (by decide) (zW_rI (Or.inl ⟨h', rfl, l', g'⟩))
  · have a : ∀ j, j ≠ 25 → S'.2.2.1 j = S.2.2.1 j := fun j hj => l'.1.2.2.1 j (by simp [hj])
    have e1 : S'.1 = S.1 := funext fun f => l'.1.1 f (List.not_mem_nil)
    have ek := ZLk_k l'
    have e29 : ∀ f : Nat, zfl S' f = zfl S f := fun f => congrFun (a 29 (by decide)) _
    have e30 : ∀ f : Nat, zft S' f = zft S f := fun f => congrFun (a 30 (by decide)) _
    refine zl_copied_p62 ?_
    unfold zb_copied_p62
    refine zW_t rfl (zW_let (zW_let (zW_a (by omega) (zW_let ?_))))
    rw [show S'.2.2.1 26 (z : Int) = headO (fl z) from ZCh_head (ch S' g' (congrFun ek _))]
    refine z_copied_make (cp := cp) (L := []) hw hz hr hn (by rw [ek]; exact hk) g' (fun f m => ?_) (by rw [e1]; exact h67) (fun S2 L q1 q2 q3 q4 q5 q6 => Or.inr ⟨h', rfl, L, ZCq_trans (ZCq_lk l') q1, q2, by rw [q3, e1], fun f m => by have := q4 f m; rw [e1] at this; exact this, q5, ?_⟩) (fl z) [] S' rfl (ZG_R g' (fun f m => m.elim (fun q => q) (fun q => absurd q List.not_mem_nil))) ZCq_refl g'.1 (by simp) (fun f m => absurd m List.not_mem_nil) List.nodup_nil rfl ?_ rfl rfl
    · rw [e30, a 28 (by decide)]; exact hcp f m
    · rw [← ZCh_head (ch S' g' (congrFun ek _))]
      exact ch S' g' (congrFun ek _)
    · have : zcpk S μ G cp z (fl z) = (fl z).map fun (f : Nat) => ((if zyk S' z = 2 then kA (zfl S' f) else mK μ (zfl S' f)), cp (G.1 (zft S' f).toNat)) := List.map_congr_left fun f _ => by rw [ek, e29, e30]
      unfold zcpN
      rw [this]
      exact q6
end ZCopy
