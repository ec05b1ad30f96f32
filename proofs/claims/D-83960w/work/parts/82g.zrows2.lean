set_option maxRecDepth 100000
/-! THE REFERENCE'S TYPES: allFields -/
section ZRows2
variable {adm : Nat → Bool} {d : Nat} {S S' S0 : ZS} {m n a b : Nat} {F P K T O : List Nat} {Q : Option (Option ZV) → ZS → Prop} {i v w k c f l t x y : Int} {R R' : Nat → Prop} {W W1 : TW}
/-- what comes of it -/
def ZAr (S0 : ZS) (T O : List Nat) (W : TW) (io : Bool) (r : Int) (S' : ZS) : Prop := ∃ L W1, r = headO L ∧ ZCh S' L (headO L) ∧ ZAf S0 T O [] S' L W W1 O.length io
theorem z_af_p155 {io : Bool} {o : Nat} {Ol : List Nat} {x4 x7 : Int} (h0 : ZA0 S0 T O W) (h : ZAl S0 T O (o :: Ol) S P K W W1 io x7) (hs : zsrt S0 (o :: Ol)) (e : ∀ k ∈ K, zfl S o < zfl S (k : Nat)) (hx4 : x4 = headO (P ++ K)) (next : ∀ S1 m, ZAl S0 T O Ol S1 (P ++ [m]) K W W1 io (zfn S o) → zW (ZL (d + 1) 725 [.inl (bI io), .inl (headO ((P ++ [m]) ++ K)), .inl (m : Nat), .inl (headO K), .inl (zfn S o)] S1) Q) : zW (ZL (d + 1) 828 [.inl (bI io), .inl x4, .inl (lastO P), .inl (headO K), .inl x7] S) Q := by
  have hh := h
  obtain ⟨c1, c2, ⟨a1, a2, ⟨b1, b2, b3, b4⟩, ⟨w1, w2⟩, g1, g2, ⟨l1, l2, _⟩⟩, hK, hO, hP⟩ := hh
  obtain ⟨co1, co2, co3, co4⟩ := c2
  obtain ⟨m, hm⟩ : ∃ m : Nat, S.1 67 = (m : Int) := ⟨(S.1 67).toNat, by omega⟩
  have h67 : S.1 67 < 106000 := by
    have := h0.2.2.2.2.2
    rw [List.length_cons] at l1
    omega
  subst hx4
  refine zl_allFields_p155 ?_
  unfold zb_allFields_p155
  rw [co1]
  refine zW_a (by omega) (zW_a (by omega) (zW_Ie (zc_s.trans (z_field hm (by omega))) (zW_let ?_)))
  have hl : ∀ f ∈ P ++ K, (f : Int) < S.1 67 := ZCh_lt c1
  by_cases hne : P = []
  · rw [show lastO P = -1 by rw [hne]; rfl]
    refine zW_t rfl (zW_let ?_)
    have hN := ZAl_new (S' := zfld S m (zfl S o) (zft S o) (headO K)) h0 h hs e hm (if_pos hne).symm
    refine zl_allFields_p199 ?_
    unfold zb_allFields_p199
    refine zW_let (zW_a (by omega) (zW_let ?_))
    have e31 : (zfld S m (S.2.2.1 29 (o : Int)) (S.2.2.1 30 (o : Int)) (headO K)).2.2.1 31 (o : Int) = zfn S o := zfld_o (by omega)
    rw [e31]
    have := next _ m hN
    rw [show headO ((P ++ [m]) ++ K) = (m : Int) by rw [hne]; rfl] at this
    exact this
  · obtain ⟨p, p1, p2⟩ := lastO_some hne
    have hp := hl p (List.mem_append_left _ (List.mem_of_getLast? p1))
    rw [p2]
    refine zW_f (by omega) (zW_st (by omega) ?_)
    have hN := ZAl_new (S' := zset (zfld S m (zfl S o) (zft S o) (headO K)) 31 p m) h0 h hs e hm (by rw [if_neg hne, p2])
    refine zl_allFields_p199 ?_
    unfold zb_allFields_p199
    refine zW_let (zW_a (by omega) (zW_let ?_))
    have hpo : p ≠ o := by
      intro q
      rcases b2 p (List.mem_append_left _ (List.mem_of_getLast? p1)) with w | ⟨w, _⟩
      · exact h0.2.2.1 o (hO o (List.mem_cons_self ..)) (by rw [← q]; exact w)
      · have := h0.2.1 o (hO o (List.mem_cons_self ..)); omega
    have e31 : (zset (zfld S m (S.2.2.1 29 (o : Int)) (S.2.2.1 30 (o : Int)) (headO K)) 31 (p : Int) (m : Int)).2.2.1 31 (o : Int) = zfn S o := by
      refine Eq.trans (if_neg (fun q => hpo (by omega))) ?_
      exact zfld_o (by omega)
    rw [e31]
    have := next _ m hN
    have hh : headO ((P ++ [m]) ++ K) = headO (P ++ K) := by
      cases P with
      | nil => exact absurd rfl hne
      | cons q P => rfl
    rw [hh] at this
    exact this
theorem z_af_p93 {io : Bool} {o : Nat} {Ol : List Nat} {x4 x7 : Int} (h0 : ZA0 S0 T O W) (h : ZAl S0 T O (o :: Ol) S P K W W1 io x7) (hs : zsrt S0 (o :: Ol)) (e : ∀ k ∈ K, zfl S o ≤ zfl S (k : Nat)) (hx4 : x4 = headO (P ++ K)) (nextN : ∀ S1 m, ZAl S0 T O Ol S1 (P ++ [m]) K W W1 io (zfn S o) → zW (ZL (d + 1) 725 [.inl (bI io), .inl (headO ((P ++ [m]) ++ K)), .inl (m : Nat), .inl (headO K), .inl (zfn S o)] S1) Q) (nextE : ∀ S1 W2, ZAl S0 T O Ol S1 P K W W2 io (zfn S o) → zW (ZL (d + 1) 725 [.inl (bI io), .inl (headO (P ++ K)), .inl (lastO P), .inl (headO K), .inl (zfn S o)] S1) Q) : zW (ZL (d + 1) 820 [.inl (bI io), .inl x4, .inl (lastO P), .inl (headO K), .inl x7] S) Q := by
  have hh := h
  obtain ⟨c1, c2, ⟨a1, a2, ⟨b1, b2, b3, b4⟩, ⟨w1, w2⟩, g1, g2, ⟨l1, l2, _⟩⟩, hK, hO, hP⟩ := hh
  obtain ⟨co1, co2, co3, co4⟩ := c2
  have h67 : S.1 67 ≤ 106000 := by
    have := h0.2.2.2.2.2
    rw [List.length_cons] at l1
    omega
  have srtK := (zsrt_app.mp b1).2.1
  refine zl_allFields_p93 ?_
  unfold zb_allFields_p93
  cases K with
  | nil =>
    refine zW_t rfl (z_af_p155 h0 h hs (fun k m => absurd m (List.not_mem_nil)) hx4 nextN)
  | cons k K =>
    have hk := ZCh_lt c1 k (List.mem_append_right _ (List.mem_cons_self ..))
    have hhk : headO (k :: K) = (k : Int) := rfl
    refine zW_f (by omega) ?_
    rw [co1]
    refine zW_a (by omega) (zW_a (by omega) (zW_if (fun q => ?_) (fun q => ?_)))
    · have q : zfl S k = zfl S o := q
      have hlen : (W1 ++ W).length < 57000 := by
        rw [List.length_append]
        have := h0.2.2.2.2.1
        rw [List.length_cons] at l1
        have : T.length ≤ (P ++ k :: K).length := sub_len T _ (zsrt_nd h0.2.2.2.1) b3
        omega
      subst hx4
      have hE := fun S1 hS => ZAl_eq (S' := S1) h0 h hs q hS
      cases io with
      | true =>
        refine zW_f (by decide) ?_
        refine zl_allFields_p132 ?_
        unfold zb_allFields_p132
        refine zW_a (by omega) (zW_f (by decide) ?_)
        refine zl_allFields_p148 ?_
        unfold zb_allFields_p148
        refine zW_a (by omega) (zW_Ve (zc_s.trans (z_later (m := (W1 ++ W).length) w2 hlen)) (zW_a (by omega) (zW_let ?_)))
        have e31 : (zlat S (W1 ++ W).length (S.2.2.1 30 (o : Int)) (S.2.2.1 30 (headO (k :: K)))).2.2.1 31 (o : Int) = zfn S o := congrFun (zlat_ag.2.2.1 31 (by decide)) _
        rw [e31]
        exact nextE _ _ (hE _ rfl)
      | false =>
        refine zW_t rfl ?_
        refine zl_allFields_p132 ?_
        unfold zb_allFields_p132
        refine zW_a (by omega) (zW_t rfl ?_)
        refine zl_allFields_p148 ?_
        unfold zb_allFields_p148
        refine zW_a (by omega) (zW_Ve (zc_s.trans (z_later (m := (W1 ++ W).length) w2 hlen)) (zW_a (by omega) (zW_let ?_)))
        have e31 : (zlat S (W1 ++ W).length (S.2.2.1 30 (headO (k :: K))) (S.2.2.1 30 (o : Int))).2.2.1 31 (o : Int) = zfn S o := congrFun (zlat_ag.2.2.1 31 (by decide)) _
        rw [e31]
        exact nextE _ _ (hE _ rfl)
    · have q : zfl S k ≠ zfl S o := q
      have hk0 := e k (List.mem_cons_self ..)
      rw [← co1]
      refine z_af_p155 h0 h hs (fun k' m => ?_) hx4 nextN
      rcases List.mem_cons.mp m with rfl | m
      · omega
      · have := srtK.1 k' m; omega
theorem z_af_p54 {io : Bool} {o : Nat} {Ol : List Nat} {x4 x7 : Int} : ∀ (K P : List Nat), ZA0 S0 T O W → ZAl S0 T O (o :: Ol) S P K W W1 io x7 → zsrt S0 (o :: Ol) → x4 = headO (P ++ K) → (∀ S1 P' K' W2, ZAl S0 T O Ol S1 P' K' W W2 io (zfn S o) → zW (ZL (d + 1) 725 [.inl (bI io), .inl (headO (P' ++ K')), .inl (lastO P'), .inl (headO K'), .inl (zfn S o)] S1) Q) → zW (ZL (d + 1) 796 [.inl (bI io), .inl x4, .inl (lastO P), .inl (headO K), .inl x7] S) Q
  | [], P, h0, h, hs, hx4, next => by
    refine zl_allFields_p54 ?_
    unfold zb_allFields_p54
    refine zW_t rfl (z_af_p93 h0 h hs (fun k m => absurd m (List.not_mem_nil)) hx4 (fun S1 m q => ?_) (fun S1 W2 q => next S1 P [] W2 q))
    have := next S1 _ _ _ q
    rw [lastO_app] at this
    exact this
  | k :: K, P, h0, h, hs, hx4, next => by
    have hh := h
    obtain ⟨c1, c2, ⟨a1, a2, ⟨b1, b2, b3, b4⟩, ⟨w1, w2⟩, g1, g2, ⟨l1, l2, _⟩⟩, hK, hO, hP⟩ := hh
    have co := c2
    obtain ⟨co1, co2, co3, co4⟩ := c2
    have h67 : S.1 67 ≤ 106000 := by
      have := h0.2.2.2.2.2
      rw [List.length_cons] at l1
      omega
    have srtK := (zsrt_app.mp b1).2.1
    have hk := ZCh_lt c1 k (List.mem_append_right _ (List.mem_cons_self ..))
    have hhk : headO (k :: K) = (k : Int) := rfl
    refine zl_allFields_p54 ?_
    unfold zb_allFields_p54
    refine zW_f (by omega) ?_
    rw [co1]
    refine zW_a (by omega) (zW_a (by omega) (zW_if (fun q => ?_) (fun q => ?_)))
    · have q : zfl S k < zfl S o := q
      refine zW_let (zW_a (by omega) (zW_let ?_))
      obtain ⟨mm, s1, s2⟩ := ZSg_app.mp (ZCh_Sg.mp c1)
      have e31 : S.2.2.1 31 (headO (k :: K)) = headO K := ZSg_head s2.2.2.2
      rw [e31, ← co1, show headO (k :: K) = lastO (P ++ [k]) by rw [lastO_app]; rfl]
      have ea : P ++ k :: K = (P ++ [k]) ++ K := by rw [List.append_assoc]; rfl
      refine z_af_p54 K (P ++ [k]) h0 ⟨by rw [← ea]; exact c1, co, by rw [← ea]; exact ⟨a1, a2, ⟨b1, b2, b3, b4⟩, ⟨w1, w2⟩, g1, g2, ⟨l1, l2, rfl⟩⟩, fun k' m => hK k' (List.mem_cons_of_mem _ m), hO, fun p hp o' ho' => ?_⟩ hs (by rw [hx4, ea]) next
      rcases List.mem_append.mp hp with hp | hp
      · exact hP p hp o' ho'
      · rcases List.mem_cons.mp hp with rfl | hp
        · have fo := (a2 o (h0.2.1 o (hO o (List.mem_cons_self ..)))).1
          rcases List.mem_cons.mp ho' with rfl | ho'
          · rw [← fo]; exact q
          · have := hs.1 o' ho'; omega
        · exact absurd hp (List.not_mem_nil)
    · have q : ¬ zfl S k < zfl S o := q
      rw [← co1]
      refine z_af_p93 h0 h hs (fun k' m => ?_) hx4 (fun S1 m q => ?_) (fun S1 W2 q => next S1 P (k :: K) W2 q)
      · rcases List.mem_cons.mp m with rfl | m
        · omega
        · have := srtK.1 k' m; omega
      · have := next S1 _ _ _ q
        rw [lastO_app] at this
        exact this
theorem z_af_p48 {io : Bool} : ∀ (Ol P K : List Nat) (S : ZS) (W1 : TW) (x7 : Int), ZA0 S0 T O W → ZAl S0 T O Ol S P K W W1 io x7 → zsrt S0 Ol → zW (ZL (d + 1) 725 [.inl (bI io), .inl (headO (P ++ K)), .inl (lastO P), .inl (headO K), .inl x7] S) (oI (fun r S' => ZAr S0 T O W io r S') (fun _ => False))
  | [], P, K, S, W1, x7, h0, h, hs => by
    have h7 : x7 = -1 := h.2.1
    refine zl_allFields_p48 ?_
    unfold zb_allFields_p48
    exact zW_t h7 (zW_rI ⟨P ++ K, W1, rfl, h.1, h.2.2.1⟩)
  | o :: Ol, P, K, S, W1, x7, h0, h, hs => by
    have h7 := h.2.1.1
    refine zl_allFields_p48 ?_
    unfold zb_allFields_p48
    refine zW_f (by omega) (z_af_p54 K P h0 h hs rfl (fun S1 P' K' W2 q => z_af_p48 Ol P' K' S1 W2 _ h0 q hs.2))
theorem z_allFields {FA FB : List Nat} {xa xb : Int} (ha : ZCh S FA xa) (hb : ZCh S FB xb) (sa : zsrt S FA) (sb : zsrt S FB) (hd : ∀ f ∈ FA, f ∉ FB) (hW : zWs S W ∧ S.1 78 = (W.length : Int)) (hl : (FA.length ≤ 100000 ∧ W.length + FA.length ≤ 56999 ∧ (FA.length ≤ FB.length → S.1 67 + FA.length ≤ 106000)) ∧ FB.length ≤ 100000 ∧ W.length + FB.length ≤ 56999 ∧ (FB.length ≤ FA.length → S.1 67 + FB.length ≤ 106000)) (h67' : S.1 67 ≤ 106000) (h67 : 0 ≤ S.1 67) : zW (ZL (d + 2) 144 [.inl xa, .inl xb] S) (oI (fun r S' => if FA.length ≤ FB.length then ZAr S FB FA W true r S' else ZAr S FA FB W false r S') (fun _ => False)) := by
  have start : ∀ (T O : List Nat) (io : Bool) (xt xo : Int), ZCh S T xt → ZCh S O xo → zsrt S T → zsrt S O → (∀ f ∈ O, f ∉ T) → (O.length ≤ 100000 ∧ W.length + O.length ≤ 56999 ∧ S.1 67 + O.length ≤ 106000) → xt = headO T ∧ ZA0 S T O W ∧ ZAl S T O O S [] T W [] io xo := by
    intro T O io xt xo h1 h2 h3 h4 h5 h6
    have ht := ZSg_head (ZCh_Sg.mp h1)
    refine ⟨ht, ⟨ZCh_lt h1, ZCh_lt h2, h5, h3, h6.2.1, h6.2.2, h67⟩, by show ZCh S T (headO T); rw [← ht]; exact h1, h2, ⟨zAg_refl, fun f _ => ⟨rfl, rfl, fun _ => rfl⟩, ⟨h3, fun f m => Or.inl m, fun g m => m, fun g m => Or.inl m⟩, hW, fun q m => absurd m (List.not_mem_nil), fun g m => Or.inl m, ?_, ?_, rfl⟩, fun k m => m, fun o m => m, fun p m => absurd m (List.not_mem_nil)⟩
    · rw [List.length_nil, Nat.zero_add]; rfl
    · show S.1 67 = S.1 67 + (T.length : Int) - T.length
      omega
  refine zl_allFields ?_
  unfold zb_allFields
  refine zW_Ie (zc_s.trans (z_fieldsFrom hb (by omega) (by omega))) (zW_Ie (zc_s.trans (z_fieldsFrom ha (by omega) (by omega))) (zW_if (fun e => ?_) (fun e => ?_)))
  · obtain ⟨e1, e2, e3⟩ := start FA FB false xa xb ha hb sa sb (fun f m q => hd f q m) ⟨hl.2.1, hl.2.2.1, hl.2.2.2 (by omega)⟩
    refine zl_allFields_p18 ?_
    unfold zb_allFields_p18
    refine zW_let (zW_t rfl ?_)
    refine zl_allFields_p28 ?_
    unfold zb_allFields_p28
    refine zW_let (zW_let (zW_let (zW_t rfl (zW_let ?_))))
    have := z_af_p48 (d := d + 1) FB [] FA S [] xb e2 e3 sb
    rw [e1]
    simp only [if_neg (show ¬ FA.length ≤ FB.length by omega)]
    exact this
  · obtain ⟨e1, e2, e3⟩ := start FB FA true xb xa hb ha sb sa hd ⟨hl.1.1, hl.1.2.1, hl.1.2.2 (by omega)⟩
    refine zl_allFields_p18 ?_
    unfold zb_allFields_p18
    refine zW_let (zW_f (by decide) ?_)
    refine zl_allFields_p28 ?_
    unfold zb_allFields_p28
    refine zW_let (zW_let (zW_let (zW_f (by decide) (zW_let ?_))))
    have := z_af_p48 (d := d + 1) FA [] FB S [] xa e2 e3 sa
    rw [e1]
    simp only [if_pos (show FA.length ≤ FB.length by omega)]
    exact this
end ZRows2
