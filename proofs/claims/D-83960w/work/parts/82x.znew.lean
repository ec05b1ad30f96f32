set_option maxRecDepth 100000
/-! THE REFERENCE'S TYPES: new places among types at rest -/
section ZNew
variable {adm : Nat → Bool} {d : Nat} {S S1 S' S0 : ZS} {μ : Zmp} {G G' G'' : TG} {n n' m x y z a b : Nat} {fl fl' : Nat → List Nat} {B B' : Nat → Zfl} {F L : List Nat} {N : TN} {i v w k c f l t : Int} {R P Q : Nat → Prop} {bb : Zfl}
theorem ZTG_R {R' : Nat → Prop} (h : ZTG adm S μ G n R) (hR : ∀ f, R' f → R f) : ZTG adm S μ G n R' := by
  obtain ⟨⟨fl, B, h1, h2⟩, h3⟩ := h
  exact ⟨⟨fl, B, ZG_R h1 hR, h2⟩, h3⟩
theorem ZTG_66 (h : ZTG adm S μ G n R) : S.1 66 = (n : Int) ∧ 0 ≤ S.1 67 ∧ n ≤ 57000 := by
  obtain ⟨⟨fl, B, h1, h2⟩, h3⟩ := h
  exact ⟨h1.1, h1.2.1.1, h1.2.1.2.1⟩
/-- one part more -/
theorem ZTG_field {t : Int} (h : ZTG adm S μ G n R) (hm : S.1 67 = (m : Int)) (hm' : m < 106000) : ZTG adm (zfld S m l t i) μ G n (fun f => R f ∨ f = m) ∧ ZDq S (zfld S m l t i) := by
  obtain ⟨⟨fl, B, h1, h2⟩, hV, hA, ⟨m0, m1⟩, hri, hG⟩ := h
  have q := ZDq_cq (ZCq_fld (S := S) (m := m) (l := l) (t := t) (f := i) hm)
  have ea : ∀ {j : Nat}, j ≠ 29 ∧ j ≠ 30 ∧ j ≠ 31 → (zfld S m l t i).2.2.1 j = S.2.2.1 j := fun hj => zfld_a hj
  refine ⟨⟨⟨fl, B, ZG_field h1 hm hm', fun z hz hr => ?_⟩, fun z hz hk => ?_, ⟨⟨hA.1.1, fun c hc => ?_⟩, hA.2⟩, ⟨m0, fun z w1 w2 => ?_⟩, hri, hG⟩, q⟩
  · rw [show zyk (zfld S m l t i) z = zyk S z from congrFun (ea (by decide)) _, show zyc (zfld S m l t i) z = zyc S z from congrFun (ea (by decide)) _]
    exact h2 z hz hr
  · rw [show zyk (zfld S m l t i) z = zyk S z from congrFun (ea (by decide)) _] at hk
    rw [show zyc (zfld S m l t i) z = zyc S z from congrFun (ea (by decide)) _, ea (j := 3) (by decide), ea (j := 4) (by decide), ea (j := 5) (by decide)]
    exact hV z hz hk
  · rw [ea (j := 36) (by decide)]; exact hA.1.2 c hc
  · show (zfld S m l t i).2.2.1 27 z ≤ _
    rw [ea (by decide)]; exact m1 z w1 w2
/-- one place more -/
theorem ZTG_add (h : ZTG adm S μ G n R) (hn : n < 57000) (hk : k ≠ 4 ∧ k ≠ 1) (hR : ∀ f ∈ F, R f) (hN : ZNode (ztyp S n k c f (zfb bb)) μ N F bb n) (hG' : TGI adm (gAdd G n N) (n + 1)) (hb : bb.2.2.2.2 = false) : ZTG adm (ztyp S n k c f (zfb bb)) μ (gAdd G n N) (n + 1) (fun f => R f ∧ f ∉ F) ∧ ZDq S (ztyp S n k c f (zfb bb)) ∧ tPhi (gAdd G n N) (n + 1) = tPhi G n + (tkids N).length := by
  obtain ⟨⟨fl, B, h1, h2⟩, hV, hA, ⟨m0, m1⟩, hri, hG⟩ := h
  have q := ZDq_cq (ZCq_typ (S := S) (n := n) (k := k) (c := c) (f := f) (v := zfb bb) h1.1)
  have g := ZG_add h1 hn hk.1 hR hN
  have ea : ∀ {j : Nat}, j ≠ 23 ∧ j ≠ 24 ∧ j ≠ 25 ∧ j ≠ 26 → (ztyp S n k c f (zfb bb)).2.2.1 j = S.2.2.1 j := fun hj => ztyp_a hj
  have hA' : ZAd (ztyp S n k c f (zfb bb)) μ adm := ⟨⟨hA.1.1, fun c hc => by rw [ea (j := 36) (by decide)]; exact hA.1.2 c hc⟩, hA.2⟩
  have kn : zyk (ztyp S n k c f (zfb bb)) n = k := ztyp_n.1
  have nR : ∀ e kk, N ≠ (e, .inl (kk + 2)) := by
    intro e kk hN'
    rcases hN with ⟨_, w, _⟩ | ⟨w, _⟩ | ⟨_, _, w, _⟩ | ⟨_, _, w, _⟩
    · rw [hN'] at w
      have := congrArg Prod.snd w
      have this : (Sum.inl (kk + 2) : Nat ⊕ (Nat × Bool × List (Ky × Nat))) = Sum.inl (if bb.2.1 then 1 else 0) := this
      have := Sum.inl.inj this
      split at this <;> omega
    · exact hk.2 (kn.symm.trans w)
    · rw [hN'] at w
      have := congrArg Prod.snd w
      cases this
    · rw [hN'] at w
      have := congrArg Prod.snd w
      cases this
  refine ⟨⟨⟨_, _, g, JE_rest g hG' hA' (fun z hz hr hd => ?_)⟩, fun z hz hkz => ?_, hA', ⟨m0, fun z w1 w2 => ?_⟩, fun z z' kk hz hz' hr hr' w1 w2 => ?_, hG'⟩, q, tPhi_add⟩
  · by_cases e : z = n
    · rw [e, show fup B n bb n = bb from if_pos rfl, hb] at hd; cases hd
    · rw [show fup B n bb z = B z from if_neg e] at hd
      rw [show (gAdd G n N).1 z = G.1 z from if_neg e] at hr
      rw [show (gAdd G n N).2 z = G.2 z from if_neg e, show zyk (ztyp S n k c f (zfb bb)) z = zyk S z from ztyp_o (by omega)]
      obtain ⟨p1, p2, p3, _⟩ := (h2 z (by omega) hr).2 hd
      exact ⟨p1, p2, p3⟩
  · by_cases e : z = n
    · rw [e, kn] at hkz; exact absurd hkz hk.2
    · rw [show zyk (ztyp S n k c f (zfb bb)) z = zyk S z from ztyp_o (by omega)] at hkz
      rw [show zyc (ztyp S n k c f (zfb bb)) z = zyc S z from ztyp_o (by omega), ea (j := 3) (by decide), ea (j := 4) (by decide), ea (j := 5) (by decide)]
      exact hV z (by omega) hkz
  · show (ztyp S n k c f (zfb bb)).2.2.1 27 z ≤ _
    rw [ea (by decide)]; exact m1 z w1 w2
  · have nn : ∀ z, (gAdd G n N).2 z = N ∨ z ≠ n := fun z => by
      by_cases e : z = n
      · exact Or.inl (if_pos e)
      · exact Or.inr e
    have e1 : z ≠ n := fun e => by
      rw [show (gAdd G n N).2 z = N from if_pos e] at w1
      exact nR N.1 kk (Prod.ext rfl w1)
    have e2 : z' ≠ n := fun e => by
      rw [show (gAdd G n N).2 z' = N from if_pos e] at w2
      exact nR N.1 kk (Prod.ext rfl w2)
    rw [show (gAdd G n N).1 z = G.1 z from if_neg e1] at hr
    rw [show (gAdd G n N).1 z' = G.1 z' from if_neg e2] at hr'
    rw [show (gAdd G n N).2 z = G.2 z from if_neg e1] at w1
    rw [show (gAdd G n N).2 z' = G.2 z' from if_neg e2] at w2
    exact hri z z' kk (by omega) (by omega) hr hr' w1 w2
end ZNew
