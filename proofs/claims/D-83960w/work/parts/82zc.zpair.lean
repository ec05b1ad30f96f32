set_option maxRecDepth 100000
/-! THE REFERENCE'S TYPES: pairs -/
section ZMade3
variable {adm : Nat → Bool} {d : Nat} {S S1 S' S0 : ZS} {μ : Zmp} {G G' G'' : TG} {n n' m x y z a b lab : Nat} {fl fl' : Nat → List Nat} {B B' : Nat → Zfl} {F L : List Nat} {N : TN} {i v w k c f l t : Int} {R P Q : Nat → Prop} {kids : List (Ky × Nat)}
/-- a pair -/
theorem z_pairType (h : ZTG adm S μ G n R) (hμ : Mok μ) (ha : mL μ (-2) = true ∧ mL μ (-3) = true) (hn : n < 57000) (h67 : S.1 67 + 2 ≤ 106000) (hx : x < n) (hy : y < n) : ∃ S', ZL (d + 1) 15 [.inl (x : Int), .inl (y : Int)] S = some (some (some (.inl (n : Int))), S') ∧ ZNo adm S μ G n R (false, .inr (2, false, [(mK μ (-3), y), (mK μ (-2), x)])) 2 S' := by
  obtain ⟨h66, h67', _⟩ := ZTG_66 h
  obtain ⟨m, hm⟩ : ∃ m : Nat, S.1 67 = (m : Int) := ⟨(S.1 67).toNat, by omega⟩
  let b0 : Zfl := (false, false, false, false, false)
  have e0 : zfb b0 = 0 := by decide
  obtain ⟨a1, a2⟩ := ZTG_field (l := -2) (t := (x : Int)) (i := -1) h hm (by omega)
  have hm1 : (zfld S m (-2) (x : Int) (-1)).1 67 = ((m + 1 : Nat) : Int) := by show (m : Int) + 1 = _; omega
  obtain ⟨b1, b2⟩ := ZTG_field (l := -3) (t := (y : Int)) (i := (m : Int)) a1 hm1 (by omega)
  generalize hS2 : zfld (zfld S m (-2) (x : Int) (-1)) (m + 1) (-3) (y : Int) (m : Int) = S2 at b1 b2
  have h662 : S2.1 66 = (n : Int) := by rw [← hS2]; exact h66
  have n1 := zfld_n (S := zfld S m (-2) (x : Int) (-1)) (m := m + 1) (l := -3) (t := (y : Int)) (a := (m : Int))
  have n0 := zfld_n (S := S) (m := m) (l := -2) (t := (x : Int)) (a := -1)
  rw [hS2] at n1
  have o0 : ∀ j, S2.2.2.1 j (m : Int) = (zfld S m (-2) (x : Int) (-1)).2.2.1 j (m : Int) := fun j => by rw [← hS2]; exact zfld_o (by omega)
  have kc : zyc (ztyp S2 n 3 0 ((m + 1 : Nat) : Int) (zfb b0)) n = 0 := ztyp_n.2.2.1
  have kl : ∀ j, j ≠ 23 ∧ j ≠ 24 ∧ j ≠ 25 ∧ j ≠ 26 → (ztyp S2 n 3 0 ((m + 1 : Nat) : Int) (zfb b0)).2.2.1 j = S2.2.2.1 j := fun j hj => ztyp_a hj
  have x1 : zfl (ztyp S2 n 3 0 ((m + 1 : Nat) : Int) (zfb b0)) (m + 1 : Nat) = -3 ∧ zft (ztyp S2 n 3 0 ((m + 1 : Nat) : Int) (zfb b0)) (m + 1 : Nat) = (y : Int) ∧ zfn (ztyp S2 n 3 0 ((m + 1 : Nat) : Int) (zfb b0)) (m + 1 : Nat) = (m : Int) := ⟨(congrFun (kl 29 (by decide)) _).trans n1.1, (congrFun (kl 30 (by decide)) _).trans n1.2.1, (congrFun (kl 31 (by decide)) _).trans n1.2.2⟩
  have x0 : zfl (ztyp S2 n 3 0 ((m + 1 : Nat) : Int) (zfb b0)) (m : Nat) = -2 ∧ zft (ztyp S2 n 3 0 ((m + 1 : Nat) : Int) (zfb b0)) (m : Nat) = (x : Int) ∧ zfn (ztyp S2 n 3 0 ((m + 1 : Nat) : Int) (zfb b0)) (m : Nat) = -1 := ⟨((congrFun (kl 29 (by decide)) _).trans (o0 29)).trans n0.1, ((congrFun (kl 30 (by decide)) _).trans (o0 30)).trans n0.2.1, ((congrFun (kl 31 (by decide)) _).trans (o0 31)).trans n0.2.2⟩
  have z67 : (ztyp S2 n 3 0 ((m + 1 : Nat) : Int) (zfb b0)).1 67 = (m : Int) + 2 := by
    show S2.1 67 = _
    rw [← hS2]; show ((m + 1 : Nat) : Int) + 1 = _; omega
  have nd : ZNode (ztyp S2 n 3 0 ((m + 1 : Nat) : Int) (zfb b0)) μ (false, .inr (2, false, [(mK μ (-3), y), (mK μ (-2), x)])) [m + 1, m] b0 n := by
    refine Or.inr (Or.inr (Or.inr ⟨ztyp_n.1, by rw [kc]; omega, ?_, ?_, ⟨fun g hg => ?_, (fun g hg => absurd hg List.not_mem_nil), trivial⟩, fun g hg => ?_⟩))
    · have ek : zkd (ztyp S2 n 3 0 ((m + 1 : Nat) : Int) (zfb b0)) (mK μ) [m + 1, m] = [(mK μ (-3), y), (mK μ (-2), x)] := by
        unfold zkd
        rw [List.map_cons, List.map_cons, List.map_nil, x1.1, x1.2.1, x0.1, x0.2.1, Int.toNat_natCast, Int.toNat_natCast]
      rw [ek]
    · rw [show zy1 (ztyp S2 n 3 0 ((m + 1 : Nat) : Int) (zfb b0)) n = ((m + 1 : Nat) : Int) from ztyp_n.2.2.2]
      refine ⟨rfl, by rw [z67]; omega, by rw [x1.2.1]; omega, ?_⟩
      rw [x1.2.2]
      exact ⟨rfl, by rw [z67]; omega, by rw [x0.2.1]; omega, x0.2.2⟩
    · have : g = m := by simpa using hg
      rw [this, x1.1, x0.1]; decide
    · rcases List.mem_cons.mp hg with q | q
      · rw [q, x1.1]; exact ha.2
      · have : g = m := by simpa using q
        rw [this, x0.1]; exact ha.1
  have hnd : [mK μ (-3), mK μ (-2)].Nodup := by
    have : mK μ (-3) ≠ mK μ (-2) := fun q => by
      have := hμ.2.2.2.2 _ _ ha.2 ha.1 q
      omega
    simp [this]
  have hkl : ∀ l c, (l, c) ∈ [(mK μ (-3), y), (mK μ (-2), x)] → c < n := by
    intro l c hm
    rcases List.mem_cons.mp hm with q | q
    · rw [(Prod.mk.inj q).2]; exact hy
    · have q : (l, c) = (mK μ (-2), x) := by simpa using q
      rw [(Prod.mk.inj q).2]; exact hx
  obtain ⟨q1, q2, q3⟩ := ZTG_add b1 hn (by decide) (fun f hf => by
    rcases List.mem_cons.mp hf with q | q
    · exact Or.inr q
    · exact Or.inl (Or.inr (by simpa using q))) nd (TGI_made h.2.2.2.2.2 hnd hkl) rfl
  · refine ⟨_, zW_get (zl_pairType ?_), ZTG_R q1 (fun f hf => ⟨Or.inl (Or.inl hf), fun q => ?_⟩), ZDq_trans (ZDq_trans a2 b2) q2, ?_, ?_, by rw [q3]; rfl, fun v => zY_add (fun _ _ _ q => by cases q)⟩
    · unfold zb_pairType
      have hm2 := z_field (d := d) (S := zfld S m (-2) (x : Int) (-1)) (l := -3) (t := (y : Int)) (a := (m : Int)) hm1 (by omega)
      have := z_type3 (d := d) (S := S2) (n := n) (c := 0) (f := ((m + 1 : Nat) : Int)) (b := b0) (a := 0) h662 hn
      rw [e0] at this
      rw [hS2] at hm2
      exact zW_Ie (zc_s.trans (z_numb (by omega))) (zW_Ie (zc_s.trans (z_numb (by omega))) (zW_Ie (zc_s.trans (z_field hm (by omega))) (zW_Ie (zc_s.trans hm2) (zW_Ie (zc_s.trans this) (zW_rI ⟨rfl, by rw [e0]⟩)))))
    · obtain ⟨⟨fl, B, g1, _⟩, _⟩ := h
      have := g1.2.2.2.2.2.2.1 f hf
      rcases List.mem_cons.mp q with q | q
      · omega
      · have : f = m := by simpa using q
        omega
    · show S2.1 68 = S.1 68
      rw [← hS2]; rfl
    · show S2.1 67 = S.1 67 + 2
      have := z67
      have e : S2.1 67 = (m : Int) + 2 := z67
      omega
end ZMade3
