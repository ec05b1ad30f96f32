set_option maxRecDepth 100000
/-! THE REFERENCE'S TYPES: unknown ones, made ones, arrows -/
section ZMade2
variable {adm : Nat → Bool} {d : Nat} {S S1 S' S0 : ZS} {μ : Zmp} {G G' G'' : TG} {n n' m x y z a b lab : Nat} {fl fl' : Nat → List Nat} {B B' : Nat → Zfl} {F L : List Nat} {N : TN} {i v w k c f l t : Int} {R P Q : Nat → Prop} {kids : List (Ky × Nat)}
theorem TGI_made (hG : TGI adm G n) (hn : (kids.map Prod.fst).Nodup) (hlt : ∀ l c, (l, c) ∈ kids → c < n) : TGI adm (gAdd G n (false, .inr (lab, false, kids))) (n + 1) := by
  have hwk : ∀ e lab' loose kids', ((false, .inr (lab, false, kids)) : TN) = (e, .inr (lab', loose, kids')) → (kids'.map Prod.fst).Nodup ∧ ∀ l c, (l, c) ∈ kids' → c < n := by
    intro e lab' loose kids' he
    cases he
    exact ⟨hn, hlt⟩
  have sat : ∀ adm' (w : Nat → Ttr), tsat adm' (wup w n (tmk lab (kids.map fun q => (q.1, w q.2)))) n (false, .inr (lab, false, kids)) := by
    intro adm' w
    rw [tmk_ns hn, show (kids.map fun q => (q.1, wup w n (tmk lab (kids.map fun q => (q.1, w q.2))) q.2)) = kids.map fun q => (q.1, w q.2) from List.map_congr_left fun q m => by rw [wup_o (hlt q.1 q.2 m)], wup_n]
  refine tAdd_TGI hG tAdd_g hwk (fun w s f => ⟨tmk lab (kids.map fun q => (q.1, w q.2)), tmk_fin (fun q m => ?_), sat _ w⟩) (fun _ _ _ q => by cases q) (fun k q => by cases q)
  obtain ⟨q0, m0, rfl⟩ := List.mem_map.mp m
  exact f _ (hlt q0.1 q0.2 m0)
theorem TGI_fresh (hG : TGI adm G n) : TGI adm (gAdd G n (false, .inl 0)) (n + 1) := by
  refine tAdd_TGI hG tAdd_g (fun e' lab' loose kids' he => by cases he) (fun w s f => ⟨tleaf 0, tleaf_fin, fun _ => tEq_t, ?_⟩) (fun _ _ _ q => by cases q) (fun k q => by cases q)
  show wup w n (tleaf 0) n [] ≠ none ∧ (0 = 1 → tOrd (wup w n (tleaf 0) n))
  rw [wup_n]
  exact ⟨(fun q => by cases q), fun q => by cases q⟩
/-- what making a place gives -/
def ZNo (adm : Nat → Bool) (S : ZS) (μ : Zmp) (G : TG) (n : Nat) (R : Nat → Prop) (N : TN) (k : Int) (S' : ZS) : Prop := ZTG adm S' μ (gAdd G n N) (n + 1) R ∧ ZDq S S' ∧ S'.1 68 = S.1 68 ∧ S'.1 67 = S.1 67 + k ∧ tPhi (gAdd G n N) (n + 1) = tPhi G n + k ∧ ∀ v, zY v (gAdd G n N) (n + 1) = zY v G n
theorem zY_add (hN : ∀ e lab kids, N ≠ (e, .inr (lab, true, kids))) : zY v (gAdd G n N) (n + 1) = zY v G n := zY_ext tAdd_g.1 (fun y h1 h2 e lab kids => by
  have : y = n := by omega
  rw [this, show (gAdd G n N).2 n = N from if_pos rfl]
  exact hN e lab kids)
theorem z_unknown (h : ZTG adm S μ G n R) (hn : n < 57000) : ∃ S', ZL (d + 1) 116 [] S = some (some (some (.inl (n : Int))), S') ∧ ZNo adm S μ G n R (false, .inl 0) 0 S' := by
  obtain ⟨h66, _, _⟩ := ZTG_66 h
  let b0 : Zfl := (false, false, false, false, false)
  have e0 : zfb b0 = 0 := by decide
  obtain ⟨q1, q2, q3⟩ := ZTG_add (k := 0) (c := 0) (f := -1) (F := []) (N := (false, .inl 0)) (bb := b0) h hn (by decide) (fun f m => absurd m List.not_mem_nil) (Or.inl ⟨ztyp_n.1, rfl, rfl⟩) (TGI_fresh h.2.2.2.2.2) rfl
  refine ⟨_, zW_get (zl_unknown ?_), ZTG_R q1 (fun f hf => ⟨hf, List.not_mem_nil⟩), q2, rfl, by show S.1 67 = S.1 67 + 0; omega, by rw [q3]; rfl, fun v => zY_add (fun _ _ _ q => by cases q)⟩
  unfold zb_unknown
  rw [show (Sum.inl (0 : Int) : ZV) = Sum.inl (0 : Int) from rfl]
  have := z_type (d := d) (S := S) (n := n) (k := 0) (c := 0) (f := -1) (b := b0) (a := 0) h66 hn (Or.inl rfl)
  rw [e0] at this
  exact zW_Ie (zc_s.trans this) (zW_rI ⟨rfl, by rw [e0]⟩)
/-- one that has no parts -/
theorem z_made {cc : Nat} (h : ZTG adm S μ G n R) (hn : n < 57000) (hc : cc < mT μ) (ha : mA μ cc = 0) : ∃ S', ZL (d + 1) 9 [.inl (cc : Int)] S = some (some (some (.inl (n : Int))), S') ∧ ZNo adm S μ G n R (false, .inr (mC μ cc, false, [])) 0 S' := by
  obtain ⟨h66, _, _⟩ := ZTG_66 h
  let b0 : Zfl := (false, false, false, false, false)
  have e0 : zfb b0 = 0 := by decide
  have kc : zyc (ztyp S n 2 (cc : Int) (-1) (zfb b0)) n = (cc : Int) := ztyp_n.2.2.1
  obtain ⟨q1, q2, q3⟩ := ZTG_add (k := 2) (c := (cc : Int)) (f := -1) (F := []) (N := (false, .inr (mC μ cc, false, []))) (bb := b0) h hn (by decide) (fun f m => absurd m List.not_mem_nil) (Or.inr (Or.inr (Or.inl ⟨ztyp_n.1, by rw [kc]; exact ⟨by omega, by omega⟩, by rw [kc]; rfl, ztyp_n.2.2.2, by rw [kc, Int.toNat_natCast, ha]; rfl⟩))) (TGI_made h.2.2.2.2.2 List.nodup_nil (fun l c m => absurd m List.not_mem_nil)) rfl
  refine ⟨_, zW_get (zl_made ?_), ZTG_R q1 (fun f hf => ⟨hf, List.not_mem_nil⟩), q2, rfl, by show S.1 67 = S.1 67 + 0; omega, by rw [q3]; rfl, fun v => zY_add (fun _ _ _ q => by cases q)⟩
  unfold zb_made
  have := z_type (d := d) (S := S) (n := n) (k := 2) (c := (cc : Int)) (f := -1) (b := b0) (a := 0) h66 hn (Or.inr (Or.inr rfl))
  rw [e0] at this
  exact zW_Ie (zc_s.trans this) (zW_rI ⟨rfl, by rw [e0]⟩)
/-- a function -/
theorem z_arrow (h : ZTG adm S μ G n R) (hμ : Mok μ) (ha : mA μ 7 = 2) (hn : n < 57000) (h67 : S.1 67 + 2 ≤ 106000) (hx : x < n) (hy : y < n) : ∃ S', ZL (d + 1) 10 [.inl (x : Int), .inl (y : Int)] S = some (some (some (.inl (n : Int))), S') ∧ ZNo adm S μ G n R (false, .inr (5, false, [(kA 0, x), (kA 1, y)])) 2 S' := by
  obtain ⟨h66, h67', _⟩ := ZTG_66 h
  obtain ⟨m, hm⟩ : ∃ m : Nat, S.1 67 = (m : Int) := ⟨(S.1 67).toNat, by omega⟩
  let b0 : Zfl := (false, false, false, false, false)
  have e0 : zfb b0 = 0 := by decide
  obtain ⟨a1, a2⟩ := ZTG_field (l := 1) (t := (y : Int)) (i := -1) h hm (by omega)
  have hm1 : (zfld S m 1 (y : Int) (-1)).1 67 = ((m + 1 : Nat) : Int) := by show (m : Int) + 1 = _; omega
  obtain ⟨b1, b2⟩ := ZTG_field (l := 0) (t := (x : Int)) (i := (m : Int)) a1 hm1 (by omega)
  generalize hS2 : zfld (zfld S m 1 (y : Int) (-1)) (m + 1) 0 (x : Int) (m : Int) = S2 at b1 b2
  have h662 : S2.1 66 = (n : Int) := by rw [← hS2]; exact h66
  have n1 := zfld_n (S := zfld S m 1 (y : Int) (-1)) (m := m + 1) (l := 0) (t := (x : Int)) (a := (m : Int))
  have n0 := zfld_n (S := S) (m := m) (l := 1) (t := (y : Int)) (a := -1)
  rw [hS2] at n1
  have o0 : ∀ j, S2.2.2.1 j (m : Int) = (zfld S m 1 (y : Int) (-1)).2.2.1 j (m : Int) := fun j => by rw [← hS2]; exact zfld_o (by omega)
  have hT := mC μ 7
  have kc : zyc (ztyp S2 n 2 7 ((m + 1 : Nat) : Int) (zfb b0)) n = 7 := ztyp_n.2.2.1
  have kl : ∀ j, j ≠ 23 ∧ j ≠ 24 ∧ j ≠ 25 ∧ j ≠ 26 → (ztyp S2 n 2 7 ((m + 1 : Nat) : Int) (zfb b0)).2.2.1 j = S2.2.2.1 j := fun j hj => ztyp_a hj
  have x1 : zfl (ztyp S2 n 2 7 ((m + 1 : Nat) : Int) (zfb b0)) (m + 1 : Nat) = 0 ∧ zft (ztyp S2 n 2 7 ((m + 1 : Nat) : Int) (zfb b0)) (m + 1 : Nat) = (x : Int) ∧ zfn (ztyp S2 n 2 7 ((m + 1 : Nat) : Int) (zfb b0)) (m + 1 : Nat) = (m : Int) := ⟨(congrFun (kl 29 (by decide)) _).trans n1.1, (congrFun (kl 30 (by decide)) _).trans n1.2.1, (congrFun (kl 31 (by decide)) _).trans n1.2.2⟩
  have x0 : zfl (ztyp S2 n 2 7 ((m + 1 : Nat) : Int) (zfb b0)) (m : Nat) = 1 ∧ zft (ztyp S2 n 2 7 ((m + 1 : Nat) : Int) (zfb b0)) (m : Nat) = (y : Int) ∧ zfn (ztyp S2 n 2 7 ((m + 1 : Nat) : Int) (zfb b0)) (m : Nat) = -1 := ⟨((congrFun (kl 29 (by decide)) _).trans (o0 29)).trans n0.1, ((congrFun (kl 30 (by decide)) _).trans (o0 30)).trans n0.2.1, ((congrFun (kl 31 (by decide)) _).trans (o0 31)).trans n0.2.2⟩
  have z67 : (ztyp S2 n 2 7 ((m + 1 : Nat) : Int) (zfb b0)).1 67 = (m : Int) + 2 := by
    show S2.1 67 = _
    rw [← hS2]; show ((m + 1 : Nat) : Int) + 1 = _; omega
  have nd : ZNode (ztyp S2 n 2 7 ((m + 1 : Nat) : Int) (zfb b0)) μ (false, .inr (5, false, [(kA 0, x), (kA 1, y)])) [m + 1, m] b0 n := by
    refine Or.inr (Or.inr (Or.inl ⟨ztyp_n.1, by rw [kc]; have := hμ.2.2.2.1.2.2.2; omega, ?_, ?_, ?_⟩))
    · rw [kc]
      have ek : zkd (ztyp S2 n 2 7 ((m + 1 : Nat) : Int) (zfb b0)) kA [m + 1, m] = [(kA 0, x), (kA 1, y)] := by
        unfold zkd
        rw [List.map_cons, List.map_cons, List.map_nil, x1.1, x1.2.1, x0.1, x0.2.1, Int.toNat_natCast, Int.toNat_natCast]
      rw [ek, show mC μ (7 : Int).toNat = 5 from hμ.1.2.2.2.2]
    · rw [show zy1 (ztyp S2 n 2 7 ((m + 1 : Nat) : Int) (zfb b0)) n = ((m + 1 : Nat) : Int) from ztyp_n.2.2.2]
      refine ⟨rfl, by rw [z67]; omega, by rw [x1.2.1]; omega, ?_⟩
      rw [x1.2.2]
      exact ⟨rfl, by rw [z67]; omega, by rw [x0.2.1]; omega, x0.2.2⟩
    · rw [kc]
      show [zfl _ (m + 1 : Nat), zfl _ (m : Nat)] = _
      rw [x1.1, x0.1, show (7 : Int).toNat = 7 from rfl, ha]
      rfl
  have hkl : ∀ l c, (l, c) ∈ [(kA 0, x), (kA 1, y)] → c < n := by
    intro l c hm
    rcases List.mem_cons.mp hm with q | q
    · rw [(Prod.mk.inj q).2]; exact hx
    · have q : (l, c) = (kA 1, y) := by simpa using q
      rw [(Prod.mk.inj q).2]; exact hy
  obtain ⟨q1, q2, q3⟩ := ZTG_add b1 hn (by decide) (fun f hf => by
    rcases List.mem_cons.mp hf with q | q
    · exact Or.inr q
    · exact Or.inl (Or.inr (by simpa using q))) nd (TGI_made h.2.2.2.2.2 (show [kA 0, kA 1].Nodup by decide) hkl) rfl
  · refine ⟨_, zW_get (zl_arrow ?_), ZTG_R q1 (fun f hf => ⟨Or.inl (Or.inl hf), fun q => ?_⟩), ZDq_trans (ZDq_trans a2 b2) q2, ?_, ?_, by rw [q3]; rfl, fun v => zY_add (fun _ _ _ q => by cases q)⟩
    · unfold zb_arrow
      have hm2 := z_field (d := d) (S := zfld S m 1 (y : Int) (-1)) (l := 0) (t := (x : Int)) (a := (m : Int)) hm1 (by omega)
      have := z_type (d := d) (S := S2) (n := n) (k := 2) (c := 7) (f := ((m + 1 : Nat) : Int)) (b := b0) (a := 0) h662 hn (Or.inr (Or.inr rfl))
      rw [e0] at this
      rw [hS2] at hm2
      exact zW_Ie (zc_s.trans (z_field hm (by omega))) (zW_Ie (zc_s.trans hm2) (zW_Ie (zc_s.trans this) (zW_rI ⟨rfl, by rw [e0]⟩)))
    · obtain ⟨⟨fl, B, g1, _⟩, _⟩ := h
      have := g1.2.2.2.2.2.2.1 f hf
      rcases List.mem_cons.mp q with q | q
      · omega
      · have : f = m := by simpa using q
        omega
    · show S2.1 68 = S.1 68
      rw [← hS2]; rfl
    · show S2.1 67 = S.1 67 + 2
      have := z67
      have e : S2.1 67 = (m : Int) + 2 := z67
      omega
end ZMade2
