set_option maxRecDepth 100000
/-! THE REFERENCE'S TYPES: general ones, one with one part -/
section ZGen0
variable {adm : Nat → Bool} {d : Nat} {S S1 S' S0 : ZS} {μ : Zmp} {G G' G'' : TG} {n n' m x y z a b lab : Nat} {fl fl' : Nat → List Nat} {B B' : Nat → Zfl} {F L : List Nat} {N : TN} {i v w k c f l t : Int} {R P Q : Nat → Prop} {kids : List (Ky × Nat)} {e o : Bool}
theorem TGI_open (hG : TGI adm G n) : TGI adm (gAdd G n (e, .inl (if o then 1 else 0))) (n + 1) := by
  refine tAdd_TGI hG tAdd_g (fun e' lab' loose kids' he => by cases he) (fun w s f => ⟨tleaf 0, tleaf_fin, fun _ => tEq_t, ?_⟩) (fun _ _ _ q => by cases q) (fun k q => ?_)
  · show wup w n (tleaf 0) n [] ≠ none ∧ ((if o then 1 else 0) = 1 → tOrd (wup w n (tleaf 0) n))
    rw [wup_n]
    exact ⟨(fun q => by cases q), fun _ => tleaf_ord⟩
  · have := congrArg Prod.snd q
    have this : (Sum.inl (if o = true then 1 else 0) : Nat ⊕ (Nat × Bool × List (Ky × Nat))) = Sum.inl (k + 2) := this
    have := Sum.inl.inj this
    split at this <;> omega
/-- a general one: equality or order may be asked of it -/
theorem z_general (h : ZTG adm S μ G n R) (hn : n < 57000) : ∃ S', ZL (d + 1) 13 [.inl (bI e + 2 * bI o)] S = some (some (some (.inl (n : Int))), S') ∧ ZNo adm S μ G n R (e, .inl (if o then 1 else 0)) 0 S' ∧ zyk S' n = 0 ∧ zandI (zyf S' n) 4 = 4 := by
  obtain ⟨h66, _, _⟩ := ZTG_66 h
  have e0 : zorI 4 (bI e + 2 * bI o) = zfb (e, o, true, false, false) := by cases e <;> cases o <;> decide
  obtain ⟨q1, q2, q3⟩ := ZTG_add (k := 0) (c := 0) (f := -1) (F := []) (N := (e, .inl (if o then 1 else 0))) (bb := (e, o, true, false, false)) h hn (by decide) (fun f m => absurd m List.not_mem_nil) (Or.inl ⟨ztyp_n.1, rfl, rfl⟩) (TGI_open h.2.2.2.2.2) rfl
  refine ⟨_, zW_get (zl_general ?_), ⟨ZTG_R q1 (fun f hf => ⟨hf, List.not_mem_nil⟩), q2, rfl, by show S.1 67 = S.1 67 + 0; omega, by rw [q3]; rfl, fun v => zY_add (fun _ _ _ q => by cases q)⟩, ztyp_n.1, by rw [show zyf (ztyp S n 0 0 (-1) (zfb (e, o, true, false, false))) n = zfb (e, o, true, false, false) from ztyp_n.2.1, zfb_4]; rfl⟩
  unfold zb_general
  rw [e0]
  have := z_type (d := d) (S := S) (n := n) (k := 0) (c := 0) (f := -1) (b := (e, o, true, false, false)) (a := 0) h66 hn (Or.inl rfl)
  exact zW_Ie (zc_s.trans this) (zW_rI ⟨rfl, rfl⟩)
/-- a made one with one part -/
theorem z_made1 {cc : Nat} (h : ZTG adm S μ G n R) (hc : cc < mT μ) (ha : mA μ cc = 1) (hn : n < 57000) (h67 : S.1 67 + 1 ≤ 106000) (hx : x < n) : ∃ S', ZL (d + 1) 14 [.inl (cc : Int), .inl (x : Int)] S = some (some (some (.inl (n : Int))), S') ∧ ZNo adm S μ G n R (false, .inr (mC μ cc, false, [(kA 0, x)])) 1 S' := by
  obtain ⟨h66, h67', _⟩ := ZTG_66 h
  obtain ⟨m, hm⟩ : ∃ m : Nat, S.1 67 = (m : Int) := ⟨(S.1 67).toNat, by omega⟩
  let b0 : Zfl := (false, false, false, false, false)
  have e0 : zfb b0 = 0 := by decide
  obtain ⟨a1, a2⟩ := ZTG_field (l := 0) (t := (x : Int)) (i := -1) h hm (by omega)
  generalize hS2 : zfld S m 0 (x : Int) (-1) = S2 at a1 a2
  have h662 : S2.1 66 = (n : Int) := by rw [← hS2]; exact h66
  have n1 := zfld_n (S := S) (m := m) (l := 0) (t := (x : Int)) (a := -1)
  rw [hS2] at n1
  have kc : zyc (ztyp S2 n 2 (cc : Int) (m : Int) (zfb b0)) n = (cc : Int) := ztyp_n.2.2.1
  have kl : ∀ j, j ≠ 23 ∧ j ≠ 24 ∧ j ≠ 25 ∧ j ≠ 26 → (ztyp S2 n 2 (cc : Int) (m : Int) (zfb b0)).2.2.1 j = S2.2.2.1 j := fun j hj => ztyp_a hj
  have x1 : zfl (ztyp S2 n 2 (cc : Int) (m : Int) (zfb b0)) (m : Nat) = 0 ∧ zft (ztyp S2 n 2 (cc : Int) (m : Int) (zfb b0)) (m : Nat) = (x : Int) ∧ zfn (ztyp S2 n 2 (cc : Int) (m : Int) (zfb b0)) (m : Nat) = -1 := ⟨(congrFun (kl 29 (by decide)) _).trans n1.1, (congrFun (kl 30 (by decide)) _).trans n1.2.1, (congrFun (kl 31 (by decide)) _).trans n1.2.2⟩
  have z67 : (ztyp S2 n 2 (cc : Int) (m : Int) (zfb b0)).1 67 = (m : Int) + 1 := by
    show S2.1 67 = _
    rw [← hS2]; rfl
  have nd : ZNode (ztyp S2 n 2 (cc : Int) (m : Int) (zfb b0)) μ (false, .inr (mC μ cc, false, [(kA 0, x)])) [m] b0 n := by
    refine Or.inr (Or.inr (Or.inl ⟨ztyp_n.1, by rw [kc]; omega, ?_, ?_, ?_⟩))
    · rw [kc]
      have ek : zkd (ztyp S2 n 2 (cc : Int) (m : Int) (zfb b0)) kA [m] = [(kA 0, x)] := by
        unfold zkd
        rw [List.map_cons, List.map_nil, x1.1, x1.2.1, Int.toNat_natCast]
      rw [ek, Int.toNat_natCast]
    · rw [show zy1 (ztyp S2 n 2 (cc : Int) (m : Int) (zfb b0)) n = (m : Int) from ztyp_n.2.2.2]
      exact ⟨rfl, by rw [z67]; omega, by rw [x1.2.1]; omega, x1.2.2⟩
    · rw [kc, Int.toNat_natCast, ha]
      show [zfl _ (m : Nat)] = _
      rw [x1.1]
      rfl
  have hkl : ∀ l c, (l, c) ∈ [(kA 0, x)] → c < n := by
    intro l c hm
    have q : (l, c) = (kA 0, x) := by simpa using hm
    rw [(Prod.mk.inj q).2]; exact hx
  obtain ⟨q1, q2, q3⟩ := ZTG_add a1 hn (by decide) (fun f hf => Or.inr (by simpa using hf)) nd (TGI_made h.2.2.2.2.2 (show [kA 0].Nodup by decide) hkl) rfl
  refine ⟨_, zW_get (zl_made_2 ?_), ZTG_R q1 (fun f hf => ⟨Or.inl hf, fun q => ?_⟩), ZDq_trans a2 q2, ?_, ?_, by rw [q3]; rfl, fun v => zY_add (fun _ _ _ q => by cases q)⟩
  · unfold zb_made_2
    have := z_type (d := d) (S := S2) (n := n) (k := 2) (c := (cc : Int)) (f := (m : Int)) (b := b0) (a := 0) h662 hn (Or.inr (Or.inr rfl))
    rw [e0] at this
    have hm2 := z_field (d := d) (S := S) (l := 0) (t := (x : Int)) (a := -1) hm (by omega)
    rw [hS2] at hm2
    exact zW_Ie (zc_s.trans hm2) (zW_Ie (zc_s.trans this) (zW_rI ⟨rfl, by rw [e0]⟩))
  · obtain ⟨⟨fl, B, g1, _⟩, _⟩ := h
    have := g1.2.2.2.2.2.2.1 f hf
    have : f = m := by simpa using q
    omega
  · show S2.1 68 = S.1 68
    rw [← hS2]; rfl
  · show S2.1 67 = S.1 67 + 1
    have e : S2.1 67 = (m : Int) + 1 := z67
    omega
/-- the empty row -/
theorem z_unit (h : ZTG adm S μ G n R) (hn : n < 57000) : ∃ S', ZL (d + 1) 3 [] S = some (some (some (.inl (n : Int))), S') ∧ ZNo adm S μ G n R (false, .inr (2, false, [])) 0 S' := by
  obtain ⟨h66, _, _⟩ := ZTG_66 h
  let b0 : Zfl := (false, false, false, false, false)
  have e0 : zfb b0 = 0 := by decide
  have kc : zyc (ztyp S n 3 0 (-1) (zfb b0)) n = 0 := ztyp_n.2.2.1
  obtain ⟨q1, q2, q3⟩ := ZTG_add (k := 3) (c := 0) (f := -1) (F := []) (N := (false, .inr (2, false, []))) (bb := b0) h hn (by decide) (fun f m => absurd m List.not_mem_nil) (Or.inr (Or.inr (Or.inr ⟨ztyp_n.1, by rw [kc]; omega, rfl, ztyp_n.2.2.2, trivial, fun f m => absurd m List.not_mem_nil⟩))) (TGI_made h.2.2.2.2.2 List.nodup_nil (fun l c m => absurd m List.not_mem_nil)) rfl
  refine ⟨_, zW_get (zl_unit ?_), ZTG_R q1 (fun f hf => ⟨hf, List.not_mem_nil⟩), q2, rfl, by show S.1 67 = S.1 67 + 0; omega, by rw [q3]; rfl, fun v => zY_add (fun _ _ _ q => by cases q)⟩
  unfold zb_unit
  have := z_type3 (d := d) (S := S) (n := n) (c := 0) (f := -1) (b := b0) (a := 0) h66 hn
  rw [e0] at this
  exact zW_Ie (zc_s.trans this) (zW_rI ⟨rfl, by rw [e0]⟩)
end ZGen0
