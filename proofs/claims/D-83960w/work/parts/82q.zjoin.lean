set_option maxRecDepth 100000
/-! THE REFERENCE'S TYPES: admit whole, joined -/
section ZJoin2
variable {adm : Nat → Bool} {d : Nat} {S S1 S' S0 : ZS} {μ : Zmp} {G G' G0 : TG} {n n' m x y z a b : Nat} {fl fl' : Nat → List Nat} {B B' : Nat → Zfl} {F : List Nat} {N : TN} {Q : Option (Option ZV) → ZS → Prop} {i v w c f l t : Int} {R R' : Nat → Prop} {W : TW} {E : List Nat}
theorem tset_self (G : TG) : tset G z (G.2 z) = G := Prod.ext rfl (funext fun y => by
  show (if y = z then G.2 z else G.2 y) = G.2 y
  by_cases q : y = z
  · rw [if_pos q, q]
  · rw [if_neg q])
theorem z_admit_loop (hμ : Mok μ) (hw0 : tWF G0 n) (hx : x < n) (hy : y < n) : ∀ (M : Nat) (S : ZS) (G : TG) (B : Nat → Zfl) (E : List Nat), 110000 * cnt (fun z => (B z).2.2.2.2 = false) n + E.length ≤ M → JI G0 n x y G n [] → ZM adm S μ G n fl B R W E → ZAd S μ adm → ZEq S μ n → (∀ t ∈ E, tBel G0 x y t) → (E.length : Int) + tPhd G B n ≤ 56999 → zW (ZL (d + 2) 148 [] S) (oI (fun r S' => ZAf2 S S' ∧ ((r = 0 ∧ ∃ G', JI G0 n x y G' n [] ∧ ∀ w, ¬ (tSol adm G' n w ∧ tGen G' n w)) ∨ (r = 1 ∧ ∃ G' B', JI G0 n x y G' n [] ∧ ZM adm S' μ G' n fl B' R W [] ∧ G'.1 = G.1 ∧ ∀ y, (G'.2 y).2 = (G.2 y).2))) (fun _ => False)) := by
  intro M
  induction M with
  | zero =>
    intro S G B E hM hJ h hA hV hE hlen
    have : E = [] := List.length_eq_zero_iff.mp (by omega)
    subst this
    refine zl_admit ?_
    unfold zb_admit
    have := h.2.2.1.2.1
    rw [List.length_nil] at this
    exact zW_t (by omega) (zW_rZ (Or.inr rfl) ⟨ZAf2_refl, Or.inr ⟨rfl, G, B, hJ, h, rfl, fun _ => rfl⟩⟩)
  | succ M ih =>
    intro S G B E hM hJ h hA hV hE hlen
    cases E with
    | nil =>
      refine zl_admit ?_
      unfold zb_admit
      have := h.2.2.1.2.1
      rw [List.length_nil] at this
      exact zW_t (by omega) (zW_rZ (Or.inr rfl) ⟨ZAf2_refl, Or.inr ⟨rfl, G, B, hJ, h, rfl, fun _ => rfl⟩⟩)
    | cons t E =>
      have e79 := h.2.2.1.2.1
      rw [List.length_cons] at e79 hlen
      have hPn : 0 ≤ tPhd G B n := isum_nn (fun z _ => by split <;> omega)
      obtain ⟨hn, hn2, hn3⟩ := h.1.2.1
      refine zl_admit ?_
      unfold zb_admit
      refine zW_f (by omega) (zW_G (by omega) (zW_p ?_))
      rw [show S.1 79 - 1 = (E.length : Int) by omega]
      have ag1 : zAg [79] [] S (zput S 79 (E.length : Int)) := zAg_put (by decide) zAg_refl
      rw [show (zput S 79 (E.length : Int)).1 79 = (E.length : Int) from rfl]
      refine zW_a (by omega) ?_
      obtain ⟨ht, htf⟩ := h.2.2.1.2.2 t (List.mem_cons_self ..)
      rw [show (zput S 79 (E.length : Int)).2.2.1 39 (E.length : Int) = (t : Int) from h.2.2.1.1.1]
      have hG1 : ZG (zput S 79 (E.length : Int)) μ G n fl B R := ZG_ag h.1 ag1 (by decide) (by decide)
      obtain ⟨S3, g1, g2, g3⟩ := z_find (d := d + 1) hG1 ht
      refine zW_Ie (zc_s.trans g1) (zW_let ?_)
      have hr := hJ.1.1 t ht
      have hbr : tBel G0 x y (G.1 t) := hJ.2.2.2.2.2.1 t ht (hE t (List.mem_cons_self ..)) hr.1
      have f3 : ZAf2 S S3 := ⟨zAg_trans (zAg_mono ag1 (by decide) (by decide)) (zAg_mono g2.1 (by decide) (by decide)), fun z hz => g2.2 z hz⟩
      generalize hz : G.1 t = z at *
      obtain ⟨z1, z2⟩ := hr
      have hbr2 : tBel G0 x y z := hbr
      have k3 := ZAf2_k f3
      have hA3 := ZAd_f f3 hA
      have hV3 := ZEq_f f3 hV
      have w3 : zWs S3 W ∧ S3.1 78 = (W.length : Int) := ⟨zWs_a (f3.1.2.2.1 37 (by decide)) (f3.1.2.2.1 38 (by decide)) h.2.1.1, by rw [f3.1.1 78 (by decide)]; exact h.2.1.2⟩
      have e3 : zEs S3 E ∧ S3.1 79 = (E.length : Int) ∧ ∀ t ∈ E, t < n ∧ (G.2 (G.1 t)).1 = true := ⟨zEs_a (S := zput S 79 (E.length : Int)) (g2.1.2.2.1 39 (by decide)) (zEs_a (S := S) rfl h.2.2.1.1.2), g2.1.1 79 (by decide), fun t' m => h.2.2.1.2.2 t' (List.mem_cons_of_mem _ m)⟩
      have hE' : ∀ t ∈ E, tBel G0 x y t := fun t' m => hE t' (List.mem_cons_of_mem _ m)
      rw [List.length_cons] at hM
      -- z is seen to
      have skip : ((G.2 z).1 = true → zcl adm G z ∧ (zyk S z = 1 → mE μ (zyc S z) = true)) → zW (ZL (d + 2) 148 [] S3) (oI (fun r S' => ZAf2 S S' ∧ ((r = 0 ∧ ∃ G', JI G0 n x y G' n [] ∧ ∀ w, ¬ (tSol adm G' n w ∧ tGen G' n w)) ∨ (r = 1 ∧ ∃ G' B', JI G0 n x y G' n [] ∧ ZM adm S' μ G' n fl B' R W [] ∧ G'.1 = G.1 ∧ ∀ y, (G'.2 y).2 = (G.2 y).2))) (fun _ => False)) := by
        intro hs
        have hM3 : ZM adm S3 μ G n fl B R W E := by
          refine ⟨g3, w3, e3, fun y' hy' hry => ?_⟩
          obtain ⟨p1, p2⟩ := h.2.2.2 y' hy' hry
          rw [k3, f3.2 y' ((ZG_root h.1 hy').mp hry)]
          refine ⟨fun he => ?_, p2⟩
          by_cases q : y' = z
          · rw [q] at he ⊢
            exact Or.inr (hs he)
          · rcases p1 he with ⟨t', t1, t2⟩ | w
            · rcases List.mem_cons.mp t1 with e | t1
              · rw [e, hz] at t2; exact absurd t2.symm q
              · exact Or.inl ⟨t', t1, t2⟩
            · exact Or.inr w
        refine zW_mono (ih S3 G B E (by omega) hJ hM3 hA3 hV3 hE' (by omega)) (fun o S' hq => ?_)
        rcases o with _ | _ | r | r | r
        · exact hq
        · exact hq
        · exact ⟨ZAf2_trans f3 hq.1, hq.2⟩
        · exact hq
        · exact hq
      have kS3 : ∀ y : Nat, S3.2.2.1 23 (y : Int) = zyk S y := fun y => congrFun k3 _
      have c3 : zyk S z ≠ 4 := (ZG_root h.1 z1).mp z2
      refine zW_a (by omega) ?_
      rw [show S3.2.2.1 24 (z : Int) = zfb (B z) from g3.2.2.2.1 z z1, zfb_16]
      cases hd : (B z).2.2.2.2 with
      | true =>
        refine zW_f (by decide) (skip (fun _ => ?_))
        obtain ⟨q1, q2, q3, q4⟩ := (h.2.2.2 z z1 z2).2 hd
        exact ⟨q4, fun q => absurd q q2⟩
      | false =>
        refine zW_t rfl (zW_a (by omega) ?_)
        rw [kS3]
        refine zW_if (fun k0 => skip (fun _ => ?_)) (fun k0 => zW_a (by omega) ?_)
        · obtain ⟨g, _⟩ := ZG_0 h.1 z1 z2 k0
          exact ⟨(fun lab loose kids q => by rw [g] at q; cases q), (fun q => by rw [k0] at q; cases q)⟩
        · rw [kS3]
          refine zW_if (fun k1 => ?_) (fun k1 => ?_)
          · obtain ⟨i, g, gi⟩ := ZG_1 h.1 z1 z2 k1
            refine zW_a (by omega) ?_
            rw [show S3.2.2.1 25 (z : Int) = zyc S3 z from rfl]
            refine zW_Ie (zc_s.trans (z_isEqV hV3 z1 (by rw [k3]; exact k1))) ?_
            rw [f3.2 z c3]
            cases hm : mE μ (zyc S z) with
            | false =>
              refine zW_t rfl (zW_rZ (Or.inl rfl) ⟨f3, Or.inl ⟨rfl, G, hJ, fun w hq => ?_⟩⟩)
              have he : (G.2 z).1 = true := htf
              have s := (hq.1.2 z z1 z2).1 he
              have gl := hq.2 z z1 z2 _ _ g
              rw [gl] at s
              have := (tEq_iff.mp s).1 (3 * i + 1) rfl
              rcases this with this | this | this | this
              · rw [hA.2.2.2 i, gi, hm] at this
                cases this
              · omega
              · omega
              · omega
            | true =>
              refine zW_f (by decide) (skip (fun _ => ⟨(fun lab loose kids q => by rw [g] at q; cases q), (fun _ => hm)⟩))
          · have hk23 : zyk S z = 2 ∨ zyk S z = 3 := by
              rcases ZG_kind h.1 z1 z2 with q | q | q | q
              · exact absurd q k0
              · exact absurd q k1
              · exact Or.inl q
              · exact Or.inr q
            have nm18 : ∀ c : Nat, c < mT μ → (mC μ c = 18 ↔ c = 6) := fun c hc => ⟨fun q => hμ.2.2.1 c 6 hc (by have := hμ.2.2.2.1.2.2.2; omega) (q.trans hμ.1.2.2.2.1.symm), fun q => by rw [q]; exact hμ.1.2.2.2.1⟩
            have hkS : zyk S3 z = 2 ∨ zyk S3 z = 3 := by rw [k3]; exact hk23
            obtain ⟨lab, loose, kids, hg, hlen3, hdone⟩ : ∃ lab loose kids, G.2 z = (true, .inr (lab, loose, kids)) ∧ (kids.length = (fl z).length) ∧ (B z).1 = true := by
              rcases hk23 with q | q
              · obtain ⟨_, g, _, _⟩ := ZG_2 h.1 z1 z2 q
                rw [g] at htf
                have htf : (B z).1 = true := htf
                exact ⟨_, _, _, by rw [g, htf], by simp [zkd], htf⟩
              · obtain ⟨_, g, _, _⟩ := ZG_3 h.1 z1 z2 q
                rw [g] at htf
                have htf : (B z).1 = true := htf
                exact ⟨_, _, _, by rw [g, htf], by simp [zkd], htf⟩
            refine zW_a (by omega) ?_
            rw [show S3.2.2.1 24 (z : Int) = zfb (B z) from g3.2.2.2.1 z z1, zfb_sd]
            refine zW_st (by omega) ?_
            generalize hb' : (((B z).1, (B z).2.1, (B z).2.2.1, (B z).2.2.2.1, true) : Zfl) = b'
            generalize hS5 : zset S3 24 (z : Int) (zfb b') = S5
            have ag5 : zAg [] [24] S3 S5 := by rw [← hS5]; exact zAg_set (by decide) zAg_refl
            have ej : ∀ j, j ≠ 24 → S5.2.2.1 j = S3.2.2.1 j := fun j h1 => ag5.2.2.1 j (by simp [h1])
            have b24 : ∀ y : Nat, zyf S5 y = if y = z then zfb b' else zyf S3 y := by
              intro y
              rw [← hS5]
              show (if 24 = 24 ∧ (y : Int) = (z : Int) then zfb b' else zyf S3 y) = _
              by_cases q : y = z
              · rw [if_pos ⟨rfl, by omega⟩, if_pos q]
              · rw [if_neg (fun w => q (by omega)), if_neg q]
            have f5 : ZAf2 S S5 := ZAf2_trans f3 ⟨zAg_mono ag5 (by decide) (by decide), fun y _ => by show S5.2.2.1 25 _ = _; rw [ej 25 (by decide)]⟩
            have k5 := ZAf2_k f5
            have G5 : ZG S5 μ G n fl (fup B z b') R := by
              rw [← tset_self (z := z) G]
              refine ZG_at (fl' := fl) g3 z1 z2 (ag5.1 66 (by decide)) (ag5.1 67 (by decide)) (fun y hy => ⟨congrFun (ej 23 (by decide)) _, by rw [b24 y, if_neg hy], congrFun (ej 25 (by decide)) _, congrFun (ej 26 (by decide)) _⟩) (fun y _ _ _ f _ => ⟨congrFun (ej 29 (by decide)) _, congrFun (ej 30 (by decide)) _, congrFun (ej 31 (by decide)) _⟩) ?_ ?_ (fun y hy => if_neg hy) (fun _ _ => rfl) ?_ (fun y hy ry yb f hf => fun q => g3.2.2.2.2.2.1 y z hy z1 ry z2 yb f q hf) (fun f hf => ⟨g3.2.2.2.2.2.2.1 f hf, fun y hy ry _ => g3.2.2.2.2.2.2.2 f hf y hy ry, g3.2.2.2.2.2.2.2 f hf z z1 z2⟩)
              · rw [k5]; exact c3
              · rw [b24 z, if_pos rfl, show fup B z b' z = b' from if_pos rfl]
              · rw [show fup B z b' z = b' from if_pos rfl]
                refine ZNode_eq (S := S3) (by rw [ag5.1 67 (by decide)]; exact Int.le_refl _) (congrFun (ej 23 (by decide)) _) (congrFun (ej 25 (by decide)) _) (congrFun (ej 26 (by decide)) _) (fun f _ => ⟨congrFun (ej 29 (by decide)) _, congrFun (ej 30 (by decide)) _, congrFun (ej 31 (by decide)) _⟩) ?_
                have nd := ZNode_e (e := true) rfl (g3.2.2.2.2.1 z z1 z2)
                rw [hg] at nd ⊢
                rw [← hb', hdone]
                exact nd
            have M5 : ZMx adm S5 μ G n fl (fup B z b') R W E (some z) := by
              refine ⟨G5, ⟨zWs_a (ej 37 (by decide)) (ej 38 (by decide)) w3.1, by rw [ag5.1 78 (by decide)]; exact w3.2⟩, ⟨zEs_a (ej 39 (by decide)) e3.1, by rw [ag5.1 79 (by decide)]; exact e3.2.1, e3.2.2⟩, fun y hy ry => ?_⟩
              obtain ⟨p1, p2⟩ := h.2.2.2 y hy ry
              rw [k5, f5.2 y ((ZG_root h.1 hy).mp ry)]
              by_cases q : y = z
              · refine ⟨fun _ => Or.inr (Or.inr (by rw [q])), fun _ => ⟨by rw [q]; exact k0, by rw [q]; exact k1, by rw [q]; exact htf, Or.inr (by rw [q])⟩⟩
              · rw [show fup B z b' y = B y from if_neg q]
                refine ⟨fun he => ?_, fun hd => ?_⟩
                · rcases p1 he with ⟨t', t1, t2⟩ | w
                  · rcases List.mem_cons.mp t1 with e | t1
                    · rw [e, hz] at t2; exact absurd t2.symm q
                    · exact Or.inl ⟨t', t1, t2⟩
                  · exact Or.inr (Or.inl w)
                · obtain ⟨q1, q2, q3, q4⟩ := p2 hd
                  exact ⟨q1, q2, q3, Or.inl q4⟩
            have hcnt : cnt (fun y => (fup B z b' y).2.2.2.2 = false) n < cnt (fun y => (B y).2.2.2.2 = false) n := by
              refine cnt_lt (x := z) (fun y _ hy => ?_) z1 ?_ hd
              · by_cases q : y = z
                · rw [q]; exact hd
                · rw [show fup B z b' y = B y from if_neg q] at hy; exact hy
              · rw [show fup B z b' z = b' from if_pos rfl, ← hb']
                intro q; cases q
            have hph : tPhd G (fup B z b') n + kids.length ≤ tPhd G B n := by
              have := isum_one (n := n) (x := z) (d := fun y => @ite Int (G.1 y = y ∧ (B y).2.2.2.2 = false) (Classical.propDecidable _) ((tkids (G.2 y)).length : Int) 0 - @ite Int (G.1 y = y ∧ (fup B z b' y).2.2.2.2 = false) (Classical.propDecidable _) ((tkids (G.2 y)).length : Int) 0) z1 (fun y _ q => by
                show 0 ≤ _ - _
                rw [show fup B z b' y = B y from if_neg q]; omega)
              rw [isum_sub] at this
              have e1 : @ite Int (G.1 z = z ∧ (B z).2.2.2.2 = false) (Classical.propDecidable _) ((tkids (G.2 z)).length : Int) 0 = kids.length := by
                rw [if_pos ⟨z2, hd⟩, hg]; rfl
              have e2 : @ite Int (G.1 z = z ∧ (fup B z b' z).2.2.2.2 = false) (Classical.propDecidable _) ((tkids (G.2 z)).length : Int) 0 = 0 := by
                rw [if_neg]
                rintro ⟨_, q⟩
                rw [show fup B z b' z = b' from if_pos rfl, ← hb'] at q
                cases q
              have this : @ite Int (G.1 z = z ∧ (B z).2.2.2.2 = false) (Classical.propDecidable _) ((tkids (G.2 z)).length : Int) 0 - @ite Int (G.1 z = z ∧ (fup B z b' z).2.2.2.2 = false) (Classical.propDecidable _) ((tkids (G.2 z)).length : Int) 0 ≤ isum _ n - isum _ n := this
              rw [e1, e2] at this
              unfold tPhd
              omega
            have hPn2 : 0 ≤ tPhd G (fup B z b') n := isum_nn (fun z _ => by split <;> omega)
            -- nothing more to be asked of it
            have go : ∀ S' G' B' E', JI G0 n x y G' n [] → ZM adm S' μ G' n fl B' R W E' → ZAf2 S5 S' → (G'.1 = G.1 ∧ ∀ y, (G'.2 y).2 = (G.2 y).2) → E'.length ≤ E.length + (fl z).length → (∀ t ∈ E', tBel G0 x y t) → (∀ y, (B' y).2.2.2.2 = (fup B z b' y).2.2.2.2) → zW (ZL (d + 2) 148 [] S') (oI (fun r S' => ZAf2 S S' ∧ ((r = 0 ∧ ∃ G', JI G0 n x y G' n [] ∧ ∀ w, ¬ (tSol adm G' n w ∧ tGen G' n w)) ∨ (r = 1 ∧ ∃ G' B', JI G0 n x y G' n [] ∧ ZM adm S' μ G' n fl B' R W [] ∧ G'.1 = G.1 ∧ ∀ y, (G'.2 y).2 = (G.2 y).2))) (fun _ => False)) := by
              intro S' G' B' E' hJ' hM' hf' hG' hl' hb'' hB'
              have ec : cnt (fun y => (B' y).2.2.2.2 = false) n = cnt (fun y => (fup B z b' y).2.2.2.2 = false) n := by
                refine Nat.le_antisymm (cnt_le fun y _ q => ?_) (cnt_le fun y _ q => ?_)
                · rw [← hB' y]; exact q
                · rw [hB' y]; exact q
              have ep : tPhd G' B' n = tPhd G (fup B z b') n := isum_eq (fun y _ => by
                have e : tkids (G'.2 y) = tkids (G.2 y) := by unfold tkids; rw [hG'.2 y]
                simp only [hG'.1, hB' y, e]
                by_cases q : G.1 y = y ∧ (fup B z b' y).2.2.2.2 = false
                · rw [if_pos q, if_pos q]
                · rw [if_neg q, if_neg q])
              refine zW_mono (ih S' G' B' E' (by omega) hJ' hM' (ZAd_f (ZAf2_trans f5 hf') hA) (ZEq_f (ZAf2_trans f5 hf') hV) hb'' (by omega)) (fun o S' hq => ?_)
              rcases o with _ | _ | r | r | r
              · exact hq
              · exact hq
              · refine ⟨ZAf2_trans (ZAf2_trans f5 hf') hq.1, hq.2.imp (fun q => q) ?_⟩
                rintro ⟨q1, G2, B2, q2, q3, q4, q5⟩
                exact ⟨q1, G2, B2, q2, q3, q4.trans hG'.1, fun y => (q5 y).trans (hG'.2 y)⟩
              · exact hq
              · exact hq
            have kS5 : ∀ y : Nat, S5.2.2.1 23 (y : Int) = zyk S y := fun y => congrFun k5 _
            have walk : ∀ x2 : Int, ZCh S5 (fl z) x2 → admq adm lab → lab ≠ 18 → zW (ZL (d + 2) 630 [.inl x2] S5) (oI (fun r S' => ZAf2 S S' ∧ ((r = 0 ∧ ∃ G', JI G0 n x y G' n [] ∧ ∀ w, ¬ (tSol adm G' n w ∧ tGen G' n w)) ∨ (r = 1 ∧ ∃ G' B', JI G0 n x y G' n [] ∧ ZM adm S' μ G' n fl B' R W [] ∧ G'.1 = G.1 ∧ ∀ y, (G'.2 y).2 = (G.2 y).2))) (fun _ => False)) := by
              intro x2 hc ha hl
              exact z_adm_kids hw0 hx hy z1 ha hl (fl z) x2 S5 G (fup B z b') E [] hJ M5 z2 hg hbr2 rfl (fun f m => absurd m List.not_mem_nil) hc hE' (by omega) G5.2.1.2.2 (fun S' G' B' E' j1 j2 j3 j4 j5 j6 j7 => go S' G' B' E' j1 j2 j3 j4 j5 j6 j7)
            refine zW_a (by omega) ?_
            rw [kS5]
            rcases hk23 with hk | hk
            · rw [hk]
              refine zW_t rfl (zW_a (by omega) ?_)
              have hk5 : zyk S5 z = 2 := by rw [k5]; exact hk
              obtain ⟨⟨c0, cT⟩, g, ch, ar⟩ := ZG_2 G5 z1 z2 hk5
              rw [hg] at g
              have elb : lab = mC μ (zyc S5 z).toNat := by
                have := congrArg Prod.snd g
                cases this; rfl
              have hT := hA.1.1
              refine zW_a (by show 0 ≤ zyc S5 z ∧ _; show 0 ≤ zyc S5 z ∧ zyc S5 z < _; omega) ?_
              have eA : S5.2.2.1 36 (S5.2.2.1 25 (z : Int)) = 0 ↔ adm lab = false := by
                have := (ZAd_f f5 hA).1.2 (zyc S5 z).toNat (by omega)
                rw [show ((zyc S5 z).toNat : Int) = zyc S5 z by omega, ← elb] at this
                exact this
              refine zW_if (fun q => ?_) (fun q => ?_)
              · exact zW_rZ (Or.inl rfl) ⟨f5, Or.inl ⟨rfl, G, hJ, fun w hq => tS_not z1 z2 hg (fun w => by
                  rcases w with w | w | w | w
                  · rw [eA.mp q] at w; cases w
                  · have w2 := eA.mp q; rw [w, hA.2.2.1] at w2; cases w2
                  · have w2 := eA.mp q; rw [w, hA.2.1.2.1] at w2; cases w2
                  · have w2 := eA.mp q; rw [w, hA.2.1.2.2] at w2; cases w2) hq.1⟩⟩
              · have ha : admq adm lab := by
                  cases e : adm lab with
                  | true => exact Or.inl e
                  | false => exact absurd (eA.mpr e) q
                refine zl_admit_p121 ?_
                unfold zb_admit_p121
                refine zW_a (by omega) (zW_t (by rw [kS5]; exact hk) (zW_a (by omega) (zW_if (fun e6 => ?_) (fun e6 => ?_))))
                · -- what it holds need not
                  have e6 : zyc S5 z = 6 := e6
                  have l18 : lab = 18 := by rw [elb, e6]; exact (nm18 6 (by have := hμ.2.2.2.1.2.2.2; omega)).mpr rfl
                  refine go S5 G (fup B z b') E hJ ?_ ZAf2_refl ⟨rfl, fun _ => rfl⟩ (by omega) hE' (fun _ => rfl)
                  have cl : zcl adm G z := by
                    intro lab' loose' kids' hg'
                    rw [hg] at hg'
                    cases hg'
                    exact ⟨ha, fun q => absurd l18 q⟩
                  refine ⟨M5.1, M5.2.1, M5.2.2.1, fun y hy ry => ?_⟩
                  obtain ⟨p1, p2⟩ := M5.2.2.2 y hy ry
                  refine ⟨fun he => ?_, fun hd => ?_⟩
                  · rcases p1 he with q | q | q
                    · exact Or.inl q
                    · exact Or.inr q
                    · have q : z = y := Option.some.inj q
                      rw [← q]
                      exact Or.inr ⟨cl, fun w => by rw [hk5] at w; cases w⟩
                  · obtain ⟨q1, q2, q3, q4⟩ := p2 hd
                    refine ⟨q1, q2, q3, q4.elim (fun q => q) (fun q => ?_)⟩
                    have q : z = y := Option.some.inj q
                    rw [← q]; exact cl
                · refine zW_a (by omega) (zW_let (walk _ ch ha (fun q => e6 ?_)))
                  have := (nm18 _ (by omega)).mp (elb ▸ q)
                  show zyc S5 z = 6
                  omega
            · rw [hk]
              refine zW_f (by decide) ?_
              have hk5 : zyk S5 z = 3 := by rw [k5]; exact hk
              obtain ⟨c0, g, ch, _⟩ := ZG_3 G5 z1 z2 hk5
              rw [hg] at g
              have elb : lab = 2 := by
                have := congrArg Prod.snd g
                cases this; rfl
              refine zl_admit_p121 ?_
              unfold zb_admit_p121
              refine zW_a (by omega) (zW_f (by rw [kS5, hk]; decide) (zW_a (by omega) (zW_let (walk _ ch (by rw [elb]; exact Or.inl hA.2.1.1) (by rw [elb]; decide)))))
end ZJoin2
