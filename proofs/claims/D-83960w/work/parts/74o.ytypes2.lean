set_option maxRecDepth 100000
/-! THE HOUSE'S PARSER: types, the rest -/
section YTy2
variable {C : YC} {B : Nat → Prop} {X : Nat → Nat} {t : List Int} {R : PX} {p0 : Int}
def imTup (l : List Gt) : Gt := oO 29 [] [oF 8701 (oL (nlb l.length)), oF 8702 oN, oF 8703 (oL l)]
theorem pmu_le {σ : Ps} : pmu t σ ≤ t.length + 2 := by
  unfold pmu
  split
  · omega
  · split <;> omega
theorem y_tuple (h34 : YCf C B X t (R 34 [] []) 128 2 ho okO') (hL : ∀ p : Int, YLp C B X t (R 33 [] []) 3 579 (fun a => [.inl p, zr a]) imTup 9 42 30 200) (hS : YSt (R 33 [] []) (fun σ => tStar (pc σ))) (hlen : t.length ≤ 900) : YCf C B X t (gTup R) 127 3 ho okO' := by
  intro Γ H σ η M g h d Q r S hu hg hh hd he her hk
  have d40 := dep_40 S
  refine yl_Parser_tuple ?_
  unfold yb_Parser_tuple
  unfold gTup at he
  refine zW_plc S (zW_let ?_)
  refine zW_sub h34 (by omega) S hu hg hh he her (fun a σ1 H1 η1 ro S1 o1 q1 e1 he => zW_let ?_)
  have dl := dep_le q1
  obtain ⟨q, hq, hl, hr⟩ := pB_e he
  refine zW_isNmS (b := [42]) 123 (by decide) (by omega) S1 (fun w => zW_f (by decide) ?_) (fun w => zW_t rfl ?_)
  · refine zW_alnew (by omega) S1 (fun H2 la S2 => zW_let ?_)
    refine zW_add (by omega) (by omega) (okT_G o1) S2 (fun H3 cap1 S3 c1 c2 => ?_)
    have c3 : cap1 ≤ 10 := c2.1
    have hmu := pmu_le (t := t) (σ := σ1)
    refine hL _ Γ H3 σ1 η1 M _ _ d Q q cap1 la [ho a] S3 hu (by omega) (by show _ + 8 * 1 ≤ _; omega) (by show _ ≤ 10 + 2 * 1; omega) (by show 1 + _ ≤ _; omega) (by omega) hq (fun e p H' w2 T => her e p H' (hl _ w2) T) (fun τ σ2 H4 η2 ro w2 S4 q2 e2 => ?_)
    have w4 := hr _ _ w2
    have hne := hS.2 σ1 τ σ2 (by rw [hq, w2]) w
    rw [if_neg hne] at w4
    have hl1 : 1 ≤ (gs τ).length := List.length_pos_iff.mpr hne
    have e54 : ho (gn 54 [] (a :: gs τ)) = imTup ([ho a] ++ (gs τ).map ho) := by
      rw [ho_gn]
      show oO 29 [] [oF 8701 (oL (nlb (List.map _ _).length)), oF 8702 oN, oF 8703 (oL (hs _))] = _
      rw [hs_map, List.length_map]
      unfold imTup
      rw [List.length_append, List.length_map, List.length_cons, Nat.add_comm]; rfl
    refine hk (gn 54 [] (a :: gs τ)) σ2 H4 η2 ro (Option.some.inj w4).symm ?_ ⟨(by decide : 50 ≤ 54), (by decide : 54 ≤ 54)⟩ (Qx_to (Qx_t q1 q2) (by omega) (by omega)) (Er_n (by decide) (Er_t e1 e2))
    rw [e54]
    exact SS_mono S4 (by show _ + 5 + 9 * 1 - _ ≤ _; omega) (by show _ + 110 + 42 * 1 - _ - _ ≤ _; omega)
  · have h0 := hS.1 σ1 q hq w
    have w4 := hr _ _ h0
    rw [if_pos gs_gl] at w4
    exact zW_rQ (hk a σ1 H1 η1 ro (Option.some.inj w4).symm S1 o1 q1 e1)
theorem y_tupLoop (h34 : YCf C B X t (R 34 [] []) 128 2 ho okO') (hL : ∀ p : Int, YLp C B X t (R 33 [] []) 3 579 (fun a => [.inl p, zr a]) imTup 9 42 30 200) (p : Int) : YLp C B X t (gTupR t R) 3 579 (fun a => [.inl p, zr a]) imTup 9 42 30 200 := by
  intro Γ H σ η M g h d Q r cap a l S hu hg hh hc hl hd he her hk
  have d40 := dep_40 S
  refine yl_Parser_tuple_p42 ?_
  unfold yb_Parser_tuple_p42
  unfold gTupR at he
  refine zW_isNmS (b := [42]) 123 (by decide) (by omega) S (fun w => zW_f (by decide) ?_) (fun w => zW_t rfl ?_)
  · rw [if_pos w] at he
    refine zW_pass (by omega) S (by have := w.1; omega) (by omega) (by omega) he her (fun σ1 H1 η1 S1 p1 w1 he => ?_)
    have q1 := Qx_p p1
    have dl := dep_le q1
    refine zW_sub h34 (by omega) S1 hu (by omega) (by omega) he her (fun b σ2 H2 η2 ro S2 o1 q2 e2 he => ?_)
    have dl2 := dep_le q2
    refine zW_add (by omega) (by omega) (okT_G o1) (SS_up 1 S2 rfl) (fun H3 cap1 S3 c1 c2 => ?_)
    unfold cons1 at he
    obtain ⟨q, hq, hl', hr⟩ := pB_e he
    have hln : (l ++ [ho b]).length = l.length + 1 := by rw [List.length_append]; rfl
    have m1 := q1.2.2.1
    have m2 := q2.2.2.1
    refine hL p Γ H3 σ2 η2 M _ _ d Q q cap1 a (l ++ [ho b]) S3 hu (by omega) (by rw [hln]; omega) (by rw [hln]; omega) (by rw [hln]; omega) (by omega) hq (fun e p H' w2 T => her e p H' (hl' _ w2) T) (fun τ σ3 H4 η3 ro w2 S4 q3 e3 => ?_)
    have w4 := hr _ _ w2
    refine hk _ σ3 H4 η3 ro (Option.some.inj w4).symm ?_ (Qx_to (Qx_t q1 (Qx_t q2 q3)) (by omega) (by omega)) ?_
    · rw [gs_gl]
      show SS C B X t Γ H4 σ3 η3 ((imTup (l ++ (ho b :: (gs τ).map ho)), _) :: M) _ _
      rw [List.append_assoc, hln] at S4
      exact SS_mono S4 (by rw [List.length_cons]; omega) (by rw [List.length_cons]; omega)
    · rw [gs_gl]
      exact Er_t (Er_o w1 e2) e3
  · rw [if_neg w] at he
    have S3 := SS_new (kd := 29) (n := 4) (p := []) S (by decide) trivial
    refine zW_new ?_
    rw [if_neg (by decide)]
    refine zW_size (by omega) (SS_up 1 S3 rfl) (zW_numbered (by omega) (by omega) S3 (fun H4 b S4 => ?_))
    have S5 := SS_pk 3 [2, 0, 1] rfl rfl S4
    have S6 := SS_no (SS_oL S5)
    have S7 := SS_pk 4 [3, 2, 0, 1] rfl rfl S6
    refine m_RowTy (by omega) S7 (fun H5 S5 => zW_rQ (hk (gl []) σ H5 η _ (Option.some.inj he).symm ?_ Qx_0 (Er_1 ⟨rfl, rfl⟩)))
    rw [gs_gl]
    show SS C B X t Γ H5 σ η ((imTup (l ++ []), _) :: M) (g + 5 + 9 * l.length - 30 * ((0 : Nat) : Int)) (h + 110 + 42 * l.length - 4 * cap - 200 * ((0 : Nat) : Int))
    rw [List.append_nil]
    exact SS_mono S5 (by omega) (by omega)
end YTy2
