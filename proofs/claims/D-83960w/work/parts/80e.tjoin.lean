set_option maxRecDepth 100000
/-! JOINING, in general: G0 with x and y to be joined; G now, pairs W still to be looked at -/
abbrev TW : Type := List (Nat × Nat)
def tkids (N : TN) : List (Ky × Nat) := match N.2 with
  | .inl _ => []
  | .inr q => q.2.2
def isum (g : Nat → Int) : Nat → Int
  | 0 => 0
  | n + 1 => isum g n + g n
/-- parts of roots -/
noncomputable def tPhi (G : TG) (n : Nat) : Int := isum (fun z => @ite Int (G.1 z = z) (Classical.propDecidable _) ((tkids (G.2 z)).length : Int) 0) n
def JI (G0 : TG) (n0 x y : Nat) (G : TG) (n : Nat) (W : TW) : Prop :=
  tWF G n ∧ (∀ q ∈ W, (q.1 < n0 ∧ tBel G0 x y q.1) ∧ q.2 < n0 ∧ tBel G0 x y q.2) ∧
  (∀ adm w, tSol adm G n w → (∀ q ∈ W, w q.1 = w q.2) → tSol adm G0 n0 w ∧ w x = w y) ∧
  (∀ adm w, tSol adm G0 n0 w → w x = w y → ∃ w', (∀ z, z < n0 → w' z = w z) ∧ tSol adm G n w' ∧ ∀ q ∈ W, w' q.1 = w' q.2) ∧
  tCh G0 G n0 n x y ∧
  (∀ c, c < n0 → tBel G0 x y c → G.1 c < n0 → tBel G0 x y (G.1 c)) ∧
  (∀ z, z < n0 → G0.1 z = z → ∀ k, (∃ e, G0.2 z = (e, .inl (k + 2))) → G.1 z = z ∧ ∃ e, G.2 z = (e, .inl (k + 2))) ∧
  (∀ z, z < n → G.1 z = z → ∀ k, (∃ e, G.2 z = (e, .inl (k + 2))) → z < n0 ∧ G0.1 z = z ∧ ∃ e, G0.2 z = (e, .inl (k + 2))) ∧
  (∀ z, z < n0 → G.1 z = G.1 (G0.1 z))
section TJoin
variable {adm : Nat → Bool} {G0 G G' : TG} {n0 n n' x y x1 y1 a b z c : Nat} {v w u : Nat → Ttr} {W W1 : TW} {l : Ky} {N : TN}
theorem isum_nn {d : Nat → Int} (h : ∀ z, z < n → 0 ≤ d z) : 0 ≤ isum d n := by
  induction n with
  | zero => exact Int.le_refl _
  | succ n ih =>
    have h1 := ih (fun z hz => h z (by omega))
    have h2 := h n (by omega)
    simp only [isum]; omega
theorem isum_one {d : Nat → Int} (hx : x < n) (h : ∀ z, z < n → z ≠ x → 0 ≤ d z) : d x ≤ isum d n := by
  induction n with
  | zero => omega
  | succ n ih =>
    simp only [isum]
    by_cases e : x = n
    · subst e
      have := isum_nn (n := x) (fun z hz => h z (by omega) (by omega))
      omega
    · have h1 := ih (by omega) (fun z hz => h z (by omega))
      have h2 := h n (by omega) (fun q => e q.symm)
      omega
theorem isum_two {d : Nat → Int} (hx : x < n) (hy : y < n) (hxy : x ≠ y) (h : ∀ z, z < n → z ≠ x → z ≠ y → 0 ≤ d z) : d x + d y ≤ isum d n := by
  induction n with
  | zero => omega
  | succ n ih =>
    simp only [isum]
    by_cases e : x = n
    · subst e
      have := isum_one (x := y) (n := x) (d := d) (by omega) (fun z hz hq => h z (by omega) (by omega) hq)
      omega
    · by_cases e' : y = n
      · subst e'
        have := isum_one (x := x) (n := y) (d := d) (by omega) (fun z hz hq => h z (by omega) hq (by omega))
        omega
      · have h1 := ih (by omega) (by omega) (fun z hz => h z (by omega))
        have h2 := h n (by omega) (fun q => e q.symm) (fun q => e' q.symm)
        omega
theorem isum_sub {f g : Nat → Int} : isum (fun z => f z - g z) n = isum f n - isum g n := by
  induction n with
  | zero => rfl
  | succ n ih => simp only [isum, ih]; omega
theorem isum_eq {f g : Nat → Int} (h : ∀ z, z < n → f z = g z) : isum f n = isum g n := by
  induction n with
  | zero => rfl
  | succ n ih => simp only [isum, ih (fun z hz => h z (by omega)), h n (by omega)]
theorem tPhi_link (hx : x < n) (hy : y < n) (rx : G.1 x = x) (ry : G.1 y = y) (hxy : x ≠ y) : tPhi (tlink G x y N) n + (tkids (G.2 x)).length + (tkids (G.2 y)).length ≤ tPhi G n + (tkids N).length := by
  have h := isum_two (n := n) (x := x) (y := y) (d := fun z => @ite Int (G.1 z = z) (Classical.propDecidable _) ((tkids (G.2 z)).length : Int) 0 - @ite Int ((tlink G x y N).1 z = z) (Classical.propDecidable _) ((tkids ((tlink G x y N).2 z)).length : Int) 0) hx hy hxy ?_
  · rw [isum_sub] at h
    unfold tPhi
    generalize isum _ n = A at h ⊢
    generalize isum _ n = B at h ⊢
    have e1 : (tlink G x y N).1 x ≠ x := by
      show (if G.1 x = x then y else G.1 x) ≠ x
      rw [if_pos rx]; exact fun q => hxy q.symm
    have e2 : (tlink G x y N).1 y = y := by
      show (if G.1 y = x then y else G.1 y) = y
      rw [ry, if_neg (fun q => hxy q.symm)]
    have e3 : (tlink G x y N).2 y = N := if_pos rfl
    simp only [rx, ry, e1, e2, e3, if_true, if_false] at h
    omega
  · intro z hz zx zy
    have e3 : (tlink G x y N).2 z = G.2 z := if_neg zy
    rw [e3]
    by_cases q : (tlink G x y N).1 z = z
    · have : G.1 z = z := by
        have q : (if G.1 z = x then y else G.1 z) = z := q
        split at q
        · exact absurd q.symm zy
        · exact q
      simp only [q, this, if_true]; omega
    · simp only [q, if_false]
      split <;> omega
/-- parts of what is below are below -/
theorem JI_kid (hw0 : tWF G0 n0) (hx : x < n0) (hy : y < n0) (h : JI G0 n0 x y G n W) (hc : c < n0) (hb : tBel G0 x y c) (m : (l, z) ∈ tkids (G.2 (G.1 c))) : z < n0 ∧ tBel G0 x y z := by
  obtain ⟨h1, -, -, -, ⟨h5, -, h7⟩, h8, -, -, -⟩ := h
  have hr := h1.1 c (by omega)
  rcases hg : G.2 (G.1 c) with ⟨e, o | ⟨lab, loose, kids⟩⟩
  · rw [hg] at m; exact absurd m (List.not_mem_nil)
  · rw [hg] at m
    have m : (l, z) ∈ kids := m
    rcases h7 (G.1 c) hr.1 hr.2 with ⟨q1, q2, q3⟩ | q
    · have hg0 : G0.2 (G.1 c) = (e, .inr (lab, loose, kids)) := by rw [← q3]; exact hg
      exact ⟨(hw0.2 _ q1 q2 _ _ _ _ hg0).2 l z m, tBel_kid hw0 hx hy (h8 c hc hb q1) (by rw [q2]; exact hg0) m⟩
    · exact q e lab loose kids hg l z m
theorem JI_pop (h : JI G0 n0 x y G n ((a, b) :: W)) (e : G.1 a = G.1 b) : JI G0 n0 x y G n W := by
  obtain ⟨h1, h2, h3, h4, h5, h6⟩ := h
  have hn := h5.1
  refine ⟨h1, fun q hq => h2 q (List.mem_cons_of_mem _ hq), fun adm w hs hq => h3 adm w hs (fun q m => ?_), fun adm w hs hv => ?_, h5, h6⟩
  · rcases List.mem_cons.mp m with rfl | m
    · have := h2 (a, b) (List.mem_cons_self ..)
      rw [hs.1 a (by omega), hs.1 b (by omega), e]
    · exact hq q m
  · obtain ⟨w', q1, q2, q3⟩ := h4 adm w hs hv
    exact ⟨w', q1, q2, fun q m => q3 q (List.mem_cons_of_mem _ m)⟩
theorem JI_link (hw0 : tWF G0 n0) (hx : x < n0) (hy : y < n0) (h : JI G0 n0 x y G n ((a, b) :: W)) (ab : (G.1 a = x1 ∧ G.1 b = y1) ∨ (G.1 b = x1 ∧ G.1 a = y1)) (hxy : x1 ≠ y1)
    (heq : ∀ adm w, (tSol adm G n w ∧ w x1 = w y1) ↔ (tSol adm (tlink G x1 y1 N) n w ∧ ∀ q ∈ W1, w q.1 = w q.2))
    (hn : ∀ e lab loose kids, N = (e, .inr (lab, loose, kids)) → (kids.map Prod.fst).Nodup)
    (hk : ∀ q ∈ tkids N, q ∈ tkids (G.2 x1) ∨ q ∈ tkids (G.2 y1))
    (hW : ∀ q ∈ W1, (∃ l, (l, q.1) ∈ tkids (G.2 x1) ∨ (l, q.1) ∈ tkids (G.2 y1)) ∧ ∃ l, (l, q.2) ∈ tkids (G.2 x1) ∨ (l, q.2) ∈ tkids (G.2 y1))
    (hr1 : ∀ k, (G.2 x1).2 ≠ .inl (k + 2)) (hr2 : ∀ k, (G.2 y1).2 = .inl (k + 2) ↔ N.2 = .inl (k + 2)) : JI G0 n0 x y (tlink G x1 y1 N) n (W1 ++ W) := by
  have hkid := fun c hc hb l z m => JI_kid (c := c) (l := l) (z := z) hw0 hx hy h hc hb m
  obtain ⟨h1, h2, h3, h4, ⟨h5, h51, h52⟩, h6, h7, h8, h9⟩ := h
  obtain ⟨⟨a1, a2⟩, b1, b2⟩ := h2 (a, b) (List.mem_cons_self ..)
  have a1 : a < n0 := a1
  have b1 : b < n0 := b1
  obtain ⟨p, p', hp1, hp2, hp1', hp2', hpx, hpy⟩ : ∃ p p', p < n0 ∧ tBel G0 x y p ∧ p' < n0 ∧ tBel G0 x y p' ∧ G.1 p = x1 ∧ G.1 p' = y1 := by
    rcases ab with ⟨e1, e2⟩ | ⟨e1, e2⟩
    · exact ⟨a, b, a1, a2, b1, b2, e1, e2⟩
    · exact ⟨b, a, b1, b2, a1, a2, e1, e2⟩
  have vab : ∀ w : Nat → Ttr, tSol (fun _ => true) G n w → (w a = w b ↔ w x1 = w y1) := by
    intro w hs
    rw [hs.1 a (by omega), hs.1 b (by omega)]
    rcases ab with ⟨e1, e2⟩ | ⟨e1, e2⟩
    · rw [e1, e2]
    · rw [e1, e2]; exact ⟨Eq.symm, Eq.symm⟩
  have nx : x1 < n := by rw [← hpx]; exact (h1.1 p (by omega)).1
  have ny : y1 < n := by rw [← hpy]; exact (h1.1 p' (by omega)).1
  have rx : G.1 x1 = x1 := by rw [← hpx]; exact (h1.1 p (by omega)).2
  have ry : G.1 y1 = y1 := by rw [← hpy]; exact (h1.1 p' (by omega)).2
  have kx : ∀ l z, (l, z) ∈ tkids (G.2 x1) → z < n0 ∧ tBel G0 x y z := fun l z m => hkid p hp1 hp2 l z (by rw [hpx]; exact m)
  have ky : ∀ l z, (l, z) ∈ tkids (G.2 y1) → z < n0 ∧ tBel G0 x y z := fun l z m => hkid p' hp1' hp2' l z (by rw [hpy]; exact m)
  have kN : ∀ l z, (l, z) ∈ tkids N → z < n0 ∧ tBel G0 x y z := fun l z m => (hk _ m).elim (kx l z) (ky l z)
  refine ⟨tlink_wf h1 nx ny rx ry hxy (fun e lab loose kids hN => ⟨hn e lab loose kids hN, fun l c m => ?_⟩), fun q hq => ?_, fun adm w hs hq => ?_, fun adm w hs hv => ?_, ⟨h5, fun z hz hr => ?_, fun z hz hr => ?_⟩, fun c hc hb hlt => ?_, fun z hz hr k hg => ?_, fun z hz hr k hg => ?_, fun z hz => ?_⟩
  · have := (kN l c (by rw [hN]; exact m)).1; omega
  · rcases List.mem_append.mp hq with m | m
    · obtain ⟨⟨l, m1⟩, ⟨l', m2⟩⟩ := hW q m
      exact ⟨m1.elim (kx l _) (ky l _), m2.elim (kx l' _) (ky l' _)⟩
    · exact h2 q (List.mem_cons_of_mem _ m)
  · obtain ⟨s1, s2⟩ := (heq adm w).mpr ⟨hs, fun q m => hq q (List.mem_append_left _ m)⟩
    refine h3 adm w s1 (fun q m => ?_)
    rcases List.mem_cons.mp m with rfl | m
    · exact (vab w (tSol_t s1)).mpr s2
    · exact hq q (List.mem_append_right _ m)
  · obtain ⟨w', q1, q2, q3⟩ := h4 adm w hs hv
    obtain ⟨r1, r2⟩ := (heq adm w').mp ⟨q2, (vab w' (tSol_t q2)).mp (q3 (a, b) (List.mem_cons_self ..))⟩
    refine ⟨w', q1, r1, fun q m => ?_⟩
    rcases List.mem_append.mp m with m | m
    · exact r2 q m
    · exact q3 q (List.mem_cons_of_mem _ m)
  · by_cases zx : z = x1
    · left; rw [zx, ← hpx]; exact h6 p hp1 hp2 (by rw [hpx, ← zx]; exact hz)
    · by_cases zy : z = y1
      · left; rw [zy, ← hpy]; exact h6 p' hp1' hp2' (by rw [hpy, ← zy]; exact hz)
      · rcases h51 z hz hr with q | ⟨q1, q2⟩
        · exact Or.inl q
        · refine Or.inr ⟨?_, ?_⟩
          · show (if G.1 z = x1 then y1 else G.1 z) = z
            rw [q1, if_neg zx]
          · show (if z = y1 then N else G.2 z) = _
            rw [if_neg zy]; exact q2
  · have hr : (if G.1 z = x1 then y1 else G.1 z) = z := hr
    by_cases zy : z = y1
    · right
      intro e lab loose kids hg l c m
      have hg : (if z = y1 then N else G.2 z) = _ := hg
      rw [if_pos zy] at hg
      exact kN l c (by rw [hg]; exact m)
    · have hr' : G.1 z = z := by
        split at hr
        · exact absurd hr.symm zy
        · exact hr
      rcases h52 z hz hr' with ⟨q1, q2, q3⟩ | q
      · refine Or.inl ⟨q1, q2, ?_⟩
        show (if z = y1 then N else G.2 z) = _
        rw [if_neg zy]; exact q3
      · right
        intro e lab loose kids hg
        have hg : (if z = y1 then N else G.2 z) = _ := hg
        rw [if_neg zy] at hg
        exact q e lab loose kids hg
  · show tBel G0 x y (if G.1 c = x1 then y1 else G.1 c)
    have hlt : (if G.1 c = x1 then y1 else G.1 c) < n0 := hlt
    by_cases q : G.1 c = x1
    · rw [if_pos q] at hlt ⊢
      have := h6 p' hp1' hp2' (by rw [hpy]; exact hlt)
      rwa [hpy] at this
    · rw [if_neg q] at hlt ⊢
      exact h6 c hc hb hlt
  · obtain ⟨q1, q2⟩ := h7 z hz hr k hg
    have zx : z ≠ x1 := fun q => by
      obtain ⟨e, q2⟩ := q2
      exact hr1 k (by rw [← q, q2])
    refine ⟨?_, ?_⟩
    · show (if G.1 z = x1 then y1 else G.1 z) = z
      rw [q1, if_neg zx]
    · show ∃ e, (if z = y1 then N else G.2 z) = _
      by_cases zy : z = y1
      · rw [if_pos zy]
        obtain ⟨e, q2⟩ := q2
        exact ⟨N.1, by rw [← (hr2 k).mp (by rw [← zy, q2])]⟩
      · rw [if_neg zy]; exact q2
  · have hr : (if G.1 z = x1 then y1 else G.1 z) = z := hr
    obtain ⟨e, hg⟩ := hg
    have hg : (if z = y1 then N else G.2 z) = _ := hg
    by_cases zy : z = y1
    · rw [if_pos zy] at hg
      exact h8 z hz (by rw [zy]; exact ry) k ⟨(G.2 z).1, by rw [← (hr2 k).mpr (by rw [hg]), ← zy]⟩
    · rw [if_neg zy] at hg
      refine h8 z hz ?_ k ⟨e, hg⟩
      split at hr
      · exact absurd hr.symm zy
      · exact hr
  · show (if G.1 z = x1 then y1 else G.1 z) = if G.1 (G0.1 z) = x1 then y1 else G.1 (G0.1 z)
    rw [h9 z hz]
end TJoin
