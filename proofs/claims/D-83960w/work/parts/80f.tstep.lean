set_option maxRecDepth 100000
/-! JOINING: the steps; what comes of it -/
section TStep
variable {adm : Nat → Bool} {G0 G G' : TG} {n0 n n' x y x1 y1 a b z c : Nat} {v w u : Nat → Ttr} {W W1 : TW} {l : Ky} {N : TN} {e1 e2 l1 l2 loose : Bool} {o1 o2 o3 lab : Nat} {k1 k2 k kids : List (Ky × Nat)}
def JAb (G : TG) (a b x1 y1 : Nat) : Prop := (G.1 a = x1 ∧ G.1 b = y1) ∨ (G.1 b = x1 ∧ G.1 a = y1)
theorem JI_at (h : JI G0 n0 x y G n ((a, b) :: W)) (ab : JAb G a b x1 y1) : (x1 < n ∧ G.1 x1 = x1) ∧ y1 < n ∧ G.1 y1 = y1 := by
  have h2 := h.2.1 (a, b) (List.mem_cons_self ..)
  have h5 := h.2.2.2.2.1.1
  have ha := h.1.1 a (by have : a < n0 := h2.1.1; omega)
  have hb := h.1.1 b (by have : b < n0 := h2.2.1; omega)
  rcases ab with ⟨e1, e2⟩ | ⟨e1, e2⟩
  · rw [← e1, ← e2]; exact ⟨ha, hb⟩
  · rw [← e1, ← e2]; exact ⟨hb, ha⟩
theorem JI_tell (hw0 : tWF G0 n0) (hx : x < n0) (hy : y < n0) (h : JI G0 n0 x y G n ((a, b) :: W)) (ab : JAb G a b x1 y1) (gx : G.2 x1 = (e1, .inl o1)) (gy : G.2 y1 = (e2, .inr (lab, loose, kids))) (hr : o1 ≤ 1) (ho : o1 = 1 → (lab = 0 ∨ lab = 3 ∨ lab = 6) ∧ loose = false ∧ kids = []) : JI G0 n0 x y (tlink G x1 y1 (e1 || e2, .inr (lab, loose, kids))) n W := by
  obtain ⟨⟨nx, rx⟩, ny, ry⟩ := JI_at h ab
  have hxy : x1 ≠ y1 := fun q => by rw [q, gy] at gx; cases gx
  have := JI_link (W1 := []) (N := (e1 || e2, .inr (lab, loose, kids))) hw0 hx hy h ab hxy (fun adm w => ?_) ?_ ?_ (fun q m => absurd m (List.not_mem_nil)) ?_ ?_
  · exact this
  · rw [tS_tell nx ny rx ry hxy gx gy ho]
    exact ⟨fun q => ⟨q, fun _ m => absurd m (List.not_mem_nil)⟩, fun q => q.1⟩
  · intro e lab' loose' kids' he
    cases he
    exact (h.1.2 y1 ny ry _ _ _ _ gy).1
  · intro q m
    right; rw [gy]; exact m
  · intro k; rw [gx]; intro q; cases q; omega
  · intro k; rw [gy]
theorem JI_both (hw0 : tWF G0 n0) (hx : x < n0) (hy : y < n0) (h : JI G0 n0 x y G n ((a, b) :: W)) (ab : JAb G a b x1 y1) (hxy : x1 ≠ y1) (gx : G.2 x1 = (e1, .inl o1)) (gy : G.2 y1 = (e2, .inl o2)) (hr : o1 ≤ 1) (hor : 2 ≤ o2 → o1 = 0 ∧ o3 = o2) (ho : o2 ≤ 1 → o3 ≤ 1 ∧ (o3 = 1 ↔ o1 = 1 ∨ o2 = 1)) : JI G0 n0 x y (tlink G x1 y1 (e1 || e2, .inl o3)) n W := by
  obtain ⟨⟨nx, rx⟩, ny, ry⟩ := JI_at h ab
  have := JI_link (W1 := []) (N := (e1 || e2, .inl o3)) hw0 hx hy h ab hxy (fun adm w => ?_) ?_ ?_ (fun q m => absurd m (List.not_mem_nil)) ?_ ?_
  · exact this
  · have ho3 : o3 = 1 ↔ o1 = 1 ∨ o2 = 1 := by
      by_cases q : o2 ≤ 1
      · exact (ho q).2
      · have := hor (by omega); omega
    rw [tS_both nx ny rx ry hxy gx gy ho3]
    exact ⟨fun q => ⟨q, fun _ m => absurd m (List.not_mem_nil)⟩, fun q => q.1⟩
  · intro e lab' loose' kids' he
    cases he
  · intro q m; exact absurd m (List.not_mem_nil)
  · intro k; rw [gx]; intro q; cases q; omega
  · intro k
    rw [gy]
    constructor
    · intro q
      have q : o2 = k + 2 := by cases q; rfl
      show Sum.inl o3 = _
      rw [(hor (by omega)).2, q]
    · intro q
      have q : o3 = k + 2 := by cases q; rfl
      show Sum.inl o2 = _
      by_cases e : o2 ≤ 1
      · have := (ho e).1; omega
      · rw [← (hor (by omega)).2, q]
/-- parts side by side -/
def tzip (k1 k2 : List (Ky × Nat)) : TW := (k1.map Prod.snd).zip (k2.map Prod.snd)
theorem tzip_in (hk : k1.map Prod.fst = k2.map Prod.fst) {q : Nat × Nat} (m : q ∈ tzip k1 k2) : ∃ l, (l, q.1) ∈ k1 ∧ (l, q.2) ∈ k2 := by
  induction k1 generalizing k2 with
  | nil => exact absurd m (List.not_mem_nil)
  | cons a1 k1 ih =>
    cases k2 with
    | nil => cases hk
    | cons a2 k2 =>
      rw [List.map_cons, List.map_cons, List.cons.injEq] at hk
      have m : q ∈ (a1.2, a2.2) :: tzip k1 k2 := m
      rcases List.mem_cons.mp m with rfl | m
      · exact ⟨a1.1, List.mem_cons_self .., by rw [hk.1]; exact List.mem_cons_self ..⟩
      · obtain ⟨l, m1, m2⟩ := ih hk.2 m
        exact ⟨l, List.mem_cons_of_mem _ m1, List.mem_cons_of_mem _ m2⟩
theorem tzip_R (hk : k1.map Prod.fst = k2.map Prod.fst) (hn : (k1.map Prod.fst).Nodup) : (∀ q ∈ tzip k1 k2, w q.1 = w q.2) ↔ ∀ l c1 c2, (l, c1) ∈ k1 → (l, c2) ∈ k2 → w c1 = w c2 := by
  induction k1 generalizing k2 with
  | nil =>
    refine ⟨fun _ l c1 c2 m => absurd m (List.not_mem_nil), fun _ q m => absurd m (List.not_mem_nil)⟩
  | cons a1 k1 ih =>
    cases k2 with
    | nil => cases hk
    | cons a2 k2 =>
      rw [List.map_cons, List.map_cons, List.cons.injEq] at hk
      rw [List.map_cons, List.nodup_cons] at hn
      have ih := ih hk.2 hn.2
      constructor
      · intro h l c1 c2 m1 m2
        rcases List.mem_cons.mp m1 with e1 | m1 <;> rcases List.mem_cons.mp m2 with e2 | m2
        · have := h (a1.2, a2.2) (List.mem_cons_self ..)
          rw [← e1, ← e2] at this; exact this
        · exfalso; apply hn.1
          rw [hk.2, ← e1]; exact List.mem_map.mpr ⟨(l, c2), m2, rfl⟩
        · exfalso; apply hn.1
          rw [hk.1, ← e2]; exact List.mem_map.mpr ⟨(l, c1), m1, rfl⟩
        · exact ih.mp (fun q m => h q (List.mem_cons_of_mem _ m)) l c1 c2 m1 m2
      · intro h q m
        have m : q ∈ (a1.2, a2.2) :: tzip k1 k2 := m
        rcases List.mem_cons.mp m with rfl | m
        · exact h a1.1 a1.2 a2.2 (List.mem_cons_self ..) (by rw [hk.1]; exact List.mem_cons_self ..)
        · exact ih.mpr (fun l c1 c2 m1 m2 => h l c1 c2 (List.mem_cons_of_mem _ m1) (List.mem_cons_of_mem _ m2)) q m
theorem JI_same (hw0 : tWF G0 n0) (hx : x < n0) (hy : y < n0) (h : JI G0 n0 x y G n ((a, b) :: W)) (ab : JAb G a b x1 y1) (hxy : x1 ≠ y1) (gx : G.2 x1 = (e1, .inr (lab, false, k1))) (gy : G.2 y1 = (e2, .inr (lab, false, k2))) (hk : k1.map Prod.fst = k2.map Prod.fst) (hW : ∀ q, q ∈ W1 ↔ q ∈ tzip k1 k2) : JI G0 n0 x y (tlink G x1 y1 (e1 || e2, .inr (lab, false, k2))) n (W1 ++ W) := by
  obtain ⟨⟨nx, rx⟩, ny, ry⟩ := JI_at h ab
  have hn1 := (h.1.2 x1 nx rx _ _ _ _ gx).1
  refine JI_link hw0 hx hy h ab hxy (fun adm w => ?_) ?_ ?_ ?_ ?_ ?_
  · rw [tS_same nx ny rx ry hxy gx gy hk, ← tzip_R hk hn1]
    simp only [hW]
  · intro e lab' loose' kids' he
    cases he
    exact (h.1.2 y1 ny ry _ _ _ _ gy).1
  · intro q m
    right; rw [gy]; exact m
  · intro q m
    obtain ⟨l, m1, m2⟩ := tzip_in hk ((hW q).mp m)
    exact ⟨⟨l, Or.inl (by rw [gx]; exact m1)⟩, ⟨l, Or.inr (by rw [gy]; exact m2)⟩⟩
  · intro k; rw [gx]; exact fun q => by cases q
  · intro k; rw [gy]
theorem JI_rows (hw0 : tWF G0 n0) (hx : x < n0) (hy : y < n0) (h : JI G0 n0 x y G n ((a, b) :: W)) (ab : JAb G a b x1 y1) (hxy : x1 ≠ y1) (gx : G.2 x1 = (e1, .inr (lab, l1, k1))) (gy : G.2 y1 = (e2, .inr (lab, l2, k2))) (hn : (k.map Prod.fst).Nodup) (hk : ∀ l, (∃ c, (l, c) ∈ k) ↔ (∃ c, (l, c) ∈ k1) ∨ (∃ c, (l, c) ∈ k2)) (hk2 : ∀ l c, (l, c) ∈ k → (l, c) ∈ k1 ∨ (l, c) ∈ k2) (h1 : l1 = false → ∀ l, (∃ c, (l, c) ∈ k2) → ∃ c, (l, c) ∈ k1) (h2 : l2 = false → ∀ l, (∃ c, (l, c) ∈ k1) → ∃ c, (l, c) ∈ k2)
    (hW1 : ∀ q, q ∈ W1 → ∃ l, ((l, q.1) ∈ k1 ∨ (l, q.1) ∈ k2) ∧ ((l, q.2) ∈ k1 ∨ (l, q.2) ∈ k2)) (hW2 : ∀ l c1 c2, (l, c1) ∈ k1 → (l, c2) ∈ k2 → (c1, c2) ∈ W1 ∨ (c2, c1) ∈ W1) : JI G0 n0 x y (tlink G x1 y1 (e1 || e2, .inr (lab, l1 && l2, k))) n (W1 ++ W) := by
  obtain ⟨⟨nx, rx⟩, ny, ry⟩ := JI_at h ab
  have nd1 := (h.1.2 x1 nx rx _ _ _ _ gx).1
  have nd2 := (h.1.2 y1 ny ry _ _ _ _ gy).1
  refine JI_link hw0 hx hy h ab hxy (fun adm w => ?_) ?_ ?_ ?_ ?_ ?_
  · rw [tS_rows nx ny rx ry hxy gx gy hk hk2 h1 h2]
    refine and_congr_right (fun _ => ?_)
    have uq : ∀ {kk : List (Ky × Nat)}, (kk.map Prod.fst).Nodup → ∀ {l c c'}, (l, c) ∈ kk → (l, c') ∈ kk → c = c' := by
      intro kk hn l c c' m m'
      have e1 := find_key hn m
      rw [find_key hn m'] at e1
      cases e1; rfl
    have dir : (∀ q ∈ W1, w q.1 = w q.2) → ∀ l c1 c2, ((l, c1) ∈ k1 ∨ (l, c1) ∈ k2) → ((l, c2) ∈ k1 ∨ (l, c2) ∈ k2) → w c1 = w c2 := by
      intro hq l c1 c2 m1 m2
      have step : ∀ d1 d2, (l, d1) ∈ k1 → (l, d2) ∈ k2 → w d1 = w d2 := by
        intro d1 d2 m1 m2
        rcases hW2 l d1 d2 m1 m2 with m | m
        · exact hq _ m
        · exact (hq _ m).symm
      rcases m1 with m1 | m1 <;> rcases m2 with m2 | m2
      · rw [uq nd1 m1 m2]
      · exact step _ _ m1 m2
      · exact (step _ _ m2 m1).symm
      · rw [uq nd2 m1 m2]
    constructor
    · intro hq q m
      obtain ⟨l, m1, m2⟩ := hW1 q m
      obtain ⟨c, mc⟩ := (hk l).mpr (m1.imp (fun z => ⟨_, z⟩) (fun z => ⟨_, z⟩))
      rw [hq l q.1 c m1 mc, hq l q.2 c m2 mc]
    · intro hq l c1 c m1 mc
      exact dir hq l c1 c m1 (hk2 l c mc)
  · intro e lab' loose' kids' he
    cases he
    exact hn
  · intro q m
    have m : q ∈ k := m
    rw [gx, gy]
    exact hk2 q.1 q.2 m
  · intro q m
    obtain ⟨l, m1, m2⟩ := hW1 q m
    rw [gx, gy]
    exact ⟨⟨l, m1⟩, ⟨l, m2⟩⟩
  · intro k; rw [gx]; exact fun q => by cases q
  · intro k; rw [gy]; constructor <;> (intro q; cases q)
/-- a root gets a new place -/
theorem JI_new (h : JI G0 n0 x y G n W) (hy1 : y1 < n) (ry : G.1 y1 = y1) (hr : ∀ k, (G.2 y1).2 ≠ .inl (k + 2)) (hw0 : tWF G0 n0) (hb : (∃ c, c < n0 ∧ tBel G0 x y c ∧ G.1 c = y1) ∧ ∀ l z, (l, z) ∈ tkids (G.2 y1) → z < n0 ∧ tBel G0 x y z) (h1 : ∀ z, z < n → G'.1 z = if G.1 z = y1 then n else G.1 z) (hn1 : G'.1 n = n) (h2 : ∀ z, z < n → z ≠ y1 → G'.2 z = G.2 z) (hn2 : G'.2 n = G.2 y1) : JI G0 n0 x y G' (n + 1) W := by
  obtain ⟨g1, g2, g3, g4, ⟨g5, g51, g52⟩, g6, g7, g8, g9⟩ := h
  obtain ⟨⟨p, p1, p2, p3⟩, hkid⟩ := hb
  have wf : tWF G' (n + 1) := by
    refine ⟨fun z hz => ?_, fun z hz hr' e lab loose kids hg => ?_⟩
    · by_cases q : z = n
      · rw [q, hn1, hn1]; exact ⟨by omega, rfl⟩
      · have hz' : z < n := by omega
        rw [h1 z hz']
        split
        · exact ⟨by omega, hn1⟩
        · next q' =>
          have := g1.1 z hz'
          rw [h1 _ this.1, this.2, if_neg q']
          exact ⟨by omega, rfl⟩
    · by_cases q : z = n
      · rw [q, hn2] at hg
        have := g1.2 y1 hy1 ry e lab loose kids hg
        exact ⟨this.1, fun l c m => by have := this.2 l c m; omega⟩
      · have hz' : z < n := by omega
        rw [h1 z hz'] at hr'
        have zy : z ≠ y1 := fun q' => by rw [q', ry, if_pos rfl] at hr'; omega
        have hr2 : G.1 z = z := by split at hr' <;> omega
        rw [h2 z hz' zy] at hg
        have := g1.2 z hz' hr2 e lab loose kids hg
        exact ⟨this.1, fun l c m => by have := this.2 l c m; omega⟩
  have sol : ∀ adm w, tSol adm G' (n + 1) w ↔ tSol adm G n w ∧ w n = w y1 := by
    intro adm w
    constructor
    · rintro ⟨s1, s2⟩
      have ey : w y1 = w n := by
        have := s1 y1 (by omega)
        rwa [h1 y1 hy1, ry, if_pos rfl] at this
      refine ⟨⟨fun z hz => ?_, fun z hz hr' => ?_⟩, ey.symm⟩
      · have := s1 z (by omega)
        rw [h1 z hz] at this
        split at this
        · next q => rw [this, q, ey]
        · exact this
      · by_cases zy : z = y1
        · have := s2 n (by omega) hn1
          rw [hn2] at this
          rw [zy]
          exact (tsat_v ey.symm).mp this
        · have := s2 z (by omega) (by rw [h1 z hz, hr', if_neg zy])
          rwa [h2 z hz zy] at this
    · rintro ⟨⟨s1, s2⟩, ey⟩
      refine ⟨fun z hz => ?_, fun z hz hr' => ?_⟩
      · by_cases q : z = n
        · rw [q, hn1]
        · have hz' : z < n := by omega
          rw [h1 z hz']
          have := s1 z hz'
          split
          · next q' => rw [this, q', ey]
          · exact this
      · by_cases q : z = n
        · have := s2 y1 hy1 ry
          rw [q, hn2]
          exact (tsat_v ey).mpr this
        · have hz' : z < n := by omega
          rw [h1 z hz'] at hr'
          have zy : z ≠ y1 := fun q' => by rw [q', ry, if_pos rfl] at hr'; omega
          have hr2 : G.1 z = z := by split at hr' <;> omega
          rw [h2 z hz' zy]
          exact s2 z hz' hr2
  refine ⟨wf, g2, fun adm w hs hq => g3 adm w ((sol adm w).mp hs).1 hq, fun adm w hs hv => ?_, ⟨by omega, fun z hz hr' => ?_, fun z hz hr' => ?_⟩, fun c hc hbel hlt => ?_, fun z hz hr' k hg => ?_, fun z hz hr' k hg => ?_, fun z hz => ?_⟩
  · obtain ⟨w', q1, q2, q3⟩ := g4 adm w hs hv
    refine ⟨fun z => if z = n then w' y1 else w' z, fun z hz => ?_, (sol adm _).mpr ⟨?_, ?_⟩, fun q m => ?_⟩
    · show (if z = n then _ else w' z) = _
      rw [if_neg (by omega)]; exact q1 z hz
    · exact tSol_ag (fun z hz => if_neg (by omega)) g1 q2
    · show (if n = n then w' y1 else _) = if y1 = n then _ else w' y1
      rw [if_pos rfl, if_neg (by omega)]
    · have := g2 q m
      show (if q.1 = n then _ else w' q.1) = if q.2 = n then _ else w' q.2
      rw [if_neg (by omega), if_neg (by omega)]
      exact q3 q m
  · by_cases zy : z = y1
    · left
      have := g6 p p1 p2 (by rw [p3, ← zy]; exact hz)
      rw [p3, ← zy] at this; exact this
    · rcases g51 z hz hr' with q | ⟨q1, q2⟩
      · exact Or.inl q
      · exact Or.inr ⟨by rw [h1 z (by omega), q1, if_neg zy], by rw [h2 z (by omega) zy]; exact q2⟩
  · by_cases q : z = n
    · right
      intro e lab loose kids hg l c m
      rw [q, hn2] at hg
      exact hkid l c (by rw [hg]; exact m)
    · have hz' : z < n := by omega
      rw [h1 z hz'] at hr'
      have zy : z ≠ y1 := fun q' => by rw [q', ry, if_pos rfl] at hr'; omega
      have hr2 : G.1 z = z := by split at hr' <;> omega
      rw [h2 z hz' zy]
      exact g52 z hz' hr2
  · rw [h1 c (by omega)] at hlt ⊢
    split at hlt
    · omega
    · next q => rw [if_neg q]; exact g6 c hc hbel hlt
  · obtain ⟨q1, q2⟩ := g7 z hz hr' k hg
    have zy : z ≠ y1 := fun q => by
      obtain ⟨e, q2⟩ := q2
      exact hr k (by rw [← q, q2])
    exact ⟨by rw [h1 z (by omega), q1, if_neg zy], by rw [h2 z (by omega) zy]; exact q2⟩
  · obtain ⟨e, hg⟩ := hg
    by_cases q : z = n
    · rw [q, hn2] at hg
      exact absurd (by rw [hg]) (hr k)
    · have hz' : z < n := by omega
      rw [h1 z hz'] at hr'
      have zy : z ≠ y1 := fun q' => by rw [q', ry, if_pos rfl] at hr'; omega
      have hr2 : G.1 z = z := by split at hr' <;> omega
      rw [h2 z hz' zy] at hg
      exact g8 z hz' hr2 k ⟨e, hg⟩
  · have := (hw0.1 z hz).1
    rw [h1 z (by omega), h1 _ (by omega), g9 z hz]
/-- variables of a text stand for themselves before and behind -/
theorem JI_gen (h : JI G0 n0 x y G n W) (hv : ∀ z, z < n0 → v z = w z) (hg : tGen G0 n0 w) : tGen G n v := by
  intro z hz hr e k hg'
  obtain ⟨q1, q2, e', q3⟩ := h.2.2.2.2.2.2.2.1 z hz hr k ⟨e, hg'⟩
  rw [hv z q1]
  exact hg z q1 q2 e' k q3
theorem JI_gen' (h : JI G0 n0 x y G n W) (hg : tGen G n w) : tGen G0 n0 w := by
  intro z hz hr e k hg'
  obtain ⟨q1, e', q2⟩ := h.2.2.2.2.2.2.1 z hz hr k ⟨e, hg'⟩
  exact hg z (by have := h.2.2.2.2.1.1; omega) q1 e' k q2
theorem JI_clash (h : JI G0 n0 x y G n ((a, b) :: W)) (ab : JAb G a b x1 y1) (hc : ∀ w, ¬ (tSol (fun _ => true) G n w ∧ tGen G n w ∧ w x1 = w y1)) : ∀ w, ¬ (tSol (fun _ => true) G0 n0 w ∧ tGen G0 n0 w ∧ w x = w y) := by
  rintro w ⟨s1, s2, s3⟩
  obtain ⟨w', q1, q2, q3⟩ := h.2.2.2.1 _ w s1 s3
  refine hc w' ⟨q2, JI_gen h q1 s2, ?_⟩
  have h2 := h.2.1 (a, b) (List.mem_cons_self ..)
  have h5 := h.2.2.2.2.1.1
  have e : w' a = w' b := q3 (a, b) (List.mem_cons_self ..)
  rw [q2.1 a (by have : a < n0 := h2.1.1; omega), q2.1 b (by have : b < n0 := h2.2.1; omega)] at e
  rcases ab with ⟨e1, e2⟩ | ⟨e1, e2⟩
  · rw [e1, e2] at e; exact e
  · rw [e1, e2] at e; exact e.symm
/-- a demand of equality more, that was there already -/
theorem JI_set {ec : Bool} {N0 : Nat ⊕ (Nat × Bool × List (Ky × Nat))} (hw0 : tWF G0 n0) (hx : x < n0) (hy : y < n0) (hb : z < n0 → tBel G0 x y z) (h : JI G0 n0 x y G n W) (hz : z < n) (hr : G.1 z = z) (hg : G.2 z = (ec, N0)) (hs : ∀ adm w, tSol adm (tset G z (true, N0)) n w ↔ tSol adm G n w) : JI G0 n0 x y (tset G z (true, N0)) n W := by
  obtain ⟨g1, g2, g3, g4, ⟨g5, g51, g52⟩, g6, g7, g8, g9⟩ := h
  have e2 : ∀ c, ∃ e, (tset G z (true, N0)).2 c = (e, (G.2 c).2) := by
    intro c
    show ∃ e, (if c = z then (true, N0) else G.2 c) = _
    by_cases q : c = z
    · rw [if_pos q, q, hg]; exact ⟨_, rfl⟩
    · rw [if_neg q]; exact ⟨_, rfl⟩
  refine ⟨⟨g1.1, fun c hc hr' e lab loose kids hg' => ?_⟩, g2, fun adm w hs' => g3 adm w ((hs adm w).mp hs'), fun adm w hs' hv => ?_, ⟨g5, fun c hc hr' => ?_, fun c hc hr' => ?_⟩, g6, fun c hc hr' k hg' => ?_, fun c hc hr' k hg' => ?_, g9⟩
  · obtain ⟨e', q⟩ := e2 c
    rw [hg'] at q
    exact g1.2 c hc hr' (G.2 c).1 lab loose kids (Prod.ext rfl (congrArg Prod.snd q).symm)
  · obtain ⟨w', q1, q2, q3⟩ := g4 adm w hs' hv
    exact ⟨w', q1, (hs adm w').mpr q2, q3⟩
  · by_cases cz : c = z
    · left; rw [cz]; exact hb (by omega)
    · rcases g51 c hc hr' with q | ⟨q1, q2⟩
      · exact Or.inl q
      · refine Or.inr ⟨q1, ?_⟩
        show (if c = z then _ else G.2 c) = _
        rw [if_neg cz]; exact q2
  · rcases g52 c hc hr' with ⟨q1, q2, q3⟩ | q
    · by_cases cz : c = z
      · right
        intro e lab loose kids hg' l d m
        have hg' : (if c = z then (true, N0) else G.2 c) = _ := hg'
        rw [if_pos cz] at hg'
        have g0 : G0.2 c = (ec, .inr (lab, loose, kids)) := by
          rw [← q3, cz, hg]
          rw [(Prod.mk.inj hg').2]
        exact ⟨(hw0.2 c q1 q2 _ _ _ _ g0).2 l d m, tBel_kid (z := c) hw0 hx hy (by rw [cz]; exact hb (by omega)) (by rw [q2]; exact g0) m⟩
      · refine Or.inl ⟨q1, q2, ?_⟩
        show (if c = z then _ else G.2 c) = _
        rw [if_neg cz]; exact q3
    · right
      intro e lab loose kids hg'
      obtain ⟨e', q'⟩ := e2 c
      rw [hg'] at q'
      exact q (G.2 c).1 lab loose kids (Prod.ext rfl (congrArg Prod.snd q').symm)
  · obtain ⟨q1, e, q2⟩ := g7 c hc hr' k hg'
    refine ⟨q1, ?_⟩
    obtain ⟨e', q⟩ := e2 c
    rw [q, q2]; exact ⟨e', rfl⟩
  · obtain ⟨e, hg'⟩ := hg'
    obtain ⟨e', q⟩ := e2 c
    rw [hg'] at q
    exact g8 c hc hr' k ⟨(G.2 c).1, Prod.ext rfl (congrArg Prod.snd q).symm⟩
end TStep
