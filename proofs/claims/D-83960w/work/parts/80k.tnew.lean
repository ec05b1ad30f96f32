set_option maxRecDepth 100000
/-! NEW PLACES: unknown ones, variables of a text, made ones, open rows -/
def tmk (lab : Nat) (ks : List (Ky × Ttr)) : Ttr := fun p => match p with
  | [] => some lab
  | k :: q => match ks.find? (fun z => z.1 == k) with
    | some x => x.2 q
    | none => none
/-- one place more -/
def tAdd (G : TG) (n : Nat) (N : TN) (G' : TG) : Prop := tExt G n G' (n + 1) ∧ G'.1 n = n ∧ G'.2 n = N
def sfresh (S : TS) (nv o : Nat) (e : Bool) : TS := fun adm v => S adm v ∧ v nv [] ≠ none ∧ (o = 1 → tOrd (v nv)) ∧ (e = true → tEq adm (v nv))
def sopen (S : TS) (nv : Nat) (ks : List (Ky × Tf)) : TS := fun adm v => S adm v ∧ v nv [] = some 2 ∧ ∀ q ∈ ks, tsub (v nv) q.1 = q.2 v
/-- parts stand for what they are to be -/
def TKs (G : TG) (n : Nat) (ρ : Nat → Nat) (nv : Nat) : List (Ky × Nat) → List (Ky × Tf) → Prop
  | [], [] => True
  | q :: k, q' :: k' => (q.1 = q'.1 ∧ TSt G n ρ nv q.2 q'.2) ∧ TKs G n ρ nv k k'
  | _, _ => False
section TNew
variable {adm : Nat → Bool} {G0 G G' : TG} {n0 n n' nv x y z c b lab o : Nat} {v w w2 u u' f : Nat → Ttr} {S : TS} {ρ : Nat → Nat} {P Q P' Q' R K : Nat → Prop} {I : TI} {p : List Ky} {l : Ky} {T : Ttr} {N : TN} {kids : List (Ky × Nat)} {e loose : Bool}
theorem tAdd_wf (hw : tWF G n) (h : tAdd G n N G') (hk : ∀ e lab loose kids, N = (e, .inr (lab, loose, kids)) → (kids.map Prod.fst).Nodup ∧ ∀ l c, (l, c) ∈ kids → c < n) : tWF G' (n + 1) := by
  obtain ⟨⟨_, h1⟩, h2, h3⟩ := h
  refine ⟨fun z hz => ?_, fun z hz hr e lab loose kids hg => ?_⟩
  · by_cases q : z = n
    · rw [q, h2, h2]; exact ⟨by omega, rfl⟩
    · have := hw.1 z (by omega)
      rw [(h1 z (by omega)).1, (h1 _ this.1).1]
      exact ⟨by omega, this.2⟩
  · by_cases q : z = n
    · rw [q, h3] at hg
      have := hk e lab loose kids hg
      exact ⟨this.1, fun l c m => by have := this.2 l c m; omega⟩
    · rw [(h1 z (by omega)).1] at hr
      rw [(h1 z (by omega)).2] at hg
      have := hw.2 z (by omega) hr e lab loose kids hg
      exact ⟨this.1, fun l c m => by have := this.2 l c m; omega⟩
theorem tAdd_sol (hw : tWF G n) (h : tAdd G n N G') : tSol adm G' (n + 1) w ↔ tSol adm G n w ∧ tsat adm w n N := by
  constructor
  · intro hs
    refine ⟨tExt_sol hw h.1 hs, ?_⟩
    have := hs.2 n (by omega) h.2.1
    rwa [h.2.2] at this
  · rintro ⟨s1, s2⟩
    refine ⟨fun z hz => ?_, fun z hz hr => ?_⟩
    · by_cases q : z = n
      · rw [q, h.2.1]
      · rw [(h.1.2 z (by omega)).1]; exact s1.1 z (by omega)
    · by_cases q : z = n
      · rw [q, h.2.2]; exact s2
      · rw [(h.1.2 z (by omega)).1] at hr
        rw [(h.1.2 z (by omega)).2]; exact s1.2 z (by omega) hr
/-- a valuation, and one more tree -/
def wup (w : Nat → Ttr) (n : Nat) (T : Ttr) : Nat → Ttr := fun z => if z = n then T else w z
theorem wup_n : wup w n T n = T := if_pos rfl
theorem wup_o (h : z < n) : wup w n T z = w z := if_neg (by omega)
theorem wup_sol (hw : tWF G n) (h : tAdd G n N G') (s : tSol adm G n w) (ht : tsat adm (wup w n T) n N) : tSol adm G' (n + 1) (wup w n T) := (tAdd_sol hw h).mpr ⟨tSol_ag (fun z hz => wup_o hz) hw s, ht⟩
theorem tAdd_TGI (hG : TGI adm G n) (h : tAdd G n N G') (hk : ∀ e lab loose kids, N = (e, .inr (lab, loose, kids)) → (kids.map Prod.fst).Nodup ∧ ∀ l c, (l, c) ∈ kids → c < n) (hT : ∀ w, tSol tT G n w → (∀ z, z < n → tFin (w z)) → ∃ T, tFin T ∧ tsat tT (wup w n T) n N) (he : ∀ lab loose kids, N ≠ (true, .inr (lab, loose, kids))) (hr : ∀ k, N = (true, .inl (k + 2)) → adm (3 * k + 1) = true) : TGI adm G' (n + 1) := by
  obtain ⟨g1, ⟨w, f1, f2⟩, g3, g4, g5⟩ := hG
  refine ⟨tAdd_wf g1 h hk, ?_, fun z hz hr lab loose kids hg => ?_, fun z hz hr' k hg => ?_, g5⟩
  · obtain ⟨T, t1, t2⟩ := hT w f1 f2
    refine ⟨_, wup_sol g1 h f1 t2, fun z hz => ?_⟩
    by_cases q : z = n
    · rw [q, wup_n]; exact t1
    · rw [wup_o (by omega)]; exact f2 z (by omega)
  · by_cases q : z = n
    · rw [q, h.2.2] at hg; exact absurd hg (he lab loose kids)
    · have hz' : z < n := by omega
      rw [(h.1.2 z hz').1] at hr
      rw [(h.1.2 z hz').2] at hg
      obtain ⟨c1, c2⟩ := g3 z hz' hr lab loose kids hg
      refine ⟨c1, fun hl l c m => ?_⟩
      have hk := (g1.2 z hz' hr _ _ _ _ hg).2 l c m
      rw [(h.1.2 c hk).1, (h.1.2 _ (g1.1 c hk).1).2]
      exact c2 hl l c m
  · by_cases q : z = n
    · rw [q, h.2.2] at hg; exact hr k hg
    · rw [(h.1.2 z (by omega)).1] at hr'
      rw [(h.1.2 z (by omega)).2] at hg
      exact g4 z (by omega) hr' k hg
/-! a made one -/
theorem TKs_1 : ∀ {kids : List (Ky × Nat)} {ks : List (Ky × Tf)}, TKs G n ρ nv kids ks → ∀ q ∈ kids, ∃ q' ∈ ks, q.1 = q'.1 ∧ TSt G n ρ nv q.2 q'.2
  | [], [], _, _, m => absurd m (List.not_mem_nil)
  | q0 :: k, q1 :: k', h, q, m => by
    rcases List.mem_cons.mp m with rfl | m
    · exact ⟨_, List.mem_cons_self .., h.1⟩
    · obtain ⟨q', m', e⟩ := TKs_1 h.2 q m
      exact ⟨q', List.mem_cons_of_mem _ m', e⟩
theorem TKs_2 : ∀ {kids : List (Ky × Nat)} {ks : List (Ky × Tf)}, TKs G n ρ nv kids ks → ∀ q' ∈ ks, ∃ q ∈ kids, q.1 = q'.1 ∧ TSt G n ρ nv q.2 q'.2
  | [], [], _, _, m => absurd m (List.not_mem_nil)
  | q0 :: k, q1 :: k', h, q, m => by
    rcases List.mem_cons.mp m with rfl | m
    · exact ⟨_, List.mem_cons_self .., h.1⟩
    · obtain ⟨q', m', e⟩ := TKs_2 h.2 q m
      exact ⟨q', List.mem_cons_of_mem _ m', e⟩
theorem TKs_val (hs : tSol tT G n w) : ∀ {kids : List (Ky × Nat)} {ks : List (Ky × Tf)}, TKs G n ρ nv kids ks → (kids.map fun q => (q.1, w q.2)) = ks.map fun q => (q.1, q.2 (fun k => w (ρ k)))
  | [], [], _ => rfl
  | q0 :: k, q1 :: k', h => by rw [List.map_cons, List.map_cons, TKs_val hs h.2, h.1.1, h.1.2.2.1 w hs]
theorem TKs_loc {v v' : Sv} (hv : sag nv v v') : ∀ {kids : List (Ky × Nat)} {ks : List (Ky × Tf)}, TKs G n ρ nv kids ks → (ks.map fun q => (q.1, q.2 v)) = ks.map fun q => (q.1, q.2 v')
  | [], [], _ => rfl
  | q0 :: k, q1 :: k', h => by rw [List.map_cons, List.map_cons, TKs_loc hv h.2, h.1.2.2.2 v v' hv]
theorem tmk_find {ks : List (Ky × Ttr)} {k : Ky} {q : List Ky} : tmk lab ks (k :: q) = match ks.find? (fun z => z.1 == k) with
    | some x => x.2 q
    | none => none := rfl
theorem tmk_sat {ks : List (Ky × Ttr)} (hn : (ks.map Prod.fst).Nodup) (T : Ttr) : T = tmk lab ks ↔ T [] = some lab ∧ (∀ q ∈ ks, tsub T q.1 = q.2) ∧ ∀ l p, (∀ t, (l, t) ∉ ks) → T (l :: p) = none := by
  have fk : ∀ {ks : List (Ky × Ttr)} {l : Ky} {t : Ttr}, (ks.map Prod.fst).Nodup → (l, t) ∈ ks → ks.find? (fun z => z.1 == l) = some (l, t) := by
    intro ks l t hn m
    induction ks with
    | nil => cases m
    | cons q ks ih =>
      rw [List.map_cons, List.nodup_cons] at hn
      cases m with
      | head => rw [List.find?_cons_of_pos (by simp)]
      | tail _ m =>
        rw [List.find?_cons_of_neg ?_]
        · exact ih hn.2 m
        · intro z
          have z : q.1 = l := by simpa using z
          exact hn.1 (z ▸ List.mem_map.mpr ⟨(l, t), m, rfl⟩)
  constructor
  · rintro rfl
    refine ⟨rfl, fun q m => funext fun p => ?_, fun l p hl => ?_⟩
    · show tmk lab ks (q.1 :: p) = q.2 p
      rw [tmk_find, fk hn (show (q.1, q.2) ∈ ks from m)]
    · have : ks.find? (fun z => z.1 == l) = none := by
        rw [List.find?_eq_none]
        intro q hq z
        have z : q.1 = l := by simpa using z
        exact hl q.2 (by rw [← z]; exact hq)
      rw [tmk_find, this]
  · rintro ⟨h1, h2, h3⟩
    funext p
    cases p with
    | nil => exact h1
    | cons k q =>
      rw [tmk_find]
      cases hf : ks.find? (fun z => z.1 == k) with
      | some x =>
        have m := List.mem_of_find?_eq_some hf
        have e : x.1 = k := by simpa using List.find?_some hf
        show T (k :: q) = x.2 q
        rw [← e]
        exact congrFun (h2 x m) q
      | none =>
        refine h3 k q (fun t m => ?_)
        rw [List.find?_eq_none] at hf
        exact hf _ m (by simp)
theorem tmk_ns (hn : (kids.map Prod.fst).Nodup) : tsat adm w x (false, .inr (lab, false, kids)) ↔ w x = tmk lab (kids.map fun q => (q.1, w q.2)) := by
  have hn' : ((kids.map fun q => (q.1, w q.2)).map Prod.fst).Nodup := by rw [List.map_map]; exact hn
  rw [tmk_sat hn']
  unfold tsat
  constructor
  · rintro ⟨_, h1, h2, h3⟩
    refine ⟨h1, fun q m => ?_, fun l p hl => h3 rfl l p (fun c mc => hl (w c) (List.mem_map.mpr ⟨(l, c), mc, rfl⟩))⟩
    obtain ⟨q0, m0, rfl⟩ := List.mem_map.mp m
    exact h2 q0.1 q0.2 m0
  · rintro ⟨h1, h2, h3⟩
    refine ⟨(fun z => by cases z), h1, fun l c m => h2 (l, w c) (List.mem_map.mpr ⟨(l, c), m, rfl⟩), fun _ l p hl => h3 l p (fun t mt => ?_)⟩
    obtain ⟨q0, m0, e⟩ := List.mem_map.mp mt
    have : q0.1 = l := congrArg Prod.fst e
    exact hl q0.2 (by rw [← this]; exact m0)
theorem tmk_fin {ks : List (Ky × Ttr)} (h : ∀ q ∈ ks, tFin q.2) : tFin (tmk lab ks) := by
  have : ∃ d : Nat, ∀ q ∈ ks, ∀ p : List Ky, d ≤ p.length → q.2 p = none := by
    induction ks with
    | nil => exact ⟨0, fun _ m => absurd m (List.not_mem_nil)⟩
    | cons a ks ih =>
      obtain ⟨d1, h1⟩ := ih (fun q m => h q (List.mem_cons_of_mem _ m))
      obtain ⟨d2, h2⟩ := h a (List.mem_cons_self ..)
      refine ⟨d1 + d2, fun q m p hp => ?_⟩
      rcases List.mem_cons.mp m with rfl | m
      · exact h2 p (by omega)
      · exact h1 q m p (by omega)
  obtain ⟨d, hd⟩ := this
  refine ⟨d + 1, fun p hp => ?_⟩
  cases p with
  | nil => rw [List.length_nil] at hp; omega
  | cons k q =>
    rw [List.length_cons] at hp
    rw [tmk_find]
    cases hf : ks.find? (fun z => z.1 == k) with
    | some x => exact hd x (List.mem_of_find?_eq_some hf) q (by omega)
    | none => rfl
theorem TR_made (hG : TGI adm G n) (hR : TRep S nv ρ G n) (h : tAdd G n (false, .inr (lab, false, kids)) G') (hn : (kids.map Prod.fst).Nodup) {ks : List (Ky × Tf)} (hk : TKs G n ρ nv kids ks) : TGI adm G' (n + 1) ∧ TRep S nv ρ G' (n + 1) ∧ TSt G' (n + 1) ρ nv n (fun v => tmk lab (ks.map fun q => (q.1, q.2 v))) := by
  have hlt : ∀ l c, (l, c) ∈ kids → c < n := by
    intro l c m
    obtain ⟨_, _, _, q⟩ := TKs_1 hk (l, c) m
    exact q.1
  have hval := fun (w : Nat → Ttr) (hs : tSol tT G n w) => TKs_val hs hk
  have hloc := fun v v' (hv : sag nv v v') => TKs_loc hv hk
  have hwk : ∀ e lab' loose kids', ((false, .inr (lab, false, kids)) : TN) = (e, .inr (lab', loose, kids')) → (kids'.map Prod.fst).Nodup ∧ ∀ l c, (l, c) ∈ kids' → c < n := by
    intro e lab' loose kids' he
    cases he
    exact ⟨hn, hlt⟩
  have wk : ∀ (w : Nat → Ttr) T, (kids.map fun q => (q.1, wup w n T q.2)) = kids.map fun q => (q.1, w q.2) := by
    intro w T
    refine List.map_congr_left fun q m => ?_
    rw [wup_o (hlt q.1 q.2 m)]
  have sat : ∀ adm' (w : Nat → Ttr), tsat adm' (wup w n (tmk lab (kids.map fun q => (q.1, w q.2)))) n (false, .inr (lab, false, kids)) := by
    intro adm' w
    rw [tmk_ns hn, wk, wup_n]
  refine ⟨tAdd_TGI hG h hwk (fun w s f => ⟨tmk lab (kids.map fun q => (q.1, w q.2)), tmk_fin (fun q m => ?_), sat _ w⟩) (fun _ _ _ q => by cases q) (fun k q => by cases q), ⟨fun k hk' => by have := hR.1 k hk'; omega, hR.2.1, fun adm' w hs => hR.2.2.1 adm' w (tExt_sol hG.1 h.1 hs), fun adm' v q => ?_⟩, by omega, fun w hs => ?_, fun v v' hv => congrArg (tmk lab) (hloc v v' hv)⟩
  · obtain ⟨q0, m0, rfl⟩ := List.mem_map.mp m
    exact f _ (hlt q0.1 q0.2 m0)
  · obtain ⟨w, s1, s2⟩ := hR.2.2.2 adm' v q
    refine ⟨_, wup_sol hG.1 h s1 (sat adm' w), fun k hk' => ?_⟩
    show wup w n _ (ρ k) = v k
    rw [wup_o (hR.1 k hk')]; exact s2 k hk'
  · obtain ⟨s1, s2⟩ := (tAdd_sol hG.1 h).mp hs
    rw [(tmk_ns hn).mp s2, hval w s1]
/-! an unknown one, a variable of a text -/
theorem rupd_n {c : Nat} : rupd ρ nv c nv = c := if_pos rfl
theorem rupd_o {c k : Nat} (h : k < nv) : rupd ρ nv c k = ρ k := if_neg (by omega)
theorem TR_fresh (hG : TGI adm G n) (hR : TRep S nv ρ G n) (h : tAdd G n (e, .inl o) G') (hr : ∀ k, o = k + 2 → e = true → adm (3 * k + 1) = true) : TGI adm G' (n + 1) ∧ TRep (sfresh S nv o e) (nv + 1) (rupd ρ nv n) G' (n + 1) ∧ TSt G' (n + 1) (rupd ρ nv n) (nv + 1) n (fun v => v nv) := by
  have hwk : ∀ e' lab' loose kids', ((e, .inl o) : TN) = (e', .inr (lab', loose, kids')) → (kids'.map Prod.fst).Nodup ∧ ∀ l c, (l, c) ∈ kids' → c < n := by
    intro e' lab' loose kids' he
    cases he
  refine ⟨tAdd_TGI hG h hwk (fun w s f => ⟨tleaf 0, tleaf_fin, ?_⟩) (fun _ _ _ q => by cases q) (fun k q => ?_), ⟨fun k hk' => ?_, fun adm' v v' hv q => ?_, fun adm' w hs => ?_, fun adm' v q => ?_⟩, by omega, fun w _ => by show w n = w (rupd ρ nv n nv); rw [rupd_n], fun v v' hv => hv nv (by omega)⟩
  · refine ⟨fun _ => tEq_t, ?_⟩
    show wup w n (tleaf 0) n [] ≠ none ∧ (o = 1 → tOrd (wup w n (tleaf 0) n))
    rw [wup_n]
    exact ⟨(fun q => by cases q), fun _ => tleaf_ord⟩
  · exact hr k (by cases q; rfl) (by cases q; rfl)
  · by_cases q : k = nv
    · rw [q, rupd_n]; omega
    · rw [rupd_o (by omega)]; have := hR.1 k (by omega); omega
  · obtain ⟨q1, q2⟩ := q
    refine ⟨hR.2.1 adm' v v' (fun k hk => hv k (by omega)) q1, ?_⟩
    rw [← hv nv (by omega)]; exact q2
  · obtain ⟨s1, s2, s3, s4⟩ := (tAdd_sol hG.1 h).mp hs
    refine ⟨hR.2.1 adm' _ _ (fun k hk => ?_) (hR.2.2.1 adm' w s1), ?_⟩
    · show w (ρ k) = w (rupd ρ nv n k)
      rw [rupd_o hk]
    · show w (rupd ρ nv n nv) [] ≠ none ∧ (o = 1 → tOrd (w (rupd ρ nv n nv))) ∧ (e = true → tEq adm' (w (rupd ρ nv n nv)))
      rw [rupd_n]
      exact ⟨s3, s4, s2⟩
  · obtain ⟨q1, q2, q3, q4⟩ := q
    obtain ⟨w, s1, s2⟩ := hR.2.2.2 adm' v q1
    refine ⟨_, wup_sol (T := v nv) hG.1 h s1 ⟨?_, ?_⟩, fun k hk' => ?_⟩
    · rw [wup_n]; exact q4
    · show wup w n (v nv) n [] ≠ none ∧ (o = 1 → tOrd (wup w n (v nv) n))
      rw [wup_n]; exact ⟨q2, q3⟩
    · show wup w n (v nv) (rupd ρ nv n k) = v k
      by_cases q : k = nv
      · rw [q, rupd_n, wup_n]
      · rw [rupd_o (by omega), wup_o (hR.1 k (by omega))]; exact s2 k (by omega)
theorem TRig_add {rg : List (Nat × Nat)} (hw : tWF G n) (hR : TRep S nv ρ G n) (hg : TRig rg nv ρ G n) (h : tAdd G n N G') (hN : ∀ e k, N ≠ (e, .inl (k + 2))) {nv' : Nat} {ρ' : Nat → Nat} (hv : nv ≤ nv') (hρ : ∀ k, k < nv → ρ' k = ρ k) : TRig rg nv' ρ' G' (n + 1) := by
  refine ⟨fun q m => ?_, fun z hz hr e k hg' => ?_⟩
  · obtain ⟨q1, e, q2⟩ := hg.1 q m
    have := hR.1 q.1 q1
    refine ⟨by omega, e, ?_⟩
    rw [hρ _ q1, (h.1.2 _ this).1, (h.1.2 _ (hw.1 _ this).1).2]; exact q2
  · by_cases q : z = n
    · rw [q, h.2.2] at hg'; exact absurd hg' (hN e k)
    · rw [(h.1.2 z (by omega)).1] at hr
      rw [(h.1.2 z (by omega)).2] at hg'
      obtain ⟨q, m, q1, q2⟩ := hg.2 z (by omega) hr e k hg'
      have hq := (hg.1 q m).1
      refine ⟨q, m, q1, ?_⟩
      rw [hρ _ hq, (h.1.2 _ (hR.1 _ hq)).1]; exact q2
theorem TRig_var {rg : List (Nat × Nat)} {i : Nat} (hw : tWF G n) (hR : TRep S nv ρ G n) (hg : TRig rg nv ρ G n) (h : tAdd G n (e, .inl (i + 2)) G') : TRig ((nv, i) :: rg) (nv + 1) (rupd ρ nv n) G' (n + 1) := by
  refine ⟨fun q m => ?_, fun z hz hr e' k hg' => ?_⟩
  · rcases List.mem_cons.mp m with rfl | m
    · refine ⟨by omega, e, ?_⟩
      show G'.2 (G'.1 (rupd ρ nv n nv)) = _
      rw [rupd_n, h.2.1, h.2.2]
    · obtain ⟨q1, e, q2⟩ := hg.1 q m
      have := hR.1 q.1 q1
      refine ⟨by omega, e, ?_⟩
      rw [rupd_o q1, (h.1.2 _ this).1, (h.1.2 _ (hw.1 _ this).1).2]; exact q2
  · by_cases q : z = n
    · rw [q, h.2.2] at hg'
      refine ⟨(nv, i), List.mem_cons_self .., ?_, ?_⟩
      · have := (Prod.mk.inj hg').2
        have : i + 2 = k + 2 := by cases this; rfl
        show i = k
        omega
      · show G'.1 (rupd ρ nv n nv) = z
        rw [rupd_n, h.2.1, q]
    · rw [(h.1.2 z (by omega)).1] at hr
      rw [(h.1.2 z (by omega)).2] at hg'
      obtain ⟨q, m, q1, q2⟩ := hg.2 z (by omega) hr e' k hg'
      have hq := (hg.1 q m).1
      refine ⟨q, List.mem_cons_of_mem _ m, q1, ?_⟩
      rw [rupd_o hq, (h.1.2 _ (hR.1 _ hq)).1]; exact q2
/-! an open row -/
theorem TR_open (hG : TGI adm G n) (hR : TRep S nv ρ G n) (h : tAdd G n (false, .inr (2, true, kids)) G') (hn : (kids.map Prod.fst).Nodup) {ks : List (Ky × Tf)} (hk : TKs G n ρ nv kids ks) : TGI adm G' (n + 1) ∧ TRep (sopen S nv ks) (nv + 1) (rupd ρ nv n) G' (n + 1) ∧ TSt G' (n + 1) (rupd ρ nv n) (nv + 1) n (fun v => v nv) := by
  have h1 := TKs_1 hk
  have h2 := TKs_2 hk
  have hlt : ∀ l c, (l, c) ∈ kids → c < n := by
    intro l c m
    obtain ⟨_, _, _, q⟩ := h1 (l, c) m
    exact q.1
  have hwk : ∀ e' lab' loose kids', ((false, .inr (2, true, kids)) : TN) = (e', .inr (lab', loose, kids')) → (kids'.map Prod.fst).Nodup ∧ ∀ l c, (l, c) ∈ kids' → c < n := by
    intro e' lab' loose kids' he
    cases he
    exact ⟨hn, hlt⟩
  refine ⟨tAdd_TGI hG h hwk (fun w s f => ⟨tmk 2 (kids.map fun q => (q.1, w q.2)), tmk_fin (fun q m => ?_), ?_⟩) (fun _ _ _ q => by cases q) (fun k q => by cases q), ⟨fun k hk' => ?_, fun adm' v v' hv q => ?_, fun adm' w hs => ?_, fun adm' v q => ?_⟩, by omega, fun w _ => by show w n = w (rupd ρ nv n nv); rw [rupd_n], fun v v' hv => hv nv (by omega)⟩
  · obtain ⟨q0, m0, rfl⟩ := List.mem_map.mp m
    exact f _ (hlt q0.1 q0.2 m0)
  · have e : (kids.map fun q => (q.1, wup w n (tmk 2 (kids.map fun q => (q.1, w q.2))) q.2)) = kids.map fun q => (q.1, w q.2) := List.map_congr_left fun q m => by rw [wup_o (hlt q.1 q.2 m)]
    have s : tsat tT (wup w n (tmk 2 (kids.map fun q => (q.1, w q.2)))) n (false, .inr (2, false, kids)) := by
      rw [tmk_ns hn, e, wup_n]
    exact ⟨s.1, s.2.1, s.2.2.1, fun q => by cases q⟩
  · by_cases q : k = nv
    · rw [q, rupd_n]; omega
    · rw [rupd_o (by omega)]; have := hR.1 k (by omega); omega
  · obtain ⟨q1, q2, q3⟩ := q
    refine ⟨hR.2.1 adm' v v' (fun k hk => hv k (by omega)) q1, by rw [← hv nv (by omega)]; exact q2, fun q' m' => ?_⟩
    obtain ⟨_, _, _, r⟩ := h2 q' m'
    rw [← hv nv (by omega), q3 q' m']
    exact r.2.2 v v' (fun k hk => hv k (by omega))
  · obtain ⟨s1, s2, s3, s4, _⟩ := (tAdd_sol hG.1 h).mp hs
    refine ⟨hR.2.1 adm' _ _ (fun k hk => ?_) (hR.2.2.1 adm' w s1), ?_, fun q' m' => ?_⟩
    · show w (ρ k) = w (rupd ρ nv n k)
      rw [rupd_o hk]
    · show w (rupd ρ nv n nv) [] = _
      rw [rupd_n]; exact s3
    · obtain ⟨q, m, e, r⟩ := h2 q' m'
      show tsub (w (rupd ρ nv n nv)) q'.1 = _
      rw [rupd_n, ← e, s4 q.1 q.2 m, r.2.1 w (tSol_t s1)]
      exact r.2.2 _ _ (fun k hk => by show w (ρ k) = w (rupd ρ nv n k); rw [rupd_o hk])
  · obtain ⟨q1, q2, q3⟩ := q
    obtain ⟨w, s1, s2⟩ := hR.2.2.2 adm' v q1
    refine ⟨_, wup_sol (T := v nv) hG.1 h s1 ⟨(fun z => by cases z), ?_, fun l c m => ?_, (fun z => by cases z)⟩, fun k hk' => ?_⟩
    · rw [wup_n]; exact q2
    · obtain ⟨q', m', e, r⟩ := h1 (l, c) m
      have e : l = q'.1 := e
      have hc := hlt l c m
      rw [wup_n, wup_o hc, e, q3 q' m']
      have : w c = q'.2 (fun k => w (ρ k)) := r.2.1 w (tSol_t s1)
      rw [this]
      exact r.2.2 _ _ (sag_symm s2)
    · show wup w n (v nv) (rupd ρ nv n k) = v k
      by_cases q : k = nv
      · rw [q, rupd_n, wup_n]
      · rw [rupd_o (by omega), wup_o (hR.1 k (by omega))]; exact s2 k (by omega)
end TNew
