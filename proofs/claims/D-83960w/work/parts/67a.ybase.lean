set_option maxRecDepth 100000
/-! THE HOUSE OVER WHOLE NUMBERS: its heap by address (kind, length) and by field; combinators. Kinds: a class's number; 1000 and an array's type; 2000, 3000 the same of old cells; 5000 nothing. -/
abbrev YS : Type := (Nat → Nat) × (Nat → Int) × (Nat → Nat → Int) × (Nat → Nat → Option Nat) × (Nat → Int → Int) × (Nat → Int → Option Nat) × Nat × Nat
abbrev YC : Type := (Nat → Nat) × (Nat → Int) × (Nat → Option Nat) × Nat
abbrev yK (H : YS) : Nat → Nat := H.1
abbrev yN (H : YS) : Nat → Int := H.2.1
abbrev yI (H : YS) : Nat → Nat → Int := H.2.2.1
abbrev yR (H : YS) : Nat → Nat → Option Nat := H.2.2.2.1
abbrev yA (H : YS) : Nat → Int → Int := H.2.2.2.2.1
abbrev yB (H : YS) : Nat → Int → Option Nat := H.2.2.2.2.2.1
abbrev ynx (H : YS) : Nat := H.2.2.2.2.2.2.1
abbrev ysl (H : YS) : Nat := H.2.2.2.2.2.2.2
def ykcl (k : Nat) : Nat := if 2000 ≤ k ∧ k < 3000 then k - 2000 else k
def ycszt : List Nat := [31, 3, 5, 0, 29, 3, 10, 3, 9, 12, 32, 25, 2, 7, 3, 6, 4, 3, 13, 4, 253, 4, 4, 4, 7, 7, 1, 2, 2, 4, 3, 2, 6, 6, 3, 2, 1, 2, 6, 2, 4, 3, 4, 2, 2, 3, 2, 4, 2, 3, 4, 4, 2, 3, 4, 3, 4, 4, 5, 3, 5, 4, 1, 5, 3, 8, 2, 3, 5, 4, 8, 4]
def ycsz (ci : Nat) : Nat := ycszt.getD ci 0
/-- a field's number: 300 times the class that declares it, and its place -/
def yfid (ci i : Nat) : Nat := 300 * (if i = 0 ∧ ci ∈ [25, 32, 33, 34, 35, 36, 37, 38] then 25 else if i = 0 ∧ ci ∈ [28, 29, 30, 31] then 28 else if i = 0 ∧ ci ∈ [39, 40, 41, 42, 45, 46, 47, 48, 49, 50, 51, 52, 53, 54, 55, 56, 57] then 39 else if i < 4 ∧ ci = 58 then 24 else ci) + i
def yokF (f k : Nat) : Bool := if k < 72 then decide (yfid k (f % 300) = f ∧ f % 300 < ycsz k) else (decide (k = 2021) && (decide (f = 6300) || decide (f = 6301))) || (decide (k = 2026) && decide (f = 7800))
def yfit (ty : Nat) (v : Int) : Bool := match ty with
  | 1 => decide (v = 0 ∨ v = 1)
  | 2 => decide (-128 ≤ v ∧ v < 128)
  | 3 => decide (0 ≤ v ∧ v < 65536)
  | _ => true
/-- arrays: by type -/
def yfitA (t : Nat) (v : Int) : Bool := match t with
  | 2 => yfit 2 v
  | 3 => yfit 1 v
  | 4 => yfit 3 v
  | _ => true
def zchar (a : Int) : Int := ((Int32.toUInt32 (i32 a) % 65536).toInt32).toInt
def zw32 (a : Int) : Int := (i32 a).toInt
def ynar (k : Nat) (v : Int) : Int := match k with
  | 1002 => zbyte v
  | 1003 => zbool v
  | 1004 => zchar v
  | _ => v
def yokL (c k : Nat) : Bool := match c with
  | 0 => decide (k = 1000 ∨ k = 3000)
  | 1 => decide (k = 1001)
  | 2 => decide (k = 1002 ∨ k = 1003 ∨ k = 3002)
  | _ => decide (k = 1004)
def yokS (c k : Nat) : Bool := match c with
  | 0 => decide (k = 1000)
  | 1 => decide (k = 1001)
  | 2 => decide (k = 1002 ∨ k = 1003)
  | _ => decide (k = 1004)
def yokE (k kd : Nat) : Bool := if kd < 72 then decide ((kd, k - 1000) ∈ xk_ass) else if 1000 ≤ kd ∧ kd < 1012 then decide (k = 1005) && (xk_find xk_arn (kd - 1000)).isSome else if 2000 ≤ kd ∧ kd < 3000 then decide ((kd - 2000, k - 1000) ∈ xk_ass) else false
def yokO (k : Nat) (w : Option Nat) (K : Nat → Nat) : Bool := match w with
  | none => true
  | some v => yokE k (K v)
def ycast (cn idx kd : Nat) : Bool := if 1000 ≤ kd ∧ kd < 1012 then decide ((cn, idx, kd - 1000) ∈ xk_cta) else if kd < 72 ∨ (2000 ≤ kd ∧ kd < 3000) then (match xk_find (xk_lks cn) idx with
    | some tn => decide ((ykcl kd, tn) ∈ xk_cas)
    | none => false) else false
def yinst (cn idx kd : Nat) : Option Int := if kd < 72 ∨ (2000 ≤ kd ∧ kd < 3000) then (match xk_find (xk_lks cn) idx with
    | some tn => if (ykcl kd, tn) ∈ xk_cas then some 1 else if (ykcl kd, tn) ∈ xk_ncs then some 0 else none
    | none => none) else none
def ygI (f : Nat) (r : Option Nat) (H : YS) (k : Int → ZR YS) : ZR YS := match r with
  | none => none
  | some a => if yokF f (yK H a) = true then k (yI H f a) else none
def ygIk (ci f : Nat) (r : Option Nat) (H : YS) (k : Int → ZR YS) : ZR YS := match r with
  | none => none
  | some a => if yK H a = ci then k (yI H f a) else none
def ygR (f : Nat) (r : Option Nat) (H : YS) (k : Option Nat → ZR YS) : ZR YS := match r with
  | none => none
  | some a => if yokF f (yK H a) = true then k (yR H f a) else none
def yput (H : YS) (f a : Nat) (v : Int) : YS := (H.1, H.2.1, fun g b => if g = f ∧ b = a then v else H.2.2.1 g b, H.2.2.2)
def yputR (H : YS) (f a : Nat) (v : Option Nat) : YS := (H.1, H.2.1, H.2.2.1, fun g b => if g = f ∧ b = a then v else H.2.2.2.1 g b, H.2.2.2.2)
def yset (H : YS) (a : Nat) (i v : Int) : YS := (H.1, H.2.1, H.2.2.1, H.2.2.2.1, fun b j => if b = a ∧ j = i then v else H.2.2.2.2.1 b j, H.2.2.2.2.2)
def ysetR (H : YS) (a : Nat) (i : Int) (v : Option Nat) : YS := (H.1, H.2.1, H.2.2.1, H.2.2.2.1, H.2.2.2.2.1, fun b j => if b = a ∧ j = i then v else H.2.2.2.2.2.1 b j, H.2.2.2.2.2.2)
/-- something new: kind, length, slots -/
def ymk (H : YS) (kd : Nat) (n : Int) (s : Nat) : YS := (fun b => if b = H.2.2.2.2.2.2.1 then kd else H.1 b, fun b => if b = H.2.2.2.2.2.2.1 then n else H.2.1 b, fun f b => if b = H.2.2.2.2.2.2.1 then 0 else H.2.2.1 f b, fun f b => if b = H.2.2.2.2.2.2.1 then none else H.2.2.2.1 f b, fun b i => if b = H.2.2.2.2.2.2.1 then 0 else H.2.2.2.2.1 b i, fun b i => if b = H.2.2.2.2.2.2.1 then none else H.2.2.2.2.2.1 b i, H.2.2.2.2.2.2.1 + 1, H.2.2.2.2.2.2.2 + s)
/-- parts of an array copied -/
def ycpy (H : YS) (a0 : Nat) (sp : Int) (a : Nat) (dp n : Int) : YS := (H.1, H.2.1, H.2.2.1, H.2.2.2.1, fun b j => if b = a ∧ dp ≤ j ∧ j < dp + n then H.2.2.2.2.1 a0 (sp + (j - dp)) else H.2.2.2.2.1 b j, H.2.2.2.2.2)
def ycpyR (H : YS) (a0 : Nat) (sp : Int) (a : Nat) (dp n : Int) : YS := (H.1, H.2.1, H.2.2.1, H.2.2.2.1, H.2.2.2.2.1, fun b j => if b = a ∧ dp ≤ j ∧ j < dp + n then H.2.2.2.2.2.1 a0 (sp + (j - dp)) else H.2.2.2.2.2.1 b j, H.2.2.2.2.2.2)
def ycpA (H : YS) (a0 a : Nat) : YS := (H.1, H.2.1, H.2.2.1, H.2.2.2.1, fun b j => if b = a then H.2.2.2.2.1 a0 j else H.2.2.2.2.1 b j, H.2.2.2.2.2)
def ypI (f ty : Nat) (r : Option Nat) (v : Int) (H : YS) (k : YS → ZR YS) : ZR YS := match r with
  | none => none
  | some a => if yK H a < 72 ∧ yokF f (yK H a) = true ∧ yfit ty v = true then k (yput H f a v) else none
def ypR (f : Nat) (r : Option Nat) (v : Option Nat) (H : YS) (k : YS → ZR YS) : ZR YS := match r with
  | none => none
  | some a => if yK H a < 72 ∧ yokF f (yK H a) = true then k (yputR H f a v) else none
def ynew (ci n : Nat) (H : YS) (k : Option Nat → YS → ZR YS) : ZR YS := k (some (ynx H)) (ymk H ci 0 (if ci = 3 then 6 else n))
def yna (t : Nat) (n : Int) (H : YS) (k : Option Nat → YS → ZR YS) : ZR YS := if 0 ≤ n ∧ n ≤ 16777216 then k (some (ynx H)) (ymk H (1000 + t) n n.toNat) else none
def ylen (r : Option Nat) (H : YS) (k : Int → ZR YS) : ZR YS := match r with
  | none => none
  | some a => if (1000 ≤ yK H a ∧ yK H a < 1012) ∨ (3000 ≤ yK H a ∧ yK H a < 3012) then k (yN H a) else none
def yaI (c : Nat) (r : Option Nat) (j : Int) (H : YS) (k : Int → ZR YS) : ZR YS := match r with
  | none => none
  | some a => if yokL c (yK H a) = true ∧ 0 ≤ j ∧ j < yN H a then k (yA H a j) else none
def yaR (r : Option Nat) (j : Int) (H : YS) (k : Option Nat → ZR YS) : ZR YS := match r with
  | none => none
  | some a => if ((1005 ≤ yK H a ∧ yK H a < 1012) ∨ yK H a = 3011) ∧ 0 ≤ j ∧ j < yN H a then k (yB H a j) else none
def yst (c : Nat) (r : Option Nat) (j v : Int) (H : YS) (k : YS → ZR YS) : ZR YS := match r with
  | none => none
  | some a => if yokS c (yK H a) = true ∧ 0 ≤ j ∧ j < yN H a then k (yset H a j (ynar (yK H a) v)) else none
def ysR (r : Option Nat) (j : Int) (w : Option Nat) (H : YS) (k : YS → ZR YS) : ZR YS := match r with
  | none => none
  | some a => if (1005 ≤ yK H a ∧ yK H a < 1012) ∧ (0 ≤ j ∧ j < yN H a) ∧ yokO (yK H a) w (yK H) = true then k (ysetR H a j w) else none
def ycc (cn idx : Nat) (r : Option Nat) (H : YS) (k : ZR YS) : ZR YS := match r with
  | none => k
  | some a => if ycast cn idx (yK H a) = true then k else none
def yio (cn idx : Nat) (r : Option Nat) (H : YS) (k : Int → ZR YS) : ZR YS := match r with
  | none => k 0
  | some a => match yinst cn idx (yK H a) with
    | some v => k v
    | none => none
def yac (r0 : Option Nat) (sp : Int) (r : Option Nat) (dp n : Int) (H : YS) (k : YS → ZR YS) : ZR YS := match r0, r with
  | some a0, some a => if (0 ≤ sp ∧ 0 ≤ dp ∧ 0 ≤ n ∧ sp + n ≤ yN H a0 ∧ dp + n ≤ yN H a) then (if 1000 ≤ yK H a ∧ yK H a < 1005 ∧ yK H a0 = yK H a ∧ (List.range n.toNat).all (fun i => yfitA (yK H a - 1000) (yA H a0 (sp + i))) = true then k (ycpy H a0 sp a dp n) else if (1005 ≤ yK H a ∧ yK H a < 1012) ∧ (1005 ≤ yK H a0 ∧ yK H a0 < 1012) ∧ (List.range n.toNat).all (fun i => yokO (yK H a) (yB H a0 (sp + i)) (yK H)) = true then k (ycpyR H a0 sp a dp n) else if (1005 ≤ yK H a ∧ yK H a < 1012) ∧ yK H a0 = 3005 ∧ n = 0 ∧ dp = 0 ∧ sp = 0 then k H else none) else none
  | _, _ => none
def ysvI (C : YC) (j : Nat) (k : Int → ZR YS) : ZR YS := k (C.2.1 j)
def ysvR (C : YC) (j : Nat) (k : Option Nat → ZR YS) : ZR YS := k (C.2.2.1 j)
def ynull (r : Option Nat) (A B : ZR YS) : ZR YS := match r with
  | none => A
  | some _ => B
def ythrow (r : Option Nat) (H : YS) : ZR YS := match r with
  | none => none
  | some a => if yK H a = 3 then some (none, H) else none
def yrN (ty : Nat) (v : Int) (H : YS) : ZR YS := if yfit ty v = true then zrI v H else none
def ycs (R : ZC YS) (d tag : Nat) (r : Option Nat) (as : List ZV) (H : YS) : ZR YS := match r with
  | none => none
  | some a => zc R d tag (.inr (.inr (some a)) :: as) H
def ycv (R : ZC YS) (d : Nat) (cs : List (Nat × Nat)) (r : Option Nat) (as : List ZV) (H : YS) : ZR YS := match r with
  | none => none
  | some a => if yK H a < 72 ∨ (2000 ≤ yK H a ∧ yK H a < 3000) then (match xk_find cs (ykcl (yK H a)) with
    | none => none
    | some tag => zc R d tag (.inr (.inr (some a)) :: as) H) else none
def ycu (R : ZC YS) (d tag : Nat) (r : Option Nat) (as : List ZV) (H : YS) : ZR YS := match r with
  | none => none
  | some a => if yK H a < 72 ∨ (2000 ≤ yK H a ∧ yK H a < 3000) then zc R d tag (.inr (.inr (some a)) :: as) H else none
def yIh (x : ZR YS) (kt : YS → ZR YS) (k : Int → YS → ZR YS) : ZR YS := match x with
  | some (some (some (.inl v)), S) => k v S
  | some (none, S) => kt S
  | _ => none
def yQh (x : ZR YS) (kt : YS → ZR YS) (k : Option Nat → YS → ZR YS) : ZR YS := match x with
  | some (some (some (.inr (.inr v))), S) => k v S
  | some (none, S) => kt S
  | _ => none
def yVh (x : ZR YS) (kt : YS → ZR YS) (k : YS → ZR YS) : ZR YS := match x with
  | some (some none, S) => k S
  | some (none, S) => kt S
  | _ => none
def ygc (C : YC) (r : Option Nat) (H : YS) (k : Option Nat → ZR YS) : ZR YS := match r with
  | none => none
  | some a => if yK H a = 1005 ∨ yK H a = 3005 then k (some C.2.2.2) else none
def ycln (r : Option Nat) (H : YS) (k : Option Nat → YS → ZR YS) : ZR YS := match r with
  | none => none
  | some a => if yK H a = 1002 ∧ (List.range (yN H a).toNat).all (fun i => yfitA 2 (yA H a i)) = true then k (some (ynx H)) (ycpA (ymk H 1002 (yN H a) (yN H a).toNat) a (ynx H)) else none
def ygiv (f : Nat) (r : Option Nat) (H : YS) (k : YS → ZR YS) : ZR YS := ypR f r (some (ynx H)) (ymk H 3 0 6) k
section YD
variable {H : YS} {f ty a ci n t c cn idx d tag : Nat} {r w r0 : Option Nat} {v j sp dp m : Int} {C : YC} {as : List ZV} {cs : List (Nat × Nat)}
theorem Yd_gI {k : ZC YS → Int → ZR YS} (h : ∀ x, Yd (fun R => k R x)) : Yd (fun R => ygI f r H (k R)) := by
  cases r with
  | none => exact Yd_k
  | some a => exact Yd_if (h _) Yd_k
theorem Yd_gIk {k : ZC YS → Int → ZR YS} (h : ∀ x, Yd (fun R => k R x)) : Yd (fun R => ygIk ci f r H (k R)) := by
  cases r with
  | none => exact Yd_k
  | some a => exact Yd_if (h _) Yd_k
theorem Yd_gR {k : ZC YS → Option Nat → ZR YS} (h : ∀ x, Yd (fun R => k R x)) : Yd (fun R => ygR f r H (k R)) := by
  cases r with
  | none => exact Yd_k
  | some a => exact Yd_if (h _) Yd_k
theorem Yd_pI {k : ZC YS → YS → ZR YS} (h : ∀ x, Yd (fun R => k R x)) : Yd (fun R => ypI f ty r v H (k R)) := by
  cases r with
  | none => exact Yd_k
  | some a => exact Yd_if (h _) Yd_k
theorem Yd_pR {k : ZC YS → YS → ZR YS} (h : ∀ x, Yd (fun R => k R x)) : Yd (fun R => ypR f r w H (k R)) := by
  cases r with
  | none => exact Yd_k
  | some a => exact Yd_if (h _) Yd_k
theorem Yd_new {k : ZC YS → Option Nat → YS → ZR YS} (h : ∀ x S, Yd (fun R => k R x S)) : Yd (fun R => ynew ci n H (k R)) := h _ _
theorem Yd_na {k : ZC YS → Option Nat → YS → ZR YS} (h : ∀ x S, Yd (fun R => k R x S)) : Yd (fun R => yna t m H (k R)) := Yd_if (h _ _) Yd_k
theorem Yd_len {k : ZC YS → Int → ZR YS} (h : ∀ x, Yd (fun R => k R x)) : Yd (fun R => ylen r H (k R)) := by
  cases r with
  | none => exact Yd_k
  | some a => exact Yd_if (h _) Yd_k
theorem Yd_aI {k : ZC YS → Int → ZR YS} (h : ∀ x, Yd (fun R => k R x)) : Yd (fun R => yaI c r j H (k R)) := by
  cases r with
  | none => exact Yd_k
  | some a => exact Yd_if (h _) Yd_k
theorem Yd_aR {k : ZC YS → Option Nat → ZR YS} (h : ∀ x, Yd (fun R => k R x)) : Yd (fun R => yaR r j H (k R)) := by
  cases r with
  | none => exact Yd_k
  | some a => exact Yd_if (h _) Yd_k
theorem Yd_st {k : ZC YS → YS → ZR YS} (h : ∀ x, Yd (fun R => k R x)) : Yd (fun R => yst c r j v H (k R)) := by
  cases r with
  | none => exact Yd_k
  | some a => exact Yd_if (h _) Yd_k
theorem Yd_sR {k : ZC YS → YS → ZR YS} (h : ∀ x, Yd (fun R => k R x)) : Yd (fun R => ysR r j w H (k R)) := by
  cases r with
  | none => exact Yd_k
  | some a => exact Yd_if (h _) Yd_k
theorem Yd_cc {k : ZC YS → ZR YS} (h : Yd k) : Yd (fun R => ycc cn idx r H (k R)) := by
  cases r with
  | none => exact h
  | some a => exact Yd_if h Yd_k
theorem Yd_io {k : ZC YS → Int → ZR YS} (h : ∀ x, Yd (fun R => k R x)) : Yd (fun R => yio cn idx r H (k R)) := by
  cases r with
  | none => exact h 0
  | some a =>
    cases e : yinst cn idx (yK H a) with
    | none =>
      have e2 : (fun R => yio cn idx (some a) H (k R)) = fun _ => none := funext fun R => by unfold yio; dsimp only; rw [e]
      rw [e2]; exact Yd_k
    | some v =>
      have e2 : (fun R => yio cn idx (some a) H (k R)) = fun R => k R v := funext fun R => by unfold yio; dsimp only; rw [e]
      rw [e2]; exact h v
theorem Yd_ac {k : ZC YS → YS → ZR YS} (h : ∀ x, Yd (fun R => k R x)) : Yd (fun R => yac r0 sp r dp m H (k R)) := by
  cases r0 with
  | none => exact Yd_k
  | some a0 =>
    cases r with
    | none => exact Yd_k
    | some a => exact Yd_if (Yd_if (h _) (Yd_if (h _) (Yd_if (h _) Yd_k))) Yd_k
theorem Yd_svI {k : ZC YS → Int → ZR YS} {i : Nat} (h : ∀ x, Yd (fun R => k R x)) : Yd (fun R => ysvI C i (k R)) := h _
theorem Yd_svR {k : ZC YS → Option Nat → ZR YS} {i : Nat} (h : ∀ x, Yd (fun R => k R x)) : Yd (fun R => ysvR C i (k R)) := h _
theorem Yd_null {A B : ZC YS → ZR YS} (h1 : Yd A) (h2 : Yd B) : Yd (fun R => ynull r (A R) (B R)) := by
  cases r with
  | none => exact h1
  | some a => exact h2
theorem Yd_cs : Yd (fun R => ycs R d tag r as H) := by
  cases r with
  | none => exact Yd_k
  | some a => exact Yd_c
theorem Yd_cv : Yd (fun R => ycv R d cs r as H) := by
  cases r with
  | none => exact Yd_k
  | some a =>
    refine Yd_if ?_ Yd_k
    cases xk_find cs (ykcl (yK H a)) with
    | none => exact Yd_k
    | some tag => exact Yd_c
theorem Yd_cu : Yd (fun R => ycu R d tag r as H) := by
  cases r with
  | none => exact Yd_k
  | some a => exact Yd_if Yd_c Yd_k
theorem Yd_Ih {X : ZC YS → ZR YS} {T : ZC YS → YS → ZR YS} {K : ZC YS → Int → YS → ZR YS} (hx : Yd X) (ht : ∀ S, Yd (fun R => T R S)) (hk : ∀ v S, Yd (fun R => K R v S)) : Yd (fun R => yIh (X R) (T R) (K R)) := by
  have e : (fun R => yIh (X R) (T R) (K R)) = fun R => zbind (X R) (fun o S => yIh (some (o, S)) (T R) (K R)) := by
    funext R; rcases X R with _ | ⟨_, _⟩ <;> rfl
  rw [e]
  refine Yd_zb (K := fun R o S => yIh (some (o, S)) (T R) (K R)) hx (fun o S => ?_)
  rcases o with _ | _ | v | v | v
  · exact ht S
  · exact Yd_k
  · exact hk v S
  · exact Yd_k
  · exact Yd_k
theorem Yd_Qh {X : ZC YS → ZR YS} {T : ZC YS → YS → ZR YS} {K : ZC YS → Option Nat → YS → ZR YS} (hx : Yd X) (ht : ∀ S, Yd (fun R => T R S)) (hk : ∀ v S, Yd (fun R => K R v S)) : Yd (fun R => yQh (X R) (T R) (K R)) := by
  have e : (fun R => yQh (X R) (T R) (K R)) = fun R => zbind (X R) (fun o S => yQh (some (o, S)) (T R) (K R)) := by
    funext R; rcases X R with _ | ⟨_, _⟩ <;> rfl
  rw [e]
  refine Yd_zb (K := fun R o S => yQh (some (o, S)) (T R) (K R)) hx (fun o S => ?_)
  rcases o with _ | _ | v | v | v
  · exact ht S
  · exact Yd_k
  · exact Yd_k
  · exact Yd_k
  · exact hk v S
theorem Yd_Vh {X : ZC YS → ZR YS} {T : ZC YS → YS → ZR YS} {K : ZC YS → YS → ZR YS} (hx : Yd X) (ht : ∀ S, Yd (fun R => T R S)) (hk : ∀ S, Yd (fun R => K R S)) : Yd (fun R => yVh (X R) (T R) (K R)) := by
  have e : (fun R => yVh (X R) (T R) (K R)) = fun R => zbind (X R) (fun o S => yVh (some (o, S)) (T R) (K R)) := by
    funext R; rcases X R with _ | ⟨_, _⟩ <;> rfl
  rw [e]
  refine Yd_zb (K := fun R o S => yVh (some (o, S)) (T R) (K R)) hx (fun o S => ?_)
  rcases o with _ | _ | v | v | v
  · exact ht S
  · exact hk S
  · exact Yd_k
  · exact Yd_k
  · exact Yd_k
theorem Yd_gc {k : ZC YS → Option Nat → ZR YS} (h : ∀ x, Yd (fun R => k R x)) : Yd (fun R => ygc C r H (k R)) := by
  cases r with
  | none => exact Yd_k
  | some a => exact Yd_if (h _) Yd_k
theorem Yd_cln {k : ZC YS → Option Nat → YS → ZR YS} (h : ∀ x S, Yd (fun R => k R x S)) : Yd (fun R => ycln r H (k R)) := by
  cases r with
  | none => exact Yd_k
  | some a => exact Yd_if (h _ _) Yd_k
theorem Yd_giv {k : ZC YS → YS → ZR YS} (h : ∀ x, Yd (fun R => k R x)) : Yd (fun R => ygiv f r H (k R)) := Yd_pR h
end YD
