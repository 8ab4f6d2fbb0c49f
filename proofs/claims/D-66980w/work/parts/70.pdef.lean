/-! ===== the reference's parser as a plain machine: goals, nodes that wait, place, depth, sections ===== -/
/-- a row of nodes: kind, number, (token, what it tells, relation, first token, ( ) around it), parts, the nodes behind it -/
abbrev tr_ : Type := Std.DTreeMap.Internal.Impl Nat (fun _ => Nat × Int32 × Nat × Nat × Bool)
def rt_ : tr_ → Int32
  | .leaf => -1
  | .inner _ i _ _ _ => nI i
abbrev gl_ : Type := Nat × Nat × Nat × Nat
/-- goals (the next one first), nodes that wait (the last one first), place, depth, sections (tag, depth ahead), how many nodes -/
abbrev ps_ : Type := List gl_ × List tr_ × Nat × Nat × List (Int32 × Nat) × Nat
abbrev pe_ : Type := Option (Except Nat ps_)
def fi_ : tr_ → Nat
  | .leaf => 0
  | .inner _ _ v _ _ => v.2.2.2.1
def kd_ : tr_ → Nat
  | .leaf => 0
  | .inner k _ _ _ _ => k
def pr_ : tr_ → Bool
  | .leaf => false
  | .inner _ _ v _ _ => v.2.2.2.2
/-- one row behind another -/
def sn_ : tr_ → tr_ → tr_
  | .leaf, x => x
  | .inner k i v l r, x => .inner k i v l (sn_ r x)
def lkT : List tr_ → tr_
  | [] => .leaf
  | t :: r => sn_ t (lkT r)
def fm_ (m : Nat) : List tr_ → Nat
  | [] => m
  | t :: r => fm_ (if fi_ t < m then fi_ t else m) r
def lf_ (k tok : Nat) (a : Int32) (n : Nat) : tr_ := .inner k n (tok, a, 0, tok, false) .leaf .leaf
def st_ (k tok : Nat) (a : Int32) (n : Nat) (es : List tr_) : tr_ := .inner k n (tok, a, 0, fm_ tok es, false) (lkT es) .leaf
/-- all that waits from base on becomes one -/
def sh_ (k tok base : Nat) (a : Int32) : ps_ → ps_
  | (gs, os, p, dp, sc, n) => (gs, st_ k tok a n (os.take (os.length - base)).reverse :: os.drop (os.length - base), p, dp, sc, n + 1)
def sf_ (k tok base : Nat) (a : Int32) (f : ps_ → pe_) (σ : ps_) : pe_ := if base ≤ σ.2.1.length then f (sh_ k tok base a σ) else none
def sr_r (x : Nat) : tr_ → tr_
  | .leaf => .leaf
  | .inner k i v l r => .inner k i (v.1, v.2.1, x, v.2.2.2.1, v.2.2.2.2) l r
def pa_r (y : Nat) : tr_ → tr_
  | .leaf => .leaf
  | .inner k i v l r => .inner k i (v.1, v.2.1, v.2.2.1, (if y < v.2.2.2.1 then y else v.2.2.2.1), true) l r
def ap_o (x : tr_) : tr_ → Option tr_
  | .inner k i v (.inner a b c d e) r => some (.inner k i v (sn_ (.inner a b c d e) x) r)
  | _ => none
def isD_ (k : Nat) : Bool := [40, 41, 42, 43].elem k
def bg_ (k : Nat) : Bool := [1, 2, 4, 74, 75, 76, 77, 12, 21, 22, 33, 18, 20].elem k
def lv_ (k : Nat) : Nat := if k = 71 ∨ k = 72 then 1 else if k = 35 then 2 else if k = 34 then 3 else if k = 31 ∨ k = 32 then 4 else if 25 ≤ k ∧ k ≤ 30 then 5 else if k = 21 ∨ k = 22 then 6 else if k = 23 ∨ k = 24 ∨ k = 73 then 7 else 0
def gpT (l : List gl_) : ps_ → ps_
  | (gs, σ) => (l ++ gs, σ)
def hs_ (t : Int32) : List (Int32 × Nat) → Bool
  | [] => false
  | g :: r => decide (g.1 = t) || hs_ t r
section pstep
variable (K : Nat → Nat) (V : Nat → Int32) (N : Nat) (lx : Bool)
def fl_ (p : Nat) : pe_ := some (.error p)
def ok_ (σ : ps_) : pe_ := some (.ok σ)
/-- labels from the place on -/
def lb_ : Nat → ps_ → ps_
  | 0, σ => σ
  | m + 1, (gs, os, p, dp, sc, n) => if K p = 1 ∧ K (p + 1) = 17 then lb_ m (gs, lf_ 42 p (V p) n :: os, p + 2, dp, sc, n + 1) else (gs, os, p, dp, sc, n)
/-- a section is opened, or not -/
def os_ (f : ps_ → pe_) : ps_ → pe_
  | (gs, os, p, dp, sc, n) => if K p = 10 then (if dp = 60 then fl_ p else f (gs, os, p + 1, dp + 1, (V p, dp) :: sc, n)) else fl_ p
def ss_ (f : ps_ → pe_) : ps_ → pe_
  | (gs, os, p, dp, sc, n) => if K p = 11 then (match sc with
      | [] => none
      | (t, d) :: r => if V p < 0 ∨ t = V p then f (gs, os, p + 1, d, r, n) else if hs_ (V p) r = true then f (gs, os, p, d, r, n) else fl_ p)
    else fl_ p
/-- one more within one another -/
def dr_ (f : ps_ → pe_) : ps_ → pe_
  | (gs, os, p, dp, sc, n) => if dp = 60 then fl_ p else f (gs, os, p, dp + 1, sc, n)
def tq_ (k : Nat) (f : ps_ → pe_) : ps_ → pe_
  | (gs, os, p, dp, sc, n) => if K p = k then f (gs, os, p + 1, dp, sc, n) else fl_ p
/-- parameters of a routine -/
def pp_ (tok base : Nat) : Nat → Nat → ps_ → pe_
  | 0, _, _ => none
  | m + 1, many, (gs, os, p, dp, sc, n) =>
    if K p = 1 ∧ many < 20 then
      (if K (p + 1) = 13 then pp_ tok base m (many + 1) (gs, lf_ 57 p (V p) n :: os, p + 1, dp, sc, n + 1)
      else if K (p + 1) = 14 then (if many + 1 = 20 then fl_ (p + 1) else if K (p + 2) = 1 then pp_ tok base m (many + 1) (gs, lf_ 57 p (V p) n :: os, p + 2, dp, sc, n + 1) else fl_ (p + 2))
      else fl_ (p + 1))
    else if K p = 13 then
      (if K (p + 1) = 25 then ok_ ((28, 0, 0, 0) :: (6, 54, tok, base) :: gs, os, p + 2, dp, sc, n)
      else if K (p + 1) = 45 then ok_ ((11, 0, 0, 0) :: (6, 54, tok, base) :: gs, os, p + 2, dp, sc, n)
      else fl_ (p + 1))
    else fl_ p
/-- names of variables -/
def vn_ (tok base : Nat) : Nat → Nat → ps_ → pe_
  | 0, _, _ => none
  | m + 1, many, (gs, os, p, dp, sc, n) =>
    if K p = 14 then (if K (p + 1) = 1 then vn_ tok base m (many + 1) (gs, lf_ 58 (p + 1) (V (p + 1)) n :: os, p + 2, dp, sc, n + 1) else fl_ (p + 1))
    else if K p = 25 then ok_ ((9, many, 0, 0) :: (6, 55, tok, base) :: gs, os, p + 1, dp, sc, n)
    else fl_ p
def rp_ (x : Nat) : ps_ → pe_
  | (gs, os, p, dp, sc, n) =>
    if K p = 1 then
      (if K (p + 1) = 12 then pp_ K V p os.length 22 0 (gs, os, p + 2, dp, sc, n)
      else if x = 1 then fl_ (p + 1)
      else vn_ K V p os.length (N + 2) 1 (gs, lf_ 58 p (V p) n :: os, p + 1, dp, sc, n + 1))
    else fl_ p
/-- the beginning of a command -/
def cm_p : ps_ → pe_
  | (gs, os, p, dp, sc, n) =>
    if K p = 15 then ok_ (gs, lf_ 37 p 0 n :: os, p, dp, sc, n + 1)
    else if K p = 11 then ok_ (gs, lf_ 37 p 0 n :: os, p, dp, sc, n + 1)
    else if bg_ (K p) = true then ok_ ((28, 0, 0, 0) :: (25, 0, p, os.length) :: gs, os, p, dp, sc, n)
    else if K p = 10 then os_ K V (fun σ => ok_ (gpT [((if isD_ (K (p + 1)) = true then 18 else 20), 0, p, os.length)] σ)) (gs, os, p, dp, sc, n)
    else if K p = 61 then ok_ (gs, lf_ 29 p 0 n :: os, p + 1, dp, sc, n + 1)
    else if K p = 62 then ok_ (gs, lf_ 30 p 0 n :: os, p + 1, dp, sc, n + 1)
    else if K p = 63 then ok_ (gs, lf_ 31 p 0 n :: os, p + 1, dp, sc, n + 1)
    else if K p = 64 then ok_ (gs, lf_ 32 p 0 n :: os, p + 1, dp, sc, n + 1)
    else if K p = 66 then ok_ (gs, lf_ 34 p 0 n :: os, p + 1, dp, sc, n + 1)
    else if K p = 65 then ok_ ((28, 0, 0, 0) :: (6, 33, p, os.length) :: gs, os, p + 1, dp, sc, n)
    else if K p = 67 then (if K (p + 1) = 1 then ok_ (gs, lf_ 35 (p + 1) (V (p + 1)) n :: os, p + 2, dp, sc, n + 1) else fl_ (p + 1))
    else if K p = 47 then ok_ ((28, 0, 0, 0) :: (13, 0, 0, 0) :: (14, 0, 0, 0) :: (6, 22, p, os.length) :: gs, os, p + 1, dp, sc, n)
    else if K p = 49 then ok_ ((28, 0, 0, 0) :: (13, 0, 0, 0) :: (14, 0, 0, 0) :: (6, 23, p, os.length) :: gs, os, p + 1, dp, sc, n)
    else if K p = 52 then ok_ ((28, 0, 0, 0) :: (13, 0, 0, 0) :: (14, 0, 0, 0) :: (6, 25, p, os.length) :: gs, os, p + 1, dp, sc, n)
    else if K p = 53 then ok_ ((28, 0, 0, 0) :: (13, 0, 0, 0) :: (14, 0, 0, 0) :: (6, 26, p, os.length) :: gs, os, p + 1, dp, sc, n)
    else if K p = 50 then ok_ ((28, 0, 0, 0) :: (13, 0, 0, 0) :: (14, 0, 0, 0) :: (16, 51, 0, 0) :: (14, 0, 0, 0) :: (6, 24, p, os.length) :: gs, os, p + 1, dp, sc, n)
    else if K p = 54 then
      (if K (p + 1) = 1 then
        (if K (p + 2) = 25 then ok_ ((28, 0, 0, 0) :: (16, 55, 0, 0) :: (28, 0, 0, 0) :: (41, 0, 0, 0) :: (13, 0, 0, 0) :: (14, 0, 0, 0) :: (6, 27, p, os.length) :: gs, lf_ 58 (p + 1) (V (p + 1)) n :: os, p + 3, dp, sc, n + 1) else fl_ (p + 2))
      else fl_ (p + 1))
    else if K p = 57 then ok_ ((28, 0, 0, 0) :: (16, 58, 0, 0) :: (17, 0, 0, 0) :: (22, 0, p, os.length) :: gs, os, p + 1, dp, sc, n)
    else fl_ p
def pm_p : ps_ → pe_
  | (gs, os, p, dp, sc, n) =>
    if K p = 1 then ok_ (gs, lf_ 1 p (V p) n :: os, p + 1, dp, sc, n + 1)
    else if K p = 2 then ok_ (gs, lf_ 2 p (V p) n :: os, p + 1, dp, sc, n + 1)
    else if K p = 4 then ok_ (gs, lf_ 3 p (V p) n :: os, p + 1, dp, sc, n + 1)
    else if K p = 74 then ok_ (gs, lf_ 2 p (-1) n :: os, p + 1, dp, sc, n + 1)
    else if K p = 75 then ok_ (gs, lf_ 2 p 0 n :: os, p + 1, dp, sc, n + 1)
    else if K p = 12 then (if dp = 60 then fl_ p else ok_ ((28, 0, 0, 0) :: (39, 1, p, dp) :: gs, os, p + 1, dp + 1, sc, n))
    else if K p = 76 then (if dp = 60 then fl_ p else ok_ ((11, 0, 0, 0) :: (6, 4, p, os.length) :: (15, dp, 0, 0) :: gs, os, p + 1, dp + 1, sc, n))
    else if K p = 77 then (if dp = 60 then fl_ p else ok_ ((28, 0, 0, 0) :: (40, 0, p, os.length) :: (15, dp, 0, 0) :: gs, os, p + 1, dp + 1, sc, n))
    else fl_ p
/-- two that wait become one -/
def bn_ (x y z : Nat) : ps_ → pe_
  | (gs, r :: l :: os, p, dp, sc, n) =>
    if z = os.length ∧ y < N then
      (if x = 5 then
        (if kd_ l = 11 ∧ pr_ l = false then (match ap_o (sr_r (K y) r) l with
          | some t => ok_ (gs, t :: os, p, dp, sc, n)
          | none => none)
        else sf_ 11 y z 0 ok_ (gs, sr_r (K y) r :: l :: os, p, dp, sc, n))
      else sf_ 9 y z (nI (K y)) ok_ (gs, r :: l :: os, p, dp, sc, n))
    else none
  | _ => none
def bl_ (x : Nat) : gl_ := if x < 7 then (30, x + 1, 0, 0) else (33, 0, 0, 0)
def pg_3 (K : Nat → Nat) (V : Nat → Int32) (N : Nat) (lx : Bool) (x y z : Nat) : ps_ → pe_
  | (gs, os, p, dp, sc, n) =>
      if isD_ (K p) = true then
        (if K p = 43 then ok_ ((7, x, 0, 0) :: (8, x, p, os.length) :: gs, os, p + 1, dp, sc, n)
        else os_ K V (fun σ => ok_ (gpT [(4, 10 + K p, 0, 0), (5, 10 + K p, p, os.length)] σ)) (gs, os, p + 1, dp, sc, n))
      else fl_ p
def pg_4 (K : Nat → Nat) (V : Nat → Int32) (N : Nat) (lx : Bool) (x y z : Nat) : ps_ → pe_
  | (gs, os, p, dp, sc, n) =>
      tq_ K 1 (fun σ => ok_ (gpT [(16, (if x = 50 then 17 else 25), 0, 0), (28, 0, 0, 0), (6, 56, p, os.length)] σ)) (gs, os, p, dp, sc, n)
def pg_5 (K : Nat → Nat) (V : Nat → Int32) (N : Nat) (lx : Bool) (x y z : Nat) : ps_ → pe_
  | (gs, os, p, dp, sc, n) =>
      if K p = 15 then ok_ ((4, x, 0, 0) :: (5, x, y, z) :: gs, os, p + 1, dp, sc, n) else if x < 100 ∧ x ≠ 20 then ss_ K V (fun σ => sf_ x y z 0 ok_ σ) (gs, os, p, dp, sc, n) else none
def pg_7 (K : Nat → Nat) (V : Nat → Int32) (N : Nat) (lx : Bool) (x y z : Nat) : ps_ → pe_
  | (gs, os, p, dp, sc, n) =>
      rp_ K V N x (gs, os, p, dp, sc, n)
def pg_8 (K : Nat → Nat) (V : Nat → Int32) (N : Nat) (lx : Bool) (x y z : Nat) : ps_ → pe_
  | (gs, os, p, dp, sc, n) =>
      match os with
      | [] => none
      | t :: _ => if kd_ t = 54 ∧ K p = 44 then ok_ ((7, 1, 0, 0) :: (8, x, y, z) :: gs, os, p + 1, dp, sc, n) else sf_ 53 y z 0 ok_ (gs, os, p, dp, sc, n)
def pg_9 (K : Nat → Nat) (V : Nat → Int32) (N : Nat) (lx : Bool) (x y z : Nat) : ps_ → pe_
  | (gs, os, p, dp, sc, n) =>
      if K p = 46 then ok_ ((28, 0, 0, 0) :: (6, 59, p, os.length) :: (10, x, 0, 0) :: gs, os, p + 1, dp, sc, n) else ok_ ((28, 0, 0, 0) :: (10, x, 0, 0) :: gs, os, p, dp, sc, n)
def pg_10 (K : Nat → Nat) (V : Nat → Int32) (N : Nat) (lx : Bool) (x y z : Nat) : ps_ → pe_
  | (gs, os, p, dp, sc, n) =>
      if x = 1 then ok_ (gs, os, p, dp, sc, n) else if x = 0 then none else tq_ K 14 (fun σ => ok_ (gpT [(9, x - 1, 0, 0)] σ)) (gs, os, p, dp, sc, n)
def pg_11 (K : Nat → Nat) (V : Nat → Int32) (N : Nat) (lx : Bool) (x y z : Nat) : ps_ → pe_
  | (gs, os, p, dp, sc, n) =>
      cm_p K V ((12, dp, 0, os.length) :: gs, os, p, dp, sc, n)
def pg_12 (K : Nat → Nat) (V : Nat → Int32) (N : Nat) (lx : Bool) (x y z : Nat) : ps_ → pe_
  | (gs, os, p, dp, sc, n) =>
      if K p = 68 ∨ K p = 69 ∨ K p = 70 then
        (if dp = 60 then fl_ p
        else if K p = 68 then sf_ 38 p z 0 ok_ ((12, x, 0, z) :: gs, os, p + 1, dp + 1, sc, n)
        else ok_ ((28, 0, 0, 0) :: (6, (if K p = 69 then 39 else 40), p, z) :: (12, x, 0, z) :: gs, os, p + 1, dp + 1, sc, n))
      else ok_ (gs, os, p, x, sc, n)
def pg_41 (K : Nat → Nat) (V : Nat → Int32) (N : Nat) (lx : Bool) (x y z : Nat) : ps_ → pe_
  | (gs, os, p, dp, sc, n) =>
      if K p = 56 then ok_ ((28, 0, 0, 0) :: gs, os, p + 1, dp, sc, n) else ok_ (gs, os, p, dp, sc, n)
def pg_18 (K : Nat → Nat) (V : Nat → Int32) (N : Nat) (lx : Bool) (x y z : Nat) : ps_ → pe_
  | (gs, os, p, dp, sc, n) =>
      ok_ ((3, 0, 0, 0) :: (19, x, y, z) :: gs, os, p, dp, sc, n)
def pg_19 (K : Nat → Nat) (V : Nat → Int32) (N : Nat) (lx : Bool) (x y z : Nat) : ps_ → pe_
  | (gs, os, p, dp, sc, n) =>
      if K p = 15 then ok_ (((if isD_ (K (p + 1)) = true then 18 else 20), x, y, z) :: gs, os, p + 1, dp, sc, n) else ss_ K V (fun σ => sf_ 36 y z 0 ok_ σ) (gs, os, p, dp, sc, n)
def pg_20 (K : Nat → Nat) (V : Nat → Int32) (N : Nat) (lx : Bool) (x y z : Nat) : ps_ → pe_
  | (gs, os, p, dp, sc, n) =>
      ok_ (gpT [(11, 0, 0, 0), (6, 41, p, os.length)] (lb_ K V N ((21, x, y, z) :: gs, os, p, dp, sc, n)))
def pg_21 (K : Nat → Nat) (V : Nat → Int32) (N : Nat) (lx : Bool) (x y z : Nat) : ps_ → pe_
  | (gs, os, p, dp, sc, n) =>
      if K p = 15 then ok_ ((20, x, y, z) :: gs, os, p + 1, dp, sc, n) else ss_ K V (fun σ => sf_ 36 y z 0 ok_ σ) (gs, os, p, dp, sc, n)
def pg_24 (K : Nat → Nat) (V : Nat → Int32) (N : Nat) (lx : Bool) (x y z : Nat) : ps_ → pe_
  | (gs, os, p, dp, sc, n) =>
      if K p = 15 then ok_ ((22, x, y, z) :: gs, os, p + 1, dp, sc, n) else ss_ K V (fun σ => sf_ 28 y z 0 ok_ σ) (gs, os, p, dp, sc, n)
def pg_22 (K : Nat → Nat) (V : Nat → Int32) (N : Nat) (lx : Bool) (x y z : Nat) : ps_ → pe_
  | (gs, os, p, dp, sc, n) =>
      ok_ ((23, p, 0, os.length) :: (24, x, y, z) :: gs, os, p, dp, sc, n)
def pg_23 (K : Nat → Nat) (V : Nat → Int32) (N : Nat) (lx : Bool) (x y z : Nat) : ps_ → pe_
  | (gs, os, p, dp, sc, n) =>
      if K p = 59 then ok_ ((28, 0, 0, 0) :: (6, 43, p, os.length) :: (16, 17, 0, 0) :: (23, x, 0, z) :: gs, os, p + 1, dp, sc, n)
      else if K p = 60 then (if K (p + 1) = 17 then ok_ ((23, x, 0, z) :: gs, lf_ 44 p 0 n :: os, p + 2, dp, sc, n + 1) else fl_ (p + 1))
      else ok_ (gpT [(11, 0, 0, 0), (6, 41, x, z)] (lb_ K V N (gs, os, p, dp, sc, n)))
def pg_25 (K : Nat → Nat) (V : Nat → Int32) (N : Nat) (lx : Bool) (x y z : Nat) : ps_ → pe_
  | (gs, os, p, dp, sc, n) =>
      if K p = 14 ∨ K p = 16 then ok_ ((26, 1, y, z) :: gs, os, p, dp, sc, n) else match os with
      | [] => none
      | t :: _ => if kd_ t = 6 ∧ pr_ t = false then sf_ 21 y z 0 ok_ (gs, os, p, dp, sc, n) else fl_ p
def pg_26 (K : Nat → Nat) (V : Nat → Int32) (N : Nat) (lx : Bool) (x y z : Nat) : ps_ → pe_
  | (gs, os, p, dp, sc, n) =>
      if K p = 14 then ok_ ((28, 0, 0, 0) :: (26, x + 1, y, z) :: gs, os, p + 1, dp, sc, n) else if 4096 ≤ x then none else tq_ K 16 (fun σ => ok_ (gpT [(28, 0, 0, 0), (27, 8192 * x + 1, y, z)] σ)) (gs, os, p, dp, sc, n)
def pg_27 (K : Nat → Nat) (V : Nat → Int32) (N : Nat) (lx : Bool) (x y z : Nat) : ps_ → pe_
  | (gs, os, p, dp, sc, n) =>
      if x % 8192 = x / 8192 then (if os.length = z + 2 * (x / 8192) then sf_ 20 y z (nI (x / 8192)) ok_ (gs, os, p, dp, sc, n) else none) else tq_ K 14 (fun σ => ok_ (gpT [(28, 0, 0, 0), (27, x + 1, y, z)] σ)) (gs, os, p, dp, sc, n)
def pg_28 (K : Nat → Nat) (V : Nat → Int32) (N : Nat) (lx : Bool) (x y z : Nat) : ps_ → pe_
  | (gs, os, p, dp, sc, n) =>
      ok_ ((30, 1, 0, 0) :: (29, 0, 0, os.length) :: gs, os, p, dp, sc, n)
def pg_29 (K : Nat → Nat) (V : Nat → Int32) (N : Nat) (lx : Bool) (x y z : Nat) : ps_ → pe_
  | (gs, os, p, dp, sc, n) =>
      if x = 0 then
        (if K p = 36 then (if dp = 60 then fl_ p else ok_ ((28, 0, 0, 0) :: (29, 1, p, z) :: (15, dp, 0, 0) :: gs, os, p + 1, dp + 1, sc, n)) else ok_ (gs, os, p, dp, sc, n))
      else if x = 1 then tq_ K 14 (fun σ => ok_ σ) ((28, 0, 0, 0) :: (29, 2, y, z) :: gs, os, p, dp, sc, n)
      else sf_ 12 y z 0 ok_ (gs, os, p, dp, sc, n)
def pg_30 (K : Nat → Nat) (V : Nat → Int32) (N : Nat) (lx : Bool) (x y z : Nat) : ps_ → pe_
  | (gs, os, p, dp, sc, n) =>
      ok_ (bl_ x :: (31, x, 0, os.length) :: gs, os, p, dp, sc, n)
def pg_31 (K : Nat → Nat) (V : Nat → Int32) (N : Nat) (lx : Bool) (x y z : Nat) : ps_ → pe_
  | (gs, os, p, dp, sc, n) =>
      if lv_ (K p) = x then ok_ (bl_ x :: (32, x, p, z) :: (31, x, 0, z) :: gs, os, p + 1, dp, sc, n) else ok_ (gs, os, p, dp, sc, n)
def pg_32 (K : Nat → Nat) (V : Nat → Int32) (N : Nat) (lx : Bool) (x y z : Nat) : ps_ → pe_
  | (gs, os, p, dp, sc, n) =>
      bn_ K N x y z (gs, os, p, dp, sc, n)
def pg_33 (K : Nat → Nat) (V : Nat → Int32) (N : Nat) (lx : Bool) (x y z : Nat) : ps_ → pe_
  | (gs, os, p, dp, sc, n) =>
      if K p = 21 ∨ K p = 22 ∨ K p = 33 then (if dp = 60 then fl_ p else ok_ ((33, 0, 0, 0) :: (37, 1, p, os.length) :: (15, dp, 0, 0) :: gs, os, p + 1, dp + 1, sc, n))
      else ok_ ((34, 0, 0, 0) :: gs, os, p, dp, sc, n)
def pg_34 (K : Nat → Nat) (V : Nat → Int32) (N : Nat) (lx : Bool) (x y z : Nat) : ps_ → pe_
  | (gs, os, p, dp, sc, n) =>
      if K p = 18 ∨ K p = 20 then (if dp = 60 then fl_ p else ok_ ((34, 0, 0, 0) :: (6, (if K p = 18 then 7 else 8), p, os.length) :: (15, dp, 0, 0) :: gs, os, p + 1, dp + 1, sc, n))
      else ok_ ((39, 0, 0, 0) :: (37, 0, 0, os.length) :: (35, 0, 0, os.length) :: (15, dp, 0, 0) :: gs, os, p, dp, sc, n)
def pg_35 (K : Nat → Nat) (V : Nat → Int32) (N : Nat) (lx : Bool) (x y z : Nat) : ps_ → pe_
  | (gs, os, p, dp, sc, n) =>
      if K p = 18 ∨ K p = 19 then (if dp = 60 then fl_ p else ok_ ((36, 0, 0, 0) :: (32, 8, p, z) :: (35, 0, 0, z) :: gs, os, p + 1, dp + 1, sc, n))
      else ok_ (gs, os, p, dp, sc, n)
def pg_36 (K : Nat → Nat) (V : Nat → Int32) (N : Nat) (lx : Bool) (x y z : Nat) : ps_ → pe_
  | (gs, os, p, dp, sc, n) =>
      if K p = 18 ∨ K p = 20 then (if dp = 60 then fl_ p else ok_ ((36, 0, 0, 0) :: (6, (if K p = 18 then 7 else 8), p, os.length) :: gs, os, p + 1, dp + 1, sc, n))
      else ok_ ((39, 0, 0, 0) :: (37, 0, 0, os.length) :: gs, os, p, dp, sc, n)
def pg_37 (K : Nat → Nat) (V : Nat → Int32) (N : Nat) (lx : Bool) (x y z : Nat) : ps_ → pe_
  | (gs, os, p, dp, sc, n) =>
      if x = 1 then (if y < N then sf_ 10 y z (nI (K y)) ok_ (gs, os, p, dp, sc, n) else none)
      else if K p = 12 then
        (if dp = 60 then fl_ p
        else if K (p + 1) = 13 then sf_ 6 p z 0 (fun σ => ok_ (gpT [(37, 0, 0, z)] σ)) (gs, os, p + 2, dp + 1, sc, n)
        else ok_ ((28, 0, 0, 0) :: (38, 1, p, z) :: gs, os, p + 1, dp + 1, sc, n))
      else ok_ (gs, os, p, dp, sc, n)
def pg_38 (K : Nat → Nat) (V : Nat → Int32) (N : Nat) (lx : Bool) (x y z : Nat) : ps_ → pe_
  | (gs, os, p, dp, sc, n) =>
      if K p = 13 then sf_ 6 y z (nI x) (fun σ => ok_ (gpT [(37, 0, 0, z)] σ)) (gs, os, p + 1, dp, sc, n)
      else if K p = 14 ∧ x ≠ 20 then ok_ ((28, 0, 0, 0) :: (38, x + 1, y, z) :: gs, os, p + 1, dp, sc, n)
      else fl_ p
def pg_39 (K : Nat → Nat) (V : Nat → Int32) (N : Nat) (lx : Bool) (x y z : Nat) : ps_ → pe_
  | (gs, os, p, dp, sc, n) =>
      if x = 1 then (match os with
        | [] => none
        | t :: r => tq_ K 13 (fun σ => ok_ σ) (gs, pa_r y t :: r, p, z, sc, n))
      else pm_p K V (gs, os, p, dp, sc, n)
def pg_40 (K : Nat → Nat) (V : Nat → Int32) (N : Nat) (lx : Bool) (x y z : Nat) : ps_ → pe_
  | (gs, os, p, dp, sc, n) =>
      if K p = 14 then ok_ ((28, 0, 0, 0) :: (40, x, y, z) :: gs, os, p + 1, dp, sc, n) else sf_ 5 y z 0 ok_ (gs, os, p, dp, sc, n)
def pg_1 (K : Nat → Nat) (V : Nat → Int32) (N : Nat) (lx : Bool) (x y z : Nat) : ps_ → pe_
  | (gs, os, p, dp, sc, n) =>
      ok_ ((3, 1, 0, 0) :: (2, 0, 0, 0) :: gs, os, p, dp, sc, n)
def pg_2 (K : Nat → Nat) (V : Nat → Int32) (N : Nat) (lx : Bool) (x y z : Nat) : ps_ → pe_
  | (gs, os, p, dp, sc, n) =>
      if p = N then (if lx = true then ok_ (gs, os, p, dp, sc, n) else fl_ p)
      else if K p = 15 then (if p + 1 = N then (if lx = true then ok_ (gs, os, p + 1, dp, sc, n) else fl_ (p + 1)) else ok_ ((1, 0, 0, 0) :: gs, os, p + 1, dp, sc, n))
      else fl_ p
def pg_6 (K : Nat → Nat) (V : Nat → Int32) (N : Nat) (lx : Bool) (x y z : Nat) : ps_ → pe_
  | (gs, os, p, dp, sc, n) =>
      if x < 100 ∧ x ≠ 20 then sf_ x y z 0 ok_ (gs, os, p, dp, sc, n) else none
def pg_15 (K : Nat → Nat) (V : Nat → Int32) (N : Nat) (lx : Bool) (x y z : Nat) : ps_ → pe_
  | (gs, os, p, dp, sc, n) =>
      ok_ (gs, os, p, x, sc, n)
def pg_16 (K : Nat → Nat) (V : Nat → Int32) (N : Nat) (lx : Bool) (x y z : Nat) : ps_ → pe_
  | (gs, os, p, dp, sc, n) =>
      if x = 0 then none else tq_ K x (fun σ => ok_ σ) (gs, os, p, dp, sc, n)
def pg_17 (K : Nat → Nat) (V : Nat → Int32) (N : Nat) (lx : Bool) (x y z : Nat) : ps_ → pe_
  | (gs, os, p, dp, sc, n) =>
      os_ K V (fun σ => ok_ σ) (gs, os, p, dp, sc, n)
def pg_13 (K : Nat → Nat) (V : Nat → Int32) (N : Nat) (lx : Bool) (x y z : Nat) : ps_ → pe_
  | (gs, os, p, dp, sc, n) =>
      if K p = 48 then ok_ (gs, os, p + 1, dp, sc, n) else if dl_ (K p) = true then ok_ (gs, os, p, dp, sc, n) else fl_ p
def pg_14 (K : Nat → Nat) (V : Nat → Int32) (N : Nat) (lx : Bool) (x y z : Nat) : ps_ → pe_
  | (gs, os, p, dp, sc, n) =>
      if dp = 60 then fl_ p else ok_ ((11, 0, 0, 0) :: (15, dp, 0, 0) :: gs, os, p, dp + 1, sc, n)
def pS_ (K : Nat → Nat) (V : Nat → Int32) (N : Nat) (lx : Bool) (g x y z : Nat) (σ : ps_) : pe_ :=
  if g = 1 then pg_1 K V N lx x y z σ
  else if g = 2 then pg_2 K V N lx x y z σ
  else if g = 3 then pg_3 K V N lx x y z σ
  else if g = 4 then pg_4 K V N lx x y z σ
  else if g = 5 then pg_5 K V N lx x y z σ
  else if g = 6 then pg_6 K V N lx x y z σ
  else if g = 7 then pg_7 K V N lx x y z σ
  else if g = 8 then pg_8 K V N lx x y z σ
  else if g = 9 then pg_9 K V N lx x y z σ
  else if g = 10 then pg_10 K V N lx x y z σ
  else if g = 11 then pg_11 K V N lx x y z σ
  else if g = 12 then pg_12 K V N lx x y z σ
  else if g = 13 then pg_13 K V N lx x y z σ
  else if g = 14 then pg_14 K V N lx x y z σ
  else if g = 15 then pg_15 K V N lx x y z σ
  else if g = 16 then pg_16 K V N lx x y z σ
  else if g = 17 then pg_17 K V N lx x y z σ
  else if g = 18 then pg_18 K V N lx x y z σ
  else if g = 19 then pg_19 K V N lx x y z σ
  else if g = 20 then pg_20 K V N lx x y z σ
  else if g = 21 then pg_21 K V N lx x y z σ
  else if g = 22 then pg_22 K V N lx x y z σ
  else if g = 23 then pg_23 K V N lx x y z σ
  else if g = 24 then pg_24 K V N lx x y z σ
  else if g = 25 then pg_25 K V N lx x y z σ
  else if g = 26 then pg_26 K V N lx x y z σ
  else if g = 27 then pg_27 K V N lx x y z σ
  else if g = 28 then pg_28 K V N lx x y z σ
  else if g = 29 then pg_29 K V N lx x y z σ
  else if g = 30 then pg_30 K V N lx x y z σ
  else if g = 31 then pg_31 K V N lx x y z σ
  else if g = 32 then pg_32 K V N lx x y z σ
  else if g = 33 then pg_33 K V N lx x y z σ
  else if g = 34 then pg_34 K V N lx x y z σ
  else if g = 35 then pg_35 K V N lx x y z σ
  else if g = 36 then pg_36 K V N lx x y z σ
  else if g = 37 then pg_37 K V N lx x y z σ
  else if g = 38 then pg_38 K V N lx x y z σ
  else if g = 39 then pg_39 K V N lx x y z σ
  else if g = 40 then pg_40 K V N lx x y z σ
  else if g = 41 then pg_41 K V N lx x y z σ
  else none
/-- the rows have room -/
def pb_ (gs : List gl_) (sc : List (Int32 × Nat)) (p dp n x y z : Nat) : Bool := decide (gs.length + 10 ≤ 9000 ∧ sc.length < 70 ∧ p ≤ N ∧ n + (N - p) + 10 ≤ 26000 ∧ dp ≤ 60 ∧ x < 2 ^ 26 ∧ y < 2 ^ 26 ∧ z < 2 ^ 26)
def pF_ (R : ps_ → pe_) : ps_ → pe_
  | ([], σ) => some (.ok ([], σ))
  | ((g, x, y, z) :: gs, os, p, dp, sc, n) => match pb_ N gs sc p dp n x y z with
    | false => none
    | true => match pS_ K V N lx g x y z (gs, os, p, dp, sc, n) with
      | none => none
      | some (.error e) => some (.error e)
      | some (.ok σ) => R σ
noncomputable def pR_ (σ : ps_) : pe_ := pj_lfp (pF_ K V N lx) σ
end pstep
