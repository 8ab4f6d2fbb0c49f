/-! ===== a run of the reference as a plain machine: what is to be done, values, routines under way, the rest ===== -/
/-- what is to be done: its kind, a node, another one, two numbers -/
abbrev tqT : Type := Nat × tr_ × tr_ × Int32 × Int32
/-- to be done (the next one first), values (the last one first), callers (base, routine), store and streams -/
abbrev rs_t : Type := List tqT × List Int32 × List (Int32 × Int32) × mm_S
def xE_ (t : tr_) : tqT := (1, t, .leaf, 0, 0)
def xC_ (t : tr_) : tqT := (10, t, .leaf, 0, 0)
def xT_ (k : Nat) (t : tr_) (y : Int32) : tqT := (k, t, .leaf, 0, y)
/-- the rows that begin at each node of a row -/
def fs_ : tr_ → List tr_
  | .leaf => []
  | .inner k i v l r => .inner k i v l r :: fs_ r
def ch_r : tr_ → tr_
  | .leaf => .leaf
  | .inner _ _ _ l _ => l
def nxo : tr_ → Option tr_
  | .leaf => none
  | .inner _ _ _ _ r => some r
def cho : tr_ → Option tr_
  | .leaf => none
  | .inner _ _ _ l _ => some l
def nx_r : tr_ → tr_
  | .leaf => .leaf
  | .inner _ _ _ _ r => r
/-- the last node of a row -/
def ls_r : tr_ → tr_
  | .leaf => .leaf
  | .inner k i v l .leaf => .inner k i v l .leaf
  | .inner _ _ _ _ (.inner k i v l r) => ls_r (.inner k i v l r)
/-- a row from the node with a number on -/
def fd_r (n : Int32) : tr_ → Option tr_
  | .leaf => none
  | .inner k i v l r => if nI i = n then some (.inner k i v l r) else fd_r n r
def er_ (k : Int32) (q : mm_S) : mm_S := if q 0 102 = 0 then mm_u (mm_u (mm_u q 0 102 1) 0 103 k) 0 104 0 else q
def bu_ (q : mm_S) (f : mm_S → Option rs_t) (td : List tqT) (vs : List Int32) (fr : List (Int32 × Int32)) : Option rs_t := if q 0 101 = 0 then some (td, vs, fr, er_ 1 q) else f (mm_u q 0 101 (q 0 101 - 1))
/-- shifts, quotients, signs -/
def sf_r (a b : Int32) (left : Bool) : Int32 := if b < 0 then 0 else if 31 < b then 0 else if left = true then a <<< (b &&& 31) else (a.toUInt32 >>> (b.toUInt32 &&& Int32.toUInt32 31)).toInt32
def wk_ (sign a b : Int32) : Option Int32 :=
  if sign = 21 then some (a + b) else if sign = 22 then some (a - b) else if sign = 23 then some (a * b)
  else if sign = 24 then (if b = -1 then some (-a) else pj_div a b) else if sign = 73 then (if b = -1 then some 0 else pj_rem a b)
  else if sign = 34 then some (a &&& b) else if sign = 35 then some (a ||| b) else if sign = 71 then some ((a ^^^ b) ^^^ -1) else if sign = 72 then some (a ^^^ b)
  else some (sf_r a b (decide (sign = 31)))
def rl_ (sign a b : Int32) : Bool :=
  if sign = 25 then decide (a = b) else if sign = 26 then decide (¬ a = b) else if sign = 27 then decide (a < b) else if sign = 28 then decide (¬ b < a) else if sign = 29 then decide (b < a) else decide (¬ a < b)
def sg_n (sign a : Int32) : Int32 := if sign = 22 then -a else if sign = 33 then a ^^^ -1 else a
def tf_ (b : Bool) : Int32 := if b = true then -1 else 0
section rstep
variable (z : mm_S)
def rd_ (a : Int64) (q : mm_S) : Option (Int32 × mm_S) := if lg_cmp a 0 < 0 then some (0, er_ 2 q) else if lg_cmp a (z 0 99).toInt64 < 0 then (mm_a 65536 98 a.toInt32 q).bind fun v => some (v, q) else some (0, er_ 2 q)
def wr_ (a : Int64) (v : Int32) (q : mm_S) : Option mm_S := if lg_cmp a 0 < 0 then some (er_ 2 q) else if lg_cmp a (z 0 99).toInt64 < 0 then mm_w 65536 98 a.toInt32 v q else some (er_ 2 q)
/-- where the word of a name lies -/
def wo_ (i : Nat) (q : mm_S) : Option Int32 := if z 30 i = 1 then some (z 31 i) else if z 30 i = 3 then mm_a 26000 31 (z 31 i) z else if z 30 i = 4 then some (q 0 96 + z 31 i) else some (-1)
/-- the address of a place -/
def ad_ (t : tr_) (td : List tqT) (vs : List Int32) (fr : List (Int32 × Int32)) (q : mm_S) : Option rs_t := match t with
  | .leaf => none
  | .inner k i _ l _ =>
    if k = 1 then (wo_ z i q).bind fun w => some (td, w :: vs, fr, q)
    else if k = 7 then some (xE_ l :: td, vs, fr, q)
    else (nxo l).bind fun n => some (xE_ l :: xE_ n :: xT_ 9 t 0 :: td, vs, fr, q)
/-- an expression is begun -/
def ev_ (t : tr_) (td : List tqT) (vs : List Int32) (fr : List (Int32 × Int32)) (q : mm_S) : Option rs_t := match t with
  | .leaf => none
  | .inner k i v l r =>
    if k = 2 then some (td, z 29 i :: vs, fr, q)
    else if k = 3 then some (td, z 31 i :: vs, fr, q)
    else if k = 5 then some (td, z 31 i :: vs, fr, q)
    else if k = 1 then (wo_ z i q).bind fun w => if w < 0 then some (td, z 31 i :: vs, fr, q) else (mm_a 65536 98 w q).bind fun v => some (td, v :: vs, fr, q)
    else if k = 4 then some (xC_ l :: xT_ 8 t (nI vs.length) :: td, vs, fr, q)
    else if k = 8 then ad_ z l td vs fr q
    else if k = 12 then some (xE_ l :: xT_ 5 t 0 :: td, vs, fr, q)
    else if k = 11 then (nxo l).bind fun n => some (xE_ l :: xT_ 6 n 0 :: td, vs, fr, q)
    else if (fs_ l).length ≤ 26000 then
      (if k = 6 then (nxo l).bind fun n => some ((fs_ n).map xE_ ++ (xE_ l :: xT_ 7 t (nI (fs_ n).length) :: td), vs, fr, q)
      else some ((fs_ l).map xE_ ++ (xT_ (if k = 9 then 2 else if k = 10 then 3 else 4) t 0 :: td), vs, fr, q))
    else none
/-- an operation of two values -/
def bi_ (sign a b : Int32) (td : List tqT) (vs : List Int32) (fr : List (Int32 × Int32)) (q : mm_S) : Option rs_t :=
  if sign = 18 then (rd_ z (a + b).toInt64 q).bind fun w => some (td, w.1 :: vs, fr, w.2)
  else if sign = 19 then (rd_ z (a.toInt64 + (b >>> (2 &&& 31)).toInt64) q).bind fun w => some (td, ((w.1.toUInt32 >>> ((8 * (b &&& 3)).toUInt32 &&& Int32.toUInt32 31)).toInt32 &&& 255) :: vs, fr, w.2)
  else if (sign = 24 ∨ sign = 73) ∧ b = 0 then some (td, vs, fr, er_ 3 q)
  else (wk_ sign a b).bind fun w => some (td, w :: vs, fr, q)
def lm_ (q : mm_S) : Option Int32 := if 0 < q 0 106 then mm_a 100 107 (q 0 106 - 1) q else some (z 0 99)
/-- parameters of a routine: m of them yet, from the k-th on -/
def pm_ (at0 : Int32) : Nat → Int32 → List Int32 → mm_S → Option mm_S
  | 0, _, _, q => some q
  | m + 1, k, [], q => (mm_w 65536 98 (at0 + 2 + k) 0 q).bind fun q => pm_ at0 m (k + 1) [] q
  | m + 1, k, v :: vs, q => (mm_w 65536 98 (at0 + 2 + k) v q).bind fun q => pm_ at0 m (k + 1) vs q
/-- a routine is entered: rb says its body -/
def en_ (rb : Nat → tr_) (r at0 : Int32) (many : Nat) (td : List tqT) (vs : List Int32) (fr : List (Int32 × Int32)) (q : mm_S) : Option rs_t :=
  bu_ q (fun q =>
    if fr.length = 100 then some (td, vs, fr, er_ 5 q)
    else (mm_a 3100 70 r z).bind fun mx => (lm_ z q).bind fun li =>
      if li < at0 + mx then some (td, vs, fr, er_ 5 q)
      else if many ≤ vs.length then
        (mm_w 65536 98 at0 (q 0 96) q).bind fun q => (mm_w 65536 98 (at0 + 1) (1000000 + r) q).bind fun q =>
        (mm_a 3100 71 r z).bind fun np => (pm_ at0 np.toNatClampNeg 0 (vs.take many).reverse q).bind fun q2 =>
        match rb r.toNatClampNeg with
        | .leaf => none
        | .inner k i v l nx => some ((if k < 20 then xE_ (.inner k i v l nx) else xC_ (.inner k i v l nx)) :: (18, .leaf, .leaf, (if k < 20 then 1 else 0), nI (vs.length - many)) :: td, vs.drop many, (q2 0 96, q2 0 97) :: fr, mm_u (mm_u q2 0 96 at0) 0 97 r)
      else none) td vs fr
/-- a pair of an assignment -/
def as_p (n u : tr_) (td : List tqT) (vs : List Int32) (fr : List (Int32 × Int32)) (q : mm_S) : Option rs_t := match n, u with
  | .inner kn i vn (.inner k0 j0 v0 l0 r0) rn, .inner k j v c r =>
    if nI j = z 32 j0 then some (td, vs, fr, q)
    else if z 32 j = rt_ (dr_r (z 29 i).toNatClampNeg u) then
      (if k = 9 then (nxo c).bind fun n2 => some (xE_ (dr_r (z 29 i).toNatClampNeg u) :: xE_ c :: xE_ n2 :: xT_ 12 u 0 :: (11, n, r, 0, 0) :: td, vs, fr, q)
      else if k = 7 then some (xE_ (dr_r (z 29 i).toNatClampNeg u) :: xE_ c :: xT_ 12 u 0 :: (11, n, r, 0, 0) :: td, vs, fr, q)
      else some (xE_ (dr_r (z 29 i).toNatClampNeg u) :: xT_ 12 u 0 :: (11, n, r, 0, 0) :: td, vs, fr, q))
    else none
  | _, _ => none
def bk_ : List tqT → Option (List tqT)
  | [] => none
  | t :: r => if t.1 = 15 then some r else bk_ r
def lp_ : List tqT → Option (List tqT)
  | [] => none
  | t :: r => if t.1 = 15 then some (t :: r) else lp_ r
def ec_ : List tqT → Option (List tqT)
  | [] => none
  | t :: r => if t.1 = 17 ∧ kd_ t.2.1 = 0 then none else if t.1 = 17 ∧ kd_ t.2.1 = 28 then some r else ec_ r
def rt_u : List tqT → Option (List tqT)
  | [] => none
  | t :: r => if t.1 = 18 then some (t :: r) else rt_u r
def gtT (to sec : Int32) : List tqT → Option (List tqT)
  | [] => none
  | t :: r => if t.1 = 17 ∧ rt_ t.2.1 = sec then (fd_r to (ch_r t.2.1)).bind fun u => some ((17, t.2.1, u, 0, 0) :: r) else gtT to sec r
/-- a command is begun -/
def pf_ (t : tr_) (td : List tqT) (vs : List Int32) (fr : List (Int32 × Int32)) (q : mm_S) : Option rs_t := match t with
  | .leaf => none
  | .inner k i v l r =>
    if k = 37 then some (td, vs, fr, q)
    else if k = 36 then some ((17, t, l, 0, 0) :: td, vs, fr, q)
    else if k = 38 then some (xC_ l :: xT_ 15 t 0 :: td, vs, fr, q)
    else if k = 39 then some (xC_ l :: xT_ 15 t 0 :: td, vs, fr, q)
    else if k = 40 then some (xC_ l :: xT_ 15 t 0 :: td, vs, fr, q)
    else bu_ q (fun q =>
      if k = 20 then as_p z t l td vs fr q
      else if k = 21 then some (xE_ l :: xT_ 13 t 0 :: td, vs, fr, q)
      else if k = 22 then some (xE_ l :: xT_ 14 t 0 :: td, vs, fr, q)
      else if k = 23 then some (xE_ l :: xT_ 14 t 0 :: td, vs, fr, q)
      else if k = 24 then some (xE_ l :: xT_ 14 t 0 :: td, vs, fr, q)
      else if k = 25 then some (xT_ 15 t 0 :: td, vs, fr, q)
      else if k = 26 then some (xT_ 15 t 0 :: td, vs, fr, q)
      else if k = 27 then (nxo l).bind fun a => (nxo a).bind fun b => some (xE_ a :: xE_ b :: xT_ 20 t 0 :: td, vs, fr, q)
      else if k = 28 then some (xE_ l :: xT_ 21 t 0 :: td, vs, fr, q)
      else if k = 29 then (bk_ td).bind fun td => some (td, vs, fr, q)
      else if k = 30 then (lp_ td).bind fun td => some (td, vs, fr, q)
      else if k = 31 then (ec_ td).bind fun td => some (td, vs, fr, q)
      else if k = 32 then (rt_u td).bind fun td => some (td, vs, fr, q)
      else if k = 33 then some (xE_ l :: xT_ 22 t 0 :: td, vs, fr, q)
      else if k = 35 then (mm_a 26000 30 (z 31 i) z).bind fun sec => (gtT (z 31 i) sec td).bind fun td => some (td, vs, fr, q)
      else some (td, vs, fr, mm_u (mm_u (mm_u q 0 102 1) 0 103 0) 0 104 0)) td vs fr
/-- a value is stored -/
def so_ (t : tr_) (td : List tqT) (vs : List Int32) (fr : List (Int32 × Int32)) (q : mm_S) : Option rs_t := match t with
  | .leaf => none
  | .inner k i _ _ _ =>
    if k = 1 then (match vs with
      | v :: vs => (wo_ z i q).bind fun w => (mm_w 65536 98 w v q).bind fun q => some (td, vs, fr, q)
      | _ => none)
    else if k = 7 then (match vs with
      | a :: v :: vs => (wr_ z a.toInt64 v q).bind fun q => some (td, vs, fr, q)
      | _ => none)
    else match vs with
      | b :: a :: v :: vs =>
        if z 29 i = 18 then (wr_ z (a + b).toInt64 v q).bind fun q => some (td, vs, fr, q)
        else (rd_ z (a.toInt64 + (b >>> (2 &&& 31)).toInt64) q).bind fun w => (wr_ z (a.toInt64 + (b >>> (2 &&& 31)).toInt64) ((w.1 &&& ((255 <<< ((8 * (b &&& 3)) &&& 31)) ^^^ -1)) ||| ((v &&& 255) <<< ((8 * (b &&& 3)) &&& 31))) w.2).bind fun q => some (td, vs, fr, q)
      | _ => none
/-- a loop goes on -/
def lo_ (t : tr_) (aux : Int32) (td : List tqT) (vs : List Int32) (fr : List (Int32 × Int32)) (q : mm_S) : Option rs_t := match t with
  | .leaf => none
  | .inner k i v l r =>
    (if k = 27 ∧ aux = 1 then (mm_a 65536 98 (q 0 96 + z 31 i) q).bind fun x => mm_w 65536 98 (q 0 96 + z 31 i) (x + z 30 i) q else some q).bind fun q => bu_ q (fun q =>
      if k = 25 ∨ k = 26 then some (xE_ l :: xT_ 16 t 0 :: xT_ 15 t 0 :: td, vs, fr, q)
      else if k = 38 then some (xC_ l :: xT_ 15 t 0 :: td, vs, fr, q)
      else if k = 27 then
        (mm_a 65536 98 (q 0 96 + z 31 i) q).bind fun x => (mm_a 65536 98 (q 0 96 + z 31 i + 1) q).bind fun e =>
        if (if z 30 i < 0 then decide (x < e) else decide (e < x)) = true then some (td, vs, fr, q)
        else if z 29 i = rt_ (ls_r l) then some (xC_ (ls_r l) :: xT_ 15 t 1 :: td, vs, fr, q) else none
      else (nxo l).bind fun n => some (xE_ n :: xT_ 16 t 0 :: td, vs, fr, q)) td vs fr
def tl_o (td : List tqT) (vs : List Int32) (fr : List (Int32 × Int32)) (q : mm_S) : Option rs_t := match td with
  | [] => none
  | _ :: td => some (td, vs, fr, q)
/-- it was asked whether a loop goes on -/
def ak_ (t : tr_) (x : Int32) (td : List tqT) (vs : List Int32) (fr : List (Int32 × Int32)) (q : mm_S) : Option rs_t := match t with
  | .leaf => none
  | .inner k i v l r =>
    if k = 25 ∨ k = 26 then (if decide (x ≠ 0) = decide (k = 25) then ((nxo l).bind fun n => some (xC_ n :: td, vs, fr, q)) else tl_o td vs fr q)
    else if decide (x ≠ 0) = decide (k = 39) then some (xC_ l :: xT_ 15 t 0 :: td, vs, fr, q) else some (td, vs, fr, q)
def fv_ (t : tr_) : Bool := decide (kd_ t ≠ 58) && decide (kd_ t ≠ 59)
/-- the next item of a section -/
def se_ (t u : tr_) (td : List tqT) (vs : List Int32) (fr : List (Int32 × Int32)) (q : mm_S) : Option rs_t := match u with
  | .leaf => some (td, vs, fr, q)
  | .inner k i v l r =>
    if k = 41 then (if kd_ l = 0 then none else some (xC_ (ls_r l) :: (17, t, r, 0, 0) :: td, vs, fr, q))
    else if k = 53 then (match l with
      | .leaf => none
      | .inner k2 i2 v2 l2 r2 =>
        if k2 = 55 then bu_ q (fun q => if (fs_ l2).length ≤ 26000 then some (((fs_ l2).filter fv_).map xE_ ++ (xT_ 19 (.inner k2 i2 v2 l2 r2) 0 :: (17, t, r, 0, 0) :: td), vs, fr, q) else none) ((17, t, r, 0, 0) :: td) vs fr
        else some ((17, t, r, 0, 0) :: td, vs, fr, q))
    else some ((17, t, r, 0, 0) :: td, vs, fr, q)
/-- the words of variables -/
def vb_ : List tr_ → Int32 → List Int32 → mm_S → Option mm_S
  | [], _, _, q => some q
  | t :: ts, at0, vs, q =>
    if kd_ t = 58 then vb_ ts at0 vs q
    else if kd_ t = 59 then (mm_a 26000 31 (rt_ t) z).bind fun c => (mm_w 65536 98 at0 (q 0 96 + c) q).bind fun q => vb_ ts (at0 + 1) vs q
    else match vs with
      | [] => none
      | v :: vs => (mm_w 65536 98 at0 v q).bind fun q => vb_ ts (at0 + 1) vs q
def va_r (t : tr_) (td : List tqT) (vs : List Int32) (fr : List (Int32 × Int32)) (q : mm_S) : Option rs_t := match t with
  | .leaf => none
  | .inner k i v l r =>
    let w := ((fs_ l).filter fv_).length
    if w ≤ vs.length then (vb_ z (fs_ l) (q 0 96 + z 30 i) (vs.take w).reverse q).bind fun q => some (td, vs.drop w, fr, q) else none
def na_ (t : tr_) : Int32 := match t with
  | .leaf => 0
  | .inner _ i _ _ _ => z 29 i
/-- the part of a SWITCHON that a value goes to -/
def hc_ (v : Int32) (c : tr_) : List tr_ → Option tr_ → Option tr_ → Option tr_ × Option tr_
  | [], h, o => (h, o)
  | t :: ts, h, o => hc_ v c ts (if kd_ t = 43 ∧ na_ z t = v ∧ h.isNone = true then some c else h) (if kd_ t = 44 then some c else o)
def ho_ (v : Int32) : List tr_ → Option tr_ → Option tr_ → Option tr_ × Option tr_
  | [], h, o => (h, o)
  | c :: cs, h, o => ho_ v cs (hc_ z v c (fs_ (ch_r c)) h o).1 (hc_ z v c (fs_ (ch_r c)) h o).2
def cs_ (t : tr_) (v : Int32) (td : List tqT) (vs : List Int32) (fr : List (Int32 × Int32)) (q : mm_S) : Option rs_t :=
  (cho t).bind fun l => (nxo l).bind fun n => match ho_ z v (fs_ n) none none with
  | (some c, _) => some ((17, t, c, 0, 0) :: td, vs, fr, q)
  | (none, some c) => some ((17, t, c, 0, 0) :: td, vs, fr, q)
  | (none, none) => some (td, vs, fr, q)
/-- RESULTIS: to the nearest VALOF -/
def rr_ (v : Int32) (vs : List Int32) (fr : List (Int32 × Int32)) (q : mm_S) : List tqT → Option rs_t
  | [] => none
  | t :: td => if t.1 = 8 then (if t.2.2.2.2.toNatClampNeg ≤ vs.length ∧ t.2.2.2.2 = nI t.2.2.2.2.toNatClampNeg then some (td, v :: vs.drop (vs.length - t.2.2.2.2.toNatClampNeg), fr, q) else none) else rr_ v vs fr q td
/-- a routine gives a value back; h values were there -/
def rn_ (v h : Int32) (td : List tqT) (vs : List Int32) (fr : List (Int32 × Int32)) (q : mm_S) : Option rs_t := match fr with
  | [] => none
  | (b, r) :: fr => if h.toNatClampNeg ≤ vs.length ∧ h = nI h.toNatClampNeg then some (td, v :: vs.drop (vs.length - h.toNatClampNeg), fr, mm_u (mm_u q 0 96 b) 0 97 r) else none
def rv_ (x y : Int32) (td : List tqT) (vs : List Int32) (fr : List (Int32 × Int32)) (q : mm_S) : Option rs_t := if x = 1 then (match vs with
    | v :: vs => rn_ v y td vs fr q
    | [] => none)
  else rn_ 0 y td vs fr q
/-- neighbours in a row of relations -/
def rq_ (c : Bool) (r : tr_) (b : Int32) (td : List tqT) (vs : List Int32) (fr : List (Int32 × Int32)) (q : mm_S) : Option rs_t := match c, r with
  | true, .inner k j w l r => some (xE_ (.inner k j w l r) :: xT_ 6 (.inner k j w l r) 1 :: td, b :: vs, fr, q)
  | c, _ => some (td, tf_ c :: vs, fr, q)
/-- a call: a routine, one of the library, or neither -/
def cl_ (rb : Nat → tr_) (LB : Int32 → Nat → Int32 → List tqT → List Int32 → List (Int32 × Int32) → mm_S → Option rs_t) (f at0 : Int32) (many : Nat) (td : List tqT) (vs : List Int32) (fr : List (Int32 × Int32)) (q : mm_S) : Option rs_t :=
  if 2000000 ≤ f ∧ f < 2000018 then LB (f - 2000000) many at0 td vs fr q
  else if 1000000 ≤ f ∧ f < 1000000 + z 0 69 then en_ z rb (f - 1000000) at0 many td vs fr q
  else some (td, vs, fr, er_ 4 q)
/-- what is next is done -/
def dn_ (rb : Nat → tr_) (LB : Int32 → Nat → Int32 → List tqT → List Int32 → List (Int32 × Int32) → mm_S → Option rs_t) (x : tqT) (td : List tqT) (vs : List Int32) (fr : List (Int32 × Int32)) (q : mm_S) : Option rs_t :=
  let t := x.2.1
  if x.1 = 1 then ev_ z t td vs fr q
  else if x.1 = 2 then (match vs, t with
    | b :: a :: vs, .inner _ i _ _ _ => bi_ z (z 29 i) a b td vs fr q
    | _, _ => none)
  else if x.1 = 3 then (match vs, t with
    | v :: vs, .inner _ i _ _ _ => some (td, sg_n (z 29 i) v :: vs, fr, q)
    | _, _ => none)
  else if x.1 = 4 then (match vs with
    | v :: vs => (rd_ z v.toInt64 q).bind fun w => some (td, w.1 :: vs, fr, w.2)
    | _ => none)
  else if x.1 = 9 then (match vs with
    | b :: a :: vs => some (td, (b + a) :: vs, fr, q)
    | _ => none)
  else if x.1 = 5 then (match vs with
    | v :: vs => (cho t).bind fun l => (nxo l).bind fun c => if v = 0 then ((nxo c).bind fun e => some (xE_ e :: td, vs, fr, q)) else some (xE_ c :: td, vs, fr, q)
    | _ => none)
  else if x.1 = 6 then
    (if x.2.2.2.2 = 0 ∧ kd_ t ≠ 0 then some (xE_ t :: xT_ 6 t 1 :: td, vs, fr, q)
    else if x.2.2.2.2 = 0 then none
    else match vs, t with
    | b :: a :: vs, .inner _ i _ _ r =>
      rq_ (rl_ (z 33 i) a b) r b td vs fr q
    | _, _ => none)
  else if x.1 = 7 then (match vs, t with
    | f :: vs, .inner _ i _ _ _ => if x.2.2.2.2 < 0 then none else cl_ z rb LB f (q 0 96 + z 30 i) x.2.2.2.2.toNatClampNeg td vs fr q
    | _, _ => none)
  else if x.1 = 8 then some (td, 0 :: vs, fr, q)
  else if x.1 = 10 then pf_ z t td vs fr q
  else if x.1 = 11 then as_p z t x.2.2.1 td vs fr q
  else if x.1 = 12 then so_ z t td vs fr q
  else if x.1 = 13 then (match vs with
    | _ :: vs => some (td, vs, fr, q)
    | _ => none)
  else if x.1 = 14 then (match vs with
    | v :: vs =>
      (cho t).bind fun l => (nxo l).bind fun c =>
      if kd_ t = 24 then (if v = 0 then ((nxo c).bind fun e => some (xC_ e :: td, vs, fr, q)) else some (xC_ c :: td, vs, fr, q))
      else if decide (v ≠ 0) = decide (kd_ t = 22) then some (xC_ c :: td, vs, fr, q) else some (td, vs, fr, q)
    | _ => none)
  else if x.1 = 15 then lo_ z t x.2.2.2.2 td vs fr q
  else if x.1 = 16 then (match vs with
    | v :: vs => ak_ t v td vs fr q
    | _ => none)
  else if x.1 = 17 then se_ t x.2.2.1 td vs fr q
  else if x.1 = 18 then rv_ x.2.2.2.1 x.2.2.2.2 td vs fr q
  else if x.1 = 19 then va_r z t td vs fr q
  else if x.1 = 20 then (match vs, t with
    | e :: v :: vs, .inner _ i _ _ _ => (mm_w 65536 98 (q 0 96 + z 31 i) v q).bind fun q => (mm_w 65536 98 (q 0 96 + z 31 i + 1) e q).bind fun q => some (xT_ 15 t 0 :: td, vs, fr, q)
    | _, _ => none)
  else if x.1 = 21 then (match vs with
    | v :: vs => cs_ z t v td vs fr q
    | _ => none)
  else if x.1 = 23 then LB x.2.2.2.1 2 x.2.2.2.2 td vs fr q
  else if x.1 = 22 then (match vs with
    | v :: vs => rr_ v vs fr q td
    | _ => none)
  else none
end rstep
