/-! ===== the reference's static rules as a plain machine: constants ===== -/
/-- what a name means: name, kind, value, state, other, token -/
abbrev enT : Type := Int32 × Int32 × Int32 × Int32 × Int32 × Int32
def fa_ (k p : Int32) (q : mm_S) : mm_S := if q 0 12 = 0 then mm_u (mm_u q 0 12 k) 0 13 p else if q 0 13 < p then q else if p = q 0 13 then (if k < q 0 12 then mm_u (mm_u q 0 12 k) 0 13 p else q) else mm_u (mm_u q 0 12 k) 0 13 p
def mn_k (nm : Int32) : List enT → Option (Nat × enT)
  | [] => none
  | e :: r => if e.1 = nm then some (r.length, e) else mn_k nm r
def eu_ (j : Nat) (f : enT → enT) : List enT → List enT
  | [] => []
  | e :: r => if r.length = j then f e :: r else e :: eu_ j f r
def kbd (k : Nat) (a : Int32) : Bool := if k = 6 then true else if k = 7 then true else if k = 8 then true else if k = 4 then true else if k = 5 then true else if k = 3 then true else if k = 9 then (if a = 18 then true else if a = 19 then true else false) else false
section kstep
variable (z : mm_S)
def pl_k (tok : Int32) : Option Int32 := mm_a 12100 10 tok z
def ft_ (k tok : Int32) (q : mm_S) : Option mm_S := (pl_k z tok).bind fun p => some (fa_ k p q)
def kn_ (es : List enT) (i : Nat) (tok : Int32) (q : mm_S) : Option (Bool × mm_S) := match mn_k (q 29 i) es with
  | none => (ft_ z 3 tok q).bind fun q1 => some (false, q1)
  | some (_, e) => if e.2.1 = 2 then (if e.2.2.2.1 = 0 then (ft_ z 6 tok q).bind fun q1 => some (false, q1) else some (decide (e.2.2.2.1 = 2), q)) else (ft_ z 6 tok q).bind fun q1 => some (false, q1)
def kbO (es : List enT) (k i : Nat) (tok : Int32) (x : Bool × mm_S) : Option (Bool × mm_S) :=
  (if kbd k (x.2 29 i) = true then (ft_ z 6 tok x.2).bind fun q1 => some (false, q1) else some x).bind fun y =>
  if k = 1 then (kn_ z es i tok y.2).bind fun w => some (w.1 && y.1, w.2) else some y
def kbF (es : List enT) : tr_ → Nat → Bool × mm_S → Option (Bool × mm_S)
  | .leaf, _, x => some x
  | .inner k i v l r, n, x => if n < 26000 then (kbF es r (n + 1) x).bind fun y => (kbO z es k i (nI v.1) y).bind fun w => if k = 4 then some w else kbF es l n w else none
def kb1 (es : List enT) : tr_ → Bool × mm_S → Option (Bool × mm_S)
  | .leaf, _ => none
  | .inner k i v l _, x => (kbO z es k i (nI v.1) x).bind fun w => if k = 4 then some w else kbF z es l 0 w
abbrev kx_ : Type := Option (Except Int32 Int32)
def kxb (x : kx_) (f : Int32 → kx_) : kx_ := x.bind fun y => match y with
  | .error p => some (.error p)
  | .ok v => f v
/-- sel 0: a constant's value; 1: the parts of a row of relations behind one with value a -/
def kv_ (es : List enT) (q : mm_S) : tr_ → Nat → Int32 → Nat → Nat → kx_
  | .leaf, _, _, _, _ => none
  | .inner k i v l r, sel, a, n, w =>
    if 26000 ≤ n ∨ 26000 ≤ w then none else
    kxb (if k = 2 then some (.ok (q 29 i))
      else if k = 1 then (mn_k (q 29 i) es).bind fun e => some (.ok e.2.2.2.1)
      else if k = 12 then kxb (kv_ es q l 0 0 (n + 1) w) fun c => match l with
        | .leaf => none
        | .inner _ _ _ _ m => if c = 0 then (match m with
          | .leaf => none
          | .inner _ _ _ _ m2 => kv_ es q m2 0 0 n w) else kv_ es q m 0 0 n w
      else if k = 10 then kxb (kv_ es q l 0 0 (n + 1) w) fun c => some (.ok (sg_n (q 29 i) c))
      else if k = 11 then kxb (kv_ es q l 0 0 (n + 1) w) fun c => match l with
        | .leaf => none
        | .inner _ _ _ _ m => kv_ es q m 1 c (n + 1) (w + 1)
      else kxb (kv_ es q l 0 0 (n + 1) w) fun c => match l with
        | .leaf => none
        | .inner _ _ _ _ m => kxb (kv_ es q m 0 0 (n + 1) (w + 1)) fun b =>
          if (q 29 i = 24 ∨ q 29 i = 73) ∧ b = 0 then (pl_k z (nI v.1)).bind fun p => some (.error p) else (wk_ (q 29 i) c b).bind fun x => some (.ok x))
    fun b => if sel = 0 then some (.ok b) else if rl_ (z 33 i) a b = true then (match r with
      | .leaf => some (.ok (-1))
      | .inner k2 i2 v2 l2 r2 => kv_ es q (.inner k2 i2 v2 l2 r2) 1 b n w) else some (.ok 0)
/-- a constant is worked: whether it is good (58), its value (59) -/
def cn_ (es : List enT) (t : tr_) (q : mm_S) : Option mm_S := (kb1 z es t (true, q)).bind fun y =>
  if y.1 = true then (kv_ z es (mm_u (mm_u y.2 0 58 1) 0 59 0) t 0 0 0 0).bind fun x => match x with
    | .error p => some (mm_u (fa_ 6 p (mm_u (mm_u y.2 0 58 1) 0 59 0)) 0 58 0)
    | .ok v => some (mm_u (mm_u (mm_u y.2 0 58 1) 0 59 0) 0 59 v)
  else some (mm_u (mm_u y.2 0 58 0) 0 59 0)
/-- declared twice in the block at hand -/
def dcl (nm tok b : Int32) : List enT → mm_S → Option mm_S
  | [], q => some q
  | e :: r, q => if nI r.length < b then some q else (if e.1 = nm then (if e.2.1 = 6 then none else ft_ z 4 (if tok < e.2.2.2.2.2 then e.2.2.2.2.2 else tok) q) else some q).bind (dcl nm tok b r)
def dc_k (nm tok kind val st ot : Int32) (es : List enT) (q : mm_S) : Option (List enT × mm_S) := if q 0 55 < 0 then none else (dcl z nm tok (q 0 55) es q).bind fun q' => if es.length < 9000 then some ((nm, kind, val, st, ot, tok) :: es, q') else none
end kstep
