/-! ===== the library of the reference: plain ===== -/
/-- a byte goes out -/
def ob_ (b : Int32) (q : mm_S) : Option mm_S := (mm_a 2 116 (q 0 117) q).bind fun n => if n = 4096 then some q else (mm_w 8192 115 (4096 * q 0 117 + n) b.toInt8.toInt32 q).bind fun q1 => mm_w 2 116 (q 0 117) (n + 1) q1
def obs_ : List Int32 → mm_S → Option mm_S
  | [], q => some q
  | b :: bs, q => (ob_ b q).bind fun q => obs_ bs q
/-- the figures of a number, the last one first -/
def dN_ : Nat → Nat → List Nat
  | 0, _ => []
  | f + 1, x => x % 10 :: (if 0 < x / 10 then dN_ f (x / 10) else [])
/-- a number in decimal, with blanks ahead -/
def dm_ (v : Int32) (w : Int32) : List Int32 :=
  let ds := (dN_ 11 v.toInt.natAbs).map fun x => nI (48 + x)
  let n := (if v < 0 then ds.length + 1 else ds.length)
  List.replicate (w.toNatClampNeg - n) 32 ++ (if v < 0 then [45] else []) ++ ds.reverse
def fl_q (q : mm_S) : Option Bool := (mm_a 2 116 (q 0 117) q).bind fun n => some (decide (n = 4096))
def de_ (v w : Int32) (q : mm_S) : Option mm_S := (fl_q q).bind fun b => if b = true then some q else obs_ (dm_ v w) q
def hx_ (v : Int32) : Nat → List Int32
  | 0 => []
  | k + 1 => (if ((v.toUInt32 >>> ((4 * nI k).toUInt32 &&& Int32.toUInt32 31)).toInt32 &&& 15) < 10 then 48 + ((v.toUInt32 >>> ((4 * nI k).toUInt32 &&& Int32.toUInt32 31)).toInt32 &&& 15) else 55 + ((v.toUInt32 >>> ((4 * nI k).toUInt32 &&& Int32.toUInt32 31)).toInt32 &&& 15)) :: hx_ v k
/-- bytes of a string in the store: m of them from the k-th on -/
def sb_ (v : Int32) : Nat → Nat → mm_S → Option mm_S
  | 0, _, q => some q
  | m + 1, k, q => (mm_a 65536 98 (v + nI (k / 4)) q).bind fun w => (ob_ ((w.toUInt32 >>> ((8 * nI (k % 4)).toUInt32 &&& Int32.toUInt32 31)).toInt32 &&& 255) q).bind fun q => sb_ v m (k + 1) q
def nb_ (q : mm_S) : Option (Int32 × mm_S) := (mm_a 4 113 (q 0 114) q).bind fun a => (mm_a 4 112 (q 0 114) q).bind fun n => if a = n then some (-1, q) else (mm_w 4 113 (q 0 114) (a + 1) q).bind fun q1 => (mm_a 24000 109 (6000 * q 0 114 + (a + 1) - 1) q1).bind fun c => some (c &&& 255, q1)
def pk_ (q : mm_S) : Option Int32 := (mm_a 4 113 (q 0 114) q).bind fun a => (mm_a 4 112 (q 0 114) q).bind fun n => if a = n then some (-1) else (mm_a 24000 109 (6000 * q 0 114 + a) q).bind fun c => some (c &&& 255)
def bl_k (c : Int32) : Bool := decide (c = 32) || decide (c = 9) || decide (c = 10) || decide (c = 13)
def dg_k (c : Int32) : Bool := decide (¬ c < 48) && decide (¬ 57 < c)
def rN_ (q : mm_S) : Option (Int32 × mm_S) :=
  (pk_ q).bind fun c0 => (if bl_k c0 = true then (mm_a 4 113 (q 0 114) q).bind fun a => (mm_a 24000 110 (6000 * q 0 114 + a) q).bind fun e => mm_w 4 113 (q 0 114) e q else some q).bind fun q1 =>
  (pk_ q1).bind fun c => (if c = 45 ∨ c = 43 then (nb_ q1).bind fun w => some w.2 else some q1).bind fun q2 =>
  (pk_ q2).bind fun c2 => if dg_k c2 = false then some (0, q2) else
  (mm_a 4 113 (q 0 114) q2).bind fun a => (mm_a 24000 110 (6000 * q 0 114 + a) q2).bind fun e => (mm_w 4 113 (q 0 114) e q2).bind fun q3 => (mm_a 24000 111 (6000 * q 0 114 + a) q3).bind fun v => some (if c = 45 then -v else v, q3)
/-- vectors that were got, the highest first -/
def gs_ (q : mm_S) : List (Int32 × Int32) := (List.range (q 0 106).toNatClampNeg).map fun j => (q 107 j, q 108 j)
def sg_s (l : List (Int32 × Int32)) (q : mm_S) : mm_S := fun f i => if f = 0 ∧ i = 106 then nI l.length else if f = 107 then (match l[i]? with | some x => x.1 | none => q f i) else if f = 108 then (match l[i]? with | some x => x.2 | none => q f i) else q f i
def fp_ (many : Int64) : List (Int32 × Int32) → Int64 → Nat → Nat × Int64
  | [], e, k => (k, e)
  | (a, n) :: r, e, k => if lg_cmp (e - many) (a.toInt64 + n.toInt64) < 0 then fp_ many r a.toInt64 (k + 1) else (k, e)
def gv_ (z : mm_S) (n : Int32) (q : mm_S) : Option (Int32 × mm_S) :=
  if n < 0 then some (0, q) else if q 0 106 = 100 then some (0, q)
  else if q 0 106 < 0 then none else if 100 < q 0 106 then none
  else (mm_a 3100 70 (q 0 97) z).bind fun mx =>
    let p := fp_ (n.toInt64 + 1) (gs_ q) (z 0 99).toInt64 0
    if lg_cmp (p.2 - (n.toInt64 + 1)) (q 0 96 + mx).toInt64 < 0 then some (0, q)
    else some ((p.2 - (n.toInt64 + 1)).toInt32, sg_s ((gs_ q).take p.1 ++ ((p.2 - (n.toInt64 + 1)).toInt32, (n.toInt64 + 1).toInt32) :: (gs_ q).drop p.1) q)
def ix_g (v : Int32) : List (Int32 × Int32) → Nat
  | [] => 0
  | x :: r => if x.1 = v then 0 else ix_g v r + 1
def fv_r (v : Int32) (q : mm_S) : Option mm_S :=
  if v = 0 then some q else if q 0 106 < 0 then none else if 100 < q 0 106 then none
  else if ix_g v (gs_ q) = (gs_ q).length then some (er_ 2 q) else some (sg_s ((gs_ q).eraseIdx (ix_g v (gs_ q))) q)
/-- a routine, or one of the library, is called with an address and a number -/
def tv_ (z : mm_S) (rb : Nat → tr_) (f n at0 : Int32) (td : List tqT) (vs : List Int32) (fr : List (Int32 × Int32)) (q : mm_S) : Option rs_t :=
  if ¬ (2000000 ≤ f ∧ f < 2000018) ∧ ¬ (1000000 ≤ f ∧ f < 1000000 + z 0 69) then some (td, vs, fr, er_ 4 q)
  else if n < 0 then some (td, vs, fr, er_ 2 q)
  else if n < z 0 99 then
    (if 2000000 ≤ f ∧ f < 2000018 then (lm_ z q).bind fun li => if li < at0 + n + 1 then some (td, n :: at0 :: vs, fr, er_ 5 q) else some ((23, .leaf, .leaf, f - 2000000, at0 + n + 1) :: td, n :: at0 :: vs, fr, q)
    else en_ z rb (f - 1000000) (at0 + n + 1) 2 td (n :: at0 :: vs) fr q)
  else some (td, vs, fr, er_ 2 q)
def ag_ (k many : Nat) (vs : List Int32) : Int32 := if k < many then (vs[many - 1 - k]?).getD 0 else 0
/-- one of the library is called -/
def lb_r (z : mm_S) (rb : Nat → tr_) (f : Int32) (many : Nat) (at0 : Int32) (td : List tqT) (vs0 : List Int32) (fr : List (Int32 × Int32)) (q : mm_S) : Option rs_t :=
  if many ≤ vs0.length then
    (let a := ag_ 0 many vs0
    let b := ag_ 1 many vs0
    let c := ag_ 2 many vs0
    let vs := vs0.drop many
    if f = 0 then (de_ a 0 q).bind fun q => some (td, 0 :: vs, fr, q)
    else if f = 15 then (de_ a (if 100 < b then 100 else b) q).bind fun q => some (td, 0 :: vs, fr, q)
    else if f = 16 then (obs_ (hx_ a (if b < 1 then 1 else if 8 < b then 8 else b.toNatClampNeg)) q).bind fun q => some (td, 0 :: vs, fr, q)
    else if f = 1 then
      (if a < 0 then some (td, 0 :: vs, fr, er_ 2 q)
      else if a < z 0 99 then (mm_a 65536 98 a q).bind fun w =>
        (if lg_cmp (a.toInt64 + (nI ((w &&& 255).toNatClampNeg / 4)).toInt64) (z 0 99).toInt64 < 0 then (fl_q q).bind fun b => if b = true then some (td, 0 :: vs, fr, q) else (sb_ a (w &&& 255).toNatClampNeg 1 q).bind fun q => some (td, 0 :: vs, fr, q)
        else some (td, 0 :: vs, fr, er_ 2 q))
      else some (td, 0 :: vs, fr, er_ 2 q))
    else if f = 2 then (ob_ a q).bind fun q => some (td, 0 :: vs, fr, q)
    else if f = 3 then (ob_ 10 q).bind fun q => some (td, 0 :: vs, fr, q)
    else if f = 4 then (nb_ q).bind fun w => some (td, w.1 :: vs, fr, w.2)
    else if f = 5 then some (td, 0 :: vs, fr, mm_u (mm_u (mm_u q 0 102 1) 0 103 6) 0 104 a)
    else if f = 6 then some (td, (if a < 0 then -a else a) :: vs, fr, q)
    else if f = 7 then (mm_a 4 113 (q 0 114) q).bind fun p => if 0 < p then (mm_w 4 113 (q 0 114) (p - 1) q).bind fun q => some (td, -1 :: vs, fr, q) else some (td, 0 :: vs, fr, q)
    else if f = 8 then (if a < 0 then some (td, 0 :: vs, fr, q) else if 3 < a then some (td, 0 :: vs, fr, q) else some (td, -1 :: vs, fr, mm_u q 0 114 a))
    else if f = 9 then (if a = 0 then some (td, -1 :: vs, fr, mm_u q 0 117 a) else if a = 1 then some (td, -1 :: vs, fr, mm_u q 0 117 a) else some (td, 0 :: vs, fr, q))
    else if f = 10 then (mm_w 4 113 (q 0 114) 0 q).bind fun q => some (td, 0 :: vs, fr, q)
    else if f = 11 then (gv_ z a q).bind fun w => some (td, w.1 :: vs, fr, w.2)
    else if f = 12 then (fv_r a q).bind fun q => some (td, 0 :: vs, fr, q)
    else if f = 14 then (if c = 0 then some (td, 0 :: vs, fr, er_ 3 q) else (pj_ldiv (a.toInt64 * b.toInt64) c.toInt64).bind fun w => some (td, w.toInt32 :: vs, fr, q))
    else if f = 17 then (rN_ q).bind fun w => some (td, w.1 :: vs, fr, w.2)
    else tv_ z rb a b at0 td vs fr q)
  else none
