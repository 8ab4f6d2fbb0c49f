/-! ===== the reference's static rules as a plain machine: what is looked at ===== -/
abbrev ctk : Type := Nat × tr_ × Int32
def iN (x : Int32) : Nat := x.toInt.toNat
/-- a number as a place among entries -/
def ei_ (es : List enT) (x : Int32) : Option Nat := if nI (iN x) = x ∧ iN x < es.length then some (iN x) else none
/-- as many entries as there were -/
def et_ (es : List enT) (x : Int32) : Option (List enT) := if nI (iN x) = x ∧ iN x ≤ es.length then some (es.drop (es.length - iN x)) else none
def ini (a v : Int32) (q : mm_S) : Option mm_S := if q 0 84 = 9000 then some q else (mm_w 9000 85 (q 0 84) a q).bind fun q1 => (mm_w 9000 86 (q1 0 84) v q1).bind fun q2 => some (mm_u q2 0 84 (q2 0 84 + 1))
def tks (xs ts : List ctk) (es : List enT) (sv : List Int32) (q : mm_S) : Option ct_t := if xs.length + ts.length ≤ 26000 then some (xs ++ ts, es, sv, q) else none
/-- put aside: the last one of xs lies on top -/
def pus (xs sv : List Int32) (f : List Int32 → Option ct_t) : Option ct_t := if xs.length + sv.length ≤ 60000 then f (xs.reverse ++ sv) else none
def us_ (n : Int32) (q : mm_S) : mm_S :=
  let q1 := mm_u q 0 74 (if 40000 < q 0 74 then q 0 74 else q 0 74 + n)
  if q 0 75 < q1 0 74 then mm_u q1 0 75 (q1 0 74) else q1
/-- children, a task each -/
def chs (k : Nat) (l : tr_) : List ctk := (fs_ l).map fun c => (k, c, 0)
section cstep
variable (z : mm_S)
def d1_ (kind : Nat) : tr_ → List enT → mm_S → Option (List enT × mm_S)
  | .leaf, es, q => some (es, q)
  | .inner _ i v _ r, es, q => (mm_a 12100 11 (nI v.1) z).bind fun nm => (dc_k z nm (nI v.1) (if kind = 50 then 1 else if kind = 51 then 2 else 3) (if kind = 52 then nI i else 0) 0 0 es q).bind fun y => d1_ kind r y.1 (mm_u y.2 30 i (nI es.length))
/-- a fault at the first token of a tree -/
def ff_ (t : tr_) (q : mm_S) : Option mm_S := match t with
  | .leaf => none
  | .inner _ _ v _ _ => ft_ z 6 (nI v.2.2.2.1) q
def gd_ (hi : Int32) (q : mm_S) : Int32 := if q 0 58 = 0 then 0 else if q 0 59 < 0 then 0 else if hi < q 0 59 then 0 else q 0 59
def gg_ (l : tr_) (hi : Int32) (q : mm_S) : Option mm_S := if q 0 58 = 0 then some q else if q 0 59 < 0 then ff_ z l q else if hi < q 0 59 then ff_ z l q else some q
def d2_ (kind : Nat) : tr_ → List enT → mm_S → Option (List enT × mm_S)
  | .leaf, es, q => some (es, q)
  | .inner _ i _ l r, es, q => (cn_ z es l q).bind fun q1 =>
    if kind = 52 then (ini (q1 0 81) (q1 0 59) (mm_u q1 31 i (q1 0 81))).bind fun q2 => d2_ kind r es (mm_u q2 0 81 (q2 0 81 + 1))
    else (ei_ es (q1 30 i)).bind fun j =>
      if kind = 51 then d2_ kind r (eu_ j (fun e => (e.1, e.2.1, q1 0 59, if q1 0 58 = 0 then 1 else 2, e.2.2.2.2.1, e.2.2.2.2.2)) es) q1
      else (gg_ z l 99 q1).bind fun q2 => d2_ kind r (eu_ j (fun e => (e.1, e.2.1, gd_ 99 q2, e.2.2.2.1, e.2.2.2.2.1, e.2.2.2.2.2)) es) q2
/-- routines of a LET: one name -/
def lr1 (ot : Bool) (i : Nat) (tok nm : Int32) (es : List enT) (q : mm_S) : Option (List enT × mm_S) := match (if ot = true then mn_k nm es else none) with
  | none => dc_k z nm tok 3 (nI i) 0 0 es (mm_u q 30 i 0)
  | some (j, e) => if e.2.1 = 1 then (if e.2.2.2.2.1 = 1 then ft_ z 4 tok (mm_u q 30 i 0) else some (mm_u q 30 i 0)).bind fun q2 => some (eu_ j (fun e => (e.1, e.2.1, e.2.2.1, e.2.2.2.1, 1, e.2.2.2.2.2)) es, mm_u q2 30 i (1 + nI j)) else dc_k z nm tok 3 (nI i) 0 0 es (mm_u q 30 i 0)
def lr_ (ot : Bool) : tr_ → List enT → mm_S → Option (List enT × mm_S)
  | .leaf, es, q => some (es, q)
  | .inner _ i v _ r, es, q => (mm_a 12100 11 (nI v.1) z).bind fun nm => (lr1 z ot i (nI v.1) nm es q).bind fun y => lr_ ot r y.1 (if ot = true ∧ nm = y.2 0 83 ∧ y.2 0 82 < 0 then mm_u y.2 0 82 (nI i) else y.2)
def vit (l : tr_) : List ctk := (fs_ l).flatMap fun c => if kd_ c = 58 then [] else [(if kd_ c = 59 then 11 else 3, c, 0)]
def deK (t : tr_) (ts : List ctk) (es : List enT) (sv : List Int32) (q : mm_S) : Option ct_t := match t with
  | .leaf => none
  | .inner k _ _ l _ =>
    if k = 53 then (match l with
      | .leaf => none
      | .inner k2 _ _ l2 _ => if k2 = 55 then tks (vit l2) ((8, l, 0) :: ts) es sv q else (lr_ z (decide (q 0 73 < 0)) l es q).bind fun y => tks (chs 6 l) ts y.1 sv y.2)
    else (d1_ z k l es q).bind fun y => (d2_ z k l y.1 y.2).bind fun w => some (ts, w.1, sv, w.2)
/-- parameters of a routine; its body -/
def rpK (r : Int32) : tr_ → List enT → mm_S → Option (tr_ × List enT × mm_S)
  | .leaf, _, _ => none
  | .inner k i v l n, es, q => if k = 57 then (dc_k z (q 29 i) (nI v.1) 4 (q 0 74) r 0 es q).bind fun y =>
      (mm_a 3100 71 r (mm_u y.2 0 74 (y.2 0 74 + 1))).bind fun m => (mm_w 3100 71 r (m + 1) (mm_u y.2 0 74 (y.2 0 74 + 1))).bind fun q1 => rpK r n y.1 q1
    else some (.inner k i v l n, es, q)
def ro_ (t : tr_) (ts : List ctk) (es : List enT) (sv : List Int32) (q : mm_S) : Option ct_t := match t with
  | .leaf => none
  | .inner _ i _ l _ =>
    let r := q 0 69
    let q1 := mm_u (mm_u q 0 69 (r + 1)) 29 i r
    (if 0 < q1 30 i then (ei_ es (q1 30 i - 1)).bind fun j => (es[es.length - 1 - j]?).bind fun e => some (mm_u q1 31 i e.2.2.1) else some (mm_u (mm_u q1 31 i (q1 0 81)) 0 81 (q1 0 81 + 1))).bind fun q2 =>
    (ini (q2 31 i) (1000000 + r) q2).bind fun q3 =>
    pus [q3 0 73, q3 0 74, q3 0 75, if q3 0 76 = 0 then 0 else 1, q3 0 77, q3 0 79, q3 0 80, q3 0 55, nI es.length] sv fun sv1 =>
    (mm_w 3100 71 r 0 (mm_u (mm_u (mm_u (mm_u (mm_u (mm_u q3 0 73 r) 0 74 2) 0 77 0) 0 79 0) 0 80 0) 0 55 (nI es.length))).bind fun q4 =>
    (rpK z r l es q4).bind fun y =>
    let q5 := mm_u (mm_u y.2.2 0 75 (y.2.2 0 74)) 0 76 (if kd_ y.1 < 20 then 1 else 0)
    (mm_w 3100 72 r (rt_ y.1) q5).bind fun q6 => tks [(if kd_ y.1 < 20 then 3 else 2, y.1, 0)] ((7, t, 0) :: ts) y.2.1 sv1 q6
def re_ (t : tr_) (ts : List ctk) (es : List enT) (sv : List Int32) (q : mm_S) : Option ct_t := match t, sv with
  | .inner _ i _ _ _, a1 :: a2 :: a3 :: a4 :: a5 :: a6 :: a7 :: a8 :: a9 :: sv' => (mm_w 3100 70 (q 29 i) (q 0 75) q).bind fun q1 => (et_ es a1).bind fun es' =>
    some (ts, es', sv', mm_u (mm_u (mm_u (mm_u (mm_u (mm_u (mm_u (mm_u q1 0 55 a2) 0 80 a3) 0 79 a4) 0 77 a5) 0 76 (if a6 = 1 then 1 else 0)) 0 75 a7) 0 74 a8) 0 73 a9)
  | _, _ => none
/-- variables of a LET: their names -/
def ve1 : tr_ → Int32 → Int32 → List enT → mm_S → Option (Int32 × List enT × mm_S)
  | .leaf, _, m, es, q => some (m, es, q)
  | .inner k i v _ r, o, m, es, q => if k = 58 then (dc_k z (q 29 i) (nI v.1) 4 o (q 0 73) 0 es (mm_u q 31 i o)).bind fun y => ve1 r (o + 1) (m + 1) y.1 y.2 else ve1 r o m es q
def ve2 : tr_ → mm_S → mm_S
  | .leaf, q => q
  | .inner k i _ _ r, q => if k = 59 then ve2 r (us_ (q 29 i + 1) (mm_u q 31 i (q 0 74))) else ve2 r q
def ve_ (t : tr_) (ts : List ctk) (es : List enT) (sv : List Int32) (q : mm_S) : Option ct_t := match t with
  | .leaf => none
  | .inner _ i _ l _ => (ve1 z l (q 0 74) 0 es (mm_u q 30 i (q 0 74))).bind fun y => some (ts, y.2.1, sv, ve2 l (us_ y.1 y.2.2))
def be_ (more : Int32) (ts : List ctk) (es : List enT) (sv : List Int32) (q : mm_S) : Option ct_t := match sv with
  | a1 :: a2 :: a3 :: sv' => (et_ es a1).bind fun es' => some (ts, es', sv', mm_u (mm_u (mm_u q 0 55 a2) 0 74 a3) 0 80 (q 0 80 + more))
  | _ => none
def bb_ (es : List enT) (sv : List Int32) (q : mm_S) (f : List Int32 → mm_S → Option ct_t) : Option ct_t := pus [q 0 74, q 0 55, nI es.length] sv fun sv1 => f sv1 (mm_u q 0 55 (nI es.length))
/-- labels of a section, of a part of it -/
def lb2 (c : Nat) : tr_ → List enT → mm_S → Option (List enT × mm_S)
  | .leaf, es, q => some (es, q)
  | .inner k i v _ r, es, q => if k = 42 then (dc_k z (q 29 i) (nI v.1) 5 (nI c) (q 0 73) (q 0 77) es q).bind fun y => lb2 c r y.1 y.2 else lb2 c r es q
def lb1 (n : Nat) : tr_ → List enT → mm_S → Option (List enT × mm_S)
  | .leaf, es, q => some (es, q)
  | .inner k i _ l r, es, q => if k = 41 then (lb2 z i l es (mm_u q 30 i (nI n))).bind fun y => lb1 n r y.1 y.2 else lb1 n r es q
def fo_ (t : tr_) (ts : List ctk) (es : List enT) (sv : List Int32) (q : mm_S) : Option ct_t := match t with
  | .leaf => none
  | .inner k i _ l _ =>
    if k = 59 then (cn_ z es l q).bind fun q1 => (gg_ z l 30000 q1).bind fun q2 => some (ts, es, sv, mm_u q2 29 i (gd_ 30000 q2))
    else match l with
      | .inner _ i0 v0 _ (.inner _ _ _ _ (.inner _ _ _ _ (.inner kb ib vb lb nb))) =>
        let b : tr_ := .inner kb ib vb lb nb
        (if rt_ nb < 0 then some (b, mm_u q 30 i 1) else (cn_ z es b (mm_u q 30 i 1)).bind fun q1 => some (nb, mm_u q1 30 i (q1 0 59))).bind fun y =>
        bb_ es sv (mm_u y.2 29 i (rt_ y.1)) fun sv1 q2 =>
        (dc_k z (mm_u q2 31 i (q2 0 74) 29 i0) (nI v0.1) 4 (q2 0 74) (q2 0 73) 0 es (mm_u q2 31 i (q2 0 74))).bind fun w =>
        let q3 := us_ 2 w.2
        tks [(2, y.1, 0), (10, .leaf, -1), (9, .leaf, 0)] ts w.1 sv1 (mm_u q3 0 79 (q3 0 79 + 1))
      | _ => none
/-- whether a case ahead has the same value -/
def tw_k (last : Nat) (q : mm_S) : List tr_ → Bool
  | [] => false
  | .leaf :: _ => false
  | .inner k i _ _ _ :: r => if i = last then false else if k = 43 ∧ q 30 i = 1 ∧ q 29 i = q 29 last then true else tw_k last q r
/-- labels of a part: cases and defaults -/
def sw2 (all : List tr_) (es : List enT) : tr_ → Bool → mm_S → Option (Bool × mm_S)
  | .leaf, o, q => some (o, q)
  | .inner k i v l r, o, q => if k = 44 then (if o = true then ft_ z 6 (nI v.1) q else some q).bind fun q1 => sw2 all es r true q1
    else if k = 43 then (cn_ z es l q).bind fun q1 =>
      let q2 := mm_u (mm_u q1 29 i (q1 0 59)) 30 i (if q1 0 58 = 0 then 0 else 1)
      (if q2 0 58 = 0 then some q2 else if tw_k i q2 all = true then ff_ z l q2 else some q2).bind fun q3 => sw2 all es r o q3
    else sw2 all es r o q
def sw1 (all : List tr_) (es : List enT) : tr_ → Bool → mm_S → Option (Bool × mm_S)
  | .leaf, o, q => some (o, q)
  | .inner _ _ _ l r, o, q => (sw2 z all es l o q).bind fun y => sw1 all es r y.1 y.2
def sw_ (t : tr_) (ts : List ctk) (es : List enT) (sv : List Int32) (q : mm_S) : Option ct_t := match t with
  | .leaf => none
  | .inner _ i _ l _ => (nxo l).bind fun ps => bb_ es sv q fun sv1 q1 => (lb1 z i l es (mm_u q1 0 80 (q1 0 80 + 1))).bind fun y => (sw1 z ((fs_ ps).flatMap fun c => fs_ (ch_r c)) y.1 ps false y.2).bind fun w => tks (chs 13 ps) ((9, .leaf, -1) :: ts) y.1 sv1 w.2
def asg (m : Int32) : Int32 → tr_ → List ctk
  | _, .leaf => []
  | j, .inner k i v l r => (if j < m then 4 else 3, .inner k i v l r, 0) :: asg m (j + 1) r
def gt_k (i : Nat) (tok : Int32) (es : List enT) (q : mm_S) : Option mm_S := match mn_k (q 29 i) es with
  | none => ft_ z 3 tok (mm_u q 31 i (-1))
  | some (_, e) => (if e.2.1 = 5 ∧ e.2.2.2.1 = q 0 73 ∧ e.2.2.2.2.1 = q 0 77 then some (mm_u q 31 i (-1)) else ft_ z 6 tok (mm_u q 31 i (-1))).bind fun q1 => some (mm_u q1 31 i e.2.2.1)
def co_ (t : tr_) (ts : List ctk) (es : List enT) (sv : List Int32) (q : mm_S) : Option ct_t := match t with
  | .leaf => none
  | .inner k i v l _ =>
    if k = 20 then tks (asg (q 29 i) 0 l) ts es sv q
    else if k = 21 then tks [(3, l, 0)] ts es sv q
    else if k = 22 ∨ k = 23 then (nxo l).bind fun a => tks [(3, l, 0), (2, a, 0)] ts es sv q
    else if k = 24 then (nxo l).bind fun a => (nxo a).bind fun b => tks [(3, l, 0), (2, a, 0), (2, b, 0)] ts es sv q
    else if k = 25 ∨ k = 26 then (nxo l).bind fun a => tks [(3, l, 0), (10, .leaf, 1), (2, a, 0), (10, .leaf, -1)] ts es sv q
    else if k = 38 then tks [(2, l, 0), (10, .leaf, -1)] ts es sv (mm_u q 0 79 (q 0 79 + 1))
    else if k = 39 ∨ k = 40 then (nxo l).bind fun a => tks [(2, l, 0), (10, .leaf, -1), (3, a, 0)] ts es sv (mm_u q 0 79 (q 0 79 + 1))
    else if k = 27 then (nxo l).bind fun a => (nxo a).bind fun b => tks [(3, a, 0), (3, b, 0), (11, t, 0)] ts es sv q
    else if k = 28 then tks [(3, l, 0), (12, t, 0)] ts es sv q
    else if k = 36 then bb_ es sv q fun sv1 q1 => (lb1 z i l es q1).bind fun y => tks ((fs_ l).map fun c => (if kd_ c = 41 then 13 else 1, c, 0)) ((9, .leaf, 0) :: ts) y.1 sv1 y.2
    else if k = 33 then (if q 0 77 = 0 then ft_ z 6 (nI v.1) q else some q).bind fun q1 => tks [(3, l, 0)] ts es sv q1
    else if k = 35 then (gt_k z i (nI v.1) es q).bind fun q1 => some (ts, es, sv, q1)
    else if ((k = 29 ∨ k = 30) ∧ q 0 79 = 0) ∨ (k = 31 ∧ q 0 80 = 0) ∨ (k = 32 ∧ q 0 76 ≠ 0) then (ft_ z 6 (nI v.1) q).bind fun q1 => some (ts, es, sv, q1)
    else some (ts, es, sv, q)
/-- what a name means where it stands -/
def naK (i : Nat) (tok : Int32) (es : List enT) (q : mm_S) : Option (Option (Nat × enT) × mm_S) := match mn_k (q 29 i) es with
  | none => (ft_ z 3 tok q).bind fun q1 => some (none, mm_u q1 30 i 0)
  | some (j, e) =>
    (if e.2.1 = 4 ∧ e.2.2.2.1 ≠ q 0 73 then ft_ z 5 tok (mm_u (mm_u q 30 i e.2.1) 31 i e.2.2.1) else some (mm_u (mm_u q 30 i e.2.1) 31 i e.2.2.1)).bind fun q1 =>
    (if e.2.1 = 5 then ft_ z 6 tok q1 else some q1).bind fun q2 => some (some (j, e), q2)
def pc_ (left : Bool) (t : tr_) (ts : List ctk) (es : List enT) (sv : List Int32) (q : mm_S) : Option ct_t := match t with
  | .leaf => none
  | .inner k i v _ _ =>
    if k = 1 then (naK z i (nI v.1) es q).bind fun y => (match y.1 with
      | none => some y.2
      | some (_, e) => if e.2.1 = 2 ∨ e.2.1 = 6 ∨ e.2.1 = 5 then ff_ z t y.2 else some y.2).bind fun q1 => some (ts, es, sv, q1)
    else (if k = 7 ∨ (k = 9 ∧ (q 29 i = 18 ∨ (left = true ∧ q 29 i = 19))) then some q else ff_ z t q).bind fun q1 => tks [(3, t, 0)] ts es sv q1
def tb_ (es : List enT) : tr_ → mm_S → Option mm_S
  | .leaf, q => some q
  | .inner k i v l r, q => (cn_ z es (.inner k i v l r) q).bind fun q1 => (ini (q1 0 81) (q1 0 59) q1).bind fun q2 => tb_ es r (mm_u q2 0 81 (q2 0 81 + 1))
/-- strings: a byte, a word, all words -/
def sb_k (x m j : Int32) : Option Int32 := if j = 0 then mm_a 3100 17 x z else if j < m then (mm_a 3100 16 x z).bind fun a => (mm_a 6000 14 (a + j - 1) z).bind fun b => some (b &&& 255) else some 0
def sw_k (x m k : Int32) : Option Int32 := (sb_k z x m (k + 3)).bind fun a => (sb_k z x m (k + 2)).bind fun b => (sb_k z x m (k + 1)).bind fun c => (sb_k z x m (k + 0)).bind fun e => some ((((((((0 : Int32) <<< (8 &&& 31)) ||| a) <<< (8 &&& 31)) ||| b) <<< (8 &&& 31) ||| c) <<< (8 &&& 31)) ||| e)
def sl_k (x m : Int32) : Nat → Int32 → mm_S → Option mm_S
  | 0, _, _ => none
  | f + 1, k, q => if k < m then (sw_k z x m k).bind fun v => (ini (q 0 81) v q).bind fun q1 => sl_k x m f (k + 4) (mm_u q1 0 81 (q1 0 81 + 1)) else some q
def ex_ (t : tr_) (ts : List ctk) (es : List enT) (sv : List Int32) (q : mm_S) : Option ct_t := match t with
  | .leaf => none
  | .inner k i v l _ =>
    if k = 1 then (naK z i (nI v.1) es q).bind fun y => some (ts, es, sv, y.2)
    else if k = 3 then (mm_a 3100 17 (q 29 i) z).bind fun m => (sl_k z (q 29 i) (m + 1) 2000 0 (mm_u q 31 i (q 0 81))).bind fun q1 => some (ts, es, sv, q1)
    else if k = 5 then (tb_ z es l (mm_u q 31 i (q 0 81))).bind fun q1 => some (ts, es, sv, q1)
    else if k = 4 then pus [q 0 77, q 0 79, q 0 80] sv fun sv1 => tks [(2, l, 0), (14, t, 0)] ts es sv1 (mm_u (mm_u (mm_u (mm_u q 0 78 (q 0 78 + 1)) 0 77 (q 0 78 + 1)) 0 79 0) 0 80 0)
    else if k = 8 then tks [(5, l, 0)] ts es sv q
    else if k = 6 then tks (chs 3 l) ts es sv (mm_u q 30 i (q 0 74))
    else tks (chs 3 l) ts es sv q
def go_k (x : ctk) (ts : List ctk) (es : List enT) (sv : List Int32) (q : mm_S) : Option ct_t :=
  if x.1 = 1 then deK z x.2.1 ts es sv q
  else if x.1 = 2 then co_ z x.2.1 ts es sv q
  else if x.1 = 3 then ex_ z x.2.1 ts es sv q
  else if x.1 = 4 then pc_ z true x.2.1 ts es sv q
  else if x.1 = 5 then pc_ z false x.2.1 ts es sv q
  else if x.1 = 6 then ro_ z x.2.1 ts es sv q
  else if x.1 = 7 then re_ x.2.1 ts es sv q
  else if x.1 = 8 then ve_ z x.2.1 ts es sv q
  else if x.1 = 9 then be_ x.2.2 ts es sv q
  else if x.1 = 10 then some (ts, es, sv, mm_u q 0 79 (q 0 79 + x.2.2))
  else if x.1 = 11 then fo_ z x.2.1 ts es sv q
  else if x.1 = 12 then sw_ z x.2.1 ts es sv q
  else if x.1 = 13 then (match ls_r (ch_r x.2.1) with
    | .leaf => none
    | .inner k i v l r => tks [(2, .inner k i v l r, 0)] ts es sv q)
  else match sv with
    | a1 :: a2 :: a3 :: sv' => some (ts, es, sv', mm_u (mm_u (mm_u q 0 80 a1) 0 79 a2) 0 77 a3)
    | _ => none
end cstep
