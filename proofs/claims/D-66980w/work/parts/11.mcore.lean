/-! ===== the machine of the reference's class: one object (0), its arrays by their field's number ===== -/
abbrev mm_S : Type := Nat → Nat → Int32
abbrev mm_O : Type := Option (Option pj_V × mm_S)
def mm_u (s : mm_S) (k i : Nat) (x : Int32) : mm_S := fun a b => if a = k then (if b = i then x else s a b) else s a b
def mm_in (i : Int32) (n : Nat) : Bool := decide (0 ≤ i) && decide (i.toNatClampNeg < n)
def mm_a (n k : Nat) (x : Int32) (s : mm_S) : Option Int32 := if mm_in x n then some (s k x.toNatClampNeg) else none
def mm_w (n k : Nat) (x y : Int32) (s : mm_S) : Option mm_S := if mm_in x n then some (mm_u s k x.toNatClampNeg y) else none
def pj_br {α : Type} (c : Jvm.ClassFile.Cond) (x y : Int32) (a b : α) : α := match c with
  | .eq => if x = y then a else b
  | .ne => if x = y then b else a
  | .lt => if x < y then a else b
  | .ge => if x < y then b else a
  | .gt => if y < x then a else b
  | .le => if y < x then b else a
def mm_01 (x : Int32) : Bool := decide (x = 0) || decide (x = 1)
/-- goes on when x is 0 or 1 -/
def mm_bz (x : Int32) (k : mm_O) : mm_O := match mm_01 x with
  | true => k
  | false => none
def mm_bV (r : mm_O) (k : mm_S → mm_O) : mm_O := match r with
  | some (none, s) => k s
  | _ => none
def mm_bI (r : mm_O) (k : Int32 → mm_S → mm_O) : mm_O := match r with
  | some (some (.inl x), s) => k x s
  | _ => none
/-- the instructions of pj_n -/
def pj_isN (i : Instr) : Bool := match i with
  | .getfield _ => false
  | .putfield _ => false
  | .getstatic _ => false
  | .iaload => false
  | .baload => false
  | .caload => false
  | .aaload => false
  | .iastore => false
  | .bastore => false
  | .castore => false
  | .aastore => false
  | .arraylength => false
  | .idiv => false
  | .irem => false
  | .ldiv => false
  | .lrem => false
  | .goto _ => false
  | .if_icmp _ _ => false
  | .if_acmp _ _ => false
  | .ifCond _ _ => false
  | .ifnull _ => false
  | .ifnonnull _ => false
  | .tableswitch _ _ _ _ => false
  | .lookupswitch _ _ => false
  | .invokestatic _ => false
  | .invokevirtual _ => false
  | .invokespecial _ => false
  | .invokeinterface _ _ => false
  | .ireturn => false
  | .lreturn => false
  | .areturn => false
  | .return_ => false
  | .new _ => false
  | .newarray _ => false
  | .anewarray _ => false
  | .checkcast _ => false
  | .instanceof _ => false
  | .athrow => false
  | .ldc _ => false
  | _ => true
def pj_wt : List pj_V → Nat
  | [] => 0
  | .inr (.inl _) :: r => 2 + pj_wt r
  | _ :: r => 1 + pj_wt r
/-- n arguments are there, and no more than 8 words below them -/
def pj_rm (n : Nat) (st : List pj_V) : Bool := Nat.ble n st.length && Nat.ble (pj_wt (st.drop n)) 8
/-- the first of n arguments is the object -/
def pj_rc (n : Nat) (st : List pj_V) : Bool := match (st.take n).getLast? with
  | some (.inr (.inr (.inl (some 0)))) => true
  | _ => false
section mmB
variable (lc : Nat → Int64) (ln ty : Nat → Nat) (sg : Nat → Nat × Nat) (sf : Nat → Bool) (rt : Nat) (code : List pj_E)
def mm_nx (B : List pj_E → pj_Ls → List pj_V → mm_S → mm_O) (jm : Nat → List pj_V → List pj_V → mm_S → mm_O) (r : List pj_E) (ls : pj_Ls) (st : List pj_V) (s : mm_S) : mm_O := match r with
  | [] => none
  | (q, _, _, _, some lv) :: _ => (pj_pk ls lv).bind fun vs => jm q vs st s
  | (q, j, n, m, none) :: r' => B ((q, j, n, m, none) :: r') ls st s
def mm_X (nx : List pj_E → pj_Ls → List pj_V → mm_S → mm_O) (ca : Nat → List pj_V → mm_S → mm_O) (i : Instr) (im : Int32) (r : List pj_E) (ls : pj_Ls) (st : List pj_V) (s : mm_S) : mm_O :=
  match pj_isN i with
  | true => match pj_n lc i im ls st with
    | some (ls, st) => nx r ls st s
    | none => none
  | false =>
    match i, st with
    | .getfield f, .inr (.inr (.inl (some 0))) :: st => match ln f with
      | 0 => nx r ls (vi_ (s 0 f) :: st) s
      | _ + 1 => nx r ls (vr_ (some f) :: st) s
    | .putfield f, .inl x :: .inr (.inr (.inl (some 0))) :: st => match ln f with
      | 0 => match ty f with
        | 0 => nx r ls st (mm_u s 0 f x)
        | _ + 1 => mm_bz x (nx r ls st (mm_u s 0 f x))
      | _ + 1 => none
    | .iaload, .inl x :: .inr (.inr (.inl (some f))) :: st => match ty f with
      | 0 => (mm_a (ln f) f x s).bind fun v => nx r ls (vi_ v :: st) s
      | _ + 1 => none
    | .baload, .inl x :: .inr (.inr (.inl (some f))) :: st => match ty f with
      | 0 => none
      | _ + 1 => (mm_a (ln f) f x s).bind fun v => nx r ls (vi_ v :: st) s
    | .iastore, .inl y :: .inl x :: .inr (.inr (.inl (some f))) :: st => match ty f with
      | 0 => (mm_w (ln f) f x y s).bind fun s => nx r ls st s
      | _ + 1 => none
    | .bastore, .inl y :: .inl x :: .inr (.inr (.inl (some f))) :: st => match ty f with
      | 0 => none
      | 1 => (mm_w (ln f) f x y.toInt8.toInt32 s).bind fun s => nx r ls st s
      | _ + 2 => (mm_w (ln f) f x (y &&& 1) s).bind fun s => nx r ls st s
    | .arraylength, .inr (.inr (.inl (some f))) :: st => match ln f with
      | 0 => none
      | n + 1 => nx r ls (vi_ (Int32.ofNat (n + 1)) :: st) s
    | .idiv, .inl y :: .inl x :: st => (pj_div x y).bind fun v => nx r ls (vi_ v :: st) s
    | .irem, .inl y :: .inl x :: st => (pj_rem x y).bind fun v => nx r ls (vi_ v :: st) s
    | .ldiv, .inr (.inl y) :: .inr (.inl x) :: st => (pj_ldiv x y).bind fun v => nx r ls (vl_ v :: st) s
    | .lrem, .inr (.inl y) :: .inr (.inl x) :: st => (pj_lrem x y).bind fun v => nx r ls (vl_ v :: st) s
    | .goto t, st => nx (pj_at code t.toNat) ls st s
    | .if_icmp c t, .inl y :: .inl x :: st => pj_br c x y (nx (pj_at code t.toNat) ls st s) (nx r ls st s)
    | .ifCond c t, .inl x :: st => pj_br c x 0 (nx (pj_at code t.toNat) ls st s) (nx r ls st s)
    | .invokestatic f, st => match pj_rm (sg f).1 st && (sf f || pj_rc (sg f).1 st) with
      | false => none
      | true => match (sg f).2 with
        | 0 => mm_bV (ca f (st.take (sg f).1).reverse s) fun s => nx r ls (st.drop (sg f).1) s
        | _ + 1 => mm_bI (ca f (st.take (sg f).1).reverse s) fun v s => nx r ls (vi_ v :: st.drop (sg f).1) s
    | .ireturn, [.inl x] => match rt with
      | 1 => some (some (vi_ x), s)
      | 4 => some (some (vi_ (x &&& 1)), s)
      | _ => none
    | .return_, [] => match rt with
      | 0 => some (none, s)
      | _ => none
    | _, _ => none
variable (ca : Nat → List pj_V → mm_S → mm_O) (jm : Nat → List pj_V → List pj_V → mm_S → mm_O)
def mm_B : Nat → List pj_E → pj_Ls → List pj_V → mm_S → mm_O
  | 0, _, _, _, _ => none
  | _ + 1, [], _, _, _ => none
  | k + 1, (_, i, _, im, _) :: r, ls, st, s => mm_X lc ln ty sg sf rt code (mm_nx (mm_B k) jm) ca i im r ls st s
end mmB
