/-! ===== the machine of the component's classes and of the JDK's: over any memory, given by its operations ===== -/
section cxCore
variable {σ : Type}
abbrev cx_O (σ : Type) : Type := Option ((Option pj_V ⊕ Nat) × σ)
def cx_th (a : Nat) (s : σ) : cx_O σ := some (.inr a, s)
def cx_bV (h : Nat → σ → cx_O σ) (r : cx_O σ) (k : σ → cx_O σ) : cx_O σ := match r with
  | some (.inl none, s) => k s
  | some (.inr a, s) => h a s
  | _ => none
def cx_bI (h : Nat → σ → cx_O σ) (r : cx_O σ) (k : Int32 → σ → cx_O σ) : cx_O σ := match r with
  | some (.inl (some (.inl x)), s) => k x s
  | some (.inr a, s) => h a s
  | _ => none
def cx_bL (h : Nat → σ → cx_O σ) (r : cx_O σ) (k : Int64 → σ → cx_O σ) : cx_O σ := match r with
  | some (.inl (some (.inr (.inl x))), s) => k x s
  | some (.inr a, s) => h a s
  | _ => none
def cx_bR (h : Nat → σ → cx_O σ) (r : cx_O σ) (k : Option Nat → σ → cx_O σ) : cx_O σ := match r with
  | some (.inl (some (.inr (.inr (.inl x)))), s) => k x s
  | some (.inr a, s) => h a s
  | _ => none
/-- a class test of a handler or of instanceof -/
def cx_ib {α : Type} (b : Bool) (x y : α) : α := match b with
  | true => x
  | false => y
def cx_sw {α : Type} (x : Int32) (d : Int) (k : Nat → α) : List (Int × Int) → α
  | [] => k d.toNat
  | (c, t) :: r => if x = Int32.ofInt c then k t.toNat else cx_sw x d k r
def cx_hd (ht : List (Nat × Nat × Nat × Nat)) (pc : Nat) : Option (Nat × Nat) := match ht with
  | [] => none
  | (a, b, h, c) :: r => if a ≤ pc ∧ pc < b then some (h, c) else cx_hd r pc
def cx_cst (io : Nat → Option Nat → σ → Option Bool) (c : Nat) (a : Option Nat) (s : σ) : Option Unit := match a with
  | none => some ()
  | some a => (io c (some a) s).bind fun b => cx_ib b (some ()) none
def cx_at (h : Nat → σ → cx_O σ) (a : Option Nat) (s : σ) : cx_O σ := match a with
  | some a => h a s
  | none => none
variable (lc : Nat → Int64) (gi : Nat → Option Nat → σ → Option Int32) (gr : Nat → Option Nat → σ → Option (Option Nat)) (pi : Nat → Option Nat → Int32 → σ → Option σ) (pr : Nat → Option Nat → Option Nat → σ → Option σ) (ai : Nat → Option Nat → Int32 → σ → Option Int32) (ar : Option Nat → Int32 → σ → Option (Option Nat)) (wi : Nat → Option Nat → Int32 → Int32 → σ → Option σ) (wr : Option Nat → Int32 → Option Nat → σ → Option σ) (an : Option Nat → σ → Option Int32) (nw : Nat → σ → Nat × σ) (na : Nat → Int32 → σ → Option (Nat × σ)) (io : Nat → Option Nat → σ → Option Bool) (dp : Nat → Option Nat → σ → Option Nat)
variable (ft : Nat → Nat) (sg : Nat → Nat × Nat) (rt : Nat) (ht : List (Nat × Nat × Nat × Nat)) (code : List pj_E)
def cx_nx (B : List pj_E → pj_Ls → List pj_V → σ → cx_O σ) (jm : Nat → List pj_V → List pj_V → σ → cx_O σ) (r : List pj_E) (ls : pj_Ls) (st : List pj_V) (s : σ) : cx_O σ := match r with
  | [] => none
  | (q, _, _, _, some lv) :: _ => (pj_pk ls lv).bind fun vs => jm q vs st s
  | (q, j, n, m, none) :: r' => B ((q, j, n, m, none) :: r') ls st s
/-- a thrown object at pc: to this method's handler, or out -/
def cx_hx (nx : List pj_E → pj_Ls → List pj_V → σ → cx_O σ) (pc : Nat) (ls : pj_Ls) : Nat → σ → cx_O σ := match cx_hd ht pc with
  | none => cx_th
  | some (h, c) => fun a s => (io c (some a) s).bind fun b => cx_ib b (nx (pj_at code h) ls [vr_ (some a)] s) (some (.inr a, s))
def cx_call (nx : List pj_E → pj_Ls → List pj_V → σ → cx_O σ) (ca : Nat → List pj_V → σ → cx_O σ) (h : Nat → σ → cx_O σ) (f rk : Nat) (as : List pj_V) (r : List pj_E) (ls : pj_Ls) (st : List pj_V) (s : σ) : cx_O σ := match rk with
  | 0 => cx_bV h (ca f as s) fun s => nx r ls st s
  | 2 => cx_bL h (ca f as s) fun v s => nx r ls (vl_ v :: st) s
  | 3 => cx_bR h (ca f as s) fun v s => nx r ls (vr_ v :: st) s
  | _ => cx_bI h (ca f as s) fun v s => nx r ls (vi_ v :: st) s
def cx_rc (n : Nat) (st : List pj_V) : Option (Option Nat) := match (st.take n).getLast? with
  | some (.inr (.inr (.inl r))) => some r
  | _ => none
def cx_X (nx : List pj_E → pj_Ls → List pj_V → σ → cx_O σ) (ca : Nat → List pj_V → σ → cx_O σ) (pc : Nat) (i : Instr) (im : Int32) (r : List pj_E) (ls : pj_Ls) (st : List pj_V) (s : σ) : cx_O σ :=
  match pj_isN i with
  | true => match pj_n lc i im ls st with
    | some (ls, st) => nx r ls st s
    | none => none
  | false =>
    match i, st with
    | .ldc k, st => nx r ls (vr_ (some k) :: st) s
    | .newarray .float, st => nx r ls (vf_ im.toUInt32 :: st) s
    | .getstatic k, st => nx r ls (vr_ (some k) :: st) s
    | .getfield f, .inr (.inr (.inl a)) :: st => match ft f with
      | 0 => (gi f a s).bind fun v => nx r ls (vi_ v :: st) s
      | _ + 1 => (gr f a s).bind fun v => nx r ls (vr_ v :: st) s
    | .putfield f, .inl x :: .inr (.inr (.inl a)) :: st => match ft f with
      | 0 => (pi f a x s).bind fun s => nx r ls st s
      | _ + 1 => none
    | .putfield f, .inr (.inr (.inl x)) :: .inr (.inr (.inl a)) :: st => match ft f with
      | 0 => none
      | _ + 1 => (pr f a x s).bind fun s => nx r ls st s
    | .putfield f, .inr (.inr (.inr _)) :: .inr (.inr (.inl a)) :: st => (pi f a 0 s).bind fun s => nx r ls st s
    | .iaload, .inl x :: .inr (.inr (.inl a)) :: st => (ai 0 a x s).bind fun v => nx r ls (vi_ v :: st) s
    | .baload, .inl x :: .inr (.inr (.inl a)) :: st => (ai 1 a x s).bind fun v => nx r ls (vi_ v :: st) s
    | .caload, .inl x :: .inr (.inr (.inl a)) :: st => (ai 2 a x s).bind fun v => nx r ls (vi_ v :: st) s
    | .aaload, .inl x :: .inr (.inr (.inl a)) :: st => (ar a x s).bind fun v => nx r ls (vr_ v :: st) s
    | .iastore, .inl y :: .inl x :: .inr (.inr (.inl a)) :: st => (wi 0 a x y s).bind fun s => nx r ls st s
    | .bastore, .inl y :: .inl x :: .inr (.inr (.inl a)) :: st => (wi 1 a x y s).bind fun s => nx r ls st s
    | .castore, .inl y :: .inl x :: .inr (.inr (.inl a)) :: st => (wi 2 a x y s).bind fun s => nx r ls st s
    | .aastore, .inr (.inr (.inl y)) :: .inl x :: .inr (.inr (.inl a)) :: st => (wr a x y s).bind fun s => nx r ls st s
    | .arraylength, .inr (.inr (.inl a)) :: st => (an a s).bind fun v => nx r ls (vi_ v :: st) s
    | .new c, st => nx r ls (vr_ (some (nw c s).1) :: st) (nw c s).2
    | .anewarray c, .inl x :: st => (na c x s).bind fun q => nx r ls (vr_ (some q.1) :: st) q.2
    | .checkcast c, .inr (.inr (.inl a)) :: st => (cx_cst io c a s).bind fun _ => nx r ls (vr_ a :: st) s
    | .instanceof c, .inr (.inr (.inl a)) :: st => (io c a s).bind fun b => nx r ls (vi_ (cx_ib b 1 0) :: st) s
    | .idiv, .inl y :: .inl x :: st => (pj_div x y).bind fun v => nx r ls (vi_ v :: st) s
    | .irem, .inl y :: .inl x :: st => (pj_rem x y).bind fun v => nx r ls (vi_ v :: st) s
    | .ldiv, .inr (.inl y) :: .inr (.inl x) :: st => (pj_ldiv x y).bind fun v => nx r ls (vl_ v :: st) s
    | .goto t, st => nx (pj_at code t.toNat) ls st s
    | .if_icmp c t, .inl y :: .inl x :: st => pj_br c x y (nx (pj_at code t.toNat) ls st s) (nx r ls st s)
    | .ifCond c t, .inl x :: st => pj_br c x 0 (nx (pj_at code t.toNat) ls st s) (nx r ls st s)
    | .if_acmp c t, .inr (.inr (.inl y)) :: .inr (.inr (.inl x)) :: st => match c with
      | .eq => if x = y then nx (pj_at code t.toNat) ls st s else nx r ls st s
      | .ne => if x = y then nx r ls st s else nx (pj_at code t.toNat) ls st s
    | .ifnull t, .inr (.inr (.inl x)) :: st => if x = none then nx (pj_at code t.toNat) ls st s else nx r ls st s
    | .ifnonnull t, .inr (.inr (.inl x)) :: st => if x = none then nx r ls st s else nx (pj_at code t.toNat) ls st s
    | .lookupswitch d ps, .inl x :: st => cx_sw x d (fun t => nx (pj_at code t) ls st s) ps.toList
    | .invokestatic f, st => match pj_rm (sg f).1 st with
      | false => none
      | true => cx_call nx ca (cx_hx io ht code nx pc ls) f (sg f).2 (st.take (sg f).1).reverse r ls (st.drop (sg f).1) s
    | .invokevirtual f, st => match pj_rm (sg f).1 st with
      | false => none
      | true => (cx_rc (sg f).1 st).bind fun a => (dp f a s).bind fun g => cx_call nx ca (cx_hx io ht code nx pc ls) g (sg f).2 (st.take (sg f).1).reverse r ls (st.drop (sg f).1) s
    | .athrow, [.inr (.inr (.inl a))] => cx_at (cx_hx io ht code nx pc ls) a s
    | .ireturn, [.inl x] => match rt with
      | 1 => some (.inl (some (vi_ x)), s)
      | 4 => some (.inl (some (vi_ (x &&& 1))), s)
      | 5 => some (.inl (some (vi_ (x.toUInt32 % 65536).toInt32)), s)
      | _ => none
    | .lreturn, [.inr (.inl x)] => match rt with
      | 2 => some (.inl (some (vl_ x)), s)
      | _ => none
    | .areturn, [.inr (.inr (.inl x))] => match rt with
      | 3 => some (.inl (some (vr_ x)), s)
      | _ => none
    | .return_, [] => match rt with
      | 0 => some (.inl none, s)
      | _ => none
    | _, _ => none
variable (ca : Nat → List pj_V → σ → cx_O σ) (jm : Nat → List pj_V → List pj_V → σ → cx_O σ)
def cx_B : Nat → List pj_E → pj_Ls → List pj_V → σ → cx_O σ
  | 0, _, _, _, _ => none
  | _ + 1, [], _, _, _ => none
  | k + 1, (pc, i, _, im, _) :: r, ls, st, s => cx_X lc gi gr pi pr ai ar wi wr an nw na io dp ft sg rt ht code (cx_nx (cx_B k) jm) ca pc i im r ls st s
end cxCore
