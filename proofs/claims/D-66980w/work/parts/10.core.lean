/-! ===== least fixpoints of functionals over partial functions ===== -/
section pjFix
variable {α β : Type}
def pj_le (f g : α → Option β) : Prop := ∀ x r, f x = some r → g x = some r
def pj_fx (F : (α → Option β) → α → Option β) : Nat → α → Option β
  | 0 => fun _ => none
  | n + 1 => F (pj_fx F n)
noncomputable def pj_lfp (F : (α → Option β) → α → Option β) (x : α) : Option β :=
  @dite _ (∃ n r, pj_fx F n x = some r) (Classical.propDecidable _) (fun h => pj_fx F h.choose x) (fun _ => none)
def pj_mono (F : (α → Option β) → α → Option β) : Prop := ∀ f g, pj_le f g → pj_le (F f) (F g)
/-- what F answers over the limit of a rising row it answers over one of the row -/
def pj_cpt (F : (α → Option β) → α → Option β) : Prop := ∀ (f : Nat → α → Option β) (g : α → Option β), (∀ n, pj_le (f n) (f (n + 1))) → (∀ x r, g x = some r → ∃ n, f n x = some r) → ∀ x r, F g x = some r → ∃ n, F (f n) x = some r
theorem pj_le_trans {f g h : α → Option β} (a : pj_le f g) (b : pj_le g h) : pj_le f h := fun x r q => b x r (a x r q)
theorem pj_fx_up {F : (α → Option β) → α → Option β} (hm : pj_mono F) : ∀ n, pj_le (pj_fx F n) (pj_fx F (n + 1)) := by
  intro n
  induction n with
  | zero => intro x r h; cases h
  | succ n ih => exact hm _ _ ih
theorem pj_up_le {f : Nat → α → Option β} (h : ∀ n, pj_le (f n) (f (n + 1))) {a b : Nat} (hab : a ≤ b) : pj_le (f a) (f b) := by
  induction hab with
  | refl => exact fun _ _ q => q
  | step _ ih => exact pj_le_trans ih (h _)
theorem pj_lfp_iff {F : (α → Option β) → α → Option β} (hm : pj_mono F) (x : α) (r : β) : pj_lfp F x = some r ↔ ∃ n, pj_fx F n x = some r := by
  constructor
  · intro h
    unfold pj_lfp at h
    split at h
    · exact ⟨_, h⟩
    · cases h
  · rintro ⟨n, h⟩
    have hex : ∃ n r, pj_fx F n x = some r := ⟨n, r, h⟩
    unfold pj_lfp
    rw [dif_pos hex]
    obtain ⟨r', h'⟩ := hex.choose_spec
    rw [h']
    have a := pj_up_le (pj_fx_up hm) (Nat.le_max_left n hex.choose) x r h
    have b := pj_up_le (pj_fx_up hm) (Nat.le_max_right n hex.choose) x r' h'
    rw [a] at b
    exact b.symm
theorem pj_lfp_eq {F : (α → Option β) → α → Option β} (hm : pj_mono F) (hc : pj_cpt F) (x : α) : pj_lfp F x = F (pj_lfp F) x := by
  apply Option.ext
  intro r
  rw [pj_lfp_iff hm]
  constructor
  · rintro ⟨n, h⟩
    cases n with
    | zero => cases h
    | succ n => exact hm _ _ (fun y q hq => (pj_lfp_iff hm y q).mpr ⟨n, hq⟩) x r h
  · intro h
    obtain ⟨n, h⟩ := hc (pj_fx F) (pj_lfp F) (pj_fx_up hm) (fun y q hq => (pj_lfp_iff hm y q).mp hq) x r h
    exact ⟨n + 1, h⟩
end pjFix
/-! ===== values, locals, plain instructions ===== -/
abbrev pj_V : Type := Int32 ⊕ Int64 ⊕ Option Nat ⊕ UInt32
abbrev vi_ (x : Int32) : pj_V := .inl x
abbrev vl_ (x : Int64) : pj_V := .inr (.inl x)
abbrev vr_ (r : Option Nat) : pj_V := .inr (.inr (.inl r))
abbrev vf_ (b : UInt32) : pj_V := .inr (.inr (.inr b))
abbrev pj_Ls : Type := List (Option pj_V)
/-- pc, instruction (pool numbers resolved, targets absolute), next pc, immediate, at a cut point: the live locals -/
abbrev pj_E : Type := Nat × Instr × Nat × Int32 × Option (List Nat)
def pj_g : pj_Ls → Nat → Option pj_V
  | [], _ => none
  | x :: _, 0 => x
  | _ :: r, i + 1 => pj_g r i
def pj_kill : Option pj_V → Option pj_V
  | some (.inr (.inl _)) => none
  | x => x
def pj_s1 : pj_Ls → Nat → pj_V → pj_Ls
  | [], _, _ => []
  | _ :: r, 0, v => some v :: r
  | x :: r, i + 1, v => (match i with | 0 => pj_kill x | _ + 1 => x) :: pj_s1 r i v
def pj_cl : pj_Ls → Nat → pj_Ls
  | [], _ => []
  | _ :: r, 0 => none :: r
  | x :: r, i + 1 => x :: pj_cl r i
def pj_s2 (l : pj_Ls) (i : Nat) (v : pj_V) : pj_Ls := pj_cl (pj_s1 l i v) (i + 1)
def pj_pk : pj_Ls → List Nat → Option (List pj_V)
  | _, [] => some []
  | l, i :: is => (pj_g l i).bind fun v => (pj_pk l is).bind fun vs => some (v :: vs)
def pj_st : pj_Ls → Nat → pj_V → pj_Ls
  | [], _, _ => []
  | _ :: r, 0, v => some v :: r
  | x :: r, i + 1, v => x :: pj_st r i v
def pj_mk (n : Nat) : List Nat → List pj_V → pj_Ls
  | i :: is, v :: vs => pj_st (pj_mk n is vs) i v
  | _, _ => List.replicate n none
def pj_sl : List pj_V → pj_Ls
  | [] => []
  | .inr (.inl x) :: r => some (vl_ x) :: none :: pj_sl r
  | v :: r => some v :: pj_sl r
def pj_en (n : Nat) (as : List pj_V) : pj_Ls := pj_sl as ++ List.replicate (n - (pj_sl as).length) none
def pj_at : List pj_E → Nat → List pj_E
  | [], _ => []
  | (q, i) :: r, pc => if q = pc then (q, i) :: r else pj_at r pc
def pj_div (x y : Int32) : Option Int32 := if y = 0 then none else some (x / y)
def pj_rem (x y : Int32) : Option Int32 := if y = 0 then none else some (x - x / y * y)
def pj_ldiv (x y : Int64) : Option Int64 := if y = 0 then none else some (x / y)
def pj_lrem (x y : Int64) : Option Int64 := if y = 0 then none else some (x - x / y * y)
/-- instructions without heap and jump: new locals and stack -/
def pj_n (lc : Nat → Int64) (i : Instr) (im : Int32) (ls : pj_Ls) (st : List pj_V) : Option (pj_Ls × List pj_V) :=
  match i, st with
  | .iconst _, st => some (ls, vi_ im :: st)
  | .ldc2_w k, st => some (ls, vl_ (lc k) :: st)
  | .aconst_null, st => some (ls, vr_ none :: st)
  | .iload_n n, st => match pj_g ls n.val with
    | some (.inl x) => some (ls, vi_ x :: st)
    | _ => none
  | .iload n, st => match pj_g ls n with
    | some (.inl x) => some (ls, vi_ x :: st)
    | _ => none
  | .lload_n n, st => match pj_g ls n.val with
    | some (.inr (.inl x)) => some (ls, vl_ x :: st)
    | _ => none
  | .lload n, st => match pj_g ls n with
    | some (.inr (.inl x)) => some (ls, vl_ x :: st)
    | _ => none
  | .aload_n n, st => match pj_g ls n.val with
    | some (.inr (.inr (.inl x))) => some (ls, vr_ x :: st)
    | _ => none
  | .aload n, st => match pj_g ls n with
    | some (.inr (.inr (.inl x))) => some (ls, vr_ x :: st)
    | _ => none
  | .istore_n n, .inl x :: st => some (pj_s1 ls n.val (vi_ x), st)
  | .istore n, .inl x :: st => some (pj_s1 ls n (vi_ x), st)
  | .lstore_n n, .inr (.inl x) :: st => some (pj_s2 ls n.val (vl_ x), st)
  | .lstore n, .inr (.inl x) :: st => some (pj_s2 ls n (vl_ x), st)
  | .astore_n n, .inr (.inr (.inl x)) :: st => some (pj_s1 ls n.val (vr_ x), st)
  | .astore n, .inr (.inr (.inl x)) :: st => some (pj_s1 ls n (vr_ x), st)
  | .iinc n _, st => match pj_g ls n with
    | some (.inl x) => some (pj_s1 ls n (vi_ (x + im)), st)
    | _ => none
  | .pop, .inl _ :: st => some (ls, st)
  | .pop, .inr (.inr _) :: st => some (ls, st)
  | .dup, .inl x :: st => some (ls, vi_ x :: vi_ x :: st)
  | .dup, .inr (.inr x) :: st => some (ls, .inr (.inr x) :: .inr (.inr x) :: st)
  | .dup_x1, .inl x :: .inl y :: st => some (ls, vi_ x :: vi_ y :: vi_ x :: st)
  | .dup_x1, .inl x :: .inr (.inr y) :: st => some (ls, vi_ x :: .inr (.inr y) :: vi_ x :: st)
  | .dup_x1, .inr (.inr x) :: .inr (.inr y) :: st => some (ls, .inr (.inr x) :: .inr (.inr y) :: .inr (.inr x) :: st)
  | .dup2, .inl x :: .inr (.inr y) :: st => some (ls, vi_ x :: .inr (.inr y) :: vi_ x :: .inr (.inr y) :: st)
  | .iadd, .inl y :: .inl x :: st => some (ls, vi_ (x + y) :: st)
  | .isub, .inl y :: .inl x :: st => some (ls, vi_ (x - y) :: st)
  | .imul, .inl y :: .inl x :: st => some (ls, vi_ (x * y) :: st)
  | .iand, .inl y :: .inl x :: st => some (ls, vi_ (x &&& y) :: st)
  | .ior, .inl y :: .inl x :: st => some (ls, vi_ (x ||| y) :: st)
  | .ixor, .inl y :: .inl x :: st => some (ls, vi_ (x ^^^ y) :: st)
  | .ineg, .inl x :: st => some (ls, vi_ (-x) :: st)
  | .ishl, .inl y :: .inl x :: st => some (ls, vi_ (x <<< (y &&& 31)) :: st)
  | .ishr, .inl y :: .inl x :: st => some (ls, vi_ (x >>> (y &&& 31)) :: st)
  | .iushr, .inl y :: .inl x :: st => some (ls, vi_ (x.toUInt32 >>> (y.toUInt32 &&& Int32.toUInt32 31)).toInt32 :: st)
  | .i2b, .inl x :: st => some (ls, vi_ x.toInt8.toInt32 :: st)
  | .i2c, .inl x :: st => some (ls, vi_ (x.toUInt32 % 65536).toInt32 :: st)
  | .i2l, .inl x :: st => some (ls, vl_ x.toInt64 :: st)
  | .l2i, .inr (.inl x) :: st => some (ls, vi_ x.toInt32 :: st)
  | .ladd, .inr (.inl y) :: .inr (.inl x) :: st => some (ls, vl_ (x + y) :: st)
  | .lsub, .inr (.inl y) :: .inr (.inl x) :: st => some (ls, vl_ (x - y) :: st)
  | .lmul, .inr (.inl y) :: .inr (.inl x) :: st => some (ls, vl_ (x * y) :: st)
  | .lneg, .inr (.inl x) :: st => some (ls, vl_ (-x) :: st)
  | .lshr, .inl y :: .inr (.inl x) :: st => some (ls, vl_ (x >>> (y.toInt64 &&& 63)) :: st)
  | .lcmp, .inr (.inl y) :: .inr (.inl x) :: st => some (ls, vi_ (lg_cmp x y) :: st)
  | _, _ => none
