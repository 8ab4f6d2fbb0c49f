/-! ===== constant ===== -/
section Kconst
variable {z q : mm_S} {ts : List (Nat × tr_ × Int32)} {es : List enT} {sv : List Int32}
def KQ (z : mm_S) (ts : List (Nat × tr_ × Int32)) (es : List enT) (sv : List Int32) (q : mm_S) (d n w : Nat) (s : mm_S) (o : mm_O) : Except Int32 Int32 → Prop
  | .error p => ∃ s', o = some (none, s') ∧ CR z s' (ts, es, sv, mm_u (fa_ 6 p q) 0 58 0)
  | .ok x => ∃ s', o = mJ (d + 3) 59 40 [vr_ (some 0), vi_ (nI n), vi_ (nI (w + 1))] [] s' ∧ CR z s' (ts, es, sv, q) ∧ s' 62 w = x ∧ (∀ f j, f = 60 ∨ f = 61 → j < n → s' f j = s f j) ∧ ∀ j, j < w → s' 62 j = s 62 j
/-- the rows behind the first ones -/
def nf_ : Nat → tr_ → tr_
  | 0, t => t
  | n + 1, t => nf_ n (nx_r t)
theorem nf_s : ∀ (n : Nat) (t : tr_), nf_ (n + 1) t = nx_r (nf_ n t)
  | 0, _ => rfl
  | n + 1, t => nf_s n (nx_r t)
theorem nf_l : ∀ (n : Nat), nf_ n .leaf = .leaf
  | 0 => rfl
  | n + 1 => nf_l n
theorem nf_Rc : ∀ (n : Nat) {t : tr_}, Rc z t → Rc z (nf_ n t)
  | 0, _, h => h
  | n + 1, .leaf, _ => by rw [nf_l]; trivial
  | n + 1, .inner _ _ _ _ r, h => nf_Rc n h.2.2.2
theorem nf_ne : ∀ (j : Nat) (m : Nat) {t : tr_}, nf_ m t ≠ .leaf → j ≤ m → nf_ j t ≠ .leaf
  | 0, 0, _, h, _ => h
  | 0, m + 1, .leaf, h, _ => absurd (nf_l (m + 1)) h
  | 0, m + 1, .inner _ _ _ _ _, _, _ => by simp [nf_]
  | j + 1, 0, _, _, h => absurd h (by omega)
  | j + 1, m + 1, t, h, hj => nf_ne j m (t := nx_r t) h (by omega)
theorem kv_0 {k i : Nat} {v : Nat × Int32 × Nat × Nat × Bool} {l r : tr_} {n w : Nat} : kv_ z es q (.inner k i v l r) 0 0 n w = (if 26000 ≤ n ∨ 26000 ≤ w then none else if k = 2 then some (.ok (q 29 i))
      else if k = 1 then (mn_k (q 29 i) es).bind fun e => some (.ok e.2.2.2.1)
      else if k = 12 then kxb (kv_ z es q l 0 0 (n + 1) w) fun c => match l with
        | .leaf => none
        | .inner _ _ _ _ m => if c = 0 then (match m with
          | .leaf => none
          | .inner _ _ _ _ m2 => kv_ z es q m2 0 0 n w) else kv_ z es q m 0 0 n w
      else if k = 10 then kxb (kv_ z es q l 0 0 (n + 1) w) fun c => some (.ok (sg_n (q 29 i) c))
      else if k = 11 then kxb (kv_ z es q l 0 0 (n + 1) w) fun c => match l with
        | .leaf => none
        | .inner _ _ _ _ m => kv_ z es q m 1 c (n + 1) (w + 1)
      else kxb (kv_ z es q l 0 0 (n + 1) w) fun c => match l with
        | .leaf => none
        | .inner _ _ _ _ m => kxb (kv_ z es q m 0 0 (n + 1) (w + 1)) fun b =>
          if (q 29 i = 24 ∨ q 29 i = 73) ∧ b = 0 then (pl_k z (nI v.1)).bind fun p => some (.error p) else (wk_ (q 29 i) c b).bind fun x => some (.ok x)) := by
  have e : ∀ x : kx_, (kxb x fun b => some (.ok b)) = x := fun x => by
    cases x with
    | none => rfl
    | some y => cases y <;> rfl
  rw [kv_]
  by_cases c : 26000 ≤ n ∨ 26000 ≤ w
  · rw [if_pos c, if_pos c]
  · rw [if_neg c, if_neg c]
    simp only [if_true]
    rw [e]
    rfl
theorem kv_1 {k i : Nat} {v : Nat × Int32 × Nat × Nat × Bool} {l r : tr_} {a : Int32} {n w : Nat} : kv_ z es q (.inner k i v l r) 1 a n w = kxb (kv_ z es q (.inner k i v l r) 0 0 n w) fun b => if rl_ (z 33 i) a b = true then (match r with
      | .leaf => some (.ok (-1))
      | .inner k2 i2 v2 l2 r2 => kv_ z es q (.inner k2 i2 v2 l2 r2) 1 b n w) else some (.ok 0) := by
  rw [kv_0, kv_]
  by_cases c : 26000 ≤ n ∨ 26000 ≤ w
  · rw [if_pos c, if_pos c]; rfl
  · rw [if_neg c, if_neg c]
    simp only [if_neg (show ¬ (1 : Nat) = 0 by decide)]
    rfl
theorem m_later (d : Nat) {n : Nat} {x : Int32} {s : mm_S} (hn : n < 26000) : mE (d + 1) 60 [vr_ (some 0), vi_ (nI n), vi_ x] s = some (some (vi_ (nI (n + 1))), mm_u (mm_u s 60 n x) 61 n 0) := by
  rw [me_later, mm_w_n hn (by decide), Option.bind_some, mm_w_n hn (by decide), Option.bind_some, nI_1]
end Kconst
