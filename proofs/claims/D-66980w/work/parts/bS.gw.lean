/-! ===== well-formed trees: what the reference's parser leaves ===== -/
def isE_ (k : Nat) : Bool := decide (1 ≤ k) && decide (k ≤ 12)
def isC_ (k : Nat) : Bool := decide (20 ≤ k) && decide (k ≤ 40)
/-- the kinds of a row -/
def ks_ : tr_ → List Nat
  | .leaf => []
  | .inner k _ _ _ r => k :: ks_ r
/-- labels (and cases), then a command -/
def lbC (cs : Bool) : List Nat → Bool
  | [] => false
  | [k] => isC_ k
  | k :: r => (decide (k = 42) || (cs && (decide (k = 43) || decide (k = 44)))) && lbC cs r
/-- every item of a row has labels and a command -/
def itC (cs : Bool) : tr_ → Bool
  | .leaf => true
  | .inner k _ _ l r => (if k = 41 then lbC cs (ks_ l) else true) && itC cs r
/-- declarations first, then items -/
def bkC : List Nat → Bool
  | [] => true
  | k :: r => if k = 41 then r.all (fun j => decide (j = 41)) else (decide (50 ≤ k) && decide (k ≤ 53)) && bkC r
/-- parameters, then an expression or a command -/
def roC : List Nat → Bool
  | [] => false
  | [k] => isE_ k || isC_ k
  | k :: r => decide (k = 57) && roC r
/-- so many names, then as many that they begin with -/
def vaC (n : Nat) : List Nat → Bool
  | [] => decide (n = 0)
  | k :: r => if k = 58 then vaC (n + 1) r else decide (n = (k :: r).length) && (k :: r).all (fun j => isE_ j || decide (j = 59))
/-- the parts that a kind has -/
def shq (k : Nat) (a : Int32) (it : Bool → Bool) (ks : List Nat) : Bool := match k, ks with
    | 4, [c] => isC_ c
    | 5, e :: r => (e :: r).all isE_
    | 6, e :: r => (e :: r).all isE_ && decide ((e :: r).length ≤ 21)
    | 7, [e] => isE_ e
    | 8, [e] => isE_ e
    | 9, [e, f] => isE_ e && isE_ f
    | 10, [e] => isE_ e
    | 11, e :: f :: r => (e :: f :: r).all isE_
    | 12, [e, f, g] => isE_ e && (isE_ f && isE_ g)
    | 20, e :: r => (e :: r).all isE_ && (decide (nI ((e :: r).length / 2) = a) && decide ((e :: r).length % 2 = 0))
    | 21, [e] => decide (e = 6)
    | 22, [e, c] => isE_ e && isC_ c
    | 23, [e, c] => isE_ e && isC_ c
    | 24, [e, c, d] => isE_ e && (isC_ c && isC_ d)
    | 25, [e, c] => isE_ e && isC_ c
    | 26, [e, c] => isE_ e && isC_ c
    | 27, [n, e, f, c] => decide (n = 58) && (isE_ e && (isE_ f && isC_ c))
    | 27, [n, e, f, g, c] => decide (n = 58) && (isE_ e && (isE_ f && (isE_ g && isC_ c)))
    | 28, e :: c :: r => isE_ e && ((c :: r).all (fun j => decide (j = 41)) && it true)
    | 33, [e] => isE_ e
    | 36, r => bkC r && it false
    | 38, [c] => isC_ c
    | 39, [c, e] => isC_ c && isE_ e
    | 40, [c, e] => isC_ c && isE_ e
    | 41, r => lbC true r
    | 43, [e] => isE_ e
    | 50, e :: r => (e :: r).all (fun j => decide (j = 56))
    | 51, e :: r => (e :: r).all (fun j => decide (j = 56))
    | 52, e :: r => (e :: r).all (fun j => decide (j = 56))
    | 53, [k] => decide (k = 54) || decide (k = 55)
    | 53, k :: r => (k :: r).all (fun j => decide (j = 54))
    | 54, r => roC r
    | 55, r => vaC 0 r && decide (r ≠ [])
    | 56, [e] => isE_ e
    | 59, [e] => isE_ e
    | _, _ => false
def shl (k : Nat) : Bool := decide (k = 1) || (decide (k = 2) || (decide (k = 3) || (decide (k = 29) || (decide (k = 30) || (decide (k = 31) || (decide (k = 32) || (decide (k = 34) || (decide (k = 35) || (decide (k = 37) || (decide (k = 42) || (decide (k = 44) || (decide (k = 57) || decide (k = 58)))))))))))))
def shp (k : Nat) (a : Int32) (l : tr_) : Bool := if shl k = true then (ks_ l).isEmpty else shq k a (fun cs => itC cs l) (ks_ l)
/-- a row of trees that stand between two tokens, one behind the other -/
def gw_ : tr_ → Nat → Nat → Prop
  | .leaf, a, b => a ≤ b
  | .inner k _ v l r, a, b => ∃ m, (a ≤ v.2.2.2.1 ∧ v.2.2.2.1 ≤ v.1 ∧ v.1 ≤ m ∧ (k ≠ 37 → k ≠ 41 → v.1 < m)) ∧ shp k v.2.1 l = true ∧ gw_ l a m ∧ gw_ r m b
/-- one tree -/
def g1_ (B : Nat → Bool) (t : tr_) (a b : Nat) : Prop := ∃ k i v l, t = .inner k i v l .leaf ∧ B k = true ∧ gw_ t a b
section gwl
theorem gw_ub : ∀ {t : tr_} {a b c : Nat}, gw_ t a b → b ≤ c → gw_ t a c
  | .leaf, _, _, _, h, hc => Nat.le_trans h hc
  | .inner _ _ _ _ _, _, _, _, ⟨m, h1, h2, h3, h4⟩, hc => ⟨m, h1, h2, h3, gw_ub h4 hc⟩
theorem gw_lb : ∀ {t : tr_} {a b c : Nat}, gw_ t a b → c ≤ a → gw_ t c b
  | .leaf, _, _, _, h, hc => Nat.le_trans hc h
  | .inner _ _ _ _ _, _, _, _, ⟨m, ⟨h1, h1'⟩, h2, h3, h4⟩, hc => ⟨m, ⟨Nat.le_trans hc h1, h1'⟩, h2, gw_lb h3 hc, h4⟩
theorem gw_le : ∀ {t : tr_} {a b : Nat}, gw_ t a b → a ≤ b
  | .leaf, _, _, h => h
  | .inner _ _ _ _ _, _, _, ⟨m, h1, _, _, h4⟩ => by have := gw_le h4; omega
theorem gw_sn : ∀ {x y : tr_} {a m b : Nat}, gw_ x a m → gw_ y m b → gw_ (sn_ x y) a b
  | .leaf, _, _, _, _, h, h2 => gw_lb h2 h
  | .inner _ _ _ _ _, _, _, _, _, ⟨m', h1, h2, h3, h4⟩, h5 => ⟨m', h1, h2, h3, gw_sn h4 h5⟩
theorem ks_sn : ∀ (x y : tr_), ks_ (sn_ x y) = ks_ x ++ ks_ y
  | .leaf, _ => rfl
  | .inner k _ _ _ r, y => by
    show k :: ks_ (sn_ r y) = _
    rw [ks_sn r y]
    rfl
theorem ks_lk : ∀ (ts : List tr_), ks_ (lkT ts) = (ts.map ks_).flatten
  | [] => rfl
  | t :: r => by
    show ks_ (sn_ t (lkT r)) = _
    rw [ks_sn, ks_lk r]
    rfl
/-- a row of single trees between two tokens -/
def gr_ (B : Nat → Bool) : List tr_ → Nat → Nat → Prop
  | [], a, b => a ≤ b
  | t :: r, a, b => ∃ m, g1_ B t a m ∧ gr_ B r m b
theorem gr_lk {B : Nat → Bool} : ∀ {ts : List tr_} {a b : Nat}, gr_ B ts a b → gw_ (lkT ts) a b
  | [], _, _, h => h
  | _ :: _, _, _, ⟨m, ⟨_, _, _, _, _, _, h1⟩, h2⟩ => gw_sn h1 (gr_lk h2)
theorem gr_ks {B : Nat → Bool} : ∀ {ts : List tr_} {a b : Nat}, gr_ B ts a b → ks_ (lkT ts) = ts.map kd_ ∧ (ts.map kd_).all B = true
  | [], _, _, _ => ⟨rfl, rfl⟩
  | t :: r, _, _, ⟨m, ⟨k, i, v, l, e, hB, h1⟩, h2⟩ => by
    obtain ⟨q1, q2⟩ := gr_ks h2
    subst e
    refine ⟨?_, ?_⟩
    · show ks_ (sn_ _ (lkT r)) = _
      rw [ks_sn, q1]
      rfl
    · simp only [List.map_cons, List.all_cons, Bool.and_eq_true]
      exact ⟨hB, q2⟩
theorem gr_fi {B : Nat → Bool} : ∀ {ts : List tr_} {a b : Nat}, gr_ B ts a b → ∀ t ∈ ts, a ≤ fi_ t
  | [], _, _, _, t, ht => by simp at ht
  | u :: r, a, b, ⟨m, ⟨k, i, v, l, e, hB, h1⟩, h2⟩, t, ht => by
    rcases List.mem_cons.mp ht with rfl | ht
    · subst e
      obtain ⟨_, h3, _⟩ := h1
      exact h3.1
    · have q1 := gr_fi h2 t ht
      have q2 := gw_le h1
      omega
theorem gr_sn {B : Nat → Bool} {t : tr_} : ∀ {ts : List tr_} {a m b : Nat}, gr_ B ts a m → g1_ B t m b → gr_ B (ts ++ [t]) a b
  | [], a, m, b, h, ⟨k, i, v, l, e, hB, h1⟩ => ⟨b, ⟨k, i, v, l, e, hB, gw_lb h1 h⟩, Nat.le_refl _⟩
  | _ :: _, _, _, _, ⟨m', h1, h2⟩, h3 => ⟨m', h1, gr_sn h2 h3⟩
theorem gr_ub {B : Nat → Bool} : ∀ {ts : List tr_} {a b c : Nat}, gr_ B ts a b → b ≤ c → gr_ B ts a c
  | [], _, _, _, h, hc => Nat.le_trans h hc
  | _ :: _, _, _, _, ⟨m, h1, h2⟩, hc => ⟨m, h1, gr_ub h2 hc⟩
theorem g1_ub {B : Nat → Bool} {t : tr_} {a b c : Nat} (h : g1_ B t a b) (hc : b ≤ c) : g1_ B t a c := by
  obtain ⟨k, i, v, l, e, hB, h1⟩ := h
  exact ⟨k, i, v, l, e, hB, gw_ub h1 hc⟩
theorem g1_lb {B : Nat → Bool} {t : tr_} {a b c : Nat} (h : g1_ B t a b) (hc : c ≤ a) : g1_ B t c b := by
  obtain ⟨k, i, v, l, e, hB, h1⟩ := h
  exact ⟨k, i, v, l, e, hB, gw_lb h1 hc⟩
theorem g1_wk {B C : Nat → Bool} {t : tr_} {a b : Nat} (h : g1_ B t a b) (hc : ∀ k, B k = true → C k = true) : g1_ C t a b := by
  obtain ⟨k, i, v, l, e, hB, h1⟩ := h
  exact ⟨k, i, v, l, e, hc k hB, h1⟩
theorem g1_kd {B : Nat → Bool} {t : tr_} {a b : Nat} (h : g1_ B t a b) : B (kd_ t) = true := by
  obtain ⟨k, i, v, l, e, hB, h1⟩ := h
  subst e
  exact hB
/-- a new node -/
theorem g1_st {B C : Nat → Bool} {k tok n : Nat} {av : Int32} {ts : List tr_} {a m b : Nat} (hB : B k = true) (h : gr_ C ts a m) (ht : a ≤ tok ∧ tok < m) (hm : m ≤ b) (hs : shp k av (lkT ts) = true) : g1_ B (st_ k tok av n ts) a b := by
  refine ⟨k, n, (tok, av, 0, fm_ tok ts, false), lkT ts, rfl, hB, m, ⟨fm_ge ht.1 (gr_fi h), fm_le, by show tok ≤ m; omega, fun _ _ => ht.2⟩, hs, gr_lk h, hm⟩
theorem g1_41 {C : Nat → Bool} {tok n : Nat} {av : Int32} {ts : List tr_} {a m b : Nat} (h : gr_ C ts a m) (ht : a ≤ tok ∧ tok ≤ m) (hm : m ≤ b) (hs : shp 41 av (lkT ts) = true) : g1_ (fun k => decide (k = 41)) (st_ 41 tok av n ts) a b := by
  refine ⟨41, n, (tok, av, 0, fm_ tok ts, false), lkT ts, rfl, rfl, m, ⟨fm_ge ht.1 (gr_fi h), fm_le, ht.2, fun _ q => absurd rfl q⟩, hs, gr_lk h, hm⟩
theorem g1_lf {B : Nat → Bool} {k tok n : Nat} {av : Int32} {a b : Nat} (hB : B k = true) (h : a ≤ tok ∧ (tok < b ∨ k = 37 ∧ tok ≤ b)) (hs : shp k av .leaf = true) : g1_ B (lf_ k tok av n) a b := by
  refine ⟨k, n, (tok, av, 0, tok, false), .leaf, rfl, hB, b, ⟨h.1, Nat.le_refl _, by show tok ≤ b; omega, fun q _ => by show tok < b; omega⟩, hs, by show a ≤ b; omega, Nat.le_refl _⟩
end gwl
