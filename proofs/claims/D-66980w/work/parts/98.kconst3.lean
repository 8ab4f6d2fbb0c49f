/-! ===== constant: rows of relations; the whole ===== -/
def il_k : tr_ → Bool
  | .leaf => true
  | .inner _ _ _ _ _ => false
section Krel2
variable {z q s : mm_S} {ts : List (Nat × tr_ × Int32)} {es : List enT} {sv : List Int32} {n w : Nat}
theorem kt_297 (d : Nat) {x2 x3 x4 : Int32} {S : Nat} {L : tr_} (hS : S < 2 ^ 31) (h : CR z s (ts, es, sv, q)) (hL : Rc z L) (hne : ∀ j, j < S → nf_ j L ≠ .leaf) : ∀ m j, j + m = S → mJ (d + 3) 59 297 [vr_ (some 0), vi_ x2, vi_ x3, vi_ x4, vi_ (nI S), vi_ (rt_ (nf_ j L)), vi_ (nI j)] [] s = mJ (d + 3) 59 297 [vr_ (some 0), vi_ x2, vi_ x3, vi_ x4, vi_ (nI S), vi_ (rt_ (nf_ S L)), vi_ (nI S)] [] s
  | 0, j, hj => by
    have : j = S := by omega
    rw [this]
  | m + 1, j, hj => by
    have ih := kt_297 d (x2 := x2) (x3 := x3) (x4 := x4) hS h hL hne m (j + 1) (by omega)
    rw [← ih, mj_constant_297, if_pos (by rw [nlt_ (by omega) hS]; omega)]
    have hr := nf_Rc (z := z) j hL
    rw [nf_s]
    cases ht : nf_ j L with
    | leaf => exact absurd ht (hne j (by omega))
    | inner k i v l r =>
      rw [ht] at hr
      have h28 : s 28 i = rt_ r := (h.1 28 i (by unfold kS; omega) (by unfold kD; omega)).trans hr.2.1.2.2.2.1
      rw [show rt_ (.inner k i v l r : tr_) = nI i from rfl, mm_a_n hr.1.1 (by decide), Option.bind_some, h28, nI_1]
      rfl
theorem kt_360 (d : Nat) {x2 x3 x7 : Int32} {S : Nat} {L : tr_} (hS : S < 2 ^ 31) (h : CR z s (ts, es, sv, q)) (hL : Rc z L) (hne : ∀ j, j < S → nf_ j L ≠ .leaf) : ∀ m j, j + 1 + m = S → mJ (d + 3) 59 360 [vr_ (some 0), vi_ x2, vi_ x3, vi_ (nI S), vi_ x7, vi_ (rt_ (nf_ j L)), vi_ (nI (j + 1))] [] s = mJ (d + 3) 59 360 [vr_ (some 0), vi_ x2, vi_ x3, vi_ (nI S), vi_ x7, vi_ (rt_ (nf_ (S - 1) L)), vi_ (nI S)] [] s
  | 0, j, hj => by
    have : j + 1 = S := by omega
    subst this
    rfl
  | m + 1, j, hj => by
    have ih := kt_360 d (x2 := x2) (x3 := x3) (x7 := x7) hS h hL hne m (j + 1) (by omega)
    rw [← ih, mj_constant_360, if_pos (by rw [nlt_ (by omega) hS]; omega)]
    have hr := nf_Rc (z := z) j hL
    rw [nf_s]
    cases ht : nf_ j L with
    | leaf => exact absurd ht (hne j (by omega))
    | inner k i v l r =>
      rw [ht] at hr
      have h28 : s 28 i = rt_ r := (h.1 28 i (by unfold kS; omega) (by unfold kD; omega)).trans hr.2.1.2.2.2.1
      rw [show rt_ (.inner k i v l r : tr_) = nI i from rfl, mm_a_n hr.1.1 (by decide), Option.bind_some, h28, nI_1]
      rfl
/-- second turn of a row of relations -/
theorem kt_rel1 (d : Nat) {I : Nat} {V : Nat × Int32 × Nat × Nat × Bool} {R : tr_} {k2 i2 : Nat} {v2 : Nat × Int32 × Nat × Nat × Bool} {l2 m : tr_} (h : CR z s (ts, es, sv, q)) (ht : Rc z (.inner 11 I V (.inner k2 i2 v2 l2 m) R)) (hn : n + 1 < 26000) (hs : s 60 n = nI I) (h0 : s 61 n = 1) : mJ (d + 3) 59 40 [vr_ (some 0), vi_ (nI (n + 1)), vi_ (nI w)] [] s = mJ (d + 3) 59 40 [vr_ (some 0), vi_ (nI (n + 2)), vi_ (nI w)] [] (kp_ s n 2 (n + 1) (rt_ m)) := by
  obtain ⟨⟨hi, hk1⟩, ⟨e25, e26, e27, e28, _⟩, hl, hr⟩ := ht
  have h25 : s 25 I = nI 11 := (h.1 25 I (by unfold kS; omega) (by unfold kD; omega)).trans e25
  have h27 : s 27 I = rt_ (nf_ 0 (.inner k2 i2 v2 l2 m)) := (h.1 27 I (by unfold kS; omega) (by unfold kD; omega)).trans e27
  rw [mj_constant_40, if_pos (by rw [nlt2_ 0 (by omega) (by omega)]; omega), n_m1, mm_a_n (by omega) (by decide), Option.bind_some, mm_a_n (by omega) (by decide), Option.bind_some, hs, mm_a_n hi (by decide), Option.bind_some, h25, h0]
  rw [if_neg (by decide), if_neg (by decide), if_neg (by decide), if_neg (by decide), if_pos (by decide), mm_a_n hi (by decide), Option.bind_some, h27]
  refine (kt_297 d (S := 1) (by decide) h hl (fun j hj => ?_) 1 0 rfl).trans ?_
  · have : j = 0 := by omega
    subst this
    simp [nf_]
  rw [mj_constant_297, if_neg (by decide), if_pos (by decide), show (nI 1 + 1 : Int32) = 2 from rfl, show mm_w 26000 61 (nI n) 2 s = some (mm_u s 61 n 2) from mm_w_n (by omega) (by decide), Option.bind_some, nI_1, m_later (d + 1) (by omega), bI_k]
  rfl
/-- a later turn -/
theorem kt_rel (d : Nat) {I c : Nat} {V : Nat × Int32 × Nat × Nat × Bool} {L R : tr_} {k i : Nat} {v : Nat × Int32 × Nat × Nat × Bool} {l r : tr_} {a b : Int32} (h : CR z s (ts, es, sv, q)) (ht : Rc z (.inner 11 I V L R)) (hc : nf_ c L = .inner k i v l r) (hc1 : 1 ≤ c) (hc2 : c < 30000) (hn : n + 1 < 26000) (hw : w + 1 < 26000) (hs : s 60 n = nI I) (h0 : s 61 n = nI (c + 1)) (ha : s 62 w = a) (hb : s 62 (w + 1) = b) :
    mJ (d + 3) 59 40 [vr_ (some 0), vi_ (nI (n + 1)), vi_ (nI (w + 2))] [] s = (if (rl_ (z 33 i) a b && !il_k r) = true then mJ (d + 3) 59 40 [vr_ (some 0), vi_ (nI (n + 2)), vi_ (nI (w + 1))] [] (kp_ (mm_u s 62 w b) n (nI (c + 2)) (n + 1) (rt_ r)) else mJ (d + 3) 59 40 [vr_ (some 0), vi_ (nI n), vi_ (nI (w + 1))] [] (mm_u s 62 w (tf_ (rl_ (z 33 i) a b)))) := by
  obtain ⟨⟨hi, hk1⟩, ⟨e25, e26, e27, e28, _⟩, hl, hr⟩ := ht
  have h25 : s 25 I = nI 11 := (h.1 25 I (by unfold kS; omega) (by unfold kD; omega)).trans e25
  have h27 : s 27 I = rt_ (nf_ 0 L) := (h.1 27 I (by unfold kS; omega) (by unfold kD; omega)).trans e27
  have hne : ∀ j, j < c + 1 → nf_ j L ≠ .leaf := fun j hj => nf_ne j c (by rw [hc]; simp) (by omega)
  have hR := nf_Rc (z := z) c hl
  rw [hc] at hR
  have h33 : s 33 i = z 33 i := h.1 33 i (by unfold kS; omega) (by unfold kD; omega)
  rw [mj_constant_40, if_pos (by rw [nlt2_ 0 (by omega) (by omega)]; omega), n_m1, mm_a_n (by omega) (by decide), Option.bind_some, mm_a_n (by omega) (by decide), Option.bind_some, hs, mm_a_n hi (by decide), Option.bind_some, h25, h0]
  rw [if_neg (by decide), if_neg (by decide), if_neg (by decide), if_neg (by decide), if_pos (by decide), mm_a_n hi (by decide), Option.bind_some, h27]
  refine (kt_297 d (S := c + 1) (by omega) h hl hne (c + 1) 0 (by omega)).trans ?_
  rw [mj_constant_297, if_neg (by rw [nlt_ (by omega) (by omega)]; omega), if_neg (by rw [nlt1_ 2 (by omega) (by decide)]; omega), mm_a_n hi (by decide), Option.bind_some, h27]
  refine (kt_360 d (S := c + 1) (by omega) h hl hne c 0 (by omega)).trans ?_
  rw [nf_s, show c + 1 - 1 = c from rfl, hc, mj_constant_360, if_neg (by rw [nlt_ (by omega) (by omega)]; omega), show rt_ (.inner k i v l r : tr_) = nI i from rfl, mm_a_n hR.1.1 (by decide), Option.bind_some, h33, show (nI (w + 2) - 2 : Int32) = nI w from by rw [show (2 : Int32) = 1 + 1 from rfl, ← Int32.sub_sub, nI_pred, nI_pred], mm_a_n (by omega) (by decide), Option.bind_some, ha, show (nI (w + 2) - 1 : Int32) = nI (w + 1) from nI_pred _, mm_a_n hw (by decide), Option.bind_some, hb, r_related (d + 1), bI_k]
  show (if zb_ (rl_ (z 33 i) a b) = 0 then _ else if rt_ r < 0 then _ else _) = _
  have z0 : zb_ false = 0 := rfl
  have z1 : ¬ (zb_ true = 0) := by decide
  cases hrl : rl_ (z 33 i) a b with
  | false =>
    rw [if_pos z0, if_neg (by simp), mj_constant_462, if_pos z0, n_m1 (w + 1), show (nI (w + 1) - 1 : Int32) = nI w from nI_pred _, mm_w_n (by omega) (by decide), Option.bind_some]
    rfl
  | true =>
    rw [if_neg z1]
    cases r with
    | leaf =>
      rw [if_pos (by unfold rt_; decide), if_neg (by simp [il_k]), mj_constant_462, if_neg z1, n_m1 (w + 1), show (nI (w + 1) - 1 : Int32) = nI w from nI_pred _, mm_w_n (by omega) (by decide), Option.bind_some]
      rfl
    | inner k3 i3 v3 l3 r3 =>
      have hi3 : i3 < 26000 := hR.2.2.2.1.1
      rw [if_neg (by rw [show rt_ (.inner k3 i3 v3 l3 r3 : tr_) = nI i3 from rfl, nlt1_ 0 (by omega) (by decide)]; omega), if_pos (by rfl), mm_a_n hw (by decide), Option.bind_some, hb, mm_w_n (by omega) (by decide), Option.bind_some, nI_1 (c + 1), mm_w_n (by omega) (by decide), Option.bind_some, nI_1 n, m_later (d + 1) (by omega), bI_k, n_m1 (w + 1)]
      rfl
theorem kxb_s {X : kx_} {f : Int32 → kx_} {res : Except Int32 Int32} (h : kxb X f = some res) : (∃ p, X = some (.error p) ∧ res = .error p) ∨ ∃ c, X = some (.ok c) ∧ f c = some res := by
  cases X with
  | none => exact nomatch h
  | some y =>
    cases y with
    | error p => exact Or.inl ⟨p, rfl, by cases h; rfl⟩
    | ok c => exact Or.inr ⟨c, rfl, h⟩
theorem kv_room {t : tr_} {n w : Nat} {res : Except Int32 Int32} (h : kv_ z es q t 0 0 n w = some res) : n < 26000 ∧ w < 26000 := by
  cases t with
  | leaf => exact nomatch h
  | inner k i v l r =>
    rw [kv_0] at h
    by_cases c : 26000 ≤ n ∨ 26000 ≤ w
    · rw [if_pos c] at h; exact nomatch h
    · omega
/-- the value of a tree -/
def PH (z : mm_S) (ts : List (Nat × tr_ × Int32)) (es : List enT) (sv : List Int32) (q : mm_S) (d : Nat) (t : tr_) : Prop := ∀ n w s res, CR z s (ts, es, sv, q) → Rc z t → s 60 n = rt_ t → s 61 n = 0 → kv_ z es q t 0 0 n w = some res → KQ z ts es sv q d n w s (mJ (d + 3) 59 40 [vr_ (some 0), vi_ (nI (n + 1)), vi_ (nI w)] [] s) res
/-- the rest of a row of relations, from part c on -/
def PC (z : mm_S) (ts : List (Nat × tr_ × Int32)) (es : List enT) (sv : List Int32) (q : mm_S) (d : Nat) (t : tr_) : Prop := ∀ n w s res I V L R c a, CR z s (ts, es, sv, q) → Rc z (.inner 11 I V L R) → nf_ c L = t → 1 ≤ c → c + (rs_r t).length ≤ 26000 → s 60 n = nI I → s 61 n = nI (c + 1) → s 62 w = a → s 60 (n + 1) = rt_ t → s 61 (n + 1) = 0 → kv_ z es q t 1 a (n + 1) (w + 1) = some res → KQ z ts es sv q d n w s (mJ (d + 3) 59 40 [vr_ (some 0), vi_ (nI (n + 2)), vi_ (nI (w + 1))] [] s) res
theorem KQ_fr {d n w : Nat} {s s1 : mm_S} {o : mm_O} {res : Except Int32 Int32} (h : KQ z ts es sv q d n w s1 o res) (h6 : ∀ f j, f = 60 ∨ f = 61 → j < n → s1 f j = s f j) (h2 : ∀ j, j < w → s1 62 j = s 62 j) : KQ z ts es sv q d n w s o res := by
  cases res with
  | error p => exact h
  | ok x =>
    obtain ⟨s', a, b, c, e, f⟩ := h
    exact ⟨s', a, b, c, fun g j hg hj => (e g j hg hj).trans (h6 g j hg hj), fun j hj => (f j hj).trans (h2 j hj)⟩
theorem kp_1 {s : mm_S} {n m : Nat} {x y : Int32} : kp_ s n x m y 60 m = y := (mu_n (by omega)).trans mu_s
theorem kp_2 {s : mm_S} {n m : Nat} {x y : Int32} : kp_ s n x m y 61 m = 0 := mu_s
theorem kp_3 {s : mm_S} {n m : Nat} {x y : Int32} (h : n < m) : kp_ s n x m y 61 n = x := (mu_n (by omega)).trans ((mu_n (by omega)).trans mu_s)
theorem kp_4 {s : mm_S} {n m : Nat} {x y : Int32} {j : Nat} (h : j ≠ m) : kp_ s n x m y 60 j = s 60 j := (mu_n (by omega)).trans ((mu_n (by omega)).trans (mu_n (by omega)))
theorem kp_5 {s : mm_S} {n m : Nat} {x y : Int32} {j : Nat} (h : j ≠ m) (h2 : j ≠ n) : kp_ s n x m y 61 j = s 61 j := (mu_n (by omega)).trans ((mu_n (by omega)).trans (mu_n (by omega)))
theorem kp_6 {s : mm_S} {n m : Nat} {x y : Int32} {j : Nat} : kp_ s n x m y 62 j = s 62 j := (mu_n (by omega)).trans ((mu_n (by omega)).trans (mu_n (by omega)))
theorem kp_f {s : mm_S} {n : Nat} {x y : Int32} : ∀ f j, f = 60 ∨ f = 61 → j < n → kp_ s n x (n + 1) y f j = s f j := fun f j hf hj => by
  rcases hf with rfl | rfl
  · exact kp_4 (by omega)
  · exact kp_5 (by omega) (by omega)
theorem m_chain {d : Nat} {k i : Nat} {v : Nat × Int32 × Nat × Nat × Bool} {l r : tr_} (hh : PH z ts es sv q d (.inner k i v l r)) (hr : PC z ts es sv q d r) : PC z ts es sv q d (.inner k i v l r) := by
  intro n w s res I V L R c a h ht hc hc1 hc2 h60 h61 h62 g60 g61 hk
  simp only [rs_r, List.length_cons] at hc2
  have hR := nf_Rc (z := z) c ht.2.2.1
  rw [hc] at hR
  rw [kv_1] at hk
  rcases kxb_s hk with ⟨p, h1, rfl⟩ | ⟨b, h1, h2⟩
  · exact hh (n + 1) (w + 1) s _ h hR g60 g61 h1
  · obtain ⟨s1, a1, b1, c1, e1, f1⟩ := hh (n + 1) (w + 1) s _ h hR g60 g61 h1
    have hroom := kv_room h1
    rw [a1, kt_rel d b1 ht hc hc1 (by omega) hroom.1 (by omega) ((e1 60 n (Or.inl rfl) (by omega)).trans h60) ((e1 61 n (Or.inr rfl) (by omega)).trans h61) ((f1 w (by omega)).trans h62) c1]
    have fr6 : ∀ (x : Int32) f j, f = 60 ∨ f = 61 → j < n → mm_u s1 62 w x f j = s f j := fun x f j hf hj => (mu_n (by omega)).trans (e1 f j hf (by omega))
    have fr2 : ∀ (x : Int32) j, j < w → mm_u s1 62 w x 62 j = s 62 j := fun x j hj => (mu_n (by omega)).trans (f1 j (by omega))
    have done : ∀ x, KQ z ts es sv q d n w s (mJ (d + 3) 59 40 [vr_ (some 0), vi_ (nI n), vi_ (nI (w + 1))] [] (mm_u s1 62 w x)) (.ok x) := fun x => ⟨_, rfl, CR_w b1 _ (by omega), mu_s, fr6 x, fr2 x⟩
    cases hrl : rl_ (z 33 i) a b with
    | false =>
      rw [hrl] at h2
      cases h2
      exact done _
    | true =>
      rw [hrl] at h2
      cases r with
      | leaf =>
        cases h2
        exact done _
      | inner k3 i3 v3 l3 r3 =>
        simp only [if_true] at h2
        have := hr n w (kp_ (mm_u s1 62 w b) n (nI (c + 2)) (n + 1) (rt_ (.inner k3 i3 v3 l3 r3 : tr_))) res I V L R (c + 1) b (CR_kp (CR_w b1 b (by omega)) _ _ _ _) ht (by rw [nf_s, hc]; rfl) (by omega) (by omega) ((kp_4 (by omega)).trans ((mu_n (by omega)).trans ((e1 60 n (Or.inl rfl) (by omega)).trans h60))) (kp_3 (by omega)) (kp_6.trans mu_s) kp_1 kp_2 h2
        refine KQ_fr this (fun f j hf hj => (kp_f f j hf hj).trans (fr6 b f j hf hj)) (fun j hj => kp_6.trans (fr2 b j hj))
end Krel2
