/-! ===== constant: one turn of its loop ===== -/
section Kturn
variable {z q s : mm_S} {ts : List (Nat × tr_ × Int32)} {es : List enT} {sv : List Int32} {k i n w : Nat} {v : Nat × Int32 × Nat × Nat × Bool} {l r : tr_}
/-- what is to be put under way -/
def kp_ (s : mm_S) (n : Nat) (x : Int32) (m : Nat) (y : Int32) : mm_S := mm_u (mm_u (mm_u s 61 n x) 60 m y) 61 m 0
theorem CR_kp (h : CR z s (ts, es, sv, q)) (n : Nat) (x : Int32) (m : Nat) (y : Int32) : CR z (kp_ s n x m y) (ts, es, sv, q) := CR_w (CR_w (CR_w h x (by omega)) y (by omega)) 0 (by omega)
theorem n_m1 (n : Nat) : (nI (n + 1) + -1 : Int32) = nI n := (Int32.sub_eq_add_neg _ _).symm.trans (nI_pred _)
theorem bI_k (v : Int32) (s : mm_S) (K : Int32 → mm_S → mm_O) : mm_bI (some (some (vi_ v), s)) K = K v s := rfl
theorem kt_num (d : Nat) (h : CR z s (ts, es, sv, q)) (ht : Rc z (.inner k i v l r)) (hn : n < 26000) (hw : w < 26000) (hs : s 60 n = nI i) (hk : k = 2) : mJ (d + 3) 59 40 [vr_ (some 0), vi_ (nI (n + 1)), vi_ (nI w)] [] s = mJ (d + 3) 59 40 [vr_ (some 0), vi_ (nI n), vi_ (nI (w + 1))] [] (mm_u s 62 w (q 29 i)) := by
  obtain ⟨⟨hi, hk1⟩, ⟨e25, e26, e27, e28, _⟩, hl, hr⟩ := ht
  have h25 : s 25 i = nI k := (h.1 25 i (by unfold kS; omega) (by unfold kD; omega)).trans e25
  have h29 : s 29 i = q 29 i := h.2.1 29 i (by unfold kD; omega)
  have E : ∀ m : Nat, m < 2 ^ 31 → (nI k = OfNat.ofNat m) = (k = m) := fun m hm => neq1_ m (by omega) hm
  rw [mj_constant_40, if_pos (by rw [nlt2_ 0 (by omega) (by omega)]; omega), n_m1, mm_a_n hn (by decide), Option.bind_some, mm_a_n hn (by decide), Option.bind_some, hs, mm_a_n hi (by decide), Option.bind_some, h25]
  simp only [E 2 (by decide)]
  rw [if_pos hk, mj_constant_84]
  simp only [E 2 (by decide)]
  rw [if_pos hk, mm_a_n hi (by decide), Option.bind_some, mm_w_n hw (by decide), Option.bind_some, h29, nI_1]
theorem kt_name (d : Nat) (h : CR z s (ts, es, sv, q)) (ht : Rc z (.inner k i v l r)) (hn : n < 26000) (hw : w < 26000) (hs : s 60 n = nI i) (hk : k = 1) {j : Nat} {e : enT} (hm : mn_k (q 29 i) es = some (j, e)) : mJ (d + 3) 59 40 [vr_ (some 0), vi_ (nI (n + 1)), vi_ (nI w)] [] s = mJ (d + 3) 59 40 [vr_ (some 0), vi_ (nI n), vi_ (nI (w + 1))] [] (mm_u s 62 w e.2.2.1) := by
  obtain ⟨⟨hi, hk1⟩, ⟨e25, e26, e27, e28, _⟩, hl, hr⟩ := ht
  have h25 : s 25 i = nI k := (h.1 25 i (by unfold kS; omega) (by unfold kD; omega)).trans e25
  have h29 : s 29 i = q 29 i := h.2.1 29 i (by unfold kD; omega)
  have E : ∀ m : Nat, m < 2 ^ 31 → (nI k = OfNat.ofNat m) = (k = m) := fun m hm => neq1_ m (by omega) hm
  obtain ⟨hj, _, a2, a3, a4, _⟩ := KE_mn h.2.2.2.2.1 hm
  have hl := h.2.2.2.2.2.2.2.1
  rw [mj_constant_40, if_pos (by rw [nlt2_ 0 (by omega) (by omega)]; omega), n_m1, mm_a_n hn (by decide), Option.bind_some, mm_a_n hn (by decide), Option.bind_some, hs, mm_a_n hi (by decide), Option.bind_some, h25]
  simp only [E 2 (by decide), E 1 (by decide)]
  rw [if_neg (by omega), if_pos hk, mj_constant_84]
  simp only [E 2 (by decide)]
  rw [if_neg (by omega), mm_a_n hi (by decide), Option.bind_some, h29, m_means h, bI_k, hm]
  dsimp only
  rw [mm_a_n (by omega) (by decide), Option.bind_some, mm_w_n hw (by decide), Option.bind_some, a3, nI_1]
/-- first turn of a node with one, of one with two parts -/
theorem kt_first (d : Nat) (h : CR z s (ts, es, sv, q)) (ht : Rc z (.inner k i v l r)) (hn : n + 1 < 26000) (hs : s 60 n = nI i) (h0 : s 61 n = 0) (k2 : k ≠ 2) (k1 : k ≠ 1) : mJ (d + 3) 59 40 [vr_ (some 0), vi_ (nI (n + 1)), vi_ (nI w)] [] s = mJ (d + 3) 59 40 [vr_ (some 0), vi_ (nI (n + 2)), vi_ (nI w)] [] (kp_ s n 1 (n + 1) (rt_ l)) := by
  obtain ⟨⟨hi, hk1⟩, ⟨e25, e26, e27, e28, _⟩, hl, hr⟩ := ht
  have h25 : s 25 i = nI k := (h.1 25 i (by unfold kS; omega) (by unfold kD; omega)).trans e25
  have h27 : s 27 i = rt_ l := (h.1 27 i (by unfold kS; omega) (by unfold kD; omega)).trans e27
  have h27' : mm_u s 61 n 1 27 i = rt_ l := (mu_n (by omega)).trans h27
  have E : ∀ m : Nat, m < 2 ^ 31 → (nI k = OfNat.ofNat m) = (k = m) := fun m hm => neq1_ m (by omega) hm
  have Ew : mm_w 26000 61 (nI n) 1 s = some (mm_u s 61 n 1) := mm_w_n (by omega) (by decide)
  rw [mj_constant_40, if_pos (by rw [nlt2_ 0 (by omega) (by omega)]; omega), n_m1, mm_a_n (by omega) (by decide), Option.bind_some, mm_a_n (by omega) (by decide), Option.bind_some, hs, mm_a_n hi (by decide), Option.bind_some, h25, h0]
  simp only [E 2 (by decide), E 1 (by decide), E 12 (by decide), E 10 (by decide), E 11 (by decide)]
  rw [if_neg k2, if_neg k1]
  have fin : (mm_bI (mE (d + 2) 60 [vr_ (some 0), vi_ (nI n + 1), vi_ (rt_ l)] (mm_u s 61 n 1)) fun v7 s6 => mJ (d + 3) 59 40 [vr_ (some 0), vi_ v7, vi_ (nI w)] [] s6) = mJ (d + 3) 59 40 [vr_ (some 0), vi_ (nI (n + 2)), vi_ (nI w)] [] (kp_ s n 1 (n + 1) (rt_ l)) := by
    rw [nI_1, m_later (d + 1) (by omega), bI_k]
    rfl
  by_cases c12 : k = 12
  · rw [if_pos c12, if_pos trivial, Ew, Option.bind_some, mm_a_n hi (by decide), Option.bind_some, h27']
    exact fin
  rw [if_neg c12]
  by_cases c10 : k = 10
  · rw [if_pos c10, if_pos trivial, Ew, Option.bind_some, mm_a_n hi (by decide), Option.bind_some, h27']
    exact fin
  rw [if_neg c10]
  by_cases c11 : k = 11
  · rw [if_pos c11, mm_a_n hi (by decide), Option.bind_some, h27, mj_constant_297, if_neg (by decide), if_pos (by decide), show ((0 : Int32) + 1) = 1 from rfl, Ew, Option.bind_some]
    exact fin
  rw [if_neg c11, if_pos (by decide), show ((0 : Int32) + 1) = 1 from rfl, Ew, Option.bind_some, if_pos trivial, mm_a_n hi (by decide), Option.bind_some, h27']
  exact fin
theorem kt_cond (d : Nat) {k2 i2 : Nat} {v2 : Nat × Int32 × Nat × Nat × Bool} {l2 m : tr_} {c : Int32} (h : CR z s (ts, es, sv, q)) (ht : Rc z (.inner k i v (.inner k2 i2 v2 l2 m) r)) (hn : n < 26000) (hw : w < 26000) (hs : s 60 n = nI i) (h0 : s 61 n = 1) (hc : s 62 w = c) (hk : k = 12) (hm : c = 0 → m ≠ .leaf) : mJ (d + 3) 59 40 [vr_ (some 0), vi_ (nI (n + 1)), vi_ (nI (w + 1))] [] s = mJ (d + 3) 59 40 [vr_ (some 0), vi_ (nI (n + 1)), vi_ (nI w)] [] (mm_u (mm_u s 60 n (rt_ (if c = 0 then nx_r m else m))) 61 n 0) := by
  obtain ⟨⟨hi, hk1⟩, ⟨e25, e26, e27, e28, _⟩, ⟨⟨hi2, _⟩, ⟨_, _, _, e28', _⟩, _, hmr⟩, hr⟩ := ht
  have h25 : s 25 i = nI k := (h.1 25 i (by unfold kS; omega) (by unfold kD; omega)).trans e25
  have h27 : s 27 i = nI i2 := (h.1 27 i (by unfold kS; omega) (by unfold kD; omega)).trans e27
  have h28 : s 28 i2 = rt_ m := (h.1 28 i2 (by unfold kS; omega) (by unfold kD; omega)).trans e28'
  have E : ∀ m : Nat, m < 2 ^ 31 → (nI k = OfNat.ofNat m) = (k = m) := fun m hm => neq1_ m (by omega) hm
  rw [mj_constant_40, if_pos (by rw [nlt2_ 0 (by omega) (by omega)]; omega), n_m1, mm_a_n (by omega) (by decide), Option.bind_some, mm_a_n (by omega) (by decide), Option.bind_some, hs, mm_a_n hi (by decide), Option.bind_some, h25, h0]
  simp only [E 2 (by decide), E 1 (by decide), E 12 (by decide)]
  rw [if_neg (by omega), if_neg (by omega), if_pos hk, if_neg (by decide), mm_a_n hi (by decide), Option.bind_some, h27, mm_a_n hi2 (by decide), Option.bind_some, h28, n_m1, mm_a_n hw (by decide), Option.bind_some, hc]
  by_cases c0 : c = 0
  · rw [if_pos c0, if_pos c0]
    cases m with
    | leaf => exact absurd rfl (hm c0)
    | inner k3 i3 v3 l3 m3 =>
      have h28' : s 28 i3 = rt_ m3 := (h.1 28 i3 (by unfold kS; omega) (by unfold kD; omega)).trans hmr.2.1.2.2.2.1
      rw [show rt_ (.inner k3 i3 v3 l3 m3 : tr_) = nI i3 from rfl, mm_a_n hmr.1.1 (by decide), Option.bind_some, h28', m_later (d + 1) hn, bI_k]
      rfl
  · rw [if_neg c0, if_neg c0, m_later (d + 1) hn, bI_k]
theorem kt_un (d : Nat) {c : Int32} (h : CR z s (ts, es, sv, q)) (ht : Rc z (.inner k i v l r)) (hn : n < 26000) (hw : w < 26000) (hs : s 60 n = nI i) (h0 : s 61 n = 1) (hc : s 62 w = c) (hk : k = 10) : mJ (d + 3) 59 40 [vr_ (some 0), vi_ (nI (n + 1)), vi_ (nI (w + 1))] [] s = mJ (d + 3) 59 40 [vr_ (some 0), vi_ (nI n), vi_ (nI (w + 1))] [] (mm_u s 62 w (sg_n (q 29 i) c)) := by
  obtain ⟨⟨hi, hk1⟩, ⟨e25, e26, e27, e28, _⟩, hl, hr⟩ := ht
  have h25 : s 25 i = nI k := (h.1 25 i (by unfold kS; omega) (by unfold kD; omega)).trans e25
  have h29 : s 29 i = q 29 i := h.2.1 29 i (by unfold kD; omega)
  have E : ∀ m : Nat, m < 2 ^ 31 → (nI k = OfNat.ofNat m) = (k = m) := fun m hm => neq1_ m (by omega) hm
  rw [mj_constant_40, if_pos (by rw [nlt2_ 0 (by omega) (by omega)]; omega), n_m1, mm_a_n (by omega) (by decide), Option.bind_some, mm_a_n (by omega) (by decide), Option.bind_some, hs, mm_a_n hi (by decide), Option.bind_some, h25, h0]
  simp only [E 2 (by decide), E 1 (by decide), E 12 (by decide), E 10 (by decide)]
  rw [if_neg (by omega), if_neg (by omega), if_neg (by omega), if_pos hk, if_neg (by decide), show (nI (w + 1) - 1 : Int32) = nI w from nI_pred _, mm_a_n hi (by decide), Option.bind_some, h29, mm_a_n hw (by decide), Option.bind_some, hc, r_signed (d + 1), bI_k, mm_w_n hw (by decide), Option.bind_some]
theorem kt_bin1 (d : Nat) {k2 i2 : Nat} {v2 : Nat × Int32 × Nat × Nat × Bool} {l2 m : tr_} (h : CR z s (ts, es, sv, q)) (ht : Rc z (.inner k i v (.inner k2 i2 v2 l2 m) r)) (hn : n + 1 < 26000) (hs : s 60 n = nI i) (h0 : s 61 n = 1) (k2 : k ≠ 2) (k1 : k ≠ 1) (k3 : k ≠ 12) (k4 : k ≠ 10) (k5 : k ≠ 11) : mJ (d + 3) 59 40 [vr_ (some 0), vi_ (nI (n + 1)), vi_ (nI w)] [] s = mJ (d + 3) 59 40 [vr_ (some 0), vi_ (nI (n + 2)), vi_ (nI w)] [] (kp_ s n 2 (n + 1) (rt_ m)) := by
  obtain ⟨⟨hi, hk1⟩, ⟨e25, e26, e27, e28, _⟩, ⟨⟨hi2, _⟩, ⟨_, _, _, e28', _⟩, _, hmr⟩, hr⟩ := ht
  have h25 : s 25 i = nI k := (h.1 25 i (by unfold kS; omega) (by unfold kD; omega)).trans e25
  have h27 : mm_u s 61 n 2 27 i = nI i2 := (mu_n (by omega)).trans ((h.1 27 i (by unfold kS; omega) (by unfold kD; omega)).trans e27)
  have h28 : mm_u s 61 n 2 28 i2 = rt_ m := (mu_n (by omega)).trans ((h.1 28 i2 (by unfold kS; omega) (by unfold kD; omega)).trans e28')
  have E : ∀ m : Nat, m < 2 ^ 31 → (nI k = OfNat.ofNat m) = (k = m) := fun m hm => neq1_ m (by omega) hm
  rw [mj_constant_40, if_pos (by rw [nlt2_ 0 (by omega) (by omega)]; omega), n_m1, mm_a_n (by omega) (by decide), Option.bind_some, mm_a_n (by omega) (by decide), Option.bind_some, hs, mm_a_n hi (by decide), Option.bind_some, h25, h0]
  simp only [E 2 (by decide), E 1 (by decide), E 12 (by decide), E 10 (by decide), E 11 (by decide)]
  rw [if_neg k2, if_neg k1, if_neg k3, if_neg k4, if_neg k5, if_pos (by decide), show ((1 : Int32) + 1) = 2 from rfl, show mm_w 26000 61 (nI n) 2 s = some (mm_u s 61 n 2) from mm_w_n (by omega) (by decide), Option.bind_some, if_neg (by decide), mm_a_n hi (by decide), Option.bind_some, h27, mm_a_n hi2 (by decide), Option.bind_some, h28, nI_1, m_later (d + 1) (by omega), bI_k]
  rfl
theorem kt_bin2 (d : Nat) {a b : Int32} {res : Except Int32 Int32} (h : CR z s (ts, es, sv, q)) (ht : Rc z (.inner k i v l r)) (hn : n < 26000) (hw : w + 1 < 26000) (hs : s 60 n = nI i) (h0 : s 61 n = 2) (ha : s 62 w = a) (hb : s 62 (w + 1) = b) (k2 : k ≠ 2) (k1 : k ≠ 1) (k3 : k ≠ 12) (k4 : k ≠ 10) (k5 : k ≠ 11)
    (hr : (if (q 29 i = 24 ∨ q 29 i = 73) ∧ b = 0 then (pl_k z (nI v.1)).bind fun p => some (.error p) else (wk_ (q 29 i) a b).bind fun x => some (.ok x)) = some res) : KQ z ts es sv q d n w s (mJ (d + 3) 59 40 [vr_ (some 0), vi_ (nI (n + 1)), vi_ (nI (w + 2))] [] s) res := by
  obtain ⟨⟨hi, hk1⟩, ⟨e25, e26, e27, e28, _⟩, hl, _⟩ := ht
  have h25 : s 25 i = nI k := (h.1 25 i (by unfold kS; omega) (by unfold kD; omega)).trans e25
  have h26 : s 26 i = nI v.1 := (h.1 26 i (by unfold kS; omega) (by unfold kD; omega)).trans e26
  have h29 : s 29 i = q 29 i := h.2.1 29 i (by unfold kD; omega)
  have E : ∀ m : Nat, m < 2 ^ 31 → (nI k = OfNat.ofNat m) = (k = m) := fun m hm => neq1_ m (by omega) hm
  rw [mj_constant_40, if_pos (by rw [nlt2_ 0 (by omega) (by omega)]; omega), n_m1, mm_a_n (by omega) (by decide), Option.bind_some, mm_a_n (by omega) (by decide), Option.bind_some, hs, mm_a_n hi (by decide), Option.bind_some, h25, h0]
  simp only [E 2 (by decide), E 1 (by decide), E 12 (by decide), E 10 (by decide), E 11 (by decide)]
  rw [if_neg k2, if_neg k1, if_neg k3, if_neg k4, if_neg k5, if_neg (by decide), mm_a_n hi (by decide), Option.bind_some, Option.bind_some, h29, n_m1 (w + 1)]
  have fin : ¬ ((q 29 i = 24 ∨ q 29 i = 73) ∧ b = 0) → KQ z ts es sv q d n w s (mJ (d + 3) 59 599 [vr_ (some 0), vi_ (nI n), vi_ (nI (w + 1)), vi_ (nI i)] [] s) res := by
    intro hc
    rw [if_neg hc] at hr
    rw [mj_constant_599, mm_a_n hi (by decide), Option.bind_some, show (nI (w + 1) - 1 : Int32) = nI w from nI_pred _, mm_a_n (by omega) (by decide), Option.bind_some, mm_a_n hw (by decide), Option.bind_some, h29, ha, hb, r_worked d]
    cases hw : wk_ (q 29 i) a b with
    | none => rw [hw] at hr; exact nomatch hr
    | some x =>
      rw [hw, Option.bind_some] at hr
      cases hr
      rw [Option.bind_some, bI_k, mm_w_n (by omega) (by decide), Option.bind_some]
      exact ⟨_, rfl, CR_w h _ (by omega), mu_s, fun f j hf hj => mu_n (by omega), fun j hj => mu_n (by omega)⟩
  have div : (q 29 i = 24 ∨ q 29 i = 73) → KQ z ts es sv q d n w s (mJ (d + 3) 59 567 [vr_ (some 0), vi_ (nI n), vi_ (nI (w + 1)), vi_ (nI i)] [] s) res := by
    intro hc
    rw [mj_constant_567, mm_a_n hw (by decide), Option.bind_some, hb]
    by_cases b0 : b = 0
    · rw [if_pos b0, mm_a_n hi (by decide), Option.bind_some, h26]
      rw [if_pos ⟨hc, b0⟩] at hr
      cases hp : pl_k z (nI v.1) with
      | none => rw [hp] at hr; exact nomatch hr
      | some p =>
        rw [hp, Option.bind_some] at hr
        cases hr
        obtain ⟨s1, e1, e2, _⟩ := m_ft h (d + 1) 6 (nI v.1) (fun s5 => some (none, mm_u s5 0 58 0)) (q' := fa_ 6 p q) (by unfold ft_; rw [hp]; rfl)
        exact ⟨_, e1, CR_q e2 0 (by unfold kD; omega)⟩
    · rw [if_neg b0]
      exact fin (fun hc => b0 hc.2)
  by_cases c1 : q 29 i = 24
  · rw [if_pos c1]
    exact div (Or.inl c1)
  rw [if_neg c1]
  by_cases c2 : q 29 i = 73
  · rw [if_pos c2]
    exact div (Or.inr c2)
  rw [if_neg c2]
  exact fin (by rintro ⟨h | h, _⟩ <;> contradiction)
end Kturn
