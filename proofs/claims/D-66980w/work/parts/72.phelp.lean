/-! ===== the parser's small methods ===== -/
section PRhelp
variable {K : Nat → Nat} {V : Nat → Int32} {N : Nat} {lx : Bool} {s : mm_S} {gs : List gl_} {os : List tr_} {p dp n : Nat} {sc : List (Int32 × Nat)} {r : pe_}
theorem q_ok {σ : ps_} (h : PR K V N lx s σ) : pq_ K V N lx (ok_ σ) (some (some (vi_ 1), s)) := ⟨s, rfl, h⟩
theorem q_fl (h : PR K V N lx s (gs, os, p, dp, sc, n)) : pq_ K V N lx (fl_ p) (some (some (vi_ 0), s)) := ⟨s, rfl, h.2.1.2.2.1, h.1⟩
theorem q_ret {o : mm_O} (h : pq_ K V N lx r o) : pq_ K V N lx r (mm_bI o fun v s => some (some (vi_ (v &&& 1)), s)) := by
  unfold pq_ at h ⊢
  split
  · trivial
  · obtain ⟨s', rfl, h⟩ := h; exact ⟨s', rfl, h⟩
  · obtain ⟨s', rfl, h⟩ := h; exact ⟨s', rfl, h⟩
theorem q_goal {d : Nat} {k : mm_S → mm_O} (g x y z : Nat) (h : PR K V N lx s (gs, os, p, dp, sc, n)) (hg : gs.length < 9000) (hb : g < 100 ∧ x < 2 ^ 31 ∧ y < 2 ^ 31 ∧ z < 2 ^ 31)
    (hk : ∀ s1, PR K V N lx s1 ((g, x, y, z) :: gs, os, p, dp, sc, n) → pq_ K V N lx r (k s1)) : pq_ K V N lx r (mm_bV (mE (d + 1) 24 [vr_ (some 0), vi_ (nI g), vi_ (nI x), vi_ (nI y), vi_ (nI z)] s) k) := by
  obtain ⟨t, ⟨a1, a2, a3, a4, a5, a6⟩, b, hG, c, o⟩ := h
  rw [me_goal, a1, mm_w_n hg (by decide), Option.bind_some]
  have e1 : mm_u s 39 gs.length (nI g) 0 38 = nI gs.length := (mu_n (by omega)).trans a1
  rw [e1, mm_w_n hg (by decide), Option.bind_some]
  have e2 : mm_u (mm_u s 39 gs.length (nI g)) 40 gs.length (nI x) 0 38 = nI gs.length := (mu_n (by omega)).trans e1
  rw [e2, mm_w_n hg (by decide), Option.bind_some]
  have e3 : mm_u (mm_u (mm_u s 39 gs.length (nI g)) 40 gs.length (nI x)) 41 gs.length (nI y) 0 38 = nI gs.length := (mu_n (by omega)).trans e2
  rw [e3, mm_w_n hg (by decide), Option.bind_some]
  have e4 : mm_u (mm_u (mm_u (mm_u s 39 gs.length (nI g)) 40 gs.length (nI x)) 41 gs.length (nI y)) 42 gs.length (nI z) 0 38 = nI gs.length := (mu_n (by omega)).trans e3
  rw [e4, nI_1]
  have go : ∀ f j, ¬ (39 ≤ f ∧ f ≤ 42 ∧ j = gs.length) → ¬ (f = 0 ∧ j = 38) → mm_u (mm_u (mm_u (mm_u (mm_u s 39 gs.length (nI g)) 40 gs.length (nI x)) 41 gs.length (nI y)) 42 gs.length (nI z)) 0 38 (nI (gs.length + 1)) f j = s f j := fun f j h1 h2 => by
    rw [mu_n h2, mu_n (by omega), mu_n (by omega), mu_n (by omega), mu_n (by omega)]
  refine hk _ ⟨PT_fr t (go _ _ (by omega) (by omega)) (go _ _ (by omega) (by omega)) (funext fun j => go _ _ (by omega) (by omega)) (funext fun j => go _ _ (by omega) (by omega)), ⟨mu_s, ?_, ?_, ?_, ?_, ?_⟩, b, ⟨⟨?_, ?_, ?_, ?_⟩, hb, PG_fr (fun f j _ _ _ => go _ _ (by omega) (by omega)) hG⟩, PX_fr (fun f j _ _ _ => go _ _ (by omega) (by omega)) c, PO_fr (fun j _ => go _ _ (by omega) (by omega)) (fun f j _ _ _ => go _ _ (by omega) (by omega)) o⟩
  · exact (go _ _ (by omega) (by omega)).trans a2
  · exact (go _ _ (by omega) (by omega)).trans a3
  · exact (go _ _ (by omega) (by omega)).trans a4
  · exact (go _ _ (by omega) (by omega)).trans a5
  · exact (go _ _ (by omega) (by omega)).trans a6
  · rw [mu_n (by omega), mu_n (by omega), mu_n (by omega), mu_n (by omega), mu_s]
  · rw [mu_n (by omega), mu_n (by omega), mu_n (by omega), mu_s]
  · rw [mu_n (by omega), mu_n (by omega), mu_s]
  · rw [mu_n (by omega), mu_s]
theorem q_tk {d : Nat} {k : Int32 → mm_S → mm_O} (h : PR K V N lx s (gs, os, p, dp, sc, n)) (hk : pq_ K V N lx r (k (nI (K p)) s)) : pq_ K V N lx r (mm_bI (mE (d + 1) 25 [vr_ (some 0)] s) k) := by
  obtain ⟨⟨t1, t2, t3, t4, t5, t6⟩, ⟨a1, a2, a3, a4, a5, a6⟩, b, hG, c, o⟩ := h
  rw [me_tk, a3, t1]
  simp only [nlt_ (show p < 2 ^ 31 by omega) (show N < 2 ^ 31 by omega)]
  by_cases hp : p < N
  · rw [if_pos hp, mm_a_n (by omega) (by decide), Option.bind_some, (t3 p hp).1]
    exact hk
  · rw [if_neg hp]
    rw [t5 p (by omega)] at hk
    exact hk
theorem q_tkN {d : Nat} {k : Int32 → mm_S → mm_O} (h : PR K V N lx s (gs, os, p, dp, sc, n)) (hk : pq_ K V N lx r (k (nI (K (p + 1))) s)) : pq_ K V N lx r (mm_bI (mE (d + 1) 26 [vr_ (some 0)] s) k) := by
  obtain ⟨⟨t1, t2, t3, t4, t5, t6⟩, ⟨a1, a2, a3, a4, a5, a6⟩, b, hG, c, o⟩ := h
  rw [me_tkNext, a3, t1, nI_1]
  simp only [nlt_ (show p + 1 < 2 ^ 31 by omega) (show N < 2 ^ 31 by omega)]
  by_cases hp : p + 1 < N
  · rw [if_pos hp, mm_a_n (by omega) (by decide), Option.bind_some, (t3 _ hp).1]
    exact hk
  · rw [if_neg hp]
    rw [t5 _ (show N ≤ p + 1 by omega)] at hk
    exact hk
theorem PT_lt (t : PT K V N lx s) {q k : Nat} (h : K q = k) (hk : k ≠ 0) : q < N := by
  obtain ⟨t1, t2, t3, t4, t5, t6⟩ := t
  by_cases hq : q < N
  · exact hq
  · have := t5 q (by omega)
    omega
theorem PT_k (t : PT K V N lx s) (q : Nat) : K q < 2 ^ 31 := by
  have := t.2.2.2.1 q
  omega
theorem q_take {d x : Nat} {k : Int32 → mm_S → mm_O} (h : PR K V N lx s (gs, os, p, dp, sc, n)) (hx : 0 < x) (hx2 : x < 2 ^ 31) (h1 : K p = x → ∀ s1, PR K V N lx s1 (gs, os, p + 1, dp, sc, n) → pq_ K V N lx r (k 1 s1)) (h0 : K p ≠ x → pq_ K V N lx r (k 0 s)) : pq_ K V N lx r (mm_bI (mE (d + 2) 27 [vr_ (some 0), vi_ (nI x)] s) k) := by
  have hp3 := h.2.1.2.2.1
  have t2 := h.1.2.1
  have e : mE (d + 1) 25 [vr_ (some 0)] s = some (some (vi_ (nI (K p))), s) := by
    obtain ⟨⟨t1, t2, t3, t4, t5, t6⟩, ⟨a1, a2, a3, a4, a5, a6⟩, b, hG, c, o⟩ := h
    rw [me_tk, a3, t1]
    simp only [nlt_ (show p < 2 ^ 31 by omega) (show N < 2 ^ 31 by omega)]
    by_cases hp : p < N
    · rw [if_pos hp, mm_a_n (by omega) (by decide), Option.bind_some, (t3 p hp).1]
    · rw [if_neg hp, t5 p (by omega)]
      rfl
  rw [me_take, e]
  show pq_ K V N lx r (mm_bI (if nI (K p) = nI x then _ else _) k)
  simp only [neq_ (PT_k h.1 p) hx2]
  by_cases hc : K p = x
  · rw [if_pos hc, hp3, nI_1]
    have := PT_lt h.1 hc (by omega)
    exact h1 hc _ (PR_p h (p + 1) (by omega))
  · rw [if_neg hc]
    exact h0 hc
theorem q_deep {d : Nat} {k : Int32 → mm_S → mm_O} (h : PR K V N lx s (gs, os, p, dp, sc, n)) (h0 : dp = 60 → pq_ K V N lx r (k 0 s)) (h1 : dp ≠ 60 → ∀ s1, PR K V N lx s1 (gs, os, p, dp + 1, sc, n) → pq_ K V N lx r (k 1 s1)) (hd : dp + 1 < 2 ^ 31) : pq_ K V N lx r (mm_bI (mE (d + 1) 28 [vr_ (some 0)] s) k) := by
  rw [me_deeper, h.2.1.2.2.2.1]
  simp only [neq1_ 60 h.2.2.1.2 (by decide)]
  by_cases hc : dp = 60
  · rw [if_pos hc]
    exact h0 hc
  · rw [if_neg hc, nI_1]
    exact h1 hc _ (PR_d h (dp + 1) hd)
theorem q_ite {P : Prop} [Decidable P] {A B : mm_O} {r1 r2 : pe_} (h1 : P → pq_ K V N lx r1 A) (h2 : ¬ P → pq_ K V N lx r2 B) : pq_ K V N lx (if P then r1 else r2) (if P then A else B) := by
  by_cases h : P
  · rw [if_pos h, if_pos h]; exact h1 h
  · rw [if_neg h, if_neg h]; exact h2 h
theorem m_isD (d k : Nat) (s : mm_S) (hk : k < 2 ^ 31) : mE (d + 1) 29 [vi_ (nI k)] s = some (some (vi_ (zb_ (isD_ k))), s) := by
  rw [me_isD]
  refine (ch_el hk _ _ [40, 41, 42, 43] (by decide)).trans ?_
  exact zb_if _
theorem m_beginsE (d k : Nat) (s : mm_S) (hk : k < 2 ^ 31) : mE (d + 1) 36 [vi_ (nI k)] s = some (some (vi_ (zb_ (bg_ k))), s) := by
  rw [me_beginsE]
  refine (ch_el hk _ _ [1, 2, 4, 74, 75, 76, 77, 12, 21, 22, 33, 18, 20] (by decide)).trans ?_
  exact zb_if _
theorem m_levelOf (d k : Nat) (s : mm_S) (hk : k < 100) : mE (d + 1) 40 [vi_ (nI k)] s = some (some (vi_ (nI (lv_ k))), s) := by
  rw [me_levelOf]
  simp only [mj_levelOf_58]
  have key : ∀ k, k < 100 → (if nI k = 71 then (1 : Int32) else if nI k = 72 then 1 else if nI k = 35 then 2 else if nI k = 34 then 3 else if nI k = 31 then 4 else if nI k = 32 then 4 else if nI k < 25 then (if nI k = 21 then 6 else if nI k = 22 then 6 else if nI k = 23 then 7 else if nI k = 24 then 7 else if nI k = 73 then 7 else 0) else if 30 < nI k then (if nI k = 21 then 6 else if nI k = 22 then 6 else if nI k = 23 then 7 else if nI k = 24 then 7 else if nI k = 73 then 7 else 0) else 5) = nI (lv_ k) := by decide +kernel
  rw [← key k hk]
  repeat' first
    | exact rfl
    | refine sg_st (k := fun v : Int32 => (some (some (vi_ v), s) : mm_O)) ?_ ?_
end PRhelp
