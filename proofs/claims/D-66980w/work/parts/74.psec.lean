/-! ===== sections, labels, rows of relations, pairs of an assignment ===== -/
section PRsec
variable {K : Nat → Nat} {V : Nat → Int32} {N : Nat} {lx : Bool} {s : mm_S} {gs : List gl_} {os : List tr_} {p dp n : Nat} {sc : List (Int32 × Nat)} {r : pe_}
theorem m_tk (d : Nat) (h : PR K V N lx s (gs, os, p, dp, sc, n)) : mE (d + 1) 25 [vr_ (some 0)] s = some (some (vi_ (nI (K p))), s) := by
  obtain ⟨⟨t1, t2, t3, t4, t5, t6⟩, ⟨a1, a2, a3, a4, a5, a6⟩, b, hG, c, o⟩ := h
  rw [me_tk, a3, t1]
  simp only [nlt_ (show p < 2 ^ 31 by omega) (show N < 2 ^ 31 by omega)]
  by_cases hp : p < N
  · rw [if_pos hp, mm_a_n (by omega) (by decide), Option.bind_some, (t3 p hp).1]
  · rw [if_neg hp, t5 p (by omega)]
    rfl
theorem m_deeper (d : Nat) (h : PR K V N lx s (gs, os, p, dp, sc, n)) : mE (d + 1) 28 [vr_ (some 0)] s = if dp = 60 then some (some (vi_ 0), s) else some (some (vi_ 1), mm_u s 0 44 (nI (dp + 1))) := by
  rw [me_deeper, h.2.1.2.2.2.1, nI_1]
  simp only [neq1_ 60 h.2.2.1.2 (by decide)]
theorem q_open {d : Nat} {k : Int32 → mm_S → mm_O} (h : PR K V N lx s (gs, os, p, dp, sc, n)) (hs : sc.length < 70) (hd : dp + 1 < 2 ^ 31) (h0 : K p ≠ 10 ∨ dp = 60 → pq_ K V N lx r (k 0 s)) (h1 : K p = 10 → dp ≠ 60 → ∀ s1, PR K V N lx s1 (gs, os, p + 1, dp + 1, (V p, dp) :: sc, n) → pq_ K V N lx r (k 1 s1)) :
    pq_ K V N lx r (mm_bI (mE (d + 2) 30 [vr_ (some 0)] s) k) := by
  rw [me_openSection, m_tk d h]
  simp only [mm_bI, neq1_ 10 (PT_k h.1 p) (by decide)]
  by_cases hk : K p = 10
  · rw [if_pos hk, m_deeper d h]
    by_cases hdp : dp = 60
    · rw [if_pos hdp]
      exact h0 (Or.inr hdp)
    · rw [if_neg hdp]
      have hpN := PT_lt h.1 hk (by decide)
      have h2 := PR_d h (dp + 1) hd
      obtain ⟨t, ⟨a1, a2, a3, a4, a5, a6⟩, b, hG, c, o⟩ := h2
      have t2 := t.2.1
      have h44 := h.2.1.2.2.2.1
      simp only [show ¬ ((1 : Int32) = 0) by decide, if_false]
      rw [a3, mm_a_n (by omega) (by decide), Option.bind_some, (t.2.2.1 p hpN).2, a5, mm_w_n (by omega) (by decide), Option.bind_some]
      generalize mm_u s 0 44 (nI (dp + 1)) = s2 at *
      have e1 : mm_u s2 46 sc.length (V p) 0 45 = nI sc.length := (mu_n (by omega)).trans a5
      rw [e1, mm_w_n (by omega) (by decide), Option.bind_some, h44]
      have e2 : mm_u (mm_u s2 46 sc.length (V p)) 47 sc.length (nI dp) 0 45 = nI sc.length := (mu_n (by omega)).trans e1
      have e3 : mm_u (mm_u s2 46 sc.length (V p)) 47 sc.length (nI dp) 0 43 = nI p := by rw [mu_n (by omega), mu_n (by omega), a3]
      rw [e2, e3, nI_1, nI_1]
      have go : ∀ f j, ¬ (f = 0 ∧ (j = 43 ∨ j = 45)) → ¬ (f = 46 ∧ j = sc.length) → ¬ (f = 47 ∧ j = sc.length) → mm_u (mm_u (mm_u (mm_u s2 46 sc.length (V p)) 47 sc.length (nI dp)) 0 45 (nI (sc.length + 1))) 0 43 (nI (p + 1)) f j = s2 f j := fun f j x y z => by
        rw [mu_n (by omega), mu_n (by omega), mu_n z, mu_n y]
      refine h1 hk hdp _ ⟨PT_fr t (go _ _ (by omega) (by omega) (by omega)) (go _ _ (by omega) (by omega) (by omega)) (funext fun j => go _ _ (by omega) (by omega) (by omega)) (funext fun j => go _ _ (by omega) (by omega) (by omega)), ⟨?_, ?_, mu_s, ?_, ?_, ?_⟩, ⟨by omega, b.2⟩, PG_fr (fun f j _ _ _ => go _ _ (by omega) (by omega) (by omega)) hG, ⟨?_, ?_, h.2.2.1.2, PX_fr (fun f j _ _ _ => go _ _ (by omega) (by omega) (by omega)) c⟩, PO_fr (fun j _ => go _ _ (by omega) (by omega) (by omega)) (fun f j _ _ _ => go _ _ (by omega) (by omega) (by omega)) o⟩
      · exact (go _ _ (by omega) (by omega) (by omega)).trans a1
      · exact (go _ _ (by omega) (by omega) (by omega)).trans a2
      · exact (go _ _ (by omega) (by omega) (by omega)).trans a4
      · rw [mu_n (by omega), mu_s]; rfl
      · exact (go _ _ (by omega) (by omega) (by omega)).trans a6
      · rw [mu_n (by omega), mu_n (by omega), mu_n (by omega), mu_s]
      · rw [mu_n (by omega), mu_n (by omega), mu_s]
  · rw [if_neg hk]
    exact h0 (Or.inl hk)
/-- whether one of m tags from the j-th on is t -/
def an_ (s : mm_S) (t : Int32) : Nat → Nat → Bool
  | _, 0 => false
  | j, m + 1 => decide (s 46 j = t) || an_ s t (j + 1) m
theorem an_last (s : mm_S) (t : Int32) : ∀ m j, an_ s t j (m + 1) = (an_ s t j m || decide (s 46 (j + m) = t))
  | 0, j => by simp [an_]
  | m + 1, j => by
    rw [an_, an_last s t m (j + 1), an_, Bool.or_assoc, show j + 1 + m = j + (m + 1) by omega]
theorem PX_el {s : mm_S} (t : Int32) : ∀ {sc : List (Int32 × Nat)}, PX s sc → an_ s t 0 sc.length = hs_ t sc
  | [], _ => rfl
  | g :: r, h => by
    obtain ⟨a, b, q, h⟩ := h
    rw [List.length_cons, an_last, PX_el t h, Nat.zero_add, a, hs_, Bool.or_comm]
theorem m_ss_loop (d : Nat) (t own : Int32) (h : s 0 45 = nI sc.length) (hs : sc.length < 70) : ∀ m j (b : Bool), j + m = sc.length → mJ (d + 1) 31 51 [vr_ (some 0), vi_ t, vi_ own, vi_ (zb_ b), vi_ (nI j)] [] s =
    mJ (d + 1) 31 51 [vr_ (some 0), vi_ t, vi_ own, vi_ (zb_ (b || an_ s t j m)), vi_ (nI sc.length)] [] s := by
  intro m
  induction m with
  | zero =>
    intro j b hj
    obtain rfl : j = sc.length := by omega
    rw [an_, Bool.or_false]
  | succ m ih =>
    intro j b hj
    conv => lhs; rw [mj_shutSection_51]
    rw [h, if_pos (nI_lt (by omega) (by omega)), nI_1, an_]
    cases b with
    | true =>
      rw [if_neg (by decide)]
      have := ih (j + 1) true (by omega)
      simp only [Bool.true_or] at this ⊢
      exact this
    | false =>
      rw [if_pos (by decide), mm_a_n (by omega) (by decide), Option.bind_some]
      by_cases hc : s 46 j = t
      · rw [if_pos hc]
        have := ih (j + 1) true (by omega)
        simp only [Bool.true_or] at this
        refine this.trans ?_
        simp [hc]
      · rw [if_neg hc]
        have := ih (j + 1) false (by omega)
        refine this.trans ?_
        simp [hc]
theorem m_ss_111 (d : Nat) {t0 : Int32} {d0 : Nat} {k : Int32 → mm_S → mm_O} (h : PR K V N lx s (gs, os, p, dp, (t0, d0) :: sc, n)) (hs : sc.length < 69) (hk : ∀ s1, PR K V N lx s1 (gs, os, p, d0, sc, n) → pq_ K V N lx r (k 1 s1)) : pq_ K V N lx r (mm_bI (mJ (d + 1) 31 111 [vr_ (some 0)] [] s) k) := by
  obtain ⟨t, ⟨a1, a2, a3, a4, a5, a6⟩, b, hG, c, o⟩ := h
  obtain ⟨c1, c2, c3, c4⟩ := c
  have a5 : s 0 45 = nI (sc.length + 1) := a5
  rw [mj_shutSection_111, a5, show (nI (sc.length + 1) - 1 : Int32) = nI sc.length from nI_pred _, mm_a_n (by omega) (by decide), Option.bind_some]
  have e : mm_u s 0 45 (nI sc.length) 47 sc.length = nI d0 := (mu_n (by omega)).trans c2
  rw [e]
  have go : ∀ f j, ¬ (f = 0 ∧ (j = 45 ∨ j = 44)) → mm_u (mm_u s 0 45 (nI sc.length)) 0 44 (nI d0) f j = s f j := fun f j x => by rw [mu_n (by omega), mu_n (by omega)]
  refine hk _ ⟨PT_fr t (go _ _ (by omega)) (go _ _ (by omega)) (funext fun j => go _ _ (by omega)) (funext fun j => go _ _ (by omega)), ⟨?_, ?_, ?_, mu_s, ?_, ?_⟩, ⟨b.1, c3⟩, PG_fr (fun f j _ _ _ => go _ _ (by omega)) hG, PX_fr (fun f j _ _ _ => go _ _ (by omega)) c4, PO_fr (fun j _ => go _ _ (by omega)) (fun f j _ _ _ => go _ _ (by omega)) o⟩
  · exact (go _ _ (by omega)).trans a1
  · exact (go _ _ (by omega)).trans a2
  · exact (go _ _ (by omega)).trans a3
  · rw [mu_n (by omega), mu_s]
  · exact (go _ _ (by omega)).trans a6
/-- a section is shut: f says what comes then -/
theorem q_shutS {d : Nat} {k : Int32 → mm_S → mm_O} {f : ps_ → pe_} (h : PR K V N lx s (gs, os, p, dp, sc, n)) (hs : sc.length < 70) (h0 : ∀ s1, s1 0 43 = nI p → PT K V N lx s1 → pq_ K V N lx (fl_ p) (k 0 s1)) (h1 : ∀ s1 p' d' sc', PR K V N lx s1 (gs, os, p', d', sc', n) → p' ≤ p + 1 → pq_ K V N lx (f (gs, os, p', d', sc', n)) (k 1 s1)) :
    pq_ K V N lx (ss_ K V f (gs, os, p, dp, sc, n)) (mm_bI (mE (d + 2) 31 [vr_ (some 0)] s) k) := by
  have h43 := h.2.1.2.2.1
  rw [me_shutSection, m_tk d h, bI_s]
  simp only [neq1_ 11 (PT_k h.1 p) (by decide)]
  dsimp only [ss_]
  by_cases hk : K p = 11
  · rw [if_pos hk, if_pos hk]
    have hpN := PT_lt h.1 hk (by decide)
    have t2 := h.1.2.1
    cases sc with
    | nil => trivial
    | cons g0 sc =>
      obtain ⟨t0, d0⟩ := g0
      rw [h43, mm_a_n (by omega) (by decide), Option.bind_some, (h.1.2.2.1 p hpN).2]
      have h45 : s 0 45 = nI ((t0, d0) :: sc).length := h.2.1.2.2.2.2.1
      have hX : PX s ((t0, d0) :: sc) := h.2.2.2.2.1
      have hsc : sc.length + 1 < 70 := hs
      -- own
      have own1 : (V p < 0 ∨ t0 = V p) → pq_ K V N lx (f (gs, os, p + 1, d0, sc, n)) (mm_bI (mJ (d + 2) 31 51 [vr_ (some 0), vi_ (V p), vi_ 1, vi_ 0, vi_ 0] [] s) k) := fun _ => by
        have l := m_ss_loop (s := s) (sc := (t0, d0) :: sc) (d + 1) (V p) 1 h45 hs ((t0, d0) :: sc).length 0 false (by omega)
        have l : mJ (d + 2) 31 51 [vr_ (some 0), vi_ (V p), vi_ 1, vi_ 0, vi_ 0] [] s = _ := l
        rw [l, mj_shutSection_51, h45, if_neg (nI_nlt (Nat.le_refl _) (by simp; omega))]
        simp only [show ¬ ((1 : Int32) = 0) by decide, if_false]
        rw [h43, nI_1]
        exact m_ss_111 (d + 1) (PR_p h (p + 1) (by omega)) (by omega) fun s1 h2 => h1 s1 _ _ _ h2 (by omega)
      show pq_ K V N lx (if V p < 0 ∨ t0 = V p then _ else _) _
      by_cases hv : V p < 0
      · rw [if_pos hv, if_pos (Or.inl hv)]
        exact own1 (Or.inl hv)
      · rw [if_neg hv, show (s 0 45) = nI (sc.length + 1) from h45, show (nI (sc.length + 1) - 1 : Int32) = nI sc.length from nI_pred _, mm_a_n (by omega) (by decide), Option.bind_some, hX.1]
        by_cases hw : t0 = V p
        · rw [if_pos hw, if_pos (Or.inr hw)]
          exact own1 (Or.inr hw)
        · rw [if_neg hw, if_neg (fun q => q.elim hv hw)]
          have l := m_ss_loop (s := s) (sc := (t0, d0) :: sc) (d + 1) (V p) 0 h45 hs ((t0, d0) :: sc).length 0 false (by omega)
          have l : mJ (d + 2) 31 51 [vr_ (some 0), vi_ (V p), vi_ 0, vi_ 0, vi_ 0] [] s = _ := l
          have el : an_ s (V p) 0 ((t0, d0) :: sc).length = hs_ (V p) sc := by
            rw [PX_el (V p) hX, hs_]
            simp [hw]
          show pq_ K V N lx _ (mm_bI (mJ (d + 2) 31 51 [vr_ (some 0), vi_ (V p), vi_ 0, vi_ 0, vi_ 0] [] s) k)
          rw [l, mj_shutSection_51, h45, if_neg (nI_nlt (Nat.le_refl _) (by simp; omega)), if_pos rfl, if_pos rfl]
          simp only [zb_0, Bool.false_or, el]
          by_cases he : hs_ (V p) sc = true
          · rw [if_pos he, if_neg (by rw [he]; decide)]
            exact m_ss_111 (d + 1) h (by omega) fun s1 h2 => h1 s1 _ _ _ h2 (by omega)
          · rw [if_neg he, if_pos (by simpa using he)]
            exact h0 s h43 h.1
  · rw [if_neg hk, if_neg hk]
    exact h0 s h43 h.1
end PRsec
