/-! ===== keywords of the reference ===== -/
/-- byte k (15 the first) of two longs -/
def kc_ (a b : Int64) (k : Nat) : Int32 := (if k < 8 then b >>> ((nI (8 * k)).toInt64 &&& 63) else a >>> ((nI (8 * k) - 64).toInt64 &&& 63)).toInt32 &&& 255
/-- the bytes that aren't 0, from k - 1 down -/
def kb_ (a b : Int64) : Nat → List Int32
  | 0 => []
  | k + 1 => if kc_ a b k = 0 then kb_ a b k else kc_ a b k :: kb_ a b k
/-- n elements of a row from p on -/
def rw_ (f : Nat → Int32) : Nat → Nat → List Int32
  | _, 0 => []
  | p, n + 1 => f p :: rw_ f (p + 1) n
theorem rw_len (f : Nat → Int32) : ∀ n p, (rw_ f p n).length = n
  | 0, p => rfl
  | n + 1, p => congrArg (· + 1) (rw_len f n (p + 1))
theorem m_isText_loop (d : Nat) (s : mm_S) (a b : Int64) (at0 n : Nat) (hn : at0 + n ≤ 6000) : ∀ k p, k ≤ 16 → p ≤ n → mJ (d + 1) 3 7 [vr_ (some 0), vi_ (nI at0), vi_ (nI n), vl_ a, vl_ b, vi_ (nI p), vi_ (nI (8 * k) - 8)] [] s = some (some (vi_ (zb_ (decide (rw_ (s 3) (at0 + p) (n - p) = kb_ a b k)))), s) := by
  intro k
  induction k with
  | zero =>
    intro p _ hp
    rw [mj_isText_7]
    have h1 : (nI (8 * 0) - 8 : Int32) < 0 := by decide
    rw [if_pos h1]
    simp only [neq_ (show p < 2 ^ 31 by omega) (show n < 2 ^ 31 by omega)]
    by_cases h : p = n
    · subst h
      simp [rw_, kb_, zb_]
    · rw [if_neg h]
      have h2 : ¬ rw_ (s 3) (at0 + p) (n - p) = kb_ a b 0 := by
        intro e
        have := congrArg List.length e
        rw [rw_len] at this
        simp [kb_] at this
        omega
      simp [h2, zb_]
  | succ k ih =>
    intro p hk hp
    have e8 : (nI (8 * (k + 1)) - 8 : Int32) = nI (8 * k) := by
      rw [show 8 * (k + 1) = 8 * k + 8 by omega, ← nI_add]
      show nI (8 * k) + nI 8 - nI 8 = _
      grind
    have e9 : (nI (8 * k) + (-8) : Int32) = nI (8 * k) - 8 := by grind
    have hj : ∀ y : Int64, y.toInt32 &&& 255 = kc_ a b k → mJ (d + 1) 3 34 [vr_ (some 0), vi_ (nI at0), vi_ (nI n), vl_ a, vl_ b, vi_ (nI p), vi_ (nI (8 * k))] [vl_ y] s = some (some (vi_ (zb_ (decide (rw_ (s 3) (at0 + p) (n - p) = kb_ a b (k + 1))))), s) := by
      intro y hy
      rw [mj_isText_34, hy, e9]
      unfold kb_
      by_cases h0 : kc_ a b k = 0
      · rw [if_pos h0, if_pos h0]
        exact ih p (by omega) hp
      · rw [if_neg h0, if_neg h0]
        simp only [nlt_ (show p < 2 ^ 31 by omega) (show n < 2 ^ 31 by omega)]
        by_cases hpn : p < n
        · rw [if_pos hpn, nI_add, mm_a_n (by omega) (by decide), Option.bind_some, show n - p = (n - (p + 1)) + 1 by omega]
          unfold rw_
          by_cases hc : s 3 (at0 + p) = kc_ a b k
          · rw [if_pos hc, nI_1, ih (p + 1) (by omega) (by omega), hc, ← Nat.add_assoc]
            simp
          · rw [if_neg hc]
            simp [hc, zb_]
        · rw [if_neg hpn, show n - p = 0 by omega]
          simp [rw_, zb_]
    rw [mj_isText_7, e8]
    have h1 : ¬ nI (8 * k) < (0 : Int32) := nI_pos (by omega)
    rw [if_neg h1]
    simp only [nlt1_ 64 (show 8 * k < 2 ^ 31 by omega) (by decide)]
    by_cases h8 : 8 * k < 64
    · rw [if_pos h8]
      exact hj _ (by unfold kc_; rw [if_pos (by omega)])
    · rw [if_neg h8]
      exact hj _ (by unfold kc_; rw [if_neg (by omega)])
theorem m_isText (d : Nat) (s : mm_S) (a b : Int64) (at0 n : Nat) (hn : at0 + n ≤ 6000) : mE (d + 1) 3 [vr_ (some 0), vi_ (nI at0), vi_ (nI n), vl_ a, vl_ b] s = some (some (vi_ (zb_ (decide (rw_ (s 3) at0 n = kb_ a b 16)))), s) := by
  rw [me_isText]
  exact m_isText_loop d s a b at0 n hn 16 0 (by omega) (by omega)
