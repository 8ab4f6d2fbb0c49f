/-! ===== names of the reference: their numbers ===== -/
/-- the names so far: their texts, each somewhere in src -/
def mNm (s : mm_S) (L : List (List Int32)) : Prop := s 0 5 = nI L.length ∧ ∀ (j : Nat) (x : List Int32), L[j]? = some x → ∃ a n : Nat, s 6 j = nI a ∧ s 7 j = nI n ∧ a + n ≤ 6000 ∧ rw_ (s 3) a n = x
/-- the number of a text among names: where it first stands, or behind them -/
def nm_ix (L : List (List Int32)) (x : List Int32) : Nat := L.findIdx (fun y => decide (y = x))
def nm_ad (L : List (List Int32)) (x : List Int32) : List (List Int32) := if nm_ix L x < L.length then L else L ++ [x]
theorem m_nameOf_in (d : Nat) (s : mm_S) (at0 n k a : Nat) (hn : at0 + n ≤ 6000) (ha : s 6 k = nI a) (ha2 : a + n ≤ 6000) (hk : k < 3100) : ∀ m b, b + m = n → mJ (d + 1) 2 30 [vr_ (some 0), vi_ (nI at0), vi_ (nI n), vi_ (nI k), vi_ 1, vi_ (nI b)] [] s = (if rw_ (s 3) (a + b) m = rw_ (s 3) (at0 + b) m then some (some (vi_ (nI k)), s) else mJ (d + 1) 2 2 [vr_ (some 0), vi_ (nI at0), vi_ (nI n), vi_ (nI (k + 1))] [] s) := by
  intro m
  induction m with
  | zero =>
    intro b hb
    obtain rfl : b = n := by omega
    rw [mj_nameOf_30]
    simp only [nlt_ (show b < 2 ^ 31 by omega) (show b < 2 ^ 31 by omega), Nat.lt_irrefl, if_false]
    rw [if_neg (by decide)]
    simp [rw_]
  | succ m ih =>
    intro b hb
    rw [mj_nameOf_30]
    simp only [nlt_ (show b < 2 ^ 31 by omega) (show n < 2 ^ 31 by omega), show b < n by omega, if_true]
    rw [if_neg (by decide), mm_a_n hk (by decide), Option.bind_some, ha, nI_add, mm_a_n (by omega) (by decide), Option.bind_some, nI_add, mm_a_n (by omega) (by decide), Option.bind_some, nI_1]
    unfold rw_
    by_cases h : s 3 (a + b) = s 3 (at0 + b)
    · rw [if_pos h, ih (b + 1) (by omega), h]
      simp [Nat.add_assoc]
    · rw [if_neg h]
      have h9 : ¬ s 3 (a + b) :: rw_ (s 3) (a + b + 1) m = s 3 (at0 + b) :: rw_ (s 3) (at0 + b + 1) m := by
        intro e
        exact h (List.cons.inj e).1
      rw [if_neg h9, mj_nameOf_30]
      simp only [if_true, nI_1, ite_self]
theorem m_nameOf_out (d : Nat) (s : mm_S) (L : List (List Int32)) (hL : mNm s L) (hl : L.length < 3100) (at0 n : Nat) (hn : at0 + n ≤ 6000) : ∀ m k, k + m = L.length → (∀ j y, j < k → L[j]? = some y → y ≠ rw_ (s 3) at0 n) →
    mJ (d + 1) 2 2 [vr_ (some 0), vi_ (nI at0), vi_ (nI n), vi_ (nI k)] [] s = (if nm_ix L (rw_ (s 3) at0 n) < L.length then some (some (vi_ (nI (nm_ix L (rw_ (s 3) at0 n)))), s) else some (some (vi_ (nI L.length)), mm_u (mm_u (mm_u s 6 L.length (nI at0)) 7 L.length (nI n)) 0 5 (nI (L.length + 1)))) := by
  intro m
  induction m with
  | zero =>
    intro k hk hno
    obtain rfl : k = L.length := by omega
    rw [mj_nameOf_2, hL.1]
    simp only [nlt_ (show L.length < 2 ^ 31 by omega) (show L.length < 2 ^ 31 by omega), Nat.lt_irrefl, if_false]
    have hix : ¬ nm_ix L (rw_ (s 3) at0 n) < L.length := by
      intro h
      have h2 := List.findIdx_getElem (xs := L) (p := fun y => decide (y = rw_ (s 3) at0 n)) (w := h)
      exact hno _ _ h (List.getElem?_eq_getElem h) (of_decide_eq_true h2)
    rw [if_neg hix, mm_w_n hl (by decide), Option.bind_some]
    have e1 : mm_u s 6 L.length (nI at0) 0 5 = nI L.length := by rw [mu_n (by omega)]; exact hL.1
    rw [e1, mm_w_n hl (by decide), Option.bind_some]
    have e2 : mm_u (mm_u s 6 L.length (nI at0)) 7 L.length (nI n) 0 5 = nI L.length := by rw [mu_n (by omega)]; exact e1
    rw [e2, nI_1, nI_pred]
  | succ m ih =>
    intro k hk hno
    have hkl : k < L.length := by omega
    obtain ⟨a, n2, h6, h7, hb, hx⟩ := hL.2 k _ (List.getElem?_eq_getElem hkl)
    rw [mj_nameOf_2, hL.1]
    simp only [nlt_ (show k < 2 ^ 31 by omega) (show L.length < 2 ^ 31 by omega), hkl, if_true]
    rw [mm_a_n (by omega) (by decide), Option.bind_some, h7]
    simp only [neq_ (show n2 < 2 ^ 31 by omega) (show n < 2 ^ 31 by omega)]
    have go : L[k] ≠ rw_ (s 3) at0 n → mJ (d + 1) 2 2 [vr_ (some 0), vi_ (nI at0), vi_ (nI n), vi_ (nI (k + 1))] [] s = _ := fun hne => ih (k + 1) (by omega) (fun j y hj hy => by
      rcases Nat.lt_succ_iff_lt_or_eq.mp hj with h | h
      · exact hno j y h hy
      · subst h
        rw [List.getElem?_eq_getElem hkl] at hy
        cases hy
        exact hne)
    by_cases h : n2 = n
    · subst h
      rw [if_pos rfl, show (0 : Int32) = nI 0 from rfl, show (1 : Int32) = 1 from rfl, m_nameOf_in d s at0 n2 k a hn h6 hb (by omega) n2 0 (by omega)]
      by_cases he : rw_ (s 3) (a + 0) n2 = rw_ (s 3) (at0 + 0) n2
      · rw [if_pos he]
        have hix : nm_ix L (rw_ (s 3) at0 n2) = k := by
          unfold nm_ix
          rw [List.findIdx_eq hkl]
          refine ⟨decide_eq_true (hx.symm.trans he), fun j hj => ?_⟩
          exact decide_eq_false (hno j _ hj (List.getElem?_eq_getElem (by omega)))
        rw [hix, if_pos hkl]
      · rw [if_neg he]
        exact go (fun e => he (hx.trans e))
    · rw [if_neg h, mj_nameOf_30]
      simp only [if_true, nI_1, ite_self]
      exact go (fun e => by
        have := congrArg List.length (hx.trans e)
        rw [rw_len, rw_len] at this
        exact h this)
