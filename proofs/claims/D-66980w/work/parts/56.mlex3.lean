/-! ===== words, numbers, texts, signs of a text: what they are, and what the reference finds ===== -/
theorem nsb_ {a b : Nat} (h : b ≤ a) : nI a - nI b = nI (a - b) := by
  have e := nI_add (a - b) b
  rw [Nat.sub_add_cancel h] at e
  rw [← e]
  grind
/-- behind the letters, digits, dots, lines from p on -/
def rs_ (t : Nat → Nat) (n : Nat) : Nat → Nat → Nat
  | 0, p => p
  | m + 1, p => if cR_ (tx_ t n p) = true then rs_ t n m (p + 1) else p
def dv_ (c : Nat) : Nat := if cD_ c = true then c - 48 else if 65 ≤ c ∧ c ≤ 70 then c - 55 else 99
def dg_ (t : Nat → Nat) (n base : Nat) : Nat → Nat → Nat → Nat × Nat
  | 0, p, v => (v, p)
  | m + 1, p, v => if dv_ (tx_ t n p) < base then dg_ t n base m (p + 1) (if v < 4294967296 then v * base + dv_ (tx_ t n p) else v) else (v, p)
/-- the bytes of a text up to its ", the place behind it -/
def sr_ (t : Nat → Nat) (n : Nat) : Nat → Nat → Nat → Option (List Int32 × Nat)
  | 0, _, _ => none
  | m + 1, p, k => if tx_ t n p = 34 then some ([], p + 1) else match lc_ t n p 34 with
    | none => none
    | some r => if k = 200 then none else (sr_ t n m r.2 (k + 1)).map fun q => (nI r.1 :: q.1, q.2)
def tw_ (t : Nat → Nat) : Nat → Nat → List Int32
  | _, 0 => []
  | p, k + 1 => nI (t p) :: tw_ t (p + 1) k
theorem tx_big {t : Nat → Nat} {n p : Nat} (h : n ≤ p) : tx_ t n p = 0 := if_neg (by omega)
theorem cR_0 : cR_ 0 = false := by decide
theorem rs_fix {t : Nat → Nat} {n : Nat} : ∀ m p, n ≤ p → rs_ t n m p = p
  | 0, p, _ => rfl
  | m + 1, p, h => by
    unfold rs_
    rw [tx_big h, cR_0]
    rfl
theorem rs_le {t : Nat → Nat} {n : Nat} : ∀ m p, p ≤ n → p ≤ rs_ t n m p ∧ rs_ t n m p ≤ n
  | 0, p, h => ⟨Nat.le_refl _, h⟩
  | m + 1, p, h => by
    unfold rs_
    split
    · rename_i hc
      by_cases hp : p < n
      · have := rs_le (t := t) m (p + 1) (show p + 1 ≤ n by omega)
        omega
      · rw [tx_big (by omega), cR_0] at hc; cases hc
    · exact ⟨Nat.le_refl _, h⟩
/-- every sign on the way is such a one -/
theorem rs_all {t : Nat → Nat} {n : Nat} : ∀ m p, ∀ i, p ≤ i → i < rs_ t n m p → cR_ (tx_ t n i) = true
  | 0, p, i, h1, h2 => by unfold rs_ at h2; omega
  | m + 1, p, i, h1, h2 => by
    unfold rs_ at h2
    split at h2
    · rename_i hc
      by_cases e : i = p
      · rw [e]; exact hc
      · exact rs_all m (p + 1) i (by omega) h2
    · omega
theorem cR_lt {c : Nat} (h : cR_ c = true) : c < 128 := by
  unfold cR_ cL_ cD_ at h
  simp at h
  omega
theorem by_128 : ∀ c, c < 128 → (nI c).toInt8.toInt32 = nI c := by decide +kernel
theorem rw_tw {s : mm_S} {t : Nat → Nat} {n : Nat} (h : mSrc s t n) : ∀ k p, p + k ≤ n → (∀ i, p ≤ i → i < p + k → t i < 128) → rw_ (s 3) p k = tw_ t p k
  | 0, _, _, _ => rfl
  | k + 1, p, hk, ht => by
    unfold rw_ tw_
    rw [(h.2.2 p (by omega)).2, by_128 _ (ht p (by omega) (by omega)), rw_tw h k (p + 1) (by omega) (fun i h1 h2 => ht i (by omega) (by omega))]
theorem lg_lt {a b : Nat} (ha : a < 2 ^ 63) (hb : b < 2 ^ 63) : (lg_cmp (lN a) (lN b) < 0) = (a < b) := by
  have e : lg_cmp (lN a) (lN b) = if lN b < lN a then 1 else if lN a = lN b then 0 else -1 := rfl
  rw [e]
  simp only [pk_lLT hb ha, pk_lEQ ha hb]
  by_cases h : b < a
  · simp only [h, if_true]
    refine propext ⟨fun q => absurd q (by decide), fun q => by omega⟩
  · simp only [h, if_false]
    by_cases h2 : a = b
    · simp only [h2, if_true]
      exact propext ⟨fun q => absurd q (by decide), fun q => by omega⟩
    · simp only [h2, if_false]
      exact propext ⟨fun _ => by omega, fun _ => by decide⟩
theorem dg_b {t : Nat → Nat} {n base : Nat} (hb : base ≤ 16) : ∀ m p v, v < 68719476752 → (dg_ t n base m p v).1 < 68719476752
  | 0, _, _, h => h
  | m + 1, p, v, h => by
    unfold dg_
    split
    · refine dg_b hb m _ _ ?_
      split
      · have := Nat.mul_le_mul (show v ≤ 4294967295 by omega) hb
        omega
      · exact h
    · exact h
theorem dg_p {t : Nat → Nat} {n base : Nat} (hb : base ≤ 16) : ∀ m p v, p ≤ n → p ≤ (dg_ t n base m p v).2 ∧ (dg_ t n base m p v).2 ≤ n
  | 0, _, _, h => ⟨Nat.le_refl _, h⟩
  | m + 1, p, v, h => by
    unfold dg_
    split
    · rename_i hd
      by_cases hp : p < n
      · have := dg_p (t := t) hb m (p + 1) (if v < 4294967296 then v * base + dv_ (tx_ t n p) else v) (show p + 1 ≤ n by omega)
        omega
      · rw [tx_big (by omega)] at hd
        have : dv_ 0 = 99 := by decide
        omega
    · exact ⟨Nat.le_refl _, h⟩
theorem dv_lt {c : Nat} (h : c < 256) : dv_ c < 256 := by
  unfold dv_
  split
  · omega
  · split <;> omega
theorem m_digits_step (d p0 base p v : Nat) {s : mm_S} {t : Nat → Nat} {n : Nat} (h : mSrc s t n) (hb : base ≤ 16) (hp : p ≤ n) (hv : v < 68719476752) :
    mJ (d + 2) 15 8 [vr_ (some 0), vi_ (nI p0), vi_ (nI base), vi_ (nI p), vl_ (lN v), vi_ 1] [] s = (if dv_ (tx_ t n p) < base then mJ (d + 2) 15 8 [vr_ (some 0), vi_ (nI p0), vi_ (nI base), vi_ (nI (p + 1)), vl_ (lN (if v < 4294967296 then v * base + dv_ (tx_ t n p) else v)), vi_ 1] [] s else mJ (d + 2) 15 8 [vr_ (some 0), vi_ (nI p0), vi_ (nI base), vi_ (nI p), vl_ (lN v), vi_ 0] [] s) := by
  have hn := h.2.1
  have hc := tx_lt h p
  rw [mj_digits_8, if_neg (by decide), m_look _ p h (by omega)]
  simp only [mm_bI]
  rw [m_isDigit _ _ _ (by omega)]
  generalize tx_ t n p = c at *
  have j1 : ∀ x, x < 100 → mJ (d + 2) 15 76 [vr_ (some 0), vi_ (nI p0), vi_ (nI base), vi_ (nI p), vl_ (lN v), vi_ (nI x)] [vi_ 1] s = mJ (d + 2) 15 8 [vr_ (some 0), vi_ (nI p0), vi_ (nI base), vi_ (nI (p + 1)), vl_ (lN (if v < 4294967296 then v * base + x else v)), vi_ 1] [] s := by
    intro x hx
    rw [mj_digits_76, if_neg (by decide), nI_1, show (4294967296 : Int64) = lN 4294967296 from rfl, nI_l (show base < 2 ^ 31 by omega), nI_l (show x < 2 ^ 31 by omega), lN_mul, lN_add]
    simp only [lg_lt (show v < 2 ^ 63 by omega) (show 4294967296 < 2 ^ 63 by omega)]
    by_cases hv2 : v < 4294967296
    · rw [if_pos hv2, if_pos hv2]
    · rw [if_neg hv2, if_neg hv2]
  have j0 : ∀ x, mJ (d + 2) 15 76 [vr_ (some 0), vi_ (nI p0), vi_ (nI base), vi_ (nI p), vl_ (lN v), vi_ x] [vi_ 0] s = mJ (d + 2) 15 8 [vr_ (some 0), vi_ (nI p0), vi_ (nI base), vi_ (nI p), vl_ (lN v), vi_ 0] [] s := by
    intro x
    rw [mj_digits_76, if_pos rfl]
  have j9 : (99 : Int32) = nI 99 := rfl
  simp only [zb_0, nlt1_ 65 (show c < 2 ^ 31 by omega) (by decide), nlt2_ 70 (show c < 2 ^ 31 by omega) (by decide), nlt2_ 99 (show base < 2 ^ 31 by omega) (by decide)]
  unfold dv_
  cases hD : cD_ c with
  | true =>
    have h48 : 48 ≤ c ∧ c ≤ 57 := by unfold cD_ at hD; simp at hD; exact hD
    simp only [if_true, Bool.true_eq_false, if_false]
    rw [show (nI c - 48 : Int32) = nI (c - 48) from nsb_ h48.1]
    simp only [nlt_ (show c - 48 < 2 ^ 31 by omega) (show base < 2 ^ 31 by omega), j0, j1 _ (show c - 48 < 100 by omega)]
  | false =>
    simp only [if_true, Bool.false_eq_true, if_false]
    rw [if_neg (show ¬ 99 < base by omega)]
    by_cases h65 : c < 65
    · rw [if_pos h65, if_neg (show ¬ (65 ≤ c ∧ c ≤ 70) by omega), if_neg (show ¬ 99 < base by omega), j0]
    · rw [if_neg h65]
      by_cases h70 : 70 < c
      · rw [if_pos h70, if_neg (show ¬ (65 ≤ c ∧ c ≤ 70) by omega), if_neg (show ¬ 99 < base by omega), j0]
      · rw [if_neg h70, if_pos (show 65 ≤ c ∧ c ≤ 70 by omega), show (nI c - 65 + 10 : Int32) = nI (c - 55) from by
          rw [show (nI c - 65 : Int32) = nI (c - 65) from nsb_ (a := c) (b := 65) (by omega), show (10 : Int32) = nI 10 from rfl, nI_add, show c - 65 + 10 = c - 55 by omega]]
        simp only [nlt_ (show c - 55 < 2 ^ 31 by omega) (show base < 2 ^ 31 by omega), j0, j1 _ (show c - 55 < 100 by omega)]
theorem m_digits_loop (d p0 base : Nat) {s : mm_S} {t : Nat → Nat} {n : Nat} (h : mSrc s t n) (hb : base ≤ 16) : ∀ m p v, n ≤ p + m → p ≤ n → p0 ≤ n → v < 68719476752 →
    mJ (d + 2) 15 8 [vr_ (some 0), vi_ (nI p0), vi_ (nI base), vi_ (nI p), vl_ (lN v), vi_ 1] [] s = some (some (vi_ (if (dg_ t n base (m + 1) p v).2 = p0 ∨ ¬ (dg_ t n base (m + 1) p v).1 < 4294967296 then -1 else nI (dg_ t n base (m + 1) p v).2)), mm_u s 0 22 (nI (dg_ t n base (m + 1) p v).1)) := by
  intro m
  have hn := h.2.1
  have fin : ∀ p v, p ≤ n → p0 ≤ n → v < 68719476752 → mJ (d + 2) 15 8 [vr_ (some 0), vi_ (nI p0), vi_ (nI base), vi_ (nI p), vl_ (lN v), vi_ 0] [] s = some (some (vi_ (if p = p0 ∨ ¬ v < 4294967296 then -1 else nI p)), mm_u s 0 22 (nI v)) := by
    intro p v hp hp0 hv
    rw [mj_digits_8, if_pos rfl, lN_i, show (4294967296 : Int64) = lN 4294967296 from rfl]
    simp only [lg_lt (show v < 2 ^ 63 by omega) (show 4294967296 < 2 ^ 63 by omega), neq_ (show p < 2 ^ 31 by omega) (show p0 < 2 ^ 31 by omega)]
    by_cases h1 : p = p0
    · simp [h1]
    · by_cases h2 : v < 4294967296
      · simp [h1, h2]
      · simp [h1, h2]
  have e0 : dv_ 0 = 99 := by decide
  induction m with
  | zero =>
    intro p v h1 h2 h3 h4
    obtain rfl : p = n := by omega
    have e1 : ¬ dv_ (tx_ t p p) < base := by rw [tx_big (Nat.le_refl _), e0]; omega
    rw [m_digits_step d p0 base p v h hb h2 h4]
    unfold dg_
    rw [if_neg e1, if_neg e1]
    exact fin p v h2 h3 h4
  | succ m ih =>
    intro p v h1 h2 h3 h4
    rw [m_digits_step d p0 base p v h hb h2 h4]
    unfold dg_
    by_cases e1 : dv_ (tx_ t n p) < base
    · rw [if_pos e1, if_pos e1]
      have hpn : p < n := by
        refine Decidable.byContradiction fun q => ?_
        rw [tx_big (by omega), e0] at e1
        omega
      refine ih (p + 1) _ (by omega) (by omega) h3 ?_
      split
      · have := Nat.mul_le_mul (show v ≤ 4294967295 by omega) hb
        omega
      · exact h4
    · rw [if_neg e1, if_neg e1]
      exact fin p v h2 h3 h4
theorem m_digits (d p base : Nat) {s : mm_S} {t : Nat → Nat} {n : Nat} (h : mSrc s t n) (hb : base ≤ 16) (hp : p ≤ n) :
    mE (d + 2) 15 [vr_ (some 0), vi_ (nI p), vi_ (nI base)] s = some (some (vi_ (if (dg_ t n base (n + 1) p 0).2 = p ∨ ¬ (dg_ t n base (n + 1) p 0).1 < 4294967296 then -1 else nI (dg_ t n base (n + 1) p 0).2)), mm_u s 0 22 (nI (dg_ t n base (n + 1) p 0).1)) := by
  rw [me_digits, show (0 : Int64) = lN 0 from rfl]
  exact m_digits_loop d p base h hb n p 0 (by omega) hp hp (by omega)
theorem m_nameOf (d : Nat) (s : mm_S) (L : List (List Int32)) (hL : mNm s L) (hl : L.length < 3100) (at0 n : Nat) (hn : at0 + n ≤ 6000) :
    ∃ s', mE (d + 1) 2 [vr_ (some 0), vi_ (nI at0), vi_ (nI n)] s = some (some (vi_ (nI (nm_ix (nm_ad L (rw_ (s 3) at0 n)) (rw_ (s 3) at0 n)))), s') ∧ mNm s' (nm_ad L (rw_ (s 3) at0 n)) := by
  rw [me_nameOf, show (0 : Int32) = nI 0 from rfl, m_nameOf_out d s L hL hl at0 n hn L.length 0 (by omega) (fun j y hj => by omega)]
  unfold nm_ad
  by_cases h : nm_ix L (rw_ (s 3) at0 n) < L.length
  · rw [if_pos h, if_pos h]
    exact ⟨s, rfl, hL⟩
  · rw [if_neg h, if_neg h]
    have hix : nm_ix (L ++ [rw_ (s 3) at0 n]) (rw_ (s 3) at0 n) = L.length := by
      unfold nm_ix at h ⊢
      rw [List.findIdx_append]
      simp [h]
    rw [hix]
    refine ⟨_, rfl, ?_, ?_⟩
    · rw [mu_s]; simp
    · intro j x hx
      by_cases hj : j < L.length
      · rw [List.getElem?_append_left hj] at hx
        obtain ⟨a, n2, h1, h2, h3, h4⟩ := hL.2 j x hx
        exact ⟨a, n2, by rw [mu_n (by omega), mu_n (by omega), mu_n (by omega), h1], by rw [mu_n (by omega), mu_n (by omega), mu_n (by omega), h2], h3, by
          rw [← h4]
          rfl⟩
      · have hj2 : j = L.length := by
          have := (List.getElem?_eq_some_iff.mp hx).1
          simp at this
          omega
        subst hj2
        simp at hx
        subst hx
        exact ⟨at0, n, by rw [mu_n (by omega), mu_n (by omega), mu_s], by rw [mu_n (by omega), mu_s], hn, rfl⟩
theorem m_isPair (d p a b : Nat) {s : mm_S} {t : Nat → Nat} {n : Nat} (h : mSrc s t n) (hp : p < 2 ^ 30) (ha : a < 2 ^ 31) (hb : b < 2 ^ 31) :
    mE (d + 2) 16 [vr_ (some 0), vi_ (nI p), vi_ (nI a), vi_ (nI b)] s = some (some (vi_ (zb_ (decide (tx_ t n p = a) && decide (tx_ t n (p + 1) = b)))), s) := by
  have h1 := tx_lt h p
  have h2 := tx_lt h (p + 1)
  rw [me_isPair, m_look _ p h (by omega), nI_1]
  simp only [mm_bI]
  rw [m_look _ (p + 1) h (by omega)]
  simp only [neq_ (show tx_ t n p < 2 ^ 31 by omega) ha, neq_ (show tx_ t n (p + 1) < 2 ^ 31 by omega) hb]
  by_cases e1 : tx_ t n p = a
  · by_cases e2 : tx_ t n (p + 1) = b
    · simp [e1, e2, zb_]
    · simp [e1, e2, zb_]
  · simp [e1, zb_]
