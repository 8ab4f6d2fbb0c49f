/-! ===== numbers ===== -/
theorem nl_ (n : Nat) : (OfNat.ofNat n : Int32) = nI n := rfl
theorem nlt_ {a b : Nat} (ha : a < 2 ^ 31) (hb : b < 2 ^ 31) : (nI a < nI b) = (a < b) := propext (nI_ltI ha hb)
theorem nle_ {a b : Nat} (ha : a < 2 ^ 31) (hb : b < 2 ^ 31) : (nI a ≤ nI b) = (a ≤ b) := propext (nI_leI ha hb)
theorem neq_ {a b : Nat} (ha : a < 2 ^ 31) (hb : b < 2 ^ 31) : (nI a = nI b) = (a = b) := propext (nI_eq ha hb)
theorem mm_in_n {n N : Nat} (h : n < N) (hN : N < 2 ^ 31) : mm_in (nI n) N = true := by
  unfold mm_in
  rw [nI_clamp (by omega)]
  simp [nI_pos' (show n < 2 ^ 31 by omega), h]
theorem mm_a_n {n N k : Nat} {s : mm_S} (h : n < N) (hN : N < 2 ^ 31) : mm_a N k (nI n) s = some (s k n) := by
  unfold mm_a
  rw [mm_in_n h hN, nI_clamp (by omega)]
  rfl
theorem mm_w_n {n N k : Nat} {s : mm_S} {y : Int32} (h : n < N) (hN : N < 2 ^ 31) : mm_w N k (nI n) y s = some (mm_u s k n y) := by
  unfold mm_w
  rw [mm_in_n h hN, nI_clamp (by omega)]
  rfl
theorem mu_s {s : mm_S} {k i : Nat} {x : Int32} : mm_u s k i x k i = x := by simp [mm_u]
theorem mu_n {s : mm_S} {k i a b : Nat} {x : Int32} (h : ¬ (a = k ∧ b = i)) : mm_u s k i x a b = s a b := by
  unfold mm_u
  by_cases h1 : a = k
  · by_cases h2 : b = i
    · exact absurd ⟨h1, h2⟩ h
    · simp [h1, h2]
  · simp [h1]
