/-! ===== feed of the reference ===== -/
/-- the k-th byte of five ints -/
def fd_w (a b c d e : Int32) (k : Nat) : Int32 := if k < 4 then a else if k < 8 then b else if k < 12 then c else if k < 16 then d else e
def fd_b (a b c d e : Int32) (k : Nat) : Int32 := ((fd_w a b c d e k) >>> ((24 - 8 * nI (k % 4)) &&& 31)).toInt8.toInt32
theorem i8_i8 (x : Int32) : x.toInt8.toInt32.toInt8.toInt32 = x.toInt8.toInt32 := by
  rw [Int8.toInt8_toInt32]
/-- the tape with j bytes more from n on, its length too; nothing is thrown -/
def fd_s (s : mm_S) (f : Nat → Int32) (n j : Nat) : mm_S := fun a b => if a = 1 then (if n ≤ b ∧ b < n + j then f (b - n) else s a b) else if a = 0 then (if b = 2 then nI (n + j) else if b = 0 then 0 else s a b) else s a b
theorem fd_and3 (j : Nat) (h : j < 20) : nI j &&& 3 = nI (j % 4) := by
  have : ∀ j, j < 20 → nI j &&& 3 = nI (j % 4) := by decide +kernel
  exact this j h
theorem m_feed_loop (d : Nat) (a b c e f : Int32) (s : mm_S) (n : Nat) (hn : n + 20 ≤ 6000) : ∀ m j, j + m = 20 → mJ (d + 1) 133 23 [vr_ (some 0), vi_ a, vi_ b, vi_ c, vi_ e, vi_ f, vi_ (nI j)] [] (fd_s s (fd_b a b c e f) n j) = some (some (vi_ 1), fd_s s (fd_b a b c e f) n 20) := by
  intro m
  induction m with
  | zero =>
    intro j hj
    obtain rfl : j = 20 := by omega
    rw [mj_feed_23]
    rfl
  | succ m ih =>
    intro j hj
    have hj20 : j < 20 := by omega
    have hst : ∀ w : Int32, w = fd_w a b c e f j → mJ (d + 1) 133 74 [vr_ (some 0), vi_ a, vi_ b, vi_ c, vi_ e, vi_ f, vi_ (nI j), vi_ w] [] (fd_s s (fd_b a b c e f) n j) = some (some (vi_ 1), fd_s s (fd_b a b c e f) n 20) := by
      intro w hw
      rw [mj_feed_74]
      have h2 : fd_s s (fd_b a b c e f) n j 0 2 = nI (n + j) := by simp [fd_s]
      rw [h2, mm_w_n (by omega) (by omega), Option.bind_some, i8_i8, fd_and3 j hj20, nI_1 j]
      have h3 : mm_u (fd_s s (fd_b a b c e f) n j) 1 (n + j) (w >>> ((24 - 8 * nI (j % 4)) &&& 31)).toInt8.toInt32 0 2 = nI (n + j) := by rw [mu_n (by omega), h2]
      rw [h3, nI_1 (n + j)]
      have h4 : mm_u (mm_u (fd_s s (fd_b a b c e f) n j) 1 (n + j) (w >>> ((24 - 8 * nI (j % 4)) &&& 31)).toInt8.toInt32) 0 2 (nI (n + j + 1)) = fd_s s (fd_b a b c e f) n (j + 1) := by
        funext x y
        have hb : (w >>> ((24 - 8 * nI (j % 4)) &&& 31)).toInt8.toInt32 = fd_b a b c e f j := by rw [hw]; rfl
        rw [hb]
        unfold mm_u fd_s
        by_cases h1 : x = 0
        · subst h1
          by_cases h2 : y = 2
          · subst h2
            simp [Nat.add_assoc]
          · simp [h2]
        · by_cases h2 : x = 1
          · subst h2
            by_cases h5 : y = n + j
            · subst h5
              simp
            · by_cases h6 : n ≤ y ∧ y < n + j
              · simp [h5, h6, show y < n + (j + 1) by omega]
              · have h7 : ¬ (n ≤ y ∧ y < n + (j + 1)) := by omega
                simp [h5, h6, h7]
          · simp [h1, h2]
      rw [h4]
      exact ih (j + 1) (by omega)
    rw [mj_feed_23]
    have q : ∀ k : Nat, k < 2 ^ 31 → (nI j < nI k) = (j < k) := fun k hk => nlt_ (by omega) hk
    simp only [nl_, q 20 (by omega), q 4 (by omega), q 8 (by omega), if_pos hj20]
    by_cases c1 : j < 4
    · have c2 : j < 8 := by omega
      simp only [c1, c2, if_true]
      rw [mj_feed_52]
      simp only [nl_, q 12 (by omega), q 16 (by omega), show j < 12 by omega, show j < 16 by omega, if_true]
      exact hst _ (by simp [fd_w, c1])
    · by_cases c2 : j < 8
      · simp only [c1, c2, if_true, if_false]
        rw [mj_feed_52]
        simp only [nl_, q 12 (by omega), q 16 (by omega), show j < 12 by omega, show j < 16 by omega, if_true]
        exact hst _ (by simp [fd_w, c1, c2])
      · simp only [c1, c2, if_false]
        rw [mj_feed_52]
        simp only [nl_, q 12 (by omega), q 16 (by omega)]
        by_cases c3 : j < 12
        · simp only [c3, show j < 16 by omega, if_true]
          exact hst _ (by simp [fd_w, c1, c2, c3])
        · by_cases c4 : j < 16
          · simp only [c3, c4, if_true, if_false]
            exact hst _ (by simp [fd_w, c1, c2, c3, c4])
          · simp only [c3, c4, if_false]
            exact hst _ (by simp [fd_w, c1, c2, c3, c4])
theorem m_feed (d : Nat) (a b c e f : Int32) (s : mm_S) (n : Nat) (hs : s 0 2 = nI n) (hn : n + 20 ≤ 6000) : mE (d + 1) 133 [vr_ (some 0), vi_ a, vi_ b, vi_ c, vi_ e, vi_ f] s = some (some (vi_ 1), fd_s s (fd_b a b c e f) n 20) := by
  rw [me_feed, hs]
  have h1 : ¬ (6000 : Int32) < nI n + 20 := by
    show ¬ nI 6000 < nI n + nI 20
    rw [nI_add, nlt_ (by omega) (by omega)]
    omega
  rw [if_neg h1]
  have h0 := m_feed_loop d a b c e f s n hn 20 0 rfl
  have h2 : fd_s s (fd_b a b c e f) n 0 = mm_u s 0 0 0 := by
    funext x y
    unfold fd_s mm_u
    by_cases h1 : x = 0
    · subst h1
      by_cases h2 : y = 2
      · subst h2; simp [hs]
      · by_cases h3 : y = 0 <;> simp [h2, h3]
    · by_cases h2 : x = 1
      · subst h2
        simp
        omega
      · simp [h1, h2]
  rw [h2] at h0
  exact h0
