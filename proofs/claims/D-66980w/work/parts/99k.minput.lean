/-! ===== the reference's input: blanks and digits of a row of bytes ===== -/
def bl_i (c : Nat) : Bool := decide (c = 32) || decide (c = 9) || decide (c = 10) || decide (c = 13)
def jn_i (b : Nat → Nat) (p : Nat) : Bool := (bl_i (b p) && bl_i (b (p + 1))) || (cD_ (b p) && cD_ (b (p + 1)))
/-- from a byte with m behind it: where its row ends, 10 to as many digits as stand behind it, what the digits from it on are -/
def ru_i (b : Nat → Nat) : Nat → Nat → Nat × Int32 × Int32
  | 0, p => (p + 1, 1, if cD_ (b p) = true then 0 + (nI (b p) - 48) * 1 else 0)
  | m + 1, p => if jn_i b p = true then ((ru_i b m (p + 1)).1, (ru_i b m (p + 1)).2.1 * 10, if cD_ (b p) = true then (ru_i b m (p + 1)).2.2 + (nI (b p) - 48) * ((ru_i b m (p + 1)).2.1 * 10) else 0) else (p + 1, 1, if cD_ (b p) = true then 0 + (nI (b p) - 48) * 1 else 0)
theorem m_isBlank (d c : Nat) (s : mm_S) (hc : c < 2 ^ 31) : mE (d + 1) 114 [vi_ (nI c)] s = some (some (vi_ (zb_ (bl_i c))), s) := by
  rw [me_isBlank]
  simp only [neq1_ 32 hc (by decide), neq1_ 9 hc (by decide), neq1_ 10 hc (by decide), neq1_ 13 hc (by decide)]
  unfold bl_i
  by_cases h1 : c = 32
  · simp [h1, zb_]
  by_cases h2 : c = 9
  · simp [h2, zb_]
  by_cases h3 : c = 10
  · simp [h3, zb_]
  by_cases h4 : c = 13
  · simp [h4, zb_]
  simp [h1, h2, h3, h4, zb_]
theorem m_isBlank_n (d : Nat) (s : mm_S) : mE (d + 1) 114 [vi_ (-1)] s = some (some (vi_ 0), s) := by
  rw [me_isBlank]
  rfl
theorem m_isDigit_n (d : Nat) (s : mm_S) : mE (d + 1) 6 [vi_ (-1)] s = some (some (vi_ 0), s) := by
  rw [me_isDigit]
  rfl
section rows
variable {b : Nat → Nat} {n k : Nat}
theorem m_rows_159 (d p : Nat) (hp : p < n) (hn : n ≤ 6000) (hk : k < 4) (hb : ∀ i, i < n → b i < 256) {s : mm_S} (j : Bool) (u : Int32) (dv : Int32) (hj : j = true → p + 1 < n ∧ s 111 (6000 * k + (p + 1)) = dv) :
    mJ (d + 2) 115 159 [vr_ (some 0), vi_ (nI k), vi_ (nI p), vi_ (nI (6000 * k + p)), vi_ (nI (b p)), vi_ (zb_ j)] [vi_ u] s = mJ (d + 2) 115 11 [vr_ (some 0), vi_ (nI k), vi_ u, vi_ (nI p - 1)] [] (mm_u s 111 (6000 * k + p) (if cD_ (b p) = true then (if j = true then dv else 0) + (nI (b p) - 48) * u else 0)) := by
  have hbp := hb p hp
  have e : (nI p + -1 : Int32) = nI p - 1 := (Int32.sub_eq_add_neg _ _).symm
  rw [mj_rowsOf_159, m_isDigit d (b p) s (by omega), bI_k, e]
  cases hd : cD_ (b p) with
  | false =>
    rw [if_pos (show zb_ false = 0 from rfl), mm_w_n (by omega) (by decide), Option.bind_some, if_neg (by decide)]
  | true =>
    rw [if_neg (show ¬ zb_ true = 0 by decide), if_pos rfl]
    cases j with
    | false => rw [if_pos (show zb_ false = 0 from rfl), mm_w_n (by omega) (by decide), Option.bind_some, if_neg (by decide)]
    | true =>
      obtain ⟨h1, h2⟩ := hj rfl
      rw [if_neg (show ¬ zb_ true = 0 by decide), nI_1, mm_a_n (by omega) (by decide), Option.bind_some, show 6000 * k + p + 1 = 6000 * k + (p + 1) by omega, h2, mm_w_n (by omega) (by decide), Option.bind_some, if_pos rfl]
theorem m_rows_117 (d p : Nat) (hp : p < n) (hn : n ≤ 6000) (hk : k < 4) (hb : ∀ i, i < n → b i < 256) {s : mm_S} (j : Bool) (x2 e dv : Int32) (hj : j = true → p + 1 < n ∧ s 110 (6000 * k + (p + 1)) = e ∧ s 111 (6000 * k + (p + 1)) = dv) :
    mJ (d + 2) 115 117 [vr_ (some 0), vi_ (nI k), vi_ x2, vi_ (nI p), vi_ (nI (6000 * k + p)), vi_ (nI (b p))] [vi_ (zb_ j)] s = mJ (d + 2) 115 11 [vr_ (some 0), vi_ (nI k), vi_ (if j = true then x2 * 10 else 1), vi_ (nI p - 1)] [] (mm_u (mm_u s 110 (6000 * k + p) (if j = true then e else nI (p + 1))) 111 (6000 * k + p) (if cD_ (b p) = true then (if j = true then dv else 0) + (nI (b p) - 48) * (if j = true then x2 * 10 else 1) else 0)) := by
  rw [mj_rowsOf_117]
  cases j with
  | false =>
    rw [if_pos (show zb_ false = 0 from rfl), nI_1, mm_w_n (by omega) (by decide), Option.bind_some]
    exact m_rows_159 d p hp hn hk hb false 1 0 (fun h => by cases h)
  | true =>
    obtain ⟨h1, h2, h3⟩ := hj rfl
    rw [if_neg (show ¬ zb_ true = 0 by decide), nI_1, mm_a_n (by omega) (by decide), Option.bind_some, show 6000 * k + p + 1 = 6000 * k + (p + 1) by omega, h2, mm_w_n (by omega) (by decide), Option.bind_some]
    exact m_rows_159 d p hp hn hk hb true (x2 * 10) dv (fun _ => ⟨h1, by rw [mu_n (by omega)]; exact h3⟩)
theorem m_rows_11 (d p : Nat) (hp : p < n) (hn : n ≤ 6000) (hk : k < 4) (hb : ∀ i, i < n → b i < 256) {s : mm_S} (h109 : ∀ i, i < n → s 109 (6000 * k + i) = (nI (b i)).toInt8.toInt32) (h112 : s 112 k = nI n) (x2 e dv : Int32) (hj : p + 1 < n → s 110 (6000 * k + (p + 1)) = e ∧ s 111 (6000 * k + (p + 1)) = dv) :
    mJ (d + 2) 115 11 [vr_ (some 0), vi_ (nI k), vi_ x2, vi_ (nI p)] [] s = mJ (d + 2) 115 11 [vr_ (some 0), vi_ (nI k), vi_ (if p + 1 < n ∧ jn_i b p = true then x2 * 10 else 1), vi_ (nI p - 1)] [] (mm_u (mm_u s 110 (6000 * k + p) (if p + 1 < n ∧ jn_i b p = true then e else nI (p + 1))) 111 (6000 * k + p) (if cD_ (b p) = true then (if p + 1 < n ∧ jn_i b p = true then dv else 0) + (nI (b p) - 48) * (if p + 1 < n ∧ jn_i b p = true then x2 * 10 else 1) else 0)) := by
  have hbp := hb p hp
  have e6 : ((6000 : Int32) * nI k + nI p) = nI (6000 * k + p) := by
    rw [show (6000 : Int32) = nI 6000 from rfl, pk_mul, nI_add]
  rw [mj_rowsOf_11, if_neg (by rw [nlt1_ 0 (by omega) (by decide)]; omega), e6, mm_a_n (by omega) (by decide), Option.bind_some, h109 p hp, by_255 _ hbp, mm_a_n hk (by decide), Option.bind_some, h112, nI_1]
  simp only [nlt_ (show p + 1 < 2 ^ 31 by omega) (show n < 2 ^ 31 by omega)]
  by_cases c : p + 1 < n
  · have hbq := hb (p + 1) c
    rw [if_pos c, mj_rowsOf_54, if_neg (by decide), nI_1, mm_a_n (by omega) (by decide), Option.bind_some, show 6000 * k + p + 1 = 6000 * k + (p + 1) by omega, h109 (p + 1) c, by_255 _ hbq, mj_rowsOf_78]
    simp only [m_isBlank d (b p) _ (show b p < 2 ^ 31 by omega), m_isBlank d (b (p + 1)) _ (show b (p + 1) < 2 ^ 31 by omega), m_isDigit d (b p) _ (show b p < 2 ^ 31 by omega), m_isDigit d (b (p + 1)) _ (show b (p + 1) < 2 ^ 31 by omega), bI_k, zb_0]
    have go : ∀ j : Bool, jn_i b p = j → mJ (d + 2) 115 117 [vr_ (some 0), vi_ (nI k), vi_ x2, vi_ (nI p), vi_ (nI (6000 * k + p)), vi_ (nI (b p))] [vi_ (zb_ j)] s = mJ (d + 2) 115 11 [vr_ (some 0), vi_ (nI k), vi_ (if p + 1 < n ∧ jn_i b p = true then x2 * 10 else 1), vi_ (nI p - 1)] [] (mm_u (mm_u s 110 (6000 * k + p) (if p + 1 < n ∧ jn_i b p = true then e else nI (p + 1))) 111 (6000 * k + p) (if cD_ (b p) = true then (if p + 1 < n ∧ jn_i b p = true then dv else 0) + (nI (b p) - 48) * (if p + 1 < n ∧ jn_i b p = true then x2 * 10 else 1) else 0)) := by
      intro j hj2
      rw [m_rows_117 d p hp hn hk hb j x2 e dv (fun _ => ⟨c, (hj c).1, (hj c).2⟩), hj2]
      simp only [c, true_and]
    obtain ⟨R, hR⟩ : ∃ R, R = mJ (d + 2) 115 11 [vr_ (some 0), vi_ (nI k), vi_ (if p + 1 < n ∧ jn_i b p = true then x2 * 10 else 1), vi_ (nI p - 1)] [] (mm_u (mm_u s 110 (6000 * k + p) (if p + 1 < n ∧ jn_i b p = true then e else nI (p + 1))) 111 (6000 * k + p) (if cD_ (b p) = true then (if p + 1 < n ∧ jn_i b p = true then dv else 0) + (nI (b p) - 48) * (if p + 1 < n ∧ jn_i b p = true then x2 * 10 else 1) else 0)) := ⟨_, rfl⟩
    rw [← hR] at go ⊢
    clear hR
    cases h1 : bl_i (b p) <;> cases h2 : bl_i (b (p + 1)) <;> cases h3 : cD_ (b p) <;> cases h4 : cD_ (b (p + 1)) <;> simp only [if_true, if_false, Bool.true_eq_false, reduceCtorEq]
    all_goals first
      | exact go true (by simp [jn_i, h1, h2, h3, h4])
      | exact go false (by simp [jn_i, h1, h2, h3, h4])
  · rw [if_neg c, mj_rowsOf_54, if_pos rfl, mj_rowsOf_78]
    simp only [m_isBlank d (b p) _ (show b p < 2 ^ 31 by omega), m_isBlank_n, m_isDigit d (b p) _ (show b p < 2 ^ 31 by omega), m_isDigit_n, bI_k, zb_0]
    have go : mJ (d + 2) 115 117 [vr_ (some 0), vi_ (nI k), vi_ x2, vi_ (nI p), vi_ (nI (6000 * k + p)), vi_ (nI (b p))] [vi_ (zb_ false)] s = mJ (d + 2) 115 11 [vr_ (some 0), vi_ (nI k), vi_ (if p + 1 < n ∧ jn_i b p = true then x2 * 10 else 1), vi_ (nI p - 1)] [] (mm_u (mm_u s 110 (6000 * k + p) (if p + 1 < n ∧ jn_i b p = true then e else nI (p + 1))) 111 (6000 * k + p) (if cD_ (b p) = true then (if p + 1 < n ∧ jn_i b p = true then dv else 0) + (nI (b p) - 48) * (if p + 1 < n ∧ jn_i b p = true then x2 * 10 else 1) else 0)) := by
      rw [m_rows_117 d p hp hn hk hb false x2 e dv (fun h => by cases h)]
      simp only [c, false_and, if_false, Bool.false_eq_true]
    obtain ⟨R, hR⟩ : ∃ R, R = mJ (d + 2) 115 11 [vr_ (some 0), vi_ (nI k), vi_ (if p + 1 < n ∧ jn_i b p = true then x2 * 10 else 1), vi_ (nI p - 1)] [] (mm_u (mm_u s 110 (6000 * k + p) (if p + 1 < n ∧ jn_i b p = true then e else nI (p + 1))) 111 (6000 * k + p) (if cD_ (b p) = true then (if p + 1 < n ∧ jn_i b p = true then dv else 0) + (nI (b p) - 48) * (if p + 1 < n ∧ jn_i b p = true then x2 * 10 else 1) else 0)) := ⟨_, rfl⟩
    rw [← hR] at go ⊢
    clear hR
    cases h1 : bl_i (b p) <;> cases h3 : cD_ (b p) <;> simp only [if_true, if_false, Bool.true_eq_false, reduceCtorEq]
    all_goals exact go
theorem m_rows_all (d : Nat) (hn : n ≤ 6000) (hk : k < 4) (hb : ∀ i, i < n → b i < 256) : ∀ (p : Nat) (s : mm_S) (x2 : Int32), p ≤ n → (∀ i, i < n → s 109 (6000 * k + i) = (nI (b i)).toInt8.toInt32) → s 112 k = nI n → (∀ i, p ≤ i → i < n → s 110 (6000 * k + i) = nI (ru_i b (n - 1 - i) i).1 ∧ s 111 (6000 * k + i) = (ru_i b (n - 1 - i) i).2.2) → (p < n → x2 = (ru_i b (n - 1 - p) p).2.1) →
    ∃ s', mJ (d + 2) 115 11 [vr_ (some 0), vi_ (nI k), vi_ x2, vi_ (nI p - 1)] [] s = some (none, s') ∧ (∀ i, i < n → s' 110 (6000 * k + i) = nI (ru_i b (n - 1 - i) i).1 ∧ s' 111 (6000 * k + i) = (ru_i b (n - 1 - i) i).2.2) ∧ ∀ f i, ¬ ((f = 110 ∨ f = 111) ∧ 6000 * k ≤ i ∧ i < 6000 * k + n) → s' f i = s f i
  | 0, s, x2, _, _, _, hd, _ => by
    rw [mj_rowsOf_11, if_pos (by decide)]
    exact ⟨s, rfl, fun i hi => hd i (by omega) hi, fun _ _ _ => rfl⟩
  | p + 1, s, x2, hp, h109, h112, hd, hx => by
    rw [show (nI (p + 1) - 1 : Int32) = nI p from nI_pred _, m_rows_11 d p (by omega) hn hk hb h109 h112 x2 (nI (ru_i b (n - 1 - (p + 1)) (p + 1)).1) (ru_i b (n - 1 - (p + 1)) (p + 1)).2.2 (fun h => hd (p + 1) (by omega) h)]
    have er : ru_i b (n - 1 - p) p = (if p + 1 < n ∧ jn_i b p = true then ((ru_i b (n - 1 - (p + 1)) (p + 1)).1, (ru_i b (n - 1 - (p + 1)) (p + 1)).2.1 * 10, if cD_ (b p) = true then (ru_i b (n - 1 - (p + 1)) (p + 1)).2.2 + (nI (b p) - 48) * ((ru_i b (n - 1 - (p + 1)) (p + 1)).2.1 * 10) else 0) else (p + 1, 1, if cD_ (b p) = true then 0 + (nI (b p) - 48) * 1 else 0)) := by
      by_cases c : p + 1 < n
      · rw [show n - 1 - p = (n - 1 - (p + 1)) + 1 by omega]
        simp only [ru_i, c, true_and]
      · rw [show n - 1 - p = 0 by omega, if_neg (fun e => c e.1)]
        rfl
    obtain ⟨s', a1, a2, a3⟩ := m_rows_all d hn hk hb p (mm_u (mm_u s 110 (6000 * k + p) (if p + 1 < n ∧ jn_i b p = true then (nI (ru_i b (n - 1 - (p + 1)) (p + 1)).1) else nI (p + 1))) 111 (6000 * k + p) (if cD_ (b p) = true then (if p + 1 < n ∧ jn_i b p = true then (ru_i b (n - 1 - (p + 1)) (p + 1)).2.2 else 0) + (nI (b p) - 48) * (if p + 1 < n ∧ jn_i b p = true then x2 * 10 else 1) else 0)) (if p + 1 < n ∧ jn_i b p = true then x2 * 10 else 1) (by omega) (fun i hi => by rw [mu_n (by omega), mu_n (by omega)]; exact h109 i hi) (by rw [mu_n (by omega), mu_n (by omega)]; exact h112) (fun i h1 h2 => by
      by_cases e : i = p
      · subst e
        rw [mu_n (by omega), mu_s, mu_s, er]
        by_cases c : i + 1 < n ∧ jn_i b i = true
        · simp only [if_pos c]
          rw [hx c.1]
          simp
        · simp only [if_neg c]
          simp
      · rw [mu_n (by omega), mu_n (by omega), mu_n (by omega), mu_n (by omega)]
        exact hd i (by omega) h2) (fun _ => by
      rw [er]
      by_cases c : p + 1 < n ∧ jn_i b p = true
      · simp only [if_pos c]
        rw [hx c.1]
      · simp only [if_neg c])
    refine ⟨s', a1, a2, fun f i hf => ?_⟩
    rw [a3 f i hf, mu_n (by omega), mu_n (by omega)]
theorem m_input_28 (d : Nat) (hn : n ≤ 6000) (hk : k < 4) : ∀ m j (s : mm_S), j + m = n → ∃ s', mJ (d + 1) 138 28 [vr_ (some 0), vi_ (nI k), vi_ (nI n), vi_ (nI j)] [] s = mJ (d + 1) 138 28 [vr_ (some 0), vi_ (nI k), vi_ (nI n), vi_ (nI n)] [] s' ∧ (∀ i, j ≤ i → i < n → s' 109 (6000 * k + i) = (s 1 i).toInt8.toInt32) ∧ ∀ f i, ¬ (f = 109 ∧ 6000 * k + j ≤ i ∧ i < 6000 * k + n) → s' f i = s f i
  | 0, j, s, hj => ⟨s, by rw [show j = n by omega], fun i h1 h2 => by omega, fun _ _ _ => rfl⟩
  | m + 1, j, s, hj => by
    have e6 : ((6000 : Int32) * nI k + nI j) = nI (6000 * k + j) := by
      rw [show (6000 : Int32) = nI 6000 from rfl, pk_mul, nI_add]
    rw [mj_input_28, if_pos (by rw [nlt_ (by omega) (by omega)]; omega), mm_a_n (by omega) (by decide), Option.bind_some, e6, mm_w_n (by omega) (by decide), Option.bind_some, nI_1]
    obtain ⟨s', a1, a2, a3⟩ := m_input_28 d hn hk m (j + 1) (mm_u s 109 (6000 * k + j) (s 1 j).toInt8.toInt32) (by omega)
    refine ⟨s', a1, fun i h1 h2 => ?_, fun f i hf => ?_⟩
    · by_cases e : i = j
      · subst e
        rw [a3 109 _ (by omega), mu_s]
      · rw [a2 i (by omega) h2, mu_n (by omega)]
    · rw [a3 f i (by omega), mu_n (by omega)]
/-- input k: the tape's bytes, their rows -/
theorem m_input (d : Nat) {s : mm_S} (hn : n ≤ 6000) (hk : k < 4) (h2 : s 0 2 = nI n) (hb : ∀ i, i < n → b i < 256 ∧ s 1 i = (nI (b i)).toInt8.toInt32) : ∃ s', mE (d + 3) 138 [vr_ (some 0), vi_ (nI k)] s = some (some (vi_ (nI n)), s') ∧ s' 112 k = nI n ∧ s' 113 k = 0 ∧ (∀ i, i < n → s' 109 (6000 * k + i) = (nI (b i)).toInt8.toInt32 ∧ s' 110 (6000 * k + i) = nI (ru_i b (n - 1 - i) i).1 ∧ s' 111 (6000 * k + i) = (ru_i b (n - 1 - i) i).2.2) ∧ s' 0 0 = 0 ∧ s' 0 2 = 0 ∧ ∀ f i, ¬ (f = 0 ∧ (i = 0 ∨ i = 2)) → ¬ ((f = 112 ∨ f = 113) ∧ i = k) → ¬ ((109 ≤ f ∧ f ≤ 111) ∧ 6000 * k ≤ i ∧ i < 6000 * k + n) → s' f i = s f i := by
  have b8 : ∀ c, c < 256 → ((nI c).toInt8.toInt32).toInt8.toInt32 = (nI c).toInt8.toInt32 := by decide +kernel
  rw [me_input, if_neg (by rw [nlt1_ 0 (by omega) (by decide)]; omega), if_neg (by rw [nlt2_ 3 (by omega) (by decide)]; omega), h2]
  obtain ⟨s1, a1, a2, a3⟩ := m_input_28 (d + 2) hn hk n 0 (mm_u (mm_u s 0 0 0) 0 2 0) (by omega)
  have a1 : mJ (d + 2 + 1) 138 28 [vr_ (some 0), vi_ (nI k), vi_ (nI n), vi_ 0] [] (mm_u (mm_u s 0 0 0) 0 2 0) = _ := a1
  rw [a1, mj_input_28, if_neg (by rw [nlt_ (by omega) (by omega)]; omega), mm_w_n hk (by decide), Option.bind_some, mm_w_n hk (by decide), Option.bind_some]
  have h109 : ∀ i, i < n → mm_u (mm_u s1 112 k (nI n)) 113 k 0 109 (6000 * k + i) = (nI (b i)).toInt8.toInt32 := fun i hi => by
    rw [mu_n (by omega), mu_n (by omega), a2 i (by omega) hi, mu_n (by omega), mu_n (by omega), (hb i hi).2, b8 _ (hb i hi).1]
  have h112 : mm_u (mm_u s1 112 k (nI n)) 113 k 0 112 k = nI n := by rw [mu_n (by omega), mu_s]
  obtain ⟨s', c1, c2, c3⟩ := m_rows_all (d) (b := b) hn hk (fun i hi => (hb i hi).1) n _ 1 (Nat.le_refl _) h109 h112 (fun i h1 h2 => by omega) (fun h => by omega)
  rw [me_rowsOf, mm_a_n hk (by decide), Option.bind_some, h112]
  rw [c1, bV_k]
  refine ⟨s', rfl, ?_, ?_, fun i hi => ⟨?_, c2 i hi⟩, ?_, ?_, fun f i h1 h2 h3 => ?_⟩
  · rw [c3 _ _ (by omega)]; exact h112
  · rw [c3 _ _ (by omega), mu_s]
  · rw [c3 _ _ (by omega)]; exact h109 i hi
  · rw [c3 _ _ (by omega), mu_n (by omega), mu_n (by omega), a3 _ _ (by omega), mu_n (by omega), mu_s]
  · rw [c3 _ _ (by omega), mu_n (by omega), mu_n (by omega), a3 _ _ (by omega), mu_s]
  · rw [c3 _ _ (by omega), mu_n (by omega), mu_n (by omega), a3 _ _ (by omega), mu_n (by omega), mu_n (by omega)]
end rows
