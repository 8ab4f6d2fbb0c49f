/-! ===== all tokens of a text ===== -/
theorem neg_lt (p : Nat) (h : p < 2 ^ 31) : (-1 - nI p : Int32) < 0 := by
  rw [Int32.lt_iff_toInt_lt, Int32.toInt_sub, nI_toInt h]
  show Int.bmod (-1 - p) (2 ^ 32) < 0
  rw [Int.bmod_eq_of_le (by omega) (by omega)]
  omega
/-- the end of a line from p on -/
def cm_ (t : Nat → Nat) (n : Nat) : Nat → Nat → Nat
  | 0, p => p
  | m + 1, p => if p < n ∧ t p ≠ 10 then cm_ t n m (p + 1) else p
def sc_ (t : Nat → Nat) (n : Nat) : Nat → Nat → Nat → Nat → List tk_ → List tk_ × Option Nat
  | 0, _, _, _, T => (T, none)
  | m + 1, p, line, last, T =>
    if p < n then
      if t p = 10 then sc_ t n m (p + 1) (line + 1) last T
      else if t p = 9 ∨ t p = 13 ∨ t p = 32 then sc_ t n m (p + 1) line last T
      else if t p = 47 ∧ tx_ t n (p + 1) = 47 then sc_ t n m (cm_ t n n p) line last T
      else match on_ t n p with
        | none => (T, some p)
        | some x => sc_ t n m x.2 line line (ta_ T last line x.1)
    else (T, none)
theorem cm_le {t : Nat → Nat} {n : Nat} : ∀ m p, p ≤ n → p ≤ cm_ t n m p ∧ cm_ t n m p ≤ n
  | 0, p, h => ⟨Nat.le_refl _, h⟩
  | m + 1, p, h => by
    unfold cm_
    split
    · have := cm_le (t := t) m (p + 1) (show p + 1 ≤ n by omega)
      omega
    · exact ⟨Nat.le_refl _, h⟩
theorem m_scan_104 (d : Nat) {s : mm_S} {t : Nat → Nat} {n : Nat} (h : mSrc s t n) : ∀ m p, n ≤ p + m → p ≤ n → mJ (d + 2) 18 104 [vr_ (some 0), vi_ (nI p)] [] s = mJ (d + 2) 18 32 [vr_ (some 0), vi_ (nI (cm_ t n m p))] [] s := by
  intro m
  have hn := h.2.1
  induction m with
  | zero =>
    intro p h1 h2
    obtain rfl : p = n := by omega
    rw [mj_scan_104, h.1]
    simp only [nlt_ (show p < 2 ^ 31 by omega) (show p < 2 ^ 31 by omega), Nat.lt_irrefl, if_false]
    rfl
  | succ m ih =>
    intro p h1 h2
    rw [mj_scan_104, h.1]
    simp only [nlt_ (show p < 2 ^ 31 by omega) (show n < 2 ^ 31 by omega)]
    unfold cm_
    by_cases hp : p < n
    · have hb := (h.2.2 p hp).1
      rw [if_pos hp, m_look _ p h (by omega), bI_s, show tx_ t n p = t p from if_pos hp]
      simp only [neq1_ 10 (show t p < 2 ^ 31 by omega) (by decide)]
      by_cases h10 : t p = 10
      · rw [if_pos h10, if_neg (by omega)]
      · rw [if_neg h10, if_pos ⟨hp, h10⟩, nI_1]
        exact ih (p + 1) (by omega) (by omega)
    · rw [if_neg hp, if_neg (by omega)]
theorem ta_len (T : List tk_) (last line : Nat) (x : tk_) : (ta_ T last line x).length ≤ T.length + 2 := by
  unfold ta_
  split
  · simp
  · split <;> simp
theorem m_scan_32 (d : Nat) {t : Nat → Nat} {n : Nat} (hn3 : n ≤ 3000) : ∀ m p (s : mm_S) (T : List tk_) (L S : List (List Int32)) (tot line last : Nat), n < p + m → p ≤ n → mLx s t n T L S tot line last → L.Nodup → T.length ≤ 2 * p → L.length ≤ p → S.length ≤ p → tot ≤ p → last ≤ p → line ≤ p →
    ∃ s' L' S' tot' line' last', mJ (d + 6) 18 32 [vr_ (some 0), vi_ (nI p)] [] s = some (some (vi_ (match (sc_ t n m p line last T).2 with | none => -1 | some q => nI q)), s') ∧ mLx s' t n (sc_ t n m p line last T).1 L' S' tot' line' last' ∧ L'.Nodup ∧ (sc_ t n m p line last T).1.length ≤ 2 * n ∧ L'.length ≤ n ∧ S'.length ≤ n ∧ tot' ≤ n ∧ (∀ q, (sc_ t n m p line last T).2 = some q → q < n) := by
  intro m
  induction m with
  | zero => intro p _ _ _ _ _ _ _ h1 h2; omega
  | succ m ih =>
    intro p s T L S tot line last h1 h2 h hnd b1 b2 b3 b4 b5 b6
    have hs := h.1
    unfold sc_
    rw [mj_scan_32, hs.1]
    simp only [nlt_ (show p < 2 ^ 31 by omega) (show n < 2 ^ 31 by omega)]
    by_cases hp : p < n
    · rw [if_pos hp, if_pos hp]
      have hb := (hs.2.2 p hp).1
      have htx : tx_ t n p = t p := if_pos hp
      have b31 : t p < 2 ^ 31 := by omega
      rw [m_look _ p hs (by omega), bI_s, htx]
      simp only [neq1_ 10 b31 (by decide), neq1_ 9 b31 (by decide), neq1_ 13 b31 (by decide), neq1_ 32 b31 (by decide)]
      by_cases h10 : t p = 10
      · rw [if_pos h10, if_pos h10, nI_1, h.2.2.2.2.1, nI_1]
        have hs2 : mLx (mm_u s 0 19 (nI (line + 1))) t n T L S tot (line + 1) last := by
          obtain ⟨g1, g2, g3, g4, g5, g6⟩ := h
          exact ⟨mSrc_u g1 (by omega), mNm_e g2 rfl (mu_n (by omega)) rfl rfl, mSt_e g3 rfl (mu_n (by omega)) rfl rfl (mu_n (by omega)), mTk_e g4 (mu_n (by omega)) rfl rfl rfl, mu_s, by rw [mu_n (by omega)]; exact g6⟩
        exact ih (p + 1) _ T L S tot (line + 1) last (by omega) (by omega) hs2 hnd (by omega) (by omega) (by omega) (by omega) (by omega) (by omega)
      · rw [if_neg h10, if_neg h10]
        by_cases hbl : t p = 9 ∨ t p = 13 ∨ t p = 32
        · rw [if_pos hbl, nI_1]
          have e : (if t p = 9 then mJ (d + 6) 18 32 [vr_ (some 0), vi_ (nI (p + 1))] [] s else if t p = 13 then mJ (d + 6) 18 32 [vr_ (some 0), vi_ (nI (p + 1))] [] s else if t p = 32 then mJ (d + 6) 18 32 [vr_ (some 0), vi_ (nI (p + 1))] [] s else
              mm_bI (mE (d + 5) 16 [vr_ (some 0), vi_ (nI p), vi_ 47, vi_ 47] s) fun v4 s3 => if v4 = 0 then mm_bI (mE (d + 5) 19 [vr_ (some 0), vi_ (nI p), vi_ (nI (t p))] s3) fun v6 s5 => if v6 < 0 then some (some (vi_ (-1 - v6)), s5) else mJ (d + 6) 18 32 [vr_ (some 0), vi_ v6] [] s5 else mJ (d + 6) 18 104 [vr_ (some 0), vi_ (nI p)] [] s3) = mJ (d + 6) 18 32 [vr_ (some 0), vi_ (nI (p + 1))] [] s := by
            by_cases c1 : t p = 9
            · rw [if_pos c1]
            · by_cases c2 : t p = 13
              · rw [if_neg c1, if_pos c2]
              · rw [if_neg c1, if_neg c2, if_pos (by omega)]
          obtain ⟨s', L', S', tot', line', last', q⟩ := ih (p + 1) s T L S tot line last (by omega) (by omega) h hnd (by omega) (by omega) (by omega) (by omega) (by omega) (by omega)
          exact ⟨s', L', S', tot', line', last', e.trans q.1, q.2⟩
        · rw [if_neg hbl, if_neg (show ¬ t p = 9 by omega), if_neg (show ¬ t p = 13 by omega), if_neg (show ¬ t p = 32 by omega)]
          have pr := m_isPair (d + 3) p 47 47 hs (by omega) (by decide) (by decide)
          have pr : mE (d + 5) 16 [vr_ (some 0), vi_ (nI p), vi_ 47, vi_ 47] s = _ := pr
          rw [pr, bI_s, htx]
          simp only [zb_0]
          by_cases h47 : t p = 47 ∧ tx_ t n (p + 1) = 47
          · rw [if_pos h47, if_neg (by simp [h47.1, h47.2]), m_scan_104 (d + 4) hs n p (by omega) (by omega)]
            have cl := cm_le (t := t) (n := n) n p (by omega)
            have cp : p < cm_ t n n p := by
              have e : cm_ t n n p = cm_ t n (n - 1 + 1) p := by congr 1; omega
              rw [e]
              unfold cm_
              rw [if_pos ⟨hp, by omega⟩]
              have := (cm_le (t := t) (n := n) (n - 1) (p + 1) (by omega)).1
              omega
            exact ih _ s T L S tot line last (by omega) cl.2 h hnd (by omega) (by omega) (by omega) (by omega) (by omega) (by omega)
          · rw [if_neg h47, if_pos (by simp; omega)]
            have ho := m_one d p h hnd hp b1 b2 b3 b4 b5 b6 hn3
            rw [htx] at ho
            unfold mOn at ho
            cases hon : on_ t n p with
            | none =>
              rw [hon] at ho
              obtain ⟨s', q1, q2⟩ := ho
              rw [q1, bI_s]
              have eneg : (-1 - nI p : Int32) < 0 := neg_lt p (by omega)
              rw [if_pos eneg]
              refine ⟨s', L, S, tot, line, last, ?_, q2, hnd, by simp; omega, by omega, by omega, by omega, fun q hq => by cases hq; exact hp⟩
              have e9 : (-1 - (-1 - nI p) : Int32) = nI p := by grind
              rw [e9]
            | some x =>
              rw [hon] at ho
              obtain ⟨x1, x2, x3, s', L', S', tot', q1, q2, q3, q4, q5, q6⟩ := ho
              rw [q1, bI_s, if_neg (nI_pos (show x.2 < 2 ^ 31 by omega))]
              have tl := ta_len T last line x.1
              exact ih x.2 s' _ L' S' tot' line line (by omega) x3 q2 q3 (by omega) (by omega) (by omega) (by omega) (by omega) (by omega)
    · rw [if_neg hp, if_neg hp]
      exact ⟨s, L, S, tot, line, last, rfl, h, hnd, by simp; omega, by omega, by omega, by omega, fun q hq => by cases hq⟩
theorem m_scan (d : Nat) {s : mm_S} {t : Nat → Nat} {n : Nat} (h : mSrc s t n) (hn3 : n ≤ 3000) :
    ∃ s' L' S' tot' line' last', mE (d + 6) 18 [vr_ (some 0)] s = some (some (vi_ (match (sc_ t n (n + 1) 0 0 0 []).2 with | none => -1 | some q => nI q)), s') ∧ mLx s' t n (sc_ t n (n + 1) 0 0 0 []).1 L' S' tot' line' last' ∧ L'.Nodup ∧ (sc_ t n (n + 1) 0 0 0 []).1.length ≤ 2 * n ∧ L'.length ≤ n ∧ S'.length ≤ n ∧ tot' ≤ n ∧ (∀ q, (sc_ t n (n + 1) 0 0 0 []).2 = some q → q < n) := by
  rw [me_scan]
  refine m_scan_32 d hn3 (n + 1) 0 _ [] [] [] 0 0 0 (by omega) (by omega) ?_ (List.nodup_nil) (by simp) (by simp) (by simp) (by omega) (by omega) (by omega)
  refine ⟨mSrc_e h rfl ?_, ⟨?_, fun j x hx => by simp at hx⟩, ⟨?_, ?_, fun j x hx => by simp at hx⟩, ⟨?_, fun j x hx => by simp at hx⟩, ?_, ?_⟩
  · simp [mu_n]
  all_goals simp [mm_u, nI]
  all_goals rfl
