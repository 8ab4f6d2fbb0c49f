/-! ===== texts between quotes ===== -/
theorem rw_up {f g : Nat → Int32} : ∀ n p, (∀ i, p ≤ i → i < p + n → f i = g i) → rw_ f p n = rw_ g p n
  | 0, _, _ => rfl
  | n + 1, p, h => by
    unfold rw_
    rw [h p (by omega) (by omega), rw_up n (p + 1) (fun i h1 h2 => h i (by omega) (by omega))]
theorem m_stringAt_loop (d tot cnt : Nat) {t : Nat → Nat} {n : Nat} (hcnt : cnt < 3100) : ∀ m p k (s : mm_S), mSrc s t n → s 0 18 = nI cnt → s 0 15 = nI tot → n ≤ p + m → p ≤ n → tot + k ≤ p →
    ∃ s', match sr_ t n (m + 1) p k with
      | none => mJ (d + 3) 14 12 [vr_ (some 0), vi_ (nI p), vi_ (nI tot), vi_ (nI k)] [] s = some (some (vi_ (-1)), s') ∧ (∀ i, i < tot + k → s' 14 i = s 14 i) ∧ (∀ j, s' 16 j = s 16 j ∧ s' 17 j = s 17 j) ∧ s' 0 15 = nI tot ∧ s' 0 18 = nI cnt
      | some r => mJ (d + 3) 14 12 [vr_ (some 0), vi_ (nI p), vi_ (nI tot), vi_ (nI k)] [] s = some (some (vi_ (nI r.2)), s') ∧ r.2 ≤ n ∧ p + r.1.length < r.2 ∧ (∀ i, i < tot + k → s' 14 i = s 14 i) ∧ rw_ (s' 14) (tot + k) r.1.length = r.1 ∧
        s' 16 cnt = nI tot ∧ s' 17 cnt = nI (k + r.1.length) ∧ s' 0 15 = nI (tot + (k + r.1.length)) ∧ s' 0 18 = nI (cnt + 1) ∧ (∀ j, j ≠ cnt → s' 16 j = s 16 j ∧ s' 17 j = s 17 j) := by
  intro m
  have step : ∀ p k (s : mm_S), mSrc s t n → s 0 18 = nI cnt → s 0 15 = nI tot → p ≤ n → tot + k ≤ p → tx_ t n p = 34 →
      ∃ s', mJ (d + 3) 14 12 [vr_ (some 0), vi_ (nI p), vi_ (nI tot), vi_ (nI k)] [] s = some (some (vi_ (nI (p + 1))), s') ∧ p + 1 ≤ n ∧ s' 14 = s 14 ∧ s' 16 cnt = nI tot ∧ s' 17 cnt = nI k ∧ s' 0 15 = nI (tot + k) ∧ s' 0 18 = nI (cnt + 1) ∧ (∀ j, j ≠ cnt → s' 16 j = s 16 j ∧ s' 17 j = s 17 j) := by
    intro p k s h h18 h15 hp hk h34
    have hn := h.2.1
    have hpn : p < n := Decidable.byContradiction fun q => by rw [tx_big (by omega)] at h34; omega
    rw [mj_stringAt_12, m_look _ p h (by omega), h34]
    simp only [mm_bI]
    rw [if_pos (show nI 34 = 34 from rfl), h18, mm_w_n hcnt (by decide), Option.bind_some]
    have e1 : mm_u s 16 cnt (nI tot) 0 18 = nI cnt := by rw [mu_n (by omega), h18]
    rw [e1, mm_w_n hcnt (by decide), Option.bind_some]
    rw [nI_1]
    refine ⟨_, rfl, hpn, rfl, ?_, ?_, ?_, ?_, ?_⟩
    · rw [mu_n (by omega), mu_n (by omega), mu_n (by omega), mu_s]
    · rw [mu_n (by omega), mu_n (by omega), mu_s]
    · rw [mu_n (by omega), mu_s, mu_n (by omega), mu_n (by omega), h15, nI_add]
    · rw [mu_s, mu_n (by omega), mu_n (by omega), h18, nI_1]
    · intro j hj
      constructor
      · rw [mu_n (by omega), mu_n (by omega), mu_n (by omega), mu_n (by omega)]
      · rw [mu_n (by omega), mu_n (by omega), mu_n (by omega), mu_n (by omega)]
  induction m with
  | zero =>
    intro p k s h h18 h15 hm hp hk
    obtain rfl : p = n := by omega
    have hn := h.2.1
    have e0 : tx_ t p p = 0 := tx_big (Nat.le_refl _)
    have e1 : lc_ t p p 34 = none := by unfold lc_; rw [e0]; rfl
    unfold sr_
    rw [if_neg (by rw [e0]; omega), e1]
    obtain ⟨x, hx, _⟩ := m_oneC (d := d) (p := p) (q := 34) h (by omega) (by decide)
    rw [mj_stringAt_12, m_look _ p h (by omega), e0]
    simp only [mm_bI]
    rw [if_neg (by decide), show (34 : Int32) = nI 34 from rfl, hx]
    simp only [e1, op_]
    exact ⟨_, rfl, fun i _ => mu_n (by omega), fun j => ⟨mu_n (by omega), mu_n (by omega)⟩, by rw [mu_n (by omega), h15], by rw [mu_n (by omega), h18]⟩
  | succ m ih =>
    intro p k s h h18 h15 hm hp hk
    have hn := h.2.1
    unfold sr_
    by_cases h34 : tx_ t n p = 34
    · rw [if_pos h34]
      obtain ⟨s', q1, q2, q3, q4, q5, q6, q7, q8⟩ := step p k s h h18 h15 hp hk h34
      exact ⟨s', q1, q2, by simp, fun i _ => by rw [q3], by simp [rw_], q4, by simpa using q5, by simpa using q6, q7, q8⟩
    · rw [if_neg h34]
      obtain ⟨x, hx, hxv⟩ := m_oneC (d := d) (p := p) (q := 34) h (by omega) (by decide)
      have hb := tx_lt h p
      rw [mj_stringAt_12, m_look _ p h (by omega)]
      simp only [mm_bI]
      rw [show (34 : Int32) = nI 34 from rfl]
      simp only [neq_ (show tx_ t n p < 2 ^ 31 by omega) (show 34 < 2 ^ 31 by omega)]
      rw [if_neg h34, hx]
      simp only []
      cases hl : lc_ t n p 34 with
      | none =>
        simp only [op_]
        exact ⟨_, rfl, fun i _ => mu_n (by omega), fun j => ⟨mu_n (by omega), mu_n (by omega)⟩, by rw [mu_n (by omega), h15], by rw [mu_n (by omega), h18]⟩
      | some r =>
        obtain ⟨r1, r2, r3, r4⟩ := lc_le hl
        have hxr := hxv r hl
        subst hxr
        rw [show op_ (some r) = nI r.2 from rfl, if_neg (nI_pos (show r.2 < 2 ^ 31 by omega))]
        simp only [neq1_ 200 (show k < 2 ^ 31 by omega) (by decide)]
        by_cases h200 : k = 200
        · rw [if_pos h200, if_pos h200]
          exact ⟨_, rfl, fun i _ => mu_n (by omega), fun j => ⟨mu_n (by omega), mu_n (by omega)⟩, by rw [mu_n (by omega), h15], by rw [mu_n (by omega), h18]⟩
        · rw [if_neg h200, if_neg h200, nI_add, mm_w_n (by omega) (by decide), Option.bind_some, mu_s, by_128 _ r4, by_128 _ r4, nI_1]
          have hs2 : mSrc (mm_u (mm_u s 0 21 (nI r.1)) 14 (tot + k) (nI r.1)) t n := by
            have := mSrc_u (k := 21) (x := nI r.1) h (by omega)
            refine ⟨?_, this.2.1, fun p hp => ⟨(this.2.2 p hp).1, ?_⟩⟩
            · rw [mu_n (by omega)]; exact this.1
            · rw [mu_n (by omega)]; exact (this.2.2 p hp).2
          obtain ⟨s', q⟩ := ih r.2 (k + 1) _ hs2 (by rw [mu_n (by omega), mu_n (by omega), h18]) (by rw [mu_n (by omega), mu_n (by omega), h15]) (by omega) r2 (by omega)
          refine ⟨s', ?_⟩
          cases hsr : sr_ t n (m + 1) r.2 (k + 1) with
          | none =>
            rw [hsr] at q
            obtain ⟨q1, q2, q3, q4, q5⟩ := q
            refine ⟨q1, fun i hi => ?_, fun j => ?_, q4, q5⟩
            · rw [q2 i (by omega), mu_n (by omega), mu_n (by omega)]
            · rw [(q3 j).1, (q3 j).2, mu_n (by omega), mu_n (by omega), mu_n (by omega), mu_n (by omega)]
              exact ⟨rfl, rfl⟩
          | some w =>
            rw [hsr] at q
            simp only [Option.map_some] at q ⊢
            obtain ⟨q1, q2, q3, q4, q5, q6, q7, q8, q9, q10⟩ := q
            refine ⟨q1, q2, by simp; omega, fun i hi => ?_, ?_, q6, ?_, ?_, q9, fun j hj => ?_⟩
            · rw [q4 i (by omega), mu_n (by omega), mu_n (by omega)]
            · rw [List.length_cons]
              unfold rw_
              rw [q4 (tot + k) (by omega), mu_s, Nat.add_assoc, q5]
            · rw [q7, List.length_cons]; congr 1; omega
            · rw [q8, List.length_cons]; congr 1; omega
            · obtain ⟨a, b⟩ := q10 j hj
              rw [a, b, mu_n (by omega), mu_n (by omega), mu_n (by omega), mu_n (by omega)]
              exact ⟨rfl, rfl⟩
/-- the texts so far, one behind another in strs -/
def mSt (s : mm_S) (S : List (List Int32)) (tot : Nat) : Prop := s 0 18 = nI S.length ∧ s 0 15 = nI tot ∧ ∀ (j : Nat) (x : List Int32), S[j]? = some x → ∃ a : Nat, s 16 j = nI a ∧ s 17 j = nI x.length ∧ a + x.length ≤ tot ∧ rw_ (s 14) a x.length = x
theorem m_stringAt (d p tot : Nat) {s : mm_S} {t : Nat → Nat} {n : Nat} {S : List (List Int32)} (h : mSrc s t n) (hS : mSt s S tot) (hl : S.length < 3100) (hp : p < n) (ht : tot ≤ p) :
    ∃ s', match sr_ t n (n + 1) (p + 1) 0 with
      | none => mE (d + 3) 14 [vr_ (some 0), vi_ (nI p)] s = some (some (vi_ (-1)), s') ∧ mSt s' S tot
      | some r => mE (d + 3) 14 [vr_ (some 0), vi_ (nI p)] s = some (some (vi_ (nI r.2)), s') ∧ r.2 ≤ n ∧ p + 1 + r.1.length < r.2 ∧ mSt s' (S ++ [r.1]) (tot + r.1.length) := by
  rw [me_stringAt, hS.2.1, nI_1, show (0 : Int32) = nI 0 from rfl]
  obtain ⟨s', q⟩ := m_stringAt_loop d tot S.length hl n (p + 1) 0 s h hS.1 hS.2.1 (by omega) (by omega) (by omega)
  refine ⟨s', ?_⟩
  cases hsr : sr_ t n (n + 1) (p + 1) 0 with
  | none =>
    rw [hsr] at q
    obtain ⟨q1, q2, q3, q4, q5⟩ := q
    refine ⟨q1, q5, q4, fun j x hx => ?_⟩
    obtain ⟨a, h1, h2, h3, h4⟩ := hS.2.2 j x hx
    refine ⟨a, by rw [(q3 j).1, h1], by rw [(q3 j).2, h2], h3, ?_⟩
    rw [← h4, rw_len]
    exact rw_up _ _ (fun i _ hi => q2 i (by omega))
  | some r =>
    rw [hsr] at q
    obtain ⟨q1, q2, q3, q4, q5, q6, q7, q8, q9, q10⟩ := q
    refine ⟨q1, q2, q3, by simpa using q9, by simpa using q8, fun j x hx => ?_⟩
    by_cases hj : j < S.length
    · rw [List.getElem?_append_left hj] at hx
      obtain ⟨a, h1, h2, h3, h4⟩ := hS.2.2 j x hx
      refine ⟨a, by rw [(q10 j (by omega)).1, h1], by rw [(q10 j (by omega)).2, h2], by omega, ?_⟩
      rw [← h4, rw_len]
      exact rw_up _ _ (fun i _ hi => q4 i (by omega))
    · have hj2 : j = S.length := by
        have := (List.getElem?_eq_some_iff.mp hx).1
        simp at this
        omega
      subst hj2
      simp at hx
      subst hx
      exact ⟨tot, q6, by simpa using q7, Nat.le_refl _, q5⟩
