/-! ===== the component's scanner: blanks ===== -/
/-- blanks from p on lead to p', as the reference's scanner goes -/
def Bk (t : Nat → Nat) (n p line p' line' : Nat) : Prop := p ≤ p' ∧ p' ≤ n ∧ line ≤ line' ∧ line' + p ≤ line + p' ∧ ∀ m last T, n < p + m → ∃ m', n < p' + m' ∧ sc_ t n m p line last T = sc_ t n m' p' line' last T
section clex2
variable {s s' : as_} {x A TL SB : Nat} {t : Nat → Nat} {n p line : Nat} {sb : List Int32} {ids : List Nat}
theorem Bk_rf (h : p ≤ n) : Bk t n p line p line := ⟨Nat.le_refl _, h, Nat.le_refl _, Nat.le_refl _, fun m last T hm => ⟨m, hm, rfl⟩⟩
theorem Bk_tr {p1 l1 p2 l2 : Nat} (h : Bk t n p line p1 l1) (h' : Bk t n p1 l1 p2 l2) : Bk t n p line p2 l2 := by
  obtain ⟨a1, a2, a3, a4, a5⟩ := h
  obtain ⟨b1, b2, b3, b4, b5⟩ := h'
  refine ⟨by omega, b2, by omega, by omega, fun m last T hm => ?_⟩
  obtain ⟨m1, h1, e1⟩ := a5 m last T hm
  obtain ⟨m2, h2, e2⟩ := b5 m1 last T h1
  exact ⟨m2, h2, e1.trans e2⟩
theorem Bk_nl (h : p < n) (hc : t p = 10) : Bk t n p line (p + 1) (line + 1) := ⟨by omega, by omega, by omega, by omega, fun m last T hm => by
  cases m with
  | zero => omega
  | succ m =>
    refine ⟨m, by omega, ?_⟩
    conv => lhs; unfold sc_
    rw [if_pos h, if_pos hc]⟩
theorem Bk_sp (h : p < n) (h1 : ¬ t p = 10) (hc : t p = 9 ∨ t p = 13 ∨ t p = 32) : Bk t n p line (p + 1) line := ⟨by omega, by omega, by omega, by omega, fun m last T hm => by
  cases m with
  | zero => omega
  | succ m =>
    refine ⟨m, by omega, ?_⟩
    conv => lhs; unfold sc_
    rw [if_pos h, if_neg h1, if_pos hc]⟩
theorem cm_fix : ∀ (m k p : Nat), n ≤ p + m → n ≤ p + k → p ≤ n → cm_ t n m p = cm_ t n k p
  | 0, k, p, h1, h2, h3 => by
    cases k with
    | zero => rfl
    | succ k =>
      unfold cm_
      rw [if_neg (by omega)]
  | m + 1, 0, p, h1, h2, h3 => by
    unfold cm_
    rw [if_neg (by omega)]
  | m + 1, k + 1, p, h1, h2, h3 => by
    unfold cm_
    by_cases c : p < n ∧ t p ≠ 10
    · rw [if_pos c, if_pos c]
      exact cm_fix m k (p + 1) (by omega) (by omega) (by omega)
    · rw [if_neg c, if_neg c]
theorem Bk_cm (h : p < n) (h1 : ¬ t p = 10) (h2 : ¬ (t p = 9 ∨ t p = 13 ∨ t p = 32)) (hc : t p = 47 ∧ tx_ t n (p + 1) = 47) : Bk t n p line (cm_ t n n p) line := by
  have hle := cm_le (t := t) (n := n) n p (by omega)
  have h3 : p + 1 ≤ cm_ t n n p := by
    have : n = (n - 1) + 1 := by omega
    rw [this]
    unfold cm_
    rw [← this, if_pos ⟨h, h1⟩]
    exact (cm_le (t := t) (n := n) (n - 1) (p + 1) (by omega)).1
  refine ⟨hle.1, hle.2, Nat.le_refl _, by omega, fun m last T hm => ?_⟩
  cases m with
  | zero => omega
  | succ m =>
    refine ⟨m, by omega, ?_⟩
    conv => lhs; unfold sc_
    rw [if_pos h, if_neg h1, if_neg h2, if_pos hc]
theorem x_blanks_75 (d : Nat) : ∀ (k p : Nat) (s : as_), n ≤ p + k → p ≤ n → LX s x A TL SB t n p line sb ids → ∃ s', aJ (d + 2) 252 75 [vr_ (some x)] [] s = aJ (d + 2) 252 0 [vr_ (some x)] [] s' ∧ LX s' x A TL SB t n (cm_ t n k p) line sb ids ∧ Kp (fun a => a = x) s s' ∧ Rm 0 0 s s'
  | 0, p, s, hk, hp, h => by
    obtain ⟨_, ⟨k1, _⟩, ⟨i1, i2, i3⟩, _, ⟨hn, _⟩, _⟩ := id h
    refine ⟨s, ?_, h, Kp_rf, Rm_rf⟩
    rw [cj_X10_blanks_75, f_gi (f := 80) k1 rfl, Option.bind_some, f_gi (f := 79) k1 rfl, Option.bind_some, i1, i2]
    simp only [nlt_ (show p < 2 ^ 31 by omega) (show n < 2 ^ 31 by omega)]
    rw [if_neg (by omega)]
  | k + 1, p, s, hk, hp, h => by
    obtain ⟨_, ⟨k1, _⟩, ⟨i1, i2, i3⟩, _, ⟨hn, ht⟩, _⟩ := id h
    rw [cj_X10_blanks_75, f_gi (f := 80) k1 rfl, Option.bind_some, f_gi (f := 79) k1 rfl, Option.bind_some, i1, i2]
    simp only [nlt_ (show p < 2 ^ 31 by omega) (show n < 2 ^ 31 by omega)]
    unfold cm_
    by_cases c : p < n
    · have e0 : aE (d + 1) 253 [vr_ (some x), vi_ 0] s = _ := x_peek0 d h hp
      rw [if_pos c, f_dp (f := 253) k1 rfl, Option.bind_some, e0, cI_k]
      simp only [pk_tx (fun i hi => (ht i hi).1) 10 (by decide) (by decide)]
      have etx : tx_ t n p = t p := by unfold tx_; rw [if_pos c]
      rw [etx]
      by_cases c2 : t p = 10
      · rw [if_pos c2, if_neg (fun q => q.2 c2)]
        exact ⟨s, rfl, h, Kp_rf, Rm_rf⟩
      · rw [if_neg c2, if_pos ⟨c, c2⟩, f_gi (f := 80) k1 rfl, Option.bind_some, i2, nI_1, f_pi (f := 80) k1 rfl rfl, Option.bind_some]
        obtain ⟨s', a1, a2, a3, a4⟩ := x_blanks_75 d k (p + 1) _ (by omega) (by omega) (LX_at h (p + 1))
        exact ⟨s', a1, a2, Kp_tr (Kp_I Kp_rf 80 _ (Or.inl rfl)) a3, a4⟩
    · rw [if_neg c, if_neg (fun q => c q.1)]
      exact ⟨s, rfl, h, Kp_rf, Rm_rf⟩
theorem x_blanks_0 (d : Nat) : ∀ (k p line : Nat) (s : as_), n < p + k → p ≤ n → line ≤ p → LX s x A TL SB t n p line sb ids → ∃ s' p' line', aJ (d + 2) 252 0 [vr_ (some x)] [] s = some (.inl none, s') ∧ LX s' x A TL SB t n p' line' sb ids ∧ Kp (fun a => a = x) s s' ∧ Rm 0 0 s s' ∧ Bk t n p line p' line' ∧ (p' < n → ¬ t p' = 10 ∧ ¬ (t p' = 9 ∨ t p' = 13 ∨ t p' = 32) ∧ ¬ (t p' = 47 ∧ tx_ t n (p' + 1) = 47))
  | 0, p, line, s, hk, hp, hl, h => by omega
  | k + 1, p, line, s, hk, hp, hl, h => by
    obtain ⟨_, ⟨k1, _⟩, ⟨i1, i2, i3⟩, _, ⟨hn, ht⟩, _⟩ := id h
    have ht' : ∀ i, i < n → t i < 256 := fun i hi => (ht i hi).1
    have e0 : aE (d + 1) 253 [vr_ (some x), vi_ 0] s = _ := x_peek0 d h hp
    rw [cj_X10_blanks_0, f_dp (f := 253) k1 rfl, Option.bind_some, e0, cI_k]
    simp only [pk_tx (q := p) ht' 10 (by decide) (by decide)]
    have etx : p < n → tx_ t n p = t p := fun c => by unfold tx_; rw [if_pos c]
    have etx0 : ¬ p < n → tx_ t n p = 0 := fun c => by unfold tx_; rw [if_neg c]
    -- one blank
    have step : ∀ (s1 : as_) (l1 : Nat), LX s1 x A TL SB t n p l1 sb ids → Kp (fun a => a = x) s s1 → Rm 0 0 s s1 → p < n → l1 ≤ p + 1 → Bk t n p line (p + 1) l1 → ∃ s' p' line', ((a_gi 80 (some x) s1).bind fun v1 => (a_pi 80 (some x) (v1 + 1) s1).bind fun s2 => aJ (d + 2) 252 0 [vr_ (some x)] [] s2) = some (.inl none, s') ∧ LX s' x A TL SB t n p' line' sb ids ∧ Kp (fun a => a = x) s s' ∧ Rm 0 0 s s' ∧ Bk t n p line p' line' ∧ (p' < n → ¬ t p' = 10 ∧ ¬ (t p' = 9 ∨ t p' = 13 ∨ t p' = 32) ∧ ¬ (t p' = 47 ∧ tx_ t n (p' + 1) = 47)) := by
      intro s1 l1 h1 hK hR c hl1 hB
      have k1' := h1.2.1.1
      rw [f_gi (f := 80) k1' rfl, Option.bind_some, h1.2.2.1.2.1, nI_1, f_pi (f := 80) k1' rfl rfl, Option.bind_some]
      obtain ⟨s', p', line', a1, a2, a3, a4, a5, a6⟩ := x_blanks_0 d k (p + 1) l1 _ (by omega) (by omega) (by omega) (LX_at h1 (p + 1))
      exact ⟨s', p', line', a1, a2, Kp_tr (Kp_I hK 80 _ (Or.inl rfl)) a3, by have := Rm_tr hR (s2 := s') (by exact a4); exact this, Bk_tr hB a5, a6⟩
    by_cases c10 : tx_ t n p = 10
    · have c : p < n := by by_cases c : p < n; exact c; rw [etx0 c] at c10; omega
      rw [if_pos c10, f_gi (f := 81) k1 rfl, Option.bind_some, i3, nI_1, f_pi (f := 81) k1 rfl rfl, Option.bind_some, cj_X10_blanks_22]
      simp only [pk_tx (q := p) ht' 10 (by decide) (by decide)]
      rw [if_pos c10]
      exact step _ (line + 1) (LX_ln h (line + 1)) (Kp_I Kp_rf 81 _ (Or.inl rfl)) Rm_rf c (by omega) (Bk_nl c ((etx c).symm.trans c10))
    rw [if_neg c10, cj_X10_blanks_22]
    simp only [pk_tx (q := p) ht' 10 (by decide) (by decide), pk_tx (q := p) ht' 9 (by decide) (by decide), pk_tx (q := p) ht' 13 (by decide) (by decide), pk_tx (q := p) ht' 32 (by decide) (by decide), pk_tx (q := p) ht' 47 (by decide) (by decide)]
    rw [if_neg c10]
    by_cases c9 : tx_ t n p = 9
    · have c : p < n := by by_cases c : p < n; exact c; rw [etx0 c] at c9; omega
      rw [etx c] at c9 c10
      rw [if_pos (by rw [etx c]; exact c9)]
      exact step s line h Kp_rf Rm_rf c (by omega) (Bk_sp c c10 (Or.inl c9))
    rw [if_neg c9]
    by_cases c13 : tx_ t n p = 13
    · have c : p < n := by by_cases c : p < n; exact c; rw [etx0 c] at c13; omega
      rw [etx c] at c13 c10
      rw [if_pos (by rw [etx c]; exact c13)]
      exact step s line h Kp_rf Rm_rf c (by omega) (Bk_sp c c10 (Or.inr (Or.inl c13)))
    rw [if_neg c13]
    by_cases c32 : tx_ t n p = 32
    · have c : p < n := by by_cases c : p < n; exact c; rw [etx0 c] at c32; omega
      rw [etx c] at c32 c10
      rw [if_pos (by rw [etx c]; exact c32)]
      exact step s line h Kp_rf Rm_rf c (by omega) (Bk_sp c c10 (Or.inr (Or.inr c32)))
    rw [if_neg c32]
    have fin : (p < n → ¬ (t p = 47 ∧ tx_ t n (p + 1) = 47)) → ∃ s' p' line', (some (.inl none, s) : cx_O as_) = some (.inl none, s') ∧ LX s' x A TL SB t n p' line' sb ids ∧ Kp (fun a => a = x) s s' ∧ Rm 0 0 s s' ∧ Bk t n p line p' line' ∧ (p' < n → ¬ t p' = 10 ∧ ¬ (t p' = 9 ∨ t p' = 13 ∨ t p' = 32) ∧ ¬ (t p' = 47 ∧ tx_ t n (p' + 1) = 47)) := by
      intro hc
      refine ⟨s, p, line, rfl, h, Kp_rf, Rm_rf, Bk_rf hp, fun c => ⟨by rw [← etx c]; exact c10, ?_, hc c⟩⟩
      rw [← etx c]
      omega
    by_cases c47 : tx_ t n p = 47
    · have c : p < n := by by_cases c : p < n; exact c; rw [etx0 c] at c47; omega
      have e1 : aE (d + 1) 253 [vr_ (some x), vi_ 1] s = _ := x_peek d h 1 (by omega) hp
      rw [if_pos c47, f_dp (f := 253) k1 rfl, Option.bind_some, e1, cI_k]
      simp only [pk_tx (q := p + 1) ht' 47 (by decide) (by decide)]
      by_cases c48 : tx_ t n (p + 1) = 47
      · rw [if_pos c48]
        obtain ⟨s1, a1, a2, a3, a4⟩ := x_blanks_75 d n p s (by omega) hp h
        rw [a1]
        have hB := Bk_cm (line := line) c (by rw [← etx c]; exact c10) (by rw [← etx c]; omega) ⟨(etx c).symm.trans c47, c48⟩
        have hlt : p < cm_ t n n p := by
          have h1 : ¬ t p = 10 := by rw [← etx c]; exact c10
          have : n = (n - 1) + 1 := by omega
          rw [this]
          unfold cm_
          rw [← this, if_pos ⟨c, h1⟩]
          exact (cm_le (t := t) (n := n) (n - 1) (p + 1) (by omega)).1
        obtain ⟨s', p', line', b1, b2, b3, b4, b5, b6⟩ := x_blanks_0 d k (cm_ t n n p) line s1 (by omega) hB.2.1 (by omega) a2
        exact ⟨s', p', line', b1, b2, Kp_tr a3 b3, by have := Rm_tr a4 b4; exact this, Bk_tr hB b5, b6⟩
      · rw [if_neg c48]
        exact fin (fun _ q => c48 q.2)
    · rw [if_neg c47]
      exact fin (fun c q => c47 ((etx c).trans q.1))
end clex2
