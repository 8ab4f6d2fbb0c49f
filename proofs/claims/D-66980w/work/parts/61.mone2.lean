theorem bI_s {x : Int32} {s : mm_S} {k : Int32 → mm_S → mm_O} : mm_bI (some (some (vi_ x), s)) k = k x s := rfl
theorem bV_s {s : mm_S} {k : mm_S → mm_O} : mm_bV (some (none, s)) k = k s := rfl
def kwp_ (k : Nat) : Prop := k < 100 ∧ k ≠ 2 ∧ k ≠ 4 ∧ k ≠ 10 ∧ k ≠ 11
theorem kwp_if {P : Prop} [Decidable P] {a b : Nat} (ha : kwp_ a) (hb : kwp_ b) : kwp_ (if P then a else b) := by split <;> assumption
theorem kw_p (l : List Int32) : kwp_ (kw_ l) := by
  unfold kw_
  repeat (refine kwp_if (by unfold kwp_; decide) ?_)
  unfold kwp_
  decide
/-- the run of letters from x on, in the reference's loop for names -/
theorem m_one_9 (d p : Nat) {s : mm_S} {t : Nat → Nat} {n : Nat} (h : mSrc s t n) : ∀ m x, n ≤ x + m → x ≤ n → mJ (d + 3) 19 9 [vr_ (some 0), vi_ (nI p), vi_ (nI x)] [] s = mJ (d + 3) 19 34 [vr_ (some 0), vi_ (nI p), vi_ (nI (rs_ t n m x))] [] s := by
  intro m
  have hn := h.2.1
  induction m with
  | zero =>
    intro x h1 h2
    obtain rfl : x = n := by omega
    rw [mj_one_9, m_look _ x h (by omega), tx_big (Nat.le_refl _)]
    simp only [mm_bI]
    rw [m_isRest _ 0 _ (by omega)]
    simp only [zb_0, cR_0, if_true]
    rfl
  | succ m ih =>
    intro x h1 h2
    rw [mj_one_9, m_look _ x h (by omega)]
    simp only [mm_bI]
    rw [m_isRest _ _ _ (tx_lt h x)]
    simp only [zb_0]
    unfold rs_
    cases hc : cR_ (tx_ t n x) with
    | false => simp only [if_true, Bool.false_eq_true, if_false]
    | true =>
      have hx : x < n := Decidable.byContradiction fun q => by rw [tx_big (by omega), cR_0] at hc; cases hc
      rw [if_neg (by decide), h.1]
      simp only [nlt_ (show x < 2 ^ 31 by omega) (show n < 2 ^ 31 by omega), hx, if_true]
      rw [nI_1]
      exact ih (x + 1) (by omega) (by omega)
theorem m_one_289 (d p : Nat) (y z : Int32) {s : mm_S} {t : Nat → Nat} {n : Nat} (h : mSrc s t n) : ∀ m x, n ≤ x + m → x ≤ n → mJ (d + 3) 19 289 [vr_ (some 0), vi_ (nI p), vi_ (nI x), vi_ y, vi_ z] [] s = mJ (d + 3) 19 314 [vr_ (some 0), vi_ (nI p), vi_ (nI (rs_ t n m x)), vi_ y, vi_ z] [] s := by
  intro m
  have hn := h.2.1
  induction m with
  | zero =>
    intro x h1 h2
    obtain rfl : x = n := by omega
    rw [mj_one_289, m_look _ x h (by omega), tx_big (Nat.le_refl _)]
    simp only [mm_bI]
    rw [m_isRest _ 0 _ (by omega)]
    simp only [zb_0, cR_0, if_true]
    rfl
  | succ m ih =>
    intro x h1 h2
    rw [mj_one_289, m_look _ x h (by omega)]
    simp only [mm_bI]
    rw [m_isRest _ _ _ (tx_lt h x)]
    simp only [zb_0]
    unfold rs_
    cases hc : cR_ (tx_ t n x) with
    | false => simp only [if_true, Bool.false_eq_true, if_false]
    | true =>
      have hx : x < n := Decidable.byContradiction fun q => by rw [tx_big (by omega), cR_0] at hc; cases hc
      rw [if_neg (by decide), h.1]
      simp only [nlt_ (show x < 2 ^ 31 by omega) (show n < 2 ^ 31 by omega), hx, if_true]
      rw [nI_1]
      exact ih (x + 1) (by omega) (by omega)
/-- a name of the text is put among the names -/
theorem m_nameOf2 (d p k : Nat) {s : mm_S} {t : Nat → Nat} {n : Nat} {T : List tk_} {L S : List (List Int32)} {tot line last : Nat} (h : mLx s t n T L S tot line last) (hl : L.length < 3100) (hp : p + k ≤ n) (hc : ∀ i, p ≤ i → i < p + k → cR_ (tx_ t n i) = true) :
    ∃ s', mE (d + 1) 2 [vr_ (some 0), vi_ (nI p), vi_ (nI k)] s = some (some (vi_ (nI (nm_ix (nm_ad L (tw_ t p k)) (tw_ t p k)))), s') ∧ mLx s' t n T (nm_ad L (tw_ t p k)) S tot line last := by
  obtain ⟨h1, h2, h3, h4, h5, h6⟩ := h
  have hn := h1.2.1
  have hrw : rw_ (s 3) p k = tw_ t p k := rw_tw h1 k p hp (fun i a b => by
    have := hc i a b
    have q := cR_lt this
    unfold tx_ at q
    rw [if_pos (by omega)] at q
    exact q)
  obtain ⟨s', q1, q2⟩ := m_nameOf d s L h2 hl p k (by omega)
  rw [hrw] at q1 q2
  have hf := mE_fr q1
  refine ⟨s', q1, mSrc_e h1 (fr_a hf 3 (by decide) (by decide)) (fr_0 hf 4 (by decide)), q2,
    mSt_e h3 (fr_a hf 14 (by decide) (by decide)) (fr_0 hf 15 (by decide)) (fr_a hf 16 (by decide) (by decide)) (fr_a hf 17 (by decide) (by decide)) (fr_0 hf 18 (by decide)),
    mTk_up (mTk_e h4 (fr_0 hf 8 (by decide)) (fr_a hf 9 (by decide) (by decide)) (fr_a hf 10 (by decide) (by decide)) (fr_a hf 11 (by decide) (by decide))) (nm_ad_pre _ _) (List.prefix_refl _), (fr_0 hf 19 (by decide)).trans h5, (fr_0 hf 20 (by decide)).trans h6⟩
def sgp_ (g : Nat × Nat) : Prop := (g.1 < 100 ∧ g.1 ≠ 1 ∧ g.1 ≠ 2 ∧ g.1 ≠ 4) ∧ (g.1 = 10 ∨ g.1 = 11 → g.2 = 2) ∧ 1 ≤ g.2 ∧ g.2 ≤ 2
theorem sgp_if {P : Prop} [Decidable P] {a b : Nat × Nat} (ha : sgp_ a) (hb : sgp_ b) : sgp_ (if P then a else b) := by split <;> assumption
theorem sg_pp (c d : Nat) : sgp_ (sg_ c d) := by
  unfold sg_
  repeat (refine sgp_if (by unfold sgp_; decide) ?_)
  unfold sgp_
  decide
theorem sg_p (c d : Nat) : (sg_ c d).1 < 100 ∧ (sg_ c d).1 ≠ 1 ∧ (sg_ c d).1 ≠ 2 ∧ (sg_ c d).1 ≠ 4 := (sg_pp c d).1
theorem sg_2 (c d : Nat) : (sg_ c d).1 = 10 ∨ (sg_ c d).1 = 11 → (sg_ c d).2 = 2 := (sg_pp c d).2.1
theorem sg_if1 {P : Prop} [Decidable P] {a b : Nat × Nat} (ha : ¬ P) (hb : b = (b.1, 1)) : (if P then a else b) = ((if P then a else b).1, 1) := by rw [if_neg ha]; exact hb
theorem sg_if2 {P : Prop} [Decidable P] {a b : Nat × Nat} (ha : a = (a.1, 1)) (hb : b = (b.1, 1)) : (if P then a else b) = ((if P then a else b).1, 1) := by split <;> assumption
theorem sg_0 (c : Nat) : sg_ c 0 = ((sg_ c 0).1, 1) := by
  unfold sg_
  repeat (first | refine sg_if2 rfl ?_ | refine sg_if1 (fun q => by have := q.2; omega) ?_)
  rfl
theorem m_one (d p : Nat) {s : mm_S} {t : Nat → Nat} {n : Nat} {T : List tk_} {L S : List (List Int32)} {tot line last : Nat} (h : mLx s t n T L S tot line last) (hLn : L.Nodup) (hp : p < n) (hT : T.length ≤ 2 * p) (hL : L.length ≤ p) (hS : S.length ≤ p) (ht : tot ≤ p) (hl : last ≤ p) (hl2 : line ≤ p) (hn3 : n ≤ 3000) :
    mOn (mE (d + 5) 19 [vr_ (some 0), vi_ (nI p), vi_ (nI (tx_ t n p))] s) t n p T L S tot line last := by
  have h1 := h.1
  have hn := h1.2.1
  have hb := tx_lt h1 p
  have b31 : tx_ t n p < 2 ^ 31 := by omega
  have bad : ∀ s', mLx s' t n T L S tot line last → ∃ s'', (some (some (vi_ (-1 - nI p)), s') : mm_O) = some (some (vi_ (-1 - nI p)), s'') ∧ mLx s'' t n T L S tot line last := fun s' q => ⟨s', rfl, q⟩
  -- a number's end
  have num : ∀ (base p1 : Nat) (s1 : mm_S), mLx s1 t n T L S tot line last → base ≤ 16 → p ≤ p1 → p1 ≤ n → ∀ ov, ov = (if (dg_ t n base (n + 1) p1 0).2 = p1 ∨ ¬ (dg_ t n base (n + 1) p1 0).1 < 4294967296 then none else some (((2, p, nI (dg_ t n base (n + 1) p1 0).1, []) : tk_), (dg_ t n base (n + 1) p1 0).2)) → on_ t n p = ov →
      mOn (mm_bI (mE (d + 4) 15 [vr_ (some 0), vi_ (nI p1), vi_ (nI base)] s1) fun v s2 => mJ (d + 5) 19 146 [vr_ (some 0), vi_ (nI p)] [vi_ v] s2) t n p T L S tot line last := by
    intro base p1 s1 hs1 hb1 hp1 hp1n ov hov hon
    unfold mOn
    rw [hon, hov]
    have hs2 : ∀ x, mLx (mm_u s1 0 22 x) t n T L S tot line last := fun x => mLx_fr (W := 4194304) hs1 (fr_u (by decide)) (by decide)
    rw [m_digits (d + 2) p1 base hs1.1 hb1 hp1n]
    simp only [mm_bI]
    rw [mj_one_146]
    have dp := dg_p (t := t) (n := n) hb1 (n + 1) p1 0 hp1n
    generalize dg_ t n base (n + 1) p1 0 = w at *
    by_cases hw : w.2 = p1 ∨ ¬ w.1 < 4294967296
    · rw [if_pos hw, if_pos hw, if_pos (by decide)]
      exact bad _ (hs2 _)
    · rw [if_neg hw, if_neg hw, if_neg (nI_pos (show w.2 < 2 ^ 31 by omega)), mu_s]
      obtain ⟨s', q1, q2⟩ := m_fin (d + 1) (2, p, nI w.1, []) (nI w.1) (hs2 (nI w.1)) (by omega) (show 2 < 100 by decide) (by omega) (by omega) ⟨fun _ => rfl, fun e => absurd e (show ¬ 2 = 1 by decide), fun e => absurd e (show ¬ 2 = 4 by decide), fun e => absurd e (show ¬ (2 = 10 ∨ 2 = 11) by decide)⟩
      refine ⟨show 2 < 100 by decide, ?_, dp.2, s', L, S, tot, ?_, q2, hLn, by omega, by omega, by omega⟩
      · show p < w.2
        omega
      · have q1 : mE (d + 4) 12 [vr_ (some 0), vi_ 2, vi_ (nI p), vi_ (nI w.1)] (mm_u s1 0 22 (nI w.1)) = some (none, s') := q1
        rw [q1]
        rfl
  rw [me_one, m_isLetter _ _ _ hb]
  simp only [mm_bI, zb_0]
  cases hcL : cL_ (tx_ t n p) with
  | true =>
    -- a name or a word
    rw [if_neg (by decide), m_one_9 (d + 2) p h1 n p (by omega) (by omega)]
    have hon : on_ t n p = if 40 < rs_ t n n p - p then none else some ((kw_ (tw_ t p (rs_ t n n p - p)), p, 0, tw_ t p (rs_ t n n p - p)), rs_ t n n p) := by unfold on_; rw [if_pos hcL]
    unfold mOn
    rw [hon]
    have rl := rs_le (t := t) (n := n) n p (by omega)
    have ra := rs_all (t := t) (n := n) n p
    have rp : p < rs_ t n n p := by
      have e : rs_ t n n p = rs_ t n (n - 1 + 1) p := by congr 1; omega
      rw [e]
      unfold rs_
      rw [if_pos (by unfold cR_; rw [hcL]; rfl)]
      have := (rs_le (t := t) (n := n) (n - 1) (p + 1) (by omega)).1
      omega
    generalize rs_ t n n p = q at *
    rw [mj_one_34, show (nI q - nI p : Int32) = nI (q - p) from nsb_ rl.1]
    simp only [nlt2_ 40 (show q - p < 2 ^ 31 by omega) (by decide)]
    by_cases h40 : 40 < q - p
    · rw [if_pos h40, if_pos h40]
      exact bad _ h
    · rw [if_neg h40, if_neg h40]
      have hrw : rw_ (s 3) p (q - p) = tw_ t p (q - p) := rw_tw h1 (q - p) p (by omega) (fun i a b => by
        have z := cR_lt (ra i a (by omega))
        unfold tx_ at z
        rw [if_pos (by omega)] at z
        exact z)
      rw [m_keyword (d + 2) s p (q - p) (by omega), hrw, bI_s]
      have kp := kw_p (tw_ t p (q - p))
      have kn : kw_ (tw_ t p (q - p)) < 2 ^ 31 := by have := kp.1; omega
      simp only [neq1_ 1 kn (by decide)]
      obtain ⟨s1, q1, q2⟩ := m_nameOf2 (d + 3) p (q - p) h (by omega) (by omega) (fun i a b => ra i a (by omega))
      by_cases hk1 : kw_ (tw_ t p (q - p)) = 1
      · rw [if_pos hk1, q1, bI_s]
        obtain ⟨s2, q3, q4⟩ := m_fin (d + 1) (kw_ (tw_ t p (q - p)), p, 0, tw_ t p (q - p)) (nI (nm_ix (nm_ad L (tw_ t p (q - p))) (tw_ t p (q - p)))) q2 (by omega) kp.1 (by omega) (by omega)
          ⟨fun e => absurd e kp.2.1, fun _ => ⟨_, rfl, nm_ad_get _ _⟩, fun e => absurd e kp.2.2.1, fun e => absurd e (by have := kp.2.2.2; omega)⟩
        have e3 : mE (d + 4) 12 [vr_ (some 0), vi_ (nI (kw_ (tw_ t p (q - p)))), vi_ (nI p), vi_ (nI (nm_ix (nm_ad L (tw_ t p (q - p))) (tw_ t p (q - p))))] s1 = some (none, s2) := q3
        refine ⟨kp.1, rp, rl.2, s2, _, S, tot, ?_, q4, nm_ad_nd hLn, nm_ad_len _ _, by omega, by omega⟩
        rw [e3]
        rfl
      · rw [if_neg hk1]
        obtain ⟨s2, q3, q4⟩ := m_fin (d + 1) (kw_ (tw_ t p (q - p)), p, 0, tw_ t p (q - p)) 0 h (by omega) kp.1 (by omega) (by omega)
          ⟨fun e => absurd e kp.2.1, fun e => absurd e hk1, fun e => absurd e kp.2.2.1, fun e => absurd e (by have := kp.2.2.2; omega)⟩
        have e3 : mE (d + 4) 12 [vr_ (some 0), vi_ (nI (kw_ (tw_ t p (q - p)))), vi_ (nI p), vi_ 0] s = some (none, s2) := q3
        refine ⟨kp.1, rp, rl.2, s2, L, S, tot, ?_, q4, hLn, by omega, by omega, by omega⟩
        rw [e3]
        rfl
  | false =>
    rw [if_pos rfl, m_isDigit _ _ _ b31]
    simp only [mm_bI, zb_0]
    have e96 : mJ (d + 5) 19 96 [vr_ (some 0), vi_ (nI p), vi_ (nI (tx_ t n p))] [] s = _ := mj_one_96 (d + 4) (nI p) (nI (tx_ t n p)) s
    rw [m_isDigit _ _ _ b31] at e96
    simp only [mm_bI, zb_0] at e96
    cases hcD : cD_ (tx_ t n p) with
    | true =>
      rw [if_neg (by decide), e96, hcD, if_neg (by decide)]
      exact num 10 p s h (by omega) (by omega) (by omega) _ rfl (by unfold on_; rw [if_neg (by rw [hcL]; decide), if_pos hcD])
    | false =>
      rw [if_pos rfl]
      have onD := on_.eq_1 t n p
      rw [if_neg (by rw [hcL]; decide), if_neg (by rw [hcD]; decide)] at onD
      simp only [neq1_ 35 b31 (by decide), neq1_ 39 b31 (by decide), neq1_ 34 b31 (by decide)]
      by_cases h35 : tx_ t n p = 35
      · rw [if_pos h35, e96, hcD, if_pos rfl, nI_1, m_look _ (p + 1) h1 (by omega)]
        have hb1 := tx_lt h1 (p + 1)
        simp only [neq1_ 88 (show tx_ t n (p + 1) < 2 ^ 31 by omega) (by decide)]
        rw [if_pos h35] at onD
        by_cases h88 : tx_ t n (p + 1) = 88
        · have hp1 : p + 1 < n := Decidable.byContradiction fun q => by rw [tx_big (by omega)] at h88; omega
          rw [if_pos h88, show (nI p + 2 : Int32) = nI (p + 2) from nI_add p 2]
          rw [if_pos h88] at onD
          exact num 16 (p + 2) s h (by omega) (by omega) (by omega) _ rfl onD
        · rw [if_neg h88]
          rw [if_neg h88] at onD
          exact num 8 (p + 1) s h (by omega) (by omega) (by omega) _ rfl onD
      · rw [if_neg h35]
        rw [if_neg h35] at onD
        by_cases h39 : tx_ t n p = 39
        · rw [if_pos h39, nI_1]
          rw [if_pos h39] at onD
          unfold mOn
          rw [onD]
          obtain ⟨x, hx, hxv⟩ := m_oneC (d + 2) (p + 1) 39 h1 (by omega) (by decide)
          have hx : mE (d + 4) 13 [vr_ (some 0), vi_ (nI (p + 1)), vi_ 39] s = _ := hx
          have hs2 : mLx (mm_u s 0 21 x) t n T L S tot line last := mLx_fr (W := 2097152) h (fr_u (by decide)) (by decide)
          rw [hx]
          cases hlc : lc_ t n (p + 1) 39 with
          | none => exact bad _ hs2
          | some r =>
            obtain ⟨r1, r2, r3, r4⟩ := lc_le hlc
            rw [show op_ (some r) = nI r.2 from rfl]
            simp only [if_neg (nI_pos (show r.2 < 2 ^ 31 by omega))]
            rw [m_look _ r.2 hs2.1 (by omega)]
            have hb2 := tx_lt h1 r.2
            simp only [neq1_ 39 (show tx_ t n r.2 < 2 ^ 31 by omega) (by decide)]
            by_cases h392 : tx_ t n r.2 = 39
            · rw [if_pos h392, if_pos h392, mu_s, hxv r hlc]
              rw [hxv r hlc] at hs2
              have hrn : r.2 < n := Decidable.byContradiction fun q => by rw [tx_big (by omega)] at h392; omega
              obtain ⟨s', q1, q2⟩ := m_fin (d + 1) (2, p, nI r.1, []) (nI r.1) hs2 (by omega) (show 2 < 100 by decide) (by omega) (by omega) ⟨fun _ => rfl, fun e => absurd e (show ¬ 2 = 1 by decide), fun e => absurd e (show ¬ 2 = 4 by decide), fun e => absurd e (show ¬ (2 = 10 ∨ 2 = 11) by decide)⟩
              have q1 : mE (d + 4) 12 [vr_ (some 0), vi_ 2, vi_ (nI p), vi_ (nI r.1)] (mm_u s 0 21 (nI r.1)) = some (none, s') := q1
              refine ⟨show 2 < 100 by decide, show p < r.2 + 1 by omega, hrn, s', L, S, tot, ?_, q2, hLn, by omega, by omega, show tot + p ≤ tot + (r.2 + 1) by omega⟩
              rw [q1, bV_s, nI_1]
            · rw [if_neg h392, if_neg h392]
              exact bad _ hs2
        · rw [if_neg h39]
          rw [if_neg h39] at onD
          by_cases h34 : tx_ t n p = 34
          · rw [if_pos h34]
            rw [if_pos h34] at onD
            unfold mOn
            rw [onD]
            obtain ⟨s1, hs⟩ := m_stringAt (d + 1) p tot h1 h.2.2.1 (by omega) hp ht
            obtain ⟨_, g2, g3, g4, g5, g6⟩ := h
            have fr : ∀ {v s'} {S' : List (List Int32)} {tot'}, mE (d + 4) 14 [vr_ (some 0), vi_ (nI p)] s = some (v, s') → mSt s' S' tot' → S <+: S' → mLx s' t n T L S' tot' line last := fun {v s' S' tot'} e hst hpre => by
              have hf := mE_fr e
              have a3 := fr_a hf 3 (by decide) (by decide)
              exact ⟨mSrc_e h1 a3 (fr_0 hf 4 (by decide)), mNm_e g2 a3 (fr_0 hf 5 (by decide)) (fr_a hf 6 (by decide) (by decide)) (fr_a hf 7 (by decide) (by decide)), hst,
                mTk_up (mTk_e g4 (fr_0 hf 8 (by decide)) (fr_a hf 9 (by decide) (by decide)) (fr_a hf 10 (by decide) (by decide)) (fr_a hf 11 (by decide) (by decide))) (List.prefix_refl _) hpre, (fr_0 hf 19 (by decide)).trans g5, (fr_0 hf 20 (by decide)).trans g6⟩
            cases hsr : sr_ t n (n + 1) (p + 1) 0 with
            | none =>
              rw [hsr] at hs
              rw [hs.1]
              exact bad _ (fr hs.1 hs.2 (List.prefix_refl _))
            | some r =>
              rw [hsr] at hs
              obtain ⟨k1, k2, k3, k4⟩ := hs
              have k5 := fr k1 k4 (List.prefix_append _ _)
              rw [k1]
              simp only [if_neg (nI_pos (show r.2 < 2 ^ 31 by omega))]
              rw [k4.1, show (nI (S ++ [r.1]).length - 1 : Int32) = nI S.length from by rw [List.length_append]; exact nI_pred _]
              obtain ⟨s', q1, q2⟩ := m_fin (d + 1) (4, p, 0, r.1) (nI S.length) k5 (by omega) (show 4 < 100 by decide) (by omega) (by omega) ⟨fun e => absurd e (show ¬ 4 = 2 by decide), fun e => absurd e (show ¬ 4 = 1 by decide), fun _ => ⟨_, rfl, by simp⟩, fun e => absurd e (show ¬ (4 = 10 ∨ 4 = 11) by decide)⟩
              have q1 : mE (d + 4) 12 [vr_ (some 0), vi_ 4, vi_ (nI p), vi_ (nI S.length)] s1 = some (none, s') := q1
              refine ⟨show 4 < 100 by decide, show p < r.2 by omega, k2, s', L, S ++ [r.1], tot + r.1.length, ?_, q2, hLn, by omega, by simp, show tot + r.1.length + p ≤ tot + r.2 by omega⟩
              rw [q1, bV_s]
          · rw [if_neg h34]
            rw [if_neg h34] at onD
            have sgp : (sg_ (tx_ t n p) (tx_ t n (p + 1))).1 < 100 ∧ (sg_ (tx_ t n p) (tx_ t n (p + 1))).1 ≠ 1 ∧ (sg_ (tx_ t n p) (tx_ t n (p + 1))).1 ≠ 2 ∧ (sg_ (tx_ t n p) (tx_ t n (p + 1))).1 ≠ 4 := sg_p _ _
            have sg2 := sg_2 (tx_ t n p) (tx_ t n (p + 1))
            have sgs := m_signAt (d + 1) p h1 (by omega)
            have sg3 := (sg_pp (tx_ t n p) (tx_ t n (p + 1))).2.2
            have hlen : p + (sg_ (tx_ t n p) (tx_ t n (p + 1))).2 ≤ n := by
              by_cases hp1 : p + 1 < n
              · omega
              · rw [tx_big (show n ≤ p + 1 by omega), sg_0]
                show p + 1 ≤ n
                omega
            generalize sg_ (tx_ t n p) (tx_ t n (p + 1)) = g at *
            have hs2 : mLx (mm_u s 0 23 (nI g.2)) t n T L S tot line last := mLx_fr (W := 8388608) h (fr_u (by decide)) (by decide)
            unfold mOn
            rw [onD, sgs]
            simp only []
            by_cases g0 : g.1 = 0
            · rw [if_pos g0, show kI_ g.1 = -1 from if_pos g0, if_pos (by decide)]
              exact bad _ hs2
            · have g31 : g.1 < 2 ^ 31 := by omega
              rw [if_neg g0, show kI_ g.1 = nI g.1 from if_neg g0, if_neg (nI_pos g31), mu_s, nI_add]
              simp only [neq1_ 10 g31 (by decide), neq1_ 11 g31 (by decide)]
              by_cases gt : g.1 = 10 ∨ g.1 = 11
              · have g22 : g.2 = 2 := sg2 gt
                rw [if_pos gt, g22]
                rw [g22] at hs2
                have e2 : (if g.1 = 10 then mJ (d + 5) 19 289 [vr_ (some 0), vi_ (nI p), vi_ (nI (p + 2)), vi_ (nI g.1), vi_ (-1)] [] (mm_u s 0 23 (nI 2)) else if g.1 = 11 then mJ (d + 5) 19 289 [vr_ (some 0), vi_ (nI p), vi_ (nI (p + 2)), vi_ (nI g.1), vi_ (-1)] [] (mm_u s 0 23 (nI 2)) else
                    mm_bV (mE (d + 4) 12 [vr_ (some 0), vi_ (nI g.1), vi_ (nI p), vi_ (-1)] (mm_u s 0 23 (nI 2))) fun s15 => some (some (vi_ (nI (p + 2))), s15)) = mJ (d + 5) 19 289 [vr_ (some 0), vi_ (nI p), vi_ (nI (p + 2)), vi_ (nI g.1), vi_ (-1)] [] (mm_u s 0 23 (nI 2)) := by
                  rcases gt with e | e
                  · rw [if_pos e]
                  · rw [if_neg (by omega), if_pos e]
                have e289 := m_one_289 (d + 2) p (nI g.1) (-1) hs2.1 n (p + 2) (by omega) (by omega)
                have rl := rs_le (t := t) (n := n) n (p + 2) (by omega)
                have ra := rs_all (t := t) (n := n) n (p + 2)
                generalize rs_ t n n (p + 2) = q at *
                rw [mj_one_314, show (nI q - nI p : Int32) = nI (q - p) from nsb_ (by omega), show (nI (q - p) - 2 : Int32) = nI (q - p - 2) from nsb_ (a := q - p) (b := 2) (by omega), show (nI p + 2 : Int32) = nI (p + 2) from nI_add p 2] at e289
                simp only [nlt2_ 40 (show q - p - 2 < 2 ^ 31 by omega) (by decide), nlt_ (show p + 2 < 2 ^ 31 by omega) (show q < 2 ^ 31 by omega)] at e289
                by_cases h40 : 40 < q - p - 2
                · rw [if_pos h40]
                  rw [if_pos h40] at e289
                  refine ⟨_, e2.trans e289, hs2⟩
                · rw [if_neg h40]
                  rw [if_neg h40] at e289
                  by_cases hq : p + 2 < q
                  · rw [if_pos hq] at e289
                    obtain ⟨s1, q1, q2⟩ := m_nameOf2 (d + 3) (p + 2) (q - p - 2) hs2 (by omega) (by omega) (fun i a b => ra i a (by omega))
                    have hne : tw_ t (p + 2) (q - p - 2) ≠ [] := by
                      rw [show q - p - 2 = (q - p - 3) + 1 by omega]
                      unfold tw_
                      simp
                    obtain ⟨s2, q3, q4⟩ := m_fin (d + 1) (g.1, p, 0, tw_ t (p + 2) (q - p - 2)) (nI (nm_ix (nm_ad L (tw_ t (p + 2) (q - p - 2))) (tw_ t (p + 2) (q - p - 2)))) q2 (by omega) sgp.1 (by omega) (by omega)
                      ⟨fun e => absurd e sgp.2.2.1, fun e => absurd e sgp.2.1, fun e => absurd e sgp.2.2.2, fun _ => by rw [if_neg hne]; exact ⟨_, rfl, nm_ad_get _ _⟩⟩
                    have q3 : mE (d + 4) 12 [vr_ (some 0), vi_ (nI g.1), vi_ (nI p), vi_ (nI (nm_ix (nm_ad L (tw_ t (p + 2) (q - p - 2))) (tw_ t (p + 2) (q - p - 2))))] s1 = some (none, s2) := q3
                    rw [q1, bI_s, q3, bV_s] at e289
                    exact ⟨sgp.1, show p < q by omega, rl.2, s2, _, S, tot, e2.trans e289, q4, nm_ad_nd hLn, nm_ad_len _ _, by omega, show tot + p ≤ tot + q by omega⟩
                  · rw [if_neg hq] at e289
                    have hq0 : q - p - 2 = 0 := by omega
                    rw [hq0]
                    obtain ⟨s2, q3, q4⟩ := m_fin (d + 1) (g.1, p, 0, tw_ t (p + 2) 0) (-1) hs2 (by omega) sgp.1 (by omega) (by omega)
                      ⟨fun e => absurd e sgp.2.2.1, fun e => absurd e sgp.2.1, fun e => absurd e sgp.2.2.2, fun _ => by rw [if_pos (show tw_ t (p + 2) 0 = [] from rfl)]⟩
                    have q3 : mE (d + 4) 12 [vr_ (some 0), vi_ (nI g.1), vi_ (nI p), vi_ (-1)] (mm_u s 0 23 (nI 2)) = some (none, s2) := q3
                    rw [q3, bV_s] at e289
                    exact ⟨sgp.1, show p < q by omega, rl.2, s2, L, S, tot, e2.trans e289, q4, hLn, by omega, by omega, show tot + p ≤ tot + q by omega⟩
              · rw [if_neg gt, if_neg (show ¬ g.1 = 10 by omega), if_neg (show ¬ g.1 = 11 by omega)]
                obtain ⟨s2, q3, q4⟩ := m_fin (d + 1) (g.1, p, 0, []) (-1) hs2 (by omega) sgp.1 (by omega) (by omega)
                  ⟨fun e => absurd e sgp.2.2.1, fun e => absurd e sgp.2.1, fun e => absurd e sgp.2.2.2, fun e => absurd e gt⟩
                have q3 : mE (d + 4) 12 [vr_ (some 0), vi_ (nI g.1), vi_ (nI p), vi_ (-1)] (mm_u s 0 23 (nI g.2)) = some (none, s2) := q3
                refine ⟨sgp.1, ?_, hlen, s2, L, S, tot, ?_, q4, hLn, by omega, by omega, show tot + p ≤ tot + (p + g.2) by omega⟩
                · show p < p + g.2
                  omega
                · rw [q3, bV_s]
