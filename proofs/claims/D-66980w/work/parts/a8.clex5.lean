/-! ===== the component's scanner: characters, strings, signs, a token ===== -/
section clex5
variable {s s' : as_} {x A TL SB : Nat} {t : Nat → Nat} {n p line : Nat} {sb : List Int32} {ids : List Nat} {M : Nat → Prop}
theorem tx_256 (ht : ∀ i, i < n → t i < 256) (q : Nat) : tx_ t n q < 256 := by
  unfold tx_
  split
  · exact ht _ (by assumption)
  · omega
/-- what stands behind a * -/
def esv (k : Nat) : Nat := if k = 0 then 10 else if k = 1 then 32 else if k = 2 then 9 else if k = 3 then 39 else if k = 4 then 34 else 42
theorem es_findb : ∀ c, c < 256 → ((decide (es_ c = none) && decide (as_find (ak_S 1077) (nI c) 0 = -1)) || (List.range 6).any (fun k => decide (as_find (ak_S 1077) (nI c) 0 = nI k) && decide (es_ c = some (esv k)))) = true := by decide +kernel
theorem es_find (c : Nat) (hc : c < 256) : (es_ c = none ∧ as_find (ak_S 1077) (nI c) 0 = -1) ∨ ∃ k, k < 6 ∧ as_find (ak_S 1077) (nI c) 0 = nI k ∧ es_ c = some (esv k) := by
  have h := es_findb c hc
  simp only [Bool.or_eq_true, Bool.and_eq_true, decide_eq_true_eq, List.any_eq_true, List.mem_range] at h
  exact h
theorem pk_max (ht : ∀ i, i < n → t i < 256) (q : Nat) : (if (0 : Int32) < pkc_ t n q then pkc_ t n q else 0) = nI (tx_ t n q) := by
  unfold pkc_ tx_
  by_cases h : q < n
  · rw [if_pos h, if_pos h]
    have := ht q h
    simp only [nlt2_ 0 (show t q < 2 ^ 31 by omega) (by decide)]
    by_cases c : 0 < t q
    · rw [if_pos c]
    · rw [if_neg c, show t q = 0 by omega]; rfl
  · rw [if_neg h, if_neg h]
    rfl
theorem x_one (d : Nat) (h : LX s x A TL SB t n p line sb ids) (hp : p ≤ n) (q : Nat) (hq : q < 256) (hq0 : q ≠ 0) : ∃ s' p', aE (d + 2) 262 [vr_ (some x), vi_ (nI q)] s = some (.inl (some (vi_ (match lc_ t n p q with | none => -1 | some r => nI r.1))), s') ∧ LX s' x A TL SB t n p' line sb ids ∧ p' ≤ n ∧ (∀ r, lc_ t n p q = some r → p' = r.2) ∧ Kp (fun a => a = x ∨ a = SB) s s' ∧ Rm 0 0 s s' ∧ aN_ s' = aN_ s := by
  obtain ⟨b, ⟨k1, k2, k3, k4⟩, ⟨i1, i2, i3⟩, ⟨r1, r2, r3⟩, ⟨hn, ht⟩, e1, e2⟩ := id h
  have ht' : ∀ i, i < n → t i < 256 := fun i hi => (ht i hi).1
  have e0 : aE (d + 1) 253 [vr_ (some x), vi_ 0] s = _ := x_peek0 d h hp
  rw [ce_X10_one, f_dp (f := 253) k1 rfl, Option.bind_some, e0, cI_k]
  unfold lc_
  by_cases hlt : p < n
  case neg =>
    have et : tx_ t n p = 0 := tx_big (by omega)
    have ep : pkc_ t n p = -1 := by unfold pkc_; rw [if_neg hlt]
    rw [ep, et, if_pos (by decide), if_pos (Or.inl (by omega))]
    exact ⟨s, p, rfl, h, hp, (fun r q => nomatch q), Kp_rf, Rm_rf, rfl⟩
  have et : tx_ t n p = t p := by unfold tx_; rw [if_pos hlt]
  have ep : pkc_ t n p = nI (t p) := by unfold pkc_; rw [if_pos hlt]
  have h256 := ht' p hlt
  rw [ep, et]
  simp only [nlt1_ 32 (show t p < 2 ^ 31 by omega) (by decide), nlt2_ 126 (show t p < 2 ^ 31 by omega) (by decide), neq_ (show t p < 2 ^ 31 by omega) (show q < 2 ^ 31 by omega), neq1_ 42 (show t p < 2 ^ 31 by omega) (by decide)]
  by_cases c1 : t p < 32
  · rw [if_pos c1, if_pos (Or.inl c1)]
    exact ⟨s, p, rfl, h, hp, (fun r q => nomatch q), Kp_rf, Rm_rf, rfl⟩
  rw [if_neg c1]
  by_cases c2 : 126 < t p
  · rw [if_pos c2, if_pos (Or.inr (Or.inl c2))]
    exact ⟨s, p, rfl, h, hp, (fun r q => nomatch q), Kp_rf, Rm_rf, rfl⟩
  rw [if_neg c2]
  by_cases c3 : t p = q
  · rw [if_pos c3, if_pos (Or.inr (Or.inr c3))]
    exact ⟨s, p, rfl, h, hp, (fun r q => nomatch q), Kp_rf, Rm_rf, rfl⟩
  rw [if_neg c3, if_neg (show ¬ (t p < 32 ∨ 126 < t p ∨ t p = q) by omega), f_gi (f := 80) k1 rfl, Option.bind_some, i2, nI_1, f_pi (f := 80) k1 rfl rfl, Option.bind_some]
  have h1 := LX_at h (p + 1)
  have K1 : Kp (fun a => a = x ∨ a = SB) s (awI s x 80 (nI (p + 1))) := Kp_I Kp_rf 80 _ (Or.inl (Or.inl rfl))
  by_cases c4 : t p = 42
  · have e1' : aE (d + 1) 253 [vr_ (some x), vi_ 0] (awI s x 80 (nI (p + 1))) = _ := x_peek0 d h1 (by omega)
    have u := u16_ _ (tx_256 ht' (p + 1))
    have hf := es_find _ (tx_256 ht' (p + 1))
    have hK7 : (aK_ (awI s x 80 (nI (p + 1))) 1077).1 = 26 := rfl
    have hS7 : aS_ (awI s x 80 (nI (p + 1))) 1077 = ak_S 1077 := rfl
    rw [if_pos c4, if_pos c4, f_dp (f := 253) (s := awI s x 80 (nI (p + 1))) k1 rfl, Option.bind_some, e1', cI_k, l_max, cI_k, pk_max ht', f_dp (f := 102) hK7 rfl, Option.bind_some, u.1, l_find _ _ u.2, cI_k, hS7]
    rcases hf with ⟨he, hf⟩ | ⟨k, hk6, hk, he⟩
    · rw [he, hf, if_pos (by decide)]
      exact ⟨_, p + 1, rfl, h1, by omega, (fun r q => nomatch q), K1, Rm_rf, rfl⟩
    · have hlt2 : p + 1 < n := by
        by_cases q : p + 1 < n
        · exact q
        · rw [tx_big (by omega)] at he; exact absurd he.symm (by rw [show es_ 0 = none from rfl]; exact fun e => nomatch e)
      rw [he, hk, if_neg (by rw [nlt1_ 0 (by omega) (by decide)]; omega), f_gi (f := 80) (s := awI s x 80 (nI (p + 1))) k1 rfl, Option.bind_some, h1.2.2.1.2.1, nI_1, f_pi (f := 80) (s := awI s x 80 (nI (p + 1))) k1 rfl rfl, Option.bind_some]
      refine ⟨awI (awI s x 80 (nI (p + 1))) x 80 (nI (p + 2)), p + 2, ?_, LX_at h1 (p + 2), by omega, (fun r q => by cases q; rfl), Kp_I K1 80 _ (Or.inl (Or.inl rfl)), Rm_rf, rfl⟩
      simp only [neq1_ 0 (show k < 2 ^ 31 by omega) (by decide), neq1_ 1 (show k < 2 ^ 31 by omega) (by decide), neq1_ 2 (show k < 2 ^ 31 by omega) (by decide), neq1_ 3 (show k < 2 ^ 31 by omega) (by decide), neq1_ 4 (show k < 2 ^ 31 by omega) (by decide)]
      show _ = some (Sum.inl (some (vi_ (nI (esv k)))), _)
      rcases (show k = 0 ∨ k = 1 ∨ k = 2 ∨ k = 3 ∨ k = 4 ∨ k = 5 by omega) with rfl | rfl | rfl | rfl | rfl | rfl <;> rfl
  · rw [if_neg c4, if_neg c4]
    exact ⟨_, p + 1, rfl, h1, by omega, (fun r q => by cases q; rfl), K1, Rm_rf, rfl⟩
/-- a token object is made and given back -/
theorem TkR_ok {d pl p' tx : Nat} {s0 : as_} {y : tk_} {v : Int32} {l : List Int32} (h : LX s x A TL SB t n p' line sb ids) (hK : Kp (fun a => a = x ∨ a = SB) s0 s) {c z : Nat} (hR : Rm c z s0 s) (hc : c ≤ p' - pl + 2) (hz : z ≤ 11 * (p' - pl) + 4) (hy : y.2.1 = pl) (hcw : cw_ y = ((cw_ y).1, l, [])) (hv : (if y.1 = 2 then y.2.2.1 else 0) = v) (h1 : (aK_ s tx).1 = 26) (h2 : tx < aN_ s) (h3 : aS_ s tx = l) : TkR x A TL SB t n line ids s0 pl (cx_bV cx_th (aE (d + 3) 266 [vr_ (some (a_nw 14 s).1), vi_ (cw_ y).1, vi_ (nI pl), vi_ (nI line), vi_ v, vr_ (some tx)] (a_nw 14 s).2) fun s8 => some (.inl (some (vr_ (some (a_nw 14 s).1))), s8)) (some (y, p')) := by
  have h4 : 4000 ≤ aN_ s := by have := h.1.1; omega
  obtain ⟨s1, a1, a2, a3, a4, a5⟩ := x_newTok d (s := s) (tx := tx) (k := (cw_ y).1) (pl := nI pl) (ln := nI line) (v := v) (l := l) h4 h1 h2 h3
  rw [a1, cV_k]
  refine ⟨s1, aN_ s, sb, rfl, hK.1, ?_, LX_Kp h a3 id id id id, Kp_in hK a3 (fun _ q => q.elim), Rm_wk (Rm_tr hR a4) (by omega) (by omega)⟩
  rw [hy, hv, show (cw_ y).2.1 = l from by rw [hcw], show (cw_ y).2.2 = [] from by rw [hcw]]
  exact a2
theorem nw_K {c a k : Nat} (h : (aK_ s a).1 = k) (ha : a < aN_ s) : (aK_ (a_nw c s).2 a).1 = k := by
  show (aK_ (anew s (c, 0)) a).1 = k
  rw [aK_anew, if_neg (by omega)]; exact h
theorem nw_I {c a f : Nat} (ha : a < aN_ s) : aI_ (a_nw c s).2 a f = aI_ s a f := by
  show aI_ (anew s (c, 0)) a f = _
  rw [aI_anew, if_neg (by omega)]
theorem x_character (d : Nat) (h : LX s x A TL SB t n p line sb ids) (hp : p < n) (hc : tx_ t n p = 39) : TkR x A TL SB t n line ids s p (aE (d + 4) 261 [vr_ (some x)] s) (on_ t n p) := by
  obtain ⟨b, ⟨k1, k2, k3, k4⟩, ⟨i1, i2, i3⟩, ⟨r1, r2, r3⟩, ⟨hn, ht⟩, e1, e2⟩ := id h
  have ht' : ∀ i, i < n → t i < 256 := fun i hi => (ht i hi).1
  have h1 := LX_at h (p + 1)
  have K1 : Kp (fun a => a = x ∨ a = SB) s (awI s x 80 (nI (p + 1))) := Kp_I Kp_rf 80 _ (Or.inl (Or.inl rfl))
  obtain ⟨s1, p', a1, a2, a3, a4, a5, a6, a7⟩ := x_one (d + 1) h1 (by omega) 39 (by omega) (by omega)
  have a1 : aE (d + 3) 262 [vr_ (some x), vi_ 39] (awI s x 80 (nI (p + 1))) = _ := a1
  rw [ce_X10_character, f_gi (f := 80) k1 rfl, Option.bind_some, Option.bind_some, i2, nI_1, f_pi (f := 80) k1 rfl rfl, Option.bind_some, f_dp (f := 262) (s := awI s x 80 (nI (p + 1))) k1 rfl, Option.bind_some, a1, cI_k]
  have K2 := Kp_tr K1 a5
  have R2 : Rm 0 0 s s1 := a6
  have eo : on_ t n p = (match lc_ t n (p + 1) 39 with
    | none => none
    | some r => if tx_ t n r.2 = 39 then some ((2, p, nI r.1, []), r.2 + 1) else none) := by
    unfold on_
    rw [hc, show cL_ 39 = false from by decide, show cD_ 39 = false from by decide, if_neg (by decide), if_neg (by decide), if_neg (by decide), if_pos rfl]
    cases lc_ t n (p + 1) 39 <;> rfl
  rw [eo]
  cases he : lc_ t n (p + 1) 39 with
  | none =>
    dsimp only
    rw [if_pos (by decide)]
    exact TkR_no (d := d + 1) a2 a3 K2 K2.1 R2 (by omega) (by omega)
  | some r =>
    have hr := lc_le he
    obtain rfl : p' = r.2 := a4 r he
    dsimp only
    have e3 : aE (d + 2 + 1) 253 [vr_ (some x), vi_ 0] s1 = _ := x_peek0 (d + 2) a2 a3
    rw [if_neg (by rw [nlt1_ 0 (by omega) (by decide)]; omega), f_dp (f := 253) a2.2.1.1 rfl, Option.bind_some, e3, cI_k]
    simp only [pk_tx (q := r.2) ht' 39 (by decide) (by decide)]
    by_cases c : tx_ t n r.2 = 39
    · have hlt : r.2 < n := by
        by_cases q : r.2 < n
        · exact q
        · rw [tx_big (by omega)] at c; omega
      have h3 := LX_at a2 (r.2 + 1)
      rw [if_pos c, if_pos c, f_gi (f := 80) a2.2.1.1 rfl, Option.bind_some, a2.2.2.1.2.1, nI_1, f_pi (f := 80) a2.2.1.1 rfl rfl, Option.bind_some, f_gi (f := 81) (nw_K h3.2.1.1 h3.1.1.2) rfl, Option.bind_some, nw_I h3.1.1.2, h3.2.2.1.2.2]
      exact TkR_ok (y := (2, p, nI r.1, [])) (l := []) h3 (Kp_I K2 80 _ (Or.inl (Or.inl rfl))) (c := 0) (z := 0) R2 (by omega) (by omega) rfl rfl rfl rfl (by have := h3.1.1; omega) rfl
    · rw [if_neg c, if_neg c]
      exact TkR_no (d := d + 1) a2 a3 K2 K2.1 R2 (by omega) (by omega)
theorem x_str_25 (d : Nat) {pl : Nat} {s0 : as_} : ∀ (m p k : Nat) (s : as_) (sb : List Int32), n < p + m → p ≤ n → sb.length = k → k ≤ 200 → pl + k < p → LX s x A TL SB t n p line sb ids → Kp (fun a => a = x ∨ a = SB) s0 s → Rm (p - pl - 1) (10 * (p - pl - 1)) s0 s →
    TkR x A TL SB t n line ids s0 pl (aJ (d + 4) 263 25 [vr_ (some x), vi_ (nI pl), vr_ (some SB)] [] s) (match sr_ t n m p k with | none => none | some r => some ((4, pl, 0, sb ++ r.1), r.2))
  | 0, p, k, s, sb, hm, hp, _, _, _, _, _, _ => by omega
  | m + 1, p, k, s, sb, hm, hp, hl, hk, hpl, h, hK, hR => by
    obtain ⟨b, ⟨k1, k2, k3, k4⟩, ⟨i1, i2, i3⟩, ⟨r1, r2, r3⟩, ⟨hn, ht⟩, e1, e2⟩ := id h
    have ht' : ∀ i, i < n → t i < 256 := fun i hi => (ht i hi).1
    have e0 : aE (d + 2 + 1) 253 [vr_ (some x), vi_ 0] s = _ := x_peek0 (d + 2) h hp
    rw [cj_X10_string_25, f_dp (f := 253) k1 rfl, Option.bind_some, e0, cI_k]
    simp only [pk_tx (q := p) ht' 34 (by decide) (by decide)]
    unfold sr_
    by_cases c : tx_ t n p = 34
    · have hlt : p < n := by
        by_cases q : p < n
        · exact q
        · rw [tx_big (by omega)] at c; omega
      have h1 := LX_at h (p + 1)
      have K1 : Kp (fun a => a = x ∨ a = SB) s0 (awI s x 80 (nI (p + 1))) := Kp_I hK 80 _ (Or.inl (Or.inl rfl))
      rw [if_pos c, if_pos c, f_gi (f := 80) k1 rfl, Option.bind_some, i2, nI_1, f_pi (f := 80) k1 rfl rfl, Option.bind_some, f_gi (f := 81) (nw_K h1.2.1.1 h1.1.1.2) rfl, Option.bind_some, nw_I h1.1.1.2, h1.2.2.1.2.2, f_dp (f := 121) (nw_K h1.2.1.2.2.2 h1.1.2.2.2.2) rfl, Option.bind_some, l_sbStr, cR_k]
      -- the new token, then the string, then the constructor
      have h4 : 4000 ≤ aN_ (awI s x 80 (nI (p + 1))) := by have := h1.1.1; omega
      generalize hs1 : awI s x 80 (nI (p + 1)) = s1 at *
      have eS : aS_ (a_nw 14 s1).2 SB = sb := by
        show aS_ (anew s1 (14, 0)) SB = sb
        rw [aS_anew, if_neg (by have := h1.1.2.2.2; omega)]
        exact h1.2.2.2.2.2.1
      rw [eS]
      have eN : aN_ (a_nw 14 s1).2 = aN_ s1 + 1 := rfl
      have kT : aK_ (as_new (a_nw 14 s1).2 sb) (aN_ s1) = (14, 0) := by
        show aK_ (anew (a_nw 14 s1).2 (26, 0)) (aN_ s1) = _
        rw [aK_anew, if_neg (by rw [eN]; omega)]
        show aK_ (anew s1 (14, 0)) (aN_ s1) = _
        rw [aK_anew, if_pos ⟨h4, rfl⟩]
      have kS : (aK_ (as_new (a_nw 14 s1).2 sb) (aN_ s1 + 1)).1 = 26 := by
        show (aK_ (anew (a_nw 14 s1).2 (26, 0)) (aN_ s1 + 1)).1 = _
        rw [aK_anew, if_pos ⟨by omega, rfl⟩]
      have sS : aS_ (as_new (a_nw 14 s1).2 sb) (aN_ s1 + 1) = sb := by
        show aS_ (awS (anew (a_nw 14 s1).2 (26, 0)) (aN_ (a_nw 14 s1).2) sb) (aN_ s1 + 1) = _
        rw [aS_awS, if_pos ⟨by omega, rfl⟩]
      have e : aE (d + 3) 266 [vr_ (some (a_nw 14 s1).1), vi_ 2, vi_ (nI pl), vi_ (nI line), vi_ 0, vr_ (some (aN_ (a_nw 14 s1).2))] (as_new (a_nw 14 s1).2 sb) = _ := x_tok d (s := as_new (a_nw 14 s1).2 sb) (id := aN_ s1) (tx := aN_ s1 + 1) (k := 2) (pl := nI pl) (ln := nI line) (v := 0) (l := sb) (by rw [kT]) kS sS
      have hc := CT_nt (s := as_new (a_nw 14 s1).2 sb) (id := aN_ s1) (tx := aN_ s1 + 1) (k := 2) (pl := nI pl) (ln := nI line) (v := 0) (l := sb) h4 (show aN_ s1 < aN_ s1 + 2 by omega) kT kS (show aN_ s1 + 1 < aN_ s1 + 2 by omega) sS
      have Kn : Kp (fun _ => False) s1 (nt_ (as_new (a_nw 14 s1).2 sb) (aN_ s1) 2 (nI pl) (nI line) 0 (aN_ s1 + 1) (lvl_ 2 sb)) := Kp_nt (Kp_C (Kp_S (Kp_new (Kp_C (Kp_new Kp_rf (14, 0)) 1 7) (26, 0)) _ (Or.inr (by rw [eN]; omega))) _ _) (Or.inr (Nat.le_refl _))
      rw [e, cV_k]
      refine ⟨_, aN_ s1, sb, rfl, K1.1, ?_, LX_Kp h1 Kn id id id id, Kp_in K1 Kn (fun _ q => q.elim), ?_⟩
      · show CT _ _ 2 _ _ _ _ _
        rw [List.append_nil]
        exact hc
      · have hR' : Rm (p - pl - 1) (10 * (p - pl - 1)) s0 s1 := by rw [← hs1]; exact hR
        have : Rm 3 (7 + (4 + sb.length)) s1 (nt_ (as_new (a_nw 14 s1).2 sb) (aN_ s1) 2 (nI pl) (nI line) 0 (aN_ s1 + 1) (lvl_ 2 sb)) := ⟨by show aC_ s1 + 1 + 2 ≤ aC_ s1 + 3; omega, by show aZ_ s1 + 7 + (4 + sb.length) ≤ aZ_ s1 + (7 + (4 + sb.length)); omega⟩
        exact Rm_wk (Rm_tr hR' this) (by omega) (by omega)
    · rw [if_neg c, if_neg c]
      obtain ⟨s1, p', a1, a2, a3, a4, a5, a6, a7⟩ := x_one (d + 1) h hp 34 (by omega) (by omega)
      have a1 : aE (d + 3) 262 [vr_ (some x), vi_ 34] s = _ := a1
      rw [f_dp (f := 262) k1 rfl, Option.bind_some, a1, cI_k]
      have K2 := Kp_tr hK a5
      have R2 := Rm_tr hR a6
      cases he : lc_ t n p 34 with
      | none =>
        dsimp only
        rw [if_pos (by decide)]
        exact TkR_no (d := d + 1) a2 a3 K2 K2.1 R2 (by omega) (by omega)
      | some r =>
        have hr := lc_le he
        obtain rfl : p' = r.2 := a4 r he
        dsimp only
        rw [if_neg (by rw [nlt1_ 0 (by omega) (by decide)]; omega), f_dp (f := 120) a2.2.1.2.2.2 rfl, Option.bind_some, l_sbLen, cI_k, a2.2.2.2.2.2.1, hl]
        simp only [neq1_ 200 (show k < 2 ^ 31 by omega) (by decide)]
        by_cases c2 : k = 200
        · rw [if_pos c2, if_pos c2]
          exact TkR_no (d := d + 1) a2 a3 K2 K2.1 R2 (by omega) (by omega)
        · have u := u16_ r.1 (by omega)
          rw [if_neg c2, if_neg c2, f_dp (f := 119) a2.2.1.2.2.2 rfl, Option.bind_some, u.1, l_sbApp _ _ u.2, cR_k]
          have h3 : LX (as_app s1 SB (nI r.1)) x A TL SB t n r.2 line (sb ++ [nI r.1]) ids := by
            have := LX_C (LX_sb a2 (sb ++ [nI r.1])) 1 10
            unfold as_app
            rw [a2.2.2.2.2.2.1]
            exact this
          have R3 : Rm 1 10 s1 (as_app s1 SB (nI r.1)) := ⟨Nat.le_refl _, Nat.le_refl _⟩
          have ih := x_str_25 d (pl := pl) (s0 := s0) m r.2 (k + 1) (as_app s1 SB (nI r.1)) (sb ++ [nI r.1]) (by omega) a3 (by simp [hl]) (by omega) (by omega) h3 (Kp_C (Kp_S K2 _ (Or.inl (Or.inr rfl))) 1 10) (Rm_wk (Rm_tr R2 R3) (by omega) (by omega))
          cases hsr : sr_ t n m r.2 (k + 1) with
          | none => rw [hsr] at ih; exact ih
          | some w =>
            rw [hsr] at ih
            show TkR _ _ _ _ _ _ _ _ _ _ _ (some ((4, pl, 0, sb ++ (nI r.1 :: w.1)), w.2))
            have ea : sb ++ (nI r.1 :: w.1) = sb ++ [nI r.1] ++ w.1 := by simp
            rw [ea]
            exact ih
end clex5
