/-! ===== the component's scanner: names, tags, a token ===== -/
section clex7
variable {s s' : as_} {x A TL SB : Nat} {t : Nat → Nat} {n p line : Nat} {sb : List Int32} {ids : List Nat} {M : Nat → Prop}
theorem sx_at {u : List Int32} : ∀ {l : List (Int × Nat × Int32)}, sx_ u l = -1 ∨ ∃ e ∈ l, sx_ u l = e.2.2
  | [] => Or.inl rfl
  | (a, c, j) :: r => by
    unfold sx_
    by_cases q : ak_S c = u
    · rw [if_pos q]; exact Or.inr ⟨(a, c, j), by simp, rfl⟩
    · rw [if_neg q]
      rcases sx_at (u := u) (l := r) with h | ⟨e, he, h⟩
      · exact Or.inl h
      · exact Or.inr ⟨e, by simp [he], h⟩
theorem ik_j : (sl_isKeyword.all fun e => (List.range 19).any fun k => decide (e.2.2 = Int32.ofInt k)) = true := by decide +kernel
theorem s_isKeyword (d : Nat) {y : Nat} {c0 : Int32} {u : List Int32} (hK : (aK_ s y).1 = 26) (ht : aS_ s y = c0 :: u) (hl : (c0 :: u).length < 2 ^ 31) : aE (d + 3) 209 [vr_ (some y)] s = some (.inl (some (vi_ (zb_ (ik_ (c0 :: u))))), s) := by
  rw [sj_isKeyword (d + 1) hK ht]
  show aJ (d + 2 + 1) 209 448 [vr_ (some y), vi_ (sx_ (c0 :: u) sl_isKeyword)] [] s = _
  rw [cj_X1_isKeyword_448]
  rcases sx_at (u := c0 :: u) (l := sl_isKeyword) with h | ⟨e, he, h⟩
  · rw [h]
    repeat rw [if_neg (by decide)]
    have hc : (aS_ s y)[0]? = some c0 := by rw [ht]; rfl
    have e0 : aE (d + 2) 88 [vr_ (some y), vi_ 0] s = _ := l_charAt (d + 1) y (i := 0) hc (by rw [ht]; exact hl)
    rw [f_dp (f := 88) hK rfl, Option.bind_some, e0, cI_k, f_dp (f := 88) hK rfl, Option.bind_some, e0, cI_k, s_begins d hK ht, cI_k, s_ends d hK ht, cI_k]
    unfold ik_
    rw [h]
    have l1 : (c0 < 65) = ¬ (65 ≤ c0) := by rw [Int32.not_le]
    have l2 : (90 < c0) = ¬ (c0 ≤ 90) := by rw [Int32.not_le]
    simp only [l1, l2, List.headD_cons]
    by_cases h1 : 65 ≤ c0
    · rw [if_neg (fun q => q h1)]
      by_cases h2 : c0 ≤ 90
      · rw [if_neg (fun q => q h2)]
        by_cases h3 : sg_begins (sx_ (c0 :: u) sl_begins) = 0
        · rw [if_pos h3]
          by_cases h4 : sg_ends (sx_ (c0 :: u) sl_ends) = 0
          · rw [if_pos h4]; simp [h3, h4, zb_]
          · rw [if_neg h4]; simp [h1, h2, h4, zb_]
        · rw [if_neg h3]; simp [h1, h2, h3, zb_]
      · rw [if_pos h2]; simp [h2, zb_]
    · rw [if_pos h1]; simp [h1, zb_]
  · have hj := List.all_eq_true.mp ik_j e he
    simp only [List.any_eq_true, List.mem_range, decide_eq_true_eq] at hj
    obtain ⟨k, hk, hj⟩ := hj
    have ei : ik_ (c0 :: u) = true := by
      unfold ik_
      have : sx_ (c0 :: u) sl_isKeyword ≠ -1 := by
        rw [h, hj]
        have : ∀ k : Nat, k < 19 → (Int32.ofInt (k : Int) : Int32) ≠ -1 := by decide
        exact this k hk
      simp [this]
    rw [ei, h, hj]
    rcases (show k = 0 ∨ k = 1 ∨ k = 2 ∨ k = 3 ∨ k = 4 ∨ k = 5 ∨ k = 6 ∨ k = 7 ∨ k = 8 ∨ k = 9 ∨ k = 10 ∨ k = 11 ∨ k = 12 ∨ k = 13 ∨ k = 14 ∨ k = 15 ∨ k = 16 ∨ k = 17 ∨ k = 18 by omega) with rfl | rfl | rfl | rfl | rfl | rfl | rfl | rfl | rfl | rfl | rfl | rfl | rfl | rfl | rfl | rfl | rfl | rfl | rfl <;> rfl
theorem tw_len (t : Nat → Nat) : ∀ k p, (tw_ t p k).length = k
  | 0, _ => rfl
  | k + 1, p => by unfold tw_; rw [List.length_cons, tw_len t k]
/-- the row of letters from p on, as a string or a misreading -/
theorem x_rest (d : Nat) {pl : Nat} (h : LX s x A TL SB t n p line sb ids) (hp : p ≤ n) : ∃ s', aE (d + 3) 257 [vr_ (some x), vi_ (nI pl)] s = (if 40 < rs_ t n n p - p then (cx_bV cx_th (aE (d + 2) 267 [vr_ (some (a_nw 8 s').1), vi_ (nI pl), vi_ 1] (a_nw 8 s').2) fun s20 => some (.inr (a_nw 8 s').1, s20)) else some (.inl (some (vr_ (some (aN_ s')))), as_new s' (tw_ t p (rs_ t n n p - p)))) ∧ LX s' x A TL SB t n (rs_ t n n p) line (tw_ t p (rs_ t n n p - p)) ids ∧ Kp (fun a => a = x ∨ a = SB) s s' ∧ Rm (rs_ t n n p - p) (10 * (rs_ t n n p - p)) s s' ∧ aN_ s' = aN_ s := by
  obtain ⟨b, ⟨k1, k2, k3, k4⟩, ⟨i1, i2, i3⟩, ⟨r1, r2, r3⟩, ⟨hn, ht⟩, e1, e2⟩ := id h
  obtain ⟨s', a1, a2, a3, a4, a5⟩ := x_rest_10 d (pl := nI pl) n p _ [] hp (by omega) (LX_sb h [])
  rw [List.nil_append] at a1 a2
  have hle := rs_le (t := t) (n := n) n p hp
  refine ⟨s', ?_, a2, Kp_tr (Kp_S Kp_rf _ (Or.inl (Or.inr rfl))) a3, a4, a5⟩
  rw [ce_X10_rest, f_gr (f := 83) k1 rfl, Option.bind_some, r3, f_dp (f := 118) k4 rfl, Option.bind_some, l_sbZero, cV_k]
  have a1 : aJ (d + 2 + 1) 257 10 [vr_ (some x), vi_ (nI pl), vr_ (some SB)] [] (awS s SB []) = _ := a1
  rw [a1, tw_len]
  simp only [nlt2_ 40 (show rs_ t n n p - p < 2 ^ 31 by omega) (by decide)]
/-- strings that were just made -/
theorem new_St {l : List Int32} (hN : 4000 ≤ aN_ s) : (aK_ (as_new s l) (aN_ s)).1 = 26 ∧ aS_ (as_new s l) (aN_ s) = l ∧ aN_ (as_new s l) = aN_ s + 1 ∧ Kp (fun _ => False) s (as_new s l) ∧ Rm 2 (4 + l.length) s (as_new s l) := by
  refine ⟨?_, ?_, rfl, Kp_C (Kp_S (Kp_new Kp_rf (26, 0)) _ (Or.inr (Nat.le_refl _))) _ _, ⟨Nat.le_refl _, Nat.le_refl _⟩⟩
  · show (aK_ (anew s (26, 0)) (aN_ s)).1 = 26
    rw [aK_anew, if_pos ⟨hN, rfl⟩]
  · show aS_ (awS (anew s (26, 0)) (aN_ s) l) (aN_ s) = l
    rw [aS_awS, if_pos ⟨hN, rfl⟩]
theorem x_name (d : Nat) (h : LX s x A TL SB t n p line sb ids) (hp : p < n) (hL : cL_ (tx_ t n p) = true) : TkR x A TL SB t n line ids s p (aE (d + 4) 256 [vr_ (some x)] s) (on_ t n p) := by
  obtain ⟨b, ⟨k1, k2, k3, k4⟩, ⟨i1, i2, i3⟩, ⟨r1, r2, r3⟩, ⟨hn, ht⟩, e1, e2⟩ := id h
  have hle := rs_le (t := t) (n := n) n p (by omega)
  have hgt : p < rs_ t n n p := by
    have e : n = (n - 1) + 1 := by omega
    have hR : cR_ (tx_ t n p) = true := by unfold cR_; rw [hL]; rfl
    have : rs_ t n n p = rs_ t n (n - 1) (p + 1) := by
      conv => lhs; rw [show rs_ t n n p = rs_ t n ((n - 1) + 1) p from by rw [← e]]
      unfold rs_
      rw [if_pos hR]
      cases n - 1 <;> rfl
    rw [this]
    exact (rs_le (t := t) (n := n) (n - 1) (p + 1) (by omega)).1
  obtain ⟨s1, a1, a2, a3, a4, a5⟩ := x_rest d (pl := p) h (by omega)
  have eo : on_ t n p = if 40 < rs_ t n n p - p then none else some ((kw_ (tw_ t p (rs_ t n n p - p)), p, 0, tw_ t p (rs_ t n n p - p)), rs_ t n n p) := by
    unfold on_
    rw [if_pos hL]
  rw [eo, ce_X10_name, f_gi (f := 80) k1 rfl, Option.bind_some, i2, f_dp (f := 257) k1 rfl, Option.bind_some, a1]
  by_cases c : 40 < rs_ t n n p - p
  · rw [if_pos c, if_pos c]
    have := TkR_no (d := d) (pl := p) a2 hle.2 a3 a3.1 a4 (by omega) (by omega)
    have h4 : 4000 ≤ aN_ s1 := by have := a2.1.1; omega
    obtain ⟨s2, b1, _⟩ := x_newMis d (s := s1) (pl := nI p) (f := 1) h4
    rw [b1, cV_k] at this ⊢
    rw [cR_x]
    exact this
  · rw [if_neg c, if_neg c, cR_k]
    have h4 : 4000 ≤ aN_ s1 := by have := a2.1.1; omega
    have hw : tw_ t p (rs_ t n n p - p) = nI (t p) :: tw_ t (p + 1) (rs_ t n n p - p - 1) := by
      rw [show rs_ t n n p - p = (rs_ t n n p - p - 1) + 1 by omega]
      rfl
    have hwl := tw_len t (rs_ t n n p - p) p
    generalize hW : tw_ t p (rs_ t n n p - p) = W at *
    obtain ⟨u1, u2, u3, u4, u5⟩ := new_St (s := s1) (l := W) h4
    have h2 : LX (as_new s1 W) x A TL SB t n (rs_ t n n p) line W ids := LX_Kp a2 u4 id id id id
    have K2 : Kp (fun a => a = x ∨ a = SB) s (as_new s1 W) := Kp_in a3 u4 (fun _ q => q.elim)
    have R2 := Rm_tr a4 u5
    have kw3 : (aK_ (a_nw 14 (as_new s1 W)).2 (aN_ s1)).1 = 26 := nw_K u1 (by rw [u3]; omega)
    have sw3 : aS_ (a_nw 14 (as_new s1 W)).2 (aN_ s1) = nI (t p) :: tw_ t (p + 1) (rs_ t n n p - p - 1) := by
      show aS_ (anew (as_new s1 W) (14, 0)) (aN_ s1) = _
      rw [aS_anew, if_neg (by rw [u3]; omega), u2, hw]
    rw [s_isKeyword d kw3 sw3 (by rw [← hw, hwl]; omega), cI_k, ← hw, ik_kw]
    simp only [zb_0]
    have hk := kw_p W
    have hne : ¬ W = [] := by rw [hw]; simp
    have l81 : aI_ (a_nw 14 (as_new s1 W)).2 x 81 = nI line := (nw_I h2.1.1.2).trans h2.2.2.1.2.2
    by_cases c1 : kw_ W = 1
    · have ecw : cw_ (kw_ W, p, 0, W) = (0, W, []) := by
        unfold cw_
        dsimp only
        rw [if_neg (by omega), if_neg (by omega), if_neg (by omega), if_neg hne, if_pos c1]
      rw [if_pos (by simp [c1]), f_gi (f := 81) (nw_K h2.2.1.1 h2.1.1.2) rfl, Option.bind_some, l81]
      have := TkR_ok (d := d) (pl := p) (y := (kw_ W, p, 0, W)) (v := 0) (l := W) (tx := aN_ s1) h2 K2 R2 (by omega) (by omega) rfl (by rw [ecw]) (by dsimp only; rw [if_neg hk.2.1]) u1 (by rw [u3]; omega) u2
      rw [ecw] at this
      exact this
    · have ecw : cw_ (kw_ W, p, 0, W) = (4, W, []) := by
        unfold cw_
        dsimp only
        have := hk
        unfold kwp_ at this
        rw [if_neg (by omega), if_neg (by omega), if_neg (by omega), if_neg hne, if_neg c1]
      rw [if_neg (by simp [c1]), f_gi (f := 81) (nw_K h2.2.1.1 h2.1.1.2) rfl, Option.bind_some, l81]
      have := TkR_ok (d := d) (pl := p) (y := (kw_ W, p, 0, W)) (v := 0) (l := W) (tx := aN_ s1) h2 K2 R2 (by omega) (by omega) rfl (by rw [ecw]) (by dsimp only; rw [if_neg hk.2.1]) u1 (by rw [u3]; omega) u2
      rw [ecw] at this
      exact this
end clex7
