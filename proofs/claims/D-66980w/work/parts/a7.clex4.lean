/-! ===== the component's scanner: numbers, characters, strings ===== -/
section clex4
variable {s s' : as_} {x A TL SB : Nat} {t : Nat → Nat} {n p line : Nat} {sb : List Int32} {ids : List Nat} {M : Nat → Prop}
/-- what a scanner's method leaves: a token y, or a misreading at pl -/
def TkR (x A TL SB : Nat) (t : Nat → Nat) (n line : Nat) (ids : List Nat) (s : as_) (pl : Nat) (o : cx_O as_) (r : Option (tk_ × Nat)) : Prop := match r with
  | some (y, p') => ∃ s' id sb', o = some (.inl (some (vr_ (some id))), s') ∧ aN_ s ≤ id ∧ CT s' id (cw_ y).1 (nI y.2.1) (nI line) (if y.1 = 2 then y.2.2.1 else 0) (cw_ y).2.1 (cw_ y).2.2 ∧ LX s' x A TL SB t n p' line sb' ids ∧ Kp (fun a => a = x ∨ a = SB) s s' ∧ Rm (p' - pl + 3) (11 * (p' - pl) + 11) s s'
  | none => ∃ s' id p' sb', o = some (.inr id, s') ∧ aN_ s ≤ id ∧ Mis s' id (nI pl) 1 ∧ LX s' x A TL SB t n p' line sb' ids ∧ p' ≤ n ∧ Kp (fun a => a = x ∨ a = SB) s s' ∧ Rm (n + 3) (11 * n + 11) s s'
theorem x_digit (d : Nat) (q base : Nat) (hb : base ≤ 16) (ht : ∀ i, i < n → t i < 256) : aE (d + 2) 260 [vi_ (pkc_ t n q), vi_ (nI base)] s = some (.inl (some (vi_ (if dv_ (tx_ t n q) < base then nI (dv_ (tx_ t n q)) else -1))), s) := by
  rw [ce_X10_digit, x_isDigit d q ht, cI_k]
  have hb1 : ((-1 : Int32) < nI base) = True := by
    simp only [Int32.lt_iff_toInt_lt, nI_toInt (show base < 2 ^ 31 by omega), eq_iff_iff, iff_true]
    have : (-1 : Int32).toInt = -1 := rfl
    omega
  simp only [hb1, if_true, zb_0]
  unfold pkc_ tx_ dv_
  by_cases h : q < n
  · simp only [if_pos h]
    have := ht q h
    cases hD : cD_ (t q) with
    | true =>
      have h48 : 48 ≤ t q ∧ t q ≤ 57 := by unfold cD_ at hD; simp at hD; exact hD
      rw [if_neg (by decide), if_pos rfl, show (nI (t q) - 48 : Int32) = nI (t q - 48) from nsb_ h48.1]
      simp only [nlt_ (show t q - 48 < 2 ^ 31 by omega) (show base < 2 ^ 31 by omega)]
      by_cases c : t q - 48 < base
      · rw [if_pos c, if_pos c]
      · rw [if_neg c, if_neg c]
    | false =>
      rw [if_pos rfl, if_neg (show ¬ ((false : Bool) = true) by decide)]
      simp only [nlt1_ 65 (show t q < 2 ^ 31 by omega) (by decide), nlt2_ 70 (show t q < 2 ^ 31 by omega) (by decide)]
      by_cases h65 : t q < 65
      · rw [if_pos h65, if_neg (show ¬ (65 ≤ t q ∧ t q ≤ 70) by omega), if_neg (show ¬ 99 < base by omega)]
      · rw [if_neg h65]
        by_cases h70 : 70 < t q
        · rw [if_pos h70, if_neg (show ¬ (65 ≤ t q ∧ t q ≤ 70) by omega), if_neg (show ¬ 99 < base by omega)]
        · rw [if_neg h70, if_pos (show 65 ≤ t q ∧ t q ≤ 70 by omega), show (nI (t q) - 65 + 10 : Int32) = nI (t q - 55) from by
            rw [show (nI (t q) - 65 : Int32) = nI (t q - 65) from nsb_ (a := t q) (b := 65) (by omega), show (10 : Int32) = nI 10 from rfl, nI_add, show t q - 65 + 10 = t q - 55 by omega]]
          simp only [nlt_ (show t q - 55 < 2 ^ 31 by omega) (show base < 2 ^ 31 by omega)]
          by_cases c : t q - 55 < base
          · rw [if_pos c, if_pos c]
          · rw [if_neg c, if_neg c]
  · simp only [if_neg h]
    rw [show cD_ 0 = false from by decide, if_pos rfl, if_neg (show ¬ ((false : Bool) = true) by decide), if_pos (show (-1 : Int32) < 65 by decide), if_neg (show ¬ (65 ≤ 0 ∧ 0 ≤ 70) by omega), if_neg (show ¬ 99 < base by omega)]
/-- a misreading is thrown -/
theorem TkR_no {d pl : Nat} {s0 : as_} (h : LX s x A TL SB t n p line sb ids) (hp : p ≤ n) (hK : Kp (fun a => a = x ∨ a = SB) s0 s) (hN : aN_ s0 ≤ aN_ s) {c z : Nat} (hR : Rm c z s0 s) (hc : c ≤ n + 2) (hz : z ≤ 11 * n + 3) : TkR x A TL SB t n line ids s0 pl (cx_bV cx_th (aE (d + 2) 267 [vr_ (some (a_nw 8 s).1), vi_ (nI pl), vi_ 1] (a_nw 8 s).2) fun s20 => some (.inr (a_nw 8 s).1, s20)) none := by
  have h4 : 4000 ≤ aN_ s := by have := h.1.1; omega
  obtain ⟨s1, a1, a2, a3, a4, a5⟩ := x_newMis d (s := s) (pl := nI pl) (f := 1) h4
  rw [a1, cV_k]
  exact ⟨s1, aN_ s, p, sb, rfl, hN, a2, LX_Kp h a3 id id id id, hp, Kp_in hK a3 (fun _ q => q.elim), Rm_wk (Rm_tr hR a4) (by omega) (by omega)⟩
theorem x_num_59 (d : Nat) {base pl : Nat} {s0 : as_} (hb : base ≤ 16) (hpl : pl < 2 ^ 31) : ∀ (m p v many : Nat) (s : as_), n < p + m → p ≤ n → v < 68719476752 → many ≤ p → LX s x A TL SB t n p line sb ids → Kp (fun a => a = x ∨ a = SB) s0 s → Rm 0 0 s0 s →
    TkR x A TL SB t n line ids s0 pl (aJ (d + 4) 259 59 [vr_ (some x), vi_ (nI pl), vi_ (nI base), vl_ (lN v), vi_ (nI many)] [] s) (if many + ((dg_ t n base m p v).2 - p) = 0 ∨ ¬ (dg_ t n base m p v).1 < 4294967296 then none else some ((2, pl, nI (dg_ t n base m p v).1, []), (dg_ t n base m p v).2))
  | 0, p, v, many, s, hm, hp, _, _, _, _, _ => by omega
  | m + 1, p, v, many, s, hm, hp, hv, hma, h, hK, hR => by
    obtain ⟨b, ⟨k1, k2, k3, k4⟩, ⟨i1, i2, i3⟩, ⟨r1, r2, r3⟩, ⟨hn, ht⟩, e1, e2⟩ := id h
    have ht' : ∀ i, i < n → t i < 256 := fun i hi => (ht i hi).1
    have h4 : 4000 ≤ aN_ s := by omega
    have e0 : aE (d + 2 + 1) 253 [vr_ (some x), vi_ 0] s = _ := x_peek0 (d + 2) h hp
    have ed := x_digit (s := s) (d + 1) p base hb ht'
    rw [cj_X10_number_59, f_dp (f := 253) k1 rfl, Option.bind_some, e0, cI_k, ed, cI_k, show (4294967296 : Int64) = lN 4294967296 from rfl]
    simp only [lg_lt (show v < 2 ^ 63 by omega) (show 4294967296 < 2 ^ 63 by omega)]
    have dn : (nI (dv_ (tx_ t n p)) < 0) = False := by
      simp only [nlt1_ 0 (show dv_ (tx_ t n p) < 2 ^ 31 by
        have : tx_ t n p < 256 := by unfold tx_; split; exact ht' _ (by assumption); omega
        have := dv_lt this
        omega) (by decide), Nat.not_lt_zero]
    unfold dg_
    by_cases c : dv_ (tx_ t n p) < base
    · have hlt : p < n := by
        by_cases q : p < n
        · exact q
        · rw [tx_big (by omega), show dv_ 0 = 99 by decide] at c; omega
      simp only [if_pos c, dn, if_false]
      by_cases c2 : v < 4294967296
      · rw [if_pos c2, if_pos c2, f_dp (f := 253) k1 rfl, Option.bind_some, e0, cI_k, ed, cI_k, if_pos c, f_gi (f := 80) k1 rfl, Option.bind_some, i2, nI_1, f_pi (f := 80) k1 rfl rfl, Option.bind_some, nI_1, nI_l (show base < 2 ^ 31 by omega), nI_l (show dv_ (tx_ t n p) < 2 ^ 31 by omega), lN_mul, lN_add]
        have ih := x_num_59 d (base := base) (pl := pl) (s0 := s0) hb hpl m (p + 1) (v * base + dv_ (tx_ t n p)) (many + 1) _ (by omega) (by omega) (by
          have := Nat.mul_le_mul (show v ≤ 4294967295 by omega) hb
          omega) (by omega) (LX_at h (p + 1)) (Kp_I hK 80 _ (Or.inl (Or.inl rfl))) hR
        have hge := dg_p (t := t) (n := n) hb m (p + 1) (v * base + dv_ (tx_ t n p)) (by omega)
        rw [show many + 1 + ((dg_ t n base m (p + 1) (v * base + dv_ (tx_ t n p))).2 - (p + 1)) = many + ((dg_ t n base m (p + 1) (v * base + dv_ (tx_ t n p))).2 - p) by omega] at ih
        exact ih
      · rw [if_neg c2, if_neg c2, f_gi (f := 80) k1 rfl, Option.bind_some, i2, nI_1, f_pi (f := 80) k1 rfl rfl, Option.bind_some, nI_1]
        have ih := x_num_59 d (base := base) (pl := pl) (s0 := s0) hb hpl m (p + 1) v (many + 1) _ (by omega) (by omega) hv (by omega) (LX_at h (p + 1)) (Kp_I hK 80 _ (Or.inl (Or.inl rfl))) hR
        have hge := dg_p (t := t) (n := n) hb m (p + 1) v (by omega)
        rw [show many + 1 + ((dg_ t n base m (p + 1) v).2 - (p + 1)) = many + ((dg_ t n base m (p + 1) v).2 - p) by omega] at ih
        exact ih
    · simp only [if_neg c]
      rw [if_pos (by decide), Nat.sub_self]
      have e00 : (nI many = (0 : Int32)) = (many = 0) := neq1_ 0 (by omega) (by decide)
      simp only [e00]
      by_cases c0 : many = 0
      · rw [if_pos c0, if_pos (show many + 0 = 0 ∨ ¬ v < 4294967296 from Or.inl c0)]
        exact TkR_no (d := d + 1) h hp hK hK.1 hR (by omega) (by omega)
      rw [if_neg c0]
      by_cases c2 : v < 4294967296
      · rw [if_pos c2, if_neg (show ¬ (many + 0 = 0 ∨ ¬ v < 4294967296) by omega), f_gi (f := 81) (s := (a_nw 14 s).2) (x := x) (c := 4) (by
          show (aK_ (anew s (14, 0)) x).1 = 4
          rw [aK_anew, if_neg (by omega)]; exact k1) rfl, Option.bind_some]
        have e81 : aI_ (a_nw 14 s).2 x 81 = nI line := by
          show aI_ (anew s (14, 0)) x 81 = _
          rw [aI_anew, if_neg (by omega)]; exact i3
        obtain ⟨s1, a1, a2, a3, a4, a5⟩ := x_newTok d (s := s) (tx := 1010) (k := 1) (pl := nI pl) (ln := nI line) (v := (lN v).toInt32) (l := []) h4 rfl (by omega) rfl
        rw [e81, a1, cV_k]
        refine ⟨s1, aN_ s, sb, rfl, hK.1, ?_, LX_Kp h a3 id id id id, Kp_in hK a3 (fun _ q => q.elim), Rm_wk (Rm_tr hR a4) (by omega) (by omega)⟩
        rw [lN_i] at a2
        exact a2
      · rw [if_neg c2, if_pos (show many + 0 = 0 ∨ ¬ v < 4294967296 from Or.inr c2)]
        exact TkR_no (d := d + 1) h hp hK hK.1 hR (by omega) (by omega)
theorem x_number (d : Nat) (h : LX s x A TL SB t n p line sb ids) (hp : p < n) (hd : cD_ (tx_ t n p) = true ∨ tx_ t n p = 35) (hL : cL_ (tx_ t n p) = false) : TkR x A TL SB t n line ids s p (aE (d + 4) 259 [vr_ (some x)] s) (on_ t n p) := by
  obtain ⟨b, ⟨k1, k2, k3, k4⟩, ⟨i1, i2, i3⟩, ⟨r1, r2, r3⟩, ⟨hn, ht⟩, e1, e2⟩ := id h
  have ht' : ∀ i, i < n → t i < 256 := fun i hi => (ht i hi).1
  have e0 : aE (d + 2 + 1) 253 [vr_ (some x), vi_ 0] s = _ := x_peek0 (d + 2) h (by omega)
  rw [ce_X10_number, f_gi (f := 80) k1 rfl, Option.bind_some, i2, f_dp (f := 253) k1 rfl, Option.bind_some, e0, cI_k]
  simp only [pk_tx (q := p) ht' 35 (by decide) (by decide)]
  unfold on_
  rw [hL, if_neg (show ¬ ((false : Bool) = true) by decide)]
  cases hD : cD_ (tx_ t n p) with
  | true =>
    have c35 : ¬ tx_ t n p = 35 := fun q => by rw [q] at hD; exact absurd hD (by decide)
    rw [if_neg c35, if_pos rfl]
    have := x_num_59 d (base := 10) (pl := p) (s0 := s) (by omega) (by omega) (n + 1) p 0 0 s (by omega) (by omega) (by omega) (by omega) h Kp_rf Rm_rf
    have hge := dg_p (t := t) (n := n) (base := 10) (by omega) (n + 1) p 0 (by omega)
    have ec : (0 + ((dg_ t n 10 (n + 1) p 0).2 - p) = 0 ∨ ¬ (dg_ t n 10 (n + 1) p 0).1 < 4294967296) = ((dg_ t n 10 (n + 1) p 0).2 = p ∨ ¬ (dg_ t n 10 (n + 1) p 0).1 < 4294967296) := by
      apply propext; constructor <;> (rintro (q | q); exact Or.inl (by omega); exact Or.inr q)
    simp only [ec] at this
    exact this
  | false =>
    have c35 : tx_ t n p = 35 := by rcases hd with q | q; rw [hD] at q; cases q; exact q
    have h1 := LX_at h (p + 1)
    have e1' : aE (d + 2 + 1) 253 [vr_ (some x), vi_ 0] (awI s x 80 (nI (p + 1))) = _ := x_peek0 (d + 2) h1 (by omega)
    rw [if_pos c35, if_neg (show ¬ ((false : Bool) = true) by decide), if_pos c35, f_gi (f := 80) k1 rfl, Option.bind_some, i2, nI_1, f_pi (f := 80) k1 rfl rfl, Option.bind_some, f_dp (f := 253) (s := awI s x 80 (nI (p + 1))) k1 rfl, Option.bind_some, e1', cI_k]
    simp only [pk_tx (q := p + 1) ht' 88 (by decide) (by decide)]
    have K1 : Kp (fun a => a = x ∨ a = SB) s (awI s x 80 (nI (p + 1))) := Kp_I Kp_rf 80 _ (Or.inl (Or.inl rfl))
    by_cases c88 : tx_ t n (p + 1) = 88
    · have hlt : p + 1 < n := by
        by_cases q : p + 1 < n
        · exact q
        · rw [tx_big (by omega)] at c88; omega
      rw [if_pos c88, if_pos c88, f_gi (f := 80) (s := awI s x 80 (nI (p + 1))) k1 rfl, Option.bind_some, h1.2.2.1.2.1, nI_1, f_pi (f := 80) (s := awI s x 80 (nI (p + 1))) k1 rfl rfl, Option.bind_some]
      have := x_num_59 d (base := 16) (pl := p) (s0 := s) (by omega) (by omega) (n + 1) (p + 2) 0 0 _ (by omega) (by omega) (by omega) (by omega) (LX_at h1 (p + 2)) (Kp_I K1 80 _ (Or.inl (Or.inl rfl))) Rm_rf
      have hge := dg_p (t := t) (n := n) (base := 16) (by omega) (n + 1) (p + 2) 0 (by omega)
      have ec : (0 + ((dg_ t n 16 (n + 1) (p + 2) 0).2 - (p + 2)) = 0 ∨ ¬ (dg_ t n 16 (n + 1) (p + 2) 0).1 < 4294967296) = ((dg_ t n 16 (n + 1) (p + 2) 0).2 = p + 2 ∨ ¬ (dg_ t n 16 (n + 1) (p + 2) 0).1 < 4294967296) := by
        apply propext; constructor <;> (rintro (q | q); exact Or.inl (by omega); exact Or.inr q)
      simp only [ec] at this
      exact this
    · rw [if_neg c88, if_neg c88]
      have := x_num_59 d (base := 8) (pl := p) (s0 := s) (by omega) (by omega) (n + 1) (p + 1) 0 0 _ (by omega) (by omega) (by omega) (by omega) h1 K1 Rm_rf
      have hge := dg_p (t := t) (n := n) (base := 8) (by omega) (n + 1) (p + 1) 0 (by omega)
      have ec : (0 + ((dg_ t n 8 (n + 1) (p + 1) 0).2 - (p + 1)) = 0 ∨ ¬ (dg_ t n 8 (n + 1) (p + 1) 0).1 < 4294967296) = ((dg_ t n 8 (n + 1) (p + 1) 0).2 = p + 1 ∨ ¬ (dg_ t n 8 (n + 1) (p + 1) 0).1 < 4294967296) := by
        apply propext; constructor <;> (rintro (q | q); exact Or.inl (by omega); exact Or.inr q)
      simp only [ec] at this
      exact this
end clex4
