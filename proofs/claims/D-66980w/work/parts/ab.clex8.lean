/-! ===== the component's scanner: a token ===== -/
section clex8
variable {s s' : as_} {x A TL SB : Nat} {t : Nat → Nat} {n p line : Nat} {sb : List Int32} {ids : List Nat} {M : Nat → Prop}
theorem TkR_ret {pl : Nat} {o : cx_O as_} {r : Option (tk_ × Nat)} (h : TkR x A TL SB t n line ids s pl o r) : TkR x A TL SB t n line ids s pl (cx_bR cx_th o fun v s => some (.inl (some (vr_ v)), s)) r := by
  unfold TkR at h ⊢
  split
  · obtain ⟨s', id, sb', rfl, h⟩ := h; exact ⟨s', id, sb', rfl, h⟩
  · obtain ⟨s', id, p', sb', rfl, h⟩ := h; exact ⟨s', id, p', sb', rfl, h⟩
def sq_ (c : Nat) (g : Nat × Nat) : Prop := g.1 = 10 ∨ g.1 = 11 → c = 36
theorem sq_if {c : Nat} {P : Prop} [Decidable P] {a b : Nat × Nat} (h1 : P → sq_ c a) (h2 : sq_ c b) : sq_ c (if P then a else b) := by
  by_cases h : P
  · rw [if_pos h]; exact h1 h
  · rw [if_neg h]; exact h2
theorem sq_all (c d : Nat) : sq_ c (sg_ c d) := by
  unfold sg_
  refine sq_if (fun h _ => h.1) (sq_if (fun h _ => h.1) ?_)
  repeat refine sq_if (fun _ q => by simp at q) ?_
  exact fun q => by simp at q
theorem sg_36 (d : Nat) : (sg_ 36 d).1 = 0 ∨ (sg_ 36 d).1 = 10 ∨ (sg_ 36 d).1 = 11 := by
  by_cases h1 : d = 40
  · subst h1; decide
  by_cases h2 : d = 41
  · subst h2; decide
  have e : sg_ 36 d = (0, 1) := by unfold sg_; simp [h1, h2]
  rw [e]
  exact Or.inl rfl
theorem CT_tag {id a : Nat} {k pl ln v : Int32} {txt tag0 tag : List Int32} (h : CT s id k pl ln v txt tag0) (ha : St s (some a) tag) : CT (awR s id 90 (some a)) id k pl ln v txt tag := by
  obtain ⟨h1, h2, h3, h4⟩ := h
  refine ⟨h1, h2, ?_, ?_⟩
  · rw [aR_awR, if_neg (by omega)]
    exact h3
  · rw [aR_awR, if_pos ⟨rfl, rfl⟩]
    exact ha
theorem LX_tag {y f : Nat} {a : Option Nat} (h : LX s x A TL SB t n p line sb ids) (hy : y ≠ x) : LX (awR s y f a) x A TL SB t n p line sb ids := by
  refine LX_of h (Nat.le_refl _) (fun _ _ => rfl) rfl h.2.2.1.2.1 h.2.2.1.2.2 (fun k => ?_) (fun i => rfl) h.2.2.2.2.2.1 h.2.2.2.2.2.2
  rw [aR_awR, if_neg (fun q => hy q.1.symm)]
theorem x_token (d : Nat) (h : LX s x A TL SB t n p line sb ids) (hp : p < n) : TkR x A TL SB t n line ids s p (aE (d + 5) 254 [vr_ (some x)] s) (on_ t n p) := by
  obtain ⟨b, ⟨k1, k2, k3, k4⟩, ⟨i1, i2, i3⟩, ⟨r1, r2, r3⟩, ⟨hn, ht⟩, e1, e2⟩ := id h
  have ht' : ∀ i, i < n → t i < 256 := fun i hi => (ht i hi).1
  have h4 : 4000 ≤ aN_ s := by omega
  rw [ce_X10_token, f_dp (f := 253) k1 rfl, Option.bind_some, x_peek0 (d + 3) h (by omega), cI_k, x_isLetter (d + 3) p ht', cI_k]
  cases hL : cL_ (tx_ t n p) with
  | true =>
    rw [if_neg (show ¬ zb_ true = 0 by decide), f_dp (f := 256) k1 rfl, Option.bind_some]
    exact TkR_ret (x_name d h hp hL)
  | false =>
    rw [if_pos (show zb_ false = 0 from rfl), x_isDigit (d + 3) p ht', cI_k]
    cases hD : cD_ (tx_ t n p) with
    | true =>
      rw [if_neg (show ¬ zb_ true = 0 by decide), f_dp (f := 259) k1 rfl, Option.bind_some]
      exact TkR_ret (x_number d h hp (Or.inl hD) hL)
    | false =>
      rw [if_pos (show zb_ false = 0 from rfl)]
      have P := fun c h0 hc => pk_tx (q := p) ht' c h0 hc
      simp only [pk_tx (q := p) ht' 35 (by decide) (by decide), pk_tx (q := p) ht' 39 (by decide) (by decide), pk_tx (q := p) ht' 34 (by decide) (by decide), pk_tx (q := p) ht' 36 (by decide) (by decide)]
      by_cases c35 : tx_ t n p = 35
      · rw [if_pos c35, f_dp (f := 259) k1 rfl, Option.bind_some]
        exact TkR_ret (x_number d h hp (Or.inr c35) hL)
      rw [if_neg c35]
      by_cases c39 : tx_ t n p = 39
      · rw [if_pos c39, f_dp (f := 261) k1 rfl, Option.bind_some]
        exact TkR_ret (x_character d h hp c39)
      rw [if_neg c39]
      by_cases c34 : tx_ t n p = 34
      · rw [if_pos c34, f_dp (f := 263) k1 rfl, Option.bind_some]
        exact TkR_ret (x_string d h hp c34)
      rw [if_neg c34]
      have e1' : aE (d + 4) 253 [vr_ (some x), vi_ 1] s = _ := x_peek (d + 3) h 1 (by omega) (by omega)
      obtain ⟨r, er, hr0, hr1⟩ := x_sign (s := s) (t := t) (n := n) (p := p) (d + 3) ht'
      rw [f_dp (f := 253) k1 rfl, Option.bind_some, e1', cI_k, er, cR_k]
      have eo : on_ t n p = (if (sg_ (tx_ t n p) (tx_ t n (p + 1))).1 = 0 then none
        else if (sg_ (tx_ t n p) (tx_ t n (p + 1))).1 = 10 ∨ (sg_ (tx_ t n p) (tx_ t n (p + 1))).1 = 11 then
          if 40 < rs_ t n n (p + 2) - p - 2 then none else some (((sg_ (tx_ t n p) (tx_ t n (p + 1))).1, p, 0, tw_ t (p + 2) (rs_ t n n (p + 2) - p - 2)), rs_ t n n (p + 2))
        else some (((sg_ (tx_ t n p) (tx_ t n (p + 1))).1, p, 0, []), p + (sg_ (tx_ t n p) (tx_ t n (p + 1))).2)) := by
        unfold on_
        rw [hL, hD, if_neg (by decide), if_neg (by decide), if_neg c35, if_neg c39, if_neg c34]
      rw [eo]
      have hg := sg_p (tx_ t n p) (tx_ t n (p + 1))
      have hg2 := sg_2 (tx_ t n p) (tx_ t n (p + 1))
      have hgp := (sg_pp (tx_ t n p) (tx_ t n (p + 1))).2.2
      have h36 := sq_all (tx_ t n p) (tx_ t n (p + 1))
      have h36' : tx_ t n p = 36 → (sg_ (tx_ t n p) (tx_ t n (p + 1))).1 = 0 ∨ (sg_ (tx_ t n p) (tx_ t n (p + 1))).1 = 10 ∨ (sg_ (tx_ t n p) (tx_ t n (p + 1))).1 = 11 := fun e => by rw [e]; exact sg_36 _
      have hb : (sg_ (tx_ t n p) (tx_ t n (p + 1))).2 = 2 → (sg_ (tx_ t n p) (tx_ t n (p + 1))).1 ≠ 0 → p + 1 < n := fun h2 h0 => by
        refine Decidable.byContradiction fun q => ?_
        have e0 : tx_ t n (p + 1) = 0 := tx_big (by omega)
        rw [e0, sg_0] at h2
        simp at h2
      generalize sg_ (tx_ t n p) (tx_ t n (p + 1)) = g at *
      by_cases c0 : g.1 = 0
      · rw [if_pos c0, hr0 c0, if_pos rfl, f_gi (f := 80) (nw_K k1 b.1.2) rfl, Option.bind_some, nw_I b.1.2, i2]
        exact TkR_no (d := d + 2) h (by omega) Kp_rf (Nat.le_refl _) Rm_rf (by omega) (by omega)
      obtain ⟨k, rfl, kk1, kk2, kk3, kk4⟩ := hr1 c0
      have kK : (aK_ s k).1 = 26 := by unfold aK_; rw [if_pos (by omega), if_pos kk2, kk1]
      have kS : aS_ s k = sgt_ g.1 := by unfold aS_; rw [if_pos (by omega), kk3]
      obtain ⟨s1, a1, a2, a3, a4, a5⟩ := x_newTok (d + 1) (s := s) (tx := k) (k := 3) (pl := nI p) (ln := nI line) (v := 0) (l := sgt_ g.1) h4 kK (by omega) kS
      have h1 := LX_Kp h a3 id id id id
      have k1' := h1.2.1.1
      have kK1 : (aK_ s1 k).1 = 26 := by unfold aK_; rw [if_pos (by omega), if_pos kk2, kk1]
      have kS1 : aS_ s1 k = ak_S k := by unfold aS_; rw [if_pos (by omega)]
      rw [if_neg c0, if_neg (by simp), f_gi (f := 80) (nw_K k1 b.1.2) rfl, Option.bind_some, nw_I b.1.2, i2, f_gi (f := 81) (nw_K k1 b.1.2) rfl, Option.bind_some, nw_I b.1.2, i3, a1, cV_k, f_gi (f := 80) k1' rfl, Option.bind_some, h1.2.2.1.2.1, f_dp (f := 86) kK1 rfl, Option.bind_some, l_len, cI_k, kS1, kk4, nI_add, f_pi (f := 80) k1' rfl rfl, Option.bind_some]
      have h2 := LX_at h1 (p + g.2)
      have K2 : Kp (fun a => a = x ∨ a = SB) s (awI s1 x 80 (nI (p + g.2))) := Kp_I (Kp_in Kp_rf a3 (fun _ q => q.elim)) 80 _ (Or.inl (Or.inl rfl))
      have Kx : Kp (fun a => a = x) s1 (awI s1 x 80 (nI (p + g.2))) := Kp_I Kp_rf 80 _ (Or.inl rfl)
      have C2 := CT_Kp a2 Kx (fun a q => by subst q; rw [k1']; decide)
      have R2 : Rm 1 7 s (awI s1 x 80 (nI (p + g.2))) := a4
      by_cases c10 : g.1 = 10 ∨ g.1 = 11
      · have e36 := h36 c10
        have g2 := hg2 c10
        have hlt := hb g2 c0
        rw [if_pos c10, if_pos e36]
        rw [g2] at h2 K2 Kx C2 R2 ⊢
        obtain ⟨s3, b1, b2, b3, b4, b5⟩ := x_rest (d + 1) (pl := p) h2 (by omega)
        have hle := rs_le (t := t) (n := n) n (p + 2) (by omega)
        have C3 := CT_Kp C2 b3 (fun a q => by
          rcases q with rfl | rfl
          · rw [h2.2.1.1]; decide
          · rw [h2.2.1.2.2.2]; decide)
        have K3 := Kp_tr K2 b3
        have R3 := Rm_tr R2 b4
        have e85 : a_gi 85 (some (a_nw 14 s).1) (awI s1 x 80 (nI (p + 2))) = some (nI p) := by
          rw [f_gi (f := 85) (x := (a_nw 14 s).1) (c := 14) (by show (aK_ _ (aN_ s)).1 = 14; rw [C2.1.2.2]) rfl]
          exact congrArg some C2.2.1.2.1
        have kx2 : (aK_ (awI s1 x 80 (nI (p + 2))) x).1 = 4 := h2.2.1.1
        rw [e85, Option.bind_some, f_dp (f := 257) kx2 rfl, Option.bind_some, b1, show rs_ t n n (p + 2) - p - 2 = rs_ t n n (p + 2) - (p + 2) by omega]
        by_cases c40 : 40 < rs_ t n n (p + 2) - (p + 2)
        · rw [if_pos c40, if_pos c40]
          have := TkR_no (d := d + 1) (pl := p) b2 hle.2 K3 K3.1 R3 (by omega) (by omega)
          obtain ⟨s5, q1, _⟩ := x_newMis (d + 1) (s := s3) (pl := nI p) (f := 1) (by have := b2.1.1; omega)
          rw [q1, cV_k] at this ⊢
          rw [cR_x]
          exact this
        · rw [if_neg c40, if_neg c40, cR_k]
          obtain ⟨u1, u2, u3, u4, u5⟩ := new_St (s := s3) (l := tw_ t (p + 2) (rs_ t n n (p + 2) - (p + 2))) (by have := b2.1.1; omega)
          have hwl := tw_len t (rs_ t n n (p + 2) - (p + 2)) (p + 2)
          have h5 := LX_Kp b2 u4 id id id id
          have C5 := CT_Kp C3 u4 (fun _ q => q.elim)
          have K5 : Kp (fun a => a = x ∨ a = SB) s _ := Kp_in K3 u4 (fun _ q => q.elim)
          have R5 := Rm_tr R3 u5
          have hne : aN_ s ≠ x := by omega
          rw [f_pr (f := 90) (x := (a_nw 14 s).1) (c := 14) (by show (aK_ _ (aN_ s)).1 = 14; rw [C5.1.2.2]) rfl, Option.bind_some]
          refine ⟨_, aN_ s, _, rfl, Nat.le_refl _, ?_, LX_tag h5 hne, Kp_R K5 90 _ (Or.inr (Nat.le_refl _)), Rm_wk R5 (by omega) (by omega)⟩
          have ecw : ∀ w, cw_ (g.1, p, 0, w) = (3, sgt_ g.1, w) := fun w => by
            unfold cw_
            dsimp only
            rw [if_neg (by omega), if_neg (by omega), if_pos c10]
          rw [ecw]
          dsimp only
          rw [if_neg (by omega)]
          exact CT_tag C5 ⟨_, rfl, u1, by rw [u3]; omega, u2⟩
      · have n36 : ¬ tx_ t n p = 36 := fun e => by rcases h36' e with q | q; exact c0 q; exact c10 q
        rw [if_neg c10, if_neg n36]
        have hle : p + g.2 ≤ n := by
          by_cases q2 : g.2 = 2
          · have := hb q2 c0; omega
          · omega
        have ecw : cw_ (g.1, p, 0, []) = (3, sgt_ g.1, []) := by
          unfold cw_
          dsimp only
          rw [if_neg hg.2.2.1, if_neg hg.2.2.2, if_neg c10, if_pos rfl]
        refine ⟨_, aN_ s, _, rfl, Nat.le_refl _, ?_, h2, K2, Rm_wk R2 (by omega) (by omega)⟩
        rw [ecw]
        dsimp only
        rw [if_neg hg.2.2.1]
        exact C2
end clex8
