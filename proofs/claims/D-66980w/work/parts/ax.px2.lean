/-! ===== the two parsers side by side: levels ===== -/
def rkL (l : Nat) : Nat := if l ≤ 4 then 18 - l else 17 - l
section px2
variable {T : List tk_} {eo : Option Nat} {n : Nat} {V : Nat → Int32} {L : List (List Int32)} {lx : Bool} {ids : List Nat} {iE x TL IL GS SL : Nat}
theorem rkL_1 {l : Nat} (h : l < 7) : rkL (l + 1) + 1 ≤ rkL l ∧ rkL l ≤ 18 ∧ 9 ≤ rkL (l + 1) := by
  unfold rkL
  split <;> split <;> omega
theorem cf_9 {v : Int32} {tok nd : Nat} {ts : List tr_} (h : v ≠ 18) (h' : v ≠ 19) : cf T eo n (st_ 9 tok v nd ts) = .inner 0 1091 (xp_ T eo n (tok, v, 0, fm_ tok ts, false) (tkx T tok) 0 none) (cf T eo n (lkT ts)) .leaf := by
  show (if v = 18 then _ else if v = 19 then _ else _) = _
  rw [if_neg h, if_neg h']
  rfl
theorem lv_k {k : Nat} (h : lv_ k ≠ 0) : k < 100 ∧ k ≠ 18 ∧ k ≠ 19 ∧ k ≠ 0 := by
  unfold lv_ at h
  refine ⟨?_, ?_, ?_, ?_⟩
  · repeat' (split at h)
    all_goals first | omega | skip
  · rintro rfl; exact h (by decide)
  · rintro rfl; exact h (by decide)
  · rintro rfl; exact h (by decide)
theorem s_lev38 (hv : HV T eo V L lx) (e l : Nat) (hl : l < 7) (rel r1 : Bool) (h1 : SX T eo n V L lx ids iE x TL IL GS SL (XB T eo n r1) 0 (e + 5) 281 [vr_ (some x), vi_ (nI (l + 1))] (fun _ => [bl_ (l + 1)]) (fun _ => True) (24 + 2 * l) (rkL (l + 1)) true) : ∀ (m : Nat) s p dp us its gl R os sc nd CB ZB t i kc w lC p1 nd1 s1, T.length - p1 < m → (l = 4 → lv_ (Kn T p1) ≠ 5) → XA T eo n ids iE x TL IL GS SL (XB T eo n rel) 0 true s p dp us its gl os nd t i kc w lC p1 dp nd1 s1 → SV L us.reverse sc → Mn T (22 + 2 * l) R.length os.length p dp sc.length nd → 20 * (61 - dp) + rkL l ≤ e + 6 → Cn T s p CB ZB → Lw x TL IL GS SL (aN_ s) → its.length ≤ p →
    RL T eo n V lx x IL GS SL s CB ZB (aJ (e + 6) 281 38 [vr_ (some x), vi_ (nI l), vr_ (some i)] [] s1) (pR_ (Kn T) V T.length lx ((31, l + 1, 0, os.length) :: R, t :: os, p1, dp, sc, nd1)) (QX T eo n ids iE x TL IL GS SL (XB T eo n rel) 0 true s p dp us its gl R os sc nd) := by
  have hTl : T.length < 2600 := hv.1
  have hrk := rkL_1 hl
  intro m
  induction m with
  | zero =>
    intro s p dp us its gl R os sc nd CB ZB t i kc w lC p1 nd1 s1 hm
    exact absurd hm (Nat.not_lt_zero _)
  | succ m ih =>
    intro s p dp us its gl R os sc nd CB ZB t i kc w lC p1 nd1 s1 hm h4 q hS hM hd hC hw hI
    obtain ⟨m1, m2, m3, m4, m5, m6⟩ := id hM
    obtain ⟨⟨a0, a1, a2, a3, a4, a5, a6, a7⟩, hG, hP1, hK1, ⟨c1, c2⟩, ⟨n1, n2, n3, n4⟩, ⟨d1, d2, d3⟩, hil⟩ := id q
    have hM2 : Mn T (22 + 2 * l) R.length (t :: os).length p1 dp sc.length nd1 := ⟨by omega, by simp; omega, n4, m4, m5, by omega⟩
    have g31 : pS_ (Kn T) V T.length lx 31 (l + 1) 0 os.length (R, t :: os, p1, dp, sc, nd1) = (if lv_ (Kn T p1) = l + 1 then ok_ (bl_ (l + 1) :: (32, l + 1, p1, os.length) :: (31, l + 1, 0, os.length) :: R, t :: os, p1 + 1, dp, sc, nd1) else ok_ (R, t :: os, p1, dp, sc, nd1)) := rfl
    rw [cj_X13_level_38, f_dp (f := 301) hP1.1.1.2.2 rfl, Option.bind_some, show aE (e + 5) 301 [vr_ (some x), vi_ (nI l)] s1 = _ from y_level (e + 2) hP1.1 hP1.2.1 n4 hl, cI_k]
    by_cases c : lv_ (Kn T p1) = l + 1
    case neg =>
      rw [if_pos (by simp [c, zb_])]
      have b2 : pR_ (Kn T) V T.length lx ((31, l + 1, 0, os.length) :: R, t :: os, p1, dp, sc, nd1) = pR_ (Kn T) V T.length lx (R, t :: os, p1, dp, sc, nd1) := pR_ok (Mn_pb hM2 (by omega) (by omega) (by omega) (by omega) (by omega)) (by rw [g31, if_neg c]; rfl)
      exact Or.inr ⟨_, _, _, b2, rfl, t, i, kc, w, lC, p1, dp, nd1, rfl, rfl, q⟩
    case pos =>
      have hl4 : l ≠ 4 := fun h => h4 h (by omega)
      have hkk := lv_k (k := Kn T p1) (by omega)
      have hlt : p1 < T.length := Kn_lt hkk.2.2.2
      rw [if_neg (by simp [c, zb_])]
      have b2 : pR_ (Kn T) V T.length lx ((31, l + 1, 0, os.length) :: R, t :: os, p1, dp, sc, nd1) = pR_ (Kn T) V T.length lx ([bl_ (l + 1)] ++ ((32, l + 1, p1, os.length) :: (31, l + 1, 0, os.length) :: R), t :: os, p1 + 1, dp, sc, nd1) := pR_ok (Mn_pb hM2 (by omega) (by omega) (by omega) (by omega) (by omega)) (by rw [g31, if_pos c]; rfl)
      rw [b2]
      obtain ⟨tk, ln, ct, et⟩ := C_take (e + 3) hP1 n4
      rw [et]
      have hP2 := PSt_at hP1 (p' := p1 + 1) (by omega)
      have hN1 : aN_ s ≤ aN_ s1 := hK1.1
      have ct2 := CT_Kp ct (x_Kp (x := x) (IL := IL) (GS := GS) (SL := SL) 94 (nI (p1 + 1))) (Mx_cl hP1)
      obtain ⟨s3, e3, hP3, hG3, hK3, cc3, cz3, cN3⟩ := C_mk2 (e + 3) (kc := 1091) hP2 ct2
      rw [e3, nw_1, aN_awI]
      have hkF : ∀ a, False → (aK_ (awI s1 x 94 (nI (p1 + 1))) a).1 ≠ 26 ∧ (aK_ (awI s1 x 94 (nI (p1 + 1))) a).1 ≠ 14 := fun _ q => q.elim
      have ct3 := CT_Kp ct2 hK3 hkF
      simp only [aC_awI, aZ_awI, aN_awI] at cc3 cz3 cN3 hG3 e3
      have hk13 : Kp (Mx x IL GS SL) s1 s3 := Kp_tr (x_Kp (x := x) (IL := IL) (GS := GS) (SL := SL) 94 (nI (p1 + 1))) (Kp_wk hK3 (fun _ _ q => q.elim))
      have hGt : TG s3 (aN_ s) (.inner i kc w lC .leaf) := TG_Mx hG hP1 hw hk13
      obtain ⟨e4, hG4⟩ := C_text ct3 hG3
      rw [e4]
      have hNa : isN s3 (aN_ s1) := NF_isN hG3.1.1
      have hia : aN_ s1 ∉ idl_ (.inner i kc w lC .leaf) := fun h => by have := TG_lt hG _ h; omega
      have hP4 : PSt T eo n ids iE x TL IL GS SL (awR s3 (aN_ s1) 103 (aR_ s3 tk 88)) (p1 + 1) dp us (its ++ itm (.inner i kc w lC .leaf)) gl := PSt_ownR hP3 hw hN1 hNa
      have hGt4 := TG_ownR (f := 103) (y := aR_ s3 tk 88) hGt hia hNa
      have hk14 : Kp (Mx x IL GS SL) s (awR s3 (aN_ s1) 103 (aR_ s3 tk 88)) := Kp_R (Kp_tr hK1 hk13) 103 _ (Or.inr hN1)
      obtain ⟨s5, e5, hG5, hP5, hK5, cc5, cz5, cN5, hKi5⟩ := C_first (e + 4) hP4 hw hk14 (Nat.le_refl _) (TG_lo hG4 hN1) hGt4 (dj_gt (m := aN_ s1) hG4.2.2 (TG_lt hG))
      rw [e5, nI_1]
      simp only [aC_awR, aZ_awR, aN_awR] at cc5 cz5 cN5
      have hCa := hC.1
      have hCb := hC.2
      refine RL_with (e + 4) h1 rfl hP5 hS (R := (32, l + 1, p1, os.length) :: (31, l + 1, 0, os.length) :: R) ⟨by simp; omega, by simp; omega, by omega, by omega, by omega, by omega⟩ (by omega) ⟨by omega, by omega⟩ trivial (by simp; omega) hK5 (Nat.le_refl _) hw hG5 (by omega) fun t2 j2 k2 w2 l2 p2 dp2 nd2 s6 ⟨b0, b1, b2, b3, b4, b5, b6, b7⟩ hG6 hP6 hK6 ⟨cc6, cz6⟩ ⟨n5, n6, n7, n8⟩ ⟨d5, d6, d7⟩ hil6 hN6 => ?_
      try simp only [List.length_cons] at n6
      obtain rfl := d7 rfl
      have hM6 : Mn T (23 + 2 * l) ((31, l + 1, 0, os.length) :: R).length (t2 :: t :: os).length p2 dp2 sc.length nd2 := ⟨by simp; omega, by simp only [List.length_cons]; omega, n8, by omega, by omega, by omega⟩
      have hfm : fm_ p1 [t, t2] = p := fm_2 a4 (by omega) (by omega)
      have g32 : pR_ (Kn T) V T.length lx ((32, l + 1, p1, os.length) :: (31, l + 1, 0, os.length) :: R, t2 :: t :: os, p2, dp2, sc, nd2) = pR_ (Kn T) V T.length lx ((31, l + 1, 0, os.length) :: R, st_ 9 p1 (nI (Kn T p1)) nd2 [t, t2] :: os, p2, dp2, sc, nd2 + 1) := by
        refine pR_ok (Mn_pb hM6 (by omega) (by omega) (by omega) (by omega) (by omega)) ?_
        show (if os.length = os.length ∧ p1 < T.length then (if l + 1 = 5 then _ else _) else _) = _
        rw [if_pos ⟨rfl, hlt⟩, if_neg (by omega)]
        exact sf_app (kk := 9) (f := ok_) [t2, t]
      rw [g32]
      have hv8 : nI (Kn T p1) ≠ 18 := fun h => hkk.2.1 ((neq1_ 18 (by omega) (by decide)).mp h)
      have hv9 : nI (Kn T p1) ≠ 19 := fun h => hkk.2.2.1 ((neq1_ 19 (by omega) (by decide)).mp h)
      have hit : itm (.inner (aN_ s1) 1091 (nI (tkp T eo n p1), w.2.1, 0, tkx T p1, 0, none) (snC (.inner i kc w lC .leaf) (.inner j2 k2 w2 l2 .leaf)) .leaf) = itm (.inner i kc w lC .leaf) ++ itm (.inner j2 k2 w2 l2 .leaf) := by
        rw [itm_c rfl (by decide)]
        exact itm_sn _ _
      refine ih s p dp2 us its gl R os sc nd CB ZB (st_ 9 p1 (nI (Kn T p1)) nd2 [t, t2]) (aN_ s1) 1091 (nI (tkp T eo n p1), w.2.1, 0, tkx T p1, 0, none) (snC (.inner i kc w lC .leaf) (.inner j2 k2 w2 l2 .leaf)) p2 (nd2 + 1) s6 (by omega) (fun h => absurd h hl4) ⟨⟨?_, rfl, a2, rfl, hfm, by simp [st_, kd_], fun _ q => (by simp [st_, kd_] at q), ⟨_, _, _, _, rfl, by omega, by omega⟩⟩, hG6, ?_, hK6, ⟨by omega, by omega⟩, ⟨by omega, by omega, by omega, n8⟩, ⟨by omega, by omega, fun _ => rfl⟩, ?_⟩ hS hM hd hC hw hI
      · rw [cf_9 hv8 hv9, a2]
        exact er_x (by decide) (by decide) (er_app (ts := [t]) (er_one a0) b0) hfm
      · rw [hit, ← List.append_assoc]
        exact hP6
      · rw [hit]
        simp
        omega
end px2
