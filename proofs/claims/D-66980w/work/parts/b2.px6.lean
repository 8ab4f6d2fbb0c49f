/-! ===== the two parsers side by side: signs of words ahead ===== -/
section px6
variable {T : List tk_} {eo : Option Nat} {n : Nat} {V : Nat → Int32} {L : List (List Int32)} {lx : Bool} {ids : List Nat} {iE x TL IL GS SL : Nat}
theorem s_mk67 (hv : HV T eo V L lx) (e : Nat) (rst : Bool) (s p dp us its gl R os sc nd CB ZB tk ln t2 j2 k2 w2 l2 p2 dpF nd2 s2) (pe : pe_) (hb : er (.inner j2 k2 w2 l2 .leaf) = cf T eo n t2) (hfi : fi_ t2 = p + 1) (hG : TG s2 (aN_ s) (.inner j2 k2 w2 l2 .leaf)) (hP2 : PSt T eo n ids iE x TL IL GS SL s2 p2 dpF us (its ++ itm (.inner j2 k2 w2 l2 .leaf)) gl) (hK : Kp (Mx x IL GS SL) s s2) (hc : aC_ s2 + 10 * (p + 1) ≤ aC_ s + 10 * p2 ∧ aZ_ s2 + 100 * (p + 1) ≤ aZ_ s + 100 * p2) (hn : nd2 + 6 * (p + 1) ≤ nd + 6 * p2 ∧ os.length + 1 ≤ nd2 ∧ p + 1 < p2 ∧ p2 ≤ T.length) (hil : (itm (.inner j2 k2 w2 l2 .leaf)).length + (p + 1) ≤ p2) (ct : CT s2 tk (tkk T eo p) (nI (tkp T eo n p)) ln (tkv T p) (tkx T p) (tkg T p)) (hs : Kn T p = 18 ∨ Kn T p = 20) (hpe : pe = pR_ (Kn T) V T.length lx (R, st_ (if Kn T p = 18 then 7 else 8) p 0 nd2 [t2] :: os, p2, dpF, sc, nd2 + 1)) (hdp : dp ≤ dpF ∧ dpF ≤ 60 ∧ (rst = true → dpF = dp)) (hw : Lw x TL IL GS SL (aN_ s)) :
    RL T eo n V lx x IL GS SL s CB ZB (aJ (e + 6) 284 67 [vr_ (some tk), vr_ (some j2)] [] s2) pe (QX T eo n ids iE x TL IL GS SL (XB T eo n true) 0 rst s p dp us its gl R os sc nd) := by
  have hTl : T.length < 2600 := hv.1
  have hN1 : aN_ s ≤ aN_ s2 := hK.1
  have h34 := tk_34 (p := p) hP2.2.1 (by omega)
  have ct3 : CT (a_nw 9 s2).2 tk _ _ _ _ _ _ := CT_Kp ct (Kp_new (M := fun _ => False) Kp_rf (9, 0)) (fun _ q => q.elim)
  have hfm : fm_ p [t2] = p := by
    show (if fi_ t2 < p then fi_ t2 else p) = p
    rw [if_neg (by omega)]
  -- one way for both kinds
  have way : ∀ kc, (kc = 1096 ∧ Kn T p = 18 ∨ kc = 1097 ∧ ¬ Kn T p = 18) → RL T eo n V lx x IL GS SL s CB ZB ((a_gi 85 (some tk) (a_nw 9 s2).2).bind fun v5 => cx_bV cx_th (aE (e + 5) 305 [vr_ (some (a_nw 9 s2).1), vr_ (some kc), vi_ v5] (a_nw 9 s2).2) fun s6 => (a_dp 306 (some (a_nw 9 s2).1) s6).bind fun m7 => cx_bR cx_th (aE (e + 5) m7 [vr_ (some (a_nw 9 s2).1), vr_ (some j2)] s6) fun v9 s8 => some (.inl (some (vr_ v9)), s8)) pe (QX T eo n ids iE x TL IL GS SL (XB T eo n true) 0 rst s p dp us its gl R os sc nd) := fun kc hkc => by
    have hx : xk_ kc = true ∧ (kc ≠ 1121 ∧ kc ≠ 1089 ∧ kc ≠ 1124 ∧ kc ≠ 1098) ∧ isIt kc [] = false := by
      rcases hkc with ⟨rfl, _⟩ | ⟨rfl, _⟩ <;> decide
    obtain ⟨s3, e3, hP3, hG3, hK3, cc3, cz3, cN3⟩ := C_mk2 (e + 3) (kc := kc) hP2 ct
    rw [e3]
    have hG2 : TG s3 (aN_ s) (.inner j2 k2 w2 l2 .leaf) := TG_Kp hG hK3 (fun _ q => q.elim) (fun _ _ q => q.elim)
    obtain ⟨s4, e4, hG4, hP4, hK4, cc4, cz4, cN4⟩ := C_with (e + 4) hP3 hw (TG_lo hG3 hN1) hG2 (dj_gt (m := aN_ s2) hG3.2.2 (TG_lt hG))
    rw [show (a_nw 9 s2).1 = aN_ s2 from rfl, e4]
    have hit : itm (.inner (aN_ s2) kc (nI (tkp T eo n p), nI (tkp T eo n p), 0, [], 0, none) (.inner j2 k2 w2 l2 .leaf) .leaf) = itm (.inner j2 k2 w2 l2 .leaf) := by
      rw [itm_c hx.2.2 ⟨hx.2.1.1, hx.2.1.2.2.1⟩]
      rfl
    have hkk : Kp (Mx x IL GS SL) s s4 := Kp_in (Kp_tr hK (Kp_wk hK3 (fun _ _ q => q.elim))) hK4 (fun a ha => Or.inr (Nat.le_trans hN1 (hG3.2.2 a ha)))
    refine Or.inr ⟨_, _, _, hpe, rfl, _, _, _, _, _, _, _, _, rfl, rfl, ⟨?_, hx.1, rfl, rfl, hfm, ?_, fun _ q => ?_, ⟨_, _, _, _, rfl, by split <;> omega, by split <;> omega⟩⟩, hG4, by rw [show snC .leaf (.inner j2 k2 w2 l2 .leaf) = .inner j2 k2 w2 l2 .leaf from rfl, hit]; exact hP4, hkk, ⟨by omega, by omega⟩, ⟨by omega, by omega, by omega, hn.2.2.2⟩, hdp, by rw [show snC .leaf (.inner j2 k2 w2 l2 .leaf) = .inner j2 k2 w2 l2 .leaf from rfl, hit]; omega⟩
    · rcases hkc with ⟨rfl, q⟩ | ⟨rfl, q⟩
      · rw [if_pos q]
        exact er_x (av := 0) (by decide) (by decide) (er_one hb) hfm
      · rw [if_neg q]
        exact er_x (av := 0) (by decide) (by decide) (er_one hb) hfm
    · constructor
      · intro q; exact absurd q hx.2.1.2.2.2
      · intro q
        have : (if Kn T p = 18 then 7 else 8) = 6 := q
        split at this <;> omega
    · have : (if Kn T p = 18 then 7 else 8) = 11 := q
      split at this <;> omega
  rw [cj_X13_marked_67, C_teq (e + 4) ct3 (c := 1049) rfl (by omega)]
  by_cases c1 : Kn T p = 18
  · rw [if_neg (by rw [tx_of hP2.2.1 (c := 1049) (k := 18) (by decide +kernel) c1]; simp [a_b])]
    exact way 1096 (Or.inl ⟨rfl, c1⟩)
  · rw [if_pos (by simp [tx_ne hP2.2.1 (c := 1049) (k := 18) (by decide +kernel) c1 h34, a_b])]
    exact way 1097 (Or.inr ⟨rfl, c1⟩)
theorem s_mkF (hv : HV T eo V L lx) (d : Nat) (h1 : SX T eo n V L lx ids iE x TL IL GS SL (XB T eo n true) 0 d 283 [vr_ (some x)] (fun _ => [(34, 0, 0, 0)]) (fun _ => True) 42 8 true) (h2 : SX T eo n V L lx ids iE x TL IL GS SL (XB T eo n true) 0 d 284 [vr_ (some x), vi_ 0] (fun _ => [(34, 0, 0, 0)]) (fun p => Kn T p = 18 ∨ Kn T p = 20) 42 7 true) : SX T eo n V L lx ids iE x TL IL GS SL (XB T eo n true) 0 (d + 1) 284 [vr_ (some x), vi_ 0] (fun _ => [(34, 0, 0, 0)]) (fun p => Kn T p = 18 ∨ Kn T p = 20) 42 7 true := by
  intro s p dp us its gl R os sc nd CB ZB hP hS hM hd hC hs hI
  have hTl : T.length < 2600 := hv.1
  obtain ⟨m1, m2, m3, m4, m5, m6⟩ := id hM
  obtain ⟨e, rfl⟩ : ∃ e, d = e + 5 := ⟨d - 5, by omega⟩
  have hw := PSt_Lw hP
  have hlt : p < T.length := Kn_lt (by omega)
  have g34 : pS_ (Kn T) V T.length lx 34 0 0 0 (R, os, p, dp, sc, nd) = (if Kn T p = 18 ∨ Kn T p = 20 then (if dp = 60 then fl_ p else ok_ ((34, 0, 0, 0) :: (6, (if Kn T p = 18 then 7 else 8), p, os.length) :: (15, dp, 0, 0) :: R, os, p + 1, dp + 1, sc, nd)) else ok_ ((39, 0, 0, 0) :: (37, 0, 0, os.length) :: (35, 0, 0, os.length) :: (15, dp, 0, 0) :: R, os, p, dp, sc, nd)) := rfl
  rw [ce_X13_marked]
  refine RL_enter (e + 1) hP m3 Kp_rf hC (fun h60 => ?_) (fun h60 => ?_)
  · exact pR_er (Mn_pb hM (by omega) (by omega) (by omega) (by omega) (by omega)) (g34.trans (by rw [if_pos hs, if_pos h60]; rfl))
  have b1 : pR_ (Kn T) V T.length lx ([(34, 0, 0, 0)] ++ R, os, p, dp, sc, nd) = pR_ (Kn T) V T.length lx ([(34, 0, 0, 0)] ++ ((6, (if Kn T p = 18 then 7 else 8), p, os.length) :: (15, dp, 0, 0) :: R), os, p + 1, dp + 1, sc, nd) := pR_ok (Mn_pb hM (by omega) (by omega) (by omega) (by omega) (by omega)) (g34.trans (by rw [if_pos hs, if_neg h60]; rfl))
  rw [b1]
  have hP1 := PSt_dp hP (d' := dp + 1) (by omega)
  obtain ⟨tk, ln, ct, et⟩ := C_take (e + 3) hP1 m3
  rw [et]
  have hP2 := PSt_at hP1 (p' := p + 1) (by omega)
  have ct2 := CT_Kp ct (x_Kp (x := x) (IL := IL) (GS := GS) (SL := SL) 94 (nI (p + 1))) (Mx_cl hP1)
  have hk2 : Kp (Mx x IL GS SL) s (awI (awI s x 95 (nI (dp + 1))) x 94 (nI (p + 1))) := Kp_tr (x_Kp 95 _) (x_Kp 94 _)
  have hC2 : Cn T (awI (awI s x 95 (nI (dp + 1))) x 94 (nI (p + 1))) (p + 1) CB ZB := ⟨by simp only [aC_awI, aC_awR]; have := hC.1; omega, by simp only [aZ_awI, aZ_awR]; have := hC.2; omega⟩
  have hMi : Mn T 42 ((6, (if Kn T p = 18 then 7 else 8), p, os.length) :: (15, dp, 0, 0) :: R).length os.length (p + 1) (dp + 1) sc.length nd := ⟨by simp; omega, m2, by omega, by omega, by omega, by omega⟩
  -- what comes behind the inner one
  have fin : ∀ t2 j2 k2 w2 l2 p2 dp2 nd2 s2, XA T eo n ids iE x TL IL GS SL (XB T eo n true) 0 true (awI (awI s x 95 (nI (dp + 1))) x 94 (nI (p + 1))) (p + 1) (dp + 1) us its gl os nd t2 j2 k2 w2 l2 p2 dp2 nd2 s2 → RL T eo n V lx x IL GS SL s CB ZB ((a_gi 95 (some x) s2).bind fun v15 => (a_pi 95 (some x) (v15 - 1) s2).bind fun s16 => aJ (e + 6) 284 67 [vr_ (some tk), vr_ (some j2)] [] s16) (pR_ (Kn T) V T.length lx ((6, (if Kn T p = 18 then 7 else 8), p, os.length) :: (15, dp, 0, 0) :: R, t2 :: os, p2, dp2, sc, nd2)) (QX T eo n ids iE x TL IL GS SL (XB T eo n true) 0 true s p dp us its gl R os sc nd) := fun t2 j2 k2 w2 l2 p2 dp2 nd2 s2 q => by
    obtain ⟨⟨b0, b1, b3, b4, b5, b6, b7, b8⟩, hG, hP3, hK3, ⟨c1, c2⟩, ⟨n1, n2, n3, n4⟩, ⟨d1, d2, d3⟩, hil⟩ := q
    obtain rfl := d3 rfl
    rw [C_less hP3]
    have hP4 := PSt_dp hP3 (d' := dp) (by omega)
    have hG4 := TG_Mx hG hP3 hw (x_Kp (x := x) (IL := IL) (GS := GS) (SL := SL) 95 (nI dp))
    have ct4 := CT_Kp (CT_Kp ct2 hK3 (Mx_cl hP2)) (x_Kp (x := x) (IL := IL) (GS := GS) (SL := SL) 95 (nI dp)) (Mx_cl hP3)
    refine s_mk67 hv e true s p dp us its gl R os sc nd CB ZB tk ln t2 j2 k2 w2 l2 p2 dp nd2 _ _ b0 b5 hG4 hP4 (Kp_tr (Kp_tr hk2 hK3) (x_Kp 95 _)) ⟨c1, c2⟩ ⟨n1, n2, by omega, n4⟩ hil ct4 hs ?_ ⟨by omega, by omega, fun _ => rfl⟩ hw
    have hMa : Mn T 43 ((15, dp, 0, 0) :: R).length (t2 :: os).length p2 (dp + 1) sc.length nd2 := ⟨by simp; omega, by simp; omega, n4, by omega, by omega, by omega⟩
    refine (pR_ok (Mn_pb hMa (by omega) (by omega) (by split <;> omega) (by omega) (by omega)) (σ := ((15, dp, 0, 0) :: R, st_ (if Kn T p = 18 then 7 else 8) p 0 nd2 [t2] :: os, p2, dp + 1, sc, nd2 + 1)) ?_).trans ?_
    · show (if (if Kn T p = 18 then 7 else 8) < 100 ∧ (if Kn T p = 18 then 7 else 8) ≠ 20 then _ else _) = _
      rw [if_pos (by split <;> omega)]
      exact sf_app (a := 0) (f := ok_) [t2]
    · exact pR_ok (Mn_pb (os := os) (k := 43) ⟨by omega, by omega, n4, by omega, by omega, by omega⟩ (by omega) (by omega) (by omega) (by omega) (by omega)) rfl
  have way1 : (Kn T (p + 1) = 18 ∨ Kn T (p + 1) = 20) → RL T eo n V lx x IL GS SL s CB ZB (aJ (e + 6) 284 29 [vr_ (some x), vi_ 0, vr_ (some tk)] [] (awI (awI s x 95 (nI (dp + 1))) x 94 (nI (p + 1)))) (pR_ (Kn T) V T.length lx ([(34, 0, 0, 0)] ++ ((6, (if Kn T p = 18 then 7 else 8), p, os.length) :: (15, dp, 0, 0) :: R), os, p + 1, dp + 1, sc, nd)) (QX T eo n ids iE x TL IL GS SL (XB T eo n true) 0 true s p dp us its gl R os sc nd) := fun hs2 => by
    rw [cj_X13_marked_29, f_dp (f := 284) hP2.1.1.2.2 rfl, Option.bind_some]
    refine RL_bind (h2 _ (p + 1) (dp + 1) us its gl _ os sc nd CB ZB hP2 hS hMi (by omega) hC2 hs2 (by omega)) hk2 fun σ v s2 q => ?_
    obtain ⟨t2, j2, k2, w2, l2, p2, dp2, nd2, rfl, rfl, q⟩ := q
    rw [if_pos rfl]
    exact fin _ _ _ _ _ _ _ _ _ q
  rw [C_is (e + 2) hP2 (by omega) (c := 1049) (kk := 18) rfl (by omega) (by decide +kernel)]
  by_cases c1 : Kn T (p + 1) = 18
  · rw [if_neg (by simp [c1, zb_])]
    exact way1 (Or.inl c1)
  rw [if_pos (by simp [c1, zb_]), C_is (e + 2) hP2 (by omega) (c := 1050) (kk := 20) rfl (by omega) (by decide +kernel)]
  by_cases c2 : Kn T (p + 1) = 20
  · rw [if_neg (by simp [c2, zb_])]
    exact way1 (Or.inr c2)
  rw [if_pos (by simp [c2, zb_]), if_pos rfl, f_dp (f := 283) hP2.1.1.2.2 rfl, Option.bind_some]
  refine RL_bind (h1 _ (p + 1) (dp + 1) us its gl _ os sc nd CB ZB hP2 hS hMi (by omega) hC2 trivial (by omega)) hk2 fun σ v s2 q => ?_
  obtain ⟨t2, j2, k2, w2, l2, p2, dp2, nd2, rfl, rfl, q⟩ := q
  rw [if_pos rfl]
  exact fin _ _ _ _ _ _ _ _ _ q
theorem s_mkT (hv : HV T eo V L lx) (d : Nat) (h1 : SX T eo n V L lx ids iE x TL IL GS SL (XB T eo n true) 0 d 285 [vr_ (some x)] (fun z => [(39, 0, 0, 0), (37, 0, 0, z)]) (fun _ => True) 46 7 false) (h2 : SX T eo n V L lx ids iE x TL IL GS SL (XB T eo n true) 0 d 284 [vr_ (some x), vi_ 1] (fun _ => [(36, 0, 0, 0)]) (fun p => Kn T p = 18 ∨ Kn T p = 20) 45 7 false) : SX T eo n V L lx ids iE x TL IL GS SL (XB T eo n true) 0 (d + 1) 284 [vr_ (some x), vi_ 1] (fun _ => [(36, 0, 0, 0)]) (fun p => Kn T p = 18 ∨ Kn T p = 20) 45 7 false := by
  intro s p dp us its gl R os sc nd CB ZB hP hS hM hd hC hs hI
  have hTl : T.length < 2600 := hv.1
  obtain ⟨m1, m2, m3, m4, m5, m6⟩ := id hM
  obtain ⟨e, rfl⟩ : ∃ e, d = e + 5 := ⟨d - 5, by omega⟩
  have hw := PSt_Lw hP
  have hlt : p < T.length := Kn_lt (by omega)
  have g36 : ∀ R p dp, pS_ (Kn T) V T.length lx 36 0 0 0 (R, os, p, dp, sc, nd) = (if Kn T p = 18 ∨ Kn T p = 20 then (if dp = 60 then fl_ p else ok_ ((36, 0, 0, 0) :: (6, (if Kn T p = 18 then 7 else 8), p, os.length) :: R, os, p + 1, dp + 1, sc, nd)) else ok_ ((39, 0, 0, 0) :: (37, 0, 0, os.length) :: R, os, p, dp, sc, nd)) := fun _ _ _ => rfl
  rw [ce_X13_marked]
  refine RL_enter (e + 1) hP m3 Kp_rf hC (fun h60 => ?_) (fun h60 => ?_)
  · exact pR_er (Mn_pb hM (by omega) (by omega) (by omega) (by omega) (by omega)) ((g36 _ _ _).trans (by rw [if_pos hs, if_pos h60]; rfl))
  have b1 : pR_ (Kn T) V T.length lx ([(36, 0, 0, 0)] ++ R, os, p, dp, sc, nd) = pR_ (Kn T) V T.length lx ([(36, 0, 0, 0)] ++ ((6, (if Kn T p = 18 then 7 else 8), p, os.length) :: R), os, p + 1, dp + 1, sc, nd) := pR_ok (Mn_pb hM (by omega) (by omega) (by omega) (by omega) (by omega)) ((g36 _ _ _).trans (by rw [if_pos hs, if_neg h60]; rfl))
  rw [b1]
  have hP1 := PSt_dp hP (d' := dp + 1) (by omega)
  obtain ⟨tk, ln, ct, et⟩ := C_take (e + 3) hP1 m3
  rw [et]
  have hP2 := PSt_at hP1 (p' := p + 1) (by omega)
  have ct2 := CT_Kp ct (x_Kp (x := x) (IL := IL) (GS := GS) (SL := SL) 94 (nI (p + 1))) (Mx_cl hP1)
  have hk2 : Kp (Mx x IL GS SL) s (awI (awI s x 95 (nI (dp + 1))) x 94 (nI (p + 1))) := Kp_tr (x_Kp 95 _) (x_Kp 94 _)
  have hC2 : Cn T (awI (awI s x 95 (nI (dp + 1))) x 94 (nI (p + 1))) (p + 1) CB ZB := ⟨by simp only [aC_awI, aC_awR]; have := hC.1; omega, by simp only [aZ_awI, aZ_awR]; have := hC.2; omega⟩
  have hMi : Mn T 45 ((6, (if Kn T p = 18 then 7 else 8), p, os.length) :: R).length os.length (p + 1) (dp + 1) sc.length nd := ⟨by simp; omega, m2, by omega, by omega, by omega, by omega⟩
  have fin : ∀ t2 j2 k2 w2 l2 p2 dp2 nd2 s2, XA T eo n ids iE x TL IL GS SL (XB T eo n true) 0 false (awI (awI s x 95 (nI (dp + 1))) x 94 (nI (p + 1))) (p + 1) (dp + 1) us its gl os nd t2 j2 k2 w2 l2 p2 dp2 nd2 s2 → RL T eo n V lx x IL GS SL s CB ZB (aJ (e + 6) 284 67 [vr_ (some tk), vr_ (some j2)] [] s2) (pR_ (Kn T) V T.length lx ((6, (if Kn T p = 18 then 7 else 8), p, os.length) :: R, t2 :: os, p2, dp2, sc, nd2)) (QX T eo n ids iE x TL IL GS SL (XB T eo n true) 0 false s p dp us its gl R os sc nd) := fun t2 j2 k2 w2 l2 p2 dp2 nd2 s2 q => by
    obtain ⟨⟨b0, b1, b3, b4, b5, b6, b7, b8⟩, hG, hP3, hK3, ⟨c1, c2⟩, ⟨n1, n2, n3, n4⟩, ⟨d1, d2, d3⟩, hil⟩ := q
    have ct4 := CT_Kp ct2 hK3 (Mx_cl hP2)
    refine s_mk67 hv e false s p dp us its gl R os sc nd CB ZB tk ln t2 j2 k2 w2 l2 p2 dp2 nd2 _ _ b0 b5 hG hP3 (Kp_tr hk2 hK3) ⟨c1, c2⟩ ⟨n1, n2, by omega, n4⟩ hil ct4 hs ?_ ⟨by omega, by omega, fun q => absurd q (by decide)⟩ hw
    have hMa : Mn T 45 R.length (t2 :: os).length p2 dp2 sc.length nd2 := ⟨by omega, by simp; omega, n4, by omega, by omega, by omega⟩
    refine pR_ok (Mn_pb hMa (by omega) (by omega) (by split <;> omega) (by omega) (by omega)) ?_
    show (if (if Kn T p = 18 then 7 else 8) < 100 ∧ (if Kn T p = 18 then 7 else 8) ≠ 20 then _ else _) = _
    rw [if_pos (by split <;> omega)]
    exact sf_app (a := 0) (f := ok_) [t2]
  have way1 : (Kn T (p + 1) = 18 ∨ Kn T (p + 1) = 20) → RL T eo n V lx x IL GS SL s CB ZB (aJ (e + 6) 284 29 [vr_ (some x), vi_ 1, vr_ (some tk)] [] (awI (awI s x 95 (nI (dp + 1))) x 94 (nI (p + 1)))) (pR_ (Kn T) V T.length lx ([(36, 0, 0, 0)] ++ ((6, (if Kn T p = 18 then 7 else 8), p, os.length) :: R), os, p + 1, dp + 1, sc, nd)) (QX T eo n ids iE x TL IL GS SL (XB T eo n true) 0 false s p dp us its gl R os sc nd) := fun hs2 => by
    rw [cj_X13_marked_29, f_dp (f := 284) hP2.1.1.2.2 rfl, Option.bind_some]
    refine RL_bind (h2 _ (p + 1) (dp + 1) us its gl _ os sc nd CB ZB hP2 hS hMi (by omega) hC2 hs2 (by omega)) hk2 fun σ v s2 q => ?_
    obtain ⟨t2, j2, k2, w2, l2, p2, dp2, nd2, rfl, rfl, q⟩ := q
    rw [if_neg (by decide)]
    exact fin _ _ _ _ _ _ _ _ _ q
  rw [C_is (e + 2) hP2 (by omega) (c := 1049) (kk := 18) rfl (by omega) (by decide +kernel)]
  by_cases c1 : Kn T (p + 1) = 18
  · rw [if_neg (by simp [c1, zb_])]
    exact way1 (Or.inl c1)
  rw [if_pos (by simp [c1, zb_]), C_is (e + 2) hP2 (by omega) (c := 1050) (kk := 20) rfl (by omega) (by decide +kernel)]
  by_cases c2 : Kn T (p + 1) = 20
  · rw [if_neg (by simp [c2, zb_])]
    exact way1 (Or.inr c2)
  rw [if_pos (by simp [c2, zb_]), if_neg (by decide), f_dp (f := 285) hP2.1.1.2.2 rfl, Option.bind_some]
  have b3 : pR_ (Kn T) V T.length lx ([(36, 0, 0, 0)] ++ ((6, (if Kn T p = 18 then 7 else 8), p, os.length) :: R), os, p + 1, dp + 1, sc, nd) = pR_ (Kn T) V T.length lx ([(39, 0, 0, 0), (37, 0, 0, os.length)] ++ ((6, (if Kn T p = 18 then 7 else 8), p, os.length) :: R), os, p + 1, dp + 1, sc, nd) := pR_ok (Mn_pb hMi (by omega) (by omega) (by omega) (by omega) (by omega)) ((g36 _ _ _).trans (by rw [if_neg (fun h => h.elim c1 c2)]; rfl))
  rw [b3]
  refine RL_bind (h1 _ (p + 1) (dp + 1) us its gl _ os sc nd CB ZB hP2 hS ⟨by simp; omega, m2, by omega, by omega, by omega, by omega⟩ (by omega) hC2 trivial (by omega)) hk2 fun σ v s2 q => ?_
  obtain ⟨t2, j2, k2, w2, l2, p2, dp2, nd2, rfl, rfl, q⟩ := q
  rw [if_neg (by decide)]
  exact fin _ _ _ _ _ _ _ _ _ q
end px6
