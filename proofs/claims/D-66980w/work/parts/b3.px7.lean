/-! ===== the two parsers side by side: what stands between; calls ===== -/
section px7
variable {T : List tk_} {eo : Option Nat} {n : Nat} {V : Nat → Int32} {L : List (List Int32)} {lx : Bool} {ids : List Nat} {iE x TL IL GS SL : Nat}
theorem cf_9a {v : Int32} {tok nd : Nat} {ts : List tr_} (h : v = 18) : cf T eo n (st_ 9 tok v nd ts) = .inner 0 1096 (xp_ T eo n (tok, v, 0, fm_ tok ts, false) [] 0 none) (cf T eo n (lkT ts)) .leaf := by
  show (if v = 18 then _ else if v = 19 then _ else _) = _
  rw [if_pos h]
  rfl
theorem cf_9b {v : Int32} {tok nd : Nat} {ts : List tr_} (h : v = 19) : cf T eo n (st_ 9 tok v nd ts) = .inner 0 1095 (xp_ T eo n (tok, v, 0, fm_ tok ts, false) [] 0 none) (cf T eo n (lkT ts)) .leaf := by
  show (if v = 18 then _ else if v = 19 then _ else _) = _
  rw [if_neg (by rw [h]; decide), if_pos h]
  rfl
theorem s_adr97 (hv : HV T eo V L lx) (e : Nat) (s p dp us its gl R os sc nd CB ZB tk ln t i kc w lC p1 s1 t2 j2 k2 w2 l2 p2 dp2 nd2 s2) (pe : pe_) (a0 : er (.inner i kc w lC .leaf) = cf T eo n t) (a2 : w.2.1 = nI (tkp T eo n p)) (a4 : fi_ t = p) (hG : TG s2 (aN_ s) (.inner i kc w lC .leaf)) (hlt : ∀ a ∈ idl_ (.inner i kc w lC .leaf), a < aN_ s1) (hs1 : aN_ s ≤ aN_ s1) (hb : er (.inner j2 k2 w2 l2 .leaf) = cf T eo n t2) (hfi : fi_ t2 = p1 + 1) (hG2 : TG s2 (aN_ s1) (.inner j2 k2 w2 l2 .leaf)) (hP2 : PSt T eo n ids iE x TL IL GS SL s2 p2 dp2 us (its ++ itm (.inner i kc w lC .leaf) ++ itm (.inner j2 k2 w2 l2 .leaf)) gl) (hK : Kp (Mx x IL GS SL) s s2) (hc : aC_ s2 + 10 * (p + 1) ≤ aC_ s + 10 * p2 ∧ aZ_ s2 + 100 * (p + 1) ≤ aZ_ s + 100 * p2) (hn : nd2 + 6 * (p + 1) ≤ nd + 6 * p2 ∧ os.length + 1 ≤ nd2 ∧ p < p1 ∧ p1 + 1 < p2 ∧ p2 ≤ T.length) (hil : (itm (.inner i kc w lC .leaf)).length + (itm (.inner j2 k2 w2 l2 .leaf)).length + p ≤ p2) (ct : CT s2 tk (tkk T eo p1) (nI (tkp T eo n p1)) ln (tkv T p1) (tkx T p1) (tkg T p1)) (hs : Kn T p1 = 18 ∨ Kn T p1 = 19) (hw : Lw x TL IL GS SL (aN_ s)) (hdp : dp ≤ dp2 ∧ dp2 ≤ 60)
    (fin : ∀ i3 kc3 w3 l3 s3, XA T eo n ids iE x TL IL GS SL (XB T eo n true) 0 false s p dp us its gl os nd (st_ 9 p1 (nI (Kn T p1)) nd2 [t, t2]) i3 kc3 w3 l3 p2 dp2 (nd2 + 1) s3 → RL T eo n V lx x IL GS SL s CB ZB (aJ (e + 6) 283 36 [vr_ (some x), vi_ (nI dp), vr_ (some i3)] [] s3) pe (QX T eo n ids iE x TL IL GS SL (XB T eo n true) 0 true s p dp us its gl R os sc nd)) :
    RL T eo n V lx x IL GS SL s CB ZB (aJ (e + 6) 283 97 [vr_ (some x), vi_ (nI dp), vr_ (some i), vr_ (some tk)] [vr_ (some j2)] s2) pe (QX T eo n ids iE x TL IL GS SL (XB T eo n true) 0 true s p dp us its gl R os sc nd) := by
  have hTl : T.length < 2600 := hv.1
  have hN1 : aN_ s1 ≤ aN_ s2 := by
    have := hG2.2.2 j2 (by simp [idl_])
    have := TG_lt hG2 j2 (by simp [idl_])
    omega
  have h34 := tk_34 (p := p1) hP2.2.1 (by omega)
  have hfm : fm_ p1 [t, t2] = p := fm_2 a4 (by omega) (by omega)
  have way : ∀ kc3, (kc3 = 1096 ∧ nI (Kn T p1) = 18 ∨ kc3 = 1095 ∧ nI (Kn T p1) = 19) → RL T eo n V lx x IL GS SL s CB ZB ((a_gi 85 (some tk) (a_nw 9 s2).2).bind fun v5 => cx_bV cx_th (aE (e + 5) 305 [vr_ (some (a_nw 9 s2).1), vr_ (some kc3), vi_ v5] (a_nw 9 s2).2) fun s6 => (a_gi 101 (some i) s6).bind fun v7 => (a_pi 101 (some (a_nw 9 s2).1) v7 s6).bind fun s8 => (a_dp 306 (some (a_nw 9 s2).1) s8).bind fun m9 => cx_bR cx_th (aE (e + 5) m9 [vr_ (some (a_nw 9 s2).1), vr_ (some i)] s8) fun v11 s10 => (a_dp 306 v11 s10).bind fun m12 => cx_bR cx_th (aE (e + 5) m12 [vr_ v11, vr_ (some j2)] s10) fun v14 s13 => aJ (e + 6) 283 36 [vr_ (some x), vi_ (nI dp), vr_ v14] [] s13) pe (QX T eo n ids iE x TL IL GS SL (XB T eo n true) 0 true s p dp us its gl R os sc nd) := fun kc3 hkc => by
    have hx : xk_ kc3 = true ∧ (kc3 ≠ 1121 ∧ kc3 ≠ 1089 ∧ kc3 ≠ 1124 ∧ kc3 ≠ 1098) ∧ isIt kc3 [] = false := by
      rcases hkc with ⟨rfl, _⟩ | ⟨rfl, _⟩ <;> decide
    obtain ⟨s3, e3, hP3, hG3, hK3, cc3, cz3, cN3⟩ := C_mk2 (e + 3) (kc := kc3) hP2 ct
    rw [e3]
    have hGi : TG s3 (aN_ s) (.inner i kc w lC .leaf) := TG_Kp hG hK3 (fun _ q => q.elim) (fun _ _ q => q.elim)
    have hGj : TG s3 (aN_ s1) (.inner j2 k2 w2 l2 .leaf) := TG_Kp hG2 hK3 (fun _ q => q.elim) (fun _ _ q => q.elim)
    have hk3 : Kp (Mx x IL GS SL) s s3 := Kp_tr hK (Kp_wk hK3 (fun _ _ q => q.elim))
    have hltj := TG_lt hG2
    obtain ⟨s4, e4, hG4, hP4, hK4, cc4, cz4, cN4, hKi4⟩ := C_first (e + 4) hP3 hw hk3 (Nat.le_refl _) (TG_lo hG3 (by omega)) hGi (dj_gt (m := aN_ s2) hG3.2.2 (fun a ha => by have := hlt a ha; omega))
    rw [show (a_nw 9 s2).1 = aN_ s2 from rfl, e4]
    have hGj4 : TG s4 (aN_ s1) (.inner j2 k2 w2 l2 .leaf) := TG_Kp hGj hKi4 (TG_cl hG3) (fun a ha q => by
      have := hG3.2.2 a q
      have := hltj a ha
      omega)
    obtain ⟨s5, e5, hG5, hP5, hK5, cc5, cz5, cN5⟩ := C_with (e + 4) hP4 hw hG4 (TG_lo hGj4 hs1) (fun a ha hb => by
      have ha : a ∈ aN_ s2 :: ([] ++ (idl_ (.inner i kc w lC .leaf) ++ [])) := ha
      rw [List.nil_append, List.append_nil] at ha
      rcases List.mem_cons.mp ha with rfl | ha
      · have := hltj _ hb; omega
      · have h5 := hlt a ha
        have := hGj.2.2 a hb
        omega)
    rw [e5]
    have hK05 : Kp (Mx x IL GS SL) s s5 := Kp_in hK4 hK5 (fun a ha => Or.inr (hG4.2.2 a ha))
    have hit : itm (.inner (aN_ s2) kc3 (nI (tkp T eo n p1), w.2.1, 0, [], 0, none) (snC (.inner i kc w lC .leaf) (.inner j2 k2 w2 l2 .leaf)) .leaf) = itm (.inner i kc w lC .leaf) ++ itm (.inner j2 k2 w2 l2 .leaf) := by
      rw [itm_c hx.2.2 ⟨hx.2.1.1, hx.2.1.2.2.1⟩]
      exact itm_sn _ _
    refine fin (aN_ s2) kc3 (nI (tkp T eo n p1), w.2.1, 0, [], 0, none) (snC (.inner i kc w lC .leaf) (.inner j2 k2 w2 l2 .leaf)) s5 ⟨⟨?_, hx.1, a2, rfl, hfm, ?_, fun _ q => absurd (show 9 = 11 from q) (by decide), ⟨_, _, _, _, rfl, by omega, by omega⟩⟩, hG5, ?_, hK05, ⟨by omega, by omega⟩, ⟨by omega, by omega, by omega, hn.2.2.2.2⟩, ⟨hdp.1, hdp.2, fun q => absurd q (by decide)⟩, ?_⟩
    · have hl := er_app (ts := [t]) (er_one a0) hb
      rcases hkc with ⟨rfl, q⟩ | ⟨rfl, q⟩
      · rw [cf_9a q, a2]
        exact er_x (by decide) (by decide) hl hfm
      · rw [cf_9b q, a2]
        exact er_x (by decide) (by decide) hl hfm
    · exact ⟨fun q => absurd q hx.2.1.2.2.2, fun q => absurd (show 9 = 6 from q) (by decide)⟩
    · rw [hit, ← List.append_assoc]
      exact hP5
    · rw [hit]
      simp
      omega
  rw [cj_X13_addressed_97, C_teq (e + 4) ct (c := 1084) rfl (by omega)]
  have e8 : (nI (Kn T p1) = 18) = (Kn T p1 = 18) := neq1_ 18 (by omega) (by decide)
  have e9 : (nI (Kn T p1) = 19) = (Kn T p1 = 19) := neq1_ 19 (by omega) (by decide)
  by_cases c1 : Kn T p1 = 19
  · rw [if_neg (by rw [tx_of hP2.2.1 (c := 1084) (k := 19) (by decide +kernel) c1]; simp [a_b])]
    exact way 1095 (Or.inr ⟨rfl, e9 ▸ c1⟩)
  · rw [if_pos (by simp [tx_ne hP2.2.1 (c := 1084) (k := 19) (by decide +kernel) c1 h34, a_b])]
    exact way 1096 (Or.inl ⟨rfl, e8 ▸ (hs.resolve_right c1)⟩)
theorem s_adr36 (hv : HV T eo V L lx) (e : Nat) (h1 : SX T eo n V L lx ids iE x TL IL GS SL (XB T eo n true) 0 (e + 5) 285 [vr_ (some x)] (fun z => [(39, 0, 0, 0), (37, 0, 0, z)]) (fun _ => True) 46 7 false) (h2 : SX T eo n V L lx ids iE x TL IL GS SL (XB T eo n true) 0 (e + 5) 284 [vr_ (some x), vi_ 1] (fun _ => [(36, 0, 0, 0)]) (fun p => Kn T p = 18 ∨ Kn T p = 20) 45 7 false) : ∀ (m : Nat) s p dp us its gl R os sc nd CB ZB t i kc w lC p1 dp1 nd1 s1, T.length - p1 < m → XA T eo n ids iE x TL IL GS SL (XB T eo n true) 0 false s p dp us its gl os nd t i kc w lC p1 dp1 nd1 s1 → SV L us.reverse sc → Mn T 42 R.length os.length p dp sc.length nd → 20 * (61 - dp) + 8 ≤ e + 6 → Cn T s p CB ZB → Lw x TL IL GS SL (aN_ s) → its.length ≤ p →
    RL T eo n V lx x IL GS SL s CB ZB (aJ (e + 6) 283 36 [vr_ (some x), vi_ (nI dp), vr_ (some i)] [] s1) (pR_ (Kn T) V T.length lx ((35, 0, 0, os.length) :: (15, dp, 0, 0) :: R, t :: os, p1, dp1, sc, nd1)) (QX T eo n ids iE x TL IL GS SL (XB T eo n true) 0 true s p dp us its gl R os sc nd) := by
  have hTl : T.length < 2600 := hv.1
  intro m
  induction m with
  | zero =>
    intro s p dp us its gl R os sc nd CB ZB t i kc w lC p1 dp1 nd1 s1 hm
    exact absurd hm (Nat.not_lt_zero _)
  | succ m ih =>
    intro s p dp us its gl R os sc nd CB ZB t i kc w lC p1 dp1 nd1 s1 hm q hS hM hd hC hw hI
    obtain ⟨m1, m2, m3, m4, m5, m6⟩ := id hM
    obtain ⟨⟨a0, a1, a2, a3, a4, a5, a6, a7⟩, hG, hP1, hK1, ⟨c1, c2⟩, ⟨n1, n2, n3, n4⟩, ⟨d1, d2, d3⟩, hil⟩ := id q
    have hN1 : aN_ s ≤ aN_ s1 := hK1.1
    have hM2 : Mn T 43 ((15, dp, 0, 0) :: R).length (t :: os).length p1 dp1 sc.length nd1 := ⟨by simp; omega, by simp; omega, n4, d2, by omega, by omega⟩
    have g35 : pS_ (Kn T) V T.length lx 35 0 0 os.length ((15, dp, 0, 0) :: R, t :: os, p1, dp1, sc, nd1) = (if Kn T p1 = 18 ∨ Kn T p1 = 19 then (if dp1 = 60 then fl_ p1 else ok_ ((36, 0, 0, 0) :: (32, 8, p1, os.length) :: (35, 0, 0, os.length) :: (15, dp, 0, 0) :: R, t :: os, p1 + 1, dp1 + 1, sc, nd1)) else ok_ ((15, dp, 0, 0) :: R, t :: os, p1, dp1, sc, nd1)) := rfl
    rw [cj_X13_addressed_36, C_is (e + 2) hP1 n4 (c := 1049) (kk := 18) rfl (by omega) (by decide +kernel)]
    by_cases c : Kn T p1 = 18 ∨ Kn T p1 = 19
    case neg =>
      rw [if_pos (by simp [show ¬ Kn T p1 = 18 from fun h => c (Or.inl h), zb_]), C_is (e + 2) hP1 n4 (c := 1084) (kk := 19) rfl (by omega) (by decide +kernel), if_pos (by simp [show ¬ Kn T p1 = 19 from fun h => c (Or.inr h), zb_]), C_dps hP1]
      have hP2 := PSt_dp hP1 (d' := dp) (by omega)
      have b2 : pR_ (Kn T) V T.length lx ((35, 0, 0, os.length) :: (15, dp, 0, 0) :: R, t :: os, p1, dp1, sc, nd1) = pR_ (Kn T) V T.length lx (R, t :: os, p1, dp, sc, nd1) := by
        refine (pR_ok (Mn_pb hM2 (by omega) (by omega) (by omega) (by omega) (by omega)) (σ := ((15, dp, 0, 0) :: R, t :: os, p1, dp1, sc, nd1)) (g35.trans (by rw [if_neg c]; rfl))).trans ?_
        exact pR_ok (Mn_pb (os := os) (k := 43) ⟨by omega, by omega, n4, d2, by omega, by omega⟩ (by omega) (by omega) (by omega) (by omega) (by omega)) rfl
      exact Or.inr ⟨_, _, _, b2, rfl, t, i, kc, w, lC, p1, dp, nd1, rfl, rfl, ⟨a0, a1, a2, a3, a4, a5, a6, a7⟩, TG_Mx hG hP1 hw (x_Kp (x := x) (IL := IL) (GS := GS) (SL := SL) 95 (nI dp)), hP2, Kp_tr hK1 (x_Kp 95 _), ⟨c1, c2⟩, ⟨n1, n2, n3, n4⟩, ⟨by omega, by omega, fun _ => rfl⟩, hil⟩
    case pos =>
      have hlt : p1 < T.length := Kn_lt (by omega)
      have hCa := hC.1
      have hCb := hC.2
      have h56 : RL T eo n V lx x IL GS SL s CB ZB (aJ (e + 6) 283 56 [vr_ (some x), vi_ (nI dp), vr_ (some i)] [] s1) (pR_ (Kn T) V T.length lx ((35, 0, 0, os.length) :: (15, dp, 0, 0) :: R, t :: os, p1, dp1, sc, nd1)) (QX T eo n ids iE x TL IL GS SL (XB T eo n true) 0 true s p dp us its gl R os sc nd) := by
        rw [cj_X13_addressed_56]
        refine RL_enter (e + 1) hP1 n4 hK1 ⟨by omega, by omega⟩ (fun h60 => ?_) (fun h60 => ?_)
        · exact pR_er (Mn_pb hM2 (by omega) (by omega) (by omega) (by omega) (by omega)) (g35.trans (by rw [if_pos c, if_pos h60]; rfl))
        have b1 : pR_ (Kn T) V T.length lx ((35, 0, 0, os.length) :: (15, dp, 0, 0) :: R, t :: os, p1, dp1, sc, nd1) = pR_ (Kn T) V T.length lx ([(36, 0, 0, 0)] ++ ((32, 8, p1, os.length) :: (35, 0, 0, os.length) :: (15, dp, 0, 0) :: R), t :: os, p1 + 1, dp1 + 1, sc, nd1) := pR_ok (Mn_pb hM2 (by omega) (by omega) (by omega) (by omega) (by omega)) (g35.trans (by rw [if_pos c, if_neg h60]; rfl))
        rw [b1]
        have hP2 := PSt_dp hP1 (d' := dp1 + 1) (by omega)
        obtain ⟨tk, ln, ct, et⟩ := C_take (e + 3) hP2 n4
        rw [et]
        have hP3 := PSt_at hP2 (p' := p1 + 1) (by omega)
        have ct3 := CT_Kp ct (x_Kp (x := x) (IL := IL) (GS := GS) (SL := SL) 94 (nI (p1 + 1))) (Mx_cl hP2)
        have hk3 : Kp (Mx x IL GS SL) s1 (awI (awI s1 x 95 (nI (dp1 + 1))) x 94 (nI (p1 + 1))) := Kp_tr (x_Kp 95 _) (x_Kp 94 _)
        have hC3 : Cn T (awI (awI s1 x 95 (nI (dp1 + 1))) x 94 (nI (p1 + 1))) (p1 + 1) CB ZB := ⟨by simp only [aC_awI, aC_awR]; omega, by simp only [aZ_awI, aZ_awR]; omega⟩
        have hMi : Mn T 45 ((32, 8, p1, os.length) :: (35, 0, 0, os.length) :: (15, dp, 0, 0) :: R).length (t :: os).length (p1 + 1) (dp1 + 1) sc.length nd1 := ⟨by simp; omega, by simp; omega, by omega, by omega, by omega, by omega⟩
        have fin : ∀ t2 j2 k2 w2 l2 p2 dp2 nd2 s2, XA T eo n ids iE x TL IL GS SL (XB T eo n true) 0 false (awI (awI s1 x 95 (nI (dp1 + 1))) x 94 (nI (p1 + 1))) (p1 + 1) (dp1 + 1) us (its ++ itm (.inner i kc w lC .leaf)) gl (t :: os) nd1 t2 j2 k2 w2 l2 p2 dp2 nd2 s2 → RL T eo n V lx x IL GS SL s CB ZB (aJ (e + 6) 283 97 [vr_ (some x), vi_ (nI dp), vr_ (some i), vr_ (some tk)] [vr_ (some j2)] s2) (pR_ (Kn T) V T.length lx ((32, 8, p1, os.length) :: (35, 0, 0, os.length) :: (15, dp, 0, 0) :: R, t2 :: t :: os, p2, dp2, sc, nd2)) (QX T eo n ids iE x TL IL GS SL (XB T eo n true) 0 true s p dp us its gl R os sc nd) := fun t2 j2 k2 w2 l2 p2 dp2 nd2 s2 q2 => by
          obtain ⟨⟨b0, b1, b3, b4, b5, b6, b7, b8⟩, hG2, hP4, hK4, ⟨cc1, cc2⟩, ⟨n5, n6, n7, n8⟩, ⟨d5, d6, d7⟩, hil2⟩ := q2
          have y1 : aC_ (awI (awI s1 x 95 (nI (dp1 + 1))) x 94 (nI (p1 + 1))) = aC_ s1 := rfl
          have y2 : aZ_ (awI (awI s1 x 95 (nI (dp1 + 1))) x 94 (nI (p1 + 1))) = aZ_ s1 := rfl
          have hMa : Mn T 45 ((35, 0, 0, os.length) :: (15, dp, 0, 0) :: R).length (t2 :: t :: os).length p2 dp2 sc.length nd2 := ⟨by simp; omega, by simp only [List.length_cons]; omega, n8, by omega, by omega, by omega⟩
          have g32 : pR_ (Kn T) V T.length lx ((32, 8, p1, os.length) :: (35, 0, 0, os.length) :: (15, dp, 0, 0) :: R, t2 :: t :: os, p2, dp2, sc, nd2) = pR_ (Kn T) V T.length lx ((35, 0, 0, os.length) :: (15, dp, 0, 0) :: R, st_ 9 p1 (nI (Kn T p1)) nd2 [t, t2] :: os, p2, dp2, sc, nd2 + 1) := by
            refine pR_ok (Mn_pb hMa (by omega) (by omega) (by omega) (by omega) (by omega)) ?_
            show (if os.length = os.length ∧ p1 < T.length then (if 8 = 5 then _ else _) else _) = _
            rw [if_pos ⟨rfl, hlt⟩, if_neg (by omega)]
            exact sf_app (kk := 9) (f := ok_) [t2, t]
          rw [g32]
          refine s_adr97 hv e s p dp us its gl R os sc nd CB ZB tk ln t i kc w lC p1 s1 t2 j2 k2 w2 l2 p2 dp2 nd2 s2 _ a0 a2 a4 (TG_Mx hG hP1 hw (Kp_tr hk3 hK4)) (TG_lt hG) hN1 b0 b5 hG2 hP4 (Kp_tr (Kp_tr hK1 hk3) hK4) ⟨by omega, by omega⟩ ⟨by omega, by simp only [List.length_cons] at n6; omega, by omega, by omega, n8⟩ (by omega) (CT_Kp ct3 hK4 (Mx_cl hP3)) c hw ⟨by omega, by omega⟩ fun i3 kc3 w3 l3 s3 q3 => ?_
          exact ih s p dp us its gl R os sc nd CB ZB _ i3 kc3 w3 l3 p2 dp2 _ s3 (by omega) q3 hS hM hd hC hw hI
        have way1 : (Kn T (p1 + 1) = 18 ∨ Kn T (p1 + 1) = 20) → ∀ Kq : Option Nat → as_ → cx_O as_, (Kq = fun v s16 => aJ (e + 6) 283 97 [vr_ (some x), vi_ (nI dp), vr_ (some i), vr_ (some tk)] [vr_ v] s16) → RL T eo n V lx x IL GS SL s CB ZB ((a_dp 284 (some x) (awI (awI s1 x 95 (nI (dp1 + 1))) x 94 (nI (p1 + 1)))).bind fun m15 => cx_bR cx_th (aE (e + 5) m15 [vr_ (some x), vi_ 1] (awI (awI s1 x 95 (nI (dp1 + 1))) x 94 (nI (p1 + 1)))) Kq) (pR_ (Kn T) V T.length lx ([(36, 0, 0, 0)] ++ ((32, 8, p1, os.length) :: (35, 0, 0, os.length) :: (15, dp, 0, 0) :: R), t :: os, p1 + 1, dp1 + 1, sc, nd1)) (QX T eo n ids iE x TL IL GS SL (XB T eo n true) 0 true s p dp us its gl R os sc nd) := fun hs2 Kq hKq => by
          subst hKq
          rw [f_dp (f := 284) hP3.1.1.2.2 rfl, Option.bind_some]
          refine RL_bind (h2 _ (p1 + 1) (dp1 + 1) us _ gl _ (t :: os) sc nd1 CB ZB hP3 hS hMi (by omega) hC3 hs2 (by simp; omega)) (Kp_tr hK1 hk3) fun σ v s2 q2 => ?_
          obtain ⟨t2, j2, k2, w2, l2, p2, dp2, nd2, rfl, rfl, q2⟩ := q2
          exact fin _ _ _ _ _ _ _ _ _ q2
        rw [C_is (e + 2) hP3 (by omega) (c := 1049) (kk := 18) rfl (by omega) (by decide +kernel)]
        by_cases e1 : Kn T (p1 + 1) = 18
        · rw [if_neg (by simp [e1, zb_])]
          exact way1 (Or.inl e1) _ rfl
        rw [if_pos (by simp [e1, zb_]), C_is (e + 2) hP3 (by omega) (c := 1050) (kk := 20) rfl (by omega) (by decide +kernel)]
        by_cases e2 : Kn T (p1 + 1) = 20
        · rw [if_neg (by simp [e2, zb_])]
          exact way1 (Or.inr e2) _ rfl
        rw [if_pos (by simp [e2, zb_]), f_dp (f := 285) hP3.1.1.2.2 rfl, Option.bind_some]
        have b3 : pR_ (Kn T) V T.length lx ([(36, 0, 0, 0)] ++ ((32, 8, p1, os.length) :: (35, 0, 0, os.length) :: (15, dp, 0, 0) :: R), t :: os, p1 + 1, dp1 + 1, sc, nd1) = pR_ (Kn T) V T.length lx ([(39, 0, 0, 0), (37, 0, 0, (t :: os).length)] ++ ((32, 8, p1, os.length) :: (35, 0, 0, os.length) :: (15, dp, 0, 0) :: R), t :: os, p1 + 1, dp1 + 1, sc, nd1) := by
          refine pR_ok (Mn_pb hMi (by omega) (by omega) (by omega) (by omega) (by omega)) ?_
          show (if Kn T (p1 + 1) = 18 ∨ Kn T (p1 + 1) = 20 then _ else _) = _
          rw [if_neg (fun h => h.elim e1 e2)]
          rfl
        rw [b3]
        refine RL_bind (h1 _ (p1 + 1) (dp1 + 1) us _ gl _ (t :: os) sc nd1 CB ZB hP3 hS ⟨by simp; omega, by simp; omega, by omega, by omega, by omega, by omega⟩ (by omega) hC3 trivial (by simp; omega)) (Kp_tr hK1 hk3) fun σ v s2 q2 => ?_
        obtain ⟨t2, j2, k2, w2, l2, p2, dp2, nd2, rfl, rfl, q2⟩ := q2
        exact fin _ _ _ _ _ _ _ _ _ q2
      by_cases e1 : Kn T p1 = 18
      · rw [if_neg (by simp [e1, zb_])]
        exact h56
      · rw [if_pos (by simp [e1, zb_]), C_is (e + 2) hP1 n4 (c := 1084) (kk := 19) rfl (by omega) (by decide +kernel), if_neg (by simp [c.resolve_left e1, zb_])]
        exact h56
theorem s_adr (hv : HV T eo V L lx) (d : Nat) (h0 : SX T eo n V L lx ids iE x TL IL GS SL (XB T eo n true) 0 d 284 [vr_ (some x), vi_ 0] (fun _ => [(34, 0, 0, 0)]) (fun p => Kn T p = 18 ∨ Kn T p = 20) 42 7 true) (h1 : SX T eo n V L lx ids iE x TL IL GS SL (XB T eo n true) 0 d 285 [vr_ (some x)] (fun z => [(39, 0, 0, 0), (37, 0, 0, z)]) (fun _ => True) 46 7 false) (h2 : SX T eo n V L lx ids iE x TL IL GS SL (XB T eo n true) 0 d 284 [vr_ (some x), vi_ 1] (fun _ => [(36, 0, 0, 0)]) (fun p => Kn T p = 18 ∨ Kn T p = 20) 45 7 false) : SX T eo n V L lx ids iE x TL IL GS SL (XB T eo n true) 0 (d + 1) 283 [vr_ (some x)] (fun _ => [(34, 0, 0, 0)]) (fun _ => True) 42 8 true := by
  intro s p dp us its gl R os sc nd CB ZB hP hS hM hd hC _ hI
  have hTl : T.length < 2600 := hv.1
  obtain ⟨m1, m2, m3, m4, m5, m6⟩ := id hM
  obtain ⟨e, rfl⟩ : ∃ e, d = e + 5 := ⟨d - 5, by omega⟩
  have hw := PSt_Lw hP
  have way : (Kn T p = 18 ∨ Kn T p = 20) → RL T eo n V lx x IL GS SL s CB ZB ((a_dp 284 (some x) s).bind fun m14 => cx_bR cx_th (aE (e + 5) m14 [vr_ (some x), vi_ 0] s) fun v16 s15 => some (.inl (some (vr_ v16)), s15)) (pR_ (Kn T) V T.length lx ([(34, 0, 0, 0)] ++ R, os, p, dp, sc, nd)) (QX T eo n ids iE x TL IL GS SL (XB T eo n true) 0 true s p dp us its gl R os sc nd) := fun hs => by
    rw [f_dp (f := 284) hP.1.1.2.2 rfl, Option.bind_some]
    refine RL_bind (h0 s p dp us its gl R os sc nd CB ZB hP hS hM (by omega) hC hs hI) Kp_rf fun σ v s2 q2 => ?_
    obtain ⟨t2, j2, k2, w2, l2, p2, dp2, nd2, rfl, rfl, q2⟩ := q2
    exact Or.inr ⟨_, _, _, rfl, rfl, _, _, _, _, _, _, _, _, rfl, rfl, q2⟩
  rw [ce_X13_addressed, C_is (e + 2) hP m3 (c := 1049) (kk := 18) rfl (by omega) (by decide +kernel)]
  by_cases c1 : Kn T p = 18
  · rw [if_neg (by simp [c1, zb_])]
    exact way (Or.inl c1)
  rw [if_pos (by simp [c1, zb_]), C_is (e + 2) hP m3 (c := 1050) (kk := 20) rfl (by omega) (by decide +kernel)]
  by_cases c2 : Kn T p = 20
  · rw [if_neg (by simp [c2, zb_])]
    exact way (Or.inr c2)
  have b1 : pR_ (Kn T) V T.length lx ([(34, 0, 0, 0)] ++ R, os, p, dp, sc, nd) = pR_ (Kn T) V T.length lx ([(39, 0, 0, 0), (37, 0, 0, os.length)] ++ ((35, 0, 0, os.length) :: (15, dp, 0, 0) :: R), os, p, dp, sc, nd) := by
    refine pR_ok (Mn_pb hM (by omega) (by omega) (by omega) (by omega) (by omega)) ?_
    show (if Kn T p = 18 ∨ Kn T p = 20 then _ else _) = _
    rw [if_neg (fun h => h.elim c1 c2)]
    rfl
  rw [if_pos (by simp [c2, zb_]), C_dp hP, f_dp (f := 285) hP.1.1.2.2 rfl, Option.bind_some, b1]
  refine RL_bind (h1 s p dp us its gl _ os sc nd CB ZB hP hS ⟨by simp; omega, m2, m3, m4, m5, m6⟩ (by omega) hC trivial hI) Kp_rf fun σ v s2 q2 => ?_
  obtain ⟨t2, j2, k2, w2, l2, p2, dp2, nd2, rfl, rfl, q2⟩ := q2
  exact s_adr36 hv e h1 h2 (T.length - p2 + 1) s p dp us its gl R os sc nd CB ZB t2 j2 k2 w2 l2 p2 dp2 nd2 s2 (Nat.lt_succ_self _) q2 hS hM hd hC hw hI
end px7
