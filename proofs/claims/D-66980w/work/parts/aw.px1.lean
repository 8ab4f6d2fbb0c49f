/-! ===== the two parsers side by side: expression, levels ===== -/
section px1
variable {T : List tk_} {eo : Option Nat} {n : Nat} {V : Nat → Int32} {L : List (List Int32)} {lx : Bool} {ids : List Nat} {iE x TL IL GS SL : Nat}
theorem s_expr (hv : HV T eo V L lx) (d : Nat) (h0 : SX T eo n V L lx ids iE x TL IL GS SL (XB T eo n false) 0 d 281 [vr_ (some x), vi_ 0] (fun _ => [bl_ 0]) (fun _ => True) 22 18 true) (h1 : SX T eo n V L lx ids iE x TL IL GS SL (XB T eo n false) 0 d 280 [vr_ (some x)] (fun _ => [(28, 0, 0, 0)]) (fun _ => True) 20 19 true) : SX T eo n V L lx ids iE x TL IL GS SL (XB T eo n false) 0 (d + 1) 280 [vr_ (some x)] (fun _ => [(28, 0, 0, 0)]) (fun _ => True) 20 19 true := by
  intro s p dp us its gl R os sc nd CB ZB hP hS hM hd hC _ hI
  obtain ⟨e, rfl⟩ : ∃ e, d = e + 5 := ⟨d - 5, by have := hM.2.2.2.1; omega⟩
  have hTl : T.length < 2600 := hv.1
  obtain ⟨m1, m2, m3, m4, m5, m6⟩ := id hM
  have hw := PSt_Lw hP
  have b1 : pR_ (Kn T) V T.length lx ([(28, 0, 0, 0)] ++ R, os, p, dp, sc, nd) = pR_ (Kn T) V T.length lx ([bl_ 0] ++ ((29, 0, 0, os.length) :: R), os, p, dp, sc, nd) := pR_ok (Mn_pb hM (by omega) (by omega) (by omega) (by omega) (by omega)) rfl
  rw [ce_X13_expression, b1, f_dp (f := 281) hP.1.1.2.2 rfl, Option.bind_some]
  refine RL_bind (h0 s p dp us its gl ((29, 0, 0, os.length) :: R) os sc nd CB ZB hP hS ⟨by simp; omega, m2, m3, m4, m5, m6⟩ (by omega) hC trivial hI) Kp_rf fun σ v s1 q => ?_
  obtain ⟨t, i, kc, w, l, p1, dp1, nd1, rfl, rfl, q⟩ := q
  obtain ⟨⟨a0, a1, a2, a3, a4, a5, a6, a7⟩, hG, hP1, hK1, ⟨c1, c2⟩, ⟨n1, n2, n3, n4⟩, ⟨d1, d2, d3⟩, hil⟩ := id q
  obtain rfl := d3 rfl
  have hM2 : Mn T 22 R.length (t :: os).length p1 dp1 sc.length nd1 := ⟨by omega, by simp; omega, n4, m4, m5, by omega⟩
  have hC1 : Cn T s1 p1 CB ZB := ⟨by have := hC.1; omega, by have := hC.2; omega⟩
  rw [C_is (e + 2) hP1 n4 (c := 1081) (kk := 36) rfl (by omega) (by decide +kernel)]
  by_cases c36 : Kn T p1 = 36
  · rw [if_neg (by simp [c36, zb_])]
    refine RL_enter (e + 1) hP1 n4 hK1 hC1 (fun h60 => ?_) (fun h60 => ?_)
    · refine pR_er (Mn_pb hM2 (by omega) (by omega) (by omega) (by omega) (by omega)) ?_
      show (if Kn T p1 = 36 then _ else _) = _
      rw [if_pos c36, if_pos h60]
      rfl
    have hP2 := PSt_dp hP1 (d' := dp1 + 1) (by omega)
    have b2 : pR_ (Kn T) V T.length lx ((29, 0, 0, os.length) :: R, t :: os, p1, dp1, sc, nd1) = pR_ (Kn T) V T.length lx ([(28, 0, 0, 0)] ++ ((29, 1, p1, os.length) :: (15, dp1, 0, 0) :: R), t :: os, p1 + 1, dp1 + 1, sc, nd1) := by
      refine pR_ok (Mn_pb hM2 (by omega) (by omega) (by omega) (by omega) (by omega)) ?_
      show (if Kn T p1 = 36 then _ else _) = _
      rw [if_pos c36, if_neg h60]
      rfl
    rw [b2]
    have hlt : p1 < T.length := Kn_lt (by omega)
    obtain ⟨s3, e3, hP3, hG3, hK3, cc3, cz3, cN3⟩ := C_mk (e + 3) hP2 n4 1090
    rw [e3, nw_1, aN_awI]
    simp only [aC_awI, aZ_awI, aN_awI] at cc3 cz3 cN3 hG3
    have hN1 : aN_ s ≤ aN_ s1 := hK1.1
    have hk13 : Kp (Mx x IL GS SL) s1 s3 := Kp_tr (x_Kp 95 _) hK3
    have hGt : TG s3 (aN_ s) (.inner i kc w l .leaf) := TG_Mx hG hP1 hw hk13
    obtain ⟨s4, e4, hG4, hP4, hK4, cc4, cz4, cN4, hKi4⟩ := C_first (e + 4) hP3 hw (Kp_tr hK1 hk13) (Nat.le_refl _) (TG_lo hG3 hN1) hGt (dj_gt (m := aN_ s1) hG3.2.2 (TG_lt hG))
    rw [e4]
    have hCa := hC.1
    have hCb := hC.2
    refine RL_with (e + 4) h1 rfl hP4 hS (R := (29, 1, p1, os.length) :: (15, dp1, 0, 0) :: R) ⟨by simp; omega, by simp; omega, by omega, by omega, by omega, by omega⟩ (by omega) ⟨by omega, by omega⟩ trivial (by simp; omega) hK4 (Nat.le_refl _) hw hG4 (by omega) fun t2 j2 k2 w2 l2 p2 dp2 nd2 s5 ⟨b0, b1, b2, b3, b4, b5, b6, b7⟩ hG5 hP5 hK5 ⟨cc5, cz5⟩ ⟨n5, n6, n7, n8⟩ ⟨d5, d6, d7⟩ hil5 hN5 => ?_
    obtain rfl := d7 rfl
    have hM5 : Mn T 22 ((15, dp1, 0, 0) :: R).length (t2 :: t :: os).length p2 (dp1 + 1) sc.length nd2 := ⟨by simp; omega, by simp only [List.length_cons] at *; omega, n8, by omega, by omega, by omega⟩
    have g29 : pS_ (Kn T) V T.length lx 29 1 p1 os.length ((15, dp1, 0, 0) :: R, t2 :: t :: os, p2, dp1 + 1, sc, nd2) = (if Kn T p2 = 14 then ok_ ((28, 0, 0, 0) :: (29, 2, p1, os.length) :: (15, dp1, 0, 0) :: R, t2 :: t :: os, p2 + 1, dp1 + 1, sc, nd2) else fl_ p2) := rfl
    refine RL_must (e + 1) hP5 n8 (c := 1082) (kk := 14) rfl (by omega) (by decide +kernel) hK5 ⟨by omega, by omega⟩ (fun h14 => ?_) (fun h14 i6 ln6 _ => ?_)
    · refine pR_er (Mn_pb hM5 (by omega) (by omega) (by omega) (by omega) (by omega)) ?_
      rw [g29, if_neg h14]
      rfl
    have hlt2 : p2 < T.length := Kn_lt (by omega)
    have g30 : pR_ (Kn T) V T.length lx ((29, 1, p1, os.length) :: (15, dp1, 0, 0) :: R, t2 :: t :: os, p2, dp1 + 1, sc, nd2) = pR_ (Kn T) V T.length lx ([(28, 0, 0, 0)] ++ ((29, 2, p1, os.length) :: (15, dp1, 0, 0) :: R), t2 :: t :: os, p2 + 1, dp1 + 1, sc, nd2) := by
      refine pR_ok (Mn_pb hM5 (by omega) (by omega) (by omega) (by omega) (by omega)) ?_
      rw [g29, if_pos h14]
      rfl
    rw [g30]
    have hP6 := PSt_at hP5 (p' := p2 + 1) (by omega)
    have hG6 := TG_Mx hG5 hP5 hw (x_Kp (x := x) (IL := IL) (GS := GS) (SL := SL) 94 (nI (p2 + 1)))
    have y6c : aC_ (awI s5 x 94 (nI (p2 + 1))) = aC_ s5 := rfl
    have y6z : aZ_ (awI s5 x 94 (nI (p2 + 1))) = aZ_ s5 := rfl
    have y6n : aN_ (awI s5 x 94 (nI (p2 + 1))) = aN_ s5 := rfl
    refine RL_with (e + 4) h1 rfl hP6 hS (R := (29, 2, p1, os.length) :: (15, dp1, 0, 0) :: R) ⟨by simp; omega, by simp only [List.length_cons] at *; omega, by omega, by omega, by omega, by omega⟩ (by omega) ⟨by omega, by omega⟩ trivial (by simp; omega) (Kp_tr hK5 (x_Kp 94 _)) (Nat.le_refl _) hw hG6 (by omega) fun t3 j3 k3 w3 l3 p3 dp3 nd3 s7 ⟨f0, f1, f2, f3, f4, f5, f6, f7⟩ hG7 hP7 hK7 ⟨cc7, cz7⟩ ⟨n9, n10, n11, n12⟩ ⟨d8, d9, d10⟩ hil7 hN7 => ?_
    obtain rfl := d10 rfl
    rw [C_less hP7]
    have hP8 := PSt_dp hP7 (d' := dp1) (by omega)
    have hG8 := TG_Mx hG7 hP7 hw (x_Kp (x := x) (IL := IL) (GS := GS) (SL := SL) 95 (nI dp1))
    have hM7 : Mn T 22 ((15, dp1, 0, 0) :: R).length (t3 :: t2 :: t :: os).length p3 (dp1 + 1) sc.length nd3 := ⟨by simp; omega, by simp only [List.length_cons] at *; omega, n12, by omega, by omega, by omega⟩
    have hfm : fm_ p1 [t, t2, t3] = p := fm_eq a4 (by omega) (fun u hu => by simp at hu; rcases hu with rfl | rfl <;> omega)
    have g31 : pR_ (Kn T) V T.length lx ((29, 2, p1, os.length) :: (15, dp1, 0, 0) :: R, t3 :: t2 :: t :: os, p3, dp1 + 1, sc, nd3) = pR_ (Kn T) V T.length lx (R, st_ 12 p1 0 nd3 [t, t2, t3] :: os, p3, dp1, sc, nd3 + 1) := by
      refine (pR_ok (Mn_pb hM7 (by omega) (by omega) (by omega) (by omega) (by omega)) (σ := ((15, dp1, 0, 0) :: R, st_ 12 p1 0 nd3 [t, t2, t3] :: os, p3, dp1 + 1, sc, nd3 + 1)) ?_).trans ?_
      · exact sf_app (kk := 12) (a := 0) (f := ok_) [t3, t2, t]
      · exact pR_ok (Mn_pb (os := os) (k := 22) ⟨by omega, by simp only [List.length_cons] at *; omega, n12, by omega, by omega, by omega⟩ (by omega) (by omega) (by omega) (by omega) (by omega)) rfl
    have hit : itm (.inner (aN_ s1) 1090 (nI (tkp T eo n p1), w.2.1, 0, [], 0, none) (snC (snC (.inner i kc w l .leaf) (.inner j2 k2 w2 l2 .leaf)) (.inner j3 k3 w3 l3 .leaf)) .leaf) = itm (.inner i kc w l .leaf) ++ itm (.inner j2 k2 w2 l2 .leaf) ++ itm (.inner j3 k3 w3 l3 .leaf) := by
      rw [itm_c rfl (by decide)]
      exact (itm_sn _ _).trans (by rw [itm_sn])
    refine Or.inr ⟨_, _, _, g31, rfl, _, _, _, _, _, _, _, _, rfl, rfl, ⟨?_, ?_⟩, hG8, ?_, Kp_tr hK7 (x_Kp 95 _), ⟨?_, ?_⟩, ⟨?_, ?_, ?_, n12⟩, ⟨by omega, by omega, fun _ => rfl⟩, ?_⟩
    · rw [a2]
      exact er_x (by decide) (by decide) (er_app (ts := [t, t2]) (er_app (ts := [t]) (er_one a0) b0) f0) hfm
    · exact ⟨rfl, a2, rfl, hfm, by simp [st_, kd_], fun q => (by simp at q), ⟨_, _, _, _, rfl, by omega, by omega⟩⟩
    · rw [hit, ← List.append_assoc, ← List.append_assoc]
      exact hP8
    · show aC_ s7 + 10 * p ≤ _
      omega
    · show aZ_ s7 + 100 * p ≤ _
      omega
    · omega
    · simp only [List.length_cons] at *; omega
    · omega
    · rw [hit]
      simp
      omega
  · rw [if_pos (by simp [c36, zb_])]
    have b2 : pR_ (Kn T) V T.length lx ((29, 0, 0, os.length) :: R, t :: os, p1, dp1, sc, nd1) = pR_ (Kn T) V T.length lx (R, t :: os, p1, dp1, sc, nd1) := by
      refine pR_ok (Mn_pb hM2 (by omega) (by omega) (by omega) (by omega) (by omega)) ?_
      show (if Kn T p1 = 36 then _ else _) = _
      rw [if_neg c36]
      rfl
    exact Or.inr ⟨_, _, _, b2, rfl, t, i, kc, w, l, p1, dp1, nd1, rfl, rfl, q⟩
end px1
