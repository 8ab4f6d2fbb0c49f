/-! ===== the two parsers side by side: a primary ===== -/
section pxa
variable {T : List tk_} {eo : Option Nat} {n : Nat} {V : Nat → Int32} {L : List (List Int32)} {lx : Bool} {ids : List Nat} {iE x TL IL GS SL : Nat}
theorem cf_X {k j : Nat} {u : Nat × Int32 × Nat × Nat × Bool} {m : tr_} (hk : 1 ≤ k ∧ k ≤ 12) : ∃ kc tx va nm L', ∀ u' : Nat × Int32 × Nat × Nat × Bool, u'.1 = u.1 → u'.2.1 = u.2.1 → cf T eo n (.inner k j u' m .leaf) = .inner 0 kc (xp_ T eo n u' tx va nm) L' .leaf := by
  have h : k = 1 ∨ k = 2 ∨ k = 3 ∨ k = 4 ∨ k = 5 ∨ k = 6 ∨ k = 7 ∨ k = 8 ∨ k = 9 ∨ k = 10 ∨ k = 11 ∨ k = 12 := by omega
  rcases h with rfl | rfl | rfl | rfl | rfl | rfl | rfl | rfl | rfl | rfl | rfl | rfl
  · exact ⟨1099, tkx T u.1, 0, none, .leaf, fun u' h1 h2 => by rw [← h1]; rfl⟩
  · exact ⟨1100, [], u.2.1, none, .leaf, fun u' h1 h2 => by rw [← h2]; rfl⟩
  · exact ⟨1101, tkx T u.1, 0, none, .leaf, fun u' h1 h2 => by rw [← h1]; rfl⟩
  · exact ⟨1102, [], 0, none, cf T eo n m, fun u' h1 h2 => rfl⟩
  · exact ⟨1103, [], 0, none, cf T eo n m, fun u' h1 h2 => rfl⟩
  · exact ⟨1098, [], 0, none, cf T eo n m, fun u' h1 h2 => rfl⟩
  · exact ⟨1096, [], 0, none, cf T eo n m, fun u' h1 h2 => rfl⟩
  · exact ⟨1097, [], 0, none, cf T eo n m, fun u' h1 h2 => rfl⟩
  · by_cases c1 : u.2.1 = 18
    · refine ⟨1096, [], 0, none, cf T eo n m, fun u' h1 h2 => ?_⟩
      show (if u'.2.1 = 18 then _ else if u'.2.1 = 19 then _ else _) = _
      rw [h2, if_pos c1]
      rfl
    · by_cases c2 : u.2.1 = 19
      · refine ⟨1095, [], 0, none, cf T eo n m, fun u' h1 h2 => ?_⟩
        show (if u'.2.1 = 18 then _ else if u'.2.1 = 19 then _ else _) = _
        rw [h2, if_neg c1, if_pos c2]
        rfl
      · refine ⟨1091, tkx T u.1, 0, none, cf T eo n m, fun u' h1 h2 => ?_⟩
        show (if u'.2.1 = 18 then _ else if u'.2.1 = 19 then _ else _) = _
        rw [h2, if_neg c1, if_neg c2, ← h1]
        rfl
  · exact ⟨(if u.2.1 = 21 then 1092 else if u.2.1 = 22 then 1093 else 1094), [], 0, none, cf T eo n m, fun u' h1 h2 => by rw [← h2]; rfl⟩
  · exact ⟨1128, [], 0, some (0, rlT (tlT m), 0, 0, 0, 0), cf T eo n m, fun u' h1 h2 => rfl⟩
  · exact ⟨1090, [], 0, none, cf T eo n m, fun u' h1 h2 => rfl⟩
theorem er_pa {i kc k j y : Nat} {w : cp_w} {l : cr_} {u : Nat × Int32 × Nat × Nat × Bool} {m : tr_} (hk : 1 ≤ k ∧ k ≤ 12) (h : er (.inner i kc w l .leaf) = cf T eo n (.inner k j u m .leaf)) (hx : xk_ kc = true) (hy : y < u.2.2.2.1) : er (.inner i kc (w.1, nI (tkp T eo n y), 1, w.2.2.2) l .leaf) = cf T eo n (pa_r y (.inner k j u m .leaf)) := by
  obtain ⟨kc', tx, va, nm, L', hc⟩ := cf_X (T := T) (eo := eo) (n := n) (j := j) (u := u) (m := m) hk
  rw [hc u rfl rfl] at h
  have e0 : pa_r y (.inner k j u m .leaf) = .inner k j (u.1, u.2.1, u.2.2.1, y, true) m .leaf := by
    show (Std.DTreeMap.Internal.Impl.inner k j (u.1, u.2.1, u.2.2.1, (if y < u.2.2.2.1 then y else u.2.2.2.1), true) m .leaf : tr_) = _
    rw [if_pos hy]
  rw [e0, hc (u.1, u.2.1, u.2.2.1, y, true) rfl rfl]
  have h : Std.DTreeMap.Internal.Impl.inner 0 kc (erp kc w) (er l) .leaf = (.inner 0 kc' (xp_ T eo n u tx va nm) L' .leaf : cr_) := h
  injection h with _ h1 h2 h3 _
  subst h1
  show Std.DTreeMap.Internal.Impl.inner 0 kc (erp kc _) (er l) .leaf = _
  rw [h3]
  have e : erp kc (w.1, nI (tkp T eo n y), 1, w.2.2.2) = xp_ T eo n (u.1, u.2.1, u.2.2.1, y, true) tx va nm := by
    unfold erp xp_ at h2 ⊢
    rw [if_pos hx] at h2 ⊢
    simp only [Prod.mk.injEq] at h2 ⊢
    obtain ⟨g1, g2, g3, g4, g5, g6⟩ := h2
    exact ⟨g1, trivial, rfl, g4, g5, g6⟩
  rw [e]
theorem s_prim (hv : HV T eo V L lx) (d : Nat) (h1 : SX T eo n V L lx ids iE x TL IL GS SL (XB T eo n false) 0 d 280 [vr_ (some x)] (fun _ => [(28, 0, 0, 0)]) (fun _ => True) 20 19 true) (h2 : SX T eo n V L lx ids iE x TL IL GS SL XC 1 d 287 [vr_ (some x)] (fun _ => [(11, 0, 0, 0)]) (fun _ => True) 5 22 true) : SX T eo n V L lx ids iE x TL IL GS SL (XB T eo n true) 0 (d + 1) 286 [vr_ (some x)] (fun _ => [(39, 0, 0, 0)]) (fun _ => True) 50 6 true := by
  intro s p dp us its gl R os sc nd CB ZB hP hS hM hd hC _ hI
  have hTl : T.length < 2600 := hv.1
  obtain ⟨m1, m2, m3, m4, m5, m6⟩ := id hM
  obtain ⟨e, rfl⟩ : ∃ e, d = e + 5 := ⟨d - 5, by omega⟩
  have hw := PSt_Lw hP
  have hCa := hC.1
  have hCb := hC.2
  have g39 : pS_ (Kn T) V T.length lx 39 0 0 0 (R, os, p, dp, sc, nd) = pm_p (Kn T) V (R, os, p, dp, sc, nd) := rfl
  obtain ⟨tk, ln, ct, et⟩ := C_peek (e + 3) hP m3
  have k84 : ∀ {Kc : Int32 → cx_O as_}, ((a_gi 84 (some tk) s).bind Kc) = Kc (tkk T eo p) := by rw [f_gi (f := 84) (c := 14) (by rw [ct.1.2.2]) rfl, ct.2.1.1]; intro Kc; rfl
  -- what stands by itself
  have h28 : ∀ kc k av, (kc = 1099 ∧ tkk T eo p = 0 ∧ k = 1 ∨ kc = 1100 ∧ tkk T eo p = 1 ∧ k = 2 ∨ kc = 1101 ∧ tkk T eo p = 2 ∧ k = 3) → (cf T eo n (lf_ k p av nd) = .inner 0 kc (xp_ T eo n (p, av, 0, p, false) (tkx T p) (tkv T p) none) .leaf .leaf) → p < T.length → pR_ (Kn T) V T.length lx ([(39, 0, 0, 0)] ++ R, os, p, dp, sc, nd) = pR_ (Kn T) V T.length lx (R, lf_ k p av nd :: os, p + 1, dp, sc, nd + 1) → RL T eo n V lx x IL GS SL s CB ZB (aJ (e + 6) 286 28 [vr_ (some x), vr_ (some tk)] [] s) (pR_ (Kn T) V T.length lx ([(39, 0, 0, 0)] ++ R, os, p, dp, sc, nd)) (QX T eo n ids iE x TL IL GS SL (XB T eo n true) 0 true s p dp us its gl R os sc nd) := fun kc k av hkc hcf hlt hpe => by
    rw [cj_X13_primary_28]
    obtain ⟨tk', ln', ct', et'⟩ := C_take (e + 3) hP m3
    rw [et']
    have hP1 := PSt_at hP (p' := p + 1) (by omega)
    have ct1 := CT_Kp ct (x_Kp (x := x) (IL := IL) (GS := GS) (SL := SL) 94 (nI (p + 1))) (Mx_cl hP)
    have ct2 : CT (a_nw 9 (awI s x 94 (nI (p + 1)))).2 tk _ _ _ _ _ _ := CT_Kp ct1 (Kp_new (M := fun _ => False) Kp_rf (9, 0)) (fun _ q => q.elim)
    have kx : ∀ {Kc : Int32 → cx_O as_}, ((a_gi 84 (some tk) (a_nw 9 (awI s x 94 (nI (p + 1)))).2).bind Kc) = Kc (tkk T eo p) := by rw [f_gi (f := 84) (c := 14) (by rw [ct2.1.2.2]) rfl, ct2.2.1.1]; intro Kc; rfl
    have fin := s_pr67 hv e s p dp us its gl R os sc nd CB ZB tk ln kc _ _ k av hP1 (x_Kp 94 _) rfl rfl rfl ct1 hlt (by rcases hkc with ⟨a, b, c⟩ | ⟨a, b, c⟩ | ⟨a, b, c⟩; exact Or.inl ⟨a, by rw [b]; decide, c⟩; exact Or.inr (Or.inl ⟨a, by rw [b]; decide, c⟩); exact Or.inr (Or.inr ⟨a, b, c⟩)) hcf hpe hM hw hI
    rw [kx]
    rcases hkc with ⟨rfl, b, c⟩ | ⟨rfl, b, c⟩ | ⟨rfl, b, c⟩
    · rw [if_pos b]
      exact fin
    · rw [if_neg (by rw [b]; decide), kx, if_pos b]
      exact fin
    · rw [if_neg (by rw [b]; decide), kx, if_neg (by rw [b]; decide)]
      exact fin
  rw [ce_X13_primary, et, k84]
  rcases kd_cs (p := p) hP.2.1 with ⟨q1, q2, q3⟩ | ⟨q1, q2, q3⟩ | ⟨q1, q2, q3⟩ | ⟨q1, q2, q3, q4, q5, q6⟩
  · rw [if_pos q2]
    refine h28 1099 1 (V p) (Or.inl ⟨rfl, q2, rfl⟩) (by rw [q3]; rfl) (Kn_lt (by omega)) ?_
    refine pR_ok (Mn_pb hM (by omega) (by omega) (by omega) (by omega) (by omega)) ?_
    refine g39.trans ?_
    unfold pm_p
    dsimp only
    rw [if_pos q1]
    rfl
  · rw [if_neg (by rw [q2]; decide), k84, if_pos q2]
    refine h28 1100 2 (V p) (Or.inr (Or.inl ⟨rfl, q2, rfl⟩)) (by rw [q3, hv.2.2.2.2.1 p q1]; rfl) (Kn_lt (by omega)) ?_
    refine pR_ok (Mn_pb hM (by omega) (by omega) (by omega) (by omega) (by omega)) ?_
    refine g39.trans ?_
    unfold pm_p
    dsimp only
    rw [if_neg (show ¬ Kn T p = 1 by omega), if_pos q1]
    rfl
  · rw [if_neg (by rw [q2]; decide), k84, if_neg (by rw [q2]; decide), k84, if_pos q2]
    refine h28 1101 3 (V p) (Or.inr (Or.inr ⟨rfl, q2, rfl⟩)) (by rw [q3]; rfl) (Kn_lt (by omega)) ?_
    refine pR_ok (Mn_pb hM (by omega) (by omega) (by omega) (by omega) (by omega)) ?_
    refine g39.trans ?_
    unfold pm_p
    dsimp only
    rw [if_neg (show ¬ Kn T p = 1 by omega), if_neg (show ¬ Kn T p = 2 by omega), if_pos q1]
    rfl
  rw [if_neg q4, k84, if_neg q5, k84, if_neg q6, C_is (e + 2) hP m3 (c := 1052) (kk := 74) rfl (by omega) (by decide +kernel)]
  by_cases c74 : Kn T p = 74
  · rw [if_neg (by simp [c74, zb_])]
    refine s_pr132 hv e s p dp us its gl R os sc nd CB ZB tk ln _ hP ct (Or.inl c74) ?_ hM
    refine pR_ok (Mn_pb hM (by omega) (by omega) (by omega) (by omega) (by omega)) ?_
    refine g39.trans ?_
    unfold pm_p
    dsimp only
    rw [if_neg (show ¬ Kn T p = 1 by omega), if_neg (show ¬ Kn T p = 2 by omega), if_neg (show ¬ Kn T p = 4 by omega), if_pos c74, if_pos c74]
    rfl
  rw [if_pos (by simp [c74, zb_]), C_is (e + 2) hP m3 (c := 1053) (kk := 75) rfl (by omega) (by decide +kernel)]
  by_cases c75 : Kn T p = 75
  · rw [if_neg (by simp [c75, zb_])]
    refine s_pr132 hv e s p dp us its gl R os sc nd CB ZB tk ln _ hP ct (Or.inr c75) ?_ hM
    refine pR_ok (Mn_pb hM (by omega) (by omega) (by omega) (by omega) (by omega)) ?_
    refine g39.trans ?_
    unfold pm_p
    dsimp only
    rw [if_neg (show ¬ Kn T p = 1 by omega), if_neg (show ¬ Kn T p = 2 by omega), if_neg (show ¬ Kn T p = 4 by omega), if_neg c74, if_pos c75, if_neg c74]
    rfl
  rw [if_pos (by simp [c75, zb_]), C_is (e + 2) hP m3 (c := 1054) (kk := 76) rfl (by omega) (by decide +kernel)]
  by_cases c76 : Kn T p = 76
  · have gv : pm_p (Kn T) V (R, os, p, dp, sc, nd) = (if dp = 60 then fl_ p else ok_ ((11, 0, 0, 0) :: (6, 4, p, os.length) :: (15, dp, 0, 0) :: R, os, p + 1, dp + 1, sc, nd)) := by
      unfold pm_p
      dsimp only
      rw [if_neg (show ¬ Kn T p = 1 by omega), if_neg (show ¬ Kn T p = 2 by omega), if_neg (show ¬ Kn T p = 4 by omega), if_neg c74, if_neg c75, if_neg (show ¬ Kn T p = 12 by omega), if_pos c76]
    rw [if_neg (by simp [c76, zb_])]
    have hlt : p < T.length := Kn_lt (by omega)
    refine RL_enter (e + 1) hP m3 Kp_rf hC (fun h60 => ?_) (fun h60 => ?_)
    · exact pR_er (Mn_pb hM (by omega) (by omega) (by omega) (by omega) (by omega)) (g39.trans (by rw [gv, if_pos h60]; rfl))
    have b1 : pR_ (Kn T) V T.length lx ([(39, 0, 0, 0)] ++ R, os, p, dp, sc, nd) = pR_ (Kn T) V T.length lx ([(11, 0, 0, 0)] ++ ((6, 4, p, os.length) :: (15, dp, 0, 0) :: R), os, p + 1, dp + 1, sc, nd) := pR_ok (Mn_pb hM (by omega) (by omega) (by omega) (by omega) (by omega)) (g39.trans (by rw [gv, if_neg h60]; rfl))
    have hP1 := PSt_dp hP (d' := dp + 1) (by omega)
    obtain ⟨s3, e3, hP3, hG3, hK3, cc3, cz3, cN3⟩ := C_mk (e + 3) hP1 m3 1102
    rw [e3, nw_1, aN_awI, b1]
    simp only [aC_awI, aZ_awI, aN_awI] at cc3 cz3 cN3 hG3
    refine RL_with (e + 4) h2 rfl hP3 hS (R := (6, 4, p, os.length) :: (15, dp, 0, 0) :: R) ⟨by simp; omega, by omega, by omega, by omega, by omega, by omega⟩ (by omega) ⟨by omega, by omega⟩ trivial (by omega) (Kp_tr (x_Kp 95 _) hK3) (Nat.le_refl _) hw hG3 (by omega) fun t2 j2 k2 w2 l2 p2 dp2 nd2 s6 ⟨b0, b1⟩ hG6 hP6 hK6 ⟨cc6, cz6⟩ ⟨n5, n6, n7, n8⟩ ⟨d5, d6, d7⟩ hil6 hN6 => ?_
    try simp only [List.length_cons] at n6
    obtain rfl := d7 rfl
    rw [C_less hP6]
    have hP8 := PSt_dp hP6 (d' := dp) (by omega)
    have hG8 := TG_Mx hG6 hP6 hw (x_Kp (x := x) (IL := IL) (GS := GS) (SL := SL) 95 (nI dp))
    have hM6 : Mn T 51 ((15, dp, 0, 0) :: R).length (t2 :: os).length p2 (dp + 1) sc.length nd2 := ⟨by simp; omega, by simp; omega, n8, by omega, by omega, by omega⟩
    have hfm : fm_ p [t2] = p := by
      have b1 : p + 1 ≤ fi_ t2 := b1.1
      show (if fi_ t2 < p then fi_ t2 else p) = p
      rw [if_neg (by omega)]
    have g6 : pR_ (Kn T) V T.length lx ((6, 4, p, os.length) :: (15, dp, 0, 0) :: R, t2 :: os, p2, dp + 1, sc, nd2) = pR_ (Kn T) V T.length lx (R, st_ 4 p 0 nd2 [t2] :: os, p2, dp, sc, nd2 + 1) := by
      refine (pR_ok (Mn_pb hM6 (by omega) (by omega) (by omega) (by omega) (by omega)) (σ := ((15, dp, 0, 0) :: R, st_ 4 p 0 nd2 [t2] :: os, p2, dp + 1, sc, nd2 + 1)) ?_).trans ?_
      · exact sf_app (kk := 4) (a := 0) (f := ok_) [t2]
      · exact pR_ok (Mn_pb (os := os) (k := 51) ⟨by omega, by omega, n8, by omega, by omega, by omega⟩ (by omega) (by omega) (by omega) (by omega) (by omega)) rfl
    have hit : itm (.inner (aN_ s) 1102 (nI (tkp T eo n p), nI (tkp T eo n p), 0, [], 0, none) (.inner j2 k2 w2 l2 .leaf) .leaf) = itm (.inner j2 k2 w2 l2 .leaf) := (itm_c rfl (by decide)).trans rfl
    exact Or.inr ⟨_, _, _, g6, rfl, _, _, _, _, _, _, _, _, rfl, rfl, ⟨er_x (av := 0) (by decide) (by decide) (er_one b0) hfm, rfl, rfl, rfl, hfm, by simp [st_, kd_], fun _ q => by simp [st_, kd_] at q, ⟨_, _, _, _, rfl, by omega, by omega⟩⟩, hG8, by rw [hit]; exact hP8, Kp_tr hK6 (x_Kp 95 _), ⟨by simp only [aC_awI, aC_awR]; omega, by simp only [aZ_awI, aZ_awR]; omega⟩, ⟨by omega, by omega, by omega, n8⟩, ⟨by omega, by omega, fun _ => rfl⟩, by rw [hit]; omega⟩
  rw [if_pos (by simp [c76, zb_]), C_is (e + 2) hP m3 (c := 1055) (kk := 77) rfl (by omega) (by decide +kernel)]
  by_cases c77 : Kn T p = 77
  · have gv : pm_p (Kn T) V (R, os, p, dp, sc, nd) = (if dp = 60 then fl_ p else ok_ ((28, 0, 0, 0) :: (40, 0, p, os.length) :: (15, dp, 0, 0) :: R, os, p + 1, dp + 1, sc, nd)) := by
      unfold pm_p
      dsimp only
      rw [if_neg (show ¬ Kn T p = 1 by omega), if_neg (show ¬ Kn T p = 2 by omega), if_neg (show ¬ Kn T p = 4 by omega), if_neg c74, if_neg c75, if_neg (show ¬ Kn T p = 12 by omega), if_neg c76, if_pos c77]
    rw [if_neg (by simp [c77, zb_])]
    have hlt : p < T.length := Kn_lt (by omega)
    refine RL_enter (e + 1) hP m3 Kp_rf hC (fun h60 => ?_) (fun h60 => ?_)
    · exact pR_er (Mn_pb hM (by omega) (by omega) (by omega) (by omega) (by omega)) (g39.trans (by rw [gv, if_pos h60]; rfl))
    have b1 : pR_ (Kn T) V T.length lx ([(39, 0, 0, 0)] ++ R, os, p, dp, sc, nd) = pR_ (Kn T) V T.length lx ([(28, 0, 0, 0)] ++ ((40, 0, p, os.length) :: (15, dp, 0, 0) :: R), os, p + 1, dp + 1, sc, nd) := pR_ok (Mn_pb hM (by omega) (by omega) (by omega) (by omega) (by omega)) (g39.trans (by rw [gv, if_neg h60]; rfl))
    have hP1 := PSt_dp hP (d' := dp + 1) (by omega)
    obtain ⟨s3, e3, hP3, hG3, hK3, cc3, cz3, cN3⟩ := C_mk (e + 3) hP1 m3 1103
    rw [e3, nw_1, aN_awI, b1]
    simp only [aC_awI, aZ_awI, aN_awI] at cc3 cz3 cN3 hG3
    have ei : ∀ {Kc : Int32 → as_ → cx_O as_}, _ := fun {Kc} => (C_item (e + 4) (a := aN_ s) hP3 (by omega) (Kc := Kc)).1
    have hP4 := (C_item (e + 4) (a := aN_ s) hP3 (by omega) (Kc := fun _ s => some (.inl none, s))).2
    rw [ei]
    have hG4 := TG_Mx hG3 hP3 hw (it_Kp (x := x) (IL := IL) (GS := GS) (SL := SL) (aN_ s))
    have hk4 : Kp (Mx x IL GS SL) s (al_add s3 IL (some (aN_ s))) := Kp_tr (Kp_tr (x_Kp 95 _) hK3) (it_Kp _)
    have y1 : aC_ (al_add s3 IL (some (aN_ s))) = aC_ s3 + 1 := rfl
    have y2 : aZ_ (al_add s3 IL (some (aN_ s))) = aZ_ s3 + 10 := rfl
    have y3 : aN_ (al_add s3 IL (some (aN_ s))) = aN_ s3 := rfl
    refine RL_with (e + 4) h1 rfl hP4 hS (R := (40, 0, p, os.length) :: (15, dp, 0, 0) :: R) ⟨by simp; omega, by omega, by omega, by omega, by omega, by omega⟩ (by omega) ⟨by omega, by omega⟩ trivial (by simp; omega) hk4 (Nat.le_refl _) hw hG4 (by omega) fun t2 j2 k2 w2 l2 p2 dp2 nd2 s6 ⟨b0, b1, b3, b4, b5, _⟩ hG6 hP6 hK6 ⟨cc6, cz6⟩ ⟨n5, n6, n7, n8⟩ ⟨d5, d6, d7⟩ hil6 hN6 => ?_
    try simp only [List.length_cons] at n6
    obtain rfl := d7 rfl
    have hfm : fm_ p [t2] = p := by
      show (if fi_ t2 < p then fi_ t2 else p) = p
      rw [if_neg (by omega)]
    have hits : itm (snC .leaf (.inner j2 k2 w2 l2 .leaf)) = itm (.inner j2 k2 w2 l2 .leaf) := rfl
    exact s_pr281 hv e h1 (T.length - p2 + 1) s p dp us its gl R os sc nd CB ZB [t2] (aN_ s) _ p2 nd2 s6 (Nat.lt_succ_self _) hS hM h60 (by omega) hC hw hI hG6 (by rw [hits, ← List.append_assoc]; exact hP6) hK6 (er_one b0) hfm (by rw [hits]; omega) ⟨by omega, by omega⟩ ⟨by omega, by simp; omega, by omega, n8⟩
  rw [if_pos (by simp [c77, zb_]), C_is (e + 2) hP m3 (c := 1048) (kk := 12) rfl (by omega) (by decide +kernel)]
  by_cases c12 : Kn T p = 12
  · have gv : pm_p (Kn T) V (R, os, p, dp, sc, nd) = (if dp = 60 then fl_ p else ok_ ((28, 0, 0, 0) :: (39, 1, p, dp) :: R, os, p + 1, dp + 1, sc, nd)) := by
      unfold pm_p
      dsimp only
      rw [if_neg (show ¬ Kn T p = 1 by omega), if_neg (show ¬ Kn T p = 2 by omega), if_neg (show ¬ Kn T p = 4 by omega), if_neg c74, if_neg c75, if_pos c12]
    rw [if_neg (by simp [c12, zb_])]
    have hlt : p < T.length := Kn_lt (by omega)
    refine RL_enter (e + 1) hP m3 Kp_rf hC (fun h60 => ?_) (fun h60 => ?_)
    · exact pR_er (Mn_pb hM (by omega) (by omega) (by omega) (by omega) (by omega)) (g39.trans (by rw [gv, if_pos h60]; rfl))
    have b1 : pR_ (Kn T) V T.length lx ([(39, 0, 0, 0)] ++ R, os, p, dp, sc, nd) = pR_ (Kn T) V T.length lx ([(28, 0, 0, 0)] ++ ((39, 1, p, dp) :: R), os, p + 1, dp + 1, sc, nd) := pR_ok (Mn_pb hM (by omega) (by omega) (by omega) (by omega) (by omega)) (g39.trans (by rw [gv, if_neg h60]; rfl))
    have hP1 := PSt_dp hP (d' := dp + 1) (by omega)
    obtain ⟨tk', ln', ct', et'⟩ := C_take (e + 3) hP1 m3
    rw [et', b1]
    have hP2 := PSt_at hP1 (p' := p + 1) (by omega)
    have hk2 : Kp (Mx x IL GS SL) s (awI (awI s x 95 (nI (dp + 1))) x 94 (nI (p + 1))) := Kp_tr (x_Kp 95 _) (x_Kp 94 _)
    have ct2 := CT_Kp ct hk2 (Mx_cl hP)
    rw [f_dp (f := 280) hP2.1.1.2.2 rfl, Option.bind_some]
    refine RL_bind (h1 _ (p + 1) (dp + 1) us its gl ((39, 1, p, dp) :: R) os sc nd CB ZB hP2 hS ⟨by simp; omega, m2, by omega, by omega, by omega, by omega⟩ (by omega) ⟨by simp only [aC_awI, aC_awR]; omega, by simp only [aZ_awI, aZ_awR]; omega⟩ trivial (by omega)) hk2 fun σ v s4 q => ?_
    obtain ⟨t, i, kc, w, l, p1, dp1, nd1, rfl, rfl, q⟩ := q
    obtain ⟨⟨a0, a1, a2, a3, a4, a5, a6, kk, jj, uu, mm, a7, a8, a9⟩, hG, hP4, hK4, ⟨c1, c2⟩, ⟨n1, n2, n3, n4⟩, ⟨d1, d2, d3⟩, hil⟩ := q
    obtain rfl := d3 rfl
    have z1 : aC_ (awI (awI s x 95 (nI (dp + 1))) x 94 (nI (p + 1))) = aC_ s := rfl
    have z2 : aZ_ (awI (awI s x 95 (nI (dp + 1))) x 94 (nI (p + 1))) = aZ_ s := rfl
    have z3 : aN_ (awI (awI s x 95 (nI (dp + 1))) x 94 (nI (p + 1))) = aN_ s := rfl
    rw [z3] at hG
    have hM4 : Mn T 51 R.length (t :: os).length p1 (dp + 1) sc.length nd1 := ⟨by omega, by simp; omega, n4, by omega, by omega, by omega⟩
    have g391 : pS_ (Kn T) V T.length lx 39 1 p dp (R, t :: os, p1, dp + 1, sc, nd1) = (if Kn T p1 = 13 then ok_ (R, pa_r p t :: os, p1 + 1, dp, sc, nd1) else fl_ p1) := rfl
    refine RL_must (e + 1) hP4 n4 (c := 1076) (kk := 13) rfl (by omega) (by decide +kernel) (Kp_tr hk2 hK4) ⟨by omega, by omega⟩ (fun h13 => ?_) (fun h13 i6 ln6 _ => ?_)
    · exact pR_er (Mn_pb hM4 (by omega) (by omega) (by omega) (by omega) (by omega)) (g391.trans (by rw [if_neg h13]; rfl))
    have hlt1 : p1 < T.length := Kn_lt (by omega)
    have b2 : pR_ (Kn T) V T.length lx ((39, 1, p, dp) :: R, t :: os, p1, dp + 1, sc, nd1) = pR_ (Kn T) V T.length lx (R, pa_r p t :: os, p1 + 1, dp, sc, nd1) := pR_ok (Mn_pb hM4 (by omega) (by omega) (by omega) (by omega) (by omega)) (g391.trans (by rw [if_pos h13]; rfl))
    have hP5 := PSt_at hP4 (p' := p1 + 1) (by omega)
    have ct5 := CT_Kp (CT_Kp ct2 hK4 (Mx_cl hP2)) (x_Kp (x := x) (IL := IL) (GS := GS) (SL := SL) 94 (nI (p1 + 1))) (Mx_cl hP4)
    have hG5 := TG_Mx hG hP4 hw (x_Kp (x := x) (IL := IL) (GS := GS) (SL := SL) 94 (nI (p1 + 1)))
    have hNi := NF_isN hG5.1.1
    have hil5 : aN_ s ≤ i := hG5.2.2 i (by simp [idl_])
    rw [f_gi (f := 85) (c := 14) (by rw [ct5.1.2.2]) rfl, Option.bind_some, ct5.2.1.2.1, n_pi (f := 101) hNi (by decide) rfl, Option.bind_some]
    have hG6 := TG_from hG5 (nI (tkp T eo n p))
    have hP6 := PSt_own (f := 101) (y := nI (tkp T eo n p)) hP5 hw hil5 hNi
    rw [n_pi (f := 102) (NF_isN hG6.1.1) (by decide) rfl, Option.bind_some]
    have hG7 := TG_apart hG6 1
    have hP7 := PSt_own (f := 102) (y := 1) hP6 hw hil5 (NF_isN hG6.1.1)
    rw [C_less hP7, b2]
    have hP8 := PSt_dp hP7 (d' := dp) (by omega)
    have hG8 := TG_Mx hG7 hP7 hw (x_Kp (x := x) (IL := IL) (GS := GS) (SL := SL) 95 (nI dp))
    have hk5 : Kp (Mx x IL GS SL) s (awI s4 x 94 (nI (p1 + 1))) := Kp_tr (Kp_tr hk2 hK4) (x_Kp 94 _)
    have hk8 : Kp (Mx x IL GS SL) s (awI (awI (awI (awI s4 x 94 (nI (p1 + 1))) i 101 (nI (tkp T eo n p))) i 102 1) x 95 (nI dp)) := Kp_tr (Kp_I (Kp_I hk5 101 _ (Or.inr hil5)) 102 _ (Or.inr hil5)) (x_Kp 95 _)
    have hit : itm (.inner i kc (w.1, nI (tkp T eo n p), 1, w.2.2.2) l .leaf) = itm (.inner i kc w l .leaf) := by rw [itm_1, itm_1]
    have hfi : fi_ t = uu.2.2.2.1 := by rw [a7]; rfl
    refine Or.inr ⟨_, _, _, rfl, rfl, _, _, _, _, _, _, _, _, rfl, rfl, ⟨?_, a1, rfl, ?_, ?_, ?_, fun _ _ => ?_, ?_⟩, hG8, by rw [hit]; exact hP8, hk8, ⟨by simp only [aC_awI, aC_awR]; omega, by simp only [aZ_awI, aZ_awR]; omega⟩, ⟨by omega, by omega, by omega, by omega⟩, ⟨by omega, by omega, fun _ => rfl⟩, by rw [hit]; omega⟩
    · rw [a7] at a0 ⊢
      exact er_pa (w := w) ⟨a8, a9⟩ a0 a1 (by omega)
    · rw [a7]; rfl
    · rw [a7]
      show (if p < uu.2.2.2.1 then p else uu.2.2.2.1) = p
      rw [if_pos (by omega)]
    · rw [a7] at a5 ⊢
      exact a5
    · rw [a7]; rfl
    · rw [a7]
      exact ⟨_, _, _, _, rfl, a8, a9⟩
  · rw [if_pos (by simp [c12, zb_])]
    refine RL_fail (e + 2) hP m3 Kp_rf hC ?_
    refine pR_er (Mn_pb hM (by omega) (by omega) (by omega) (by omega) (by omega)) ?_
    refine g39.trans ?_
    unfold pm_p
    dsimp only
    rw [if_neg (show ¬ Kn T p = 1 by omega), if_neg (show ¬ Kn T p = 2 by omega), if_neg (show ¬ Kn T p = 4 by omega), if_neg c74, if_neg c75, if_neg (show ¬ Kn T p = 12 by omega), if_neg c76, if_neg c77]
    rfl
end pxa
