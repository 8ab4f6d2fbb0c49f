/-! ===== the two parsers side by side: commands, helpers ===== -/
section pc1
variable {T : List tk_} {eo : Option Nat} {n : Nat} {V : Nat → Int32} {L : List (List Int32)} {lx : Bool} {ids : List Nat} {iE x TL IL GS SL : Nat}
variable {s s' s0 : as_} {i kc lo p dp CB ZB nd : Nat} {v : cp_w} {l : cr_} {us : List (List Int32)} {its : List Nat} {gl : List ((List Int32 ⊕ Int32) × Option Nat)} {R : List gl_} {os : List tr_} {sc : List (Int32 × Nat)} {pe : pe_} {Q : ps_ → Option Nat → as_ → Prop}
theorem er_y {a kc tok : Nat} {fs : Int32} {u : List Int32} {lC : cr_} {ts : List tr_} (hx : xk_ kc = false) (hk : kc ≠ 1121 ∧ kc ≠ 1089) (hl : er lC = cf T eo n (lkT ts)) : er (.inner a kc (nI (tkp T eo n tok), fs, 0, u, 0, none) lC .leaf) = .inner 0 kc (yp_ T eo n tok u none) (cf T eo n (lkT ts)) .leaf := by
  show (Std.DTreeMap.Internal.Impl.inner 0 kc (erp kc _) (er lC) .leaf : cr_) = _
  rw [hl]
  unfold erp yp_
  rw [if_neg (fun q => q.elim hk.1 hk.2), if_neg (by rw [hx]; decide)]
  rfl
theorem pb_I {gs : List gl_} {a b c : Nat} (h1 : gs.length + 10 ≤ 9000) (h2 : sc.length < 70) (h3 : p ≤ T.length) (h4 : nd + (T.length - p) + 10 ≤ 26000) (h5 : dp ≤ 60) (ha : a < 2 ^ 26) (hb : b < 2 ^ 26) (hc : c < 2 ^ 26) : pb_ T.length gs sc p dp nd a b c = true := by
  unfold pb_
  simp only [decide_eq_true_eq]
  omega
theorem SV_len : ∀ {us : List (List Int32)} {sc : List (Int32 × Nat)}, SV L us sc → us.length = sc.length
  | [], [], _ => rfl
  | _ :: _, _ :: _, h => by simp [SV_len h.2]
  | [], _ :: _, h => h.elim
  | _ :: _, [], h => h.elim
/-- DO, THEN or none -/
theorem RL_then (d : Nat) {Kc : as_ → cx_O as_} (hP : PSt T eo n ids iE x TL IL GS SL s p dp us its gl) (hp : p ≤ T.length) (hT : T.length < 20000) (hk : Kp (Mx x IL GS SL) s0 s) (hC : Cn T s p CB ZB) (hM : Mn T 100 R.length os.length p dp sc.length nd) (hQ : ∀ p1 s1, PSt T eo n ids iE x TL IL GS SL s1 p1 dp us its gl → Kp (Mx x IL GS SL) s s1 → aC_ s1 = aC_ s → aZ_ s1 = aZ_ s → aN_ s1 = aN_ s → (p1 = p ∧ dl_ (Kn T p) = true ∨ p1 = p + 1 ∧ p < T.length) → RL T eo n V lx x IL GS SL s0 CB ZB (Kc s1) (pR_ (Kn T) V T.length lx (R, os, p1, dp, sc, nd)) Q) : RL T eo n V lx x IL GS SL s0 CB ZB ((a_dp 296 (some x) s).bind fun m => cx_bV cx_th (aE (d + 5) m [vr_ (some x)] s) Kc) (pR_ (Kn T) V T.length lx ((13, 0, 0, 0) :: R, os, p, dp, sc, nd)) Q := by
  have hm := y_then d hP.1 hP.2.1 hp
  have g13 : pS_ (Kn T) V T.length lx 13 0 0 0 (R, os, p, dp, sc, nd) = (if Kn T p = 48 then ok_ (R, os, p + 1, dp, sc, nd) else if dl_ (Kn T p) = true then ok_ (R, os, p, dp, sc, nd) else fl_ p) := rfl
  rw [f_dp (f := 296) hP.1.1.2.2 rfl, Option.bind_some]
  by_cases c : Kn T p = 48
  · rw [if_pos c] at hm
    rw [hm, cV_k, pR_ok (Mn_pb hM (by omega) (by omega) (by omega) (by omega) (by omega)) (g13.trans (by rw [if_pos c]; rfl))]
    have hlt : p < T.length := Kn_lt (by omega)
    exact hQ (p + 1) _ (PSt_at hP (by omega)) (x_Kp 94 _) rfl rfl rfl (Or.inr ⟨rfl, hlt⟩)
  · rw [if_neg c] at hm
    by_cases c2 : dl_ (Kn T p) = true
    · rw [if_pos c2] at hm
      rw [hm, cV_k, pR_ok (Mn_pb hM (by omega) (by omega) (by omega) (by omega) (by omega)) (g13.trans (by rw [if_neg c, if_pos c2]; rfl))]
      exact hQ p _ hP Kp_rf rfl rfl rfl (Or.inl ⟨rfl, c2⟩)
    · rw [if_neg c2] at hm
      have := WR_Er hm hk (CB := CB) (ZB := ZB) (by have := hC.1; omega) (by have := hC.2; omega)
      obtain ⟨s2, i2, e2, r⟩ := this
      exact Or.inl ⟨p, hp, pR_er (Mn_pb hM (by omega) (by omega) (by omega) (by omega) (by omega)) (g13.trans (by rw [if_neg c, if_neg c2]; rfl)), s2, i2, by rw [e2]; rfl, r⟩
/-- a section is opened -/
theorem RL_opens (d : Nat) {Kc : Option Nat → as_ → cx_O as_} (hP : PSt T eo n ids iE x TL IL GS SL s p dp us its gl) (hp : p ≤ T.length) (hT : T.length < 20000) (hk : Kp (Mx x IL GS SL) s0 s) (hC : Cn T s p CB ZB) (hu : us.length < 1000) (hpe : Kn T p ≠ 10 → pe = some (.error p)) (hQ : Kn T p = 10 → ∀ i ln s1, CT s1 i (tkk T eo p) (nI (tkp T eo n p)) ln (tkv T p) (tkx T p) (tkg T p) → PSt T eo n ids iE x TL IL GS SL s1 (p + 1) dp (us ++ [tkg T p]) its gl → Kp (Mx x IL GS SL) s s1 → aC_ s1 = aC_ s + 1 → aZ_ s1 = aZ_ s + 10 → aN_ s1 = aN_ s → RL T eo n V lx x IL GS SL s0 CB ZB (Kc (some i) s1) pe Q) : RL T eo n V lx x IL GS SL s0 CB ZB ((a_dp 277 (some x) s).bind fun m => cx_bR cx_th (aE (d + 5) m [vr_ (some x)] s) Kc) pe Q := by
  have hm := y_opens d hP.1 hP.2.1 hP.2.2.1 hp (by omega)
  rw [f_dp (f := 277) hP.1.1.2.2 rfl, Option.bind_some]
  by_cases c : Kn T p = 10
  · rw [if_pos c] at hm
    obtain ⟨i, ln, w, e, t, hS1⟩ := hm
    have hlt : p < T.length := Kn_lt (by omega)
    rw [e, cR_k]
    have hk1 : Kp (Mx x IL GS SL) s (al_add (awI s x 94 (nI (p + 1))) SL w) := Kp_L (x_Kp 94 _) _ (Or.inl (Or.inr (Or.inl rfl)))
    have hkS : Kp (fun a => a = SL) (awI s x 94 (nI (p + 1))) (al_add (awI s x 94 (nI (p + 1))) SL w) := Kp_L Kp_rf _ (Or.inl rfl)
    obtain ⟨q1, q2, q3, ⟨⟨i1, i2, i3⟩, i4, i5⟩, ⟨⟨g1, g2, g3⟩, g4⟩, q6, q7, q8⟩ := PSt_at hP (p' := p + 1) (by omega)
    have k3 := q3.1.2.2
    have hM : ∀ a, a = SL → (aK_ (awI s x 94 (nI (p + 1))) a).1 ≠ 26 ∧ (aK_ (awI s x 94 (nI (p + 1))) a).1 ≠ 14 := fun a q => by subst q; rw [k3]; decide
    have qI := hkS.2 IL i2 q8
    have qG := hkS.2 GS g2 (fun q => by rw [q, k3] at g3; omega)
    exact hQ c i ln _ (CT_Kp t hk1 (Mx_cl hP)) ⟨CP_Kp q1 hkS (fun q => by have h1 := q1.1.2.2; have h2 := k3; rw [← q] at h2; omega), TA_Kp q2 hkS hM q7, hS1, ⟨⟨i1, i2, i3⟩, qI.2.2.2.2.1.trans i4, i5⟩, ⟨⟨g1, g2, g3⟩, qG.2.2.2.2.2.trans g4⟩, q6, q7, q8⟩ hk1 rfl rfl rfl
  · rw [if_neg c] at hm
    have := WR_Er hm hk (CB := CB) (ZB := ZB) (by have := hC.1; omega) (by have := hC.2; omega)
    obtain ⟨s2, i2, e2, r⟩ := this
    exact Or.inl ⟨p, hp, hpe c, s2, i2, by rw [e2]; rfl, r⟩
theorem shS_PSt {u : List Int32} (hP : PSt T eo n ids iE x TL IL GS SL s p dp (us ++ [u]) its gl) : PSt T eo n ids iE x TL IL GS SL (shS s SL) p dp us its gl := by
  obtain ⟨q1, q2, q3, ⟨⟨i1, i2, i3⟩, i4, i5⟩, ⟨⟨g1, g2, g3⟩, g4⟩, q6, q7, q8⟩ := hP
  have k3 := q3.1.2.2
  have hkS : Kp (fun a => a = SL) s (shS s SL) := shS_Kp
  have hM : ∀ a, a = SL → (aK_ s a).1 ≠ 26 ∧ (aK_ s a).1 ≠ 14 := fun a q => by subst q; rw [k3]; decide
  have qI := hkS.2 IL i2 q8
  have qG := hkS.2 GS g2 (fun q => by rw [q, k3] at g3; omega)
  exact ⟨CP_Kp q1 hkS (fun q => by have := q1.1.2.2; rw [q, k3] at this; omega), TA_Kp q2 hkS hM q7, shS_SC q3, ⟨⟨i1, i2, i3⟩, qI.2.2.2.2.1.trans i4, i5⟩, ⟨⟨g1, g2, g3⟩, qG.2.2.2.2.2.trans g4⟩, q6, q7, q8⟩
/-- a section is shut -/
theorem RL_closes (hv : HV T eo V L lx) (d : Nat) {Kc : as_ → cx_O as_} {u : List Int32} {t : Int32} {dd g a b c : Nat} {r : List (Int32 × Nat)} {f : ps_ → pe_} {σ : Nat → ps_} (hP : PSt T eo n ids iE x TL IL GS SL s p dp (us ++ [u]) its gl) (hS : VL L u t ∧ SV L us.reverse r) (hp : p ≤ T.length) (hk : Kp (Mx x IL GS SL) s0 s) (hC : Cn T s p CB ZB) (hb : pb_ T.length R ((t, dd) :: r) p dp nd a b c = true) (hg : pS_ (Kn T) V T.length lx g a b c (R, os, p, dp, (t, dd) :: r, nd) = ss_ (Kn T) V f (R, os, p, dp, (t, dd) :: r, nd)) (hf : ∀ p', f (R, os, p', dd, r, nd) = some (.ok (σ p'))) (hQ : ∀ p1 s1, PSt T eo n ids iE x TL IL GS SL s1 p1 dp us its gl → Kp (Mx x IL GS SL) s s1 → aC_ s1 = aC_ s → aZ_ s1 = aZ_ s → aN_ s1 = aN_ s → (p1 = p ∨ p1 = p + 1 ∧ p < T.length) → RL T eo n V lx x IL GS SL s0 CB ZB (Kc s1) (pR_ (Kn T) V T.length lx (σ p1)) Q) : RL T eo n V lx x IL GS SL s0 CB ZB ((a_dp 294 (some x) s).bind fun m => cx_bV cx_th (aE (d + 5) m [vr_ (some x)] s) Kc) (pR_ (Kn T) V T.length lx ((g, a, b, c) :: R, os, p, dp, (t, dd) :: r, nd)) Q := by
  have hm := y_closes d hP.1 hP.2.1 hP.2.2.1 hP.2.2.2.2.2.2.1 hp
  have hs : ss_ (Kn T) V f (R, os, p, dp, (t, dd) :: r, nd) = (if Kn T p = 11 then (if V p < 0 ∨ t = V p then f (R, os, p + 1, dd, r, nd) else if hs_ (V p) r = true then f (R, os, p, dd, r, nd) else fl_ p) else fl_ p) := rfl
  rw [f_dp (f := 294) hP.1.1.2.2 rfl, Option.bind_some]
  have hsl : SL ≠ x := fun q => by have := hP.1.1.2.2; have w := hP.2.2.1.1.2.2; rw [q, this] at w; omega
  have hkS : Kp (Mx x IL GS SL) s (shS s SL) := Kp_wk shS_Kp (fun a _ q => Or.inr (Or.inl q))
  by_cases c11 : Kn T p = 11
  · rw [if_pos c11] at hm hs
    have hlt : p < T.length := Kn_lt (by omega)
    have hVL := hv.2.2.2.1 p (Or.inr c11)
    have e1 := VL_neg hv.2.2.1 hVL
    have e2 : (t = V p) = (u = tkg T p) := VL_eq hv.2.1 hv.2.2.1 hS.1 hVL
    have e3 := hs_ok hv.2.1 hv.2.2.1 hVL hS.2
    have e4 : (V p < 0 ∨ t = V p) = (tkg T p = [] ∨ tkg T p = u) := by
      rw [e1, e2]
      apply propext
      constructor
      · rintro (q | q)
        · exact Or.inl q
        · exact Or.inr q.symm
      · rintro (q | q)
        · exact Or.inl q
        · exact Or.inr q.symm
    by_cases c1 : tkg T p = [] ∨ tkg T p = u
    · rw [if_pos c1] at hm
      rw [if_pos (e4 ▸ c1), hf] at hs
      rw [hm, cV_k, pR_ok hb (hg.trans hs)]
      exact hQ (p + 1) _ (PSt_at (shS_PSt hP) (by have := hv.1; omega)) (Kp_I hkS 94 _ (Or.inl (Or.inl rfl))) rfl rfl rfl (Or.inr ⟨rfl, hlt⟩)
    · rw [if_neg c1] at hm
      rw [if_neg (fun q => c1 (e4 ▸ q)), e3] at hs
      simp only [List.mem_reverse, decide_eq_true_eq] at hs
      by_cases c2 : tkg T p ∈ us
      · rw [if_pos c2] at hm
        rw [if_pos c2, hf] at hs
        rw [hm, cV_k, pR_ok hb (hg.trans hs)]
        exact hQ p _ (shS_PSt hP) hkS rfl rfl rfl (Or.inl rfl)
      · rw [if_neg c2] at hm hs
        obtain ⟨s2, i2, w1, w2, w3, w4, w5, w6⟩ := hm
        exact Or.inl ⟨p, hp, pR_er hb (hg.trans hs), s2, i2, by rw [w1]; rfl, w3, Kp_tr hk (Kp_wk w4 (fun a _ q => Or.inr (Or.inl q))), Nat.le_trans hk.1 w2, by have := hC.1; omega, by have := hC.2; omega⟩
  · rw [if_neg c11] at hm hs
    have := WR_Er hm hk (CB := CB) (ZB := ZB) (by have := hC.1; omega) (by have := hC.2; omega)
    obtain ⟨s2, i2, e2, r⟩ := this
    exact Or.inl ⟨p, hp, pR_er hb (hg.trans hs), s2, i2, by rw [e2]; rfl, r⟩
/-- what was made fresh stays empty -/
theorem nw_fresh (hN : 4000 ≤ aN_ s) {M : Nat → Prop} (hk : Kp M (a_nw 9 s).2 s') (hM : ¬ M (aN_ s)) : (4000 ≤ aN_ s ∧ aN_ s < aN_ s') ∧ aK_ s' (aN_ s) = (9, 0) ∧ (∀ k, aI_ s' (aN_ s) k = 0) ∧ ∀ k, aR_ s' (aN_ s) k = none := by
  have q := hk.2 (aN_ s) (Nat.lt_succ_self _) hM
  have hn : aN_ s + 1 ≤ aN_ s' := hk.1
  refine ⟨⟨hN, by omega⟩, q.2.2.1.trans ?_, fun k => (q.1 k).trans ?_, fun k => (q.2.1 k).trans ?_⟩
  · show aK_ (anew s (9, 0)) (aN_ s) = _
    rw [aK_anew, if_pos ⟨hN, rfl⟩]
  · show aI_ (anew s (9, 0)) (aN_ s) k = 0
    rw [aI_anew, if_pos ⟨hN, rfl⟩]
  · show aR_ (anew s (9, 0)) (aN_ s) k = none
    rw [aR_anew, if_pos rfl]
theorem C_ini (d : Nat) {id kc : Nat} {pl : Int32} (h : (4000 ≤ id ∧ id < aN_ s) ∧ aK_ s id = (9, 0) ∧ (∀ k, aI_ s id k = 0) ∧ ∀ k, aR_ s id k = none) : (∀ K : as_ → cx_O as_, cx_bV cx_th (aE (d + 2) 305 [vr_ (some id), vr_ (some kc), vi_ pl] s) K = K (nn_ s id (some kc) pl)) ∧ TG (nn_ s id (some kc) pl) id (.inner id kc (pl, pl, 0, [], 0, none) .leaf .leaf) ∧ Kp (fun a => a = id) s (nn_ s id (some kc) pl) := by
  obtain ⟨⟨hN, hl⟩, k1, iz, rz⟩ := h
  refine ⟨fun K => ?_, ⟨⟨⟨⟨hN, hl⟩, ?_, ⟨?_, ?_, ?_, ?_⟩, ?_, k1⟩, ⟨?_, ?_, ?_⟩, trivial, trivial⟩, by simp [idl_, nlI], by simp [idl_, nlI]⟩, Kp_I (Kp_I (Kp_R (Kp_R (M := fun a => a = id) Kp_rf 103 _ (Or.inl rfl)) 99 _ (Or.inl rfl)) 100 _ (Or.inl rfl)) 101 _ (Or.inl rfl)⟩
  · rw [y_new d (Or.inl (by rw [k1])), cV_k]
  · unfold nn_
    rw [aR_awI, aR_awI, aR_awR, if_pos ⟨rfl, rfl⟩]
  · unfold nn_
    rw [aI_awI, if_neg (by omega), aI_awI, if_pos ⟨hN, rfl, rfl⟩]
  · unfold nn_
    rw [aI_awI, if_pos ⟨hN, rfl, rfl⟩]
  · unfold nn_
    rw [aI_awI, if_neg (by omega), aI_awI, if_neg (by omega), aI_awR, aI_awR]
    exact iz 102
  · unfold nn_
    rw [aI_awI, if_neg (by omega), aI_awI, if_neg (by omega), aI_awR, aI_awR]
    exact iz 104
  · have er : aR_ (nn_ s id (some kc) pl) id 103 = some 1010 := by
      unfold nn_
      rw [aR_awI, aR_awI, aR_awR, if_neg (by omega), aR_awR, if_pos ⟨rfl, rfl⟩]
    rw [er]
    exact St_c 1010 rfl (by omega) (by show 4000 ≤ aN_ s; omega)
  · unfold nn_
    rw [aR_awI, aR_awI, aR_awR, if_neg (by omega), aR_awR, if_neg (by omega)]
    exact rz 105
  · unfold nn_
    rw [aR_awI, aR_awI, aR_awR, if_neg (by omega), aR_awR, if_neg (by omega)]
    exact rz 106
  · unfold nn_
    rw [aR_awI, aR_awI, aR_awR, if_neg (by omega), aR_awR, if_neg (by omega)]
    exact rz 107
/-- a command within another -/
theorem s_inner (hv : HV T eo V L lx) (d : Nat) (h : SX T eo n V L lx ids iE x TL IL GS SL XC 1 d 287 [vr_ (some x)] (fun _ => [(11, 0, 0, 0)]) (fun _ => True) 5 22 true) : SX T eo n V L lx ids iE x TL IL GS SL XC 1 (d + 1) 298 [vr_ (some x)] (fun _ => [(14, 0, 0, 0)]) (fun _ => True) 60 6 true := by
  intro s p dp us its gl R os sc nd CB ZB hP hS hM hd hC _ hI
  obtain ⟨m1, m2, m3, m4, m5, m6⟩ := id hM
  obtain ⟨e, rfl⟩ : ∃ e, d = e + 5 := ⟨d - 5, by omega⟩
  have hTl : T.length < 2600 := hv.1
  have hCa := hC.1
  have hCb := hC.2
  have g14 : pS_ (Kn T) V T.length lx 14 0 0 0 (R, os, p, dp, sc, nd) = (if dp = 60 then fl_ p else ok_ ((11, 0, 0, 0) :: (15, dp, 0, 0) :: R, os, p, dp + 1, sc, nd)) := rfl
  rw [ce_X13_inner]
  refine RL_enter (e + 1) hP m3 Kp_rf ⟨by omega, by omega⟩ (fun h60 => ?_) (fun h60 => ?_)
  · exact pR_er (Mn_pb hM (by omega) (by omega) (by omega) (by omega) (by omega)) (g14.trans (by rw [if_pos h60]; rfl))
  have b1 : pR_ (Kn T) V T.length lx ([(14, 0, 0, 0)] ++ R, os, p, dp, sc, nd) = pR_ (Kn T) V T.length lx ([(11, 0, 0, 0)] ++ ((15, dp, 0, 0) :: R), os, p, dp + 1, sc, nd) := pR_ok (Mn_pb hM (by omega) (by omega) (by omega) (by omega) (by omega)) (g14.trans (by rw [if_neg h60]; rfl))
  rw [b1]
  have hP1 := PSt_dp hP (d' := dp + 1) (by omega)
  rw [f_dp (f := 287) hP1.1.1.2.2 rfl, Option.bind_some]
  refine RL_bind (h _ p (dp + 1) us its gl ((15, dp, 0, 0) :: R) os sc nd CB ZB hP1 hS ⟨by simp; omega, m2, m3, by omega, by omega, m6⟩ (by omega) ⟨by simp only [aC_awI]; omega, by simp only [aZ_awI]; omega⟩ trivial hI) (x_Kp 95 _) fun σ v s2 q => ?_
  obtain ⟨t, i, kc, w, l, p1, dp1, nd1, rfl, rfl, a1, hG, hP2, hK2, ⟨c1, c2⟩, ⟨n1, n2, n3, n4⟩, ⟨d1, d2, d3⟩, hil⟩ := q
  obtain rfl := d3 rfl
  have hw := PSt_Lw hP
  rw [C_less hP2]
  have b2 : pR_ (Kn T) V T.length lx ((15, dp, 0, 0) :: R, t :: os, p1, dp + 1, sc, nd1) = pR_ (Kn T) V T.length lx (R, t :: os, p1, dp, sc, nd1) := pR_ok (pb_I (by first | omega | (simp only [List.length_cons]; omega)) (by first | omega | (simp only [List.length_cons]; omega)) (by omega) (by omega) (by omega) (by omega) (by omega) (by omega)) rfl
  exact Or.inr ⟨_, _, _, b2, rfl, t, i, kc, w, l, p1, dp, nd1, rfl, rfl, a1, TG_Mx hG hP2 hw (x_Kp (x := x) (IL := IL) (GS := GS) (SL := SL) 95 (nI dp)), PSt_dp hP2 (by omega), Kp_tr (x_Kp 95 _) (Kp_tr hK2 (x_Kp 95 _)), ⟨c1, c2⟩, ⟨n1, n2, n3, n4⟩, ⟨by omega, by omega, fun _ => rfl⟩, hil⟩
end pc1
