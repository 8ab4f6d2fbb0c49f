/-! ===== the two parsers side by side: SWITCHON ===== -/
section pc9
variable {T : List tk_} {eo : Option Nat} {n : Nat} {V : Nat → Int32} {L : List (List Int32)} {lx : Bool} {ids : List Nat} {iE x TL IL GS SL : Nat}
theorem cf_44 {p nd : Nat} {y : Int32} : cf T eo n (lf_ 44 p y nd) = .inner 0 1127 (yp_ T eo n p [] none) .leaf .leaf := rfl
theorem s_cho44 (hv : HV T eo V L lx) (e qs : Nat) (h1 : SX T eo n V L lx ids iE x TL IL GS SL (XB T eo n false) 0 (e + 6) 280 [vr_ (some x)] (fun _ => [(28, 0, 0, 0)]) (fun _ => True) 20 19 true) (h2 : SX T eo n V L lx ids iE x TL IL GS SL XC 1 (e + 5) 287 [vr_ (some x)] (fun _ => [(11, 0, 0, 0)]) (fun _ => True) 5 22 true) : ∀ (m : Nat) s p dp us u its gl R os sc nd CB ZB (ts pre : List tr_) a lC X tok p1 nd1 s1, T.length - p1 < m → dp < 60 → TG s1 (aN_ s) (.inner a 1125 (nI (tkp T eo n p), nI (tkp T eo n p), 0, [], 0, none) (snC lC X) .leaf) → er lC = cf T eo n (lkT ts) → er X = cf T eo n (lkT pre) → p ≤ tok ∧ tok ≤ p1 → (∀ w ∈ ts, p ≤ fi_ w) → (∀ w ∈ pre, p ≤ fi_ w) → PSt T eo n ids iE x TL IL GS SL s1 p1 (dp + 1) (us ++ [u]) (its ++ itm lC ++ itm X) gl → Kp (Mx x IL GS SL) s s1 → (aC_ s1 + 10 * p ≤ aC_ s + 10 * p1 ∧ aZ_ s1 + 100 * p ≤ aZ_ s + 100 * p1) → (nd1 + 6 * p + 2 ≤ nd + 6 * p1 ∧ os.length + ts.length + pre.length ≤ nd1 ∧ p < p1 ∧ p1 ≤ T.length) → (itm lC).length + (itm X).length + p ≤ p1 → VL L u (V qs) → SV L us.reverse sc → Mn T 8 R.length os.length p dp sc.length nd → 20 * (61 - dp) + 20 ≤ e + 8 → Cn T s p (CB - 3) (ZB - 40) → Lw x TL IL GS SL (aN_ s) → its.length ≤ p →
    RL T eo n V lx x IL GS SL s CB ZB (aJ (e + 7) 300 44 [vr_ (some x), vr_ (some a)] [] s1) (pR_ (Kn T) V T.length lx ((23, tok, 0, (ts.reverse ++ os).length) :: (24, 0, p, os.length) :: R, pre.reverse ++ (ts.reverse ++ os), p1, dp + 1, (V qs, dp) :: sc, nd1)) (QX T eo n ids iE x TL IL GS SL XC 1 true s p dp us its gl R os sc nd) := by
  have hTl : T.length < 2600 := hv.1
  intro m
  induction m with
  | zero => intro s p dp us u its gl R os sc nd CB ZB ts pre a lC X tok p1 nd1 s1 hm; exact absurd hm (Nat.not_lt_zero _)
  | succ m ih =>
  intro s p dp us u its gl R os sc nd CB ZB ts pre a lC X tok p1 nd1 s1 hm h60 hG hE hX ⟨hq, hq2⟩ hfi hfp hP1 hK1 ⟨c1, c2⟩ ⟨n1, n2, n3, n4⟩ hil hVL hS hM hd hC hw hI
  obtain ⟨m1, m2, m3, m4, m5, m6⟩ := id hM
  have hCa := hC.1
  have hCb := hC.2
  have hN1 : aN_ s ≤ aN_ s1 := hK1.1
  have hltP := TG_lt hG
  have hz : (ts.reverse ++ os).length < 2 ^ 26 := by simp; omega
  have hSu : SV L (us ++ [u]).reverse ((V qs, dp) :: sc) := by rw [List.reverse_append]; exact ⟨hVL, hS⟩
  have g23 : pS_ (Kn T) V T.length lx 23 tok 0 (ts.reverse ++ os).length ((24, 0, p, os.length) :: R, pre.reverse ++ (ts.reverse ++ os), p1, dp + 1, (V qs, dp) :: sc, nd1) = (if Kn T p1 = 59 then ok_ ((28, 0, 0, 0) :: (6, 43, p1, (pre.reverse ++ (ts.reverse ++ os)).length) :: (16, 17, 0, 0) :: (23, tok, 0, (ts.reverse ++ os).length) :: (24, 0, p, os.length) :: R, pre.reverse ++ (ts.reverse ++ os), p1 + 1, dp + 1, (V qs, dp) :: sc, nd1)
      else if Kn T p1 = 60 then (if Kn T (p1 + 1) = 17 then ok_ ((23, tok, 0, (ts.reverse ++ os).length) :: (24, 0, p, os.length) :: R, lf_ 44 p1 0 nd1 :: (pre.reverse ++ (ts.reverse ++ os)), p1 + 2, dp + 1, (V qs, dp) :: sc, nd1 + 1) else fl_ (p1 + 1))
      else ok_ (gpT [(11, 0, 0, 0), (6, 41, tok, (ts.reverse ++ os).length)] (lb_ (Kn T) V T.length ((24, 0, p, os.length) :: R, pre.reverse ++ (ts.reverse ++ os), p1, dp + 1, (V qs, dp) :: sc, nd1)))) := rfl
  rw [cj_X13_choice_44, C_is (e + 3) hP1 n4 (c := 1063) (kk := 59) rfl (by omega) (by decide +kernel)]
  by_cases c59 : Kn T p1 = 59
  · have hlt : p1 < T.length := Kn_lt (by omega)
    rw [if_neg (by simp [c59, zb_]), C_is (e + 3) hP1 n4 (c := 1063) (kk := 59) rfl (by omega) (by decide +kernel), if_neg (by simp [c59, zb_]), cj_X13_choice_89]
    obtain ⟨s3, e3, hP3, hG3, hK3, cc3, cz3, cN3⟩ := C_mk (e + 4) hP1 n4 1126
    rw [e3, if_neg (by simp [c59, zb_]), nw_1]
    have b1 : pR_ (Kn T) V T.length lx ((23, tok, 0, (ts.reverse ++ os).length) :: (24, 0, p, os.length) :: R, pre.reverse ++ (ts.reverse ++ os), p1, dp + 1, (V qs, dp) :: sc, nd1) = pR_ (Kn T) V T.length lx ([(28, 0, 0, 0)] ++ ((6, 43, p1, (pre.reverse ++ (ts.reverse ++ os)).length) :: (16, 17, 0, 0) :: (23, tok, 0, (ts.reverse ++ os).length) :: (24, 0, p, os.length) :: R), pre.reverse ++ (ts.reverse ++ os), p1 + 1, dp + 1, (V qs, dp) :: sc, nd1) := pR_ok (pb_I (by first | omega | (simp only [List.length_cons]; omega)) (by first | omega | (simp only [List.length_cons]; omega)) (by omega) (by omega) (by omega) (by omega) (by omega) (by omega)) (g23.trans (by rw [if_pos c59]; rfl))
    rw [b1, f_dp (f := 280) hP3.1.1.2.2 rfl, Option.bind_some]
    have hGp3 := TG_Mx hG hP1 hw hK3
    refine RL_bind (h1 _ (p1 + 1) (dp + 1) (us ++ [u]) _ gl ((6, 43, p1, (pre.reverse ++ (ts.reverse ++ os)).length) :: (16, 17, 0, 0) :: (23, tok, 0, (ts.reverse ++ os).length) :: (24, 0, p, os.length) :: R) (pre.reverse ++ (ts.reverse ++ os)) ((V qs, dp) :: sc) nd1 CB ZB hP3 hSu ⟨by simp; omega, by simp; omega, by omega, by omega, by simp; omega, by omega⟩ (by omega) ⟨by omega, by omega⟩ trivial (by simp; omega)) (Kp_tr hK1 hK3) fun σ v s4 q => ?_
    obtain ⟨t2, j2, k2, w2, l2, p2, dp2, nd2, rfl, rfl, ⟨b0, b1, b2, b3, b4, b5, b6, b7⟩, hG4, hP4, hK4, ⟨cc4, cz4⟩, ⟨n6, n7, n8, n9⟩, ⟨d5, d6, d7⟩, hil4⟩ := q
    obtain rfl := d7 rfl
    clear b7
    have hw1 : Lw x TL IL GS SL (aN_ s1) := Lw_le hw hN1
    have hGc4 := TG_Mx hG3 hP3 hw1 hK4
    have hGp4 := TG_Mx hGp3 hP3 hw hK4
    obtain ⟨s5, e5, hG5, hP5, hK5, cc5, cz5, cN5⟩ := C_with (e + 5) hP4 hw1 hGc4 (TG_lo hG4 (by omega)) (dj_lt (m := aN_ s3) (TG_lt hG3) hG4.2.2)
    rw [e5]
    have hGp5 : TG s5 (aN_ s) _ := TG_Kp hGp4 hK5 (TG_cl hGc4) (fun b hb q => by have := hltP b hb; have := hGc4.2.2 b q; omega)
    have hK05 : Kp (Mx x IL GS SL) s s5 := Kp_in (Kp_tr (Kp_tr hK1 hK3) hK4) hK5 (fun b hb => Or.inr (by have := hGc4.2.2 b hb; omega))
    simp only [List.length_append, List.length_reverse] at n7
    have g6 : pR_ (Kn T) V T.length lx ((6, 43, p1, (pre.reverse ++ (ts.reverse ++ os)).length) :: (16, 17, 0, 0) :: (23, tok, 0, (ts.reverse ++ os).length) :: (24, 0, p, os.length) :: R, t2 :: (pre.reverse ++ (ts.reverse ++ os)), p2, dp + 1, (V qs, dp) :: sc, nd2) = pR_ (Kn T) V T.length lx ((16, 17, 0, 0) :: (23, tok, 0, (ts.reverse ++ os).length) :: (24, 0, p, os.length) :: R, st_ 43 p1 0 nd2 [t2] :: (pre.reverse ++ (ts.reverse ++ os)), p2, dp + 1, (V qs, dp) :: sc, nd2 + 1) := pR_ok (pb_I (by simp only [List.length_cons]; omega) (by simp only [List.length_cons]; omega) (by omega) (by omega) (by omega) (by omega) (by omega) (by simp; omega)) (sf_app (kk := 43) (a := 0) (f := ok_) [t2])
    have g16 : pS_ (Kn T) V T.length lx 16 17 0 0 ((23, tok, 0, (ts.reverse ++ os).length) :: (24, 0, p, os.length) :: R, st_ 43 p1 0 nd2 [t2] :: (pre.reverse ++ (ts.reverse ++ os)), p2, dp + 1, (V qs, dp) :: sc, nd2 + 1) = (if Kn T p2 = 17 then ok_ ((23, tok, 0, (ts.reverse ++ os).length) :: (24, 0, p, os.length) :: R, st_ 43 p1 0 nd2 [t2] :: (pre.reverse ++ (ts.reverse ++ os)), p2 + 1, dp + 1, (V qs, dp) :: sc, nd2 + 1) else fl_ p2) := rfl
    rw [g6]
    refine RL_must (e + 2) hP5 n9 (c := 1079) (kk := 17) rfl (by omega) (by decide +kernel) hK05 ⟨by omega, by omega⟩ (fun h => pR_er (pb_I (by first | omega | (simp only [List.length_cons]; omega)) (by first | omega | (simp only [List.length_cons]; omega)) (by omega) (by omega) (by omega) (by omega) (by omega) (by omega)) (g16.trans (by rw [if_neg h]; rfl))) (fun h17 i7 ln7 _ => ?_)
    have hlt2 : p2 < T.length := Kn_lt (by omega)
    have b2 : pR_ (Kn T) V T.length lx ((16, 17, 0, 0) :: (23, tok, 0, (ts.reverse ++ os).length) :: (24, 0, p, os.length) :: R, st_ 43 p1 0 nd2 [t2] :: (pre.reverse ++ (ts.reverse ++ os)), p2, dp + 1, (V qs, dp) :: sc, nd2 + 1) = pR_ (Kn T) V T.length lx ((23, tok, 0, (ts.reverse ++ os).length) :: (24, 0, p, os.length) :: R, (pre ++ [st_ 43 p1 0 nd2 [t2]]).reverse ++ (ts.reverse ++ os), p2 + 1, dp + 1, (V qs, dp) :: sc, nd2 + 1) := by
      refine pR_ok (pb_I (by first | omega | (simp only [List.length_cons]; omega)) (by first | omega | (simp only [List.length_cons]; omega)) (by omega) (by omega) (by omega) (by omega) (by omega) (by omega)) (g16.trans ?_)
      rw [if_pos h17, List.reverse_append]
      rfl
    rw [b2]
    have hP6 := PSt_at hP5 (p' := p2 + 1) (by omega)
    have hGp6 := TG_Mx hGp5 hP5 hw (x_Kp (x := x) (IL := IL) (GS := GS) (SL := SL) 94 (nI (p2 + 1)))
    have hGc6 := TG_Mx hG5 hP5 hw1 (x_Kp (x := x) (IL := IL) (GS := GS) (SL := SL) 94 (nI (p2 + 1)))
    obtain ⟨s7, e7, hG7, hP7, hK7, cc7, cz7, cN7⟩ := C_with (e + 5) hP6 hw hGp6 (TG_lo hGc6 hN1) (dj_lt (m := aN_ s1) hltP hGc6.2.2)
    rw [e7]
    simp only [aC_awI, aZ_awI, aN_awI] at cc7 cz7 cN7
    have hitc : itm (.inner (aN_ s1) 1126 (nI (tkp T eo n p1), nI (tkp T eo n p1), 0, [], 0, none) (snC .leaf (.inner j2 k2 w2 l2 .leaf)) .leaf) = itm (.inner j2 k2 w2 l2 .leaf) := (itm_c rfl (by decide)).trans rfl
    have hits : itm (snC X (.inner (aN_ s1) 1126 (nI (tkp T eo n p1), nI (tkp T eo n p1), 0, [], 0, none) (snC .leaf (.inner j2 k2 w2 l2 .leaf)) .leaf)) = itm X ++ itm (.inner j2 k2 w2 l2 .leaf) := by rw [itm_sn, hitc]
    exact ih s p dp us u its gl R os sc nd CB ZB ts (pre ++ [st_ 43 p1 0 nd2 [t2]]) a lC (snC X (.inner (aN_ s1) 1126 (nI (tkp T eo n p1), nI (tkp T eo n p1), 0, [], 0, none) (snC .leaf (.inner j2 k2 w2 l2 .leaf)) .leaf)) tok (p2 + 1) (nd2 + 1) s7 (by omega) h60 (by rw [← snC_as]; exact hG7) hE (er_app hX (er_k (k := 43) (by decide) (er_one b0) rfl)) ⟨hq, by omega⟩ hfi (fun w hw => by rcases List.mem_append.mp hw with q | q; exact hfp w q; simp at q; subst q; exact fm_ge (by omega) (fun z hz => by simp at hz; subst hz; omega)) (by rw [hits, ← List.append_assoc]; exact hP7) (Kp_in (Kp_tr hK05 (x_Kp 94 _)) hK7 (fun b hb => Or.inr (hGp6.2.2 b hb))) ⟨by omega, by omega⟩ ⟨by omega, by simp; omega, by omega, by omega⟩ (by rw [hits]; simp; omega) hVL hS hM hd hC hw hI
  rw [if_pos (by simp [c59, zb_]), C_is (e + 3) hP1 n4 (c := 1064) (kk := 60) rfl (by omega) (by decide +kernel)]
  by_cases c60 : Kn T p1 = 60
  · have hlt : p1 < T.length := Kn_lt (by omega)
    rw [if_neg (by simp [c60, zb_]), C_is (e + 3) hP1 n4 (c := 1063) (kk := 59) rfl (by omega) (by decide +kernel), if_pos (by simp [c59, zb_]), cj_X13_choice_89]
    obtain ⟨s3, e3, hP3, hG3, hK3, cc3, cz3, cN3⟩ := C_mk (e + 4) hP1 n4 1127
    rw [e3, if_pos (by simp [c59, zb_]), nw_1]
    have hGp3 := TG_Mx hG hP1 hw hK3
    refine RL_must (e + 2) hP3 (by omega) (c := 1079) (kk := 17) rfl (by omega) (by decide +kernel) (Kp_tr hK1 hK3) ⟨by omega, by omega⟩ (fun h => pR_er (pb_I (by first | omega | (simp only [List.length_cons]; omega)) (by first | omega | (simp only [List.length_cons]; omega)) (by omega) (by omega) (by omega) (by omega) (by omega) (by omega)) (g23.trans (by rw [if_neg c59, if_pos c60, if_neg h]; rfl))) (fun h17 i7 ln7 _ => ?_)
    have hlt2 : p1 + 1 < T.length := Kn_lt (by omega)
    have b2 : pR_ (Kn T) V T.length lx ((23, tok, 0, (ts.reverse ++ os).length) :: (24, 0, p, os.length) :: R, pre.reverse ++ (ts.reverse ++ os), p1, dp + 1, (V qs, dp) :: sc, nd1) = pR_ (Kn T) V T.length lx ((23, tok, 0, (ts.reverse ++ os).length) :: (24, 0, p, os.length) :: R, (pre ++ [lf_ 44 p1 0 nd1]).reverse ++ (ts.reverse ++ os), p1 + 1 + 1, dp + 1, (V qs, dp) :: sc, nd1 + 1) := by
      refine pR_ok (pb_I (by first | omega | (simp only [List.length_cons]; omega)) (by first | omega | (simp only [List.length_cons]; omega)) (by omega) (by omega) (by omega) (by omega) (by omega) (by omega)) (g23.trans ?_)
      rw [if_neg c59, if_pos c60, if_pos h17, List.reverse_append]
      rfl
    rw [b2]
    have hP6 := PSt_at hP3 (p' := p1 + 1 + 1) (by omega)
    have hGp6 := TG_Mx hGp3 hP3 hw (x_Kp (x := x) (IL := IL) (GS := GS) (SL := SL) 94 (nI (p1 + 1 + 1)))
    have hGc6 := TG_Mx hG3 hP3 (Lw_le hw hN1) (x_Kp (x := x) (IL := IL) (GS := GS) (SL := SL) 94 (nI (p1 + 1 + 1)))
    obtain ⟨s7, e7, hG7, hP7, hK7, cc7, cz7, cN7⟩ := C_with (e + 5) hP6 hw hGp6 (TG_lo hGc6 hN1) (dj_lt (m := aN_ s1) hltP hGc6.2.2)
    rw [e7]
    simp only [aC_awI, aZ_awI, aN_awI] at cc7 cz7 cN7
    have hits : itm (snC X (.inner (aN_ s1) 1127 (nI (tkp T eo n p1), nI (tkp T eo n p1), 0, [], 0, none) .leaf .leaf)) = itm X := by
      rw [itm_sn, show itm (.inner (aN_ s1) 1127 (nI (tkp T eo n p1), nI (tkp T eo n p1), 0, [], 0, none) .leaf .leaf) = [] from rfl, List.append_nil]
    have hB : er (.inner (aN_ s1) 1127 (nI (tkp T eo n p1), nI (tkp T eo n p1), 0, [], 0, none) .leaf .leaf) = cf T eo n (lf_ 44 p1 0 nd1) := by
      rw [cf_44]
      exact er_yr (by decide) (by decide) rfl
    exact ih s p dp us u its gl R os sc nd CB ZB ts (pre ++ [lf_ 44 p1 0 nd1]) a lC (snC X (.inner (aN_ s1) 1127 (nI (tkp T eo n p1), nI (tkp T eo n p1), 0, [], 0, none) .leaf .leaf)) tok (p1 + 1 + 1) (nd1 + 1) s7 (by omega) h60 (by rw [← snC_as]; exact hG7) hE (er_app hX hB) ⟨hq, by omega⟩ hfi (fun w hw => by rcases List.mem_append.mp hw with q | q; exact hfp w q; simp at q; subst q; show p ≤ p1; omega) (by rw [hits]; exact hP7) (Kp_in (Kp_tr (Kp_tr hK1 hK3) (x_Kp 94 _)) hK7 (fun b hb => Or.inr (hGp6.2.2 b hb))) ⟨by omega, by omega⟩ ⟨by omega, by simp; omega, by omega, by omega⟩ (by rw [hits]; omega) hVL hS hM hd hC hw hI
  have b1 : pR_ (Kn T) V T.length lx ((23, tok, 0, (ts.reverse ++ os).length) :: (24, 0, p, os.length) :: R, pre.reverse ++ (ts.reverse ++ os), p1, dp + 1, (V qs, dp) :: sc, nd1) = pR_ (Kn T) V T.length lx (gpT [(11, 0, 0, 0), (6, 41, tok, (ts.reverse ++ os).length)] (lb_ (Kn T) V T.length ((24, 0, p, os.length) :: R, pre.reverse ++ (ts.reverse ++ os), p1, dp + 1, (V qs, dp) :: sc, nd1))) := pR_ok (pb_I (by simp only [List.length_cons]; omega) (by simp only [List.length_cons]; omega) (by omega) (by omega) (by omega) (by omega) (by omega) (by simp; omega)) (g23.trans (by rw [if_neg c59, if_neg c60]; rfl))
  rw [if_pos (by simp [c60, zb_]), f_dp (f := 293) hP1.1.1.2.2 rfl, Option.bind_some, b1]
  have e0 : aE (e + 6) 293 [vr_ (some x), vr_ (some a)] s1 = aJ (e + 6) 293 0 [vr_ (some x), vr_ (some a)] [] s1 := by rw [ce_X13_item, cj_X13_item_0]
  rw [e0]
  refine s_item hv e h2 (T.length - p1 + 1) T.length s s1 p1 (dp + 1) (us ++ [u]) (its ++ itm lC) gl ((24, 0, p, os.length) :: R) (ts.reverse ++ os) ((V qs, dp) :: sc) nd1 CB ZB pre X a 1125 _ lC (aN_ s) tok p _ _ (Nat.lt_succ_self _) (by omega) hP1 hSu ⟨by simp; omega, by simp; omega, n4, by omega, by simp; omega, by omega⟩ (by omega) ⟨by omega, by omega⟩ hw hG (Nat.le_refl _) hK1.1 hK1 hX ⟨hq, by omega, hq2⟩ hfp (by simp; omega) fun X' t p2 nd2 s2 g1 g2 g3 g4 g5 ⟨g6, g7⟩ ⟨g8, g9, g10, g11⟩ g12 g13 => ?_
  have hE2 := er_app hE g1
  have hits : itm (snC lC X') = itm lC ++ itm X' := itm_sn _ _
  simp only [List.length_append, List.length_reverse] at g9
  have hfi2 : ∀ w ∈ ts ++ [t], p ≤ fi_ w := fun w hw => by rcases List.mem_append.mp hw with q | q; exact hfi w q; simp at q; subst q; exact g2
  rw [C_skip (e + 2) g4 g11 (c := 1083) (kk := 15) rfl (by omega) (by decide +kernel)]
  have er1 : t :: (ts.reverse ++ os) = (ts ++ [t]).reverse ++ os := by rw [List.reverse_append]; rfl
  rw [er1]
  by_cases c15 : Kn T p2 = 15
  · rw [if_pos c15, if_neg (by decide)]
    have hlt : p2 < T.length := Kn_lt (by omega)
    have b2 : pR_ (Kn T) V T.length lx ((24, 0, p, os.length) :: R, (ts ++ [t]).reverse ++ os, p2, dp + 1, (V qs, dp) :: sc, nd2) = pR_ (Kn T) V T.length lx ((22, 0, p, os.length) :: R, (ts ++ [t]).reverse ++ os, p2 + 1, dp + 1, (V qs, dp) :: sc, nd2) := pR_ok (pb_I (by first | omega | (simp only [List.length_cons]; omega)) (by first | omega | (simp only [List.length_cons]; omega)) (by omega) (by omega) (by omega) (by omega) (by omega) (by omega)) (by
      show (if Kn T p2 = 15 then _ else _) = _
      rw [if_pos c15]
      rfl)
    have b3 : pR_ (Kn T) V T.length lx ((22, 0, p, os.length) :: R, (ts ++ [t]).reverse ++ os, p2 + 1, dp + 1, (V qs, dp) :: sc, nd2) = pR_ (Kn T) V T.length lx ((23, p2 + 1, 0, ((ts ++ [t]).reverse ++ os).length) :: (24, 0, p, os.length) :: R, ([] : List tr_).reverse ++ ((ts ++ [t]).reverse ++ os), p2 + 1, dp + 1, (V qs, dp) :: sc, nd2) := pR_ok (pb_I (by first | omega | (simp only [List.length_cons]; omega)) (by first | omega | (simp only [List.length_cons]; omega)) (by omega) (by omega) (by omega) (by omega) (by omega) (by omega)) rfl
    rw [b2, b3]
    exact ih s p dp us u its gl R os sc nd CB ZB (ts ++ [t]) [] a (snC lC X') .leaf (p2 + 1) (p2 + 1) nd2 _ (by omega) h60 (by rw [snC_leaf]; exact TG_Mx g3 g4 hw (x_Kp (x := x) (IL := IL) (GS := GS) (SL := SL) 94 (nI (p2 + 1)))) hE2 rfl ⟨by omega, Nat.le_refl _⟩ hfi2 (fun _ q => by simp at q) (by rw [hits, show itm .leaf = [] from rfl, List.append_nil, ← List.append_assoc]; exact PSt_at g4 (by omega)) (Kp_tr g5 (x_Kp 94 _)) ⟨by simp only [aC_awI]; omega, by simp only [aZ_awI]; omega⟩ ⟨by omega, by simp; omega, by omega, by omega⟩ (by rw [hits, show itm .leaf = [] from rfl]; simp; omega) hVL hS hM hd hC hw hI
  · rw [if_neg c15, if_pos rfl]
    refine RL_closes hv (e + 1) (f := fun σ => sf_ 28 p os.length 0 ok_ σ) (σ := fun p' => (R, st_ 28 p 0 nd2 (ts ++ [t]) :: os, p', dp, sc, nd2 + 1)) g4 ⟨hVL, hS⟩ g11 g5 ⟨by omega, by omega⟩ (pb_I (by first | omega | (simp only [List.length_cons]; omega)) (by first | omega | (simp only [List.length_cons]; omega)) (by omega) (by omega) (by omega) (by omega) (by omega) (by omega)) ?_ (fun p' => ?_) fun p3 s3 hP3 hK3 cc3 cz3 cN3 hp3 => ?_
    · show (if Kn T p2 = 15 then _ else _) = _
      rw [if_neg c15]
    · refine (sf_app (kk := 28) (a := 0) (f := ok_) (ts ++ [t]).reverse).trans ?_
      rw [List.reverse_reverse]
      rfl
    · rw [C_less hP3]
      have hG2 := TG_Mx g3 g4 hw hK3
      have hP4 := PSt_dp hP3 (d' := dp) (by omega)
      have hit : itm (.inner a 1125 (nI (tkp T eo n p), nI (tkp T eo n p), 0, [], 0, none) (snC lC X') .leaf) = itm lC ++ itm X' := (itm_c rfl (by decide)).trans hits
      exact Or.inr ⟨_, _, _, rfl, rfl, _, a, 1125, _, _, _, _, _, rfl, rfl, ⟨er_k (k := 28) (by decide) hE2 rfl, fm_ge (Nat.le_refl _) hfi2, rfl⟩, TG_Mx hG2 hP3 hw (x_Kp (x := x) (IL := IL) (GS := GS) (SL := SL) 95 (nI dp)), by rw [hit, ← List.append_assoc]; exact hP4, Kp_tr (Kp_tr g5 hK3) (x_Kp 95 _), ⟨by simp only [aC_awI]; omega, by simp only [aZ_awI]; omega⟩, ⟨by omega, by omega, by omega, by omega⟩, ⟨by omega, by omega, fun _ => rfl⟩, by rw [hit]; simp; omega⟩
/-- SWITCHON -/
theorem s_cho (hv : HV T eo V L lx) (e : Nat) (h1 : SX T eo n V L lx ids iE x TL IL GS SL (XB T eo n false) 0 (e + 6) 280 [vr_ (some x)] (fun _ => [(28, 0, 0, 0)]) (fun _ => True) 20 19 true) (h2 : SX T eo n V L lx ids iE x TL IL GS SL XC 1 (e + 5) 287 [vr_ (some x)] (fun _ => [(11, 0, 0, 0)]) (fun _ => True) 5 22 true) (s p dp us its gl R os sc nd CB ZB) (hP : PSt T eo n ids iE x TL IL GS SL s p dp us its gl) (hS : SV L us.reverse sc) (hM : Mn T 8 R.length os.length p dp sc.length nd) (hd : 20 * (61 - dp) + 20 ≤ e + 7) (hC : Cn T s p (CB - 3) (ZB - 40)) (hI : its.length ≤ p) (hlt : p < T.length) : RL T eo n V lx x IL GS SL s CB ZB (aE (e + 7) 300 [vr_ (some x)] s) (pR_ (Kn T) V T.length lx ((28, 0, 0, 0) :: (16, 58, 0, 0) :: (17, 0, 0, 0) :: (22, 0, p, os.length) :: R, os, p + 1, dp, sc, nd)) (QX T eo n ids iE x TL IL GS SL XC 1 true s p dp us its gl R os sc nd) := by
  obtain ⟨m1, m2, m3, m4, m5, m6⟩ := id hM
  have hTl : T.length < 2600 := hv.1
  have hw := PSt_Lw hP
  have hCa := hC.1
  have hCb := hC.2
  rw [ce_X13_choice]
  obtain ⟨s3, e3, hP3, hG3, hK3, cc3, cz3, cN3⟩ := C_mk (e + 4) hP m3 1125
  rw [e3, nw_1]
  refine RL_with (e + 5) h1 rfl hP3 hS (R := (16, 58, 0, 0) :: (17, 0, 0, 0) :: (22, 0, p, os.length) :: R) ⟨by simp; omega, m2, by omega, m4, m5, by omega⟩ (by omega) ⟨by omega, by omega⟩ trivial (by omega) hK3 (Nat.le_refl _) hw hG3 (by omega) fun t1 j1 k1 w1 l1 p1 dp1 nd1 s4 ⟨b0, b1, b2, b3, b4, b5, b6, b7⟩ hG4 hP4 hK4 ⟨cc4, cz4⟩ ⟨n1, n2, n3, n4⟩ ⟨d1, d2, d3⟩ hil4 hN4 => ?_
  obtain rfl := d3 rfl
  clear b7
  have g16 : pS_ (Kn T) V T.length lx 16 58 0 0 ((17, 0, 0, 0) :: (22, 0, p, os.length) :: R, t1 :: os, p1, dp1, sc, nd1) = (if Kn T p1 = 58 then ok_ ((17, 0, 0, 0) :: (22, 0, p, os.length) :: R, t1 :: os, p1 + 1, dp1, sc, nd1) else fl_ p1) := rfl
  refine RL_must (e + 2) hP4 n4 (c := 1044) (kk := 58) rfl (by omega) (by decide +kernel) hK4 ⟨by omega, by omega⟩ (fun h => pR_er (pb_I (by first | omega | (simp only [List.length_cons]; omega)) (by first | omega | (simp only [List.length_cons]; omega)) (by omega) (by omega) (by omega) (by omega) (by omega) (by omega)) (g16.trans (by rw [if_neg h]; rfl))) (fun h58 i7 ln7 _ => ?_)
  have hlt2 : p1 < T.length := Kn_lt (by omega)
  have b1 : pR_ (Kn T) V T.length lx ((16, 58, 0, 0) :: (17, 0, 0, 0) :: (22, 0, p, os.length) :: R, t1 :: os, p1, dp1, sc, nd1) = pR_ (Kn T) V T.length lx ((17, 0, 0, 0) :: (22, 0, p, os.length) :: R, t1 :: os, p1 + 1, dp1, sc, nd1) := pR_ok (pb_I (by first | omega | (simp only [List.length_cons]; omega)) (by first | omega | (simp only [List.length_cons]; omega)) (by omega) (by omega) (by omega) (by omega) (by omega) (by omega)) (g16.trans (by rw [if_pos h58]; rfl))
  rw [b1]
  have hP5 := PSt_at hP4 (p' := p1 + 1) (by omega)
  have g17 : pS_ (Kn T) V T.length lx 17 0 0 0 ((22, 0, p, os.length) :: R, t1 :: os, p1 + 1, dp1, sc, nd1) = (if Kn T (p1 + 1) = 10 then (if dp1 = 60 then fl_ (p1 + 1) else ok_ ((22, 0, p, os.length) :: R, t1 :: os, p1 + 1 + 1, dp1 + 1, (V (p1 + 1), dp1) :: sc, nd1)) else fl_ (p1 + 1)) := rfl
  have y1 : aC_ (awI s4 x 94 (nI (p1 + 1))) = aC_ s4 := rfl
  have y2 : aZ_ (awI s4 x 94 (nI (p1 + 1))) = aZ_ s4 := rfl
  refine RL_enter (e + 2) hP5 (by omega) (Kp_tr hK4 (x_Kp 94 _)) ⟨by omega, by omega⟩ (fun h60 => pR_er (pb_I (by first | omega | (simp only [List.length_cons]; omega)) (by first | omega | (simp only [List.length_cons]; omega)) (by omega) (by omega) (by omega) (by omega) (by omega) (by omega)) (g17.trans (by
    by_cases c : Kn T (p1 + 1) = 10
    · rw [if_pos c, if_pos h60]; rfl
    · rw [if_neg c]; rfl))) (fun h60 => ?_)
  have hP6 := PSt_dp hP5 (d' := dp1 + 1) (by omega)
  have hul : us.length = sc.length := by have := SV_len hS; simpa using this
  have hk6 : Kp (Mx x IL GS SL) s4 (awI (awI s4 x 94 (nI (p1 + 1))) x 95 (nI (dp1 + 1))) := Kp_tr (x_Kp 94 _) (x_Kp 95 _)
  have hG6 := TG_Mx hG4 hP4 hw hk6
  have y3 : aC_ (awI (awI s4 x 94 (nI (p1 + 1))) x 95 (nI (dp1 + 1))) = aC_ s4 := rfl
  have y4 : aZ_ (awI (awI s4 x 94 (nI (p1 + 1))) x 95 (nI (dp1 + 1))) = aZ_ s4 := rfl
  refine RL_opens (e + 1) hP6 (by omega) (by omega) (Kp_tr hK4 hk6) ⟨by omega, by omega⟩ (by omega) (fun h => pR_er (pb_I (by first | omega | (simp only [List.length_cons]; omega)) (by first | omega | (simp only [List.length_cons]; omega)) (by omega) (by omega) (by omega) (by omega) (by omega) (by omega)) (g17.trans (by rw [if_neg h]; rfl))) (fun h10 i ln s7 ct hP7 hK7 cc7 cz7 cN7 => ?_)
  have hlt3 : p1 + 1 < T.length := Kn_lt (by omega)
  have b2 : pR_ (Kn T) V T.length lx ((17, 0, 0, 0) :: (22, 0, p, os.length) :: R, t1 :: os, p1 + 1, dp1, sc, nd1) = pR_ (Kn T) V T.length lx ((22, 0, p, os.length) :: R, t1 :: os, p1 + 1 + 1, dp1 + 1, (V (p1 + 1), dp1) :: sc, nd1) := pR_ok (pb_I (by first | omega | (simp only [List.length_cons]; omega)) (by first | omega | (simp only [List.length_cons]; omega)) (by omega) (by omega) (by omega) (by omega) (by omega) (by omega)) (g17.trans (by rw [if_pos h10, if_neg h60]; rfl))
  have b3 : pR_ (Kn T) V T.length lx ((22, 0, p, os.length) :: R, t1 :: os, p1 + 1 + 1, dp1 + 1, (V (p1 + 1), dp1) :: sc, nd1) = pR_ (Kn T) V T.length lx ((23, p1 + 1 + 1, 0, ([t1].reverse ++ os).length) :: (24, 0, p, os.length) :: R, ([] : List tr_).reverse ++ ([t1].reverse ++ os), p1 + 1 + 1, dp1 + 1, (V (p1 + 1), dp1) :: sc, nd1) := pR_ok (pb_I (by first | omega | (simp only [List.length_cons]; omega)) (by first | omega | (simp only [List.length_cons]; omega)) (by omega) (by omega) (by omega) (by omega) (by omega) (by omega)) rfl
  rw [b2, b3]
  exact s_cho44 hv e (p1 + 1) h1 h2 (T.length - (p1 + 1 + 1) + 1) s p dp1 us (tkg T (p1 + 1)) its gl R os sc nd CB ZB [t1] [] (aN_ s) (.inner j1 k1 w1 l1 .leaf) .leaf (p1 + 1 + 1) (p1 + 1 + 1) nd1 s7 (Nat.lt_succ_self _) (by omega) (by rw [snC_leaf]; exact TG_Mx hG6 hP6 hw hK7) (er_one b0) rfl ⟨by omega, Nat.le_refl _⟩ (fun w hw => by simp at hw; subst hw; omega) (fun _ q => by simp at q) (by rw [show itm .leaf = [] from rfl, List.append_nil]; exact hP7) (Kp_tr (Kp_tr hK4 hk6) hK7) ⟨by omega, by omega⟩ ⟨by omega, by simp; omega, by omega, by omega⟩ (by rw [show itm .leaf = [] from rfl]; simp; omega) (hv.2.2.2.1 (p1 + 1) (Or.inl h10)) hS hM (by omega) hC hw hI
end pc9
