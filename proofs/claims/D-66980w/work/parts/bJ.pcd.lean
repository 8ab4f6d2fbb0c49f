/-! ===== the two parsers side by side: variables ===== -/
section pcd
variable {T : List tk_} {eo : Option Nat} {n : Nat} {V : Nat → Int32} {L : List (List Int32)} {lx : Bool} {ids : List Nat} {iE x TL IL GS SL : Nat}
/-- of variables -/
def XL (p : Nat) (t : tr_) (kc : Nat) (_ : cp_w) : Prop := p ≤ fi_ t ∧ kd_ t = 53 ∧ kc = 1089
set_option maxHeartbeats 4000000 in
theorem s_let247 (hv : HV T eo V L lx) (e : Nat) (h1 : SX T eo n V L lx ids iE x TL IL GS SL (XB T eo n false) 0 (e + 5) 280 [vr_ (some x)] (fun _ => [(28, 0, 0, 0)]) (fun _ => True) 20 19 true) : ∀ (m : Nat) s p dp us its gl R os sc nd CB ZB (ns : List (Nat × Nat)) (ts : List tr_) a nl lC p1 nd1 s1, ns.length - ts.length < m → ts.length ≤ ns.length → 0 < ns.length → TG s1 (aN_ s) (.inner a 1089 (nI (tkp T eo n p), nI (tkp T eo n p), 0, [], 0, some (nl, nwL T eo n ns, 0, 0, 0, 0)) lC .leaf) → er lC = cf T eo n (lkT ts) → (∀ w ∈ ts, p ≤ fi_ w) → (∀ w ∈ ts, kd_ w ≠ 57 ∧ kd_ w ≠ 58) → (∀ y ∈ ns, p ≤ y.1) → PSt T eo n ids iE x TL IL GS SL s1 p1 dp us (its ++ itm lC) gl → Kp (Mx x IL GS SL) s s1 → (aC_ s1 + 10 * p ≤ aC_ s + 10 * p1 ∧ aZ_ s1 + 100 * p ≤ aZ_ s + 100 * p1) → (nd1 + 6 * p + 2 ≤ nd + 6 * p1 ∧ os.length + ns.length + ts.length ≤ nd1 ∧ p < p1 ∧ p1 ≤ T.length) → (itm lC).length + p ≤ p1 → SV L us.reverse sc → Mn T 3 R.length os.length p dp sc.length nd → 20 * (61 - dp) + 19 ≤ e + 5 → Cn T s p CB ZB → Lw x TL IL GS SL (aN_ s) → its.length ≤ p →
    RL T eo n V lx x IL GS SL s CB ZB (aJ (e + 7) 270 247 [vr_ (some x), vr_ (some a), vi_ (nI ts.length)] [] s1) (pR_ (Kn T) V T.length lx ((if ts.length = 0 then (9, ns.length, 0, 0) else (10, ns.length - ts.length + 1, 0, 0)) :: (6, 55, p + 1, os.length) :: (8, 0, p, os.length) :: R, ts.reverse ++ ((nml V ns).reverse ++ os), p1, dp, sc, nd1)) (QX T eo n ids iE x TL IL GS SL XL 0 true s p dp us its gl R os sc nd) := by
  have hTl : T.length < 2600 := hv.1
  intro m
  induction m with
  | zero => intro s p dp us its gl R os sc nd CB ZB ns ts a nl lC p1 nd1 s1 hm; exact absurd hm (Nat.not_lt_zero _)
  | succ m ih =>
  intro s p dp us its gl R os sc nd CB ZB ns ts a nl lC p1 nd1 s1 hm hle hne hG hE hfi hkd hns hP1 hK1 ⟨c1, c2⟩ ⟨n1, n2, n3, n4⟩ hil hS hM hd hC hw hI
  obtain ⟨m1, m2, m3, m4, m5, m6⟩ := id hM
  have hCa := hC.1
  have hCb := hC.2
  have hN1 : aN_ s ≤ aN_ s1 := hK1.1
  have hltP := TG_lt hG
  have hnm : (nml V ns).length = ns.length := by simp [nml]
  obtain ⟨g1, g2, ⟨⟨g3, g4, g5⟩, al, hL, hNL⟩, _⟩ := hG.1.1.2.2.2.2
  have hal : al.length = ns.length := by rw [NLs_ln hNL]; simp [nwL]
  -- one more that it begins with
  have way : ∀ s2 p2, PSt T eo n ids iE x TL IL GS SL s2 p2 dp us (its ++ itm lC) gl → Kp (Mx x IL GS SL) s1 s2 → aC_ s2 ≤ aC_ s1 → aZ_ s2 ≤ aZ_ s1 → p1 ≤ p2 → p2 ≤ T.length → ts.length < ns.length → RL T eo n V lx x IL GS SL s CB ZB ((a_dp 304 (some x) s2).bind fun m14 => cx_bR cx_th (aE (e + 6) m14 [vr_ (some x)] s2) fun v16 s15 => (a_dp 306 (some a) s15).bind fun m17 => cx_bR cx_th (aE (e + 6) m17 [vr_ (some a), vr_ v16] s15) fun _ s18 => aJ (e + 7) 270 247 [vr_ (some x), vr_ (some a), vi_ (nI ts.length + 1)] [] s18) (pR_ (Kn T) V T.length lx ((9, ns.length - ts.length, 0, 0) :: (6, 55, p + 1, os.length) :: (8, 0, p, os.length) :: R, ts.reverse ++ ((nml V ns).reverse ++ os), p2, dp, sc, nd1)) (QX T eo n ids iE x TL IL GS SL XL 0 true s p dp us its gl R os sc nd) := fun s2 p2 hP2 hK2 cc2 cz2 hp12 hp2 hlt => by
    have b9 : pR_ (Kn T) V T.length lx ((9, ns.length - ts.length, 0, 0) :: (6, 55, p + 1, os.length) :: (8, 0, p, os.length) :: R, ts.reverse ++ ((nml V ns).reverse ++ os), p2, dp, sc, nd1) = (if Kn T p2 = 46 then pR_ (Kn T) V T.length lx ((28, 0, 0, 0) :: (6, 59, p2, (ts.reverse ++ ((nml V ns).reverse ++ os)).length) :: (10, ns.length - ts.length, 0, 0) :: (6, 55, p + 1, os.length) :: (8, 0, p, os.length) :: R, ts.reverse ++ ((nml V ns).reverse ++ os), p2 + 1, dp, sc, nd1) else pR_ (Kn T) V T.length lx ((28, 0, 0, 0) :: (10, ns.length - ts.length, 0, 0) :: (6, 55, p + 1, os.length) :: (8, 0, p, os.length) :: R, ts.reverse ++ ((nml V ns).reverse ++ os), p2, dp, sc, nd1)) := by
      by_cases c46 : Kn T p2 = 46
      · rw [if_pos c46]
        refine pR_ok (pb_I (by first | omega | (simp only [List.length_cons]; omega)) (by first | omega | (simp only [List.length_cons]; omega)) (by omega) (by omega) (by omega) (by omega) (by omega) (by omega)) ?_
        show (if Kn T p2 = 46 then _ else _) = _
        rw [if_pos c46]
        rfl
      · rw [if_neg c46]
        refine pR_ok (pb_I (by first | omega | (simp only [List.length_cons]; omega)) (by first | omega | (simp only [List.length_cons]; omega)) (by omega) (by omega) (by omega) (by omega) (by omega) (by omega)) ?_
        show (if Kn T p2 = 46 then _ else _) = _
        rw [if_neg c46]
        rfl
    have hK02 : Kp (Mx x IL GS SL) s s2 := Kp_tr hK1 hK2
    have hG2 := TG_Mx hG hP1 hw hK2
    have hN2 : aN_ s1 ≤ aN_ s2 := hK2.1
    rw [b9, f_dp (f := 304) hP2.1.1.2.2 rfl, Option.bind_some]
    refine RL_bind (s_ini hv e h1 s2 p2 dp us _ gl ((10, ns.length - ts.length, 0, 0) :: (6, 55, p + 1, os.length) :: (8, 0, p, os.length) :: R) (ts.reverse ++ ((nml V ns).reverse ++ os)) sc nd1 CB ZB hP2 hS ⟨by simp; omega, by simp [hnm]; omega, by omega, by omega, by omega, by omega⟩ hd ⟨by omega, by omega⟩ (by simp; omega)) hK02 fun σ v s7 q => ?_
    obtain ⟨t2, j2, k2, w2, l2, p3, dp3, nd3, rfl, rfl, ⟨f0, f1, f2⟩, hG7, hP7, hK7, ⟨cc7, cz7⟩, ⟨n6, n7, n8, n9⟩, ⟨d5, d6, d7⟩, hil7⟩ := q
    obtain rfl := d7 rfl
    have hG8 := TG_Mx hG2 hP2 hw hK7
    obtain ⟨s9, e9, hG9, hP9, hK9, cc9, cz9, cN9⟩ := C_with (e + 5) hP7 hw hG8 (TG_lo hG7 (by omega)) (dj_lt (m := aN_ s2) (TG_lt hG2) hG7.2.2)
    rw [e9, show nI ts.length + 1 = nI (ts ++ [t2]).length by rw [List.length_append]; exact (nI_1 _)]
    have hits : itm (snC lC (.inner j2 k2 w2 l2 .leaf)) = itm lC ++ itm (.inner j2 k2 w2 l2 .leaf) := itm_sn _ _
    simp only [List.length_append, List.length_reverse, hnm] at n7
    have eg : pR_ (Kn T) V T.length lx ((10, ns.length - ts.length, 0, 0) :: (6, 55, p + 1, os.length) :: (8, 0, p, os.length) :: R, t2 :: (ts.reverse ++ ((nml V ns).reverse ++ os)), p3, dp3, sc, nd3) = pR_ (Kn T) V T.length lx ((if (ts ++ [t2]).length = 0 then (9, ns.length, 0, 0) else (10, ns.length - (ts ++ [t2]).length + 1, 0, 0)) :: (6, 55, p + 1, os.length) :: (8, 0, p, os.length) :: R, (ts ++ [t2]).reverse ++ ((nml V ns).reverse ++ os), p3, dp3, sc, nd3) := by
      rw [if_neg (by simp), List.reverse_append, show ns.length - (ts ++ [t2]).length + 1 = ns.length - ts.length by simp; omega]
      rfl
    rw [eg]
    exact ih s p dp3 us its gl R os sc nd CB ZB ns (ts ++ [t2]) a nl _ p3 nd3 s9 (by simp; omega) (by simp; omega) hne hG9 (er_app hE f0) (fun w hw => by rcases List.mem_append.mp hw with q | q; exact hfi w q; simp at q; subst q; omega) (fun w hw => by rcases List.mem_append.mp hw with q | q; exact hkd w q; simp at q; subst q; exact f2) hns (by rw [hits, ← List.append_assoc]; exact hP9) (Kp_in (Kp_tr hK02 hK7) hK9 (fun b hb => Or.inr (hG8.2.2 b hb))) ⟨by omega, by omega⟩ ⟨by omega, by simp; omega, by omega, by omega⟩ (by rw [hits]; simp; omega) hS hM hd hC hw hI
  rw [cj_X13_declaration_247, f_gr (f := 108) (c := 5) (by rw [g1]) rfl, Option.bind_some, g2, f_dp (f := 78) (by rw [g5]) rfl, Option.bind_some, l_size, cI_k, hL, List.length_map, hal]
  by_cases hlt : ts.length < ns.length
  · rw [if_pos (nI_lt hlt (by omega))]
    by_cases c0 : ts.length = 0
    · rw [if_neg (by rw [c0]; decide), if_pos c0]
      have := way s1 p1 hP1 Kp_rf (Nat.le_refl _) (Nat.le_refl _) (Nat.le_refl _) n4 hlt
      rw [show ns.length - ts.length = ns.length by omega] at this
      exact this
    · rw [if_pos (by show nI 0 < _; exact nI_lt (by omega) (by omega)), if_neg c0]
      have g10 : pS_ (Kn T) V T.length lx 10 (ns.length - ts.length + 1) 0 0 ((6, 55, p + 1, os.length) :: (8, 0, p, os.length) :: R, ts.reverse ++ ((nml V ns).reverse ++ os), p1, dp, sc, nd1) = (if Kn T p1 = 14 then ok_ ((9, ns.length - ts.length, 0, 0) :: (6, 55, p + 1, os.length) :: (8, 0, p, os.length) :: R, ts.reverse ++ ((nml V ns).reverse ++ os), p1 + 1, dp, sc, nd1) else fl_ p1) := by
        show (if ns.length - ts.length + 1 = 1 then _ else if ns.length - ts.length + 1 = 0 then _ else _) = _
        rw [if_neg (by omega), if_neg (by omega)]
        rfl
      refine RL_must (e + 2) hP1 n4 (c := 1082) (kk := 14) rfl (by omega) (by decide +kernel) hK1 ⟨by omega, by omega⟩ (fun h => pR_er (pb_I (by first | omega | (simp only [List.length_cons]; omega)) (by first | omega | (simp only [List.length_cons]; omega)) (by omega) (by omega) (by omega) (by omega) (by omega) (by omega)) (g10.trans (by rw [if_neg h]; rfl))) (fun h14 i6 ln6 _ => ?_)
      have hlt1 : p1 < T.length := Kn_lt (by omega)
      have b1 : pR_ (Kn T) V T.length lx ((10, ns.length - ts.length + 1, 0, 0) :: (6, 55, p + 1, os.length) :: (8, 0, p, os.length) :: R, ts.reverse ++ ((nml V ns).reverse ++ os), p1, dp, sc, nd1) = pR_ (Kn T) V T.length lx ((9, ns.length - ts.length, 0, 0) :: (6, 55, p + 1, os.length) :: (8, 0, p, os.length) :: R, ts.reverse ++ ((nml V ns).reverse ++ os), p1 + 1, dp, sc, nd1) := pR_ok (pb_I (by first | omega | (simp only [List.length_cons]; omega)) (by first | omega | (simp only [List.length_cons]; omega)) (by omega) (by omega) (by omega) (by omega) (by omega) (by omega)) (g10.trans (by rw [if_pos h14]; rfl))
      rw [b1]
      exact way _ (p1 + 1) (PSt_at hP1 (by omega)) (x_Kp 94 _) (Nat.le_refl _) (Nat.le_refl _) (by omega) (by omega) hlt
  · rw [if_neg (by rw [nlt_ (by omega) (by omega)]; exact hlt), if_neg (by omega)]
    have b1 : pR_ (Kn T) V T.length lx ((10, ns.length - ts.length + 1, 0, 0) :: (6, 55, p + 1, os.length) :: (8, 0, p, os.length) :: R, ts.reverse ++ ((nml V ns).reverse ++ os), p1, dp, sc, nd1) = pR_ (Kn T) V T.length lx ((6, 55, p + 1, os.length) :: (8, 0, p, os.length) :: R, (ts.reverse ++ (nml V ns).reverse) ++ os, p1, dp, sc, nd1) := pR_ok (pb_I (by first | omega | (simp only [List.length_cons]; omega)) (by first | omega | (simp only [List.length_cons]; omega)) (by omega) (by omega) (by omega) (by omega) (by omega) (by omega)) (by
      show (if ns.length - ts.length + 1 = 1 then _ else _) = _
      rw [if_pos (by omega), List.append_assoc]
      rfl)
    have b2 : pR_ (Kn T) V T.length lx ((6, 55, p + 1, os.length) :: (8, 0, p, os.length) :: R, (ts.reverse ++ (nml V ns).reverse) ++ os, p1, dp, sc, nd1) = pR_ (Kn T) V T.length lx ((8, 0, p, os.length) :: R, st_ 55 (p + 1) 0 nd1 (nml V ns ++ ts) :: os, p1, dp, sc, nd1 + 1) := by
      refine pR_ok (pb_I (by first | omega | (simp only [List.length_cons]; omega)) (by first | omega | (simp only [List.length_cons]; omega)) (by omega) (by omega) (by omega) (by omega) (by omega) (by omega)) ((sf_app (kk := 55) (a := 0) (f := ok_) (ts.reverse ++ (nml V ns).reverse)).trans ?_)
      rw [List.reverse_append, List.reverse_reverse, List.reverse_reverse]
      rfl
    have b3 : pR_ (Kn T) V T.length lx ((8, 0, p, os.length) :: R, st_ 55 (p + 1) 0 nd1 (nml V ns ++ ts) :: os, p1, dp, sc, nd1 + 1) = pR_ (Kn T) V T.length lx (R, st_ 53 p 0 (nd1 + 1) [st_ 55 (p + 1) 0 nd1 (nml V ns ++ ts)] :: os, p1, dp, sc, nd1 + 1 + 1) := by
      have g8 : pS_ (Kn T) V T.length lx 8 0 p os.length (R, st_ 55 (p + 1) 0 nd1 (nml V ns ++ ts) :: os, p1, dp, sc, nd1 + 1) = (if kd_ (st_ 55 (p + 1) 0 nd1 (nml V ns ++ ts)) = 54 ∧ Kn T p1 = 44 then ok_ ((7, 1, 0, 0) :: (8, 0, p, os.length) :: R, st_ 55 (p + 1) 0 nd1 (nml V ns ++ ts) :: os, p1 + 1, dp, sc, nd1 + 1) else sf_ 53 p os.length 0 ok_ (R, st_ 55 (p + 1) 0 nd1 (nml V ns ++ ts) :: os, p1, dp, sc, nd1 + 1)) := rfl
      refine pR_ok (pb_I (by first | omega | (simp only [List.length_cons]; omega)) (by first | omega | (simp only [List.length_cons]; omega)) (by omega) (by omega) (by omega) (by omega) (by omega) (by omega)) (g8.trans ?_)
      rw [if_neg (fun q => absurd q.1 (by show ¬ (55 : Nat) = 54; decide))]
      exact sf_app (kk := 53) (a := 0) (f := ok_) [st_ 55 (p + 1) 0 nd1 (nml V ns ++ ts)]
    rw [b1, b2, b3]
    have hit : itm (.inner a 1089 (nI (tkp T eo n p), nI (tkp T eo n p), 0, [], 0, some (nl, nwL T eo n ns, 0, 0, 0, 0)) lC .leaf) = itm lC := itm_c rfl (by decide)
    refine Or.inr ⟨_, _, _, rfl, rfl, _, a, 1089, _, _, _, _, _, rfl, rfl, ⟨?_, fm_ge (Nat.le_refl _) (fun u hu => ?_), rfl, rfl⟩, hG, by rw [hit]; exact hP1, hK1, ⟨by omega, by omega⟩, ⟨by omega, by omega, by omega, n4⟩, ⟨by omega, by omega, fun _ => rfl⟩, by rw [hit]; exact hil⟩
    · rw [cf_53, nm_let hkd, cf_let, ← hE]
      rfl
    · simp only [List.mem_singleton] at hu
      subst hu
      refine fm_ge (by omega) (fun w hw => ?_)
      rcases List.mem_append.mp hw with q | q
      · obtain ⟨y, hy, rfl⟩ := List.mem_map.mp q
        exact hns y hy
      · exact hfi w q
set_option maxHeartbeats 4000000 in
/-- the names of variables, behind the first -/
theorem s_let210 (hv : HV T eo V L lx) (e : Nat) (h1 : SX T eo n V L lx ids iE x TL IL GS SL (XB T eo n false) 0 (e + 5) 280 [vr_ (some x)] (fun _ => [(28, 0, 0, 0)]) (fun _ => True) 20 19 true) : ∀ (m : Nat) s p dp us its gl R os sc nd CB ZB (ns : List (Nat × Nat)) a nl p1 nd1 s1 fu pe, T.length - p1 < m → T.length - p1 < fu → 0 < ns.length → TG s1 (aN_ s) (.inner a 1089 (nI (tkp T eo n p), nI (tkp T eo n p), 0, [], 0, some (nl, nwL T eo n ns, 0, 0, 0, 0)) .leaf .leaf) → (∀ y ∈ ns, p ≤ y.1) → PSt T eo n ids iE x TL IL GS SL s1 p1 dp us its gl → Kp (Mx x IL GS SL) s s1 → (aC_ s1 + 10 * p ≤ aC_ s + 10 * p1 ∧ aZ_ s1 + 100 * p ≤ aZ_ s + 100 * p1) → (nd1 + 6 * p + 2 ≤ nd + 6 * p1 ∧ os.length + ns.length ≤ nd1 ∧ p < p1 ∧ p1 ≤ T.length) → SV L us.reverse sc → Mn T 3 R.length os.length p dp sc.length nd → 20 * (61 - dp) + 19 ≤ e + 5 → Cn T s p CB ZB → Lw x TL IL GS SL (aN_ s) → its.length ≤ p →
    (∀ σ, vn_ (Kn T) V (p + 1) os.length fu ns.length ((8, 0, p, os.length) :: R, (nml V ns).reverse ++ os, p1, dp, sc, nd1) = some (.ok σ) → pe = pR_ (Kn T) V T.length lx σ) → (∀ q, vn_ (Kn T) V (p + 1) os.length fu ns.length ((8, 0, p, os.length) :: R, (nml V ns).reverse ++ os, p1, dp, sc, nd1) = some (.error q) → pe = some (.error q)) →
    RL T eo n V lx x IL GS SL s CB ZB (aJ (e + 7) 270 210 [vr_ (some x), vr_ (some a)] [] s1) pe (QX T eo n ids iE x TL IL GS SL XL 0 true s p dp us its gl R os sc nd) := by
  have hTl : T.length < 2600 := hv.1
  intro m
  induction m with
  | zero => intro s p dp us its gl R os sc nd CB ZB ns a nl p1 nd1 s1 fu pe hm; exact absurd hm (Nat.not_lt_zero _)
  | succ m ih =>
  intro s p dp us its gl R os sc nd CB ZB ns a nl p1 nd1 s1 fu pe hm hfu hne hG hns hP1 hK1 ⟨c1, c2⟩ ⟨n1, n2, n3, n4⟩ hS hM hd hC hw hI hok her
  obtain ⟨m1, m2, m3, m4, m5, m6⟩ := id hM
  have hCa := hC.1
  have hCb := hC.2
  have hN1 : aN_ s ≤ aN_ s1 := hK1.1
  obtain ⟨g1, g2, _⟩ := hG.1.1.2.2.2.2
  obtain ⟨fu, rfl⟩ : ∃ k, fu = k + 1 := ⟨fu - 1, by omega⟩
  have gv : vn_ (Kn T) V (p + 1) os.length (fu + 1) ns.length ((8, 0, p, os.length) :: R, (nml V ns).reverse ++ os, p1, dp, sc, nd1) = (if Kn T p1 = 14 then (if Kn T (p1 + 1) = 1 then vn_ (Kn T) V (p + 1) os.length fu (ns.length + 1) ((8, 0, p, os.length) :: R, lf_ 58 (p1 + 1) (V (p1 + 1)) nd1 :: ((nml V ns).reverse ++ os), p1 + 2, dp, sc, nd1 + 1) else some (.error (p1 + 1))) else if Kn T p1 = 25 then some (.ok ((9, ns.length, 0, 0) :: (6, 55, p + 1, os.length) :: (8, 0, p, os.length) :: R, (nml V ns).reverse ++ os, p1 + 1, dp, sc, nd1)) else some (.error p1)) := rfl
  rw [gv] at hok her
  rw [cj_X13_declaration_210, C_skip (e + 2) hP1 n4 (c := 1082) (kk := 14) rfl (by omega) (by decide +kernel)]
  by_cases c14 : Kn T p1 = 14
  · have hlt : p1 < T.length := Kn_lt (by omega)
    rw [if_pos c14] at hok her
    rw [if_pos c14, if_neg (by decide)]
    have hP2 := PSt_at hP1 (p' := p1 + 1) (by omega)
    have hG2 := TG_Mx hG hP1 hw (x_Kp (x := x) (IL := IL) (GS := GS) (SL := SL) 94 (nI (p1 + 1)))
    obtain ⟨q1, q2, _⟩ := hG2.1.1.2.2.2.2
    rw [f_gr (f := 108) (c := 5) (by rw [q1]) rfl, Option.bind_some, q2]
    refine RL_name (e + 2) hP2 (by omega) (Kp_tr hK1 (x_Kp 94 _)) ⟨by simp only [aC_awI]; omega, by simp only [aZ_awI]; omega⟩ (fun h => her _ (by rw [if_neg h])) (fun hn tk ln ct => ?_)
    rw [if_pos hn] at hok her
    have hlt1 : p1 + 1 < T.length := Kn_lt (by omega)
    have hP3 := PSt_at hP2 (p' := p1 + 1 + 1) (by omega)
    have hG3 := TG_Mx hG2 hP2 hw (x_Kp (x := x) (IL := IL) (GS := GS) (SL := SL) 94 (nI (p1 + 1 + 1)))
    have ct3 := CT_Kp ct (x_Kp (x := x) (IL := IL) (GS := GS) (SL := SL) 94 (nI (p1 + 1 + 1))) (Mx_cl hP2)
    obtain ⟨e3, hP4⟩ := C_nadd (e + 5) hP3 hw hG3 ct3 (Kc := fun _ s12 => aJ (e + 7) 270 210 [vr_ (some x), vr_ (some a)] [] s12)
    obtain ⟨hG4, hk4⟩ := TG_nadd hG3 ct3
    have hnl : aN_ s ≤ nl := hG.2.2 _ (by simp [idl_, nlI])
    refine Eq.mpr (congrArg (fun o => RL T eo n V lx x IL GS SL s CB ZB o _ _) e3) ?_
    have y3c : aC_ (al_add (awI (awI s1 x 94 (nI (p1 + 1))) x 94 (nI (p1 + 1 + 1))) nl (some tk)) = aC_ s1 + 1 := rfl
    have y3z : aZ_ (al_add (awI (awI s1 x 94 (nI (p1 + 1))) x 94 (nI (p1 + 1 + 1))) nl (some tk)) = aZ_ s1 + 10 := rfl
    have en : (nml V (ns ++ [(p1 + 1, nd1)])).reverse ++ os = lf_ 58 (p1 + 1) (V (p1 + 1)) nd1 :: ((nml V ns).reverse ++ os) := by simp [nml]
    have ew : nwL T eo n (ns ++ [(p1 + 1, nd1)]) = nwL T eo n ns ++ [(nI (tkp T eo n (p1 + 1)), tkx T (p1 + 1))] := by simp [nwL]
    have el : (ns ++ [(p1 + 1, nd1)]).length = ns.length + 1 := by simp
    exact ih s p dp us its gl R os sc nd CB ZB (ns ++ [(p1 + 1, nd1)]) a nl (p1 + 2) (nd1 + 1) _ fu pe (by omega) (by omega) (by omega) (by rw [ew]; exact hG4) (fun y hy => by rcases List.mem_append.mp hy with q | q; exact hns y q; simp at q; subst q; show p ≤ p1 + 1; omega) hP4 (Kp_L (Kp_tr (Kp_tr hK1 (x_Kp 94 _)) (x_Kp 94 _)) _ (Or.inr hnl)) ⟨by omega, by omega⟩ ⟨by omega, by omega, by omega, by omega⟩ hS hM hd hC hw hI (by rw [en, el]; exact hok) (by rw [en, el]; exact her)
  · rw [if_neg c14] at hok her
    rw [if_neg c14, if_pos rfl]
    refine RL_must (e + 2) hP1 n4 (c := 1021) (kk := 25) rfl (by omega) (by decide +kernel) hK1 ⟨by omega, by omega⟩ (fun h => her _ (by rw [if_neg h])) (fun h25 i6 ln6 _ => ?_)
    have hlt1 : p1 < T.length := Kn_lt (by omega)
    rw [hok _ (by rw [if_pos h25])]
    exact s_let247 hv e h1 (ns.length + 1) s p dp us its gl R os sc nd CB ZB ns [] a nl .leaf (p1 + 1) nd1 _ (by simp) (by simp) hne (TG_Mx hG hP1 hw (x_Kp (x := x) (IL := IL) (GS := GS) (SL := SL) 94 (nI (p1 + 1)))) rfl (fun _ q => by simp at q) (fun _ q => by simp at q) hns (by rw [show itm .leaf = [] from rfl, List.append_nil]; exact PSt_at hP1 (by omega)) (Kp_tr hK1 (x_Kp 94 _)) ⟨by simp only [aC_awI]; omega, by simp only [aZ_awI]; omega⟩ ⟨by omega, by simp; omega, by omega, by omega⟩ (by rw [show itm .leaf = [] from rfl]; simp; omega) hS hM hd hC hw hI
end pcd
