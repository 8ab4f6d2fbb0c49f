/-! ===== the two parsers side by side: blocks ===== -/
section pc8
variable {T : List tk_} {eo : Option Nat} {n : Nat} {V : Nat → Int32} {L : List (List Int32)} {lx : Bool} {ids : List Nat} {iE x TL IL GS SL : Nat}
/-- a block's end -/
theorem s_blk0 (hv : HV T eo V L lx) (e g q0 : Nat) (hg : g = 19 ∨ g = 21) (s p dp us u its gl R os sc nd CB ZB) (ts : List tr_) (a lC p1 nd1 s1) (h15 : Kn T p1 ≠ 15) (h60 : dp < 60) (hG : TG s1 (aN_ s) (.inner a 1122 (nI (tkp T eo n q0), nI (tkp T eo n q0), 0, [], 0, none) lC .leaf)) (hE : er lC = cf T eo n (lkT ts)) (hq : p ≤ q0) (hfi : ∀ w ∈ ts, p ≤ fi_ w) (hP1 : PSt T eo n ids iE x TL IL GS SL s1 p1 (dp + 1) (us ++ [u]) (its ++ itm lC) gl) (hK1 : Kp (Mx x IL GS SL) s s1) (hc : aC_ s1 + 10 * p ≤ aC_ s + 10 * p1 + 3 ∧ aZ_ s1 + 100 * p ≤ aZ_ s + 100 * p1 + 40) (hn : nd1 + 6 * p ≤ nd + 6 * p1 + 1 ∧ os.length + ts.length ≤ nd1 ∧ p < p1 ∧ p1 ≤ T.length ∧ q0 < 2 ^ 20) (hil : (itm lC).length + p ≤ p1) (hVL : VL L u (V q0)) (hS : SV L us.reverse sc) (hM : Mn T 8 R.length os.length p dp sc.length nd) (hC : Cn T s p (CB - 3) (ZB - 40)) (hw : Lw x TL IL GS SL (aN_ s)) :
    RL T eo n V lx x IL GS SL s CB ZB (aJ (e + 6) 291 55 [vr_ (some x), vr_ (some a), vi_ 0] [] s1) (pR_ (Kn T) V T.length lx ((g, 0, q0, os.length) :: R, ts.reverse ++ os, p1, dp + 1, (V q0, dp) :: sc, nd1)) (QX T eo n ids iE x TL IL GS SL XC 1 true s p dp us its gl R os sc nd) := by
  obtain ⟨m1, m2, m3, m4, m5, m6⟩ := id hM
  obtain ⟨c1, c2⟩ := hc
  obtain ⟨n1, n2, n3, n4, n5⟩ := hn
  have hTl : T.length < 2600 := hv.1
  have hCa := hC.1
  have hCb := hC.2
  rw [cj_X13_block_55, if_pos rfl]
  refine RL_closes hv (e + 0) (f := fun σ => sf_ 36 q0 os.length 0 ok_ σ) (σ := fun p' => (R, st_ 36 q0 0 nd1 ts :: os, p', dp, sc, nd1 + 1)) hP1 ⟨hVL, hS⟩ n4 hK1 ⟨by omega, by omega⟩ (pb_I (by first | omega | (simp only [List.length_cons]; omega)) (by first | omega | (simp only [List.length_cons]; omega)) (by omega) (by omega) (by omega) (by omega) (by omega) (by omega)) ?_ (fun p' => ?_) fun p2 s2 hP2 hK2 cc2 cz2 cN2 hp2 => ?_
  · rcases hg with rfl | rfl
    · show (if Kn T p1 = 15 then _ else _) = _
      rw [if_neg h15]
    · show (if Kn T p1 = 15 then _ else _) = _
      rw [if_neg h15]
  · refine (sf_app (kk := 36) (a := 0) (f := ok_) ts.reverse).trans ?_
    rw [List.reverse_reverse]
    rfl
  · rw [C_less hP2]
    have hG2 := TG_Mx hG hP1 hw hK2
    have hP3 := PSt_dp hP2 (d' := dp) (by omega)
    have hit : itm (.inner a 1122 (nI (tkp T eo n q0), nI (tkp T eo n q0), 0, [], 0, none) lC .leaf) = itm lC := itm_c rfl (by decide)
    exact Or.inr ⟨_, _, _, rfl, rfl, _, a, 1122, _, _, _, _, _, rfl, rfl, ⟨er_k (k := 36) (by decide) hE rfl, fm_ge hq hfi, rfl⟩, TG_Mx hG2 hP2 hw (x_Kp (x := x) (IL := IL) (GS := GS) (SL := SL) 95 (nI dp)), by rw [hit]; exact hP3, Kp_tr (Kp_tr hK1 hK2) (x_Kp 95 _), ⟨by simp only [aC_awI]; omega, by simp only [aZ_awI]; omega⟩, ⟨by omega, by omega, by omega, by omega⟩, ⟨by omega, by omega, fun _ => rfl⟩, by rw [hit]; omega⟩
/-- the commands of a block -/
theorem s_blk55 (hv : HV T eo V L lx) (e q0 : Nat) (h2 : SX T eo n V L lx ids iE x TL IL GS SL XC 1 (e + 5) 287 [vr_ (some x)] (fun _ => [(11, 0, 0, 0)]) (fun _ => True) 5 22 true) : ∀ (m : Nat) s p dp us u its gl R os sc nd CB ZB (ts : List tr_) a lC p1 nd1 s1, T.length - p1 < m → dp < 60 → TG s1 (aN_ s) (.inner a 1122 (nI (tkp T eo n q0), nI (tkp T eo n q0), 0, [], 0, none) lC .leaf) → er lC = cf T eo n (lkT ts) → p ≤ q0 → (∀ w ∈ ts, p ≤ fi_ w) → PSt T eo n ids iE x TL IL GS SL s1 p1 (dp + 1) (us ++ [u]) (its ++ itm lC) gl → Kp (Mx x IL GS SL) s s1 → (aC_ s1 + 10 * p ≤ aC_ s + 10 * p1 ∧ aZ_ s1 + 100 * p ≤ aZ_ s + 100 * p1) → (nd1 + 6 * p + 2 ≤ nd + 6 * p1 ∧ os.length + ts.length ≤ nd1 ∧ p < p1 ∧ p1 ≤ T.length ∧ q0 < 2 ^ 20) → (itm lC).length + p ≤ p1 → VL L u (V q0) → SV L us.reverse sc → Mn T 8 R.length os.length p dp sc.length nd → 20 * (61 - dp) + 20 ≤ e + 8 → Cn T s p (CB - 3) (ZB - 40) → Lw x TL IL GS SL (aN_ s) → its.length ≤ p →
    RL T eo n V lx x IL GS SL s CB ZB (aJ (e + 7) 291 55 [vr_ (some x), vr_ (some a), vi_ 1] [] s1) (pR_ (Kn T) V T.length lx ((20, 0, q0, os.length) :: R, ts.reverse ++ os, p1, dp + 1, (V q0, dp) :: sc, nd1)) (QX T eo n ids iE x TL IL GS SL XC 1 true s p dp us its gl R os sc nd) := by
  have hTl : T.length < 2600 := hv.1
  intro m
  induction m with
  | zero => intro s p dp us u its gl R os sc nd CB ZB ts a lC p1 nd1 s1 hm; exact absurd hm (Nat.not_lt_zero _)
  | succ m ih =>
  intro s p dp us u its gl R os sc nd CB ZB ts a lC p1 nd1 s1 hm h60 hG hE hq hfi hP1 hK1 ⟨c1, c2⟩ ⟨n1, n2, n3, n4, n5⟩ hil hVL hS hM hd hC hw hI
  obtain ⟨m1, m2, m3, m4, m5, m6⟩ := id hM
  have hCa := hC.1
  have hCb := hC.2
  have b1 : pR_ (Kn T) V T.length lx ((20, 0, q0, os.length) :: R, ts.reverse ++ os, p1, dp + 1, (V q0, dp) :: sc, nd1) = pR_ (Kn T) V T.length lx (gpT [(11, 0, 0, 0), (6, 41, p1, (ts.reverse ++ os).length)] (lb_ (Kn T) V T.length ((21, 0, q0, os.length) :: R, ([] : List tr_).reverse ++ (ts.reverse ++ os), p1, dp + 1, (V q0, dp) :: sc, nd1))) := pR_ok (pb_I (by first | omega | (simp only [List.length_cons]; omega)) (by first | omega | (simp only [List.length_cons]; omega)) (by omega) (by omega) (by omega) (by omega) (by omega) (by omega)) rfl
  rw [cj_X13_block_55, if_neg (by decide), f_dp (f := 293) hP1.1.1.2.2 rfl, Option.bind_some, b1]
  have e0 : aE (e + 6) 293 [vr_ (some x), vr_ (some a)] s1 = aJ (e + 6) 293 0 [vr_ (some x), vr_ (some a)] [] s1 := by rw [ce_X13_item, cj_X13_item_0]
  rw [e0]
  have hSu : SV L (us ++ [u]).reverse ((V q0, dp) :: sc) := by rw [List.reverse_append]; exact ⟨hVL, hS⟩
  refine s_item hv e h2 (T.length - p1 + 1) T.length s s1 p1 (dp + 1) (us ++ [u]) (its ++ itm lC) gl ((21, 0, q0, os.length) :: R) (ts.reverse ++ os) ((V q0, dp) :: sc) nd1 CB ZB [] .leaf a 1122 _ lC (aN_ s) p1 p _ _ (Nat.lt_succ_self _) (by omega) (by rw [show itm .leaf = [] from rfl, List.append_nil]; exact hP1) hSu ⟨by simp; omega, by simp; omega, n4, by omega, by simp; omega, by omega⟩ (by omega) ⟨by omega, by omega⟩ hw (by rw [snC_leaf]; exact hG) (Nat.le_refl _) hK1.1 hK1 rfl ⟨by omega, by omega, Nat.le_refl _⟩ (fun _ q => by simp at q) (by rw [show itm .leaf = [] from rfl]; simp; omega) fun X' t p2 nd2 s2 g1 g2 g3 g4 g5 ⟨g6, g7⟩ ⟨g8, g9, g10, g11⟩ g12 g13 => ?_
  have hE2 := er_app hE g1
  have hits : itm (snC lC X') = itm lC ++ itm X' := itm_sn _ _
  rw [show itm .leaf = [] from rfl] at g12
  simp only [List.length_append, List.length_reverse, List.length_nil] at g9 g12
  have hfi2 : ∀ w ∈ ts ++ [t], p ≤ fi_ w := fun w hw => by rcases List.mem_append.mp hw with q | q; exact hfi w q; simp at q; subst q; exact g2
  rw [C_skip (e + 2) g4 g11 (c := 1083) (kk := 15) rfl (by omega) (by decide +kernel)]
  have er1 : t :: (ts.reverse ++ os) = (ts ++ [t]).reverse ++ os := by rw [List.reverse_append]; rfl
  rw [er1]
  by_cases c15 : Kn T p2 = 15
  · rw [if_pos c15]
    have hlt : p2 < T.length := Kn_lt (by omega)
    have b2 : pR_ (Kn T) V T.length lx ((21, 0, q0, os.length) :: R, (ts ++ [t]).reverse ++ os, p2, dp + 1, (V q0, dp) :: sc, nd2) = pR_ (Kn T) V T.length lx ((20, 0, q0, os.length) :: R, (ts ++ [t]).reverse ++ os, p2 + 1, dp + 1, (V q0, dp) :: sc, nd2) := pR_ok (pb_I (by first | omega | (simp only [List.length_cons]; omega)) (by first | omega | (simp only [List.length_cons]; omega)) (by omega) (by omega) (by omega) (by omega) (by omega) (by omega)) (by
      show (if Kn T p2 = 15 then _ else _) = _
      rw [if_pos c15]
      rfl)
    rw [b2]
    exact ih s p dp us u its gl R os sc nd CB ZB (ts ++ [t]) a (snC lC X') (p2 + 1) nd2 _ (by omega) h60 (TG_Mx g3 g4 hw (x_Kp (x := x) (IL := IL) (GS := GS) (SL := SL) 94 (nI (p2 + 1)))) hE2 hq hfi2 (by rw [hits, ← List.append_assoc]; exact PSt_at g4 (by omega)) (Kp_tr g5 (x_Kp 94 _)) ⟨by simp only [aC_awI]; omega, by simp only [aZ_awI]; omega⟩ ⟨by omega, by simp; omega, by omega, by omega, n5⟩ (by rw [hits]; simp; omega) hVL hS hM hd hC hw hI
  · rw [if_neg c15]
    exact s_blk0 hv (e + 1) 21 q0 (Or.inr rfl) s p dp us u its gl R os sc nd CB ZB (ts ++ [t]) a (snC lC X') p2 nd2 s2 c15 h60 g3 hE2 hq hfi2 (by rw [hits, ← List.append_assoc]; exact g4) g5 ⟨by omega, by omega⟩ ⟨by omega, by simp; omega, by omega, g11, n5⟩ (by rw [hits]; simp; omega) hVL hS hM hC hw
/-- the declarations of a block -/
theorem s_blk24 (hv : HV T eo V L lx) (e q0 : Nat) (h2 : SX T eo n V L lx ids iE x TL IL GS SL XC 1 (e + 5) 287 [vr_ (some x)] (fun _ => [(11, 0, 0, 0)]) (fun _ => True) 5 22 true) (h3 : SX T eo n V L lx ids iE x TL IL GS SL XC 0 (e + 6) 270 [vr_ (some x), vi_ 0] (fun _ => [(3, 0, 0, 0)]) (fun _ => True) 3 24 true) : ∀ (m : Nat) s p dp us u its gl R os sc nd CB ZB (ts : List tr_) a lC p1 nd1 s1, T.length - p1 < m → dp < 60 → TG s1 (aN_ s) (.inner a 1122 (nI (tkp T eo n q0), nI (tkp T eo n q0), 0, [], 0, none) lC .leaf) → er lC = cf T eo n (lkT ts) → p ≤ q0 → (∀ w ∈ ts, p ≤ fi_ w) → PSt T eo n ids iE x TL IL GS SL s1 p1 (dp + 1) (us ++ [u]) (its ++ itm lC) gl → Kp (Mx x IL GS SL) s s1 → (aC_ s1 + 10 * p ≤ aC_ s + 10 * p1 ∧ aZ_ s1 + 100 * p ≤ aZ_ s + 100 * p1) → (nd1 + 6 * p + 2 ≤ nd + 6 * p1 ∧ os.length + ts.length ≤ nd1 ∧ p < p1 ∧ p1 ≤ T.length ∧ q0 < 2 ^ 20) → (itm lC).length + p ≤ p1 → VL L u (V q0) → SV L us.reverse sc → Mn T 8 R.length os.length p dp sc.length nd → 20 * (61 - dp) + 20 ≤ e + 8 → Cn T s p (CB - 3) (ZB - 40) → Lw x TL IL GS SL (aN_ s) → its.length ≤ p →
    RL T eo n V lx x IL GS SL s CB ZB (aJ (e + 7) 291 24 [vr_ (some x), vr_ (some a), vi_ 1] [] s1) (pR_ (Kn T) V T.length lx (((if isD_ (Kn T p1) = true then 18 else 20), 0, q0, os.length) :: R, ts.reverse ++ os, p1, dp + 1, (V q0, dp) :: sc, nd1)) (QX T eo n ids iE x TL IL GS SL XC 1 true s p dp us its gl R os sc nd) := by
  have hTl : T.length < 2600 := hv.1
  intro m
  induction m with
  | zero => intro s p dp us u its gl R os sc nd CB ZB ts a lC p1 nd1 s1 hm; exact absurd hm (Nat.not_lt_zero _)
  | succ m ih =>
  intro s p dp us u its gl R os sc nd CB ZB ts a lC p1 nd1 s1 hm h60 hG hE hq hfi hP1 hK1 ⟨c1, c2⟩ ⟨n1, n2, n3, n4, n5⟩ hil hVL hS hM hd hC hw hI
  obtain ⟨m1, m2, m3, m4, m5, m6⟩ := id hM
  have hCa := hC.1
  have hCb := hC.2
  rw [cj_X13_block_24, if_neg (by decide), f_dp (f := 292) hP1.1.1.2.2 rfl, Option.bind_some, show aE (e + 6) 292 [vr_ (some x)] s1 = _ from y_isDecl (e + 2) hP1.1 hP1.2.1 n4, cI_k]
  cases hD : isD_ (Kn T p1) with
  | false =>
    rw [if_pos (show zb_ false = 0 from rfl), if_neg (by decide)]
    exact s_blk55 hv e q0 h2 (T.length - p1 + 1) s p dp us u its gl R os sc nd CB ZB ts a lC p1 nd1 s1 (Nat.lt_succ_self _) h60 hG hE hq hfi hP1 hK1 ⟨c1, c2⟩ ⟨n1, n2, n3, n4, n5⟩ hil hVL hS hM hd hC hw hI
  | true =>
    rw [if_neg (show ¬ zb_ true = 0 by decide), if_pos rfl]
    have b1 : pR_ (Kn T) V T.length lx ((18, 0, q0, os.length) :: R, ts.reverse ++ os, p1, dp + 1, (V q0, dp) :: sc, nd1) = pR_ (Kn T) V T.length lx ([(3, 0, 0, 0)] ++ ((19, 0, q0, os.length) :: R), ts.reverse ++ os, p1, dp + 1, (V q0, dp) :: sc, nd1) := pR_ok (pb_I (by first | omega | (simp only [List.length_cons]; omega)) (by first | omega | (simp only [List.length_cons]; omega)) (by omega) (by omega) (by omega) (by omega) (by omega) (by omega)) rfl
    rw [b1]
    have hSu : SV L (us ++ [u]).reverse ((V q0, dp) :: sc) := by rw [List.reverse_append]; exact ⟨hVL, hS⟩
    refine RL_with (e + 5) h3 rfl hP1 hSu (R := (19, 0, q0, os.length) :: R) ⟨by simp; omega, by simp; omega, n4, by omega, by simp; omega, by omega⟩ (by omega) ⟨by omega, by omega⟩ trivial (by simp; omega) hK1 (Nat.le_refl _) hw hG hK1.1 fun t2 j2 k2 w2 l2 p2 dp2 nd2 s6 ⟨b0, b1⟩ hG6 hP6 hK6 ⟨cc6, cz6⟩ ⟨n6, n7, n8, n9⟩ ⟨d5, d6, d7⟩ hil6 hN6 => ?_
    obtain rfl := d7 rfl
    have b1 : p1 ≤ fi_ t2 := b1.1
    simp only [List.length_append, List.length_reverse] at n7
    have hE2 := er_app hE b0
    have hits : itm (snC lC (.inner j2 k2 w2 l2 .leaf)) = itm lC ++ itm (.inner j2 k2 w2 l2 .leaf) := itm_sn _ _
    have hfi2 : ∀ w ∈ ts ++ [t2], p ≤ fi_ w := fun w hw => by rcases List.mem_append.mp hw with q | q; exact hfi w q; simp at q; subst q; omega
    have er1 : t2 :: (ts.reverse ++ os) = (ts ++ [t2]).reverse ++ os := by rw [List.reverse_append]; rfl
    rw [er1, C_skip (e + 2) hP6 n9 (c := 1083) (kk := 15) rfl (by omega) (by decide +kernel)]
    by_cases c15 : Kn T p2 = 15
    · rw [if_pos c15]
      have hlt : p2 < T.length := Kn_lt (by omega)
      have b2 : pR_ (Kn T) V T.length lx ((19, 0, q0, os.length) :: R, (ts ++ [t2]).reverse ++ os, p2, dp + 1, (V q0, dp) :: sc, nd2) = pR_ (Kn T) V T.length lx (((if isD_ (Kn T (p2 + 1)) = true then 18 else 20), 0, q0, os.length) :: R, (ts ++ [t2]).reverse ++ os, p2 + 1, dp + 1, (V q0, dp) :: sc, nd2) := pR_ok (pb_I (by first | omega | (simp only [List.length_cons]; omega)) (by first | omega | (simp only [List.length_cons]; omega)) (by omega) (by omega) (by omega) (by omega) (by omega) (by omega)) (by
        show (if Kn T p2 = 15 then _ else _) = _
        rw [if_pos c15]
        rfl)
      rw [b2]
      exact ih s p dp us u its gl R os sc nd CB ZB (ts ++ [t2]) a _ (p2 + 1) nd2 _ (by omega) h60 (TG_Mx hG6 hP6 hw (x_Kp (x := x) (IL := IL) (GS := GS) (SL := SL) 94 (nI (p2 + 1)))) hE2 hq hfi2 (by rw [hits, ← List.append_assoc]; exact PSt_at hP6 (by omega)) (Kp_tr hK6 (x_Kp 94 _)) ⟨by simp only [aC_awI]; omega, by simp only [aZ_awI]; omega⟩ ⟨by omega, by simp; omega, by omega, by omega, n5⟩ (by rw [hits]; simp; omega) hVL hS hM hd hC hw hI
    · rw [if_neg c15, cj_X13_block_24, if_pos rfl]
      exact s_blk0 hv (e + 1) 19 q0 (Or.inl rfl) s p dp us u its gl R os sc nd CB ZB (ts ++ [t2]) a _ p2 nd2 s6 c15 h60 hG6 hE2 hq hfi2 (by rw [hits, ← List.append_assoc]; exact hP6) hK6 ⟨by omega, by omega⟩ ⟨by omega, by simp; omega, by omega, n9, n5⟩ (by rw [hits]; simp; omega) hVL hS hM hC hw
/-- a block -/
theorem s_blk (hv : HV T eo V L lx) (e : Nat) (h2 : SX T eo n V L lx ids iE x TL IL GS SL XC 1 (e + 5) 287 [vr_ (some x)] (fun _ => [(11, 0, 0, 0)]) (fun _ => True) 5 22 true) (h3 : SX T eo n V L lx ids iE x TL IL GS SL XC 0 (e + 6) 270 [vr_ (some x), vi_ 0] (fun _ => [(3, 0, 0, 0)]) (fun _ => True) 3 24 true) (s p dp us its gl R os sc nd CB ZB) (hP : PSt T eo n ids iE x TL IL GS SL s p dp us its gl) (hS : SV L us.reverse sc) (hM : Mn T 8 R.length os.length p dp sc.length nd) (hd : 20 * (61 - dp) + 20 ≤ e + 8) (hC : Cn T s p (CB - 3) (ZB - 40)) (hI : its.length ≤ p) (h10 : Kn T p = 10) (pe : pe_) (hpe : pe = if dp = 60 then some (.error p) else pR_ (Kn T) V T.length lx (((if isD_ (Kn T (p + 1)) = true then 18 else 20), 0, p, os.length) :: R, os, p + 1, dp + 1, (V p, dp) :: sc, nd)) : RL T eo n V lx x IL GS SL s CB ZB (aE (e + 7) 291 [vr_ (some x)] s) pe (QX T eo n ids iE x TL IL GS SL XC 1 true s p dp us its gl R os sc nd) := by
  obtain ⟨m1, m2, m3, m4, m5, m6⟩ := id hM
  have hTl : T.length < 2600 := hv.1
  have hw := PSt_Lw hP
  have hCa := hC.1
  have hCb := hC.2
  have hlt : p < T.length := Kn_lt (by omega)
  have hN : 4000 ≤ aN_ s := by have := hP.1.1; omega
  rw [ce_X13_block]
  refine RL_enter (e + 2) hP m3 Kp_rf ⟨by omega, by omega⟩ (fun h60 => by rw [hpe, if_pos h60]) (fun h60 => ?_)
  rw [if_neg h60] at hpe
  subst hpe
  have hP1 := PSt_dp hP (d' := dp + 1) (by omega)
  have hKn : Kp (fun _ => False) (awI s x 95 (nI (dp + 1))) (a_nw 9 (awI s x 95 (nI (dp + 1)))).2 := Kp_new Kp_rf (9, 0)
  have hPn := PSt_Kp hP1 hKn (fun _ q => q.elim) (fun _ q => q.elim)
  have hkn : Kp (Mx x IL GS SL) s (a_nw 9 (awI s x 95 (nI (dp + 1)))).2 := Kp_tr (x_Kp 95 _) (Kp_wk hKn (fun _ _ q => q.elim))
  have z1 : aC_ (a_nw 9 (awI s x 95 (nI (dp + 1)))).2 = aC_ s + 1 := rfl
  have z2 : aZ_ (a_nw 9 (awI s x 95 (nI (dp + 1)))).2 = aZ_ s + 9 := rfl
  have z3 : aN_ (a_nw 9 (awI s x 95 (nI (dp + 1)))).2 = aN_ s + 1 := rfl
  have hul : us.length = sc.length := by have := SV_len hS; simpa using this
  refine RL_opens (e + 1) hPn m3 (by omega) hkn ⟨by omega, by omega⟩ (by omega) (fun h => absurd h10 h) (fun _ i ln s4 ct hP4 hK4 cc4 cz4 cN4 => ?_)
  rw [f_gi (f := 85) (c := 14) (by rw [ct.1.2.2]) rfl, Option.bind_some, ct.2.1.2.1]
  have hfr := nw_fresh (s := awI s x 95 (nI (dp + 1))) (s' := s4) hN hK4 (fun q => by have := Mx_lt hw _ q; have : aN_ (awI s x 95 (nI (dp + 1))) = aN_ s := rfl; omega)
  obtain ⟨e7, hG7, hk7⟩ := C_ini (e + 4) (kc := 1122) (pl := nI (tkp T eo n p)) hfr
  rw [nw_1, e7, aN_awI]
  simp only [aN_awI] at hfr hG7 hk7
  have hM7 : ∀ a, a = aN_ s → (aK_ s4 a).1 ≠ 26 ∧ (aK_ s4 a).1 ≠ 14 := fun a q => by subst q; rw [hfr.2.1]; decide
  have hP7 := PSt_hi hP4 hw hk7 hM7 (fun a q => by omega)
  have hK7 : Kp (Mx x IL GS SL) s (nn_ s4 (aN_ s) (some 1122) (nI (tkp T eo n p))) := Kp_in (Kp_tr hkn hK4) hk7 (fun a q => Or.inr (by omega))
  have y1 : aC_ (nn_ s4 (aN_ s) (some 1122) (nI (tkp T eo n p))) = aC_ s4 := rfl
  have y2 : aZ_ (nn_ s4 (aN_ s) (some 1122) (nI (tkp T eo n p))) = aZ_ s4 := rfl
  exact s_blk24 hv e p h2 h3 (T.length - (p + 1) + 1) s p dp us (tkg T p) its gl R os sc nd CB ZB [] (aN_ s) .leaf (p + 1) nd _ (Nat.lt_succ_self _) (by omega) hG7 rfl (Nat.le_refl _) (fun _ q => by simp at q) (by rw [show itm .leaf = [] from rfl, List.append_nil]; exact hP7) hK7 ⟨by omega, by omega⟩ ⟨by omega, by simp; omega, by omega, by omega, by omega⟩ (by rw [show itm .leaf = [] from rfl]; simp) (hv.2.2.2.1 p (Or.inl h10)) hS hM hd hC hw hI
end pc8
