/-! ===== the two parsers side by side: assignments whole ===== -/
/-- of one left side alone -/
def OneP (ls : List cr_) (tl : List tr_) : Prop := ls.length = 1 → ∃ i kc w l t, ls = [.inner i kc w l .leaf] ∧ tl = [t] ∧ (kc = 1098 ↔ kd_ t = 6) ∧ w.2.2.1 = bz_ (pr_ t)
section pc5
variable {T : List tk_} {eo : Option Nat} {n : Nat} {V : Nat → Int32} {L : List (List Int32)} {lx : Bool} {ids : List Nat} {iE x TL IL GS SL : Nat}
variable {s s' s0 : as_} {i kc lo p dp CB ZB nd : Nat} {v : cp_w} {l : cr_} {us : List (List Int32)} {its : List Nat} {gl : List ((List Int32 ⊕ Int32) × Option Nat)} {R : List gl_} {os : List tr_} {sc : List (Int32 × Nat)} {pe : pe_} {Q : ps_ → Option Nat → as_ → Prop}
theorem GL_cons {c : cr_} {cs : List cr_} {m : Nat} (h : GL s lo cs) (hc : TG s m c) (hs : sgC c) (hl : ∀ a ∈ flI cs, a < m) (hm : lo ≤ m) : GL s lo (c :: cs) := by
  have e1 : flI (c :: cs) = idl_ c ++ flI cs := by simp [flI]
  refine ⟨fun d hd => ?_, ?_, fun a ha => ?_⟩
  · rcases List.mem_cons.mp hd with rfl | q
    · exact ⟨hc.1, hs⟩
    · exact h.1 d q
  · rw [e1, List.nodup_append]
    refine ⟨hc.2.1, h.2.1, fun a ha b hb w => ?_⟩
    have := hc.2.2 a ha
    have := hl b hb
    omega
  · rw [e1] at ha
    rcases List.mem_append.mp ha with q | q
    · have := hc.2.2 a q; omega
    · exact h.2.2 a q
/-- no expression begins here -/
theorem pR_no (hT : T.length < 20000) (hM : Mn T 400 R.length os.length p dp sc.length nd) (h : bg_ (Kn T p) = false) : pR_ (Kn T) V T.length lx ((28, 0, 0, 0) :: R, os, p, dp, sc, nd) = some (.error p) := by
  obtain ⟨m1, m2, m3, m4, m5, m6⟩ := id hM
  have hk : ∀ k ∈ [1, 2, 4, 74, 75, 76, 77, 12, 21, 22, 33, 18, 20], Kn T p ≠ k := fun k hk q => by
    rw [q] at h
    simp only [List.mem_cons, List.not_mem_nil, or_false] at hk
    rcases hk with rfl | rfl | rfl | rfl | rfl | rfl | rfl | rfl | rfl | rfl | rfl | rfl | rfl <;> exact absurd h (by decide)
  have st : ∀ (l : Nat) (G : List gl_), 1 ≤ l → l < 7 → G.length ≤ 8900 → pR_ (Kn T) V T.length lx ((30, l, 0, 0) :: G, os, p, dp, sc, nd) = pR_ (Kn T) V T.length lx ((30, l + 1, 0, 0) :: (31, l, 0, os.length) :: G, os, p, dp, sc, nd) := fun l G h1 h2 hG => pR_ok (pb_I (by first | omega | (simp only [List.length_cons]; omega)) (by first | omega | (simp only [List.length_cons]; omega)) (by omega) (by omega) (by omega) (by omega) (by omega) (by omega)) (by
    show ok_ (bl_ l :: (31, l, 0, os.length) :: G, os, p, dp, sc, nd) = _
    unfold bl_
    rw [if_pos h2]
    rfl)
  have hR : R.length ≤ 8400 := by omega
  rw [pR_ok (σ := ((30, 1, 0, 0) :: (29, 0, 0, os.length) :: R, os, p, dp, sc, nd)) (pb_I (by first | omega | (simp only [List.length_cons]; omega)) (by first | omega | (simp only [List.length_cons]; omega)) (by omega) (by omega) (by omega) (by omega) (by omega) (by omega)) rfl, st 1 _ (by omega) (by omega) (by simp; omega), st 2 _ (by omega) (by omega) (by simp; omega), st 3 _ (by omega) (by omega) (by simp; omega), st 4 _ (by omega) (by omega) (by simp; omega), st 5 _ (by omega) (by omega) (by simp; omega), st 6 _ (by omega) (by omega) (by simp; omega)]
  generalize hg : ((31, 6, 0, os.length) :: (31, 5, 0, os.length) :: (31, 4, 0, os.length) :: (31, 3, 0, os.length) :: (31, 2, 0, os.length) :: (31, 1, 0, os.length) :: (29, 0, 0, os.length) :: R : List gl_) = G
  have hG : G.length ≤ 8407 := by rw [← hg]; simp; omega
  rw [pR_ok (σ := ((33, 0, 0, 0) :: (31, 7, 0, os.length) :: G, os, p, dp, sc, nd)) (pb_I (by first | omega | (simp only [List.length_cons]; omega)) (by first | omega | (simp only [List.length_cons]; omega)) (by omega) (by omega) (by omega) (by omega) (by omega) (by omega)) rfl]
  rw [pR_ok (σ := ((34, 0, 0, 0) :: (31, 7, 0, os.length) :: G, os, p, dp, sc, nd)) (pb_I (by first | omega | (simp only [List.length_cons]; omega)) (by first | omega | (simp only [List.length_cons]; omega)) (by omega) (by omega) (by omega) (by omega) (by omega) (by omega)) (by
    show (if Kn T p = 21 ∨ Kn T p = 22 ∨ Kn T p = 33 then _ else _) = _
    rw [if_neg (fun q => by rcases q with q | q | q; exact hk 21 (by simp) q; exact hk 22 (by simp) q; exact hk 33 (by simp) q)]
    rfl)]
  rw [pR_ok (σ := ((39, 0, 0, 0) :: (37, 0, 0, os.length) :: (35, 0, 0, os.length) :: (15, dp, 0, 0) :: (31, 7, 0, os.length) :: G, os, p, dp, sc, nd)) (pb_I (by first | omega | (simp only [List.length_cons]; omega)) (by first | omega | (simp only [List.length_cons]; omega)) (by omega) (by omega) (by omega) (by omega) (by omega) (by omega)) (by
    show (if Kn T p = 18 ∨ Kn T p = 20 then _ else _) = _
    rw [if_neg (fun q => by rcases q with q | q; exact hk 18 (by simp) q; exact hk 20 (by simp) q)]
    rfl)]
  refine pR_er (pb_I (by first | omega | (simp only [List.length_cons]; omega)) (by first | omega | (simp only [List.length_cons]; omega)) (by omega) (by omega) (by omega) (by omega) (by omega) (by omega)) ?_
  show pm_p (Kn T) V ((37, 0, 0, os.length) :: (35, 0, 0, os.length) :: (15, dp, 0, 0) :: (31, 7, 0, os.length) :: G, os, p, dp, sc, nd) = _
  unfold pm_p
  dsimp only
  rw [if_neg (hk 1 (by simp)), if_neg (hk 2 (by simp)), if_neg (hk 4 (by simp)), if_neg (hk 74 (by simp)), if_neg (hk 75 (by simp)), if_neg (hk 12 (by simp)), if_neg (hk 76 (by simp)), if_neg (hk 77 (by simp))]
  rfl
theorem s_asg24 (hv : HV T eo V L lx) (e : Nat) (h1 : SX T eo n V L lx ids iE x TL IL GS SL (XB T eo n false) 0 (e + 5) 280 [vr_ (some x)] (fun _ => [(28, 0, 0, 0)]) (fun _ => True) 20 19 true) : ∀ (m : Nat) s p dp us its gl R os sc nd CB ZB (ls : List cr_) (tl : List tr_) tk ln p1 nd1 s1, T.length - p1 < m → 1 ≤ ls.length → ls.length + p ≤ p1 →
      ((aK_ s1 (aN_ s)).1 = 36 ∧ aL_ s1 (aN_ s) = (ls.map rt1).map some) → GL s1 (aN_ s + 1) ls → (∀ c ∈ ls, sgC c) → E2 T eo n ls tl → (∀ u ∈ tl, p ≤ fi_ u) → OneP ls tl →
      CT s1 tk (tkk T eo p) (nI (tkp T eo n p)) ln (tkv T p) (tkx T p) (tkg T p) →
      PSt T eo n ids iE x TL IL GS SL s1 p1 dp us (its ++ flM ls) gl → Kp (Mx x IL GS SL) s s1 → (aC_ s1 + 10 * p ≤ aC_ s + 10 * p1 + 2 ∧ aZ_ s1 + 100 * p ≤ aZ_ s + 100 * p1 + 13) → (nd1 + 6 * p ≤ nd + 6 * p1 ∧ os.length + ls.length ≤ nd1 ∧ p < p1 ∧ p1 ≤ T.length ∧ aN_ s < aN_ s1) → (flM ls).length + p ≤ p1 →
      SV L us.reverse sc → Mn T 7 R.length os.length p dp sc.length nd → 20 * (61 - dp) + 20 ≤ e + 6 → Cn T s p (CB - 3) (ZB - 40) → Lw x TL IL GS SL (aN_ s) → its.length ≤ p →
      RL T eo n V lx x IL GS SL s CB ZB (aJ (e + 6) 289 24 [vr_ (some x), vr_ (some tk), vr_ (some (aN_ s))] [] s1) (pR_ (Kn T) V T.length lx ((if ls.length = 1 then (25, 0, p, os.length) else (26, ls.length, p, os.length)) :: R, tl.reverse ++ os, p1, dp, sc, nd1)) (QX T eo n ids iE x TL IL GS SL XC 1 true s p dp us its gl R os sc nd) := by
  have hTl : T.length < 2600 := hv.1
  intro m
  induction m with
  | zero => intro s p dp us its gl R os sc nd CB ZB ls tl tk ln p1 nd1 s1 hm; exact absurd hm (Nat.not_lt_zero _)
  | succ m ih =>
  intro s p dp us its gl R os sc nd CB ZB ls tl tk ln p1 nd1 s1 hm hl1 hlp ⟨hl36, hlL⟩ hG hsl hE hfl hone ct hP1 hK1 ⟨c1, c2⟩ ⟨n1, n2, n3, n4, n5⟩ hil hS hM hd hC hw hI
  obtain ⟨m1, m2, m3, m4, m5, m6⟩ := id hM
  have hCa := hC.1
  have hCb := hC.2
  have hEl := E2_len hE
  have hw1 : Lw x TL IL GS SL (aN_ s + 1) := Lw_le hw (by omega)
  -- the reference's state before a comma or :=
  have g26 : ∀ y, y < 4096 → pS_ (Kn T) V T.length lx 26 y p os.length (R, tl.reverse ++ os, p1, dp, sc, nd1) = (if Kn T p1 = 14 then ok_ ((28, 0, 0, 0) :: (26, y + 1, p, os.length) :: R, tl.reverse ++ os, p1 + 1, dp, sc, nd1) else if Kn T p1 = 16 then ok_ ((28, 0, 0, 0) :: (27, 8192 * y + 1, p, os.length) :: R, tl.reverse ++ os, p1 + 1, dp, sc, nd1) else fl_ p1) := fun y hy => by
    show (if Kn T p1 = 14 then ok_ ((28, 0, 0, 0) :: (26, y + 1, p, os.length) :: R, tl.reverse ++ os, p1 + 1, dp, sc, nd1) else if 4096 ≤ y then none else (if Kn T p1 = 16 then ok_ ((28, 0, 0, 0) :: (27, 8192 * y + 1, p, os.length) :: R, tl.reverse ++ os, p1 + 1, dp, sc, nd1) else fl_ p1)) = _
    rw [if_neg (show ¬ 4096 ≤ y by omega)]
  have h25 : (Kn T p1 = 14 ∨ Kn T p1 = 16) → pR_ (Kn T) V T.length lx ((if ls.length = 1 then (25, 0, p, os.length) else (26, ls.length, p, os.length)) :: R, tl.reverse ++ os, p1, dp, sc, nd1) = pR_ (Kn T) V T.length lx ((26, ls.length, p, os.length) :: R, tl.reverse ++ os, p1, dp, sc, nd1) := fun hk => by
    by_cases c1 : ls.length = 1
    · rw [if_pos c1, c1]
      refine pR_ok (pb_I (by first | omega | (simp only [List.length_cons]; omega)) (by first | omega | (simp only [List.length_cons]; omega)) (by omega) (by omega) (by omega) (by omega) (by omega) (by omega)) ?_
      show (if Kn T p1 = 14 ∨ Kn T p1 = 16 then _ else _) = _
      rw [if_pos hk]
      rfl
    · rw [if_neg c1]
  have hsz : aE (e + 5) 78 [vr_ (some (aN_ s))] s1 = some (.inl (some (vi_ (nI ls.length))), s1) := by
    rw [l_size, hlL]; simp
  rw [cj_X13_assignment_24, C_skip (e + 1) hP1 n4 (c := 1082) (kk := 14) rfl (by omega) (by decide +kernel)]
  by_cases c14 : Kn T p1 = 14
  · rw [if_pos c14, if_neg (by decide), h25 (Or.inl c14)]
    have hlt : p1 < T.length := Kn_lt (by omega)
    have b1 : pR_ (Kn T) V T.length lx ((26, ls.length, p, os.length) :: R, tl.reverse ++ os, p1, dp, sc, nd1) = pR_ (Kn T) V T.length lx ([(28, 0, 0, 0)] ++ ((26, ls.length + 1, p, os.length) :: R), tl.reverse ++ os, p1 + 1, dp, sc, nd1) := pR_ok (gs := R) (pb_I (by first | omega | (simp only [List.length_cons]; omega)) (by first | omega | (simp only [List.length_cons]; omega)) (by omega) (by omega) (by omega) (by omega) (by omega) (by omega)) ((g26 _ (by omega)).trans (by rw [if_pos c14]; rfl))
    rw [b1]
    have hP2 := PSt_at hP1 (p' := p1 + 1) (by omega)
    rw [f_dp (f := 280) hP2.1.1.2.2 rfl, Option.bind_some]
    refine RL_bind (h1 _ (p1 + 1) dp us _ gl ((26, ls.length + 1, p, os.length) :: R) (tl.reverse ++ os) sc nd1 CB ZB hP2 hS ⟨by simp; omega, by simp; omega, by omega, m4, m5, by omega⟩ (by omega) ⟨by simp only [aC_awI]; omega, by simp only [aZ_awI]; omega⟩ trivial (by simp; omega)) (Kp_tr hK1 (x_Kp 94 _)) fun σ v s4 q => ?_
    obtain ⟨t2, j2, k2, w2, l2, p3, dp3, nd3, rfl, rfl, ⟨b0, b1, b2, b3, b4, b5, b6, b7⟩, hG4, hP4, hK4, ⟨cc4, cz4⟩, ⟨n6, n7, n8, n9⟩, ⟨d5, d6, d7⟩, hil4⟩ := q
    obtain rfl := d7 rfl
    have hx2 := hK4.2 (aN_ s) (show aN_ s < aN_ s1 from n5) (fun q => by have := Mx_lt hw _ q; omega)
    have h36 : (aK_ s4 (aN_ s)).1 = 36 := by rw [hx2.2.2.1]; exact hl36
    have hLl : aL_ s4 (aN_ s) = (ls.map rt1).map some := hx2.2.2.2.2.1.trans hlL
    rw [f_dp (f := 73) h36 rfl, Option.bind_some, l_add, cI_k]
    have hN4 : aN_ s1 ≤ aN_ s4 := hK4.1
    have hk5 : Kp (fun a => a = aN_ s) s4 (al_add s4 (aN_ s) (some j2)) := Kp_L Kp_rf _ (Or.inl rfl)
    have hM5 : ∀ a, a = aN_ s → (aK_ s4 a).1 ≠ 26 ∧ (aK_ s4 a).1 ≠ 14 := fun a q => by subst q; rw [h36]; decide
    have hP5 := PSt_hi hP4 hw hk5 hM5 (fun a q => by omega)
    have hGa := GL_sn (GL_Mx hG hP1 hw1 (Kp_tr (x_Kp (x := x) (IL := IL) (GS := GS) (SL := SL) 94 (nI (p1 + 1))) hK4)) hG4 trivial (show ∀ a ∈ flI ls, a < aN_ s1 from GL_lt hG) (show aN_ s + 1 ≤ aN_ s1 by omega)
    have hGb := GL_Kp hGa hk5 hM5 (fun a ha q => by have := hGa.2.2 a ha; omega)
    have ct5 := CT_Kp (CT_Kp (CT_Kp ct (x_Kp (x := x) (IL := IL) (GS := GS) (SL := SL) 94 (nI (p1 + 1))) (Mx_cl hP1)) hK4 (Mx_cl hP2)) hk5 hM5
    have hfm : flM (ls ++ [(.inner j2 k2 w2 l2 .leaf : cr_)]) = flM ls ++ itm (.inner j2 k2 w2 l2 .leaf) := by rw [flM_app]; simp [flM]
    have hll : (ls ++ [(.inner j2 k2 w2 l2 .leaf : cr_)]).length = ls.length + 1 := by simp
    simp only [aC_awI, aZ_awI] at cc4 cz4
    have := ih s p dp3 us its gl R os sc nd CB ZB (ls ++ [.inner j2 k2 w2 l2 .leaf]) (tl ++ [t2]) tk ln p3 nd3 (al_add s4 (aN_ s) (some j2)) (by omega) (by omega) (by omega) ⟨h36, by
      show aL_ (awL s4 (aN_ s) _) (aN_ s) = _
      rw [aL_awL, if_pos rfl, hLl, List.map_append, List.map_append]
      rfl⟩ hGb (fun c hc => by rcases List.mem_append.mp hc with q | q; exact hsl c q; simp at q; subst q; trivial) (E2_sn b0 hE) (fun u hu => by rcases List.mem_append.mp hu with q | q; exact hfl u q; simp at q; subst q; omega) (fun q => by omega) ct5 (by rw [hfm, ← List.append_assoc]; exact hP5) (Kp_L (Kp_tr (Kp_tr hK1 (x_Kp 94 _)) hK4) _ (Or.inr (Nat.le_refl _))) ⟨by show aC_ s4 + 1 + 10 * p ≤ _; omega, by show aZ_ s4 + 10 + 100 * p ≤ _; omega⟩ ⟨by omega, by simp at n7 ⊢; omega, by omega, n9, by show aN_ s < aN_ s4; omega⟩ (by rw [hfm]; simp; omega) hS hM hd hC hw hI
    rw [hll, if_neg (by omega), List.reverse_append] at this
    exact this
  · rw [if_neg c14, if_pos rfl]
    -- it must be :=
    have hmust : ∀ pe, (Kn T p1 ≠ 16 → pe = some (.error p1)) → (Kn T p1 = 16 → pe = pR_ (Kn T) V T.length lx ([(28, 0, 0, 0), (27, 8192 * ls.length + 1, p, os.length)] ++ R, (tl ++ []).reverse ++ os, p1 + 1, dp, sc, nd1)) → RL T eo n V lx x IL GS SL s CB ZB ((a_dp 278 (some x) (a_nw 9 s1).2).bind fun m41 => cx_bR cx_th (aE (e + 5) m41 [vr_ (some x), vr_ (some 1078)] (a_nw 9 s1).2) fun v43 s42 => (a_gi 85 v43 s42).bind fun v44 => cx_bV cx_th (aE (e + 5) 305 [vr_ (some (a_nw 9 s1).1), vr_ (some 1121), vi_ v44] s42) fun s45 => aJ (e + 6) 289 154 [vr_ (some x), vr_ (some (aN_ s)), vr_ (some (a_nw 9 s1).1), vi_ 0] [] s45) pe (QX T eo n ids iE x TL IL GS SL XC 1 true s p dp us its gl R os sc nd) := fun pe hpe hpq => by
      have hKn : Kp (fun _ => False) s1 (a_nw 9 s1).2 := Kp_new Kp_rf (9, 0)
      have hPn := PSt_Kp hP1 hKn (fun _ q => q.elim) (fun _ q => q.elim)
      have hkn : Kp (Mx x IL GS SL) s (a_nw 9 s1).2 := Kp_tr hK1 (Kp_wk hKn (fun _ _ q => q.elim))
      have z1 : aC_ (a_nw 9 s1).2 = aC_ s1 + 1 := rfl
      have z2 : aZ_ (a_nw 9 s1).2 = aZ_ s1 + 9 := rfl
      have z3 : aN_ (a_nw 9 s1).2 = aN_ s1 + 1 := rfl
      refine RL_must (e + 1) hPn n4 (c := 1078) (kk := 16) rfl (by omega) (by decide +kernel) hkn ⟨by omega, by omega⟩ hpe (fun h16 i6 ln6 ct6 => ?_)
      have hlt : p1 < T.length := Kn_lt (by omega)
      have k6 : (aK_ (awI (a_nw 9 s1).2 x 94 (nI (p1 + 1))) i6).1 = 14 := by show (aK_ (a_nw 9 s1).2 i6).1 = 14; rw [ct6.1.2.2]
      have hP6 := PSt_at hPn (p' := p1 + 1) (by omega)
      have hix : i6 ≠ x := fun q => by have := hPn.1.1.2.2; rw [← q, ct6.1.2.2] at this; omega
      rw [f_gi (f := 85) k6 rfl, Option.bind_some, show aI_ (awI (a_nw 9 s1).2 x 94 (nI (p1 + 1))) i6 85 = nI (tkp T eo n p1) from by rw [aI_awI, if_neg (fun q => hix q.2.1)]; exact ct6.2.1.2.1]
      have hfr := nw_fresh (s' := awI (a_nw 9 s1).2 x 94 (nI (p1 + 1))) (by have := hP1.1.1; omega) (x_Kp (x := x) (IL := IL) (GS := GS) (SL := SL) 94 (nI (p1 + 1))) (fun q => by have := Mx_lt (PSt_Lw hP1) _ q; omega)
      obtain ⟨e7, hG7, hk7⟩ := C_ini (e + 3) (kc := 1121) (pl := nI (tkp T eo n p1)) hfr
      rw [nw_1, e7]
      have hM7 : ∀ a, a = aN_ s1 → (aK_ (awI (a_nw 9 s1).2 x 94 (nI (p1 + 1))) a).1 ≠ 26 ∧ (aK_ (awI (a_nw 9 s1).2 x 94 (nI (p1 + 1))) a).1 ≠ 14 := fun a q => by subst q; rw [hfr.2.1]; decide
      have hP7 := PSt_hi hP6 hw hk7 hM7 (fun a q => by omega)
      have hGn : GL (a_nw 9 s1).2 (aN_ s + 1) ls := GL_Kp hG hKn (fun _ q => q.elim) (fun _ _ q => q.elim)
      have hGm := GL_Mx hGn hPn hw1 (x_Kp (x := x) (IL := IL) (GS := GS) (SL := SL) 94 (nI (p1 + 1)))
      have hGl := GL_Kp hGm hk7 hM7 (fun a ha q => by have := GL_lt hG a ha; omega)
      have hGc := GL_cons hGl hG7 trivial (GL_lt hG) (show aN_ s + 1 ≤ aN_ s1 by omega)
      have hq7 := hk7.2 (aN_ s) (by show aN_ s < aN_ s1 + 1; omega) (by omega)
      have hqn := hKn.2 (aN_ s) n5 id
      have hK7 : Kp (Mx x IL GS SL) s (nn_ (awI (a_nw 9 s1).2 x 94 (nI (p1 + 1))) (aN_ s1) (some 1121) (nI (tkp T eo n p1))) := Kp_in (Kp_tr hkn (x_Kp 94 _)) hk7 (fun a q => Or.inr (by omega))
      have z4 : aC_ (nn_ (awI (a_nw 9 s1).2 x 94 (nI (p1 + 1))) (aN_ s1) (some 1121) (nI (tkp T eo n p1))) = aC_ s1 + 1 := rfl
      have z5 : aZ_ (nn_ (awI (a_nw 9 s1).2 x 94 (nI (p1 + 1))) (aN_ s1) (some 1121) (nI (tkp T eo n p1))) = aZ_ s1 + 9 := rfl
      have := s_asg154 hv e h1 (ls.length + 1) s p dp us its gl R os sc nd CB ZB ls [] tl [] (aN_ s1) (nI (tkp T eo n p1)) (p1 + 1) nd1 _ (by simp) (by simp) hl1 (by omega) ⟨by rw [hq7.2.2.1]; show (aK_ (a_nw 9 s1).2 (aN_ s)).1 = 36; rw [hqn.2.2.1]; exact hl36, hq7.2.2.2.2.1.trans ((show aL_ (a_nw 9 s1).2 (aN_ s) = _ from hqn.2.2.2.2.1).trans hlL)⟩ hGc hsl (fun _ q => by simp at q) hE trivial hfl (fun _ q => by simp at q) (by rw [show flM [] = [] from rfl, List.append_nil]; exact hP7) hK7 ⟨by omega, by omega⟩ ⟨by omega, by simp; omega, by omega, by omega⟩ (by rw [show flM [] = [] from rfl]; simp; omega) hS ⟨by omega, m2, m3, m4, m5, m6⟩ hd ⟨by omega, by omega⟩ hw hI
      rw [hpq h16]
      exact this
    rw [f_dp (f := 78) hl36 rfl, Option.bind_some, hsz, cI_k]
    simp only [neq1_ 1 (show ls.length < 2 ^ 31 by omega) (by decide)]
    by_cases c1 : ls.length = 1
    · rw [if_pos c1]
      obtain ⟨i, kc, w, l, t, rfl, rfl, hkd, hap⟩ := hone c1
      have hNi : NR_ s1 (.inner i kc w l .leaf) := (hG.1 _ (by simp)).1
      have g25 : pS_ (Kn T) V T.length lx 25 0 p os.length (R, [t].reverse ++ os, p1, dp, sc, nd1) = (if Kn T p1 = 14 ∨ Kn T p1 = 16 then ok_ ((26, 1, p, os.length) :: R, [t].reverse ++ os, p1, dp, sc, nd1) else (if kd_ t = 6 ∧ pr_ t = false then sf_ 21 p os.length 0 ok_ (R, [t].reverse ++ os, p1, dp, sc, nd1) else fl_ p1)) := rfl
      clear hone
      have hpe1 : (¬ (kd_ t = 6 ∧ pr_ t = false)) → Kn T p1 ≠ 16 → pR_ (Kn T) V T.length lx ((25, 0, p, os.length) :: R, [t].reverse ++ os, p1, dp, sc, nd1) = some (.error p1) := fun hn h16 => pR_er (gs := R) (pb_I (by first | omega | (simp only [List.length_cons]; omega)) (by first | omega | (simp only [List.length_cons]; omega)) (by omega) (by omega) (by omega) (by omega) (by omega) (by omega)) (g25.trans (by rw [if_neg (fun h => h.elim c14 h16), if_neg hn]; rfl))
      have hpe2 : Kn T p1 = 16 → pR_ (Kn T) V T.length lx ((25, 0, p, os.length) :: R, [t].reverse ++ os, p1, dp, sc, nd1) = pR_ (Kn T) V T.length lx ([(28, 0, 0, 0), (27, 8192 * [(.inner i kc w l .leaf : cr_)].length + 1, p, os.length)] ++ R, ([t] ++ []).reverse ++ os, p1 + 1, dp, sc, nd1) := fun h16 => by
        have := h25 (Or.inr h16)
        rw [if_pos (show [(.inner i kc w l .leaf : cr_)].length = 1 from rfl)] at this
        rw [this]
        exact pR_ok (gs := R) (pb_I (by first | omega | (simp only [List.length_cons]; omega)) (by first | omega | (simp only [List.length_cons]; omega)) (by omega) (by omega) (by omega) (by omega) (by omega) (by omega)) ((g26 1 (by omega)).trans (by rw [if_neg c14, if_pos h16]; rfl))
      rw [if_pos c1]
      rw [show (vi_ 0 : pj_V) = vi_ (nI 0) from rfl, C_lget (e + 4) hl36 hlL (by simp) (k := 0) (y := i) rfl hNi, n_gr (f := 99) (NF_isN hNi.1) (by decide), Option.bind_some, hNi.1.2.1]
      by_cases ck : kc = 1098
      · rw [if_pos (by rw [ck]), C_lget (e + 4) hl36 hlL (by simp) (k := 0) (y := i) rfl hNi, n_gi (f := 102) (NF_isN hNi.1) (by decide), Option.bind_some, hNi.1.2.2.1.2.2.1, hap]
        cases hpr : pr_ t with
        | true =>
          rw [if_neg (show ¬ bz_ true = 0 by decide)]
          exact hmust _ (hpe1 (fun h => by rw [hpr] at h; exact absurd h.2 (by decide))) hpe2
        | false =>
          rw [if_pos (show bz_ false = 0 from rfl), C_is (e + 2) hP1 n4 (c := 1078) (kk := 16) rfl (by omega) (by decide +kernel)]
          by_cases c16 : Kn T p1 = 16
          · rw [if_neg (by simp [c16, zb_])]
            exact hmust _ (fun h => absurd c16 h) hpe2
          · rw [if_pos (by simp [c16, zb_])]
            have b1 : pR_ (Kn T) V T.length lx ((25, 0, p, os.length) :: R, [t].reverse ++ os, p1, dp, sc, nd1) = pR_ (Kn T) V T.length lx (R, st_ 21 p 0 nd1 [t] :: os, p1, dp, sc, nd1 + 1) := pR_ok (gs := R) (pb_I (by first | omega | (simp only [List.length_cons]; omega)) (by first | omega | (simp only [List.length_cons]; omega)) (by omega) (by omega) (by omega) (by omega) (by omega) (by omega)) (g25.trans (by rw [if_neg (fun h => h.elim c14 c16), if_pos ⟨hkd.mp ck, hpr⟩]; exact sf_app (kk := 21) (a := 0) (f := ok_) [t]))
            obtain ⟨s3, e3, hP3, hG3, hK3, cc3, cz3, cN3⟩ := C_mk2 (e + 3) (kc := 1120) hP1 ct
            rw [e3, nw_1, b1]
            have hG13 := GL_Kp hG hK3 (fun _ q => q.elim) (fun _ _ q => q.elim)
            have hGc := GL_cons hG13 hG3 trivial (GL_lt hG) (show aN_ s + 1 ≤ aN_ s1 by omega)
            have hq3 := hK3.2 (aN_ s) n5 id
            rw [C_lget (e + 4) (by rw [hq3.2.2.1]; exact hl36) (hq3.2.2.2.2.1.trans hlL) (by simp) (k := 0) (y := i) rfl (show NR_ s3 (.inner i kc w l .leaf) from (hG13.1 _ (by simp)).1)]
            obtain ⟨s4, e4, hG4, hP4, hK4, cc4, cz4, cN4⟩ := C_withG (e + 4) hP3 hw1 hGc
            rw [e4]
            have hG4 : GL s4 (aN_ s + 1) [.inner (aN_ s1) 1120 (nI (tkp T eo n p), nI (tkp T eo n p), 0, [], 0, none) (.inner i kc w l .leaf) .leaf] := hG4
            have hTG : TG s4 (aN_ s) (.inner (aN_ s1) 1120 (nI (tkp T eo n p), nI (tkp T eo n p), 0, [], 0, none) (.inner i kc w l .leaf) .leaf) := ⟨(hG4.1 _ (by simp)).1, by simpa [flI] using hG4.2.1, fun b hb => by have := hG4.2.2 b (by simpa [flI] using hb); omega⟩
            have hit : itm (.inner (aN_ s1) 1120 (nI (tkp T eo n p), nI (tkp T eo n p), 0, [], 0, none) (.inner i kc w l .leaf) .leaf) = itm (.inner i kc w l .leaf) := (itm_c rfl (by decide)).trans rfl
            have hfl1 : flM [(.inner i kc w l .leaf : cr_)] = itm (.inner i kc w l .leaf) := by simp [flM]
            rw [hfl1] at hP4 hil
            have hkk : Kp (Mx x IL GS SL) s s4 := Kp_in (Kp_tr hK1 (Kp_wk hK3 (fun _ _ q => q.elim))) hK4 (fun a ha => Or.inr (by omega))
            exact Or.inr ⟨_, _, _, rfl, rfl, _, aN_ s1, 1120, _, _, _, _, _, rfl, rfl, ⟨er_k (k := 21) (by decide) (er_one hE.1) rfl, fm_ge (Nat.le_refl _) (fun u hu => hfl u hu), rfl⟩, hTG, by rw [hit]; exact hP4, hkk, ⟨by omega, by omega⟩, ⟨by omega, by simp at n2 ⊢; omega, by omega, n4⟩, ⟨by omega, by omega, fun _ => rfl⟩, by rw [hit]; omega⟩
      · rw [if_neg (fun q => ck (Option.some.inj q))]
        exact hmust _ (hpe1 (fun h => ck (hkd.mpr h.1))) hpe2
    · rw [if_neg c1, if_neg c1]
      refine hmust _ (fun h16 => pR_er (gs := R) (pb_I (by first | omega | (simp only [List.length_cons]; omega)) (by first | omega | (simp only [List.length_cons]; omega)) (by omega) (by omega) (by omega) (by omega) (by omega) (by omega)) ((g26 _ (by omega)).trans (by rw [if_neg c14, if_neg h16]; rfl))) (fun h16 => ?_)
      rw [List.append_nil]
      exact pR_ok (gs := R) (pb_I (by first | omega | (simp only [List.length_cons]; omega)) (by first | omega | (simp only [List.length_cons]; omega)) (by omega) (by omega) (by omega) (by omega) (by omega) (by omega)) ((g26 _ (by omega)).trans (by rw [if_neg c14, if_pos h16]; rfl))
theorem s_asg (hv : HV T eo V L lx) (d : Nat) (h1 : SX T eo n V L lx ids iE x TL IL GS SL (XB T eo n false) 0 d 280 [vr_ (some x)] (fun _ => [(28, 0, 0, 0)]) (fun _ => True) 20 19 true) (s p dp us its gl R os sc nd CB ZB) (hP : PSt T eo n ids iE x TL IL GS SL s p dp us its gl) (hS : SV L us.reverse sc) (hM : Mn T 7 R.length os.length p dp sc.length nd) (hd : 20 * (61 - dp) + 20 ≤ d + 1) (hC : Cn T s p (CB - 3) (ZB - 40)) (hI : its.length ≤ p) : RL T eo n V lx x IL GS SL s CB ZB (aE (d + 1) 289 [vr_ (some x)] s) (pR_ (Kn T) V T.length lx ((28, 0, 0, 0) :: (25, 0, p, os.length) :: R, os, p, dp, sc, nd)) (QX T eo n ids iE x TL IL GS SL XC 1 true s p dp us its gl R os sc nd) := by
  obtain ⟨m1, m2, m3, m4, m5, m6⟩ := id hM
  have hTl : T.length < 2600 := hv.1
  obtain ⟨e, rfl⟩ : ∃ e, d = e + 5 := ⟨d - 5, by omega⟩
  have hw := PSt_Lw hP
  have hCa := hC.1
  have hCb := hC.2
  have hN : 4000 ≤ aN_ s := by have := hP.1.1; omega
  obtain ⟨tk, ln, ct, et⟩ := C_peek (e + 3) hP m3
  rw [ce_X13_assignment, et, l_newL, cV_k, nw_1]
  have hk2 : Kp (fun _ => False) s (awL (a_nw 36 s).2 (aN_ s) []) := Kp_L (Kp_new Kp_rf (36, 0)) [] (Or.inr (Nat.le_refl _))
  have hP2 := PSt_Kp hP hk2 (fun _ q => q.elim) (fun _ q => q.elim)
  have ct2 := CT_Kp ct hk2 (fun _ q => q.elim)
  have z1 : aC_ (awL (a_nw 36 s).2 (aN_ s) []) = aC_ s + 1 := rfl
  have z2 : aZ_ (awL (a_nw 36 s).2 (aN_ s) []) = aZ_ s + 3 := rfl
  have z3 : aN_ (awL (a_nw 36 s).2 (aN_ s) []) = aN_ s + 1 := rfl
  have h36 : (aK_ (awL (a_nw 36 s).2 (aN_ s) []) (aN_ s)).1 = 36 := by
    show (aK_ (anew s (36, 0)) (aN_ s)).1 = 36
    rw [aK_anew, if_pos ⟨hN, rfl⟩]
  have hL0 : aL_ (awL (a_nw 36 s).2 (aN_ s) []) (aN_ s) = [] := by rw [aL_awL, if_pos rfl]
  rw [f_dp (f := 280) hP2.1.1.2.2 rfl, Option.bind_some]
  refine RL_bind (h1 _ p dp us its gl ((25, 0, p, os.length) :: R) os sc nd CB ZB hP2 hS ⟨by simp; omega, m2, m3, m4, m5, m6⟩ (by omega) ⟨by omega, by omega⟩ trivial hI) (Kp_wk hk2 (fun _ _ q => q.elim)) fun σ v s4 q => ?_
  obtain ⟨t2, j2, k2, w2, l2, p3, dp3, nd3, rfl, rfl, ⟨b0, b1, b2, b3, b4, b5, b6, b7⟩, hG4, hP4, hK4, ⟨cc4, cz4⟩, ⟨n6, n7, n8, n9⟩, ⟨d5, d6, d7⟩, hil4⟩ := q
  obtain rfl := d7 rfl
  have hN4 : aN_ s + 1 ≤ aN_ s4 := hK4.1
  have hx2 := hK4.2 (aN_ s) (by show aN_ s < aN_ s + 1; omega) (fun q => by have := Mx_lt hw _ q; omega)
  have h364 : (aK_ s4 (aN_ s)).1 = 36 := by rw [hx2.2.2.1]; exact h36
  have hL4 : aL_ s4 (aN_ s) = [] := hx2.2.2.2.2.1.trans hL0
  rw [f_dp (f := 73) h364 rfl, Option.bind_some, l_add, cI_k]
  have hk5 : Kp (fun a => a = aN_ s) s4 (al_add s4 (aN_ s) (some j2)) := Kp_L Kp_rf _ (Or.inl rfl)
  have hM5 : ∀ a, a = aN_ s → (aK_ s4 a).1 ≠ 26 ∧ (aK_ s4 a).1 ≠ 14 := fun a q => by subst q; rw [h364]; decide
  have hP5 := PSt_hi hP4 hw hk5 hM5 (fun a q => by omega)
  have hG5 : TG (al_add s4 (aN_ s) (some j2)) (aN_ s + 1) (.inner j2 k2 w2 l2 .leaf) := TG_Kp hG4 hk5 hM5 (fun a ha q => by have := hG4.2.2 a ha; omega)
  have ct5 := CT_Kp (CT_Kp ct2 hK4 (Mx_cl hP2)) hk5 hM5
  have hfl1 : flM [(.inner j2 k2 w2 l2 .leaf : cr_)] = itm (.inner j2 k2 w2 l2 .leaf) := by simp [flM]
  exact s_asg24 hv e h1 (T.length - p3 + 1) s p dp3 us its gl R os sc nd CB ZB [.inner j2 k2 w2 l2 .leaf] [t2] tk ln p3 nd3 _ (Nat.lt_succ_self _) (Nat.le_refl _) (by show 1 + p ≤ _; omega) ⟨h364, by
    show aL_ (awL s4 (aN_ s) _) (aN_ s) = _
    rw [aL_awL, if_pos rfl, hL4]
    rfl⟩ (TG_1 hG5 trivial) (fun c hc => by simp at hc; subst hc; trivial) ⟨b0, trivial⟩ (fun u hu => by simp at hu; subst hu; omega) (fun _ => ⟨_, _, _, _, _, rfl, rfl, b5, b3⟩) ct5 (by rw [hfl1]; exact hP5) (Kp_L (Kp_tr (Kp_wk hk2 (fun _ _ q => q.elim)) hK4) _ (Or.inr (Nat.le_refl _))) ⟨by show aC_ s4 + 1 + 10 * p ≤ _; omega, by show aZ_ s4 + 10 + 100 * p ≤ _; omega⟩ ⟨by omega, by show os.length + 1 ≤ _; omega, by omega, n9, by show aN_ s < aN_ s4; omega⟩ (by rw [hfl1]; omega) hS hM (by omega) hC hw hI
end pc5
