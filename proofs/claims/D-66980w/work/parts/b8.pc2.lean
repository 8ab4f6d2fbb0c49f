/-! ===== the two parsers side by side: a command and REPEATs behind it ===== -/
section pc2
variable {T : List tk_} {eo : Option Nat} {n : Nat} {V : Nat → Int32} {L : List (List Int32)} {lx : Bool} {ids : List Nat} {iE x TL IL GS SL : Nat}
theorem cf_k {k tok nd : Nat} {ts : List tr_} (h : k ∈ [21, 22, 23, 24, 25, 26, 28, 33, 36, 38, 39, 40, 43, 59]) : cf T eo n (st_ k tok 0 nd ts) = .inner 0 (kcQ k) (yp_ T eo n tok [] none) (cf T eo n (lkT ts)) .leaf := by
  simp only [List.mem_cons, List.not_mem_nil, or_false] at h
  rcases h with rfl | rfl | rfl | rfl | rfl | rfl | rfl | rfl | rfl | rfl | rfl | rfl | rfl | rfl <;> rfl
theorem er_k {a k tok nd : Nat} {lC : cr_} {ts : List tr_} (h : k ∈ [21, 22, 23, 24, 25, 26, 28, 33, 36, 38, 39, 40, 43, 59]) (hl : er lC = cf T eo n (lkT ts)) {kc : Nat} (hkc : kc = kcQ k) {fs : Int32} : er (.inner a kc (nI (tkp T eo n tok), fs, 0, [], 0, none) lC .leaf) = cf T eo n (st_ k tok 0 nd ts) := by
  rw [cf_k h, hkc]
  refine er_y ?_ ?_ hl
  · simp only [List.mem_cons, List.not_mem_nil, or_false] at h
    rcases h with rfl | rfl | rfl | rfl | rfl | rfl | rfl | rfl | rfl | rfl | rfl | rfl | rfl | rfl <;> decide
  · simp only [List.mem_cons, List.not_mem_nil, or_false] at h
    rcases h with rfl | rfl | rfl | rfl | rfl | rfl | rfl | rfl | rfl | rfl | rfl | rfl | rfl | rfl <;> decide
theorem s_cmd10 (hv : HV T eo V L lx) (e : Nat) (h1 : SX T eo n V L lx ids iE x TL IL GS SL (XB T eo n false) 0 (e + 5) 280 [vr_ (some x)] (fun _ => [(28, 0, 0, 0)]) (fun _ => True) 20 19 true) : ∀ (m : Nat) s p dp us its gl R os sc nd CB ZB t i kc w lC p1 dq nd1 s1, T.length - p1 < m → XA T eo n ids iE x TL IL GS SL XC 1 false s p dp us its gl os nd t i kc w lC p1 dq nd1 s1 → SV L us.reverse sc → Mn T 5 R.length os.length p dp sc.length nd → 20 * (61 - dp) + 22 ≤ e + 6 → Cn T s p (CB - 3) (ZB - 40) → Lw x TL IL GS SL (aN_ s) → its.length ≤ p →
    RL T eo n V lx x IL GS SL s CB ZB (aJ (e + 6) 287 10 [vr_ (some x), vr_ (some i), vi_ (nI dp)] [] s1) (pR_ (Kn T) V T.length lx ((12, dp, 0, os.length) :: R, t :: os, p1, dq, sc, nd1)) (QX T eo n ids iE x TL IL GS SL XC 1 true s p dp us its gl R os sc nd) := by
  have hTl : T.length < 2600 := hv.1
  intro m
  induction m with
  | zero =>
    intro s p dp us its gl R os sc nd CB ZB t i kc w lC p1 dq nd1 s1 hm
    exact absurd hm (Nat.not_lt_zero _)
  | succ m ih =>
    intro s p dp us its gl R os sc nd CB ZB t i kc w lC p1 dq nd1 s1 hm q hS hM hd hC hw hI
    obtain ⟨m1, m2, m3, m4, m5, m6⟩ := id hM
    obtain ⟨⟨a0, a1⟩, hG, hP1, hK1, ⟨c1, c2⟩, ⟨n1, n2, n3, n4⟩, ⟨d1, d2, d3⟩, hil⟩ := id q
    have a1f := a1
    have a1 : p ≤ fi_ t := a1.1
    have hN1 : aN_ s ≤ aN_ s1 := hK1.1
    have hCa := hC.1
    have hCb := hC.2
    have hC1 : Cn T s1 p1 CB ZB := ⟨by omega, by omega⟩
    have g12 : pS_ (Kn T) V T.length lx 12 dp 0 os.length (R, t :: os, p1, dq, sc, nd1) = (if Kn T p1 = 68 ∨ Kn T p1 = 69 ∨ Kn T p1 = 70 then
        (if dq = 60 then fl_ p1
        else if Kn T p1 = 68 then sf_ 38 p1 os.length 0 ok_ ((12, dp, 0, os.length) :: R, t :: os, p1 + 1, dq + 1, sc, nd1)
        else ok_ ((28, 0, 0, 0) :: (6, (if Kn T p1 = 69 then 39 else 40), p1, os.length) :: (12, dp, 0, os.length) :: R, t :: os, p1 + 1, dq + 1, sc, nd1))
      else ok_ (R, t :: os, p1, dp, sc, nd1)) := rfl
    rw [cj_X13_command_10, C_is (e + 2) hP1 n4 (c := 1045) (kk := 68) rfl (by omega) (by decide +kernel)]
    have h37 : (Kn T p1 = 68 ∨ Kn T p1 = 69 ∨ Kn T p1 = 70) → RL T eo n V lx x IL GS SL s CB ZB (aJ (e + 6) 287 37 [vr_ (some x), vr_ (some i), vi_ (nI dp)] [] s1) (pR_ (Kn T) V T.length lx ((12, dp, 0, os.length) :: R, t :: os, p1, dq, sc, nd1)) (QX T eo n ids iE x TL IL GS SL XC 1 true s p dp us its gl R os sc nd) := fun c => by
      have hlt : p1 < T.length := Kn_lt (by omega)
      rw [cj_X13_command_37]
      refine RL_enter (e + 1) hP1 n4 hK1 hC1 (fun h60 => ?_) (fun h60 => ?_)
      · exact pR_er (pb_I (by first | omega | (simp only [List.length_cons]; omega)) (by first | omega | (simp only [List.length_cons]; omega)) (by omega) (by omega) (by omega) (by omega) (by omega) (by omega)) (g12.trans (by rw [if_pos c, if_pos h60]; rfl))
      have hP2 := PSt_dp hP1 (d' := dq + 1) (by omega)
      have hGc : TG (awI s1 x 95 (nI (dq + 1))) (aN_ s) (.inner i kc w lC .leaf) := TG_Mx hG hP1 hw (x_Kp (x := x) (IL := IL) (GS := GS) (SL := SL) 95 (nI (dq + 1)))
      -- the node with the command in it
      have mk : ∀ kr, ∃ s4, (∀ K : Option Nat → as_ → cx_O as_, ((a_dp 274 (some x) (a_nw 9 (awI s1 x 95 (nI (dq + 1)))).2).bind fun m9 => cx_bR cx_th (aE (e + 5) m9 [vr_ (some x)] (a_nw 9 (awI s1 x 95 (nI (dq + 1)))).2) fun v11 s10 => (a_gi 85 v11 s10).bind fun v12 => cx_bV cx_th (aE (e + 5) 305 [vr_ (some (a_nw 9 (awI s1 x 95 (nI (dq + 1)))).1), vr_ (some kr), vi_ v12] s10) fun s13 => (a_dp 306 (some (a_nw 9 (awI s1 x 95 (nI (dq + 1)))).1) s13).bind fun m14 => cx_bR cx_th (aE (e + 5) m14 [vr_ (some (a_nw 9 (awI s1 x 95 (nI (dq + 1)))).1), vr_ (some i)] s13) K) = K (some (aN_ s1)) s4) ∧ PSt T eo n ids iE x TL IL GS SL s4 (p1 + 1) (dq + 1) us (its ++ itm (.inner i kc w lC .leaf)) gl ∧ TG s4 (aN_ s) (.inner (aN_ s1) kr (nI (tkp T eo n p1), nI (tkp T eo n p1), 0, [], 0, none) (.inner i kc w lC .leaf) .leaf) ∧ Kp (Mx x IL GS SL) s s4 ∧ aC_ s4 ≤ aC_ s1 + 1 ∧ aZ_ s4 ≤ aZ_ s1 + 9 ∧ aN_ s1 ≤ aN_ s4 := fun kr => by
        obtain ⟨s3, e3, hP3, hG3, hK3, cc3, cz3, cN3⟩ := C_mk (e + 3) hP2 n4 kr
        simp only [aC_awI, aZ_awI, aN_awI] at cc3 cz3 cN3 hG3
        have hGt : TG s3 (aN_ s) (.inner i kc w lC .leaf) := TG_Mx hGc hP2 hw hK3
        obtain ⟨s4, e4, hG4, hP4, hK4, cc4, cz4, cN4⟩ := C_with (e + 4) hP3 hw (TG_lo hG3 hN1) hGt (dj_gt (m := aN_ s1) hG3.2.2 (TG_lt hG))
        refine ⟨s4, fun K => ?_, hP4, hG4, Kp_in (Kp_tr (Kp_tr hK1 (x_Kp 95 _)) hK3) hK4 (fun a ha => Or.inr (Nat.le_trans hN1 (hG3.2.2 a ha))), by omega, by omega, by omega⟩
        rw [e3, nw_1, aN_awI, e4]
      rw [C_is (e + 2) hP2 n4 (c := 1045) (kk := 68) rfl (by omega) (by decide +kernel)]
      by_cases c8 : Kn T p1 = 68
      · rw [if_neg (by simp [c8, zb_])]
        obtain ⟨s4, e4, hP4, hG4, hK4, cc4, cz4, cN4⟩ := mk 1104
        rw [e4]
        have b1 : pR_ (Kn T) V T.length lx ((12, dp, 0, os.length) :: R, t :: os, p1, dq, sc, nd1) = pR_ (Kn T) V T.length lx ((12, dp, 0, os.length) :: R, st_ 38 p1 0 nd1 [t] :: os, p1 + 1, dq + 1, sc, nd1 + 1) := pR_ok (pb_I (by first | omega | (simp only [List.length_cons]; omega)) (by first | omega | (simp only [List.length_cons]; omega)) (by omega) (by omega) (by omega) (by omega) (by omega) (by omega)) (g12.trans (by rw [if_pos c, if_neg h60, if_pos c8]; exact sf_app (kk := 38) (a := 0) (f := ok_) [t]))
        rw [b1]
        have hit : itm (.inner (aN_ s1) 1104 (nI (tkp T eo n p1), nI (tkp T eo n p1), 0, [], 0, none) (.inner i kc w lC .leaf) .leaf) = itm (.inner i kc w lC .leaf) := (itm_c rfl (by decide)).trans rfl
        exact ih s p dp us its gl R os sc nd CB ZB _ (aN_ s1) 1104 _ _ (p1 + 1) (dq + 1) (nd1 + 1) s4 (by omega) ⟨⟨er_k (k := 38) (by decide) (er_one a0) rfl, fm_ge (by omega) (fun u hu => by simp at hu; subst hu; exact a1), rfl⟩, hG4, by rw [hit]; exact hP4, hK4, ⟨by omega, by omega⟩, ⟨by omega, by omega, by omega, by omega⟩, ⟨by omega, by omega, fun q => absurd q (by decide)⟩, by rw [hit]; omega⟩ hS hM hd hC hw hI
      rw [if_pos (by simp [c8, zb_]), C_is (e + 2) hP2 n4 (c := 1046) (kk := 69) rfl (by omega) (by decide +kernel)]
      have b1 : pR_ (Kn T) V T.length lx ((12, dp, 0, os.length) :: R, t :: os, p1, dq, sc, nd1) = pR_ (Kn T) V T.length lx ([(28, 0, 0, 0)] ++ ((6, (if Kn T p1 = 69 then 39 else 40), p1, os.length) :: (12, dp, 0, os.length) :: R), t :: os, p1 + 1, dq + 1, sc, nd1) := pR_ok (pb_I (by first | omega | (simp only [List.length_cons]; omega)) (by first | omega | (simp only [List.length_cons]; omega)) (by omega) (by omega) (by omega) (by omega) (by omega) (by omega)) (g12.trans (by rw [if_pos c, if_neg h60, if_neg c8]; rfl))
      -- both kinds that ask
      have ask : ∀ kr kk, kk ∈ [21, 22, 23, 24, 25, 26, 28, 33, 36, 38, 39, 40, 43, 59] → kr = kcQ kk → (isIt kr [] = false ∧ kr ≠ 1121 ∧ kr ≠ 1124) → kk = (if Kn T p1 = 69 then 39 else 40) → ∀ s4, PSt T eo n ids iE x TL IL GS SL s4 (p1 + 1) (dq + 1) us (its ++ itm (.inner i kc w lC .leaf)) gl → TG s4 (aN_ s) (.inner (aN_ s1) kr (nI (tkp T eo n p1), nI (tkp T eo n p1), 0, [], 0, none) (.inner i kc w lC .leaf) .leaf) → Kp (Mx x IL GS SL) s s4 → aC_ s4 ≤ aC_ s1 + 1 → aZ_ s4 ≤ aZ_ s1 + 9 → aN_ s1 ≤ aN_ s4 → RL T eo n V lx x IL GS SL s CB ZB ((a_dp 280 (some x) s4).bind fun m17 => cx_bR cx_th (aE (e + 5) m17 [vr_ (some x)] s4) fun v19 s18 => (a_dp 306 (some (aN_ s1)) s18).bind fun m20 => cx_bR cx_th (aE (e + 5) m20 [vr_ (some (aN_ s1)), vr_ v19] s18) fun v22 s21 => aJ (e + 6) 287 10 [vr_ (some x), vr_ v22, vi_ (nI dp)] [] s21) (pR_ (Kn T) V T.length lx ([(28, 0, 0, 0)] ++ ((6, (if Kn T p1 = 69 then 39 else 40), p1, os.length) :: (12, dp, 0, os.length) :: R), t :: os, p1 + 1, dq + 1, sc, nd1)) (QX T eo n ids iE x TL IL GS SL XC 1 true s p dp us its gl R os sc nd) := fun kr kk hkk hkr hx hk2 s4 hP4 hG4 hK4 cc4 cz4 cN4 => by
        have hk40 : kk = 39 ∨ kk = 40 := by
          rw [hk2]
          split
          · exact Or.inl rfl
          · exact Or.inr rfl
        rw [← hk2]
        refine RL_with (e + 4) h1 rfl hP4 hS (R := (6, kk, p1, os.length) :: (12, dp, 0, os.length) :: R) ⟨by simp; omega, by simp; omega, by omega, by omega, by omega, by omega⟩ (by omega) ⟨by omega, by omega⟩ trivial (by simp; omega) hK4 (Nat.le_refl _) hw hG4 (by omega) fun t2 j2 k2 w2 l2 p2 dp2 nd2 s6 ⟨b0, b1, b3, b4, b5, b6, b7, b8⟩ hG6 hP6 hK6 ⟨cc6, cz6⟩ ⟨n5, n6, n7, n8⟩ ⟨d5, d6, d7⟩ hil6 hN6 => ?_
        simp only [List.length_cons] at n6
        obtain rfl := d7 rfl
        have g6 : pR_ (Kn T) V T.length lx ((6, kk, p1, os.length) :: (12, dp, 0, os.length) :: R, t2 :: t :: os, p2, dq + 1, sc, nd2) = pR_ (Kn T) V T.length lx ((12, dp, 0, os.length) :: R, st_ kk p1 0 nd2 [t, t2] :: os, p2, dq + 1, sc, nd2 + 1) := by
          refine pR_ok (pb_I (by first | omega | (simp only [List.length_cons]; omega)) (by first | omega | (simp only [List.length_cons]; omega)) (by omega) (by omega) (by omega) (by omega) (by omega) (by omega)) ?_
          show (if kk < 100 ∧ kk ≠ 20 then _ else _) = _
          rw [if_pos (by omega)]
          exact sf_app (a := 0) (f := ok_) [t2, t]
        rw [g6]
        have hit : itm (.inner (aN_ s1) kr (nI (tkp T eo n p1), nI (tkp T eo n p1), 0, [], 0, none) (snC (.inner i kc w lC .leaf) (.inner j2 k2 w2 l2 .leaf)) .leaf) = itm (.inner i kc w lC .leaf) ++ itm (.inner j2 k2 w2 l2 .leaf) := by
          rw [itm_c hx.1 hx.2]
          exact itm_sn _ _
        exact ih s p dp us its gl R os sc nd CB ZB _ (aN_ s1) kr _ _ p2 (dq + 1) (nd2 + 1) s6 (by omega) ⟨⟨er_k hkk (er_app (ts := [t]) (er_one a0) b0) hkr, fm_ge (by omega) (fun u hu => by simp at hu; rcases hu with rfl | rfl; exact a1; omega), KC_m hkk⟩, hG6, by rw [hit, ← List.append_assoc]; exact hP6, hK6, ⟨by omega, by omega⟩, ⟨by omega, by omega, by omega, by omega⟩, ⟨by omega, by omega, fun q => absurd q (by decide)⟩, by rw [hit]; simp; omega⟩ hS hM hd hC hw hI
      by_cases c9 : Kn T p1 = 69
      · rw [if_neg (by simp [c9, zb_])]
        obtain ⟨s4, e4, hP4, hG4, hK4, cc4, cz4, cN4⟩ := mk 1105
        rw [e4, b1]
        exact ask 1105 39 (by decide) rfl (by decide) (by rw [if_pos c9]) s4 hP4 hG4 hK4 cc4 cz4 cN4
      · rw [if_pos (by simp [c9, zb_])]
        obtain ⟨s4, e4, hP4, hG4, hK4, cc4, cz4, cN4⟩ := mk 1106
        rw [e4, b1]
        exact ask 1106 40 (by decide) rfl (by decide) (by rw [if_neg c9]) s4 hP4 hG4 hK4 cc4 cz4 cN4
    by_cases c8 : Kn T p1 = 68
    · rw [if_neg (by simp [c8, zb_])]
      exact h37 (Or.inl c8)
    rw [if_pos (by simp [c8, zb_]), C_is (e + 2) hP1 n4 (c := 1046) (kk := 69) rfl (by omega) (by decide +kernel)]
    by_cases c9 : Kn T p1 = 69
    · rw [if_neg (by simp [c9, zb_])]
      exact h37 (Or.inr (Or.inl c9))
    rw [if_pos (by simp [c9, zb_]), C_is (e + 2) hP1 n4 (c := 1047) (kk := 70) rfl (by omega) (by decide +kernel)]
    by_cases c0 : Kn T p1 = 70
    · rw [if_neg (by simp [c0, zb_])]
      exact h37 (Or.inr (Or.inr c0))
    rw [if_pos (by simp [c0, zb_]), C_dps hP1]
    have b2 : pR_ (Kn T) V T.length lx ((12, dp, 0, os.length) :: R, t :: os, p1, dq, sc, nd1) = pR_ (Kn T) V T.length lx (R, t :: os, p1, dp, sc, nd1) := pR_ok (pb_I (by first | omega | (simp only [List.length_cons]; omega)) (by first | omega | (simp only [List.length_cons]; omega)) (by omega) (by omega) (by omega) (by omega) (by omega) (by omega)) (g12.trans (by rw [if_neg (fun h => h.elim c8 (fun h => h.elim c9 c0))]; rfl))
    exact Or.inr ⟨_, _, _, b2, rfl, t, i, kc, w, lC, p1, dp, nd1, rfl, rfl, ⟨a0, a1f⟩, TG_Mx hG hP1 hw (x_Kp (x := x) (IL := IL) (GS := GS) (SL := SL) 95 (nI dp)), PSt_dp hP1 (by omega), Kp_tr hK1 (x_Kp 95 _), ⟨c1, c2⟩, ⟨n1, n2, n3, n4⟩, ⟨by omega, by omega, fun _ => rfl⟩, hil⟩
/-- a command, from what begins it -/
theorem s_cmd (hv : HV T eo V L lx) (d : Nat) (h0 : ∀ s p dp us its gl R os sc nd CB ZB, PSt T eo n ids iE x TL IL GS SL s p dp us its gl → SV L us.reverse sc → Mn T 5 R.length os.length p dp sc.length nd → 20 * (61 - dp) + 21 ≤ d → Cn T s p (CB - 3) (ZB - 40) → its.length ≤ p → RL T eo n V lx x IL GS SL s CB ZB (aE d 288 [vr_ (some x)] s) (pR_ (Kn T) V T.length lx ((11, 0, 0, 0) :: R, os, p, dp, sc, nd)) (QX T eo n ids iE x TL IL GS SL XC 1 true s p dp us its gl ((12, dp, 0, os.length) :: R) os sc nd)) (h1 : SX T eo n V L lx ids iE x TL IL GS SL (XB T eo n false) 0 d 280 [vr_ (some x)] (fun _ => [(28, 0, 0, 0)]) (fun _ => True) 20 19 true) : SX T eo n V L lx ids iE x TL IL GS SL XC 1 (d + 1) 287 [vr_ (some x)] (fun _ => [(11, 0, 0, 0)]) (fun _ => True) 5 22 true := by
  intro s p dp us its gl R os sc nd CB ZB hP hS hM hd hC _ hI
  obtain ⟨m1, m2, m3, m4, m5, m6⟩ := id hM
  obtain ⟨e, rfl⟩ : ∃ e, d = e + 5 := ⟨d - 5, by omega⟩
  have hw := PSt_Lw hP
  rw [ce_X13_command, f_dp (f := 288) hP.1.1.2.2 rfl, Option.bind_some]
  refine RL_bind (h0 s p dp us its gl R os sc nd CB ZB hP hS hM (by omega) hC hI) Kp_rf fun σ v s2 q2 => ?_
  obtain ⟨t2, j2, k2, w2, l2, p2, dp2, nd2, rfl, rfl, q2⟩ := q2
  obtain ⟨r1, r2, r3, r4, r5, r6, ⟨r7, r8, r9⟩, r10⟩ := q2
  obtain rfl := r9 rfl
  rw [C_dp r3]
  exact s_cmd10 hv e h1 (T.length - p2 + 1) s p dp2 us its gl R os sc nd CB ZB t2 j2 k2 w2 l2 p2 dp2 nd2 s2 (Nat.lt_succ_self _) ⟨r1, r2, r3, r4, r5, r6, ⟨r7, r8, fun q => absurd q (by decide)⟩, r10⟩ hS hM hd hC hw hI
end pc2
