/-! ===== the two parsers side by side: signs ahead ===== -/
section px5
variable {T : List tk_} {eo : Option Nat} {n : Nat} {V : Nat → Int32} {L : List (List Int32)} {lx : Bool} {ids : List Nat} {iE x TL IL GS SL : Nat}
variable {s s' s0 : as_} {i kc lo p dp : Nat} {v : cp_w} {l : cr_} {us : List (List Int32)} {its : List Nat} {gl : List ((List Int32 ⊕ Int32) × Option Nat)}
theorem cf_10 {y : Int32} {tok nd : Nat} {ts : List tr_} : cf T eo n (st_ 10 tok y nd ts) = .inner 0 (if y = 21 then 1092 else if y = 22 then 1093 else 1094) (xp_ T eo n (tok, y, 0, fm_ tok ts, false) [] 0 none) (cf T eo n (lkT ts)) .leaf := rfl
/-- the text of a token is this one, or not -/
theorem C_teq (d : Nat) {t c : Nat} {k pl ln w : Int32} {txt tag : List Int32} {Kc : Int32 → as_ → cx_O as_} (t1 : CT s t k pl ln w txt tag) (hc : ak_K c = (26, 0)) (hc3 : c < 3000) : ((a_gr 88 (some t) s).bind fun v9 => (a_dp 99 v9 s).bind fun m10 => cx_bI cx_th (aE (d + 1) m10 [vr_ v9, vr_ (some c)] s) Kc) = Kc (a_b (decide (txt = ak_S c))) s := by
  obtain ⟨a, ea, z1, z2, z3⟩ := t1.2.2.1
  rw [f_gr (f := 88) (c := 14) (by rw [t1.1.2.2]) rfl, Option.bind_some, ea, f_dp (f := 99) z1 rfl, Option.bind_some, l_equals, cI_k, ak_key s c hc hc3, z3]
  by_cases q : txt = ak_S c
  · simp [q]
  · have : ¬ ak_S c = txt := fun w => q w.symm
    simp [q, this]
theorem tx_of (hT : TA s TL ids iE T eo n) {c k : Nat} (hg : gdk_ c k = true) (h : Kn T p = k) : tkx T p = ak_S c := by
  have := is_ok (p := p) hT hg
  rw [h] at this
  exact (this.mpr rfl).2
theorem tx_ne (hT : TA s TL ids iE T eo n) {c k : Nat} (hg : gdk_ c k = true) (h : Kn T p ≠ k) (h3 : tkk T eo p = 3 ∨ tkk T eo p = 4) : tkx T p ≠ ak_S c := fun q => by
  have := is_ok (p := p) hT hg
  exact h (this.mp ⟨h3, q⟩)
theorem tk_34 (hT : TA s TL ids iE T eo n) (h : 10 ≤ Kn T p) : tkk T eo p = 3 ∨ tkk T eo p = 4 := by
  unfold tkk Kn at *
  cases hy : T[p]? with
  | none => rw [hy] at h; dsimp only at h; omega
  | some y =>
    rw [hy] at h
    dsimp only at h ⊢
    rcases cw_cs (tk_v hT hy) with ⟨e1, e2⟩ | ⟨e1, e2⟩ | ⟨e1, e2⟩ | ⟨e1, e2, e3, e4⟩ | ⟨e1, e2, e3, e4, e5⟩
    · omega
    · omega
    · omega
    · exact Or.inl e3
    · exact Or.inr e4
/-- + - ~ ahead -/
theorem s_pre109 (hv : HV T eo V L lx) (e : Nat) (h2 : SX T eo n V L lx ids iE x TL IL GS SL (XB T eo n true) 0 (e + 5) 282 [vr_ (some x)] (fun _ => [(33, 0, 0, 0)]) (fun _ => True) 40 9 true) (s p dp us its gl R os sc nd CB ZB tk ln kc s1) (hP1 : PSt T eo n ids iE x TL IL GS SL s1 (p + 1) (dp + 1) us its gl) (hK1 : Kp (Mx x IL GS SL) s s1) (y1 : aC_ s1 = aC_ s) (y2 : aZ_ s1 = aZ_ s) (y3 : aN_ s1 = aN_ s) (ct : CT s1 tk (tkk T eo p) (nI (tkp T eo n p)) ln (tkv T p) (tkx T p) (tkg T p)) (hkc : kc = if nI (Kn T p) = 21 then 1092 else if nI (Kn T p) = 22 then 1093 else 1094) (hlt : p < T.length) (h60 : dp ≠ 60)
    (hS : SV L us.reverse sc) (hM : Mn T 40 R.length os.length p dp sc.length nd) (hd : 20 * (61 - dp) + 9 ≤ e + 6) (hC : Cn T s p CB ZB) (hw : Lw x TL IL GS SL (aN_ s)) (hI : its.length ≤ p) :
    RL T eo n V lx x IL GS SL s CB ZB (aJ (e + 6) 282 109 [vr_ (some x), vr_ (some tk)] [vr_ (some kc), vr_ (some (a_nw 9 s1).1), vr_ (some (a_nw 9 s1).1)] (a_nw 9 s1).2) (pR_ (Kn T) V T.length lx ([(33, 0, 0, 0)] ++ ((37, 1, p, os.length) :: (15, dp, 0, 0) :: R), os, p + 1, dp + 1, sc, nd)) (QX T eo n ids iE x TL IL GS SL (XB T eo n true) 0 true s p dp us its gl R os sc nd) := by
  obtain ⟨m1, m2, m3, m4, m5, m6⟩ := id hM
  have hTl : T.length < 2600 := hv.1
  have hx : xk_ kc = true ∧ (kc ≠ 1121 ∧ kc ≠ 1089 ∧ kc ≠ 1124 ∧ kc ≠ 1098) ∧ isIt kc [] = false := by
    subst hkc
    split
    · decide
    · split <;> decide
  rw [cj_X13_prefixed_109]
  obtain ⟨s3, e3, hP3, hG3, hK3, cc3, cz3, cN3⟩ := C_mk2 (e + 3) (kc := kc) hP1 ct
  rw [e3, nw_1]
  have hCa := hC.1
  have hCb := hC.2
  refine RL_with (e + 4) h2 rfl hP3 hS (R := (37, 1, p, os.length) :: (15, dp, 0, 0) :: R) ⟨by simp; omega, by omega, by omega, by omega, by omega, by omega⟩ (by omega) ⟨by omega, by omega⟩ trivial (by omega) (Kp_tr hK1 (Kp_wk hK3 (fun _ _ q => q.elim))) (Nat.le_refl _) hw (TG_lo hG3 (by omega)) (by omega) fun t2 j2 k2 w2 l2 p2 dp2 nd2 s6 ⟨b0, b1, b3, b4, b5, b6, b7, b8⟩ hG6 hP6 hK6 ⟨cc6, cz6⟩ ⟨n5, n6, n7, n8⟩ ⟨d5, d6, d7⟩ hil6 hN6 => ?_
  try simp only [List.length_cons] at n6
  obtain rfl := d7 rfl
  rw [show snC .leaf (.inner j2 k2 w2 l2 .leaf) = .inner j2 k2 w2 l2 .leaf from rfl] at hG6
  rw [C_less hP6]
  have hP8 := PSt_dp hP6 (d' := dp) (by omega)
  have hG8 := TG_Mx hG6 hP6 hw (x_Kp (x := x) (IL := IL) (GS := GS) (SL := SL) 95 (nI dp))
  have hM6 : Mn T 41 ((15, dp, 0, 0) :: R).length (t2 :: os).length p2 (dp + 1) sc.length nd2 := ⟨by simp; omega, by simp; omega, n8, by omega, by omega, by omega⟩
  have hfm : fm_ p [t2] = p := by
    show (if fi_ t2 < p then fi_ t2 else p) = p
    rw [if_neg (by omega)]
  have g37 : pR_ (Kn T) V T.length lx ((37, 1, p, os.length) :: (15, dp, 0, 0) :: R, t2 :: os, p2, dp + 1, sc, nd2) = pR_ (Kn T) V T.length lx (R, st_ 10 p (nI (Kn T p)) nd2 [t2] :: os, p2, dp, sc, nd2 + 1) := by
    refine (pR_ok (Mn_pb hM6 (by omega) (by omega) (by omega) (by omega) (by omega)) (σ := ((15, dp, 0, 0) :: R, st_ 10 p (nI (Kn T p)) nd2 [t2] :: os, p2, dp + 1, sc, nd2 + 1)) ?_).trans ?_
    · show pg_37 (Kn T) V T.length lx 1 p os.length ((15, dp, 0, 0) :: R, t2 :: os, p2, dp + 1, sc, nd2) = _
      unfold pg_37
      dsimp only
      rw [if_pos rfl, if_pos hlt]
      exact sf_app (kk := 10) (f := ok_) [t2]
    · exact pR_ok (Mn_pb (os := os) (k := 41) ⟨by omega, by omega, n8, by omega, by omega, by omega⟩ (by omega) (by omega) (by omega) (by omega) (by omega)) rfl
  have hit : itm (.inner (aN_ s1) kc (nI (tkp T eo n p), nI (tkp T eo n p), 0, [], 0, none) (.inner j2 k2 w2 l2 .leaf) .leaf) = itm (.inner j2 k2 w2 l2 .leaf) := by
    rw [itm_c hx.2.2 ⟨hx.2.1.1, hx.2.1.2.2.1⟩]
    rfl
  refine Or.inr ⟨_, _, _, g37, rfl, _, _, _, _, _, _, _, _, rfl, rfl, ⟨?_, hx.1, rfl, rfl, hfm, ?_, fun _ q => (by simp [st_, kd_] at q), ⟨_, _, _, _, rfl, by omega, by omega⟩⟩, hG8, by rw [hit]; exact hP8, Kp_tr hK6 (x_Kp 95 _), ⟨?_, ?_⟩, ⟨by omega, by omega, by omega, n8⟩, ⟨by omega, by omega, fun _ => rfl⟩, by rw [hit]; omega⟩
  · rw [cf_10, ← hkc]
    exact er_x hx.1 ⟨hx.2.1.1, hx.2.1.2.1⟩ (er_one b0) hfm
  · show kc = 1098 ↔ 10 = 6
    exact ⟨fun q => absurd q hx.2.1.2.2.2, fun q => absurd q (by decide)⟩
  · show aC_ s6 + 10 * p ≤ _
    omega
  · show aZ_ s6 + 100 * p ≤ _
    omega
theorem s_pre (hv : HV T eo V L lx) (d : Nat) (h1 : SX T eo n V L lx ids iE x TL IL GS SL (XB T eo n true) 0 d 283 [vr_ (some x)] (fun _ => [(34, 0, 0, 0)]) (fun _ => True) 42 8 true) (h2 : SX T eo n V L lx ids iE x TL IL GS SL (XB T eo n true) 0 d 282 [vr_ (some x)] (fun _ => [(33, 0, 0, 0)]) (fun _ => True) 40 9 true) : SX T eo n V L lx ids iE x TL IL GS SL (XB T eo n true) 0 (d + 1) 282 [vr_ (some x)] (fun _ => [(33, 0, 0, 0)]) (fun _ => True) 40 9 true := by
  intro s p dp us its gl R os sc nd CB ZB hP hS hM hd hC _ hI
  have hTl : T.length < 2600 := hv.1
  obtain ⟨m1, m2, m3, m4, m5, m6⟩ := id hM
  obtain ⟨e, rfl⟩ : ∃ e, d = e + 5 := ⟨d - 5, by omega⟩
  have hw := PSt_Lw hP
  have g33 : pS_ (Kn T) V T.length lx 33 0 0 0 (R, os, p, dp, sc, nd) = (if Kn T p = 21 ∨ Kn T p = 22 ∨ Kn T p = 33 then (if dp = 60 then fl_ p else ok_ ((33, 0, 0, 0) :: (37, 1, p, os.length) :: (15, dp, 0, 0) :: R, os, p + 1, dp + 1, sc, nd)) else ok_ ((34, 0, 0, 0) :: R, os, p, dp, sc, nd)) := rfl
  have e2 := is_2 (p := p) hP.2.1 gd_not
  -- both ways of 45
  have k0 : ¬ (Kn T p = 21 ∨ Kn T p = 22 ∨ Kn T p = 33) → RL T eo n V lx x IL GS SL s CB ZB (aJ (e + 6) 282 45 [vr_ (some x)] [vi_ 0] s) (pR_ (Kn T) V T.length lx ([(33, 0, 0, 0)] ++ R, os, p, dp, sc, nd)) (QX T eo n ids iE x TL IL GS SL (XB T eo n true) 0 true s p dp us its gl R os sc nd) := fun hk => by
    have b1 : pR_ (Kn T) V T.length lx ([(33, 0, 0, 0)] ++ R, os, p, dp, sc, nd) = pR_ (Kn T) V T.length lx ([(34, 0, 0, 0)] ++ R, os, p, dp, sc, nd) := pR_ok (Mn_pb hM (by omega) (by omega) (by omega) (by omega) (by omega)) (g33.trans (by rw [if_neg hk]; rfl))
    rw [cj_X13_prefixed_45, if_pos rfl, f_dp (f := 283) hP.1.1.2.2 rfl, Option.bind_some, b1]
    refine RL_bind (h1 s p dp us its gl R os sc nd CB ZB hP hS ⟨by omega, m2, m3, m4, m5, m6⟩ (by omega) hC trivial hI) Kp_rf fun σ v s1 q => ?_
    obtain ⟨t, i, kc, w, lC, p1, dp1, nd1, rfl, rfl, q⟩ := q
    exact Or.inr ⟨_, _, _, rfl, rfl, _, _, _, _, _, _, _, _, rfl, rfl, q⟩
  have k1 : (Kn T p = 21 ∨ Kn T p = 22 ∨ Kn T p = 33) → RL T eo n V lx x IL GS SL s CB ZB (aJ (e + 6) 282 45 [vr_ (some x)] [vi_ 1] s) (pR_ (Kn T) V T.length lx ([(33, 0, 0, 0)] ++ R, os, p, dp, sc, nd)) (QX T eo n ids iE x TL IL GS SL (XB T eo n true) 0 true s p dp us its gl R os sc nd) := fun hk => by
    have hlt : p < T.length := Kn_lt (by omega)
    rw [cj_X13_prefixed_45, if_neg (by decide)]
    refine RL_enter (e + 1) hP m3 Kp_rf hC (fun h60 => ?_) (fun h60 => ?_)
    · exact pR_er (Mn_pb hM (by omega) (by omega) (by omega) (by omega) (by omega)) (g33.trans (by rw [if_pos hk, if_pos h60]; rfl))
    have b1 : pR_ (Kn T) V T.length lx ([(33, 0, 0, 0)] ++ R, os, p, dp, sc, nd) = pR_ (Kn T) V T.length lx ([(33, 0, 0, 0)] ++ ((37, 1, p, os.length) :: (15, dp, 0, 0) :: R), os, p + 1, dp + 1, sc, nd) := pR_ok (Mn_pb hM (by omega) (by omega) (by omega) (by omega) (by omega)) (g33.trans (by rw [if_pos hk, if_neg h60]; rfl))
    rw [b1]
    have hP1 := PSt_dp hP (d' := dp + 1) (by omega)
    obtain ⟨tk, ln, ct, et⟩ := C_take (e + 3) hP1 m3
    rw [et]
    have hP2 := PSt_at hP1 (p' := p + 1) (by omega)
    have ct2 := CT_Kp ct (x_Kp (x := x) (IL := IL) (GS := GS) (SL := SL) 94 (nI (p + 1))) (Mx_cl hP1)
    have ct3 : CT (a_nw 9 (awI (awI s x 95 (nI (dp + 1))) x 94 (nI (p + 1)))).2 tk _ _ _ _ _ _ := CT_Kp ct2 (Kp_new (M := fun _ => False) Kp_rf (9, 0)) (fun _ q => q.elim)
    have h34 := tk_34 (p := p) hP.2.1 (by omega)
    have hk7 : ∀ kc, kc = (if nI (Kn T p) = 21 then 1092 else if nI (Kn T p) = 22 then 1093 else 1094) → _ := fun kc hkc => s_pre109 hv e h2 s p dp us its gl R os sc nd CB ZB tk ln kc _ hP2 (Kp_tr (x_Kp 95 _) (x_Kp 94 _)) rfl rfl rfl ct2 hkc hlt h60 hS hM (by omega) hC hw hI
    have eq1 : (nI (Kn T p) = 21) = (Kn T p = 21) := neq1_ 21 (by omega) (by decide)
    have eq2 : (nI (Kn T p) = 22) = (Kn T p = 22) := neq1_ 22 (by omega) (by decide)
    rw [C_teq (e + 4) ct3 (c := 1027) rfl (by omega)]
    by_cases c1 : Kn T p = 21
    · rw [if_neg (by rw [tx_of hP.2.1 (c := 1027) (k := 21) (by decide +kernel) c1]; simp [a_b])]
      exact hk7 1092 (by rw [if_pos (eq1.mpr c1)])
    · rw [if_pos (by simp [tx_ne hP.2.1 (c := 1027) (k := 21) (by decide +kernel) c1 h34, a_b]), C_teq (e + 4) ct3 (c := 1028) rfl (by omega)]
      by_cases c2 : Kn T p = 22
      · rw [if_neg (by rw [tx_of hP.2.1 (c := 1028) (k := 22) (by decide +kernel) c2]; simp [a_b])]
        exact hk7 1093 (by rw [if_neg (fun h => c1 (eq1.mp h)), if_pos (eq2.mpr c2)])
      · rw [if_pos (by simp [tx_ne hP.2.1 (c := 1028) (k := 22) (by decide +kernel) c2 h34, a_b])]
        exact hk7 1094 (by rw [if_neg (fun h => c1 (eq1.mp h)), if_neg (fun h => c2 (eq2.mp h))])
  rw [ce_X13_prefixed, C_is (e + 2) hP m3 (c := 1027) (kk := 21) rfl (by omega) (by decide +kernel)]
  by_cases c1 : Kn T p = 21
  · rw [if_neg (by simp [c1, zb_])]
    exact k1 (Or.inl c1)
  rw [if_pos (by simp [c1, zb_]), C_is (e + 2) hP m3 (c := 1028) (kk := 22) rfl (by omega) (by decide +kernel)]
  by_cases c2 : Kn T p = 22
  · rw [if_neg (by simp [c2, zb_])]
    exact k1 (Or.inr (Or.inl c2))
  rw [if_pos (by simp [c2, zb_]), f_dp (f := 271) hP.1.1.2.2 rfl, Option.bind_some, show aE (e + 5) 271 [vr_ (some x), vr_ (some 1080)] s = _ from y_isx (e + 2) hP.1 hP.2.1 m3 rfl (by omega), cI_k]
  cases q1 : isx T eo p 1080 with
  | true =>
    rw [q1, Bool.true_or] at e2
    rw [if_neg (show ¬ zb_ true = 0 by decide)]
    exact k1 (Or.inr (Or.inr (by simpa using e2.symm)))
  | false =>
    rw [if_pos (show zb_ false = 0 from rfl), f_dp (f := 271) hP.1.1.2.2 rfl, Option.bind_some, show aE (e + 5) 271 [vr_ (some x), vr_ (some 1032)] s = _ from y_isx (e + 2) hP.1 hP.2.1 m3 rfl (by omega), cI_k]
    cases q2 : isx T eo p 1032 with
    | true =>
      rw [q2, Bool.or_true] at e2
      rw [if_neg (show ¬ zb_ true = 0 by decide)]
      exact k1 (Or.inr (Or.inr (by simpa using e2.symm)))
    | false =>
      rw [q1, q2, Bool.false_or] at e2
      rw [if_pos (show zb_ false = 0 from rfl)]
      exact k0 (fun h => by
        have : ¬ Kn T p = 33 := by simpa using e2.symm
        omega)
end px5
