/-! ===== the two parsers side by side: commands with a head ===== -/
section pc6
variable {T : List tk_} {eo : Option Nat} {n : Nat} {V : Nat → Int32} {L : List (List Int32)} {lx : Bool} {ids : List Nat} {iE x TL IL GS SL : Nat}
variable {s s' s0 : as_} {i kc lo p dp CB ZB nd : Nat} {v : cp_w} {l : cr_} {us : List (List Int32)} {its : List Nat} {gl : List ((List Int32 ⊕ Int32) × Option Nat)} {R : List gl_} {os : List tr_} {sc : List (Int32 × Nat)} {pe : pe_} {Q : ps_ → Option Nat → as_ → Prop}
/-- it must be this token, in one of two writings -/
theorem RL_mustx (d : Nat) {c : Nat} {Kc : Option Nat → as_ → cx_O as_} (hP : PSt T eo n ids iE x TL IL GS SL s p dp us its gl) (hp : p ≤ T.length) (hc : ak_K c = (26, 0)) (hc3 : c < 3000) (hk : Kp (Mx x IL GS SL) s0 s) (hC : Cn T s p CB ZB) (hpe : isx T eo p c = false → pe = some (.error p)) (hQ : isx T eo p c = true → ∀ i ln, CT s i (tkk T eo p) (nI (tkp T eo n p)) ln (tkv T p) (tkx T p) (tkg T p) → RL T eo n V lx x IL GS SL s0 CB ZB (Kc (some i) (awI s x 94 (nI (p + 1)))) pe Q) : RL T eo n V lx x IL GS SL s0 CB ZB ((a_dp 278 (some x) s).bind fun m => cx_bR cx_th (aE (d + 4) m [vr_ (some x), vr_ (some c)] s) Kc) pe Q := by
  rw [f_dp (f := 278) hP.1.1.2.2 rfl, Option.bind_some, ce_X13_must, f_dp (f := 271) hP.1.1.2.2 rfl, Option.bind_some, y_isx d hP.1 hP.2.1 hp hc hc3, cI_k]
  cases q : isx T eo p c with
  | true =>
    obtain ⟨i, ln, e, t⟩ := y_take (d + 1) hP.1 hP.2.1 hp
    have : aE (d + 3) 274 [vr_ (some x)] s = _ := e
    rw [if_neg (show ¬ zb_ true = 0 by decide), f_dp (f := 274) hP.1.1.2.2 rfl, Option.bind_some, this, cR_k, cR_k]
    exact hQ q i ln t
  | false =>
    rw [if_pos (show zb_ false = 0 from rfl)]
    have := WR_Er (y_fail d hP.1 hP.2.1 hp) hk (CB := CB) (ZB := ZB) (by have := hC.1; omega) (by have := hC.2; omega)
    obtain ⟨s2, i2, e2, r⟩ := this
    exact Or.inl ⟨p, hp, hpe q, s2, i2, by rw [e2]; rfl, r⟩
/-- a head and a command are there -/
def QH (T : List tk_) (eo : Option Nat) (n : Nat) (ids : List Nat) (iE x TL IL GS SL : Nat) (kc : Nat) (s : as_) (p dp : Nat) (us : List (List Int32)) (its : List Nat) (gl : List ((List Int32 ⊕ Int32) × Option Nat)) (R : List gl_) (os : List tr_) (sc : List (Int32 × Nat)) (nd : Nat) (σ : ps_) (v : Option Nat) (s' : as_) : Prop :=
  ∃ t1 t2 a l p' nd', v = some a ∧ σ = (R, t2 :: t1 :: os, p', dp, sc, nd') ∧ (er l = cf T eo n (lkT [t1, t2]) ∧ p ≤ fi_ t1 ∧ p ≤ fi_ t2) ∧ TG s' (aN_ s) (.inner a kc (nI (tkp T eo n p), nI (tkp T eo n p), 0, [], 0, none) l .leaf) ∧ PSt T eo n ids iE x TL IL GS SL s' p' dp us (its ++ itm l) gl ∧ Kp (Mx x IL GS SL) s s' ∧ (aC_ s' + 10 * p ≤ aC_ s + 10 * p' ∧ aZ_ s' + 100 * p ≤ aZ_ s + 100 * p') ∧ (nd' + 6 * p + 1 ≤ nd + 6 * p' ∧ os.length + 2 ≤ nd' ∧ p < p' ∧ p' ≤ T.length) ∧ (itm l).length + p + 1 ≤ p'
theorem s_headed (hv : HV T eo V L lx) (d kc : Nat) (h1 : SX T eo n V L lx ids iE x TL IL GS SL (XB T eo n false) 0 d 280 [vr_ (some x)] (fun _ => [(28, 0, 0, 0)]) (fun _ => True) 20 19 true) (h2 : SX T eo n V L lx ids iE x TL IL GS SL XC 1 d 298 [vr_ (some x)] (fun _ => [(14, 0, 0, 0)]) (fun _ => True) 60 6 true) (s p dp us its gl R os sc nd CB ZB) (hP : PSt T eo n ids iE x TL IL GS SL s p dp us its gl) (hS : SV L us.reverse sc) (hM : Mn T 14 R.length os.length p dp sc.length nd) (hd : 20 * (61 - dp) + 20 ≤ d + 1) (hC : Cn T s p CB ZB) (hI : its.length ≤ p) (hlt : p < T.length) : RL T eo n V lx x IL GS SL s CB ZB (aE (d + 1) 295 [vr_ (some x), vr_ (some kc)] s) (pR_ (Kn T) V T.length lx ((28, 0, 0, 0) :: (13, 0, 0, 0) :: (14, 0, 0, 0) :: R, os, p + 1, dp, sc, nd)) (QH T eo n ids iE x TL IL GS SL kc s p dp us its gl R os sc nd) := by
  obtain ⟨m1, m2, m3, m4, m5, m6⟩ := id hM
  have hTl : T.length < 2600 := hv.1
  obtain ⟨e, rfl⟩ : ∃ e, d = e + 5 := ⟨d - 5, by omega⟩
  have hw := PSt_Lw hP
  have hCa := hC.1
  have hCb := hC.2
  rw [ce_X13_headed]
  obtain ⟨s3, e3, hP3, hG3, hK3, cc3, cz3, cN3⟩ := C_mk (e + 3) hP m3 kc
  rw [e3, nw_1]
  refine RL_with (e + 4) h1 rfl hP3 hS (R := (13, 0, 0, 0) :: (14, 0, 0, 0) :: R) ⟨by simp; omega, m2, by omega, m4, m5, by omega⟩ (by omega) ⟨by omega, by omega⟩ trivial (by omega) hK3 (Nat.le_refl _) hw hG3 (by omega) fun t1 j1 k1 w1 l1 p1 dp1 nd1 s4 ⟨b0, b1, b2, b3, b4, b5, b6, b7⟩ hG4 hP4 hK4 ⟨cc4, cz4⟩ ⟨n1, n2, n3, n4⟩ ⟨d1, d2, d3⟩ hil4 hN4 => ?_
  obtain rfl := d3 rfl
  clear b7
  refine RL_then (e + 0) hP4 n4 (by omega) hK4 ⟨by omega, by omega⟩ (R := (14, 0, 0, 0) :: R) ⟨by simp; omega, by simp; omega, n4, m4, m5, by omega⟩ fun p2 s5 hP5 hK5 cc5 cz5 cN5 hp5 => ?_
  have hG5 := TG_Mx hG4 hP4 hw hK5
  refine RL_with (e + 4) h2 rfl hP5 hS (R := R) ⟨by omega, by simp; omega, by omega, m4, m5, by omega⟩ (by omega) ⟨by omega, by omega⟩ trivial (by simp; omega) (Kp_tr hK4 hK5) (Nat.le_refl _) hw hG5 (by omega) fun t2 j2 k2 w2 l2 p3 dp3 nd3 s6 ⟨f0, f1⟩ hG6 hP6 hK6 ⟨cc6, cz6⟩ ⟨n5, n6, n7, n8⟩ ⟨d5, d6, d7⟩ hil6 hN6 => ?_
  obtain rfl := d7 rfl
  have f1 : p2 ≤ fi_ t2 := f1.1
  simp only [List.length_cons] at n6
  have hit : itm (snC (.inner j1 k1 w1 l1 .leaf) (.inner j2 k2 w2 l2 .leaf)) = itm (.inner j1 k1 w1 l1 .leaf) ++ itm (.inner j2 k2 w2 l2 .leaf) := itm_sn _ _
  exact Or.inr ⟨_, _, _, rfl, rfl, t1, t2, _, _, p3, nd3, rfl, rfl, ⟨er_app (ts := [t1]) (er_one b0) f0, by omega, by omega⟩, hG6, by rw [hit, ← List.append_assoc]; exact hP6, hK6, ⟨by omega, by omega⟩, ⟨by omega, by omega, by omega, n8⟩, by rw [hit]; simp; omega⟩
theorem er_yr {a kc tok : Nat} {fs : Int32} {u : List Int32} {lC X : cr_} (hx : xk_ kc = false) (hk : kc ≠ 1121 ∧ kc ≠ 1089) (hl : er lC = X) : er (.inner a kc (nI (tkp T eo n tok), fs, 0, u, 0, none) lC .leaf) = .inner 0 kc (yp_ T eo n tok u none) X .leaf := by
  show (Std.DTreeMap.Internal.Impl.inner 0 kc (erp kc _) (er lC) .leaf : cr_) = _
  rw [hl]
  unfold erp yp_
  rw [if_neg (fun q => q.elim hk.1 hk.2), if_neg (by rw [hx]; decide)]
  rfl
theorem cf_27 {tok nd q : Nat} {a : Int32} {m : Nat} {ts : List tr_} : cf T eo n (st_ 27 tok 0 nd (lf_ 58 q a m :: ts)) = .inner 0 1124 (yp_ T eo n q (tkx T q) none) (rotC (cf T eo n (lkT ts))) .leaf := rfl
set_option maxHeartbeats 8000000 in
/-- FOR -/
theorem s_for (hv : HV T eo V L lx) (d : Nat) (h1 : SX T eo n V L lx ids iE x TL IL GS SL (XB T eo n false) 0 d 280 [vr_ (some x)] (fun _ => [(28, 0, 0, 0)]) (fun _ => True) 20 19 true) (h2 : SX T eo n V L lx ids iE x TL IL GS SL XC 1 d 298 [vr_ (some x)] (fun _ => [(14, 0, 0, 0)]) (fun _ => True) 60 6 true) (s p dp us its gl R os sc nd CB ZB) (hP : PSt T eo n ids iE x TL IL GS SL s p dp us its gl) (hS : SV L us.reverse sc) (hM : Mn T 7 R.length os.length p dp sc.length nd) (hd : 20 * (61 - dp) + 20 ≤ d + 1) (hC : Cn T s p CB ZB) (hI : its.length ≤ p) (hlt : p < T.length) (pe : pe_) (hpe : pe = (if Kn T (p + 1) = 1 then (if Kn T (p + 2) = 25 then pR_ (Kn T) V T.length lx ((28, 0, 0, 0) :: (16, 55, 0, 0) :: (28, 0, 0, 0) :: (41, 0, 0, 0) :: (13, 0, 0, 0) :: (14, 0, 0, 0) :: (6, 27, p, os.length) :: R, lf_ 58 (p + 1) (V (p + 1)) nd :: os, p + 3, dp, sc, nd + 1) else some (.error (p + 2))) else some (.error (p + 1)))) : RL T eo n V lx x IL GS SL s CB ZB (aE (d + 1) 299 [vr_ (some x)] s) pe (QX T eo n ids iE x TL IL GS SL XC 1 true s p dp us its gl R os sc nd) := by
  obtain ⟨m1, m2, m3, m4, m5, m6⟩ := id hM
  have hTl : T.length < 2600 := hv.1
  obtain ⟨e, rfl⟩ : ∃ e, d = e + 5 := ⟨d - 5, by omega⟩
  have hw := PSt_Lw hP
  have hCa := hC.1
  have hCb := hC.2
  obtain ⟨tk0, ln0, ct0, et0⟩ := C_take (e + 3) hP m3
  rw [ce_X13_loop, et0]
  have hP1 := PSt_at hP (p' := p + 1) (by omega)
  refine RL_name (e + 1) hP1 (by omega) (x_Kp 94 _) ⟨by simp only [aC_awI]; omega, by simp only [aZ_awI]; omega⟩ (fun h => by rw [hpe, if_neg h]) (fun hn tk ln ct => ?_)
  have hlt1 : p + 1 < T.length := Kn_lt (by omega)
  rw [if_pos hn] at hpe
  have hP2 := PSt_at hP1 (p' := p + 2) (by omega)
  have ct2 := CT_Kp ct (x_Kp (x := x) (IL := IL) (GS := GS) (SL := SL) 94 (nI (p + 2))) (Mx_cl hP1)
  obtain ⟨s3, e3, hP3, hG3, hK3, cc3, cz3, cN3⟩ := C_mk2 (e + 3) (kc := 1124) hP2 ct2
  rw [show awI (awI s x 94 (nI (p + 1))) x 94 (nI (p + 1 + 1)) = awI (awI s x 94 (nI (p + 1))) x 94 (nI (p + 2)) from rfl, e3, nw_1, aN_awI, aN_awI]
  simp only [aC_awI, aZ_awI, aN_awI] at cc3 cz3 cN3 hG3
  have ct3 := CT_Kp ct2 hK3 (fun _ q => q.elim)
  have hNa := NF_isN hG3.1.1
  obtain ⟨e4, hG4⟩ := C_text ct3 hG3
  rw [e4]
  have hP4 : PSt T eo n ids iE x TL IL GS SL (awR s3 (aN_ s) 103 (aR_ s3 tk 88)) (p + 2) dp us its gl := PSt_ownR hP3 hw (Nat.le_refl _) hNa
  have hk4 : Kp (Mx x IL GS SL) s (awR s3 (aN_ s) 103 (aR_ s3 tk 88)) := Kp_R (Kp_tr (Kp_tr (x_Kp 94 _) (x_Kp 94 _)) (Kp_wk hK3 (fun _ _ q => q.elim))) 103 _ (Or.inr (Nat.le_refl _))
  have z1 : aC_ (awR s3 (aN_ s) 103 (aR_ s3 tk 88)) = aC_ s3 := rfl
  have z2 : aZ_ (awR s3 (aN_ s) 103 (aR_ s3 tk 88)) = aZ_ s3 := rfl
  have z3 : aN_ (awR s3 (aN_ s) 103 (aR_ s3 tk 88)) = aN_ s3 := rfl
  refine RL_must (e + 1) hP4 (by omega) (c := 1021) (kk := 25) rfl (by omega) (by decide +kernel) hk4 ⟨by omega, by omega⟩ (fun h => by rw [hpe, if_neg h]) (fun h25 i5 ln5 _ => ?_)
  have hlt2 : p + 2 < T.length := Kn_lt (by omega)
  rw [if_pos h25] at hpe
  subst hpe
  have hP5 := PSt_at hP4 (p' := p + 2 + 1) (by omega)
  have hG5 := TG_Mx hG4 hP4 hw (x_Kp (x := x) (IL := IL) (GS := GS) (SL := SL) 94 (nI (p + 2 + 1)))
  have y1 : aC_ (awI (awR s3 (aN_ s) 103 (aR_ s3 tk 88)) x 94 (nI (p + 2 + 1))) = aC_ s3 := rfl
  have y2 : aZ_ (awI (awR s3 (aN_ s) 103 (aR_ s3 tk 88)) x 94 (nI (p + 2 + 1))) = aZ_ s3 := rfl
  have y3 : aN_ (awI (awR s3 (aN_ s) 103 (aR_ s3 tk 88)) x 94 (nI (p + 2 + 1))) = aN_ s3 := rfl
  refine RL_with (e + 4) h1 rfl hP5 hS (R := (16, 55, 0, 0) :: (28, 0, 0, 0) :: (41, 0, 0, 0) :: (13, 0, 0, 0) :: (14, 0, 0, 0) :: (6, 27, p, os.length) :: R) ⟨by simp; omega, by simp; omega, by omega, m4, m5, by omega⟩ (by omega) ⟨by omega, by omega⟩ trivial (by omega) (Kp_tr hk4 (x_Kp 94 _)) (Nat.le_refl _) hw hG5 (by omega) fun t1 j1 k1 w1 l1 p1 dp1 nd1 s6 ⟨b0, b1, b2, b3, b4, b5, b6, b7⟩ hG6 hP6 hK6 ⟨cc6, cz6⟩ ⟨n1, n2, n3, n4⟩ ⟨d1, d2, d3⟩ hil6 hN6 => ?_
  obtain rfl := d3 rfl
  clear b7
  simp only [List.length_cons] at n2
  have g16 : ∀ G o nd1, pS_ (Kn T) V T.length lx 16 55 0 0 (G, o, p1, dp1, sc, nd1) = (if Kn T p1 = 55 then ok_ (G, o, p1 + 1, dp1, sc, nd1) else fl_ p1) := fun _ _ _ => rfl
  refine RL_must (e + 1) hP6 n4 (c := 1042) (kk := 55) rfl (by omega) (by decide +kernel) hK6 ⟨by omega, by omega⟩ (fun h => pR_er (pb_I (by first | omega | (simp only [List.length_cons]; omega)) (by first | omega | (simp only [List.length_cons]; omega)) (by omega) (by omega) (by omega) (by omega) (by omega) (by omega)) ((g16 _ _ _).trans (by rw [if_neg h]; rfl))) (fun h55 i7 ln7 _ => ?_)
  have hlt3 : p1 < T.length := Kn_lt (by omega)
  have b2 : pR_ (Kn T) V T.length lx ((16, 55, 0, 0) :: (28, 0, 0, 0) :: (41, 0, 0, 0) :: (13, 0, 0, 0) :: (14, 0, 0, 0) :: (6, 27, p, os.length) :: R, t1 :: lf_ 58 (p + 1) (V (p + 1)) nd :: os, p1, dp1, sc, nd1) = pR_ (Kn T) V T.length lx ([(28, 0, 0, 0)] ++ ((41, 0, 0, 0) :: (13, 0, 0, 0) :: (14, 0, 0, 0) :: (6, 27, p, os.length) :: R), t1 :: lf_ 58 (p + 1) (V (p + 1)) nd :: os, p1 + 1, dp1, sc, nd1) := pR_ok (pb_I (by first | omega | (simp only [List.length_cons]; omega)) (by first | omega | (simp only [List.length_cons]; omega)) (by omega) (by omega) (by omega) (by omega) (by omega) (by omega)) ((g16 _ _ _).trans (by rw [if_pos h55]; rfl))
  rw [b2]
  have hP7 := PSt_at hP6 (p' := p1 + 1) (by omega)
  have hG7 := TG_Mx hG6 hP6 hw (x_Kp (x := x) (IL := IL) (GS := GS) (SL := SL) 94 (nI (p1 + 1)))
  have y4 : aC_ (awI s6 x 94 (nI (p1 + 1))) = aC_ s6 := rfl
  have y5 : aZ_ (awI s6 x 94 (nI (p1 + 1))) = aZ_ s6 := rfl
  have y6 : aN_ (awI s6 x 94 (nI (p1 + 1))) = aN_ s6 := rfl
  refine RL_with (e + 4) h1 rfl hP7 hS (R := (41, 0, 0, 0) :: (13, 0, 0, 0) :: (14, 0, 0, 0) :: (6, 27, p, os.length) :: R) ⟨by simp; omega, by simp; omega, by omega, m4, m5, by omega⟩ (by omega) ⟨by omega, by omega⟩ trivial (by simp; omega) (Kp_tr hK6 (x_Kp 94 _)) (Nat.le_refl _) hw hG7 (by omega) fun t2 j2 k2 w2 l2 p2 dp2 nd2 s8 ⟨f0, f1, f2, f3, f4, f5, f6, f7⟩ hG8 hP8 hK8 ⟨cc8, cz8⟩ ⟨n5, n6, n7, n8⟩ ⟨d5, d6, d7⟩ hil8 hN8 => ?_
  obtain rfl := d7 rfl
  clear f7
  simp only [List.length_cons] at n6
  -- the end, for both ways
  have g6 : ∀ (ts : List tr_) p3 nd3, os.length + ts.length ≤ nd3 → p3 ≤ T.length → nd3 ≤ 20000 → pR_ (Kn T) V T.length lx ((6, 27, p, os.length) :: R, ts.reverse ++ os, p3, dp2, sc, nd3) = pR_ (Kn T) V T.length lx (R, st_ 27 p 0 nd3 ts :: os, p3, dp2, sc, nd3 + 1) := fun ts p3 nd3 h1 h2 h3 => pR_ok (pb_I (by first | omega | (simp only [List.length_cons]; omega)) (by first | omega | (simp only [List.length_cons]; omega)) (by omega) (by omega) (by omega) (by omega) (by omega) (by omega)) ((sf_app (kk := 27) (a := 0) (f := ok_) ts.reverse).trans (by rw [List.reverse_reverse]; rfl))
  have g41 : pS_ (Kn T) V T.length lx 41 0 0 0 ((13, 0, 0, 0) :: (14, 0, 0, 0) :: (6, 27, p, os.length) :: R, t2 :: t1 :: lf_ 58 (p + 1) (V (p + 1)) nd :: os, p2, dp2, sc, nd2) = (if Kn T p2 = 56 then ok_ ((28, 0, 0, 0) :: (13, 0, 0, 0) :: (14, 0, 0, 0) :: (6, 27, p, os.length) :: R, t2 :: t1 :: lf_ 58 (p + 1) (V (p + 1)) nd :: os, p2 + 1, dp2, sc, nd2) else ok_ ((13, 0, 0, 0) :: (14, 0, 0, 0) :: (6, 27, p, os.length) :: R, t2 :: t1 :: lf_ 58 (p + 1) (V (p + 1)) nd :: os, p2, dp2, sc, nd2)) := rfl
  have hit2 : itm (snC (snC .leaf (.inner j1 k1 w1 l1 .leaf)) (.inner j2 k2 w2 l2 .leaf)) = itm (.inner j1 k1 w1 l1 .leaf) ++ itm (.inner j2 k2 w2 l2 .leaf) := itm_sn _ _
  rw [C_skip (e + 1) hP8 n8 (c := 1043) (kk := 56) rfl (by omega) (by decide +kernel)]
  by_cases c56 : Kn T p2 = 56
  · rw [if_pos c56, if_neg (by decide)]
    have hlt4 : p2 < T.length := Kn_lt (by omega)
    have b3 : pR_ (Kn T) V T.length lx ((41, 0, 0, 0) :: (13, 0, 0, 0) :: (14, 0, 0, 0) :: (6, 27, p, os.length) :: R, t2 :: t1 :: lf_ 58 (p + 1) (V (p + 1)) nd :: os, p2, dp2, sc, nd2) = pR_ (Kn T) V T.length lx ([(28, 0, 0, 0)] ++ ((13, 0, 0, 0) :: (14, 0, 0, 0) :: (6, 27, p, os.length) :: R), t2 :: t1 :: lf_ 58 (p + 1) (V (p + 1)) nd :: os, p2 + 1, dp2, sc, nd2) := pR_ok (pb_I (by first | omega | (simp only [List.length_cons]; omega)) (by first | omega | (simp only [List.length_cons]; omega)) (by omega) (by omega) (by omega) (by omega) (by omega) (by omega)) (g41.trans (by rw [if_pos c56]; rfl))
    rw [b3]
    have hP9 := PSt_at hP8 (p' := p2 + 1) (by omega)
    have hG9 := TG_Mx hG8 hP8 hw (x_Kp (x := x) (IL := IL) (GS := GS) (SL := SL) 94 (nI (p2 + 1)))
    have y7 : aC_ (awI s8 x 94 (nI (p2 + 1))) = aC_ s8 := rfl
    have y8 : aZ_ (awI s8 x 94 (nI (p2 + 1))) = aZ_ s8 := rfl
    have y9 : aN_ (awI s8 x 94 (nI (p2 + 1))) = aN_ s8 := rfl
    rw [f_dp (f := 280) hP9.1.1.2.2 rfl, Option.bind_some]
    refine RL_bind (h1 _ (p2 + 1) dp2 us _ gl ((13, 0, 0, 0) :: (14, 0, 0, 0) :: (6, 27, p, os.length) :: R) (t2 :: t1 :: lf_ 58 (p + 1) (V (p + 1)) nd :: os) sc nd2 CB ZB hP9 hS ⟨by simp; omega, by simp; omega, by omega, m4, m5, by omega⟩ (by omega) ⟨by omega, by omega⟩ trivial (by simp; omega)) (Kp_tr hK8 (x_Kp 94 _)) fun σ v s10 q => ?_
    obtain ⟨t3, j3, k3, w3, l3, p3, dp3, nd3, rfl, rfl, ⟨u0, u1, u2, u3, u4, u5, u6, u7⟩, hG10, hP10, hK10, ⟨cc10, cz10⟩, ⟨n9, n10, n11, n12⟩, ⟨d8, d9, d10⟩, hil10⟩ := q
    obtain rfl := d10 rfl
    clear u7
    simp only [List.length_cons] at n10
    rw [y9] at hG10
    have hG8' := TG_Mx hG9 hP9 hw hK10
    have hK010 := Kp_tr (Kp_tr hK8 (x_Kp (x := x) (IL := IL) (GS := GS) (SL := SL) 94 (nI (p2 + 1)))) hK10
    refine RL_then (e + 0) hP10 n12 (by omega) hK010 ⟨by omega, by omega⟩ (R := (14, 0, 0, 0) :: (6, 27, p, os.length) :: R) ⟨by simp; omega, by simp; omega, n12, m4, m5, by omega⟩ fun p4 s11 hP11 hK11 cc11 cz11 cN11 hp11 => ?_
    have hG11 := TG_Mx hG8' hP10 hw hK11
    have hGj := TG_Mx hG10 hP10 (Lw_le hw (show aN_ s ≤ aN_ s8 by omega)) hK11
    have hN10 : aN_ s8 ≤ aN_ s10 := hK10.1
    have hltP : ∀ a ∈ idl_ (.inner (aN_ s) 1124 (nI (tkp T eo n (p + 1)), nI (tkp T eo n (p + 1)), 0, tkx T (p + 1), 0, none) (snC (snC .leaf (.inner j1 k1 w1 l1 .leaf)) (.inner j2 k2 w2 l2 .leaf)) .leaf), a < aN_ s8 := TG_lt hG8
    have hltj : ∀ a ∈ idl_ (.inner j3 k3 w3 l3 .leaf), a < aN_ s10 := TG_lt hG10
    rw [f_dp (f := 298) hP11.1.1.2.2 rfl, Option.bind_some]
    refine RL_bind (h2 _ p4 dp3 us _ gl ((6, 27, p, os.length) :: R) (t3 :: t2 :: t1 :: lf_ 58 (p + 1) (V (p + 1)) nd :: os) sc nd3 CB ZB hP11 hS ⟨by simp; omega, by simp; omega, by omega, m4, m5, by omega⟩ (by omega) ⟨by omega, by omega⟩ trivial (by simp; omega)) (Kp_tr hK010 hK11) fun σ v s12 q => ?_
    obtain ⟨t4, j4, k4, w4, l4, p5, dp5, nd5, rfl, rfl, ⟨v0, v1⟩, hG12, hP12, hK12, ⟨cc12, cz12⟩, ⟨n13, n14, n15, n16⟩, ⟨d11, d12, d13⟩, hil12⟩ := q
    obtain rfl := d13 rfl
    have v1 : p4 ≤ fi_ t4 := v1.1
    simp only [List.length_cons] at n14
    have hGp12 := TG_Mx hG11 hP11 hw hK12
    have hGj12 := TG_Mx hGj hP11 (Lw_le hw (show aN_ s ≤ aN_ s8 by omega)) hK12
    rw [cN11] at hG12
    obtain ⟨s13, e13, hG13, hP13, hK13, cc13, cz13, cN13⟩ := C_with (e + 4) hP12 hw hGp12 (TG_lo hG12 (by omega)) (dj_lt (m := aN_ s8) hltP (fun a ha => by have := hG12.2.2 a ha; omega))
    rw [e13]
    have hltq : ∀ a ∈ idl_ (.inner (aN_ s) 1124 (nI (tkp T eo n (p + 1)), nI (tkp T eo n (p + 1)), 0, tkx T (p + 1), 0, none) (snC (snC .leaf (.inner j1 k1 w1 l1 .leaf)) (.inner j2 k2 w2 l2 .leaf)) .leaf), a ∉ idl_ (.inner j3 k3 w3 l3 .leaf) := dj_lt (m := aN_ s8) hltP hGj12.2.2
    have hGj13 : TG s13 (aN_ s8) (.inner j3 k3 w3 l3 .leaf) := TG_Kp hGj12 hK13 (TG_cl hGp12) (fun a ha q => hltq a q ha)
    obtain ⟨s14, e14, hG14, hP14, hK14, cc14, cz14, cN14⟩ := C_with (e + 4) hP13 hw hG13 (TG_lo hGj13 (by omega)) (fun a ha hb => by
      have hpm := (snC_id (snC (snC .leaf (.inner j1 k1 w1 l1 .leaf)) (.inner j2 k2 w2 l2 .leaf)) (.inner j4 k4 w4 l4 .leaf)).mem_iff (a := a)
      have ha : a ∈ aN_ s :: ([] ++ (idl_ (snC (snC (snC .leaf (.inner j1 k1 w1 l1 .leaf)) (.inner j2 k2 w2 l2 .leaf)) (.inner j4 k4 w4 l4 .leaf)) ++ [])) := ha
      rw [List.nil_append, List.append_nil] at ha
      rcases List.mem_cons.mp ha with rfl | ha
      · exact hltq (aN_ s) (by simp [idl_]) hb
      · rcases List.mem_append.mp (hpm.mp ha) with q | q
        · exact hltq a (by simp only [idl_, List.mem_cons, List.mem_append]; exact Or.inr (Or.inr (Or.inl q))) hb
        · have := hG12.2.2 a q
          have := hltj a hb
          omega)
    rw [e14]
    have b4 := g6 [lf_ 58 (p + 1) (V (p + 1)) nd, t1, t2, t3, t4] p5 nd5 (by simp; omega) n16 (by omega)
    have hits : itL (snC (snC (snC (snC .leaf (.inner j1 k1 w1 l1 .leaf)) (.inner j2 k2 w2 l2 .leaf)) (.inner j4 k4 w4 l4 .leaf)) (.inner j3 k3 w3 l3 .leaf)) = [itm (.inner j1 k1 w1 l1 .leaf), itm (.inner j2 k2 w2 l2 .leaf), itm (.inner j4 k4 w4 l4 .leaf), itm (.inner j3 k3 w3 l3 .leaf)] := by
      rw [itL_sn, itL_sn, itL_sn, itL_sn, itL_1, itL_1, itL_1, itL_1]
      rfl
    have hit : itm (.inner (aN_ s) 1124 (nI (tkp T eo n (p + 1)), nI (tkp T eo n (p + 1)), 0, tkx T (p + 1), 0, none) (snC (snC (snC (snC .leaf (.inner j1 k1 w1 l1 .leaf)) (.inner j2 k2 w2 l2 .leaf)) (.inner j4 k4 w4 l4 .leaf)) (.inner j3 k3 w3 l3 .leaf)) .leaf) = itm (.inner j1 k1 w1 l1 .leaf) ++ (itm (.inner j2 k2 w2 l2 .leaf) ++ (itm (.inner j3 k3 w3 l3 .leaf) ++ itm (.inner j4 k4 w4 l4 .leaf))) := by
      rw [itm_1, hits]
      rfl
    have hK14' : Kp (Mx x IL GS SL) s s14 := Kp_in (Kp_in (Kp_tr (Kp_tr hK010 hK11) hK12) hK13 (fun a ha => Or.inr (hGp12.2.2 a ha))) hK14 (fun a ha => Or.inr (hG13.2.2 a ha))
    refine Or.inr ⟨_, _, _, b4, rfl, _, _, _, _, _, _, _, _, rfl, rfl, ⟨?_, fm_ge (Nat.le_refl _) (fun u hu => by simp at hu; rcases hu with rfl | rfl | rfl | rfl | rfl; show p ≤ p + 1; omega; omega; omega; omega; omega), rfl⟩, hG14, by rw [hit]; simp only [List.append_assoc] at hP14 ⊢; exact hP14, hK14', ⟨by omega, by omega⟩, ⟨by omega, by omega, by omega, n16⟩, ⟨by omega, by omega, fun _ => rfl⟩, by rw [hit]; simp; omega⟩
    rw [cf_27]
    refine er_yr (by decide) (by decide) ?_
    rw [cf_lk, cf_lk, cf_lk, cf_lk, cf_l0, snC_leaf, ← b0, ← f0, ← u0, ← v0]
    rfl
  · rw [if_neg c56, if_pos rfl]
    have b3 : pR_ (Kn T) V T.length lx ((41, 0, 0, 0) :: (13, 0, 0, 0) :: (14, 0, 0, 0) :: (6, 27, p, os.length) :: R, t2 :: t1 :: lf_ 58 (p + 1) (V (p + 1)) nd :: os, p2, dp2, sc, nd2) = pR_ (Kn T) V T.length lx ((13, 0, 0, 0) :: (14, 0, 0, 0) :: (6, 27, p, os.length) :: R, t2 :: t1 :: lf_ 58 (p + 1) (V (p + 1)) nd :: os, p2, dp2, sc, nd2) := pR_ok (pb_I (by first | omega | (simp only [List.length_cons]; omega)) (by first | omega | (simp only [List.length_cons]; omega)) (by omega) (by omega) (by omega) (by omega) (by omega) (by omega)) (g41.trans (by rw [if_neg c56]; rfl))
    rw [b3]
    refine RL_then (e + 0) hP8 n8 (by omega) hK8 ⟨by omega, by omega⟩ (R := (14, 0, 0, 0) :: (6, 27, p, os.length) :: R) ⟨by simp; omega, by simp; omega, n8, m4, m5, by omega⟩ fun p4 s11 hP11 hK11 cc11 cz11 cN11 hp11 => ?_
    have hG11 := TG_Mx hG8 hP8 hw hK11
    refine RL_with (e + 4) h2 rfl hP11 hS (R := (6, 27, p, os.length) :: R) ⟨by simp; omega, by simp; omega, by omega, m4, m5, by omega⟩ (by omega) ⟨by omega, by omega⟩ trivial (by simp; omega) (Kp_tr hK8 hK11) (Nat.le_refl _) hw hG11 (by omega) fun t4 j4 k4 w4 l4 p5 dp5 nd5 s12 ⟨v0, v1⟩ hG12 hP12 hK12 ⟨cc12, cz12⟩ ⟨n13, n14, n15, n16⟩ ⟨d11, d12, d13⟩ hil12 hN12 => ?_
    obtain rfl := d13 rfl
    have v1 : p4 ≤ fi_ t4 := v1.1
    simp only [List.length_cons] at n14
    have b4 := g6 [lf_ 58 (p + 1) (V (p + 1)) nd, t1, t2, t4] p5 nd5 (by simp; omega) n16 (by omega)
    have hits : itL (snC (snC (snC .leaf (.inner j1 k1 w1 l1 .leaf)) (.inner j2 k2 w2 l2 .leaf)) (.inner j4 k4 w4 l4 .leaf)) = [itm (.inner j1 k1 w1 l1 .leaf), itm (.inner j2 k2 w2 l2 .leaf), itm (.inner j4 k4 w4 l4 .leaf)] := by
      rw [itL_sn, itL_sn, itL_sn, itL_1, itL_1, itL_1]
      rfl
    have hit : itm (.inner (aN_ s) 1124 (nI (tkp T eo n (p + 1)), nI (tkp T eo n (p + 1)), 0, tkx T (p + 1), 0, none) (snC (snC (snC .leaf (.inner j1 k1 w1 l1 .leaf)) (.inner j2 k2 w2 l2 .leaf)) (.inner j4 k4 w4 l4 .leaf)) .leaf) = itm (.inner j1 k1 w1 l1 .leaf) ++ (itm (.inner j2 k2 w2 l2 .leaf) ++ itm (.inner j4 k4 w4 l4 .leaf)) := by
      rw [itm_1, hits]
      simp [isIt, arL]
    refine Or.inr ⟨_, _, _, b4, rfl, _, _, _, _, _, _, _, _, rfl, rfl, ⟨?_, fm_ge (Nat.le_refl _) (fun u hu => by simp at hu; rcases hu with rfl | rfl | rfl | rfl; show p ≤ p + 1; omega; omega; omega; omega), rfl⟩, hG12, by rw [hit]; simp only [List.append_assoc] at hP12 ⊢; exact hP12, hK12, ⟨by omega, by omega⟩, ⟨by omega, by omega, by omega, n16⟩, ⟨by omega, by omega, fun _ => rfl⟩, by rw [hit]; simp; omega⟩
    rw [cf_27]
    refine er_yr (by decide) (by decide) ?_
    rw [cf_lk, cf_lk, cf_lk, cf_l0, snC_leaf, ← b0, ← f0, ← v0]
    rfl
end pc6
