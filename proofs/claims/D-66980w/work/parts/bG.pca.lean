/-! ===== the two parsers side by side: simple commands: by gen/gen_simple.py ===== -/
def sl_simple : List (Int × Nat × Int32) := [(-1881067216, 1068, 11), (-1787121742, 1057, 2), (-888821141, 1067, 10), (1156, 1051, 0), (2333, 1056, 1), (69801, 1061, 6), (2193763, 1037, 14), (2342564, 1066, 9), (2571410, 1058, 5), (63463647, 1065, 8), (80906046, 1060, 4), (82563857, 1059, 3), (446837255, 1069, 12), (697350163, 1062, 7), (2073854099, 1070, 13)]
theorem so_simple : sok_ sl_simple = true := by decide +kernel
def sI_ (k : Nat) : Int32 := if k = 10 then 0 else if k = 47 then 1 else if k = 49 then 2 else if k = 52 then 3 else if k = 53 then 4 else if k = 50 then 5 else if k = 54 then 6 else if k = 57 then 7 else if k = 61 then 8 else if k = 62 then 9 else if k = 63 then 10 else if k = 64 then 11 else if k = 65 then 12 else if k = 66 then 13 else if k = 67 then 14 else -1
theorem sI_kw : (KW_.all fun w => decide (sx_ w sl_simple = sI_ (kw_ w)) && decide (kw_ w ≠ 15) && decide (kw_ w ≠ 11)) = true := by decide +kernel
theorem sI_10 : sx_ (ak_S 1051) sl_simple = 0 := by decide +kernel
section pca
variable {T : List tk_} {eo : Option Nat} {n : Nat} {V : Nat → Int32} {L : List (List Int32)} {lx : Bool} {ids : List Nat} {iE x TL IL GS SL : Nat}
theorem sj_simple (d : Nat) {tk : Nat} {s : as_} {k pl ln w : Int32} {t tag : List Int32} (ct : CT s tk k pl ln w t tag) : aJ (d + 2) 288 62 [vr_ (some x), vr_ (some tk)] [] s = (fun j => aJ (d + 2) 288 434 [vr_ (some x), vi_ j] [] s) (sx_ t sl_simple) := by
  obtain ⟨a, ea, hK, _, ht⟩ := ct.2.2.1
  refine Eq.trans ?_ (sv_eq (t := t) (K := fun j => aJ (d + 2) 288 434 [vr_ (some x), vi_ j] [] s) so_simple)
  rw [cj_X13_simple_62, f_gr (f := 88) (c := 14) (by rw [ct.1.2.2]) rfl, Option.bind_some, ea, f_dp (f := 95) hK rfl, Option.bind_some, l_hash, cI_k]
  simp only [f_dp (f := 99) hK rfl, Option.bind_some, l_equals, cI_k, ht, sw_b, ak_key s 1068 rfl (by decide), ak_key s 1057 rfl (by decide), ak_key s 1067 rfl (by decide), ak_key s 1051 rfl (by decide), ak_key s 1056 rfl (by decide), ak_key s 1061 rfl (by decide), ak_key s 1037 rfl (by decide), ak_key s 1066 rfl (by decide), ak_key s 1058 rfl (by decide), ak_key s 1065 rfl (by decide), ak_key s 1060 rfl (by decide), ak_key s 1059 rfl (by decide), ak_key s 1069 rfl (by decide), ak_key s 1062 rfl (by decide), ak_key s 1070 rfl (by decide), Option.some.injEq, Sum.inl.injEq]
  rfl
theorem tk_w {s1 : as_} {p : Nat} (hT : TA s1 TL ids iE T eo n) (h : tkk T eo p = 4) : ∃ w ∈ KW_, tkx T p = w ∧ Kn T p = kw_ w := by
  unfold tkk at h
  unfold tkx Kn
  cases hy : T[p]? with
  | none =>
    rw [hy] at h
    dsimp only at h
    rcases eK_n eo with e | e <;> rw [e] at h <;> exact absurd h (by decide)
  | some y =>
    rw [hy] at h
    dsimp only at h ⊢
    rcases cw_cs (tk_v hT hy) with ⟨e1, e2⟩ | ⟨e1, e2⟩ | ⟨e1, e2⟩ | ⟨e1, e2, e3, e4⟩ | ⟨e1, e2, e3, e4, e5⟩
    · rw [e2] at h; exact absurd h (by decide)
    · rw [e2] at h; exact absurd h (by decide)
    · rw [e2] at h; exact absurd h (by decide)
    · rw [e3] at h; exact absurd h (by decide)
    · exact ⟨_, e1, e5, e3⟩
theorem cf_lf {k p nd : Nat} (h : k ∈ [29, 30, 31, 32, 34, 37]) : cf T eo n (lf_ k p 0 nd) = .inner 0 (kcQ k) (yp_ T eo n p [] none) .leaf .leaf := by
  simp only [List.mem_cons, List.not_mem_nil, or_false] at h
  rcases h with rfl | rfl | rfl | rfl | rfl | rfl <;> rfl
theorem er_lf {a k p nd kc : Nat} {fs : Int32} (h : k ∈ [29, 30, 31, 32, 34, 37]) (hkc : kc = kcQ k) : er (.inner a kc (nI (tkp T eo n p), fs, 0, [], 0, none) .leaf .leaf) = cf T eo n (lf_ k p 0 nd) := by
  rw [cf_lf h, hkc]
  refine er_yr ?_ ?_ rfl
  · simp only [List.mem_cons, List.not_mem_nil, or_false] at h
    rcases h with rfl | rfl | rfl | rfl | rfl | rfl <;> decide
  · simp only [List.mem_cons, List.not_mem_nil, or_false] at h
    rcases h with rfl | rfl | rfl | rfl | rfl | rfl <;> decide
theorem cf_35 {p nd : Nat} {y : Int32} : cf T eo n (lf_ 35 p y nd) = .inner 0 1119 (yp_ T eo n p (tkx T p) none) .leaf .leaf := rfl
set_option maxHeartbeats 4000000 in
theorem s_sim434 (hv : HV T eo V L lx) (e : Nat) (h7 : SX T eo n V L lx ids iE x TL IL GS SL (XB T eo n false) 0 (e + 7) 280 [vr_ (some x)] (fun _ => [(28, 0, 0, 0)]) (fun _ => True) 20 19 true) (h8 : SX T eo n V L lx ids iE x TL IL GS SL (XB T eo n false) 0 (e + 8) 280 [vr_ (some x)] (fun _ => [(28, 0, 0, 0)]) (fun _ => True) 20 19 true) (c6 : SX T eo n V L lx ids iE x TL IL GS SL XC 1 (e + 6) 287 [vr_ (some x)] (fun _ => [(11, 0, 0, 0)]) (fun _ => True) 5 22 true) (i7 : SX T eo n V L lx ids iE x TL IL GS SL XC 1 (e + 7) 298 [vr_ (some x)] (fun _ => [(14, 0, 0, 0)]) (fun _ => True) 60 6 true) (i8 : SX T eo n V L lx ids iE x TL IL GS SL XC 1 (e + 8) 298 [vr_ (some x)] (fun _ => [(14, 0, 0, 0)]) (fun _ => True) 60 6 true) (d7 : SX T eo n V L lx ids iE x TL IL GS SL XC 0 (e + 7) 270 [vr_ (some x), vi_ 0] (fun _ => [(3, 0, 0, 0)]) (fun _ => True) 3 24 true) (s p dp us its gl R os sc nd CB ZB) (hP : PSt T eo n ids iE x TL IL GS SL s p dp us its gl) (hS : SV L us.reverse sc) (hM0 : Mn T 5 R.length os.length p dp sc.length nd) (hd : 20 * (61 - dp) + 21 ≤ e + 9) (hC : Cn T s p (CB - 3) (ZB - 40)) (hI : its.length ≤ p) (n15 : Kn T p ≠ 15) (n11 : Kn T p ≠ 11) :
    RL T eo n V lx x IL GS SL s CB ZB (aJ (e + 9) 288 434 [vr_ (some x), vi_ (sI_ (Kn T p))] [] s) (pR_ (Kn T) V T.length lx ((11, 0, 0, 0) :: R, os, p, dp, sc, nd)) (QX T eo n ids iE x TL IL GS SL XC 1 true s p dp us its gl ((12, dp, 0, os.length) :: R) os sc nd) := by
  obtain ⟨m1, m2, m3, m4, m5, m6⟩ := id hM0
  have hTl : T.length < 2600 := hv.1
  have hw := PSt_Lw hP
  have hCa := hC.1
  have hCb := hC.2
  have hM : Mn T 7 ((12, dp, 0, os.length) :: R : List gl_).length os.length p dp sc.length nd := ⟨by simp; omega, m2, m3, m4, m5, m6⟩
  have hM8 : Mn T 8 ((12, dp, 0, os.length) :: R : List gl_).length os.length p dp sc.length nd := ⟨by simp; omega, m2, m3, m4, m5, m6⟩
  have hMh : Mn T 14 ((6, 0, p, os.length) :: (12, dp, 0, os.length) :: R : List gl_).length os.length p dp sc.length nd := ⟨by simp; omega, m2, m3, m4, m5, m6⟩
  have hMt : Mn T 14 ((16, 51, 0, 0) :: (14, 0, 0, 0) :: (6, 24, p, os.length) :: (12, dp, 0, os.length) :: R : List gl_).length os.length p dp sc.length nd := ⟨by simp; omega, m2, m3, m4, m5, m6⟩
  have g11 : pS_ (Kn T) V T.length lx 11 0 0 0 (R, os, p, dp, sc, nd) = cm_p (Kn T) V ((12, dp, 0, os.length) :: R, os, p, dp, sc, nd) := rfl
  have ret : ∀ (o : cx_O as_) (pe : pe_) (Q : ps_ → Option Nat → as_ → Prop), RL T eo n V lx x IL GS SL s CB ZB o pe Q → RL T eo n V lx x IL GS SL s CB ZB (cx_bR cx_th o fun v s2 => some (.inl (some (vr_ v)), s2)) pe Q := fun o pe Q h => RL_bind h Kp_rf fun σ v s' q => Or.inr ⟨_, _, _, rfl, rfl, q⟩
  have kd : ∀ kc k, k ∈ [29, 30, 31, 32, 34, 37] → kc = kcQ k → (isIt kc [] = false ∧ kc ≠ 1121 ∧ kc ≠ 1124) → p < T.length → pR_ (Kn T) V T.length lx ((11, 0, 0, 0) :: R, os, p, dp, sc, nd) = pR_ (Kn T) V T.length lx ((12, dp, 0, os.length) :: R, lf_ k p 0 nd :: os, p + 1, dp, sc, nd + 1) → RL T eo n V lx x IL GS SL s CB ZB ((a_dp 274 (some x) (a_nw 9 s).2).bind fun m43 => cx_bR cx_th (aE (e + 8) m43 [vr_ (some x)] (a_nw 9 s).2) fun v45 s44 => (a_gi 85 v45 s44).bind fun v46 => cx_bV cx_th (aE (e + 8) 305 [vr_ (some (a_nw 9 s).1), vr_ (some kc), vi_ v46] s44) fun s47 => some (.inl (some (vr_ (some (a_nw 9 s).1))), s47)) (pR_ (Kn T) V T.length lx ((11, 0, 0, 0) :: R, os, p, dp, sc, nd)) (QX T eo n ids iE x TL IL GS SL XC 1 true s p dp us its gl ((12, dp, 0, os.length) :: R) os sc nd) := fun kc k hk hkc hx hlt hpe => by
    obtain ⟨s3, e3, hP3, hG3, hK3, cc3, cz3, cN3⟩ := C_mk (e + 6) hP m3 kc
    rw [e3, nw_1, hpe]
    have hit : itm (.inner (aN_ s) kc (nI (tkp T eo n p), nI (tkp T eo n p), 0, [], 0, none) .leaf .leaf) = [] := (itm_c hx.1 hx.2).trans rfl
    exact Or.inr ⟨_, _, _, rfl, rfl, _, _, kc, _, _, _, _, _, rfl, rfl, ⟨er_lf hk hkc, (show p ≤ p from Nat.le_refl _), KC_l hk⟩, hG3, by rw [hit, List.append_nil]; exact hP3, hK3, ⟨by omega, by omega⟩, ⟨by omega, by omega, by omega, by omega⟩, ⟨by omega, by omega, fun _ => rfl⟩, by rw [hit]; simp⟩
  -- a head and a command, as one node
  have hd2 : ∀ kc k, k ∈ [21, 22, 23, 24, 25, 26, 28, 33, 36, 38, 39, 40, 43, 59] → kc = kcQ k → (isIt kc [] = false ∧ kc ≠ 1121 ∧ kc ≠ 1124) → k < 100 ∧ k ≠ 20 → p < T.length → pR_ (Kn T) V T.length lx ((11, 0, 0, 0) :: R, os, p, dp, sc, nd) = pR_ (Kn T) V T.length lx ((28, 0, 0, 0) :: (13, 0, 0, 0) :: (14, 0, 0, 0) :: (6, k, p, os.length) :: (12, dp, 0, os.length) :: R, os, p + 1, dp, sc, nd) → RL T eo n V lx x IL GS SL s CB ZB ((a_dp 295 (some x) s).bind fun m4 => cx_bR cx_th (aE (e + 8) m4 [vr_ (some x), vr_ (some kc)] s) fun v6 s5 => some (.inl (some (vr_ v6)), s5)) (pR_ (Kn T) V T.length lx ((11, 0, 0, 0) :: R, os, p, dp, sc, nd)) (QX T eo n ids iE x TL IL GS SL XC 1 true s p dp us its gl ((12, dp, 0, os.length) :: R) os sc nd) := fun kc k hk hkc hx hk2 hlt hpe => by
    rw [f_dp (f := 295) hP.1.1.2.2 rfl, Option.bind_some, hpe]
    refine RL_bind (s_headed hv (e + 7) kc h7 i7 s p dp us its gl ((6, k, p, os.length) :: (12, dp, 0, os.length) :: R) os sc nd CB ZB hP hS hMh (by omega) ⟨by omega, by omega⟩ hI hlt) Kp_rf fun σ v s2 q => ?_
    obtain ⟨t1, t2, a, l, p', nd', rfl, rfl, ⟨q1, q2, q3⟩, hG, hP2, hK2, ⟨cc, cz⟩, ⟨n1, n2, n3, n4⟩, hil⟩ := q
    have g6 : pR_ (Kn T) V T.length lx ((6, k, p, os.length) :: (12, dp, 0, os.length) :: R, t2 :: t1 :: os, p', dp, sc, nd') = pR_ (Kn T) V T.length lx ((12, dp, 0, os.length) :: R, st_ k p 0 nd' [t1, t2] :: os, p', dp, sc, nd' + 1) := by
      refine pR_ok (pb_I (by first | omega | (simp only [List.length_cons]; omega)) (by first | omega | (simp only [List.length_cons]; omega)) (by omega) (by omega) (by omega) (by omega) (by omega) (by omega)) ?_
      show (if k < 100 ∧ k ≠ 20 then _ else _) = _
      rw [if_pos hk2]
      exact sf_app (a := 0) (f := ok_) [t2, t1]
    rw [g6]
    have hit : itm (.inner a kc (nI (tkp T eo n p), nI (tkp T eo n p), 0, [], 0, none) l .leaf) = itm l := itm_c hx.1 hx.2
    exact Or.inr ⟨_, _, _, rfl, rfl, _, a, kc, _, l, _, _, _, rfl, rfl, ⟨er_k hk q1 hkc, fm_ge (Nat.le_refl _) (fun u hu => by simp at hu; rcases hu with rfl | rfl <;> assumption), KC_m hk⟩, hG, by rw [hit]; exact hP2, hK2, ⟨by omega, by omega⟩, ⟨by omega, by omega, by omega, n4⟩, ⟨by omega, by omega, fun _ => rfl⟩, by rw [hit]; omega⟩
  by_cases k10 : Kn T p = 10
  · rw [show sI_ (Kn T p) = 0 by rw [k10]; rfl, cj_X13_simple_434, if_pos (by decide), f_dp (f := 291) hP.1.1.2.2 rfl, Option.bind_some]
    have hlt : p < T.length := Kn_lt (by omega)
    refine ret _ _ _ (s_blk hv (e + 1) c6 d7 s p dp us its gl _ os sc nd CB ZB hP hS hM8 (by omega) hC hI k10 _ ?_)
    have gc : cm_p (Kn T) V ((12, dp, 0, os.length) :: R, os, p, dp, sc, nd) = (if dp = 60 then fl_ p else ok_ (((if isD_ (Kn T (p + 1)) = true then 18 else 20), 0, p, os.length) :: (12, dp, 0, os.length) :: R, os, p + 1, dp + 1, (V p, dp) :: sc, nd)) := by
      unfold cm_p
      dsimp only
      rw [if_neg (show ¬ Kn T p = 15 by omega), if_neg (show ¬ Kn T p = 11 by omega), if_neg (show ¬ bg_ (Kn T p) = true by rw [k10]; decide), if_pos k10]
      show (if Kn T p = 10 then _ else _) = _
      rw [if_pos k10]
      rfl
    by_cases c60 : dp = 60
    · rw [if_pos c60]
      exact pR_er (pb_I (by first | omega | (simp only [List.length_cons]; omega)) (by first | omega | (simp only [List.length_cons]; omega)) (by omega) (by omega) (by omega) (by omega) (by omega) (by omega)) (g11.trans (gc.trans (by rw [if_pos c60]; rfl)))
    · rw [if_neg c60]
      exact pR_ok (pb_I (by first | omega | (simp only [List.length_cons]; omega)) (by first | omega | (simp only [List.length_cons]; omega)) (by omega) (by omega) (by omega) (by omega) (by omega) (by omega)) (g11.trans (gc.trans (by rw [if_neg c60]; rfl)))
  by_cases k47 : Kn T p = 47
  · rw [show sI_ (Kn T p) = 1 by rw [k47]; rfl, cj_X13_simple_434, if_neg (by decide), if_pos (by decide)]
    have hlt : p < T.length := Kn_lt (by omega)
    refine hd2 1108 22 (by decide) rfl (by decide) (by decide) hlt (pR_ok (pb_I (by first | omega | (simp only [List.length_cons]; omega)) (by first | omega | (simp only [List.length_cons]; omega)) (by omega) (by omega) (by omega) (by omega) (by omega) (by omega)) (g11.trans ?_))
    unfold cm_p
    dsimp only
    rw [if_neg (show ¬ Kn T p = 15 by omega), if_neg (show ¬ Kn T p = 11 by omega), if_neg (show ¬ bg_ (Kn T p) = true by rw [k47]; decide), if_neg (show ¬ Kn T p = 10 by omega), if_neg (show ¬ Kn T p = 61 by omega), if_neg (show ¬ Kn T p = 62 by omega), if_neg (show ¬ Kn T p = 63 by omega), if_neg (show ¬ Kn T p = 64 by omega), if_neg (show ¬ Kn T p = 66 by omega), if_neg (show ¬ Kn T p = 65 by omega), if_neg (show ¬ Kn T p = 67 by omega), if_pos k47]
    rfl
  by_cases k49 : Kn T p = 49
  · rw [show sI_ (Kn T p) = 2 by rw [k49]; rfl, cj_X13_simple_434, if_neg (by decide), if_neg (by decide), if_pos (by decide)]
    have hlt : p < T.length := Kn_lt (by omega)
    refine hd2 1109 23 (by decide) rfl (by decide) (by decide) hlt (pR_ok (pb_I (by first | omega | (simp only [List.length_cons]; omega)) (by first | omega | (simp only [List.length_cons]; omega)) (by omega) (by omega) (by omega) (by omega) (by omega) (by omega)) (g11.trans ?_))
    unfold cm_p
    dsimp only
    rw [if_neg (show ¬ Kn T p = 15 by omega), if_neg (show ¬ Kn T p = 11 by omega), if_neg (show ¬ bg_ (Kn T p) = true by rw [k49]; decide), if_neg (show ¬ Kn T p = 10 by omega), if_neg (show ¬ Kn T p = 61 by omega), if_neg (show ¬ Kn T p = 62 by omega), if_neg (show ¬ Kn T p = 63 by omega), if_neg (show ¬ Kn T p = 64 by omega), if_neg (show ¬ Kn T p = 66 by omega), if_neg (show ¬ Kn T p = 65 by omega), if_neg (show ¬ Kn T p = 67 by omega), if_neg (show ¬ Kn T p = 47 by omega), if_pos k49]
    rfl
  by_cases k52 : Kn T p = 52
  · rw [show sI_ (Kn T p) = 3 by rw [k52]; rfl, cj_X13_simple_434, if_neg (by decide), if_neg (by decide), if_neg (by decide), if_pos (by decide)]
    have hlt : p < T.length := Kn_lt (by omega)
    refine hd2 1110 25 (by decide) rfl (by decide) (by decide) hlt (pR_ok (pb_I (by first | omega | (simp only [List.length_cons]; omega)) (by first | omega | (simp only [List.length_cons]; omega)) (by omega) (by omega) (by omega) (by omega) (by omega) (by omega)) (g11.trans ?_))
    unfold cm_p
    dsimp only
    rw [if_neg (show ¬ Kn T p = 15 by omega), if_neg (show ¬ Kn T p = 11 by omega), if_neg (show ¬ bg_ (Kn T p) = true by rw [k52]; decide), if_neg (show ¬ Kn T p = 10 by omega), if_neg (show ¬ Kn T p = 61 by omega), if_neg (show ¬ Kn T p = 62 by omega), if_neg (show ¬ Kn T p = 63 by omega), if_neg (show ¬ Kn T p = 64 by omega), if_neg (show ¬ Kn T p = 66 by omega), if_neg (show ¬ Kn T p = 65 by omega), if_neg (show ¬ Kn T p = 67 by omega), if_neg (show ¬ Kn T p = 47 by omega), if_neg (show ¬ Kn T p = 49 by omega), if_pos k52]
    rfl
  by_cases k53 : Kn T p = 53
  · rw [show sI_ (Kn T p) = 4 by rw [k53]; rfl, cj_X13_simple_434, if_neg (by decide), if_neg (by decide), if_neg (by decide), if_neg (by decide), if_pos (by decide)]
    have hlt : p < T.length := Kn_lt (by omega)
    refine hd2 1111 26 (by decide) rfl (by decide) (by decide) hlt (pR_ok (pb_I (by first | omega | (simp only [List.length_cons]; omega)) (by first | omega | (simp only [List.length_cons]; omega)) (by omega) (by omega) (by omega) (by omega) (by omega) (by omega)) (g11.trans ?_))
    unfold cm_p
    dsimp only
    rw [if_neg (show ¬ Kn T p = 15 by omega), if_neg (show ¬ Kn T p = 11 by omega), if_neg (show ¬ bg_ (Kn T p) = true by rw [k53]; decide), if_neg (show ¬ Kn T p = 10 by omega), if_neg (show ¬ Kn T p = 61 by omega), if_neg (show ¬ Kn T p = 62 by omega), if_neg (show ¬ Kn T p = 63 by omega), if_neg (show ¬ Kn T p = 64 by omega), if_neg (show ¬ Kn T p = 66 by omega), if_neg (show ¬ Kn T p = 65 by omega), if_neg (show ¬ Kn T p = 67 by omega), if_neg (show ¬ Kn T p = 47 by omega), if_neg (show ¬ Kn T p = 49 by omega), if_neg (show ¬ Kn T p = 52 by omega), if_pos k53]
    rfl
  by_cases k50 : Kn T p = 50
  · rw [show sI_ (Kn T p) = 5 by rw [k50]; rfl, cj_X13_simple_434, if_neg (by decide), if_neg (by decide), if_neg (by decide), if_neg (by decide), if_neg (by decide), if_pos (by decide), f_dp (f := 295) hP.1.1.2.2 rfl, Option.bind_some]
    have hlt : p < T.length := Kn_lt (by omega)
    have b0 : pR_ (Kn T) V T.length lx ((11, 0, 0, 0) :: R, os, p, dp, sc, nd) = pR_ (Kn T) V T.length lx ((28, 0, 0, 0) :: (13, 0, 0, 0) :: (14, 0, 0, 0) :: (16, 51, 0, 0) :: (14, 0, 0, 0) :: (6, 24, p, os.length) :: (12, dp, 0, os.length) :: R, os, p + 1, dp, sc, nd) := pR_ok (pb_I (by first | omega | (simp only [List.length_cons]; omega)) (by first | omega | (simp only [List.length_cons]; omega)) (by omega) (by omega) (by omega) (by omega) (by omega) (by omega)) (g11.trans (by
      unfold cm_p
      dsimp only
      rw [if_neg (show ¬ Kn T p = 15 by omega), if_neg (show ¬ Kn T p = 11 by omega), if_neg (show ¬ bg_ (Kn T p) = true by rw [k50]; decide), if_neg (show ¬ Kn T p = 10 by omega), if_neg (show ¬ Kn T p = 61 by omega), if_neg (show ¬ Kn T p = 62 by omega), if_neg (show ¬ Kn T p = 63 by omega), if_neg (show ¬ Kn T p = 64 by omega), if_neg (show ¬ Kn T p = 66 by omega), if_neg (show ¬ Kn T p = 65 by omega), if_neg (show ¬ Kn T p = 67 by omega), if_neg (show ¬ Kn T p = 47 by omega), if_neg (show ¬ Kn T p = 49 by omega), if_neg (show ¬ Kn T p = 52 by omega), if_neg (show ¬ Kn T p = 53 by omega), if_pos k50]
      rfl))
    rw [b0]
    refine RL_bind (s_headed hv (e + 7) 1112 h7 i7 s p dp us its gl ((16, 51, 0, 0) :: (14, 0, 0, 0) :: (6, 24, p, os.length) :: (12, dp, 0, os.length) :: R) os sc nd CB ZB hP hS hMt (by omega) ⟨by omega, by omega⟩ hI hlt) Kp_rf fun σ v s2 q => ?_
    obtain ⟨t1, t2, a, l, p1, nd1, rfl, rfl, ⟨q1, q2, q3⟩, hG, hP2, hK2, ⟨cc, cz⟩, ⟨n1, n2, n3, n4⟩, hil⟩ := q
    have e2 := is_2 (p := p1) hP2.2.1 gd_or
    have g16 : pS_ (Kn T) V T.length lx 16 51 0 0 ((14, 0, 0, 0) :: (6, 24, p, os.length) :: (12, dp, 0, os.length) :: R, t2 :: t1 :: os, p1, dp, sc, nd1) = (if Kn T p1 = 51 then ok_ ((14, 0, 0, 0) :: (6, 24, p, os.length) :: (12, dp, 0, os.length) :: R, t2 :: t1 :: os, p1 + 1, dp, sc, nd1) else fl_ p1) := rfl
    -- what follows OR
    have fin : Kn T p1 = 51 → RL T eo n V lx x IL GS SL s CB ZB ((a_dp 298 (some x) (awI s2 x 94 (nI (p1 + 1)))).bind fun m31 => cx_bR cx_th (aE (e + 8) m31 [vr_ (some x)] (awI s2 x 94 (nI (p1 + 1)))) fun v33 s32 => (a_dp 306 (some a) s32).bind fun m34 => cx_bR cx_th (aE (e + 8) m34 [vr_ (some a), vr_ v33] s32) fun v36 s35 => some (.inl (some (vr_ v36)), s35)) (pR_ (Kn T) V T.length lx ((16, 51, 0, 0) :: (14, 0, 0, 0) :: (6, 24, p, os.length) :: (12, dp, 0, os.length) :: R, t2 :: t1 :: os, p1, dp, sc, nd1)) (QX T eo n ids iE x TL IL GS SL XC 1 true s p dp us its gl ((12, dp, 0, os.length) :: R) os sc nd) := fun k51 => by
      have hlt1 : p1 < T.length := Kn_lt (by omega)
      have b1 : pR_ (Kn T) V T.length lx ((16, 51, 0, 0) :: (14, 0, 0, 0) :: (6, 24, p, os.length) :: (12, dp, 0, os.length) :: R, t2 :: t1 :: os, p1, dp, sc, nd1) = pR_ (Kn T) V T.length lx ([(14, 0, 0, 0)] ++ ((6, 24, p, os.length) :: (12, dp, 0, os.length) :: R), t2 :: t1 :: os, p1 + 1, dp, sc, nd1) := pR_ok (pb_I (by first | omega | (simp only [List.length_cons]; omega)) (by first | omega | (simp only [List.length_cons]; omega)) (by omega) (by omega) (by omega) (by omega) (by omega) (by omega)) (g16.trans (by rw [if_pos k51]; rfl))
      rw [b1]
      have hP3 := PSt_at hP2 (p' := p1 + 1) (by omega)
      have hG3 := TG_Mx hG hP2 hw (x_Kp (x := x) (IL := IL) (GS := GS) (SL := SL) 94 (nI (p1 + 1)))
      have y1 : aC_ (awI s2 x 94 (nI (p1 + 1))) = aC_ s2 := rfl
      have y2 : aZ_ (awI s2 x 94 (nI (p1 + 1))) = aZ_ s2 := rfl
      have hN2 : aN_ s ≤ aN_ s2 := hK2.1
      refine RL_with (e + 7) i8 rfl hP3 hS (R := (6, 24, p, os.length) :: (12, dp, 0, os.length) :: R) ⟨by simp; omega, by simp; omega, by omega, m4, m5, by omega⟩ (by omega) ⟨by omega, by omega⟩ trivial (by simp; omega) (Kp_tr hK2 (x_Kp 94 _)) (Nat.le_refl _) hw hG3 hN2 fun t3 j3 k3 w3 l3 p4 dp4 nd4 s4 ⟨b2, b3⟩ hG4 hP4 hK4 ⟨cc4, cz4⟩ ⟨n5, n6, n7, n8⟩ ⟨dd1, dd2, dd3⟩ hil4 hN4 => ?_
      obtain rfl := dd3 rfl
      have b3 : p1 + 1 ≤ fi_ t3 := b3.1
      simp only [List.length_cons] at n6
      have g6 : pR_ (Kn T) V T.length lx ((6, 24, p, os.length) :: (12, dp4, 0, os.length) :: R, t3 :: t2 :: t1 :: os, p4, dp4, sc, nd4) = pR_ (Kn T) V T.length lx ((12, dp4, 0, os.length) :: R, st_ 24 p 0 nd4 [t1, t2, t3] :: os, p4, dp4, sc, nd4 + 1) := pR_ok (pb_I (by first | omega | (simp only [List.length_cons]; omega)) (by first | omega | (simp only [List.length_cons]; omega)) (by omega) (by omega) (by omega) (by omega) (by omega) (by omega)) (sf_app (kk := 24) (a := 0) (f := ok_) [t3, t2, t1])
      rw [g6]
      have hits : itm (.inner a 1112 (nI (tkp T eo n p), nI (tkp T eo n p), 0, [], 0, none) (snC l (.inner j3 k3 w3 l3 .leaf)) .leaf) = itm l ++ itm (.inner j3 k3 w3 l3 .leaf) := (itm_c rfl (by decide)).trans (itm_sn _ _)
      exact Or.inr ⟨_, _, _, rfl, rfl, _, a, 1112, _, _, _, _, _, rfl, rfl, ⟨er_k (k := 24) (by decide) (er_app (ts := [t1, t2]) q1 b2) rfl, fm_ge (Nat.le_refl _) (fun u hu => by simp at hu; rcases hu with rfl | rfl | rfl; exact q2; exact q3; omega), rfl⟩, hG4, by rw [hits, ← List.append_assoc]; exact hP4, hK4, ⟨by omega, by omega⟩, ⟨by omega, by omega, by omega, n8⟩, ⟨by omega, by omega, fun _ => rfl⟩, by rw [hits]; simp; omega⟩
    rw [f_dp (f := 290) hP2.1.1.2.2 rfl, Option.bind_some, show aE (e + 8) 290 [vr_ (some x), vr_ (some 1040)] s2 = _ from y_skipx (e + 4) hP2.1 hP2.2.1 n4 rfl (by omega)]
    cases r1 : isx T eo p1 1040 with
    | true =>
      rw [r1, Bool.true_or] at e2
      rw [if_pos rfl, cI_k, if_neg (by decide)]
      exact fin (by simpa using e2.symm)
    | false =>
      rw [r1, Bool.false_or] at e2
      rw [if_neg (by decide), cI_k, if_pos rfl]
      refine RL_mustx (e + 4) hP2 n4 (c := 1041) rfl (by omega) hK2 ⟨by omega, by omega⟩ (fun h => ?_) (fun h i3 ln3 _ => ?_)
      · rw [h] at e2
        exact pR_er (pb_I (by first | omega | (simp only [List.length_cons]; omega)) (by first | omega | (simp only [List.length_cons]; omega)) (by omega) (by omega) (by omega) (by omega) (by omega) (by omega)) (g16.trans (by rw [if_neg (by simpa using e2.symm)]; rfl))
      · rw [h] at e2
        exact fin (by simpa using e2.symm)
  by_cases k54 : Kn T p = 54
  · rw [show sI_ (Kn T p) = 6 by rw [k54]; rfl, cj_X13_simple_434, if_neg (by decide), if_neg (by decide), if_neg (by decide), if_neg (by decide), if_neg (by decide), if_neg (by decide), if_pos (by decide), f_dp (f := 299) hP.1.1.2.2 rfl, Option.bind_some]
    have hlt : p < T.length := Kn_lt (by omega)
    refine ret _ _ _ (s_for hv (e + 7) h7 i7 s p dp us its gl _ os sc nd CB ZB hP hS hM (by omega) ⟨by omega, by omega⟩ hI hlt _ ?_)
    have gc : cm_p (Kn T) V ((12, dp, 0, os.length) :: R, os, p, dp, sc, nd) = (if Kn T (p + 1) = 1 then (if Kn T (p + 2) = 25 then ok_ ((28, 0, 0, 0) :: (16, 55, 0, 0) :: (28, 0, 0, 0) :: (41, 0, 0, 0) :: (13, 0, 0, 0) :: (14, 0, 0, 0) :: (6, 27, p, os.length) :: (12, dp, 0, os.length) :: R, lf_ 58 (p + 1) (V (p + 1)) nd :: os, p + 3, dp, sc, nd + 1) else fl_ (p + 2)) else fl_ (p + 1)) := by
      unfold cm_p
      dsimp only
      rw [if_neg (show ¬ Kn T p = 15 by omega), if_neg (show ¬ Kn T p = 11 by omega), if_neg (show ¬ bg_ (Kn T p) = true by rw [k54]; decide), if_neg (show ¬ Kn T p = 10 by omega), if_neg (show ¬ Kn T p = 61 by omega), if_neg (show ¬ Kn T p = 62 by omega), if_neg (show ¬ Kn T p = 63 by omega), if_neg (show ¬ Kn T p = 64 by omega), if_neg (show ¬ Kn T p = 66 by omega), if_neg (show ¬ Kn T p = 65 by omega), if_neg (show ¬ Kn T p = 67 by omega), if_neg (show ¬ Kn T p = 47 by omega), if_neg (show ¬ Kn T p = 49 by omega), if_neg (show ¬ Kn T p = 52 by omega), if_neg (show ¬ Kn T p = 53 by omega), if_neg (show ¬ Kn T p = 50 by omega), if_pos k54]
    by_cases c1 : Kn T (p + 1) = 1
    · rw [if_pos c1]
      by_cases c2 : Kn T (p + 2) = 25
      · rw [if_pos c2]
        exact pR_ok (pb_I (by first | omega | (simp only [List.length_cons]; omega)) (by first | omega | (simp only [List.length_cons]; omega)) (by omega) (by omega) (by omega) (by omega) (by omega) (by omega)) (g11.trans (gc.trans (by rw [if_pos c1, if_pos c2]; rfl)))
      · rw [if_neg c2]
        exact pR_er (pb_I (by first | omega | (simp only [List.length_cons]; omega)) (by first | omega | (simp only [List.length_cons]; omega)) (by omega) (by omega) (by omega) (by omega) (by omega) (by omega)) (g11.trans (gc.trans (by rw [if_pos c1, if_neg c2]; rfl)))
    · rw [if_neg c1]
      exact pR_er (pb_I (by first | omega | (simp only [List.length_cons]; omega)) (by first | omega | (simp only [List.length_cons]; omega)) (by omega) (by omega) (by omega) (by omega) (by omega) (by omega)) (g11.trans (gc.trans (by rw [if_neg c1]; rfl)))
  by_cases k57 : Kn T p = 57
  · rw [show sI_ (Kn T p) = 7 by rw [k57]; rfl, cj_X13_simple_434, if_neg (by decide), if_neg (by decide), if_neg (by decide), if_neg (by decide), if_neg (by decide), if_neg (by decide), if_neg (by decide), if_pos (by decide), f_dp (f := 300) hP.1.1.2.2 rfl, Option.bind_some]
    have hlt : p < T.length := Kn_lt (by omega)
    have b0 : pR_ (Kn T) V T.length lx ((11, 0, 0, 0) :: R, os, p, dp, sc, nd) = pR_ (Kn T) V T.length lx ((28, 0, 0, 0) :: (16, 58, 0, 0) :: (17, 0, 0, 0) :: (22, 0, p, os.length) :: (12, dp, 0, os.length) :: R, os, p + 1, dp, sc, nd) := pR_ok (pb_I (by first | omega | (simp only [List.length_cons]; omega)) (by first | omega | (simp only [List.length_cons]; omega)) (by omega) (by omega) (by omega) (by omega) (by omega) (by omega)) (g11.trans (by
      unfold cm_p
      dsimp only
      rw [if_neg (show ¬ Kn T p = 15 by omega), if_neg (show ¬ Kn T p = 11 by omega), if_neg (show ¬ bg_ (Kn T p) = true by rw [k57]; decide), if_neg (show ¬ Kn T p = 10 by omega), if_neg (show ¬ Kn T p = 61 by omega), if_neg (show ¬ Kn T p = 62 by omega), if_neg (show ¬ Kn T p = 63 by omega), if_neg (show ¬ Kn T p = 64 by omega), if_neg (show ¬ Kn T p = 66 by omega), if_neg (show ¬ Kn T p = 65 by omega), if_neg (show ¬ Kn T p = 67 by omega), if_neg (show ¬ Kn T p = 47 by omega), if_neg (show ¬ Kn T p = 49 by omega), if_neg (show ¬ Kn T p = 52 by omega), if_neg (show ¬ Kn T p = 53 by omega), if_neg (show ¬ Kn T p = 50 by omega), if_neg (show ¬ Kn T p = 54 by omega), if_pos k57]
      rfl))
    rw [b0]
    exact ret _ _ _ (s_cho hv (e + 1) h7 c6 s p dp us its gl _ os sc nd CB ZB hP hS hM8 (by omega) hC hI hlt)
  by_cases k61 : Kn T p = 61
  · rw [show sI_ (Kn T p) = 8 by rw [k61]; rfl, cj_X13_simple_434, if_neg (by decide), if_neg (by decide), if_neg (by decide), if_neg (by decide), if_neg (by decide), if_neg (by decide), if_neg (by decide), if_neg (by decide), if_pos (by decide)]
    have hlt : p < T.length := Kn_lt (by omega)
    refine kd 1113 29 (by decide) rfl (by decide) hlt (pR_ok (pb_I (by first | omega | (simp only [List.length_cons]; omega)) (by first | omega | (simp only [List.length_cons]; omega)) (by omega) (by omega) (by omega) (by omega) (by omega) (by omega)) (g11.trans ?_))
    unfold cm_p
    dsimp only
    rw [if_neg (show ¬ Kn T p = 15 by omega), if_neg (show ¬ Kn T p = 11 by omega), if_neg (show ¬ bg_ (Kn T p) = true by rw [k61]; decide), if_neg (show ¬ Kn T p = 10 by omega), if_pos k61]
    rfl
  by_cases k62 : Kn T p = 62
  · rw [show sI_ (Kn T p) = 9 by rw [k62]; rfl, cj_X13_simple_434, if_neg (by decide), if_neg (by decide), if_neg (by decide), if_neg (by decide), if_neg (by decide), if_neg (by decide), if_neg (by decide), if_neg (by decide), if_neg (by decide), if_pos (by decide)]
    have hlt : p < T.length := Kn_lt (by omega)
    refine kd 1114 30 (by decide) rfl (by decide) hlt (pR_ok (pb_I (by first | omega | (simp only [List.length_cons]; omega)) (by first | omega | (simp only [List.length_cons]; omega)) (by omega) (by omega) (by omega) (by omega) (by omega) (by omega)) (g11.trans ?_))
    unfold cm_p
    dsimp only
    rw [if_neg (show ¬ Kn T p = 15 by omega), if_neg (show ¬ Kn T p = 11 by omega), if_neg (show ¬ bg_ (Kn T p) = true by rw [k62]; decide), if_neg (show ¬ Kn T p = 10 by omega), if_neg (show ¬ Kn T p = 61 by omega), if_pos k62]
    rfl
  by_cases k63 : Kn T p = 63
  · rw [show sI_ (Kn T p) = 10 by rw [k63]; rfl, cj_X13_simple_434, if_neg (by decide), if_neg (by decide), if_neg (by decide), if_neg (by decide), if_neg (by decide), if_neg (by decide), if_neg (by decide), if_neg (by decide), if_neg (by decide), if_neg (by decide), if_pos (by decide)]
    have hlt : p < T.length := Kn_lt (by omega)
    refine kd 1115 31 (by decide) rfl (by decide) hlt (pR_ok (pb_I (by first | omega | (simp only [List.length_cons]; omega)) (by first | omega | (simp only [List.length_cons]; omega)) (by omega) (by omega) (by omega) (by omega) (by omega) (by omega)) (g11.trans ?_))
    unfold cm_p
    dsimp only
    rw [if_neg (show ¬ Kn T p = 15 by omega), if_neg (show ¬ Kn T p = 11 by omega), if_neg (show ¬ bg_ (Kn T p) = true by rw [k63]; decide), if_neg (show ¬ Kn T p = 10 by omega), if_neg (show ¬ Kn T p = 61 by omega), if_neg (show ¬ Kn T p = 62 by omega), if_pos k63]
    rfl
  by_cases k64 : Kn T p = 64
  · rw [show sI_ (Kn T p) = 11 by rw [k64]; rfl, cj_X13_simple_434, if_neg (by decide), if_neg (by decide), if_neg (by decide), if_neg (by decide), if_neg (by decide), if_neg (by decide), if_neg (by decide), if_neg (by decide), if_neg (by decide), if_neg (by decide), if_neg (by decide), if_pos (by decide)]
    have hlt : p < T.length := Kn_lt (by omega)
    refine kd 1116 32 (by decide) rfl (by decide) hlt (pR_ok (pb_I (by first | omega | (simp only [List.length_cons]; omega)) (by first | omega | (simp only [List.length_cons]; omega)) (by omega) (by omega) (by omega) (by omega) (by omega) (by omega)) (g11.trans ?_))
    unfold cm_p
    dsimp only
    rw [if_neg (show ¬ Kn T p = 15 by omega), if_neg (show ¬ Kn T p = 11 by omega), if_neg (show ¬ bg_ (Kn T p) = true by rw [k64]; decide), if_neg (show ¬ Kn T p = 10 by omega), if_neg (show ¬ Kn T p = 61 by omega), if_neg (show ¬ Kn T p = 62 by omega), if_neg (show ¬ Kn T p = 63 by omega), if_pos k64]
    rfl
  by_cases k66 : Kn T p = 66
  · rw [show sI_ (Kn T p) = 13 by rw [k66]; rfl, cj_X13_simple_434, if_neg (by decide), if_neg (by decide), if_neg (by decide), if_neg (by decide), if_neg (by decide), if_neg (by decide), if_neg (by decide), if_neg (by decide), if_neg (by decide), if_neg (by decide), if_neg (by decide), if_neg (by decide), if_neg (by decide), if_pos (by decide)]
    have hlt : p < T.length := Kn_lt (by omega)
    refine kd 1118 34 (by decide) rfl (by decide) hlt (pR_ok (pb_I (by first | omega | (simp only [List.length_cons]; omega)) (by first | omega | (simp only [List.length_cons]; omega)) (by omega) (by omega) (by omega) (by omega) (by omega) (by omega)) (g11.trans ?_))
    unfold cm_p
    dsimp only
    rw [if_neg (show ¬ Kn T p = 15 by omega), if_neg (show ¬ Kn T p = 11 by omega), if_neg (show ¬ bg_ (Kn T p) = true by rw [k66]; decide), if_neg (show ¬ Kn T p = 10 by omega), if_neg (show ¬ Kn T p = 61 by omega), if_neg (show ¬ Kn T p = 62 by omega), if_neg (show ¬ Kn T p = 63 by omega), if_neg (show ¬ Kn T p = 64 by omega), if_pos k66]
    rfl
  by_cases k65 : Kn T p = 65
  · rw [show sI_ (Kn T p) = 12 by rw [k65]; rfl, cj_X13_simple_434, if_neg (by decide), if_neg (by decide), if_neg (by decide), if_neg (by decide), if_neg (by decide), if_neg (by decide), if_neg (by decide), if_neg (by decide), if_neg (by decide), if_neg (by decide), if_neg (by decide), if_neg (by decide), if_pos (by decide)]
    have hlt : p < T.length := Kn_lt (by omega)
    obtain ⟨s3, e3, hP3, hG3, hK3, cc3, cz3, cN3⟩ := C_mk (e + 6) hP m3 1117
    have b0 : pR_ (Kn T) V T.length lx ((11, 0, 0, 0) :: R, os, p, dp, sc, nd) = pR_ (Kn T) V T.length lx ([(28, 0, 0, 0)] ++ ((6, 33, p, os.length) :: (12, dp, 0, os.length) :: R), os, p + 1, dp, sc, nd) := pR_ok (pb_I (by first | omega | (simp only [List.length_cons]; omega)) (by first | omega | (simp only [List.length_cons]; omega)) (by omega) (by omega) (by omega) (by omega) (by omega) (by omega)) (g11.trans (by
      unfold cm_p
      dsimp only
      rw [if_neg (show ¬ Kn T p = 15 by omega), if_neg (show ¬ Kn T p = 11 by omega), if_neg (show ¬ bg_ (Kn T p) = true by rw [k65]; decide), if_neg (show ¬ Kn T p = 10 by omega), if_neg (show ¬ Kn T p = 61 by omega), if_neg (show ¬ Kn T p = 62 by omega), if_neg (show ¬ Kn T p = 63 by omega), if_neg (show ¬ Kn T p = 64 by omega), if_neg (show ¬ Kn T p = 66 by omega), if_pos k65]
      rfl))
    rw [e3, nw_1, b0]
    refine RL_with (e + 7) h8 rfl hP3 hS (R := (6, 33, p, os.length) :: (12, dp, 0, os.length) :: R) ⟨by simp; omega, m2, by omega, m4, m5, by omega⟩ (by omega) ⟨by omega, by omega⟩ trivial (by omega) hK3 (Nat.le_refl _) hw hG3 (by omega) fun t2 j2 k2 w2 l2 p2 dp2 nd2 s6 ⟨f0, b1, b2, b3, b4, b5, b6, b7⟩ hG6 hP6 hK6 ⟨cc6, cz6⟩ ⟨n5, n6, n7, n8⟩ ⟨d5, d6, dd7⟩ hil6 hN6 => ?_
    obtain rfl := dd7 rfl
    clear b7
    have g6 : pR_ (Kn T) V T.length lx ((6, 33, p, os.length) :: (12, dp2, 0, os.length) :: R, t2 :: os, p2, dp2, sc, nd2) = pR_ (Kn T) V T.length lx ((12, dp2, 0, os.length) :: R, st_ 33 p 0 nd2 [t2] :: os, p2, dp2, sc, nd2 + 1) := pR_ok (pb_I (by first | omega | (simp only [List.length_cons]; omega)) (by first | omega | (simp only [List.length_cons]; omega)) (by omega) (by omega) (by omega) (by omega) (by omega) (by omega)) (sf_app (kk := 33) (a := 0) (f := ok_) [t2])
    rw [g6]
    have hit : itm (.inner (aN_ s) 1117 (nI (tkp T eo n p), nI (tkp T eo n p), 0, [], 0, none) (.inner j2 k2 w2 l2 .leaf) .leaf) = itm (.inner j2 k2 w2 l2 .leaf) := (itm_c rfl (by decide)).trans rfl
    exact Or.inr ⟨_, _, _, rfl, rfl, _, aN_ s, 1117, _, _, _, _, _, rfl, rfl, ⟨er_k (k := 33) (by decide) (er_one f0) rfl, fm_ge (Nat.le_refl _) (fun u hu => by simp at hu; subst hu; omega), rfl⟩, hG6, by rw [hit]; exact hP6, hK6, ⟨by omega, by omega⟩, ⟨by omega, by omega, by omega, n8⟩, ⟨by omega, by omega, fun _ => rfl⟩, by rw [hit]; omega⟩
  by_cases k67 : Kn T p = 67
  · rw [show sI_ (Kn T p) = 14 by rw [k67]; rfl, cj_X13_simple_434, if_neg (by decide), if_neg (by decide), if_neg (by decide), if_neg (by decide), if_neg (by decide), if_neg (by decide), if_neg (by decide), if_neg (by decide), if_neg (by decide), if_neg (by decide), if_neg (by decide), if_neg (by decide), if_neg (by decide), if_neg (by decide), if_pos (by decide)]
    have hlt : p < T.length := Kn_lt (by omega)
    have gc : cm_p (Kn T) V ((12, dp, 0, os.length) :: R, os, p, dp, sc, nd) = (if Kn T (p + 1) = 1 then ok_ ((12, dp, 0, os.length) :: R, lf_ 35 (p + 1) (V (p + 1)) nd :: os, p + 2, dp, sc, nd + 1) else fl_ (p + 1)) := by
      unfold cm_p
      dsimp only
      rw [if_neg (show ¬ Kn T p = 15 by omega), if_neg (show ¬ Kn T p = 11 by omega), if_neg (show ¬ bg_ (Kn T p) = true by rw [k67]; decide), if_neg (show ¬ Kn T p = 10 by omega), if_neg (show ¬ Kn T p = 61 by omega), if_neg (show ¬ Kn T p = 62 by omega), if_neg (show ¬ Kn T p = 63 by omega), if_neg (show ¬ Kn T p = 64 by omega), if_neg (show ¬ Kn T p = 66 by omega), if_neg (show ¬ Kn T p = 65 by omega), if_pos k67]
    obtain ⟨tk0, ln0, ct0, et0⟩ := C_take (e + 6) hP m3
    rw [et0]
    have hP1 := PSt_at hP (p' := p + 1) (by omega)
    refine RL_name (e + 4) hP1 (by omega) (x_Kp 94 _) ⟨by simp only [aC_awI]; omega, by simp only [aZ_awI]; omega⟩ (fun h => pR_er (pb_I (by first | omega | (simp only [List.length_cons]; omega)) (by first | omega | (simp only [List.length_cons]; omega)) (by omega) (by omega) (by omega) (by omega) (by omega) (by omega)) (g11.trans (gc.trans (by rw [if_neg h]; rfl)))) (fun hn tk ln ct => ?_)
    have hlt1 : p + 1 < T.length := Kn_lt (by omega)
    have b0 : pR_ (Kn T) V T.length lx ((11, 0, 0, 0) :: R, os, p, dp, sc, nd) = pR_ (Kn T) V T.length lx ((12, dp, 0, os.length) :: R, lf_ 35 (p + 1) (V (p + 1)) nd :: os, p + 1 + 1, dp, sc, nd + 1) := pR_ok (pb_I (by first | omega | (simp only [List.length_cons]; omega)) (by first | omega | (simp only [List.length_cons]; omega)) (by omega) (by omega) (by omega) (by omega) (by omega) (by omega)) (g11.trans (gc.trans (by rw [if_pos hn]; rfl)))
    rw [b0]
    have hP2 := PSt_at hP1 (p' := p + 1 + 1) (by omega)
    have ct2 := CT_Kp ct (x_Kp (x := x) (IL := IL) (GS := GS) (SL := SL) 94 (nI (p + 1 + 1))) (Mx_cl hP1)
    obtain ⟨s3, e3, hP3, hG3, hK3, cc3, cz3, cN3⟩ := C_mk2 (e + 6) (kc := 1119) hP2 ct2
    rw [e3, nw_1, aN_awI, aN_awI]
    simp only [aC_awI, aZ_awI, aN_awI] at cc3 cz3 cN3 hG3
    have ct3 := CT_Kp ct2 hK3 (fun _ q => q.elim)
    have hNa := NF_isN hG3.1.1
    obtain ⟨e4, hG4⟩ := C_text ct3 hG3
    rw [e4]
    have hP4 : PSt T eo n ids iE x TL IL GS SL (awR s3 (aN_ s) 103 (aR_ s3 tk 88)) (p + 1 + 1) dp us its gl := PSt_ownR hP3 hw (Nat.le_refl _) hNa
    have hk4 : Kp (Mx x IL GS SL) s (awR s3 (aN_ s) 103 (aR_ s3 tk 88)) := Kp_R (Kp_tr (Kp_tr (x_Kp 94 _) (x_Kp 94 _)) (Kp_wk hK3 (fun _ _ q => q.elim))) 103 _ (Or.inr (Nat.le_refl _))
    have hB : er (.inner (aN_ s) 1119 (nI (tkp T eo n (p + 1)), nI (tkp T eo n (p + 1)), 0, tkx T (p + 1), 0, none) .leaf .leaf) = cf T eo n (lf_ 35 (p + 1) (V (p + 1)) nd) := by
      rw [cf_35]
      exact er_yr (by decide) (by decide) rfl
    have hit : itm (.inner (aN_ s) 1119 (nI (tkp T eo n (p + 1)), nI (tkp T eo n (p + 1)), 0, tkx T (p + 1), 0, none) .leaf .leaf) = [] := rfl
    exact Or.inr ⟨_, _, _, rfl, rfl, _, aN_ s, 1119, _, _, _, _, _, rfl, rfl, ⟨hB, (show p ≤ p + 1 from Nat.le_succ _), rfl⟩, hG4, by rw [hit, List.append_nil]; exact hP4, hk4, ⟨by show aC_ s3 + 10 * p ≤ _; omega, by show aZ_ s3 + 100 * p ≤ _; omega⟩, ⟨by omega, by omega, by omega, by omega⟩, ⟨by omega, by omega, fun _ => rfl⟩, by rw [hit]; simp; omega⟩
  have hm1 : sI_ (Kn T p) = -1 := by
    unfold sI_
    rw [if_neg (show ¬ Kn T p = 10 from k10), if_neg (show ¬ Kn T p = 47 from k47), if_neg (show ¬ Kn T p = 49 from k49), if_neg (show ¬ Kn T p = 52 from k52), if_neg (show ¬ Kn T p = 53 from k53), if_neg (show ¬ Kn T p = 50 from k50), if_neg (show ¬ Kn T p = 54 from k54), if_neg (show ¬ Kn T p = 57 from k57), if_neg (show ¬ Kn T p = 61 from k61), if_neg (show ¬ Kn T p = 62 from k62), if_neg (show ¬ Kn T p = 63 from k63), if_neg (show ¬ Kn T p = 64 from k64), if_neg (show ¬ Kn T p = 65 from k65), if_neg (show ¬ Kn T p = 66 from k66), if_neg (show ¬ Kn T p = 67 from k67)]
  rw [hm1, cj_X13_simple_434, if_neg (by decide), if_neg (by decide), if_neg (by decide), if_neg (by decide), if_neg (by decide), if_neg (by decide), if_neg (by decide), if_neg (by decide), if_neg (by decide), if_neg (by decide), if_neg (by decide), if_neg (by decide), if_neg (by decide), if_neg (by decide), if_neg (by decide), f_dp (f := 289) hP.1.1.2.2 rfl, Option.bind_some]
  refine ret _ _ _ ?_
  have b0 : pR_ (Kn T) V T.length lx ((11, 0, 0, 0) :: R, os, p, dp, sc, nd) = pR_ (Kn T) V T.length lx ((28, 0, 0, 0) :: (25, 0, p, os.length) :: (12, dp, 0, os.length) :: R, os, p, dp, sc, nd) := by
    by_cases hb : bg_ (Kn T p) = true
    · refine pR_ok (pb_I (by first | omega | (simp only [List.length_cons]; omega)) (by first | omega | (simp only [List.length_cons]; omega)) (by omega) (by omega) (by omega) (by omega) (by omega) (by omega)) (g11.trans ?_)
      unfold cm_p
      dsimp only
      rw [if_neg n15, if_neg n11, if_pos hb]
      rfl
    · rw [pR_no (by omega) ⟨by simp; omega, m2, m3, m4, m5, m6⟩ (by simpa using hb)]
      refine pR_er (pb_I (by first | omega | (simp only [List.length_cons]; omega)) (by first | omega | (simp only [List.length_cons]; omega)) (by omega) (by omega) (by omega) (by omega) (by omega) (by omega)) (g11.trans ?_)
      unfold cm_p
      dsimp only
      rw [if_neg n15, if_neg n11, if_neg hb, if_neg k10, if_neg k61, if_neg k62, if_neg k63, if_neg k64, if_neg k66, if_neg k65, if_neg k67, if_neg k47, if_neg k49, if_neg k52, if_neg k53, if_neg k50, if_neg k54, if_neg k57]
      rfl
  rw [b0]
  exact s_asg hv (e + 7) h7 s p dp us its gl _ os sc nd CB ZB hP hS hM (by omega) hC hI
theorem s_simple (hv : HV T eo V L lx) (e : Nat) (h7 : SX T eo n V L lx ids iE x TL IL GS SL (XB T eo n false) 0 (e + 7) 280 [vr_ (some x)] (fun _ => [(28, 0, 0, 0)]) (fun _ => True) 20 19 true) (h8 : SX T eo n V L lx ids iE x TL IL GS SL (XB T eo n false) 0 (e + 8) 280 [vr_ (some x)] (fun _ => [(28, 0, 0, 0)]) (fun _ => True) 20 19 true) (c6 : SX T eo n V L lx ids iE x TL IL GS SL XC 1 (e + 6) 287 [vr_ (some x)] (fun _ => [(11, 0, 0, 0)]) (fun _ => True) 5 22 true) (i7 : SX T eo n V L lx ids iE x TL IL GS SL XC 1 (e + 7) 298 [vr_ (some x)] (fun _ => [(14, 0, 0, 0)]) (fun _ => True) 60 6 true) (i8 : SX T eo n V L lx ids iE x TL IL GS SL XC 1 (e + 8) 298 [vr_ (some x)] (fun _ => [(14, 0, 0, 0)]) (fun _ => True) 60 6 true) (d7 : SX T eo n V L lx ids iE x TL IL GS SL XC 0 (e + 7) 270 [vr_ (some x), vi_ 0] (fun _ => [(3, 0, 0, 0)]) (fun _ => True) 3 24 true) (s p dp us its gl R os sc nd CB ZB) (hP : PSt T eo n ids iE x TL IL GS SL s p dp us its gl) (hS : SV L us.reverse sc) (hM0 : Mn T 5 R.length os.length p dp sc.length nd) (hd : 20 * (61 - dp) + 21 ≤ e + 9) (hC : Cn T s p (CB - 3) (ZB - 40)) (hI : its.length ≤ p) :
    RL T eo n V lx x IL GS SL s CB ZB (aE (e + 9) 288 [vr_ (some x)] s) (pR_ (Kn T) V T.length lx ((11, 0, 0, 0) :: R, os, p, dp, sc, nd)) (QX T eo n ids iE x TL IL GS SL XC 1 true s p dp us its gl ((12, dp, 0, os.length) :: R) os sc nd) := by
  obtain ⟨m1, m2, m3, m4, m5, m6⟩ := id hM0
  have hTl : T.length < 2600 := hv.1
  have hw := PSt_Lw hP
  have g11 : pS_ (Kn T) V T.length lx 11 0 0 0 (R, os, p, dp, sc, nd) = cm_p (Kn T) V ((12, dp, 0, os.length) :: R, os, p, dp, sc, nd) := rfl
  have key := s_sim434 hv e h7 h8 c6 i7 i8 d7 s p dp us its gl R os sc nd CB ZB hP hS hM0 hd hC hI
  obtain ⟨tk, ln, ct, et⟩ := C_peek (e + 6) hP m3
  have nth : (Kn T p = 15 ∨ Kn T p = 11) → RL T eo n V lx x IL GS SL s CB ZB ((a_gi 85 (some tk) (a_nw 9 s).2).bind fun v17 => cx_bV cx_th (aE (e + 8) 305 [vr_ (some (a_nw 9 s).1), vr_ (some 1107), vi_ v17] (a_nw 9 s).2) fun s18 => some (.inl (some (vr_ (some (a_nw 9 s).1))), s18)) (pR_ (Kn T) V T.length lx ((11, 0, 0, 0) :: R, os, p, dp, sc, nd)) (QX T eo n ids iE x TL IL GS SL XC 1 true s p dp us its gl ((12, dp, 0, os.length) :: R) os sc nd) := fun hk => by
    obtain ⟨s3, e3, hP3, hG3, hK3, cc3, cz3, cN3⟩ := C_mk2 (e + 6) (kc := 1107) hP ct
    have b0 : pR_ (Kn T) V T.length lx ((11, 0, 0, 0) :: R, os, p, dp, sc, nd) = pR_ (Kn T) V T.length lx ((12, dp, 0, os.length) :: R, lf_ 37 p 0 nd :: os, p, dp, sc, nd + 1) := by
      refine pR_ok (pb_I (by first | omega | (simp only [List.length_cons]; omega)) (by first | omega | (simp only [List.length_cons]; omega)) (by omega) (by omega) (by omega) (by omega) (by omega) (by omega)) (g11.trans ?_)
      unfold cm_p
      dsimp only
      by_cases c15 : Kn T p = 15
      · rw [if_pos c15]; rfl
      · rw [if_neg c15, if_pos (hk.resolve_left c15)]; rfl
    rw [e3, nw_1, b0]
    have hit : itm (.inner (aN_ s) 1107 (nI (tkp T eo n p), nI (tkp T eo n p), 0, [], 0, none) .leaf .leaf) = [] := rfl
    exact Or.inr ⟨_, _, _, rfl, rfl, _, _, 1107, _, _, _, _, _, rfl, rfl, ⟨er_lf (k := 37) (by decide) rfl, (show p ≤ p from Nat.le_refl _), rfl⟩, hG3, by rw [hit, List.append_nil]; exact hP3, Kp_wk hK3 (fun _ _ q => q.elim), ⟨by omega, by omega⟩, ⟨by omega, by omega, by omega, by omega⟩, ⟨by omega, by omega, fun _ => rfl⟩, by rw [hit]; simp⟩
  rw [ce_X13_simple, et, f_gi (f := 84) (c := 14) (by rw [ct.1.2.2]) rfl, Option.bind_some, ct.2.1.1]
  by_cases c4 : tkk T eo p = 4
  · rw [if_pos c4]
    obtain ⟨w, hw1, hw2, hw3⟩ := tk_w hP.2.1 c4
    have hs := List.all_eq_true.mp sI_kw w hw1
    simp only [Bool.and_eq_true, decide_eq_true_eq] at hs
    have e5 : aJ (e + 9) 288 62 [vr_ (some x), vr_ (some tk)] [] s = aJ (e + 9) 288 434 [vr_ (some x), vi_ (sI_ (Kn T p))] [] s := by
      rw [hw3, ← hs.1.1, ← hw2]
      exact sj_simple (e + 7) ct
    rw [e5]
    exact key (by rw [hw3]; exact hs.1.2) (by rw [hw3]; exact hs.2)
  rw [if_neg c4, C_is (e + 5) hP m3 (c := 1051) (kk := 10) rfl (by omega) (by decide +kernel)]
  by_cases c10 : Kn T p = 10
  · rw [if_neg (by simp [c10, zb_])]
    have e5 : aJ (e + 9) 288 62 [vr_ (some x), vr_ (some tk)] [] s = aJ (e + 9) 288 434 [vr_ (some x), vi_ (sI_ (Kn T p))] [] s := by
      rw [c10, show sI_ 10 = sx_ (tkx T p) sl_simple by rw [tx_of hP.2.1 (c := 1051) (k := 10) (by decide +kernel) c10, sI_10]; rfl]
      exact sj_simple (e + 7) ct
    rw [e5]
    exact key (by omega) (by omega)
  rw [if_pos (by simp [c10, zb_]), C_is (e + 5) hP m3 (c := 1083) (kk := 15) rfl (by omega) (by decide +kernel)]
  by_cases c15 : Kn T p = 15
  · rw [if_neg (by simp [c15, zb_])]
    exact nth (Or.inl c15)
  rw [if_pos (by simp [c15, zb_]), C_is (e + 5) hP m3 (c := 1075) (kk := 11) rfl (by omega) (by decide +kernel)]
  by_cases c11 : Kn T p = 11
  · rw [if_neg (by simp [c11, zb_])]
    exact nth (Or.inr c11)
  rw [if_pos (by simp [c11, zb_])]
  have k2 := key c15 c11
  have hno : sI_ (Kn T p) = -1 := by
    unfold sI_
    have hd4 := dl_cs (p := p) hP.2.1
    have hdl : dl_ (Kn T p) = decide (Kn T p = 10) := hd4.elim (fun h => absurd h.1 c4) (fun h => h.2)
    have hf : ∀ k, dl_ k = true → k ≠ 10 → Kn T p ≠ k := fun k h1 h2 q => by rw [q, h1] at hdl; simp at hdl; exact h2 hdl
    rw [if_neg c10, if_neg (hf 47 (by decide) (by decide)), if_neg (hf 49 (by decide) (by decide)), if_neg (hf 52 (by decide) (by decide)), if_neg (hf 53 (by decide) (by decide)), if_neg (hf 50 (by decide) (by decide)), if_neg (hf 54 (by decide) (by decide)), if_neg (hf 57 (by decide) (by decide)), if_neg (hf 61 (by decide) (by decide)), if_neg (hf 62 (by decide) (by decide)), if_neg (hf 63 (by decide) (by decide)), if_neg (hf 64 (by decide) (by decide)), if_neg (hf 65 (by decide) (by decide)), if_neg (hf 66 (by decide) (by decide)), if_neg (hf 67 (by decide) (by decide))]
  rw [hno, cj_X13_simple_434, if_neg (by decide), if_neg (by decide), if_neg (by decide), if_neg (by decide), if_neg (by decide), if_neg (by decide), if_neg (by decide), if_neg (by decide), if_neg (by decide), if_neg (by decide), if_neg (by decide), if_neg (by decide), if_neg (by decide), if_neg (by decide), if_neg (by decide)] at k2
  exact k2
end pca
