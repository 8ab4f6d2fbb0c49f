/-! ===== the two parsers side by side: a row of relations; a level ===== -/
section px4
variable {T : List tk_} {eo : Option Nat} {n : Nat} {V : Nat → Int32} {L : List (List Int32)} {lx : Bool} {ids : List Nat} {iE x TL IL GS SL : Nat}
theorem snT_leaf : ∀ (l : tr_), sn_ l .leaf = l
  | .leaf => rfl
  | .inner i k v l r => by
    show Std.DTreeMap.Internal.Impl.inner i k v l (sn_ r .leaf) = _
    rw [snT_leaf r]
theorem fi_sr (y : Nat) (t : tr_) : fi_ (sr_r y t) = fi_ t := by cases t <;> rfl
/-- the reference's tree of a row of relations, and what the component has of it -/
def CmI (T : List tk_) (eo : Option Nat) (n p : Nat) (b q0 : Nat) (ws : List (Int32 × List Int32)) (lC : cr_) (p1 : Nat) (u : tr_) : Prop :=
  (b = 1 ∧ er lC = cf T eo n u ∧ ws = [] ∧ q0 = p1 ∧ fi_ u = p ∧ (kd_ u = 11 → pr_ u = true) ∧ lv_ (Kn T p1) = 5 ∧ ∃ k j w m, u = .inner k j w m .leaf) ∨
  (b = 0 ∧ ∃ j k1 j1 w1 m1 r1, u = .inner 11 j (q0, 0, 0, p, false) (.inner k1 j1 w1 m1 r1) .leaf ∧ er lC = cf T eo n (.inner k1 j1 w1 m1 r1) ∧ ws.map (fun y => ((0 : Int32), y.2)) = rlT r1)
theorem s_cmp32 (hv : HV T eo V L lx) (e : Nat) (r1 : Bool) (h1 : SX T eo n V L lx ids iE x TL IL GS SL (XB T eo n r1) 0 (e + 5) 281 [vr_ (some x), vi_ 5] (fun _ => [bl_ 5]) (fun _ => True) 32 12 true) : ∀ (m : Nat) s p dp us its gl R os sc nd CB ZB u a nl ws b q0 lC p1 nd1 s1, T.length - p1 < m → CmI T eo n p b q0 ws lC p1 u → p ≤ q0 → q0 ≤ p1 →
    TG s1 (aN_ s) (.inner a 1128 (nI (tkp T eo n q0), nI (tkp T eo n p), 0, [], 0, some (nl, ws, 0, 0, 0, 0)) lC .leaf) → PSt T eo n ids iE x TL IL GS SL s1 p1 dp us (its ++ itm lC) gl → Kp (Mx x IL GS SL) s s1 → (itm lC).length + p ≤ p1 →
    (aC_ s1 + 10 * p ≤ aC_ s + 10 * p1 + 2 * b ∧ aZ_ s1 + 100 * p ≤ aZ_ s + 100 * p1 + 17 * b) → (nd1 + 6 * p ≤ nd + 6 * p1 ∧ os.length + 1 ≤ nd1 ∧ p < p1 ∧ p1 ≤ T.length) →
    SV L us.reverse sc → Mn T 30 R.length os.length p dp sc.length nd → 20 * (61 - dp) + 13 ≤ e + 6 → Cn T s p CB ZB → Lw x TL IL GS SL (aN_ s) → its.length ≤ p →
    RL T eo n V lx x IL GS SL s CB ZB (aJ (e + 6) 302 32 [vr_ (some x), vr_ (some a)] [] s1) (pR_ (Kn T) V T.length lx ((31, 5, 0, os.length) :: R, u :: os, p1, dp, sc, nd1)) (QX T eo n ids iE x TL IL GS SL (XB T eo n false) 0 true s p dp us its gl R os sc nd) := by
  have hTl : T.length < 2600 := hv.1
  intro m
  induction m with
  | zero =>
    intro s p dp us its gl R os sc nd CB ZB u a nl ws b q0 lC p1 nd1 s1 hm
    exact absurd hm (Nat.not_lt_zero _)
  | succ m ih =>
    intro s p dp us its gl R os sc nd CB ZB u a nl ws b q0 lC p1 nd1 s1 hm hI0 hq1 hq2 hG hP1 hK1 hil ⟨c1, c2⟩ ⟨n1, n2, n3, n4⟩ hS hM hd hC hw hI
    obtain ⟨m1, m2, m3, m4, m5, m6⟩ := id hM
    have hb1 : b ≤ 1 := by rcases hI0 with h | h <;> omega
    have hM2 : Mn T 30 R.length (u :: os).length p1 dp sc.length nd1 := ⟨by omega, by simp; omega, n4, m4, m5, by omega⟩
    have g31 : pS_ (Kn T) V T.length lx 31 5 0 os.length (R, u :: os, p1, dp, sc, nd1) = (if lv_ (Kn T p1) = 5 then ok_ (bl_ 5 :: (32, 5, p1, os.length) :: (31, 5, 0, os.length) :: R, u :: os, p1 + 1, dp, sc, nd1) else ok_ (R, u :: os, p1, dp, sc, nd1)) := rfl
    rw [cj_X13_compared_32, f_dp (f := 301) hP1.1.1.2.2 rfl, Option.bind_some, show aE (e + 5) 301 [vr_ (some x), vi_ 4] s1 = _ from y_level (e + 2) hP1.1 hP1.2.1 n4 (l := 4) (by omega), cI_k]
    by_cases c : lv_ (Kn T p1) = 5
    case neg =>
      rw [if_pos (by simp [c, zb_])]
      have b2 : pR_ (Kn T) V T.length lx ((31, 5, 0, os.length) :: R, u :: os, p1, dp, sc, nd1) = pR_ (Kn T) V T.length lx (R, u :: os, p1, dp, sc, nd1) := pR_ok (Mn_pb hM2 (by omega) (by omega) (by omega) (by omega) (by omega)) (by rw [g31, if_neg c]; rfl)
      rcases hI0 with h | ⟨rfl, j, k1, j1, w1, l1, r1, rfl, hE, hN⟩
      · exact absurd h.2.2.2.2.2.2.1 c
      have hit : itm (.inner a 1128 (nI (tkp T eo n q0), nI (tkp T eo n p), 0, [], 0, some (nl, ws, 0, 0, 0, 0)) lC .leaf) = itm lC := itm_c rfl (by decide)
      refine Or.inr ⟨_, _, _, b2, rfl, _, _, _, _, _, _, _, _, rfl, rfl, ⟨?_, rfl, rfl, rfl, rfl, by simp [kd_], fun q => (by simp at q), ⟨_, _, _, _, rfl, by omega, by omega⟩⟩, hG, by rw [hit]; exact hP1, hK1, ⟨by omega, by omega⟩, ⟨n1, n2, by omega, n4⟩, ⟨by omega, by omega, fun _ => rfl⟩, by rw [hit]; exact hil⟩
      show Std.DTreeMap.Internal.Impl.inner 0 1128 (erp 1128 _) (er lC) .leaf = .inner 0 1128 (xp_ T eo n (q0, 0, 0, p, false) [] 0 (some (0, rlT r1, 0, 0, 0, 0))) (cf T eo n (.inner k1 j1 w1 l1 r1)) .leaf
      rw [hE, ← hN]
      rfl
    case pos =>
      have hkk := lv_5 c
      have hlt : p1 < T.length := Kn_lt (by omega)
      have hN1 : aN_ s ≤ aN_ s1 := hK1.1
      rw [if_neg (by simp [c, zb_])]
      have b2 : pR_ (Kn T) V T.length lx ((31, 5, 0, os.length) :: R, u :: os, p1, dp, sc, nd1) = pR_ (Kn T) V T.length lx ([bl_ 5] ++ ((32, 5, p1, os.length) :: (31, 5, 0, os.length) :: R), u :: os, p1 + 1, dp, sc, nd1) := pR_ok (Mn_pb hM2 (by omega) (by omega) (by omega) (by omega) (by omega)) (by rw [g31, if_pos c]; rfl)
      rw [b2]
      obtain ⟨g1, g2, _⟩ := hG.1.1.2.2.2.2
      rw [f_gr (f := 108) (c := 5) (by rw [g1]) rfl, Option.bind_some, g2]
      obtain ⟨tk, ln, ct, et⟩ := C_take (e + 3) hP1 n4
      rw [et]
      have hP2 := PSt_at hP1 (p' := p1 + 1) (by omega)
      have ct2 := CT_Kp ct (x_Kp (x := x) (IL := IL) (GS := GS) (SL := SL) 94 (nI (p1 + 1))) (Mx_cl hP1)
      have hG2 := TG_Mx hG hP1 hw (x_Kp (x := x) (IL := IL) (GS := GS) (SL := SL) 94 (nI (p1 + 1)))
      obtain ⟨e3, hP3⟩ := C_nadd (e + 4) hP2 hw hG2 ct2 (Kc := fun v10 s9 => (a_dp 281 (some x) s9).bind fun m11 => cx_bR cx_th (aE (e + 5) m11 [vr_ (some x), vi_ 5] s9) fun v13 s12 => (a_dp 306 (some a) s12).bind fun m14 => cx_bR cx_th (aE (e + 5) m14 [vr_ (some a), vr_ v13] s12) fun v16 s15 => aJ (e + 6) 302 32 [vr_ (some x), vr_ (some a)] [] s15)
      obtain ⟨hG3, hk3⟩ := TG_nadd hG2 ct2
      have hnl : aN_ s ≤ nl := hG.2.2 _ (by simp [idl_, nlI])
      have hkp3 : Kp (Mx x IL GS SL) s (al_add (awI s1 x 94 (nI (p1 + 1))) nl (some tk)) := Kp_L (Kp_tr hK1 (x_Kp (x := x) (IL := IL) (GS := GS) (SL := SL) 94 (nI (p1 + 1)))) _ (Or.inr hnl)
      refine Eq.mpr (congrArg (fun o => RL T eo n V lx x IL GS SL s CB ZB o _ _) e3) ?_
      have y3c : aC_ (al_add (awI s1 x 94 (nI (p1 + 1))) nl (some tk)) = aC_ s1 + 1 := rfl
      have y3z : aZ_ (al_add (awI s1 x 94 (nI (p1 + 1))) nl (some tk)) = aZ_ s1 + 10 := rfl
      have y3n : aN_ (al_add (awI s1 x 94 (nI (p1 + 1))) nl (some tk)) = aN_ s1 := rfl
      have hCa := hC.1
      have hCb := hC.2
      refine RL_with (e + 4) h1 rfl hP3 hS (R := (32, 5, p1, os.length) :: (31, 5, 0, os.length) :: R) ⟨by simp; omega, by simp; omega, by omega, by omega, by omega, by omega⟩ (by omega) ⟨by omega, by omega⟩ trivial (by simp; omega) hkp3 (Nat.le_refl _) hw hG3 (by omega) fun t2 j2 k2 w2 l2 p2 dp2 nd2 s6 ⟨b0, b1, b3, b4, b5, b6, b7, kk, jj, uu, mm, b8, _⟩ hG6 hP6 hK6 ⟨cc6, cz6⟩ ⟨n5, n6, n7, n8⟩ ⟨d5, d6, d7⟩ hil6 hN6 => ?_
      try simp only [List.length_cons] at n6
      obtain rfl := d7 rfl
      have hM6 : Mn T 31 ((31, 5, 0, os.length) :: R).length (t2 :: u :: os).length p2 dp2 sc.length nd2 := ⟨by simp; omega, by simp only [List.length_cons]; omega, n8, by omega, by omega, by omega⟩
      have hX : rlT (sr_r (Kn T p1) t2) = [(0, tkx T p1)] := by
        rw [b8, tkx_sg hP1.2.1 hkk]
        rfl
      have hits : itm (snC lC (.inner j2 k2 w2 l2 .leaf)) = itm lC ++ itm (.inner j2 k2 w2 l2 .leaf) := itm_sn _ _
      have g32a : pS_ (Kn T) V T.length lx 32 5 p1 os.length ((31, 5, 0, os.length) :: R, t2 :: u :: os, p2, dp2, sc, nd2) = (if kd_ u = 11 ∧ pr_ u = false then (match ap_o (sr_r (Kn T p1) t2) u with
            | some t => ok_ ((31, 5, 0, os.length) :: R, t :: os, p2, dp2, sc, nd2)
            | none => none) else sf_ 11 p1 os.length 0 ok_ ((31, 5, 0, os.length) :: R, sr_r (Kn T p1) t2 :: u :: os, p2, dp2, sc, nd2)) := by
        show (if os.length = os.length ∧ p1 < T.length then (if 5 = 5 then _ else _) else _) = _
        rw [if_pos ⟨rfl, hlt⟩, if_pos rfl]
        rfl
      rcases hI0 with ⟨rfl, hE, rfl, rfl, hfi, hpr, _, k, j, w, m, hu⟩ | ⟨rfl, j, k1, j1, w1, l1, r1, rfl, hE, hN⟩
      · have hfm : fm_ q0 [u, sr_r (Kn T q0) t2] = p := fm_2 hfi (by omega) (by rw [fi_sr]; omega)
        have g32 : pR_ (Kn T) V T.length lx ((32, 5, q0, os.length) :: (31, 5, 0, os.length) :: R, t2 :: u :: os, p2, dp2, sc, nd2) = pR_ (Kn T) V T.length lx ((31, 5, 0, os.length) :: R, .inner 11 nd2 (q0, 0, 0, p, false) (.inner k j w m (sr_r (Kn T q0) t2)) .leaf :: os, p2, dp2, sc, nd2 + 1) := by
          refine pR_ok (Mn_pb hM6 (by omega) (by omega) (by omega) (by omega) (by omega)) ?_
          rw [g32a, if_neg (fun h => by have := hpr h.1; rw [this] at h; exact absurd h.2 (by decide))]
          refine (sf_app (kk := 11) (a := 0) (f := ok_) [sr_r (Kn T q0) t2, u]).trans ?_
          show ok_ (_, st_ 11 q0 0 nd2 [u, sr_r (Kn T q0) t2] :: os, _, _, _, _) = _
          have e9 : st_ 11 q0 0 nd2 [u, sr_r (Kn T q0) t2] = .inner 11 nd2 (q0, 0, 0, p, false) (.inner k j w m (sr_r (Kn T q0) t2)) .leaf := by
            unfold st_
            rw [hfm]
            show Std.DTreeMap.Internal.Impl.inner 11 nd2 _ (sn_ u (sn_ (sr_r (Kn T q0) t2) .leaf)) .leaf = _
            rw [snT_leaf, hu]
            rfl
          rw [e9]
          rfl
        rw [g32]
        refine ih s p dp2 us its gl R os sc nd CB ZB _ a nl _ 0 q0 _ p2 (nd2 + 1) s6 (by omega) (Or.inr ⟨rfl, _, _, _, _, _, _, rfl, ?_, ?_⟩) hq1 (by omega) hG6 ?_ hK6 ?_ ⟨by omega, by omega⟩ ⟨by omega, by omega, by omega, n8⟩ hS hM hd hC hw hI
        · rw [er_sn, hE, b0, ← cf_sr (Kn T q0) t2, ← cf_sn, hu]
          rfl
        · rw [hX]
          rfl
        · rw [hits, ← List.append_assoc]
          exact hP6
        · rw [hits]; simp; omega
      · have g32 : pR_ (Kn T) V T.length lx ((32, 5, p1, os.length) :: (31, 5, 0, os.length) :: R, t2 :: .inner 11 j (q0, 0, 0, p, false) (.inner k1 j1 w1 l1 r1) .leaf :: os, p2, dp2, sc, nd2) = pR_ (Kn T) V T.length lx ((31, 5, 0, os.length) :: R, .inner 11 j (q0, 0, 0, p, false) (.inner k1 j1 w1 l1 (sn_ r1 (sr_r (Kn T p1) t2))) .leaf :: os, p2, dp2, sc, nd2) := by
          refine pR_ok (Mn_pb hM6 (by omega) (by omega) (by omega) (by omega) (by omega)) ?_
          rw [g32a, if_pos ⟨rfl, rfl⟩]
          rfl
        rw [g32]
        refine ih s p dp2 us its gl R os sc nd CB ZB _ a nl _ 0 q0 _ p2 nd2 s6 (by omega) (Or.inr ⟨rfl, _, _, _, _, _, _, rfl, ?_, ?_⟩) hq1 (by omega) hG6 ?_ hK6 ?_ ⟨by omega, by omega⟩ ⟨by omega, by omega, by omega, n8⟩ hS hM hd hC hw hI
        · rw [er_sn, hE, b0, ← cf_sr (Kn T p1) t2, ← cf_sn]
          rfl
        · rw [List.map_append, hN, rl_sn, hX]
          rfl
        · rw [hits, ← List.append_assoc]
          exact hP6
        · rw [hits]; simp; omega
/-- a row of relations behind a first one -/
theorem s_cmp (hv : HV T eo V L lx) (d : Nat) (r1 : Bool) (h1 : SX T eo n V L lx ids iE x TL IL GS SL (XB T eo n r1) 0 d 281 [vr_ (some x), vi_ 5] (fun _ => [bl_ 5]) (fun _ => True) 32 12 true) (s p dp us its gl R os sc nd CB ZB t i kc w lC p1 nd1 s1) (q : XA T eo n ids iE x TL IL GS SL (XB T eo n true) 0 true s p dp us its gl os nd t i kc w lC p1 dp nd1 s1) (c5 : lv_ (Kn T p1) = 5) (hS : SV L us.reverse sc) (hM : Mn T 30 R.length os.length p dp sc.length nd) (hd : 20 * (61 - dp) + 13 ≤ d + 1) (hC : Cn T s p CB ZB) (hw : Lw x TL IL GS SL (aN_ s)) (hI : its.length ≤ p) :
    RL T eo n V lx x IL GS SL s CB ZB (aE (d + 1) 302 [vr_ (some x), vr_ (some i)] s1) (pR_ (Kn T) V T.length lx ((31, 5, 0, os.length) :: R, t :: os, p1, dp, sc, nd1)) (QX T eo n ids iE x TL IL GS SL (XB T eo n false) 0 true s p dp us its gl R os sc nd) := by
  obtain ⟨m1, m2, m3, m4, m5, m6⟩ := id hM
  obtain ⟨e, rfl⟩ : ∃ e, d = e + 5 := ⟨d - 5, by omega⟩
  obtain ⟨⟨a0, a1, a2, a3, a4, a5, a6, a7⟩, hG, hP1, hK1, ⟨c1, c2⟩, ⟨n1, n2, n3, n4⟩, ⟨d1, d2, d3⟩, hil⟩ := id q
  have hN1 : aN_ s ≤ aN_ s1 := hK1.1
  have hKn : Kp (fun _ => False) s1 (a_nw 5 s1).2 := Kp_new Kp_rf (5, 0)
  have hPn := PSt_Kp hP1 hKn (fun _ q => q.elim) (fun _ q => q.elim)
  obtain ⟨tk, ln, ct, et⟩ := C_peek (e + 3) hPn n4
  have kt : (aK_ (a_nw 5 s1).2 tk).1 = 14 := by rw [ct.1.2.2]
  rw [ce_X13_compared, et, f_gi (f := 85) kt rfl, Option.bind_some, ct.2.1.2.1]
  obtain ⟨s3, e3, hP3, hG3, hK3, cc3, cz3, cN3⟩ := C_mk5 (e + 2) (kc := 1128) (pl := nI (tkp T eo n p1)) hP1
  rw [e3, nw_1]
  have hk13 : Kp (Mx x IL GS SL) s1 s3 := Kp_wk hK3 (fun _ _ q => q.elim)
  have hGt : TG s3 (aN_ s) (.inner i kc w lC .leaf) := TG_Mx hG hP1 hw hk13
  have hdj : ∀ a ∈ idl_ (.inner (aN_ s1) 1128 (nI (tkp T eo n p1), nI (tkp T eo n p1), 0, [], 0, some (aN_ s1 + 1, [], 0, 0, 0, 0)) .leaf .leaf), a ∉ idl_ (.inner i kc w lC .leaf) := dj_gt (m := aN_ s1) hG3.2.2 (TG_lt hG)
  obtain ⟨s4, e4, hG4, hP4, hK4, cc4, cz4, cN4, hKi4⟩ := C_first (e + 4) hP3 hw (Kp_tr hK1 hk13) (Nat.le_refl _) (TG_lo hG3 hN1) hGt hdj
  rw [e4]
  have hits : itm (.inner i kc w lC .leaf) = itm (.inner i kc w lC .leaf) := rfl
  refine s_cmp32 hv e r1 h1 (T.length - p1 + 1) s p dp us its gl R os sc nd CB ZB t (aN_ s1) (aN_ s1 + 1) [] 1 p1 _ p1 nd1 s4 (Nat.lt_succ_self _) (Or.inl ⟨rfl, a0, rfl, rfl, a4, fun h => a6 rfl h, c5, by obtain ⟨k, j, w, m, h, _⟩ := a7; exact ⟨k, j, w, m, h⟩⟩) (by omega) (Nat.le_refl _) ?_ hP4 hK4 hil ⟨by omega, by omega⟩ ⟨by omega, n2, by omega, n4⟩ hS hM hd hC hw hI
  rw [a2] at hG4
  exact hG4
/-- a level of operators -/
theorem s_lev (hv : HV T eo V L lx) (d l : Nat) (hl : l < 7) (rel r1 : Bool) (hr : rel = true → r1 = true) (h1 : SX T eo n V L lx ids iE x TL IL GS SL (XB T eo n r1) 0 d 281 [vr_ (some x), vi_ (nI (l + 1))] (fun _ => [bl_ (l + 1)]) (fun _ => True) (24 + 2 * l) (rkL (l + 1)) true) (h4 : l = 4 → rel = false ∧ r1 = true) (hc : l = 4 → ∀ s p dp us its gl R os sc nd CB ZB t i kc w lC p1 nd1 s1, XA T eo n ids iE x TL IL GS SL (XB T eo n true) 0 true s p dp us its gl os nd t i kc w lC p1 dp nd1 s1 → lv_ (Kn T p1) = 5 → SV L us.reverse sc → Mn T 30 R.length os.length p dp sc.length nd → 20 * (61 - dp) + 13 ≤ d → Cn T s p CB ZB → Lw x TL IL GS SL (aN_ s) → its.length ≤ p → RL T eo n V lx x IL GS SL s CB ZB (aE d 302 [vr_ (some x), vr_ (some i)] s1) (pR_ (Kn T) V T.length lx ((31, 5, 0, os.length) :: R, t :: os, p1, dp, sc, nd1)) (QX T eo n ids iE x TL IL GS SL (XB T eo n false) 0 true s p dp us its gl R os sc nd)) : SX T eo n V L lx ids iE x TL IL GS SL (XB T eo n rel) 0 (d + 1) 281 [vr_ (some x), vi_ (nI l)] (fun _ => [bl_ l]) (fun _ => True) (22 + 2 * l) (rkL l) true := by
  intro s p dp us its gl R os sc nd CB ZB hP hS hM hd hC _ hI
  have hTl : T.length < 2600 := hv.1
  have hrk := rkL_1 hl
  obtain ⟨m1, m2, m3, m4, m5, m6⟩ := id hM
  obtain ⟨e, rfl⟩ : ∃ e, d = e + 5 := ⟨d - 5, by omega⟩
  have hw := PSt_Lw hP
  have b1 : pR_ (Kn T) V T.length lx ([bl_ l] ++ R, os, p, dp, sc, nd) = pR_ (Kn T) V T.length lx ([bl_ (l + 1)] ++ ((31, l + 1, 0, os.length) :: R), os, p, dp, sc, nd) := by
    have : bl_ l = (30, l + 1, 0, 0) := by unfold bl_; rw [if_pos hl]
    rw [this]
    exact pR_ok (Mn_pb hM (by omega) (by omega) (by omega) (by omega) (by omega)) rfl
  rw [ce_X13_level, b1]
  simp only [neq1_ 7 (show l < 2 ^ 31 by omega) (by decide), neq1_ 4 (show l < 2 ^ 31 by omega) (by decide)]
  rw [if_neg (by omega), f_dp (f := 281) hP.1.1.2.2 rfl, Option.bind_some, nI_1]
  refine RL_bind (h1 s p dp us its gl ((31, l + 1, 0, os.length) :: R) os sc nd CB ZB hP hS ⟨by simp; omega, m2, m3, m4, m5, m6⟩ (by omega) hC trivial hI) Kp_rf fun σ v s1 q => ?_
  obtain ⟨t, i, kc, w, lC, p1, dp1, nd1, rfl, rfl, q⟩ := q
  obtain ⟨⟨a0, a1, a2, a3, a4, a5, a6, a7⟩, r0⟩ := id q
  obtain ⟨hG, hP1, hK1, ⟨c1, c2⟩, ⟨n1, n2, n3, n4⟩, ⟨d1, d2, d3⟩, hil⟩ := id r0
  obtain rfl := d3 rfl
  have q' : XA T eo n ids iE x TL IL GS SL (XB T eo n rel) 0 true s p dp1 us its gl os nd t i kc w lC p1 dp1 nd1 s1 := ⟨⟨a0, a1, a2, a3, a4, a5, fun h => a6 (hr h), a7⟩, r0⟩
  have h38 : (l = 4 → lv_ (Kn T p1) ≠ 5) → _ := fun h => s_lev38 hv e l hl rel r1 h1 (T.length - p1 + 1) s p dp1 us its gl R os sc nd CB ZB t i kc w lC p1 nd1 s1 (Nat.lt_succ_self _) h q' hS hM hd hC hw hI
  by_cases c4 : l = 4
  · rw [if_pos c4, f_dp (f := 301) hP1.1.1.2.2 rfl, Option.bind_some, show aE (e + 5) 301 [vr_ (some x), vi_ (nI l)] s1 = _ from y_level (e + 2) hP1.1 hP1.2.1 n4 hl, cI_k]
    by_cases c : lv_ (Kn T p1) = l + 1
    · rw [if_neg (by simp [c, zb_]), f_dp (f := 302) hP1.1.1.2.2 rfl, Option.bind_some]
      obtain ⟨hr0, hr1⟩ := h4 c4
      subst hr0
      subst hr1
      subst c4
      refine RL_bind (hc rfl s p dp1 us its gl R os sc nd CB ZB t i kc w lC p1 nd1 s1 q c hS hM (by unfold rkL at hd; rw [if_pos (by omega)] at hd; omega) hC hw hI) Kp_rf fun σ v s2 q2 => ?_
      obtain ⟨t2, i2, kc2, w2, l2, p2, dp2, nd2, rfl, rfl, q2⟩ := q2
      exact Or.inr ⟨_, _, _, rfl, rfl, _, _, _, _, _, _, _, _, rfl, rfl, q2⟩
    · rw [if_pos (by simp [c, zb_])]
      exact h38 (fun _ h => c (by omega))
  · rw [if_neg c4]
    exact h38 (fun h => absurd h c4)
theorem s_lev7 (hv : HV T eo V L lx) (d : Nat) (h : SX T eo n V L lx ids iE x TL IL GS SL (XB T eo n true) 0 d 282 [vr_ (some x)] (fun _ => [bl_ 7]) (fun _ => True) 40 9 true) : SX T eo n V L lx ids iE x TL IL GS SL (XB T eo n true) 0 (d + 1) 281 [vr_ (some x), vi_ 7] (fun _ => [bl_ 7]) (fun _ => True) 36 10 true := by
  intro s p dp us its gl R os sc nd CB ZB hP hS hM hd hC _ hI
  obtain ⟨m1, m2, m3, m4, m5, m6⟩ := id hM
  rw [ce_X13_level, if_pos rfl, f_dp (f := 282) hP.1.1.2.2 rfl, Option.bind_some]
  refine RL_bind (h s p dp us its gl R os sc nd CB ZB hP hS ⟨by omega, m2, m3, m4, m5, m6⟩ (by omega) hC trivial hI) Kp_rf fun σ v s1 q => ?_
  obtain ⟨t, i, kc, w, lC, p1, dp1, nd1, rfl, rfl, q⟩ := q
  exact Or.inr ⟨_, _, _, rfl, rfl, _, _, _, _, _, _, _, _, rfl, rfl, q⟩
end px4
