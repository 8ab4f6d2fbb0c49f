/-! ===== the two parsers side by side: calls ===== -/
section px8
variable {T : List tk_} {eo : Option Nat} {n : Nat} {V : Nat → Int32} {L : List (List Int32)} {lx : Bool} {ids : List Nat} {iE x TL IL GS SL : Nat}
variable {s s' s0 : as_} {i kc lo p dp : Nat} {v : cp_w} {l : cr_} {us : List (List Int32)} {its : List Nat} {gl : List ((List Int32 ⊕ Int32) × Option Nat)}
/-- how many parts -/
theorem y_parts7 (d : Nat) : ∀ {l : cr_} (k : Nat), NR_ s l → aJ (d + 1) 307 7 [vi_ (nI k), vr_ (rI_ l)] [] s = some (.inl (some (vi_ (nI (k + (rts l).length)))), s)
  | .leaf, k, _ => by
    rw [show rI_ .leaf = none from rfl, cj_X14_parts_7, if_pos rfl]
    rfl
  | .inner a kc v l r, k, h => by
    rw [show rI_ (.inner a kc v l r) = some a from rfl, cj_X14_parts_7, if_neg (by simp), n_gr (f := 107) (NF_isN h.1) (by decide), Option.bind_some, h.2.1.2.2, nI_1, y_parts7 d (k + 1) h.2.2.2]
    show some (Sum.inl (some (vi_ (nI (k + 1 + (rts r).length)))), s) = some (Sum.inl (some (vi_ (nI (k + (a :: rts r).length)))), s)
    rw [List.length_cons, show k + 1 + (rts r).length = k + ((rts r).length + 1) by omega]
theorem C_parts (d : Nat) {Kc : Int32 → as_ → cx_O as_} (h : NR_ s (.inner i kc v l .leaf)) : ((a_dp 307 (some i) s).bind fun m7 => cx_bI cx_th (aE (d + 1) m7 [vr_ (some i)] s) Kc) = Kc (nI (rts l).length) s := by
  have e : aE (d + 1) 307 [vr_ (some i)] s = some (.inl (some (vi_ (nI (rts l).length))), s) := by
    rw [ce_X14_parts, n_gr (f := 105) (NF_isN h.1) (by decide), Option.bind_some, h.2.1.1]
    have := y_parts7 d (s := s) (l := l) 0 h.2.2.1
    rw [Nat.zero_add] at this
    exact this
  rw [n_dp (f := 307) (NF_isN h.1) (by decide), Option.bind_some, e, cI_k]
theorem rts_sn : ∀ (a b : cr_), rts (snC a b) = rts a ++ rts b
  | .leaf, _ => rfl
  | .inner i k v l r, b => by
    show i :: rts (snC r b) = _
    rw [rts_sn r b]
    rfl
theorem fm_snoc {m a : Nat} {t : tr_} : ∀ {ts : List tr_}, fm_ m ts = a → a ≤ fi_ t → fm_ m (ts ++ [t]) = a := by
  intro ts
  induction ts generalizing m with
  | nil =>
    intro h h2
    show (if fi_ t < m then fi_ t else m) = a
    have h : m = a := h
    split <;> omega
  | cons u r ih =>
    intro h h2
    exact ih (m := if fi_ u < m then fi_ u else m) h h2
theorem s_call68 (hv : HV T eo V L lx) (e m : Nat) (h1 : SX T eo n V L lx ids iE x TL IL GS SL (XB T eo n false) 0 (e + 5) 280 [vr_ (some x)] (fun _ => [(28, 0, 0, 0)]) (fun _ => True) 20 19 true) (j5 : (∀ s p dp us its gl R os sc nd CB ZB t i kc w lC p1 dp1 nd1 s1, T.length - p1 < m → XA T eo n ids iE x TL IL GS SL (XB T eo n true) 0 false s p dp us its gl os nd t i kc w lC p1 dp1 nd1 s1 → SV L us.reverse sc → Mn T 46 R.length os.length p dp sc.length nd → 20 * (61 - dp) + 7 ≤ e + 6 → Cn T s p CB ZB → Lw x TL IL GS SL (aN_ s) → its.length ≤ p →
      RL T eo n V lx x IL GS SL s CB ZB (aJ (e + 6) 285 5 [vr_ (some x), vr_ (some i)] [] s1) (pR_ (Kn T) V T.length lx ((37, 0, 0, os.length) :: R, t :: os, p1, dp1, sc, nd1)) (QX T eo n ids iE x TL IL GS SL (XB T eo n true) 0 false s p dp us its gl R os sc nd))) (j68 : (∀ s p dp us its gl R os sc nd CB ZB (ts : List tr_) a lC q0 y p1 dp1 nd1 s1, T.length - p1 < m → SV L us.reverse sc → Mn T 46 R.length os.length p dp sc.length nd → 20 * (61 - dp) + 7 ≤ e + 6 → Cn T s p CB ZB → Lw x TL IL GS SL (aN_ s) → its.length ≤ p →
      TG s1 (aN_ s) (.inner a 1098 (nI (tkp T eo n q0), nI (tkp T eo n p), 0, [], 0, none) lC .leaf) → PSt T eo n ids iE x TL IL GS SL s1 p1 dp1 us (its ++ itm lC) gl → Kp (Mx x IL GS SL) s s1 → (er lC = cf T eo n (lkT ts) ∧ fm_ q0 ts = p ∧ ts.length = y + 1 ∧ (rts lC).length = y + 1 ∧ 1 ≤ y ∧ y ≤ 20) → (itm lC).length + p ≤ p1 → (dp + 1 ≤ dp1 ∧ dp1 ≤ 60) → (aC_ s1 + 10 * p ≤ aC_ s + 10 * p1 ∧ aZ_ s1 + 100 * p ≤ aZ_ s + 100 * p1) → (nd1 + 6 * p + 1 ≤ nd + 6 * p1 ∧ os.length + ts.length ≤ nd1 ∧ p < p1 ∧ p1 ≤ T.length ∧ q0 ≤ p1 ∧ p ≤ q0) → (∀ u ∈ ts, p ≤ fi_ u) →
      RL T eo n V lx x IL GS SL s CB ZB (aJ (e + 6) 285 68 [vr_ (some x), vr_ (some a)] [] s1) (pR_ (Kn T) V T.length lx ((38, y, q0, os.length) :: R, ts.reverse ++ os, p1, dp1, sc, nd1)) (QX T eo n ids iE x TL IL GS SL (XB T eo n true) 0 false s p dp us its gl R os sc nd))) : (∀ s p dp us its gl R os sc nd CB ZB (ts : List tr_) a lC q0 y p1 dp1 nd1 s1, T.length - p1 < m + 1 → SV L us.reverse sc → Mn T 46 R.length os.length p dp sc.length nd → 20 * (61 - dp) + 7 ≤ e + 6 → Cn T s p CB ZB → Lw x TL IL GS SL (aN_ s) → its.length ≤ p →
      TG s1 (aN_ s) (.inner a 1098 (nI (tkp T eo n q0), nI (tkp T eo n p), 0, [], 0, none) lC .leaf) → PSt T eo n ids iE x TL IL GS SL s1 p1 dp1 us (its ++ itm lC) gl → Kp (Mx x IL GS SL) s s1 → (er lC = cf T eo n (lkT ts) ∧ fm_ q0 ts = p ∧ ts.length = y + 1 ∧ (rts lC).length = y + 1 ∧ 1 ≤ y ∧ y ≤ 20) → (itm lC).length + p ≤ p1 → (dp + 1 ≤ dp1 ∧ dp1 ≤ 60) → (aC_ s1 + 10 * p ≤ aC_ s + 10 * p1 ∧ aZ_ s1 + 100 * p ≤ aZ_ s + 100 * p1) → (nd1 + 6 * p + 1 ≤ nd + 6 * p1 ∧ os.length + ts.length ≤ nd1 ∧ p < p1 ∧ p1 ≤ T.length ∧ q0 ≤ p1 ∧ p ≤ q0) → (∀ u ∈ ts, p ≤ fi_ u) →
      RL T eo n V lx x IL GS SL s CB ZB (aJ (e + 6) 285 68 [vr_ (some x), vr_ (some a)] [] s1) (pR_ (Kn T) V T.length lx ((38, y, q0, os.length) :: R, ts.reverse ++ os, p1, dp1, sc, nd1)) (QX T eo n ids iE x TL IL GS SL (XB T eo n true) 0 false s p dp us its gl R os sc nd)) := by
  have hTl : T.length < 2600 := hv.1
  intro s p dp us its gl R os sc nd CB ZB ts a lC q0 y p1 dp1 nd1 s1 hm hS hM hd hC hw hI hG hP1 hK1 ⟨a0, a1, a2, a3, a4, a5⟩ hil ⟨d1, d2⟩ ⟨c1, c2⟩ ⟨n1, n2, n3, n4, n5, n6⟩ hfi
  obtain ⟨m1, m2, m3, m4, m5, m6⟩ := id hM
  have hN1 : aN_ s ≤ aN_ s1 := hK1.1
  have hCa := hC.1
  have hCb := hC.2
  have hM2 : Mn T 46 R.length (ts.reverse ++ os).length p1 dp1 sc.length nd1 := ⟨by omega, by simp; omega, n4, d2, by omega, by omega⟩
  have g38 : pS_ (Kn T) V T.length lx 38 y q0 os.length (R, ts.reverse ++ os, p1, dp1, sc, nd1) = (if Kn T p1 = 13 then sf_ 6 q0 os.length (nI y) (fun σ => ok_ (gpT [(37, 0, 0, os.length)] σ)) (R, ts.reverse ++ os, p1 + 1, dp1, sc, nd1) else if Kn T p1 = 14 ∧ y ≠ 20 then ok_ ((28, 0, 0, 0) :: (38, y + 1, q0, os.length) :: R, ts.reverse ++ os, p1 + 1, dp1, sc, nd1) else fl_ p1) := rfl
  rw [cj_X13_called_68, C_is (e + 2) hP1 n4 (c := 1082) (kk := 14) rfl (by omega) (by decide +kernel)]
  by_cases c : Kn T p1 = 14
  · rw [if_neg (by simp [c, zb_]), C_parts (e + 4) hG.1, a3]
    have hlt : p1 < T.length := Kn_lt (by omega)
    by_cases c20 : y = 20
    · rw [if_pos (by rw [c20]; decide)]
      refine RL_fail (e + 2) hP1 n4 hK1 ⟨by omega, by omega⟩ ?_
      exact pR_er (Mn_pb hM2 (by omega) (by omega) (by omega) (by omega) (by omega)) (g38.trans (by rw [if_neg (by omega), if_neg (fun h => h.2 c20)]; rfl))
    have h20 : ¬ (20 : Int32) < nI (y + 1) := by
      rw [show ((20 : Int32) < nI (y + 1)) = (20 < y + 1) from nlt2_ 20 (by omega) (by decide)]
      omega
    rw [if_neg h20]
    have b1 : pR_ (Kn T) V T.length lx ((38, y, q0, os.length) :: R, ts.reverse ++ os, p1, dp1, sc, nd1) = pR_ (Kn T) V T.length lx ([(28, 0, 0, 0)] ++ ((38, y + 1, q0, os.length) :: R), ts.reverse ++ os, p1 + 1, dp1, sc, nd1) := pR_ok (Mn_pb hM2 (by omega) (by omega) (by omega) (by omega) (by omega)) (g38.trans (by rw [if_neg (by omega), if_pos ⟨c, c20⟩]; rfl))
    obtain ⟨tk, ln, ct, et⟩ := C_take (e + 3) hP1 n4
    rw [et, b1]
    have hP2 := PSt_at hP1 (p' := p1 + 1) (by omega)
    have hG2 := TG_Mx hG hP1 hw (x_Kp (x := x) (IL := IL) (GS := GS) (SL := SL) 94 (nI (p1 + 1)))
    have y1 : aC_ (awI s1 x 94 (nI (p1 + 1))) = aC_ s1 := rfl
    have y2 : aZ_ (awI s1 x 94 (nI (p1 + 1))) = aZ_ s1 := rfl
    refine RL_with (e + 4) h1 rfl hP2 hS (R := (38, y + 1, q0, os.length) :: R) ⟨by simp; omega, by simp; omega, by omega, by omega, by omega, by omega⟩ (by omega) ⟨by omega, by omega⟩ trivial (by simp; omega) (Kp_tr hK1 (x_Kp 94 _)) (Nat.le_refl _) hw hG2 hN1 fun t2 j2 k2 w2 l2 p2 dp2 nd2 s6 ⟨b0, b1, b3, b4, b5, b6, b7, b8⟩ hG6 hP6 hK6 ⟨cc6, cz6⟩ ⟨n7, n8, n9, n10⟩ ⟨d5, d6, d7⟩ hil6 hN6 => ?_
    try simp only [List.length_cons, List.length_append, List.length_reverse] at n8
    obtain rfl := d7 rfl
    have hits : itm (snC lC (.inner j2 k2 w2 l2 .leaf)) = itm lC ++ itm (.inner j2 k2 w2 l2 .leaf) := itm_sn _ _
    have := j68 s p dp us its gl R os sc nd CB ZB (ts ++ [t2]) a (snC lC (.inner j2 k2 w2 l2 .leaf)) q0 (y + 1) p2 dp2 nd2 s6 (by omega) hS hM hd hC hw hI hG6 (by rw [hits, ← List.append_assoc]; exact hP6) hK6 ⟨er_app a0 b0, fm_snoc a1 (by omega), by simp; omega, by rw [rts_sn]; simp [rts]; omega, by omega, by omega⟩ (by rw [hits]; simp; omega) ⟨by omega, by omega⟩ ⟨by omega, by omega⟩ ⟨by omega, by simp only [List.length_append, List.length_cons, List.length_nil]; omega, by omega, n10, by omega, n6⟩ (fun u hu => by rcases List.mem_append.mp hu with q | q; exact hfi u q; simp at q; subst q; omega)
    rw [List.reverse_append] at this
    exact this
  · rw [if_pos (by simp [c, zb_])]
    refine RL_must (e + 1) hP1 n4 (c := 1076) (kk := 13) rfl (by omega) (by decide +kernel) hK1 ⟨by omega, by omega⟩ (fun h13 => ?_) (fun h13 i6 ln6 _ => ?_)
    · exact pR_er (Mn_pb hM2 (by omega) (by omega) (by omega) (by omega) (by omega)) (g38.trans (by rw [if_neg h13, if_neg (fun h => c h.1)]; rfl))
    have hlt : p1 < T.length := Kn_lt (by omega)
    have hrr : (ts.reverse).reverse = ts := List.reverse_reverse ts
    have b1 : pR_ (Kn T) V T.length lx ((38, y, q0, os.length) :: R, ts.reverse ++ os, p1, dp1, sc, nd1) = pR_ (Kn T) V T.length lx ((37, 0, 0, os.length) :: R, st_ 6 q0 (nI y) nd1 ts :: os, p1 + 1, dp1, sc, nd1 + 1) := by
      refine pR_ok (Mn_pb hM2 (by omega) (by omega) (by omega) (by omega) (by omega)) ?_
      rw [g38, if_pos h13]
      refine (sf_app ts.reverse).trans ?_
      rw [hrr]
      rfl
    rw [b1]
    have hP2 := PSt_at hP1 (p' := p1 + 1) (by omega)
    have hG2 := TG_Mx hG hP1 hw (x_Kp (x := x) (IL := IL) (GS := GS) (SL := SL) 94 (nI (p1 + 1)))
    have hit : itm (.inner a 1098 (nI (tkp T eo n q0), nI (tkp T eo n p), 0, [], 0, none) lC .leaf) = itm lC := itm_c rfl (by decide)
    refine j5 s p dp us its gl R os sc nd CB ZB (st_ 6 q0 (nI y) nd1 ts) a 1098 _ lC (p1 + 1) dp1 (nd1 + 1) _ (by omega) ⟨⟨er_x (by decide) (by decide) a0 a1, rfl, rfl, rfl, a1, by simp [st_, kd_], fun _ q => by simp [st_, kd_] at q, ⟨_, _, _, _, rfl, by omega, by omega⟩⟩, hG2, by rw [hit]; exact hP2, Kp_tr hK1 (x_Kp 94 _), ⟨by simp only [aC_awI, aC_awR]; omega, by simp only [aZ_awI, aZ_awR]; omega⟩, ⟨by omega, by omega, by omega, by omega⟩, ⟨by omega, by omega, fun q => absurd q (by decide)⟩, by rw [hit]; omega⟩ hS hM hd hC hw hI
theorem s_call5 (hv : HV T eo V L lx) (e m : Nat) (h1 : SX T eo n V L lx ids iE x TL IL GS SL (XB T eo n false) 0 (e + 5) 280 [vr_ (some x)] (fun _ => [(28, 0, 0, 0)]) (fun _ => True) 20 19 true) (j5 : (∀ s p dp us its gl R os sc nd CB ZB t i kc w lC p1 dp1 nd1 s1, T.length - p1 < m → XA T eo n ids iE x TL IL GS SL (XB T eo n true) 0 false s p dp us its gl os nd t i kc w lC p1 dp1 nd1 s1 → SV L us.reverse sc → Mn T 46 R.length os.length p dp sc.length nd → 20 * (61 - dp) + 7 ≤ e + 6 → Cn T s p CB ZB → Lw x TL IL GS SL (aN_ s) → its.length ≤ p →
      RL T eo n V lx x IL GS SL s CB ZB (aJ (e + 6) 285 5 [vr_ (some x), vr_ (some i)] [] s1) (pR_ (Kn T) V T.length lx ((37, 0, 0, os.length) :: R, t :: os, p1, dp1, sc, nd1)) (QX T eo n ids iE x TL IL GS SL (XB T eo n true) 0 false s p dp us its gl R os sc nd))) (j68 : (∀ s p dp us its gl R os sc nd CB ZB (ts : List tr_) a lC q0 y p1 dp1 nd1 s1, T.length - p1 < m → SV L us.reverse sc → Mn T 46 R.length os.length p dp sc.length nd → 20 * (61 - dp) + 7 ≤ e + 6 → Cn T s p CB ZB → Lw x TL IL GS SL (aN_ s) → its.length ≤ p →
      TG s1 (aN_ s) (.inner a 1098 (nI (tkp T eo n q0), nI (tkp T eo n p), 0, [], 0, none) lC .leaf) → PSt T eo n ids iE x TL IL GS SL s1 p1 dp1 us (its ++ itm lC) gl → Kp (Mx x IL GS SL) s s1 → (er lC = cf T eo n (lkT ts) ∧ fm_ q0 ts = p ∧ ts.length = y + 1 ∧ (rts lC).length = y + 1 ∧ 1 ≤ y ∧ y ≤ 20) → (itm lC).length + p ≤ p1 → (dp + 1 ≤ dp1 ∧ dp1 ≤ 60) → (aC_ s1 + 10 * p ≤ aC_ s + 10 * p1 ∧ aZ_ s1 + 100 * p ≤ aZ_ s + 100 * p1) → (nd1 + 6 * p + 1 ≤ nd + 6 * p1 ∧ os.length + ts.length ≤ nd1 ∧ p < p1 ∧ p1 ≤ T.length ∧ q0 ≤ p1 ∧ p ≤ q0) → (∀ u ∈ ts, p ≤ fi_ u) →
      RL T eo n V lx x IL GS SL s CB ZB (aJ (e + 6) 285 68 [vr_ (some x), vr_ (some a)] [] s1) (pR_ (Kn T) V T.length lx ((38, y, q0, os.length) :: R, ts.reverse ++ os, p1, dp1, sc, nd1)) (QX T eo n ids iE x TL IL GS SL (XB T eo n true) 0 false s p dp us its gl R os sc nd))) : (∀ s p dp us its gl R os sc nd CB ZB t i kc w lC p1 dp1 nd1 s1, T.length - p1 < m + 1 → XA T eo n ids iE x TL IL GS SL (XB T eo n true) 0 false s p dp us its gl os nd t i kc w lC p1 dp1 nd1 s1 → SV L us.reverse sc → Mn T 46 R.length os.length p dp sc.length nd → 20 * (61 - dp) + 7 ≤ e + 6 → Cn T s p CB ZB → Lw x TL IL GS SL (aN_ s) → its.length ≤ p →
      RL T eo n V lx x IL GS SL s CB ZB (aJ (e + 6) 285 5 [vr_ (some x), vr_ (some i)] [] s1) (pR_ (Kn T) V T.length lx ((37, 0, 0, os.length) :: R, t :: os, p1, dp1, sc, nd1)) (QX T eo n ids iE x TL IL GS SL (XB T eo n true) 0 false s p dp us its gl R os sc nd)) := by
  have hTl : T.length < 2600 := hv.1
  intro s p dp us its gl R os sc nd CB ZB t i kc w lC p1 dp1 nd1 s1 hm q hS hM hd hC hw hI
  obtain ⟨m1, m2, m3, m4, m5, m6⟩ := id hM
  obtain ⟨⟨a0, a1, a2, a3, a4, a5, a6, a7⟩, hG, hP1, hK1, ⟨c1, c2⟩, ⟨n1, n2, n3, n4⟩, ⟨d1, d2, d3⟩, hil⟩ := id q
  have hN1 : aN_ s ≤ aN_ s1 := hK1.1
  have hCa := hC.1
  have hCb := hC.2
  have hM2 : Mn T 46 R.length (t :: os).length p1 dp1 sc.length nd1 := ⟨by omega, by simp; omega, n4, d2, by omega, by omega⟩
  have g37 : pS_ (Kn T) V T.length lx 37 0 0 os.length (R, t :: os, p1, dp1, sc, nd1) = (if Kn T p1 = 12 then (if dp1 = 60 then fl_ p1 else if Kn T (p1 + 1) = 13 then sf_ 6 p1 os.length 0 (fun σ => ok_ (gpT [(37, 0, 0, os.length)] σ)) (R, t :: os, p1 + 2, dp1 + 1, sc, nd1) else ok_ ((28, 0, 0, 0) :: (38, 1, p1, os.length) :: R, t :: os, p1 + 1, dp1 + 1, sc, nd1)) else ok_ (R, t :: os, p1, dp1, sc, nd1)) := rfl
  rw [cj_X13_called_5, C_is (e + 2) hP1 n4 (c := 1048) (kk := 12) rfl (by omega) (by decide +kernel)]
  by_cases c : Kn T p1 = 12
  · rw [if_neg (by simp [c, zb_])]
    have hlt : p1 < T.length := Kn_lt (by omega)
    refine RL_enter (e + 1) hP1 n4 hK1 ⟨by omega, by omega⟩ (fun h60 => ?_) (fun h60 => ?_)
    · exact pR_er (Mn_pb hM2 (by omega) (by omega) (by omega) (by omega) (by omega)) (g37.trans (by rw [if_pos c, if_pos h60]; rfl))
    have hP2 := PSt_dp hP1 (d' := dp1 + 1) (by omega)
    obtain ⟨s3, e3, hP3, hG3, hK3, cc3, cz3, cN3⟩ := C_mk (e + 3) hP2 n4 1098
    rw [e3, nw_1, aN_awI]
    have hk13 : Kp (Mx x IL GS SL) s1 s3 := Kp_tr (x_Kp 95 _) hK3
    have hGt : TG s3 (aN_ s) (.inner i kc w lC .leaf) := TG_Mx hG hP1 hw hk13
    simp only [aC_awI, aZ_awI, aN_awI] at cc3 cz3 cN3 hG3 e3
    obtain ⟨s4, e4, hG4, hP4, hK4, cc4, cz4, cN4, hKi4⟩ := C_first (e + 4) hP3 hw (Kp_tr hK1 hk13) (Nat.le_refl _) (TG_lo hG3 hN1) hGt (dj_gt (m := aN_ s1) hG3.2.2 (TG_lt hG))
    rw [a2] at hG4
    rw [e4]
    rw [C_is (e + 2) hP4 (by omega) (c := 1076) (kk := 13) rfl (by omega) (by decide +kernel)]
    have hit0 : itm (.inner i kc w lC .leaf) = itm (.inner i kc w lC .leaf) := rfl
    by_cases c13 : Kn T (p1 + 1) = 13
    · rw [if_neg (by simp [c13, zb_])]
      refine RL_must (e + 1) hP4 (by omega) (c := 1076) (kk := 13) rfl (by omega) (by decide +kernel) hK4 ⟨by omega, by omega⟩ (fun h13 => absurd c13 h13) (fun h13 i6 ln6 _ => ?_)
      have hlt2 : p1 + 1 < T.length := Kn_lt (by omega)
      have hfm : fm_ p1 [t] = p := fm_1 a4 (by omega)
      have b1 : pR_ (Kn T) V T.length lx ((37, 0, 0, os.length) :: R, t :: os, p1, dp1, sc, nd1) = pR_ (Kn T) V T.length lx ((37, 0, 0, os.length) :: R, st_ 6 p1 0 nd1 [t] :: os, p1 + 2, dp1 + 1, sc, nd1 + 1) := by
        refine pR_ok (Mn_pb hM2 (by omega) (by omega) (by omega) (by omega) (by omega)) ?_
        rw [g37, if_pos c, if_neg h60, if_pos c13]
        exact sf_app (kk := 6) (a := 0) [t]
      rw [b1]
      have hP5 := PSt_at hP4 (p' := p1 + 2) (by omega)
      have hG5 := TG_Mx hG4 hP4 hw (x_Kp (x := x) (IL := IL) (GS := GS) (SL := SL) 94 (nI (p1 + 2)))
      have hit : itm (.inner (aN_ s1) 1098 (nI (tkp T eo n p1), nI (tkp T eo n p), 0, [], 0, none) (.inner i kc w lC .leaf) .leaf) = itm (.inner i kc w lC .leaf) := (itm_c rfl (by decide)).trans rfl
      refine j5 s p dp us its gl R os sc nd CB ZB (st_ 6 p1 0 nd1 [t]) (aN_ s1) 1098 _ _ (p1 + 2) (dp1 + 1) (nd1 + 1) _ (by omega) ⟨⟨er_x (by decide) (by decide) (er_one a0) hfm, rfl, rfl, rfl, hfm, by simp [st_, kd_], fun _ q => by simp [st_, kd_] at q, ⟨_, _, _, _, rfl, by omega, by omega⟩⟩, hG5, by rw [hit]; exact hP5, Kp_tr hK4 (x_Kp 94 _), ⟨by simp only [aC_awI, aC_awR]; omega, by simp only [aZ_awI, aZ_awR]; omega⟩, ⟨by omega, by omega, by omega, by omega⟩, ⟨by omega, by omega, fun q => absurd q (by decide)⟩, by rw [hit]; omega⟩ hS hM hd hC hw hI
    · rw [if_pos (by simp [c13, zb_])]
      have b1 : pR_ (Kn T) V T.length lx ((37, 0, 0, os.length) :: R, t :: os, p1, dp1, sc, nd1) = pR_ (Kn T) V T.length lx ([(28, 0, 0, 0)] ++ ((38, 1, p1, os.length) :: R), t :: os, p1 + 1, dp1 + 1, sc, nd1) := pR_ok (Mn_pb hM2 (by omega) (by omega) (by omega) (by omega) (by omega)) (g37.trans (by rw [if_pos c, if_neg h60, if_neg c13]; rfl))
      rw [b1]
      refine RL_with (e + 4) h1 rfl hP4 hS (R := (38, 1, p1, os.length) :: R) ⟨by simp; omega, by simp; omega, by omega, by omega, by omega, by omega⟩ (by omega) ⟨by omega, by omega⟩ trivial (by simp; omega) hK4 (Nat.le_refl _) hw hG4 (by omega) fun t2 j2 k2 w2 l2 p2 dp2 nd2 s6 ⟨b0, b1, b3, b4, b5, b6, b7, b8⟩ hG6 hP6 hK6 ⟨cc6, cz6⟩ ⟨n7, n8, n9, n10⟩ ⟨d5, d6, d7⟩ hil6 hN6 => ?_
      try simp only [List.length_cons, List.length_append, List.length_reverse] at n8
      obtain rfl := d7 rfl
      have hits : itm (snC (.inner i kc w lC .leaf) (.inner j2 k2 w2 l2 .leaf)) = itm (.inner i kc w lC .leaf) ++ itm (.inner j2 k2 w2 l2 .leaf) := itm_sn _ _
      exact j68 s p dp us its gl R os sc nd CB ZB [t, t2] (aN_ s1) _ p1 1 p2 _ nd2 s6 (by omega) hS hM hd hC hw hI hG6 (by rw [hits, ← List.append_assoc]; exact hP6) hK6 ⟨er_app (ts := [t]) (er_one a0) b0, fm_2 a4 (by omega) (by omega), rfl, rfl, Nat.le_refl _, by omega⟩ (by rw [hits]; simp; omega) ⟨by omega, by omega⟩ ⟨by omega, by omega⟩ ⟨by omega, by simp only [List.length_cons]; omega, by omega, n10, by omega, by omega⟩ (fun u hu => by simp at hu; rcases hu with rfl | rfl <;> omega)
  · rw [if_pos (by simp [c, zb_])]
    have b2 : pR_ (Kn T) V T.length lx ((37, 0, 0, os.length) :: R, t :: os, p1, dp1, sc, nd1) = pR_ (Kn T) V T.length lx (R, t :: os, p1, dp1, sc, nd1) := pR_ok (Mn_pb hM2 (by omega) (by omega) (by omega) (by omega) (by omega)) (g37.trans (by rw [if_neg c]; rfl))
    exact Or.inr ⟨_, _, _, b2, rfl, t, i, kc, w, lC, p1, dp1, nd1, rfl, rfl, q⟩
theorem s_calls (hv : HV T eo V L lx) (e : Nat) (h1 : SX T eo n V L lx ids iE x TL IL GS SL (XB T eo n false) 0 (e + 5) 280 [vr_ (some x)] (fun _ => [(28, 0, 0, 0)]) (fun _ => True) 20 19 true) : ∀ m : Nat, (∀ s p dp us its gl R os sc nd CB ZB t i kc w lC p1 dp1 nd1 s1, T.length - p1 < m → XA T eo n ids iE x TL IL GS SL (XB T eo n true) 0 false s p dp us its gl os nd t i kc w lC p1 dp1 nd1 s1 → SV L us.reverse sc → Mn T 46 R.length os.length p dp sc.length nd → 20 * (61 - dp) + 7 ≤ e + 6 → Cn T s p CB ZB → Lw x TL IL GS SL (aN_ s) → its.length ≤ p →
      RL T eo n V lx x IL GS SL s CB ZB (aJ (e + 6) 285 5 [vr_ (some x), vr_ (some i)] [] s1) (pR_ (Kn T) V T.length lx ((37, 0, 0, os.length) :: R, t :: os, p1, dp1, sc, nd1)) (QX T eo n ids iE x TL IL GS SL (XB T eo n true) 0 false s p dp us its gl R os sc nd)) ∧ (∀ s p dp us its gl R os sc nd CB ZB (ts : List tr_) a lC q0 y p1 dp1 nd1 s1, T.length - p1 < m → SV L us.reverse sc → Mn T 46 R.length os.length p dp sc.length nd → 20 * (61 - dp) + 7 ≤ e + 6 → Cn T s p CB ZB → Lw x TL IL GS SL (aN_ s) → its.length ≤ p →
      TG s1 (aN_ s) (.inner a 1098 (nI (tkp T eo n q0), nI (tkp T eo n p), 0, [], 0, none) lC .leaf) → PSt T eo n ids iE x TL IL GS SL s1 p1 dp1 us (its ++ itm lC) gl → Kp (Mx x IL GS SL) s s1 → (er lC = cf T eo n (lkT ts) ∧ fm_ q0 ts = p ∧ ts.length = y + 1 ∧ (rts lC).length = y + 1 ∧ 1 ≤ y ∧ y ≤ 20) → (itm lC).length + p ≤ p1 → (dp + 1 ≤ dp1 ∧ dp1 ≤ 60) → (aC_ s1 + 10 * p ≤ aC_ s + 10 * p1 ∧ aZ_ s1 + 100 * p ≤ aZ_ s + 100 * p1) → (nd1 + 6 * p + 1 ≤ nd + 6 * p1 ∧ os.length + ts.length ≤ nd1 ∧ p < p1 ∧ p1 ≤ T.length ∧ q0 ≤ p1 ∧ p ≤ q0) → (∀ u ∈ ts, p ≤ fi_ u) →
      RL T eo n V lx x IL GS SL s CB ZB (aJ (e + 6) 285 68 [vr_ (some x), vr_ (some a)] [] s1) (pR_ (Kn T) V T.length lx ((38, y, q0, os.length) :: R, ts.reverse ++ os, p1, dp1, sc, nd1)) (QX T eo n ids iE x TL IL GS SL (XB T eo n true) 0 false s p dp us its gl R os sc nd)) := by
  intro m
  induction m with
  | zero => exact ⟨fun _ _ _ _ _ _ _ _ _ _ _ _ _ _ _ _ _ _ _ _ _ h => absurd h (Nat.not_lt_zero _), fun _ _ _ _ _ _ _ _ _ _ _ _ _ _ _ _ _ _ _ _ _ h => absurd h (Nat.not_lt_zero _)⟩
  | succ m ih => exact ⟨s_call5 hv e m h1 ih.1 ih.2, s_call68 hv e m h1 ih.1 ih.2⟩
theorem s_call (hv : HV T eo V L lx) (d : Nat) (h0 : SX T eo n V L lx ids iE x TL IL GS SL (XB T eo n true) 0 d 286 [vr_ (some x)] (fun _ => [(39, 0, 0, 0)]) (fun _ => True) 50 6 true) (h1 : SX T eo n V L lx ids iE x TL IL GS SL (XB T eo n false) 0 d 280 [vr_ (some x)] (fun _ => [(28, 0, 0, 0)]) (fun _ => True) 20 19 true) : SX T eo n V L lx ids iE x TL IL GS SL (XB T eo n true) 0 (d + 1) 285 [vr_ (some x)] (fun z => [(39, 0, 0, 0), (37, 0, 0, z)]) (fun _ => True) 46 7 false := by
  intro s p dp us its gl R os sc nd CB ZB hP hS hM hd hC _ hI
  obtain ⟨m1, m2, m3, m4, m5, m6⟩ := id hM
  obtain ⟨e, rfl⟩ : ∃ e, d = e + 5 := ⟨d - 5, by omega⟩
  have hw := PSt_Lw hP
  rw [ce_X13_called, f_dp (f := 286) hP.1.1.2.2 rfl, Option.bind_some]
  refine RL_bind (h0 s p dp us its gl ((37, 0, 0, os.length) :: R) os sc nd CB ZB hP hS ⟨by simp; omega, m2, m3, m4, m5, m6⟩ (by omega) hC trivial hI) Kp_rf fun σ v s2 q2 => ?_
  obtain ⟨t2, j2, k2, w2, l2, p2, dp2, nd2, rfl, rfl, q2⟩ := q2
  obtain ⟨r1, r2, r3, r4, r5, r6, ⟨r7, r8, r9⟩, r10⟩ := q2
  exact (s_calls hv e h1 (T.length - p2 + 1)).1 s p dp us its gl R os sc nd CB ZB t2 j2 k2 w2 l2 p2 dp2 nd2 s2 (Nat.lt_succ_self _) ⟨r1, r2, r3, r4, r5, r6, ⟨r7, r8, fun q => absurd q (by decide)⟩, r10⟩ hS hM hd hC hw hI
end px8
