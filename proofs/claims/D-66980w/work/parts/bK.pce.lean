/-! ===== the two parsers side by side: routines ===== -/
section pce
variable {T : List tk_} {eo : Option Nat} {n : Nat} {V : Nat → Int32} {L : List (List Int32)} {lx : Bool} {ids : List Nat} {iE x TL IL GS SL : Nat}
theorem TG_gives {s : as_} {lo i kc nl : Nat} {l : cr_} {pl fs br va a b c d y : Int32} {tx : List Int32} {ws : List (Int32 × List Int32)} (h : TG s lo (.inner i kc (pl, fs, br, tx, va, some (nl, ws, a, b, c, d)) l .leaf)) : TG (awI s i 111 y) lo (.inner i kc (pl, fs, br, tx, va, some (nl, ws, a, b, y, d)) l .leaf) := by
  have hk : Kp (fun a => a = i) s (awI s i 111 y) := Kp_I Kp_rf 111 y (Or.inl rfl)
  obtain ⟨⟨b1, b2⟩, h3, ⟨h4, h5, h6, h7⟩, h8, z1, z2, z3, z4, z5, z6, z7⟩ := h.1.1
  have hN := NF_isN h.1.1
  have hni : ¬ nl = i := fun q => by subst q; have := h.2.1; simp [idl_, nlI] at this
  refine TG_touch h hk ⟨⟨b1, b2⟩, h3, ⟨?_, ?_, ?_, ?_⟩, St_Kp h8 hk (fun a q => isN_M hN q), z1, z2, NL_Kp z3 hk (fun a q => by subst q; rw [z1]; decide) hni, ?_, ?_, ?_, ?_⟩ (fun k q => rfl) rfl
  · rw [aI_awI, if_neg (by omega)]; exact h4
  · rw [aI_awI, if_neg (by omega)]; exact h5
  · rw [aI_awI, if_neg (by omega)]; exact h6
  · rw [aI_awI, if_neg (by omega)]; exact h7
  · rw [aI_awI, if_neg (by omega)]; exact z4
  · rw [aI_awI, if_neg (by omega)]; exact z5
  · rw [aI_awI, if_pos ⟨b1, rfl, rfl⟩]
  · rw [aI_awI, if_neg (by omega)]; exact z7
def flC (o g : Int32) : cr_ → cr_
  | .inner i k v l r => .inner i k (v.1, v.2.1, v.2.2.1, v.2.2.2.1, v.2.2.2.2.1, v.2.2.2.2.2.map fun w => (w.1, w.2.1, o, g, w.2.2.2.2)) l r
  | .leaf => .leaf
def pml (V : Nat → Int32) (ns : List (Nat × Nat)) : List tr_ := ns.map fun y => lf_ 57 y.1 (V y.1) y.2
theorem nm_pml {ts : List tr_} (h : ∀ w ∈ ts, kd_ w ≠ 57 ∧ kd_ w ≠ 58) : ∀ (ns : List (Nat × Nat)), nmT T eo n (lkT (pml V ns ++ ts)) = nwL T eo n ns
  | [] => nm_no h
  | y :: r => by
    show (nI (tkp T eo n y.1), tkx T y.1) :: nmT T eo n (lkT (pml V r ++ ts)) = _
    rw [nm_pml h r]
    rfl
theorem cf_pml {ts : List tr_} : ∀ (ns : List (Nat × Nat)), cf T eo n (lkT (pml V ns ++ ts)) = cf T eo n (lkT ts)
  | [] => rfl
  | y :: r => by
    show cf T eo n (lkT (lf_ 57 y.1 (V y.1) y.2 :: (pml V r ++ ts))) = _
    rw [cf_lk, cf_pml r]
    rfl
theorem gv_pml {t : tr_} (h : kd_ t ≠ 57 ∧ kd_ t ≠ 0) : ∀ (ns : List (Nat × Nat)), gvT (lkT (pml V ns ++ [t])) = decide (kd_ t < 20)
  | [] => by
    cases t with
    | leaf => exact absurd rfl h.2
    | inner k i v l r =>
      show (if k = 57 then _ else decide (k < 20)) = _
      rw [if_neg (show ¬ k = 57 from h.1)]
      rfl
  | y :: r => gv_pml h r
theorem cf_54 {q nd : Nat} {ts : List tr_} : cf T eo n (st_ 54 q 0 nd ts) = .inner 0 1129 (yp_ T eo n q (tkx T q) (some (0, nmT T eo n (lkT ts), 0, 0, bz_ (gvT (lkT ts)), 0))) (cf T eo n (lkT ts)) .leaf := rfl
/-- a routine was read: its flags beside -/
def QF (T : List tk_) (eo : Option Nat) (n : Nat) (ids : List Nat) (iE x TL IL GS SL : Nat) (o g : Int32) (s : as_) (p dp : Nat) (us : List (List Int32)) (its : List Nat) (gl : List ((List Int32 ⊕ Int32) × Option Nat)) (R : List gl_) (os : List tr_) (sc : List (Int32 × Nat)) (nd : Nat) (σ : ps_) (v : Option Nat) (s' : as_) : Prop :=
  ∃ t i w l p' nd', v = some i ∧ σ = (R, t :: os, p', dp, sc, nd') ∧ (er (.inner i 1129 w l .leaf) = flC o g (cf T eo n t) ∧ p ≤ fi_ t ∧ kd_ t = 54 ∧ hdT t = p) ∧ TG s' (aN_ s) (.inner i 1129 w l .leaf) ∧ PSt T eo n ids iE x TL IL GS SL s' p' dp us (its ++ itm (.inner i 1129 w l .leaf)) gl ∧ Kp (Mx x IL GS SL) s s' ∧ (aC_ s' + 10 * p ≤ aC_ s + 10 * p' ∧ aZ_ s' + 100 * p ≤ aZ_ s + 100 * p') ∧ (nd' + 6 * p ≤ nd + 6 * p' ∧ os.length + 1 ≤ nd' ∧ p + 1 ≤ p' ∧ p' ≤ T.length) ∧ (itm (.inner i 1129 w l .leaf)).length + p ≤ p'
set_option maxHeartbeats 4000000 in
theorem s_rou148 (hv : HV T eo V L lx) (e : Nat) (h1 : SX T eo n V L lx ids iE x TL IL GS SL (XB T eo n false) 0 (e + 5) 280 [vr_ (some x)] (fun _ => [(28, 0, 0, 0)]) (fun _ => True) 20 19 true) (h2 : SX T eo n V L lx ids iE x TL IL GS SL XC 1 (e + 5) 287 [vr_ (some x)] (fun _ => [(11, 0, 0, 0)]) (fun _ => True) 5 22 true) (s : as_) (q dp : Nat) (us : List (List Int32)) (its : List Nat) (gl : List ((List Int32 ⊕ Int32) × Option Nat)) (R : List gl_) (os : List tr_) (sc : List (Int32 × Nat)) (nd CB ZB : Nat) (ns : List (Nat × Nat)) (a nl p1 nd1 : Nat) (s1 : as_) (o g : Int32) (pe : pe_) (hG : TG s1 (aN_ s) (.inner a 1129 (nI (tkp T eo n q), nI (tkp T eo n q), 0, tkx T q, 0, some (nl, nwL T eo n ns, o, g, 0, 0)) .leaf .leaf)) (hns : ∀ y ∈ ns, q ≤ y.1) (hP1 : PSt T eo n ids iE x TL IL GS SL s1 p1 dp us (its ++ [a]) gl) (hK1 : Kp (Mx x IL GS SL) s s1) (hc : aC_ s1 + 10 * q ≤ aC_ s + 10 * p1 ∧ aZ_ s1 + 100 * q ≤ aZ_ s + 100 * p1) (hn : nd1 + 6 * q ≤ nd + 6 * p1 ∧ os.length + ns.length ≤ nd1 ∧ q + 2 ≤ p1 ∧ p1 ≤ T.length) (hS : SV L us.reverse sc) (hM : Mn T 4 R.length os.length q dp sc.length nd) (hd : 20 * (61 - dp) + 22 ≤ e + 5) (hC : Cn T s q CB ZB) (hw : Lw x TL IL GS SL (aN_ s)) (hI : its.length ≤ q)
    (hpe : pe = if Kn T p1 = 13 then (if Kn T (p1 + 1) = 25 then pR_ (Kn T) V T.length lx ((28, 0, 0, 0) :: (6, 54, q, os.length) :: R, (pml V ns).reverse ++ os, p1 + 2, dp, sc, nd1) else if Kn T (p1 + 1) = 45 then pR_ (Kn T) V T.length lx ((11, 0, 0, 0) :: (6, 54, q, os.length) :: R, (pml V ns).reverse ++ os, p1 + 2, dp, sc, nd1) else some (.error (p1 + 1))) else some (.error p1)) :
    RL T eo n V lx x IL GS SL s CB ZB (aJ (e + 6) 303 148 [vr_ (some x), vr_ (some a)] [] s1) pe (QF T eo n ids iE x TL IL GS SL o g s q dp us its gl R os sc nd) := by
  have hTl : T.length < 2600 := hv.1
  obtain ⟨m1, m2, m3, m4, m5, m6⟩ := id hM
  have hCa := hC.1
  have hCb := hC.2
  obtain ⟨c1, c2⟩ := hc
  obtain ⟨n1, n2, n3, n4⟩ := hn
  have hnm : (pml V ns).length = ns.length := by simp [pml]
  -- the body is there
  have fin : ∀ (t j kj : Nat) (wj : cp_w) (lj : cr_) p2 nd2 s2 (tt : tr_) (gv : Int32), er (.inner j kj wj lj .leaf) = cf T eo n tt → q ≤ fi_ tt → (kd_ tt ≠ 57 ∧ kd_ tt ≠ 58) → kd_ tt ≠ 0 → gv = bz_ (decide (kd_ tt < 20)) → TG s2 (aN_ s) (.inner a 1129 (nI (tkp T eo n q), nI (tkp T eo n q), 0, tkx T q, 0, some (nl, nwL T eo n ns, o, g, gv, 0)) (snC .leaf (.inner j kj wj lj .leaf)) .leaf) → PSt T eo n ids iE x TL IL GS SL s2 p2 dp us (its ++ [a] ++ itm (.inner j kj wj lj .leaf)) gl → Kp (Mx x IL GS SL) s s2 → (aC_ s2 + 10 * q ≤ aC_ s + 10 * p2 ∧ aZ_ s2 + 100 * q ≤ aZ_ s + 100 * p2) → (nd2 + 1 + 6 * q ≤ nd + 6 * p2 ∧ os.length + 1 ≤ nd2 ∧ q + 1 ≤ p2 ∧ p2 ≤ T.length) → (itm (.inner j kj wj lj .leaf)).length + 1 + q ≤ p2 → nd1 ≤ nd2 + 20000 → RL T eo n V lx x IL GS SL s CB ZB (some (.inl (some (vr_ (some a))), s2)) (pR_ (Kn T) V T.length lx ((6, 54, q, os.length) :: R, tt :: ((pml V ns).reverse ++ os), p2, dp, sc, nd2)) (QF T eo n ids iE x TL IL GS SL o g s q dp us its gl R os sc nd) := fun _ j kj wj lj p2 nd2 s2 tt gv f0 f1 f2 f3 f4 hG2 hP2 hK2 ⟨cc2, cz2⟩ ⟨n5, n6, n7, n8⟩ hil2 _ => by
    have b6 : pR_ (Kn T) V T.length lx ((6, 54, q, os.length) :: R, (tt :: (pml V ns).reverse) ++ os, p2, dp, sc, nd2) = pR_ (Kn T) V T.length lx (R, st_ 54 q 0 nd2 (pml V ns ++ [tt]) :: os, p2, dp, sc, nd2 + 1) := by
      refine pR_ok (pb_I (by first | omega | (simp only [List.length_cons]; omega)) (by first | omega | (simp only [List.length_cons]; omega)) (by omega) (by omega) (by omega) (by omega) (by omega) (by omega)) ((sf_app (kk := 54) (a := 0) (f := ok_) (tt :: (pml V ns).reverse)).trans ?_)
      rw [List.reverse_cons, List.reverse_reverse]
      rfl
    have hit : itm (.inner a 1129 (nI (tkp T eo n q), nI (tkp T eo n q), 0, tkx T q, 0, some (nl, nwL T eo n ns, o, g, gv, 0)) (snC .leaf (.inner j kj wj lj .leaf)) .leaf) = [a] ++ itm (.inner j kj wj lj .leaf) := by
      rw [itm_1]
      rfl
    refine Or.inr ⟨_, _, _, b6, rfl, _, a, _, _, _, _, rfl, rfl, ⟨?_, fm_ge (Nat.le_refl _) (fun u hu => ?_), rfl, rfl⟩, hG2, by rw [hit, ← List.append_assoc]; exact hP2, hK2, ⟨cc2, cz2⟩, ⟨n5, by omega, n7, n8⟩, by rw [hit]; simp only [List.length_append, List.length_singleton]; omega⟩
    · rw [cf_54, nm_pml (fun w hw => by simp only [List.mem_singleton] at hw; subst hw; exact f2), cf_pml, gv_pml ⟨f2.1, f3⟩, ← er_one f0, f4]
      rfl
    · rcases List.mem_append.mp hu with z | z
      · obtain ⟨y, hy, rfl⟩ := List.mem_map.mp z
        exact hns y hy
      · simp only [List.mem_singleton] at z
        subst z
        exact f1
  rw [cj_X13_routine_148]
  refine RL_must (e + 1) hP1 n4 (c := 1076) (kk := 13) rfl (by omega) (by decide +kernel) hK1 ⟨by omega, by omega⟩ (fun h => by rw [hpe, if_neg h]) (fun h13 i6 ln6 _ => ?_)
  rw [if_pos h13] at hpe
  have hlt1 : p1 < T.length := Kn_lt (by omega)
  have hP2 := PSt_at hP1 (p' := p1 + 1) (by omega)
  have hG2 := TG_Mx hG hP1 hw (x_Kp (x := x) (IL := IL) (GS := GS) (SL := SL) 94 (nI (p1 + 1)))
  have hK2 : Kp (Mx x IL GS SL) s (awI s1 x 94 (nI (p1 + 1))) := Kp_tr hK1 (x_Kp 94 _)
  rw [C_skip (e + 1) hP2 (by omega) (c := 1021) (kk := 25) rfl (by omega) (by decide +kernel)]
  by_cases c25 : Kn T (p1 + 1) = 25
  · have hlt2 : p1 + 1 < T.length := Kn_lt (by omega)
    rw [if_pos c25] at hpe
    rw [if_pos c25, if_neg (by decide)]
    have hP3 := PSt_at hP2 (p' := p1 + 1 + 1) (by omega)
    have hG3 := TG_Mx hG2 hP2 hw (x_Kp (x := x) (IL := IL) (GS := GS) (SL := SL) 94 (nI (p1 + 1 + 1)))
    have hNa := NF_isN hG3.1.1
    have hla : aN_ s ≤ a := hG3.2.2 _ (by simp [idl_])
    have hG4 := TG_gives (y := 1) hG3
    have hP4 : PSt T eo n ids iE x TL IL GS SL (awI (awI (awI s1 x 94 (nI (p1 + 1))) x 94 (nI (p1 + 1 + 1))) a 111 1) (p1 + 1 + 1) dp us (its ++ [a]) gl := PSt_own hP3 hw hla hNa
    have hK4 : Kp (Mx x IL GS SL) s (awI (awI (awI s1 x 94 (nI (p1 + 1))) x 94 (nI (p1 + 1 + 1))) a 111 1) := Kp_I (Kp_tr hK2 (x_Kp 94 _)) 111 1 (Or.inr hla)
    rw [f_pi (f := 111) (c := 5) (by rw [hG3.1.1.2.2.2.2.1]) rfl (by decide), Option.bind_some, hpe]
    refine RL_with (e + 4) h1 rfl hP4 hS (R := (6, 54, q, os.length) :: R) ⟨by simp; omega, by simp [hnm]; omega, by omega, m4, m5, by omega⟩ (by omega) ⟨by simp only [aC_awI]; omega, by simp only [aZ_awI]; omega⟩ trivial (by simp; omega) hK4 (Nat.le_refl _) hw hG4 (by show aN_ s ≤ aN_ s1; exact hK1.1) fun t2 j2 k2 w2 l2 p2 dp2 nd2 s6 ⟨f0, b1, b2, b3, b4, b5, b6, b7⟩ hG6 hP6 hK6 ⟨cc6, cz6⟩ ⟨n5, n6, n7, n8⟩ ⟨d5, d6, dd7⟩ hil6 hN6 => ?_
    obtain rfl := dd7 rfl
    have hkd : 1 ≤ kd_ t2 ∧ kd_ t2 ≤ 12 := by obtain ⟨k, _, _, _, rfl, z1, z2⟩ := b7; exact ⟨z1, z2⟩
    clear b7
    simp only [aC_awI, aZ_awI] at cc6 cz6
    simp only [List.length_append, List.length_reverse, hnm] at n6
    exact fin 0 j2 k2 w2 l2 p2 nd2 s6 t2 1 f0 (by omega) ⟨by omega, by omega⟩ (by omega) (by rw [show decide (kd_ t2 < 20) = true by simp; omega]; rfl) hG6 hP6 hK6 ⟨by omega, by omega⟩ ⟨by omega, by omega, by omega, n8⟩ (by omega) (by omega)
  · rw [if_neg c25] at hpe
    rw [if_neg c25, if_pos rfl]
    refine RL_must (e + 1) hP2 (by omega) (c := 1034) (kk := 45) rfl (by omega) (by decide +kernel) hK2 ⟨by simp only [aC_awI]; omega, by simp only [aZ_awI]; omega⟩ (fun h => by rw [hpe, if_neg h]) (fun h45 i7 ln7 _ => ?_)
    have hlt2 : p1 + 1 < T.length := Kn_lt (by omega)
    rw [if_pos h45] at hpe
    have hP3 := PSt_at hP2 (p' := p1 + 1 + 1) (by omega)
    have hG3 := TG_Mx hG2 hP2 hw (x_Kp (x := x) (IL := IL) (GS := GS) (SL := SL) 94 (nI (p1 + 1 + 1)))
    rw [hpe]
    refine RL_with (e + 4) h2 rfl hP3 hS (R := (6, 54, q, os.length) :: R) ⟨by simp; omega, by simp [hnm]; omega, by omega, m4, m5, by omega⟩ (by omega) ⟨by simp only [aC_awI]; omega, by simp only [aZ_awI]; omega⟩ trivial (by simp; omega) (Kp_tr hK2 (x_Kp 94 _)) (Nat.le_refl _) hw hG3 (by show aN_ s ≤ aN_ s1; exact hK1.1) fun t2 j2 k2 w2 l2 p2 dp2 nd2 s6 ⟨f0, f1, f2⟩ hG6 hP6 hK6 ⟨cc6, cz6⟩ ⟨n5, n6, n7, n8⟩ ⟨d5, d6, dd7⟩ hil6 hN6 => ?_
    obtain ⟨f2, f3, f4⟩ := KC_i f2
    obtain rfl := dd7 rfl
    simp only [aC_awI, aZ_awI] at cc6 cz6
    simp only [List.length_append, List.length_reverse, hnm] at n6
    exact fin 0 j2 k2 w2 l2 p2 nd2 s6 t2 0 f0 (by omega) ⟨f3, f4⟩ (by omega) (by rw [show decide (kd_ t2 < 20) = false by simp; omega]; rfl) hG6 hP6 hK6 ⟨by omega, by omega⟩ ⟨by omega, by omega, by omega, n8⟩ (by omega) (by omega)
end pce
