/-! ===== the two parsers side by side: primaries ===== -/
section px9
variable {T : List tk_} {eo : Option Nat} {n : Nat} {V : Nat → Int32} {L : List (List Int32)} {lx : Bool} {ids : List Nat} {iE x TL IL GS SL : Nat}
variable {s s' s0 : as_} {i kc lo p dp : Nat} {v : cp_w} {l : cr_} {us : List (List Int32)} {its : List Nat} {gl : List ((List Int32 ⊕ Int32) × Option Nat)}
/-- kinds of both sides for what begins by itself -/
theorem kd_cs (hT : TA s TL ids iE T eo n) : (Kn T p = 1 ∧ tkk T eo p = 0 ∧ tkv T p = 0) ∨ (Kn T p = 2 ∧ tkk T eo p = 1 ∧ tkx T p = []) ∨ (Kn T p = 4 ∧ tkk T eo p = 2 ∧ tkv T p = 0) ∨ (Kn T p ≠ 1 ∧ Kn T p ≠ 2 ∧ Kn T p ≠ 4 ∧ tkk T eo p ≠ 0 ∧ tkk T eo p ≠ 1 ∧ tkk T eo p ≠ 2) := by
  unfold tkk Kn tkv tkx
  cases hy : T[p]? with
  | none =>
    dsimp only
    refine Or.inr (Or.inr (Or.inr ⟨by omega, by omega, by omega, ?_⟩))
    rcases eK_n eo with e | e <;> rw [e] <;> decide
  | some y =>
    dsimp only
    rcases cw_cs (tk_v hT hy) with ⟨e1, e2⟩ | ⟨e1, e2⟩ | ⟨e1, e2⟩ | ⟨e1, e2, e3, e4⟩ | ⟨e1, e2, e3, e4, e5⟩
    · exact Or.inl ⟨e1, e2, by rw [if_neg (by omega)]⟩
    · refine Or.inr (Or.inl ⟨e1, e2, ?_⟩)
      unfold cw_
      rw [if_pos e1]
    · exact Or.inr (Or.inr (Or.inl ⟨e1, e2, by rw [if_neg (by omega)]⟩))
    · exact Or.inr (Or.inr (Or.inr ⟨by omega, by omega, by omega, by rw [e3]; decide, by rw [e3]; decide, by rw [e3]; decide⟩))
    · exact Or.inr (Or.inr (Or.inr ⟨by omega, by omega, by omega, by rw [e4]; decide, by rw [e4]; decide, by rw [e4]; decide⟩))
/-- one more item that a node is -/
theorem C_item (d : Nat) {a : Nat} {Kc : Int32 → as_ → cx_O as_} (hP : PSt T eo n ids iE x TL IL GS SL s p dp us its gl) (hl : its.length + 1 < 30000) : ((a_gr 96 (some x) s).bind fun v8 => (a_dp 73 v8 s).bind fun m9 => cx_bI cx_th (aE (d + 1) m9 [vr_ v8, vr_ (some a)] s) Kc) = Kc 1 (al_add s IL (some a)) ∧ PSt T eo n ids iE x TL IL GS SL (al_add s IL (some a)) p dp us (its ++ [a]) gl := by
  refine ⟨?_, PSt_it hP a hl⟩
  rw [f_gr (f := 96) hP.1.1.2.2 rfl, Option.bind_some, hP.1.2.1.2.1, f_dp (f := 73) hP.2.2.2.1.1.2.2 rfl, Option.bind_some, l_add, cI_k]
/-- a value is set -/
theorem C_val {y : Int32} {Kc : as_ → cx_O as_} (hp : TG s lo (.inner i kc v l .leaf)) : ((a_pi 104 (some i) y s).bind Kc) = Kc (awI s i 104 y) := by
  rw [n_pi (f := 104) (NF_isN hp.1.1) (by decide) rfl, Option.bind_some]
theorem xb_0 {kc tok : Nat} {u : List Int32} {y : Int32} (hx : xk_ kc = true) (hk : kc ≠ 1121 ∧ kc ≠ 1089) (a : Nat) (k : Nat) (av : Int32) (nd : Nat) (h : cf T eo n (lf_ k tok av nd) = .inner 0 kc (xp_ T eo n (tok, av, 0, tok, false) u y none) .leaf .leaf) : er (.inner a kc (nI (tkp T eo n tok), nI (tkp T eo n tok), 0, u, y, none) .leaf .leaf) = cf T eo n (lf_ k tok av nd) := by
  rw [h]
  show (Std.DTreeMap.Internal.Impl.inner 0 kc (erp kc _) .leaf .leaf : cr_) = _
  unfold erp xp_
  rw [if_neg (fun q => q.elim hk.1 hk.2), if_pos hx]
  rfl
theorem s_pr67 (hv : HV T eo V L lx) (e : Nat) (s p dp us its gl R os sc nd CB ZB tk ln kc s1) (pe : pe_) (k : Nat) (av : Int32) (hP1 : PSt T eo n ids iE x TL IL GS SL s1 (p + 1) dp us its gl) (hK1 : Kp (Mx x IL GS SL) s s1) (y1 : aC_ s1 = aC_ s) (y2 : aZ_ s1 = aZ_ s) (y3 : aN_ s1 = aN_ s) (ct : CT s1 tk (tkk T eo p) (nI (tkp T eo n p)) ln (tkv T p) (tkx T p) (tkg T p)) (hlt : p < T.length) (hkc : kc = 1099 ∧ tkk T eo p ≠ 2 ∧ k = 1 ∨ kc = 1100 ∧ tkk T eo p ≠ 2 ∧ k = 2 ∨ kc = 1101 ∧ tkk T eo p = 2 ∧ k = 3) (hcf : cf T eo n (lf_ k p av nd) = .inner 0 kc (xp_ T eo n (p, av, 0, p, false) (tkx T p) (tkv T p) none) .leaf .leaf) (hpe : pe = pR_ (Kn T) V T.length lx (R, lf_ k p av nd :: os, p + 1, dp, sc, nd + 1)) (hM : Mn T 50 R.length os.length p dp sc.length nd) (hw : Lw x TL IL GS SL (aN_ s)) (hI : its.length ≤ p) :
    RL T eo n V lx x IL GS SL s CB ZB (aJ (e + 6) 286 67 [vr_ (some x), vr_ (some tk)] [vr_ (some kc), vr_ (some (a_nw 9 s1).1), vr_ (some (a_nw 9 s1).1)] (a_nw 9 s1).2) pe (QX T eo n ids iE x TL IL GS SL (XB T eo n true) 0 true s p dp us its gl R os sc nd) := by
  obtain ⟨m1, m2, m3, m4, m5, m6⟩ := id hM
  have hTl : T.length < 20000 := hP1.2.1.2.2.2.2
  have hx : xk_ kc = true ∧ (kc ≠ 1121 ∧ kc ≠ 1089 ∧ kc ≠ 1124 ∧ kc ≠ 1098) := by
    rcases hkc with ⟨rfl, _⟩ | ⟨rfl, _⟩ | ⟨rfl, _⟩ <;> decide
  rw [cj_X13_primary_67]
  obtain ⟨s3, e3, hP3, hG3, hK3, cc3, cz3, cN3⟩ := C_mk2 (e + 3) (kc := kc) hP1 ct
  rw [e3]
  have ct3 := CT_Kp ct hK3 (fun _ q => q.elim)
  have hN : isN s3 (aN_ s1) := NF_isN hG3.1.1
  rw [show (a_nw 9 s1).1 = aN_ s1 from rfl]
  obtain ⟨e4, hG4⟩ := C_text ct3 hG3
  rw [e4]
  have hP4 : PSt T eo n ids iE x TL IL GS SL (awR s3 (aN_ s1) 103 (aR_ s3 tk 88)) (p + 1) dp us its gl := PSt_ownR hP3 hw (by omega) hN
  have hki : tk ≠ aN_ s1 := by have := ct.1.2.1; omega
  have ct4 := CT_Kp ct3 (Kp_R (M := fun a => a = aN_ s1) Kp_rf 103 (aR_ s3 tk 88) (Or.inl rfl)) (fun a q => by subst q; rcases hN with w | w <;> rw [w] <;> decide)
  rw [f_gi (f := 87) (c := 14) (by rw [ct4.1.2.2]) rfl, Option.bind_some, ct4.2.1.2.2.2.1, C_val hG4]
  have hG5 := TG_value hG4 (tkv T p)
  have hP5 : PSt T eo n ids iE x TL IL GS SL (awI (awR s3 (aN_ s1) 103 (aR_ s3 tk 88)) (aN_ s1) 104 (tkv T p)) (p + 1) dp us its gl := PSt_own hP4 hw (by omega) (NF_isN hG4.1.1)
  have ct5 := CT_Kp ct4 (Kp_I (M := fun a => a = aN_ s1) Kp_rf 104 (tkv T p) (Or.inl rfl)) (fun a q => by subst q; rcases hN with w | w <;> rw [show (aK_ (awR s3 (aN_ s1) 103 (aR_ s3 tk 88)) (aN_ s1)).1 = (aK_ s3 (aN_ s1)).1 from rfl, w] <;> decide)
  have hk5 : Kp (Mx x IL GS SL) s (awI (awR s3 (aN_ s1) 103 (aR_ s3 tk 88)) (aN_ s1) 104 (tkv T p)) := Kp_I (Kp_R (Kp_tr hK1 (Kp_wk hK3 (fun _ _ q => q.elim))) 103 _ (Or.inr (by omega))) 104 _ (Or.inr (by omega))
  have hB : er (.inner (aN_ s1) kc (nI (tkp T eo n p), nI (tkp T eo n p), 0, tkx T p, tkv T p, none) .leaf .leaf) = cf T eo n (lf_ k p av nd) := xb_0 hx.1 ⟨hx.2.1, hx.2.2.1⟩ _ k av nd hcf
  have hXB : XB T eo n true p (lf_ k p av nd) kc (nI (tkp T eo n p), nI (tkp T eo n p), 0, tkx T p, tkv T p, none) := ⟨hx.1, rfl, rfl, rfl, by constructor; exact fun q => absurd q hx.2.2.2.2; intro q; have : k = 6 := q; omega, fun _ q => by have : k = 11 := q; omega, ⟨_, _, _, _, rfl, by omega, by omega⟩⟩
  rw [f_gi (f := 84) (c := 14) (by rw [ct5.1.2.2]) rfl, Option.bind_some, ct5.2.1.1]
  have z1 : aC_ (awI (awR s3 (aN_ s1) 103 (aR_ s3 tk 88)) (aN_ s1) 104 (tkv T p)) = aC_ s3 := rfl
  have z2 : aZ_ (awI (awR s3 (aN_ s1) 103 (aR_ s3 tk 88)) (aN_ s1) 104 (tkv T p)) = aZ_ s3 := rfl
  by_cases c2 : tkk T eo p = 2
  · rw [if_pos c2]
    have h11 : kc = 1101 := by
      rcases hkc with ⟨_, q, _⟩ | ⟨_, q, _⟩ | ⟨q, _⟩
      · exact absurd c2 q
      · exact absurd c2 q
      · exact q
    subst h11
    obtain ⟨e6, hP6⟩ := C_item (e + 4) (a := aN_ s1) hP5 (by omega) (Kc := fun v11 s10 => some (.inl (some (vr_ (some (aN_ s1)))), s10))
    refine Eq.mpr (congrArg (fun o => RL T eo n V lx x IL GS SL s CB ZB o _ _) e6) ?_
    have hG6 := TG_Mx hG5 hP5 (Lw_le hw (by omega)) (it_Kp (x := x) (IL := IL) (GS := GS) (SL := SL) (aN_ s1))
    exact Or.inr ⟨_, _, _, hpe, rfl, _, _, _, _, _, _, _, _, rfl, rfl, ⟨hB, hXB⟩, TG_lo hG6 (by omega), hP6, Kp_tr hk5 (it_Kp _), ⟨by show aC_ s3 + 1 + 10 * p ≤ _; omega, by show aZ_ s3 + 10 + 100 * p ≤ _; omega⟩, ⟨by omega, by omega, by omega, by omega⟩, ⟨by omega, by omega, fun _ => rfl⟩, by show 1 + p ≤ _; omega⟩
  · rw [if_neg c2]
    have hit : itm (.inner (aN_ s1) kc (nI (tkp T eo n p), nI (tkp T eo n p), 0, tkx T p, tkv T p, none) .leaf .leaf) = [] := by
      rw [itm_1]
      rcases hkc with ⟨rfl, _⟩ | ⟨rfl, _⟩ | ⟨_, q, _⟩
      · rfl
      · rfl
      · exact absurd q c2
    exact Or.inr ⟨_, _, _, hpe, rfl, _, _, _, _, _, _, _, _, rfl, rfl, ⟨hB, hXB⟩, TG_lo hG5 (by omega), by rw [hit, List.append_nil]; exact hP5, hk5, ⟨by simp only [aC_awI, aC_awR]; omega, by simp only [aZ_awI, aZ_awR]; omega⟩, ⟨by omega, by omega, by omega, by omega⟩, ⟨by omega, by omega, fun _ => rfl⟩, by rw [hit]; simp⟩
/-- TRUE, FALSE -/
theorem s_pr132 (hv : HV T eo V L lx) (e : Nat) (s p dp us its gl R os sc nd CB ZB tk ln) (pe : pe_) (hP : PSt T eo n ids iE x TL IL GS SL s p dp us its gl) (ct : CT s tk (tkk T eo p) (nI (tkp T eo n p)) ln (tkv T p) (tkx T p) (tkg T p)) (hk : Kn T p = 74 ∨ Kn T p = 75) (hpe : pe = pR_ (Kn T) V T.length lx (R, lf_ 2 p (if Kn T p = 74 then -1 else 0) nd :: os, p + 1, dp, sc, nd + 1)) (hM : Mn T 50 R.length os.length p dp sc.length nd) :
    RL T eo n V lx x IL GS SL s CB ZB (aJ (e + 6) 286 132 [vr_ (some x), vr_ (some tk)] [] s) pe (QX T eo n ids iE x TL IL GS SL (XB T eo n true) 0 true s p dp us its gl R os sc nd) := by
  obtain ⟨m1, m2, m3, m4, m5, m6⟩ := id hM
  have hTl : T.length < 2600 := hv.1
  have hw := PSt_Lw hP
  have hlt : p < T.length := Kn_lt (by omega)
  have h34 := tk_34 (p := p) hP.2.1 (by omega)
  rw [cj_X13_primary_132]
  obtain ⟨tk', ln', ct', et⟩ := C_take (e + 3) hP m3
  rw [et]
  have hP1 := PSt_at hP (p' := p + 1) (by omega)
  have ct1 := CT_Kp ct (x_Kp (x := x) (IL := IL) (GS := GS) (SL := SL) 94 (nI (p + 1))) (Mx_cl hP)
  obtain ⟨s3, e3, hP3, hG3, hK3, cc3, cz3, cN3⟩ := C_mk2 (e + 3) (kc := 1100) hP1 ct1
  rw [e3]
  simp only [aC_awI, aZ_awI, aN_awI] at cc3 cz3 cN3 hG3
  have ct3 := CT_Kp ct1 hK3 (fun _ q => q.elim)
  have way : ∀ y, y = (if Kn T p = 74 then (-1 : Int32) else 0) → RL T eo n V lx x IL GS SL s CB ZB ((a_pi 104 (some (aN_ s)) y s3).bind fun s10 => some (.inl (some (vr_ (some (aN_ s)))), s10)) pe (QX T eo n ids iE x TL IL GS SL (XB T eo n true) 0 true s p dp us its gl R os sc nd) := fun y hy => by
    rw [C_val hG3]
    have hB : er (.inner (aN_ s) 1100 (nI (tkp T eo n p), nI (tkp T eo n p), 0, [], y, none) .leaf .leaf) = cf T eo n (lf_ 2 p y nd) := xb_0 (by decide) (by decide) _ 2 y nd rfl
    rw [← hy] at hpe
    exact Or.inr ⟨_, _, _, hpe, rfl, _, _, _, _, _, _, _, _, rfl, rfl, ⟨hB, rfl, rfl, rfl, rfl, by simp [lf_, kd_], fun _ q => by simp [lf_, kd_] at q, ⟨_, _, _, _, rfl, by omega, by omega⟩⟩, TG_value hG3 y, by rw [show itm (.inner (aN_ s) 1100 (nI (tkp T eo n p), nI (tkp T eo n p), 0, [], y, none) .leaf .leaf) = [] from rfl, List.append_nil]; exact PSt_own hP3 hw (Nat.le_refl _) (NF_isN hG3.1.1), Kp_I (Kp_tr (x_Kp 94 _) (Kp_wk hK3 (fun _ _ q => q.elim))) 104 _ (Or.inr (Nat.le_refl _)), ⟨by simp only [aC_awI, aC_awR]; omega, by simp only [aZ_awI, aZ_awR]; omega⟩, ⟨by omega, by omega, by omega, by omega⟩, ⟨by omega, by omega, fun _ => rfl⟩, by show 0 + p ≤ _; omega⟩
  rw [C_teq (e + 4) ct3 (c := 1052) rfl (by omega)]
  by_cases c1 : Kn T p = 74
  · rw [if_neg (by rw [tx_of hP.2.1 (c := 1052) (k := 74) (by decide +kernel) c1]; simp [a_b])]
    exact way (-1) (by rw [if_pos c1])
  · rw [if_pos (by simp [tx_ne hP.2.1 (c := 1052) (k := 74) (by decide +kernel) c1 h34, a_b])]
    exact way 0 (by rw [if_neg c1])
/-- the parts of a TABLE -/
theorem s_pr281 (hv : HV T eo V L lx) (e : Nat) (h1 : SX T eo n V L lx ids iE x TL IL GS SL (XB T eo n false) 0 (e + 5) 280 [vr_ (some x)] (fun _ => [(28, 0, 0, 0)]) (fun _ => True) 20 19 true) : ∀ (m : Nat) s p dp us its gl R os sc nd CB ZB (ts : List tr_) a lC p1 nd1 s1, T.length - p1 < m → SV L us.reverse sc → Mn T 50 R.length os.length p dp sc.length nd → dp ≠ 60 → 20 * (61 - dp) + 6 ≤ e + 6 → Cn T s p CB ZB → Lw x TL IL GS SL (aN_ s) → its.length ≤ p →
      TG s1 (aN_ s) (.inner a 1103 (nI (tkp T eo n p), nI (tkp T eo n p), 0, [], 0, none) lC .leaf) → PSt T eo n ids iE x TL IL GS SL s1 p1 (dp + 1) us (its ++ ([a] ++ itm lC)) gl → Kp (Mx x IL GS SL) s s1 → er lC = cf T eo n (lkT ts) → fm_ p ts = p → (itm lC).length + p + 1 ≤ p1 → (aC_ s1 + 10 * p ≤ aC_ s + 10 * p1 ∧ aZ_ s1 + 100 * p ≤ aZ_ s + 100 * p1) → (nd1 + 6 * p + 1 ≤ nd + 6 * p1 ∧ os.length + ts.length ≤ nd1 ∧ p < p1 ∧ p1 ≤ T.length) →
      RL T eo n V lx x IL GS SL s CB ZB (aJ (e + 6) 286 281 [vr_ (some x), vr_ (some a)] [] s1) (pR_ (Kn T) V T.length lx ((40, 0, p, os.length) :: (15, dp, 0, 0) :: R, ts.reverse ++ os, p1, dp + 1, sc, nd1)) (QX T eo n ids iE x TL IL GS SL (XB T eo n true) 0 true s p dp us its gl R os sc nd) := by
  have hTl : T.length < 2600 := hv.1
  intro m
  induction m with
  | zero => intro s p dp us its gl R os sc nd CB ZB ts a lC p1 nd1 s1 hm; exact absurd hm (Nat.not_lt_zero _)
  | succ m ih =>
  intro s p dp us its gl R os sc nd CB ZB ts a lC p1 nd1 s1 hm hS hM h60 hd hC hw hI hG hP1 hK1 a0 a1 hil ⟨c1, c2⟩ ⟨n1, n2, n3, n4⟩
  obtain ⟨m1, m2, m3, m4, m5, m6⟩ := id hM
  have hN1 : aN_ s ≤ aN_ s1 := hK1.1
  have hCa := hC.1
  have hCb := hC.2
  have hM2 : Mn T 51 ((15, dp, 0, 0) :: R).length (ts.reverse ++ os).length p1 (dp + 1) sc.length nd1 := ⟨by simp; omega, by simp; omega, n4, by omega, by omega, by omega⟩
  have g40 : pS_ (Kn T) V T.length lx 40 0 p os.length ((15, dp, 0, 0) :: R, ts.reverse ++ os, p1, dp + 1, sc, nd1) = (if Kn T p1 = 14 then ok_ ((28, 0, 0, 0) :: (40, 0, p, os.length) :: (15, dp, 0, 0) :: R, ts.reverse ++ os, p1 + 1, dp + 1, sc, nd1) else sf_ 5 p os.length 0 ok_ ((15, dp, 0, 0) :: R, ts.reverse ++ os, p1, dp + 1, sc, nd1)) := rfl
  rw [cj_X13_primary_281, C_skip (e + 1) hP1 n4 (c := 1082) (kk := 14) rfl (by omega) (by decide +kernel)]
  by_cases c : Kn T p1 = 14
  · rw [if_pos c, if_neg (by decide)]
    have hlt : p1 < T.length := Kn_lt (by omega)
    have b1 : pR_ (Kn T) V T.length lx ((40, 0, p, os.length) :: (15, dp, 0, 0) :: R, ts.reverse ++ os, p1, dp + 1, sc, nd1) = pR_ (Kn T) V T.length lx ([(28, 0, 0, 0)] ++ ((40, 0, p, os.length) :: (15, dp, 0, 0) :: R), ts.reverse ++ os, p1 + 1, dp + 1, sc, nd1) := pR_ok (Mn_pb hM2 (by omega) (by omega) (by omega) (by omega) (by omega)) (g40.trans (by rw [if_pos c]; rfl))
    rw [b1]
    have hP2 := PSt_at hP1 (p' := p1 + 1) (by omega)
    have hG2 := TG_Mx hG hP1 hw (x_Kp (x := x) (IL := IL) (GS := GS) (SL := SL) 94 (nI (p1 + 1)))
    have y1 : aC_ (awI s1 x 94 (nI (p1 + 1))) = aC_ s1 := rfl
    have y2 : aZ_ (awI s1 x 94 (nI (p1 + 1))) = aZ_ s1 := rfl
    refine RL_with (e + 4) h1 rfl hP2 hS (R := (40, 0, p, os.length) :: (15, dp, 0, 0) :: R) ⟨by simp; omega, by simp; omega, by omega, by omega, by omega, by omega⟩ (by omega) ⟨by omega, by omega⟩ trivial (by simp; omega) (Kp_tr hK1 (x_Kp 94 _)) (Nat.le_refl _) hw hG2 hN1 fun t2 j2 k2 w2 l2 p2 dp2 nd2 s6 ⟨b0, b1, b3, b4, b5, b6, b7, b8⟩ hG6 hP6 hK6 ⟨cc6, cz6⟩ ⟨n7, n8, n9, n10⟩ ⟨d5, d6, d7⟩ hil6 hN6 => ?_
    try simp only [List.length_cons, List.length_append, List.length_reverse] at n8
    obtain rfl := d7 rfl
    have hits : itm (snC lC (.inner j2 k2 w2 l2 .leaf)) = itm lC ++ itm (.inner j2 k2 w2 l2 .leaf) := itm_sn _ _
    have := ih s p dp us its gl R os sc nd CB ZB (ts ++ [t2]) a (snC lC (.inner j2 k2 w2 l2 .leaf)) p2 nd2 s6 (by omega) hS hM h60 hd hC hw hI hG6 (by rw [hits]; simp only [List.append_assoc] at hP6 ⊢; exact hP6) hK6 (er_app a0 b0) (fm_snoc a1 (by omega)) (by rw [hits]; simp; omega) ⟨by omega, by omega⟩ ⟨by omega, by simp only [List.length_append, List.length_cons, List.length_nil]; omega, by omega, n10⟩
    rw [List.reverse_append] at this
    exact this
  · rw [if_neg c, if_pos rfl, C_less hP1]
    have hP2 := PSt_dp hP1 (d' := dp) (by omega)
    have hG2 := TG_Mx hG hP1 hw (x_Kp (x := x) (IL := IL) (GS := GS) (SL := SL) 95 (nI dp))
    have b1 : pR_ (Kn T) V T.length lx ((40, 0, p, os.length) :: (15, dp, 0, 0) :: R, ts.reverse ++ os, p1, dp + 1, sc, nd1) = pR_ (Kn T) V T.length lx (R, st_ 5 p 0 nd1 ts :: os, p1, dp, sc, nd1 + 1) := by
      refine (pR_ok (Mn_pb hM2 (by omega) (by omega) (by omega) (by omega) (by omega)) (σ := ((15, dp, 0, 0) :: R, st_ 5 p 0 nd1 ts :: os, p1, dp + 1, sc, nd1 + 1)) ?_).trans ?_
      · rw [g40, if_neg c]
        refine (sf_app (kk := 5) (a := 0) ts.reverse).trans ?_
        rw [List.reverse_reverse]
        rfl
      · exact pR_ok (Mn_pb (os := os) (k := 51) ⟨by omega, by omega, n4, by omega, by omega, by omega⟩ (by omega) (by omega) (by omega) (by omega) (by omega)) rfl
    have hit : itm (.inner a 1103 (nI (tkp T eo n p), nI (tkp T eo n p), 0, [], 0, none) lC .leaf) = [a] ++ itm lC := by
      rw [itm_1]
      rfl
    exact Or.inr ⟨_, _, _, b1, rfl, _, _, _, _, _, _, _, _, rfl, rfl, ⟨er_x (by decide) (by decide) a0 a1, rfl, rfl, rfl, a1, by simp [st_, kd_], fun _ q => by simp [st_, kd_] at q, ⟨_, _, _, _, rfl, by omega, by omega⟩⟩, hG2, by rw [hit]; exact hP2, Kp_tr hK1 (x_Kp 95 _), ⟨by simp only [aC_awI, aC_awR]; omega, by simp only [aZ_awI, aZ_awR]; omega⟩, ⟨by omega, by omega, by omega, n4⟩, ⟨by omega, by omega, fun _ => rfl⟩, by rw [hit]; simp; omega⟩
end px9
