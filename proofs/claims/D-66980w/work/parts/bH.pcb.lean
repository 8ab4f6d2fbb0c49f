/-! ===== the two parsers side by side: constants ===== -/
section pcb
variable {T : List tk_} {eo : Option Nat} {n : Nat} {V : Nat → Int32} {L : List (List Int32)} {lx : Bool} {ids : List Nat} {iE x TL IL GS SL : Nat}
variable {s s' s0 : as_} {i kc lo p dp CB ZB nd : Nat} {v : cp_w} {l : cr_} {us : List (List Int32)} {its : List Nat} {gl : List ((List Int32 ⊕ Int32) × Option Nat)} {R : List gl_} {os : List tr_} {sc : List (Int32 × Nat)} {pe : pe_} {Q : ps_ → Option Nat → as_ → Prop}
theorem kdC_sn (k : Nat) : ∀ (a b : cr_), kdC k (snC a b) = snC (kdC k a) (kdC k b)
  | .leaf, _ => rfl
  | .inner i _ v l r, b => by
    show (Std.DTreeMap.Internal.Impl.inner i k v l (kdC k (snC r b)) : cr_) = _
    rw [kdC_sn k r b]
    rfl
theorem er_appK {k : Nat} {lC c : cr_} {t : tr_} : ∀ {ts : List tr_}, er lC = kdC k (cf T eo n (lkT ts)) → er c = kdC k (cf T eo n t) → er (snC lC c) = kdC k (cf T eo n (lkT (ts ++ [t]))) := by
  intro ts h1 h2
  rw [er_sn, h1, h2, ← kdC_sn]
  clear h1
  congr 1
  induction ts with
  | nil =>
    show snC .leaf (cf T eo n t) = cf T eo n (sn_ t .leaf)
    rw [cf_sn, show cf T eo n .leaf = .leaf from rfl, snC_leaf]
    rfl
  | cons a r ih =>
    show snC (cf T eo n (lkT (a :: r))) (cf T eo n t) = cf T eo n (lkT (a :: (r ++ [t])))
    rw [cf_lk, cf_lk, snC_as, ih]
theorem cf_56 {tok nd : Nat} {ts : List tr_} : cf T eo n (st_ 56 tok 0 nd ts) = .inner 0 1085 (yp_ T eo n tok (tkx T tok) none) (cf T eo n (lkT ts)) .leaf := rfl
theorem tkx_ne (hT : TA s TL ids iE T eo n) (h : Kn T p = 1) : (tkx T p).isEmpty = false := by
  unfold tkx Kn at *
  cases hy : T[p]? with
  | none => rw [hy] at h; exact absurd h (by decide)
  | some y =>
    rw [hy] at h
    dsimp only at h ⊢
    have hv := tk_v hT hy
    have e : cw_ y = (0, y.2.2.2, []) := by
      obtain ⟨_, hv⟩ := hv
      rcases hv with ⟨_, h1, _⟩ | ⟨h0, _⟩ | h0 | ⟨h0, _⟩ | ⟨h0, h1⟩
      · unfold cw_
        rw [if_neg (by omega), if_neg (by omega), if_neg (by omega), if_neg h1, if_pos h]
      · omega
      · omega
      · omega
      · have := List.all_eq_true.mp cw_kw _ h0
        simp only [Bool.and_eq_true, decide_eq_true_eq] at this
        omega
    rw [e]
    obtain ⟨_, hv⟩ := hv
    rcases hv with ⟨_, h1, _⟩ | ⟨h0, _⟩ | h0 | ⟨h0, _⟩ | ⟨h0, h1⟩
    · cases hh : y.2.2.2 with
      | nil => exact absurd hh h1
      | cons _ _ => rfl
    · omega
    · omega
    · omega
    · have := List.all_eq_true.mp cw_kw _ h0
      simp only [Bool.and_eq_true, decide_eq_true_eq] at this
      omega
/-- kinds of constants: the component's constant, the reference's kind, the sign -/
def KCs (kc kk cs sg : Nat) : Prop := kc = 1085 ∧ kk = 50 ∧ cs = 1079 ∧ sg = 17 ∨ kc = 1086 ∧ kk = 51 ∧ cs = 1021 ∧ sg = 25 ∨ kc = 1087 ∧ kk = 52 ∧ cs = 1021 ∧ sg = 25
theorem KC_c {kc kk cs sg : Nat} (h : KCs kc kk cs sg) : KC_ kk = true := by rcases h with ⟨_, rfl, _⟩ | ⟨_, rfl, _⟩ | ⟨_, rfl, _⟩ <;> rfl
theorem KC_r {kc kk cs sg : Nat} (h : KCs kc kk cs sg) : 50 ≤ kk ∧ kk ≤ 52 := by rcases h with ⟨_, rfl, _⟩ | ⟨_, rfl, _⟩ | ⟨_, rfl, _⟩ <;> decide
theorem KC_cf {kc kk cs sg : Nat} (h : KCs kc kk cs sg) {tok nd : Nat} {ts : List tr_} : cf T eo n (st_ kk tok 0 nd ts) = .inner 0 kc (yp_ T eo n tok [] none) (kdC kc (cf T eo n (lkT ts))) .leaf := by
  rcases h with ⟨rfl, rfl, _⟩ | ⟨rfl, rfl, _⟩ | ⟨rfl, rfl, _⟩ <;> rfl
/-- a section of constants was read: how many they are at most -/
def QK (T : List tk_) (eo : Option Nat) (n : Nat) (ids : List Nat) (iE x TL IL GS SL : Nat) (kc : Nat) (s : as_) (p dp : Nat) (us : List (List Int32)) (its : List Nat) (gl : List ((List Int32 ⊕ Int32) × Option Nat)) (R : List gl_) (os : List tr_) (sc : List (Int32 × Nat)) (nd : Nat) (σ : ps_) (v : Option Nat) (s' : as_) : Prop :=
  ∃ t i w l p' dp' nd', v = some i ∧ σ = (R, t :: os, p', dp', sc, nd') ∧ XA T eo n ids iE x TL IL GS SL XC 0 true s p dp us its gl os nd t i kc w l p' dp' nd' s' ∧ 4 * (rts l).length + p + 1 ≤ p' ∧ 50 ≤ kd_ t ∧ kd_ t ≤ 52
set_option maxHeartbeats 4000000 in
theorem s_con34 (hv : HV T eo V L lx) (e q0 : Nat) {kc kk cs sg : Nat} (hkc : KCs kc kk cs sg) (h1 : SX T eo n V L lx ids iE x TL IL GS SL (XB T eo n false) 0 (e + 5) 280 [vr_ (some x)] (fun _ => [(28, 0, 0, 0)]) (fun _ => True) 20 19 true) : ∀ (m : Nat) s p dp us u its gl R os sc nd CB ZB (ts : List tr_) a lC p1 nd1 s1 (tv : Int32), T.length - p1 < m → dp < 60 → TG s1 (aN_ s) (.inner a kc (nI (tkp T eo n q0), nI (tkp T eo n q0), 0, [], 0, none) lC .leaf) → er lC = kdC kc (cf T eo n (lkT ts)) → p ≤ q0 → (∀ w ∈ ts, p ≤ fi_ w) → PSt T eo n ids iE x TL IL GS SL s1 p1 (dp + 1) (us ++ [u]) (its ++ itm lC) gl → Kp (Mx x IL GS SL) s s1 → (aC_ s1 + 10 * p ≤ aC_ s + 10 * p1 ∧ aZ_ s1 + 100 * p ≤ aZ_ s + 100 * p1) → (nd1 + 6 * p + 2 ≤ nd + 6 * p1 ∧ os.length + ts.length ≤ nd1 ∧ p < p1 ∧ p1 ≤ T.length ∧ q0 < 2 ^ 20) → ((rts lC).length = ts.length ∧ 4 * ts.length + p + 2 ≤ p1) → (itm lC).length + p ≤ p1 → VL L u tv → SV L us.reverse sc → Mn T 3 R.length os.length p dp sc.length nd → 20 * (60 - dp) + 19 ≤ e + 5 → Cn T s p CB ZB → Lw x TL IL GS SL (aN_ s) → its.length ≤ p →
    RL T eo n V lx x IL GS SL s CB ZB (aJ (e + 6) 273 34 [vr_ (some x), vr_ (some kc), vr_ (some cs), vr_ (some a)] [] s1) (pR_ (Kn T) V T.length lx ((4, kk, 0, 0) :: (5, kk, q0, os.length) :: R, ts.reverse ++ os, p1, dp + 1, (tv, dp) :: sc, nd1)) (QK T eo n ids iE x TL IL GS SL kc s p dp us its gl R os sc nd) := by
  have hTl : T.length < 2600 := hv.1
  have hkk : kk < 100 ∧ kk ≠ 20 ∧ (kc = 1085 ∨ kc = 1086 ∨ kc = 1087) ∧ (if kk = 50 then 17 else 25) = sg ∧ ak_K cs = (26, 0) ∧ cs < 3000 ∧ gdk_ cs sg = true ∧ sg ≠ 0 := by
    rcases hkc with ⟨rfl, rfl, rfl, rfl⟩ | ⟨rfl, rfl, rfl, rfl⟩ | ⟨rfl, rfl, rfl, rfl⟩
    · exact ⟨by decide, by decide, by decide, rfl, rfl, by decide, by decide +kernel, by decide⟩
    · exact ⟨by decide, by decide, by decide, rfl, rfl, by decide, by decide +kernel, by decide⟩
    · exact ⟨by decide, by decide, by decide, rfl, rfl, by decide, by decide +kernel, by decide⟩
  obtain ⟨hk1, hk2, hk3, hk4, hk5, hk6, hk7, hk8⟩ := hkk
  have hx : xk_ kc = false ∧ (kc ≠ 1121 ∧ kc ≠ 1089) ∧ kc ≠ 1124 ∧ isIt kc [] = false := by rcases hk3 with rfl | rfl | rfl <;> decide
  intro m
  induction m with
  | zero => intro s p dp us u its gl R os sc nd CB ZB ts a lC p1 nd1 s1 tv hm; exact absurd hm (Nat.not_lt_zero _)
  | succ m ih =>
  intro s p dp us u its gl R os sc nd CB ZB ts a lC p1 nd1 s1 tv hm h60 hG hE hq hfi hP1 hK1 ⟨c1, c2⟩ ⟨n1, n2, n3, n4, n5⟩ ⟨hr1, hr2⟩ hil hVL hS hM hd hC hw hI
  obtain ⟨m1, m2, m3, m4, m5, m6⟩ := id hM
  have hCa := hC.1
  have hCb := hC.2
  have hN1 : aN_ s ≤ aN_ s1 := hK1.1
  have hltP := TG_lt hG
  have hSu : SV L (us ++ [u]).reverse ((tv, dp) :: sc) := by rw [List.reverse_append]; exact ⟨hVL, hS⟩
  have g4 : pS_ (Kn T) V T.length lx 4 kk 0 0 ((5, kk, q0, os.length) :: R, ts.reverse ++ os, p1, dp + 1, (tv, dp) :: sc, nd1) = (if Kn T p1 = 1 then ok_ ((16, (if kk = 50 then 17 else 25), 0, 0) :: (28, 0, 0, 0) :: (6, 56, p1, (ts.reverse ++ os).length) :: (5, kk, q0, os.length) :: R, ts.reverse ++ os, p1 + 1, dp + 1, (tv, dp) :: sc, nd1) else fl_ p1) := rfl
  rw [cj_X13_constants_34]
  refine RL_name (e + 1) hP1 n4 hK1 ⟨by omega, by omega⟩ (fun h => pR_er (pb_I (by first | omega | (simp only [List.length_cons]; omega)) (by first | omega | (simp only [List.length_cons]; omega)) (by omega) (by omega) (by omega) (by omega) (by omega) (by omega)) (g4.trans (by rw [if_neg h]; rfl))) (fun hn tk ln ct => ?_)
  have hlt : p1 < T.length := Kn_lt (by omega)
  have b0 : pR_ (Kn T) V T.length lx ((4, kk, 0, 0) :: (5, kk, q0, os.length) :: R, ts.reverse ++ os, p1, dp + 1, (tv, dp) :: sc, nd1) = pR_ (Kn T) V T.length lx ((16, sg, 0, 0) :: (28, 0, 0, 0) :: (6, 56, p1, (ts.reverse ++ os).length) :: (5, kk, q0, os.length) :: R, ts.reverse ++ os, p1 + 1, dp + 1, (tv, dp) :: sc, nd1) := pR_ok (pb_I (by first | omega | (simp only [List.length_cons]; omega)) (by first | omega | (simp only [List.length_cons]; omega)) (by omega) (by omega) (by omega) (by omega) (by omega) (by omega)) (g4.trans (by rw [if_pos hn, hk4]; rfl))
  rw [b0]
  have hP2 := PSt_at hP1 (p' := p1 + 1) (by omega)
  have ct2 := CT_Kp ct (x_Kp (x := x) (IL := IL) (GS := GS) (SL := SL) 94 (nI (p1 + 1))) (Mx_cl hP1)
  obtain ⟨s3, e3, hP3, hG3, hK3, cc3, cz3, cN3⟩ := C_mk2 (e + 3) (kc := kc) hP2 ct2
  rw [e3, nw_1, aN_awI]
  simp only [aC_awI, aZ_awI, aN_awI] at cc3 cz3 cN3 hG3
  have ct3 := CT_Kp ct2 hK3 (fun _ q => q.elim)
  have hNa := NF_isN hG3.1.1
  obtain ⟨e4, hG4⟩ := C_text ct3 hG3
  rw [e4]
  have hw1 : Lw x TL IL GS SL (aN_ s1) := Lw_le hw hN1
  have hP4 : PSt T eo n ids iE x TL IL GS SL (awR s3 (aN_ s1) 103 (aR_ s3 tk 88)) (p1 + 1) (dp + 1) (us ++ [u]) (its ++ itm lC) gl := PSt_ownR hP3 hw1 (Nat.le_refl _) hNa
  have hk3' : Kp (Mx x IL GS SL) s1 s3 := Kp_tr (x_Kp 94 _) (Kp_wk hK3 (fun _ _ q => q.elim))
  have hGp4 := TG_ownR (f := 103) (y := aR_ s3 tk 88) (TG_Mx hG hP1 hw hk3') (fun q => by have := hltP _ q; omega) hNa
  have hkq4 : Kp (Mx x IL GS SL) s (awR s3 (aN_ s1) 103 (aR_ s3 tk 88)) := Kp_R (Kp_tr hK1 hk3') 103 _ (Or.inr hN1)
  -- behind the item, if it is one
  have way : ∀ s5 it5, PSt T eo n ids iE x TL IL GS SL s5 (p1 + 1) (dp + 1) (us ++ [u]) (its ++ itm lC ++ it5) gl → Kp (Mx x IL GS SL) s s5 → TG s5 (aN_ s1) (.inner (aN_ s1) kc (nI (tkp T eo n p1), nI (tkp T eo n p1), 0, tkx T p1, 0, none) .leaf .leaf) → TG s5 (aN_ s) (.inner a kc (nI (tkp T eo n q0), nI (tkp T eo n q0), 0, [], 0, none) lC .leaf) → aC_ s5 ≤ aC_ s1 + 2 → aZ_ s5 ≤ aZ_ s1 + 20 → aN_ s1 ≤ aN_ s5 → it5 = (if isIt kc (tkx T p1) = true then [aN_ s1] else []) → it5.length ≤ 1 → RL T eo n V lx x IL GS SL s CB ZB (aJ (e + 6) 273 84 [vr_ (some x), vr_ (some kc), vr_ (some cs), vr_ (some a), vr_ (some (aN_ s1))] [] s5) (pR_ (Kn T) V T.length lx ((16, sg, 0, 0) :: (28, 0, 0, 0) :: (6, 56, p1, (ts.reverse ++ os).length) :: (5, kk, q0, os.length) :: R, ts.reverse ++ os, p1 + 1, dp + 1, (tv, dp) :: sc, nd1)) (QK T eo n ids iE x TL IL GS SL kc s p dp us its gl R os sc nd) := fun s5 it5 hP5 hK5 hGc5 hGp5 cc5 cz5 cN5 hit5 hil5 => by
    have g16 : pS_ (Kn T) V T.length lx 16 sg 0 0 ((28, 0, 0, 0) :: (6, 56, p1, (ts.reverse ++ os).length) :: (5, kk, q0, os.length) :: R, ts.reverse ++ os, p1 + 1, dp + 1, (tv, dp) :: sc, nd1) = (if Kn T (p1 + 1) = sg then ok_ ((28, 0, 0, 0) :: (6, 56, p1, (ts.reverse ++ os).length) :: (5, kk, q0, os.length) :: R, ts.reverse ++ os, p1 + 1 + 1, dp + 1, (tv, dp) :: sc, nd1) else fl_ (p1 + 1)) := by
      show (if sg = 0 then none else _) = _
      rw [if_neg hk8]
      rfl
    rw [cj_X13_constants_84]
    refine RL_must (e + 1) hP5 (by omega) (c := cs) (kk := sg) hk5 hk6 hk7 hK5 ⟨by omega, by omega⟩ (fun h => pR_er (pb_I (by simp only [List.length_cons]; omega) (by simp only [List.length_cons]; omega) (by omega) (by omega) (by omega) (by rw [← hk4]; split <;> omega) (by omega) (by omega)) (g16.trans (by rw [if_neg h]; rfl))) (fun hs i6 ln6 _ => ?_)
    have hlt1 : p1 + 1 < T.length := Kn_lt (by omega)
    have b1 : pR_ (Kn T) V T.length lx ((16, sg, 0, 0) :: (28, 0, 0, 0) :: (6, 56, p1, (ts.reverse ++ os).length) :: (5, kk, q0, os.length) :: R, ts.reverse ++ os, p1 + 1, dp + 1, (tv, dp) :: sc, nd1) = pR_ (Kn T) V T.length lx ([(28, 0, 0, 0)] ++ ((6, 56, p1, (ts.reverse ++ os).length) :: (5, kk, q0, os.length) :: R), ts.reverse ++ os, p1 + 1 + 1, dp + 1, (tv, dp) :: sc, nd1) := pR_ok (pb_I (by simp only [List.length_cons]; omega) (by simp only [List.length_cons]; omega) (by omega) (by omega) (by omega) (by rw [← hk4]; split <;> omega) (by omega) (by omega)) (g16.trans (by rw [if_pos hs]; rfl))
    have hP6 := PSt_at hP5 (p' := p1 + 1 + 1) (by omega)
    rw [b1, f_dp (f := 280) hP6.1.1.2.2 rfl, Option.bind_some]
    refine RL_bind (h1 _ (p1 + 1 + 1) (dp + 1) (us ++ [u]) _ gl ((6, 56, p1, (ts.reverse ++ os).length) :: (5, kk, q0, os.length) :: R) (ts.reverse ++ os) ((tv, dp) :: sc) nd1 CB ZB hP6 hSu ⟨by simp; omega, by simp; omega, by omega, by omega, by simp; omega, by omega⟩ (by omega) ⟨by simp only [aC_awI]; omega, by simp only [aZ_awI]; omega⟩ trivial (by simp; omega)) (Kp_tr hK5 (x_Kp 94 _)) fun σ v s7 q => ?_
    obtain ⟨t2, j2, k2, w2, l2, p2, dp2, nd2, rfl, rfl, ⟨f0, f1, f2, f3, f4, f5, f6, f7⟩, hG7, hP7, hK7, ⟨cc7, cz7⟩, ⟨n6, n7, n8, n9⟩, ⟨d5, d6, d7⟩, hil7⟩ := q
    obtain rfl := d7 rfl
    clear f7
    simp only [aC_awI, aZ_awI, aN_awI] at cc7 cz7 hG7
    have hk57 : Kp (Mx x IL GS SL) s5 s7 := Kp_tr (x_Kp 94 _) hK7
    have hGc7 := TG_Mx hGc5 hP5 hw1 hk57
    have hGp7 := TG_Mx hGp5 hP5 hw hk57
    have hltc := TG_lt hGc5
    obtain ⟨s8, e8, hG8, hP8, hK8, cc8, cz8, cN8⟩ := C_with (e + 4) hP7 hw1 hGc7 (TG_lo hG7 cN5) (dj_lt (m := aN_ s5) hltc hG7.2.2)
    rw [e8]
    have hGp8 : TG s8 (aN_ s) _ := TG_Kp hGp7 hK8 (TG_cl hGc7) (fun b hb q => by have := hltP b hb; have := hGc7.2.2 b q; omega)
    obtain ⟨s9, e9, hG9, hP9, hK9, cc9, cz9, cN9⟩ := C_with (e + 4) hP8 hw hGp8 (TG_lo hG8 hN1) (dj_lt (m := aN_ s1) hltP hG8.2.2)
    rw [e9]
    have hK09 : Kp (Mx x IL GS SL) s s9 := Kp_in (Kp_in (Kp_tr hK5 hk57) hK8 (fun b hb => Or.inr (by have := hGc7.2.2 b hb; omega))) hK9 (fun b hb => Or.inr (hGp8.2.2 b hb))
    have g6 : pR_ (Kn T) V T.length lx ((6, 56, p1, (ts.reverse ++ os).length) :: (5, kk, q0, os.length) :: R, t2 :: (ts.reverse ++ os), p2, dp + 1, (tv, dp) :: sc, nd2) = pR_ (Kn T) V T.length lx ((5, kk, q0, os.length) :: R, (ts ++ [st_ 56 p1 0 nd2 [t2]]).reverse ++ os, p2, dp + 1, (tv, dp) :: sc, nd2 + 1) := by
      refine pR_ok (pb_I (by simp only [List.length_cons]; omega) (by simp only [List.length_cons]; omega) (by omega) (by omega) (by omega) (by omega) (by omega) (by simp; omega)) ((sf_app (kk := 56) (a := 0) (f := ok_) [t2]).trans ?_)
      rw [List.reverse_append]
      rfl
    rw [g6]
    have hEc : er (.inner (aN_ s1) kc (nI (tkp T eo n p1), nI (tkp T eo n p1), 0, tkx T p1, 0, none) (snC .leaf (.inner j2 k2 w2 l2 .leaf)) .leaf) = kdC kc (cf T eo n (st_ 56 p1 0 nd2 [t2])) := by
      rw [cf_56]
      exact er_y hx.1 hx.2.1 (er_one f0)
    have hE2 := er_appK hE hEc
    have hitc : itm (.inner (aN_ s1) kc (nI (tkp T eo n p1), nI (tkp T eo n p1), 0, tkx T p1, 0, none) (snC .leaf (.inner j2 k2 w2 l2 .leaf)) .leaf) = it5 ++ itm (.inner j2 k2 w2 l2 .leaf) := by
      rw [itm_1, hit5]
      unfold arL
      rw [if_neg hx.2.1.1, if_neg hx.2.2.1]
      rfl
    have hits : itm (snC lC (.inner (aN_ s1) kc (nI (tkp T eo n p1), nI (tkp T eo n p1), 0, tkx T p1, 0, none) (snC .leaf (.inner j2 k2 w2 l2 .leaf)) .leaf)) = itm lC ++ (it5 ++ itm (.inner j2 k2 w2 l2 .leaf)) := by rw [itm_sn, hitc]
    simp only [List.length_append, List.length_reverse] at n7
    have hfi2 : ∀ w ∈ ts ++ [st_ 56 p1 0 nd2 [t2]], p ≤ fi_ w := fun w hw => by rcases List.mem_append.mp hw with q | q; exact hfi w q; simp at q; subst q; exact fm_ge (by omega) (fun z hz => by simp at hz; subst hz; omega)
    rw [C_skip (e + 1) hP9 n9 (c := 1083) (kk := 15) rfl (by omega) (by decide +kernel)]
    by_cases c15 : Kn T p2 = 15
    · rw [if_pos c15, if_neg (by decide)]
      have hlt2 : p2 < T.length := Kn_lt (by omega)
      have b2 : pR_ (Kn T) V T.length lx ((5, kk, q0, os.length) :: R, (ts ++ [st_ 56 p1 0 nd2 [t2]]).reverse ++ os, p2, dp + 1, (tv, dp) :: sc, nd2 + 1) = pR_ (Kn T) V T.length lx ((4, kk, 0, 0) :: (5, kk, q0, os.length) :: R, (ts ++ [st_ 56 p1 0 nd2 [t2]]).reverse ++ os, p2 + 1, dp + 1, (tv, dp) :: sc, nd2 + 1) := pR_ok (pb_I (by first | omega | (simp only [List.length_cons]; omega)) (by first | omega | (simp only [List.length_cons]; omega)) (by omega) (by omega) (by omega) (by omega) (by omega) (by omega)) (by
        show (if Kn T p2 = 15 then _ else _) = _
        rw [if_pos c15]
        rfl)
      rw [b2]
      exact ih s p dp us u its gl R os sc nd CB ZB (ts ++ [st_ 56 p1 0 nd2 [t2]]) a _ (p2 + 1) (nd2 + 1) _ tv (by omega) h60 (TG_Mx hG9 hP9 hw (x_Kp (x := x) (IL := IL) (GS := GS) (SL := SL) 94 (nI (p2 + 1)))) hE2 hq hfi2 (by rw [hits]; simp only [List.append_assoc] at hP9 ⊢; exact PSt_at hP9 (by omega)) (Kp_tr hK09 (x_Kp 94 _)) ⟨by simp only [aC_awI]; omega, by simp only [aZ_awI]; omega⟩ ⟨by omega, by simp; omega, by omega, by omega, n5⟩ ⟨by rw [rts_sn, List.length_append, hr1, List.length_append]; rfl, by simp; omega⟩ (by rw [hits]; simp; omega) hVL hS hM hd hC hw hI
    · rw [if_neg c15, if_pos rfl]
      refine RL_closes hv (e + 0) (f := fun σ => sf_ kk q0 os.length 0 ok_ σ) (σ := fun p' => (R, st_ kk q0 0 (nd2 + 1) (ts ++ [st_ 56 p1 0 nd2 [t2]]) :: os, p', dp, sc, nd2 + 1 + 1)) hP9 ⟨hVL, hS⟩ n9 hK09 ⟨by omega, by omega⟩ (pb_I (by first | omega | (simp only [List.length_cons]; omega)) (by first | omega | (simp only [List.length_cons]; omega)) (by omega) (by omega) (by omega) (by omega) (by omega) (by omega)) ?_ (fun p' => ?_) fun p3 s10 hP10 hK10 cc10 cz10 cN10 hp10 => ?_
      · show (if Kn T p2 = 15 then _ else if kk < 100 ∧ kk ≠ 20 then _ else _) = _
        rw [if_neg c15, if_pos ⟨hk1, hk2⟩]
      · refine (sf_app (kk := kk) (a := 0) (f := ok_) (ts ++ [st_ 56 p1 0 nd2 [t2]]).reverse).trans ?_
        rw [List.reverse_reverse]
        rfl
      · rw [C_less hP10]
        have hG10 := TG_Mx hG9 hP9 hw hK10
        have hP11 := PSt_dp hP10 (d' := dp) (by omega)
        have hit : ∀ X, itm (.inner a kc (nI (tkp T eo n q0), nI (tkp T eo n q0), 0, [], 0, none) X .leaf) = itm X := fun X => itm_c hx.2.2.2 ⟨hx.2.1.1, hx.2.2.1⟩
        refine Or.inr ⟨_, _, _, rfl, rfl, _, a, _, _, _, _, _, rfl, rfl, ⟨⟨?_, fm_ge hq hfi2, KC_c hkc⟩, TG_Mx hG10 hP10 hw (x_Kp (x := x) (IL := IL) (GS := GS) (SL := SL) 95 (nI dp)), by rw [hit, hits]; simp only [List.append_assoc] at hP11 ⊢; exact hP11, Kp_tr (Kp_tr hK09 hK10) (x_Kp 95 _), ⟨by simp only [aC_awI]; omega, by simp only [aZ_awI]; omega⟩, ⟨by omega, by omega, by omega, by omega⟩, ⟨by omega, by omega, fun _ => rfl⟩, by rw [hit, hits]; simp; omega⟩, by rw [rts_sn, List.length_append, hr1, show (rts (Std.DTreeMap.Internal.Impl.inner (aN_ s1) kc (nI (tkp T eo n p1), nI (tkp T eo n p1), 0, tkx T p1, 0, none) (snC .leaf (.inner j2 k2 w2 l2 .leaf)) .leaf)).length = 1 from rfl]; omega, KC_r hkc⟩
        rw [KC_cf hkc]
        exact er_yr hx.1 hx.2.1 hE2
  by_cases c87 : kc = 1087
  · rw [if_pos (by rw [c87])]
    have ei : ∀ {Kc : Int32 → as_ → cx_O as_}, _ := fun {Kc} => (C_item (e + 4) (a := aN_ s1) hP4 (by simp; omega) (Kc := Kc)).1
    have hP5 := (C_item (e + 4) (a := aN_ s1) hP4 (by simp; omega) (Kc := fun _ s => some (.inl none, s))).2
    rw [ei]
    have hIk := it_Kp (x := x) (IL := IL) (GS := GS) (SL := SL) (s := awR s3 (aN_ s1) 103 (aR_ s3 tk 88)) (aN_ s1)
    exact way _ [aN_ s1] hP5 (Kp_tr hkq4 hIk) (TG_Mx hG4 hP4 hw1 hIk) (TG_Mx hGp4 hP4 hw hIk) (by show aC_ s3 + 1 ≤ _; omega) (by show aZ_ s3 + 10 ≤ _; omega) (by show aN_ s1 ≤ aN_ s3; omega) (by rw [if_pos (by unfold isIt; rw [c87, tkx_ne hP1.2.1 hn]; rfl)]) (by simp)
  · rw [if_neg (fun q => c87 (Option.some.inj q))]
    exact way _ [] (by rw [List.append_nil]; exact hP4) hkq4 hG4 hGp4 (by show aC_ s3 ≤ _; omega) (by show aZ_ s3 ≤ _; omega) (by show aN_ s1 ≤ aN_ s3; omega) (by rcases hk3 with rfl | rfl | rfl; rfl; rfl; exact absurd rfl c87) (by simp)
/-- GLOBAL, MANIFEST, STATIC -/
theorem s_con (hv : HV T eo V L lx) (d : Nat) {kc kk cs sg : Nat} (hkc : KCs kc kk cs sg) (h1 : SX T eo n V L lx ids iE x TL IL GS SL (XB T eo n false) 0 d 280 [vr_ (some x)] (fun _ => [(28, 0, 0, 0)]) (fun _ => True) 20 19 true) (s p dp us its gl R os sc nd CB ZB) (hP : PSt T eo n ids iE x TL IL GS SL s p dp us its gl) (hS : SV L us.reverse sc) (hM : Mn T 3 R.length os.length p dp sc.length nd) (hd : 20 * (61 - dp) + 20 ≤ d + 1) (hC : Cn T s p CB ZB) (hI : its.length ≤ p) (hlt : p < T.length) (pe : pe_) (hpe : pe = if Kn T (p + 1) = 10 then (if dp = 60 then some (.error (p + 1)) else pR_ (Kn T) V T.length lx ((4, kk, 0, 0) :: (5, kk, p, os.length) :: R, os, p + 1 + 1, dp + 1, (V (p + 1), dp) :: sc, nd)) else some (.error (p + 1))) : RL T eo n V lx x IL GS SL s CB ZB (aE (d + 1) 273 [vr_ (some x), vr_ (some kc), vr_ (some cs)] s) pe (QK T eo n ids iE x TL IL GS SL kc s p dp us its gl R os sc nd) := by
  obtain ⟨m1, m2, m3, m4, m5, m6⟩ := id hM
  have hTl : T.length < 2600 := hv.1
  obtain ⟨e, rfl⟩ : ∃ e, d = e + 5 := ⟨d - 5, by omega⟩
  have hw := PSt_Lw hP
  have hCa := hC.1
  have hCb := hC.2
  rw [ce_X13_constants]
  obtain ⟨s3, e3, hP3, hG3, hK3, cc3, cz3, cN3⟩ := C_mk (e + 3) hP m3 kc
  rw [e3, nw_1, C_is (e + 2) hP3 (by omega) (c := 1051) (kk := 10) rfl (by omega) (by decide +kernel)]
  have hul : us.length = sc.length := by have := SV_len hS; simpa using this
  by_cases c10 : Kn T (p + 1) = 10
  · rw [if_neg (by simp [c10, zb_])]
    rw [if_pos c10] at hpe
    refine RL_enter (e + 1) hP3 (by omega) hK3 ⟨by omega, by omega⟩ (fun h60 => by rw [hpe, if_pos h60]) (fun h60 => ?_)
    rw [if_neg h60] at hpe
    subst hpe
    have hlt1 : p + 1 < T.length := Kn_lt (by omega)
    have hP4 := PSt_dp hP3 (d' := dp + 1) (by omega)
    have hG4 := TG_Mx hG3 hP3 hw (x_Kp (x := x) (IL := IL) (GS := GS) (SL := SL) 95 (nI (dp + 1)))
    have y1 : aC_ (awI s3 x 95 (nI (dp + 1))) = aC_ s3 := rfl
    have y2 : aZ_ (awI s3 x 95 (nI (dp + 1))) = aZ_ s3 := rfl
    refine RL_opens (e + 0) hP4 (by omega) (by omega) (Kp_tr hK3 (x_Kp 95 _)) ⟨by omega, by omega⟩ (by omega) (fun h => absurd c10 h) (fun _ i ln s5 ct hP5 hK5 cc5 cz5 cN5 => ?_)
    exact s_con34 hv e p hkc h1 (T.length - (p + 1 + 1) + 1) s p dp us (tkg T (p + 1)) its gl R os sc nd CB ZB [] (aN_ s) .leaf (p + 1 + 1) nd s5 (V (p + 1)) (Nat.lt_succ_self _) (by omega) (TG_Mx hG4 hP4 hw hK5) rfl (Nat.le_refl _) (fun _ q => by simp at q) (by rw [show itm .leaf = [] from rfl, List.append_nil]; exact hP5) (Kp_tr (Kp_tr hK3 (x_Kp 95 _)) hK5) ⟨by omega, by omega⟩ ⟨by omega, by simp; omega, by omega, by omega, by omega⟩ ⟨rfl, by show 4 * 0 + p + 2 ≤ p + 1 + 1; omega⟩ (by rw [show itm .leaf = [] from rfl]; simp; omega) (hv.2.2.2.1 (p + 1) (Or.inl c10)) hS hM (by omega) hC hw hI
  · rw [if_pos (by simp [c10, zb_])]
    rw [if_neg c10] at hpe
    exact RL_opens (e + 0) hP3 (by omega) (by omega) hK3 ⟨by omega, by omega⟩ (by omega) (fun h => hpe) (fun h => absurd h c10)
end pcb
