/-! ===== the two parsers side by side: labels and a command in a section ===== -/
section pc7
variable {T : List tk_} {eo : Option Nat} {n : Nat} {V : Nat → Int32} {L : List (List Int32)} {lx : Bool} {ids : List Nat} {iE x TL IL GS SL : Nat}
variable {s s' s0 : as_} {i kc lo p dp CB ZB nd : Nat} {v : cp_w} {l : cr_} {us : List (List Int32)} {its : List Nat} {gl : List ((List Int32 ⊕ Int32) × Option Nat)} {R : List gl_} {os : List tr_} {sc : List (Int32 × Nat)} {pe : pe_} {Q : ps_ → Option Nat → as_ → Prop}
theorem bVR (o : cx_O as_) (K : Option Nat → as_ → cx_O as_) (Kc : as_ → cx_O as_) : cx_bV cx_th (cx_bR cx_th o K) Kc = cx_bR cx_th o (fun v s => cx_bV cx_th (K v s) Kc) := by
  rcases o with _ | ⟨(_ | r) | a, s⟩
  · rfl
  · rfl
  · rcases r with _ | _ | _ | _ <;> rfl
  · rfl
theorem bVI (o : cx_O as_) (K : Int32 → as_ → cx_O as_) (Kc : as_ → cx_O as_) : cx_bV cx_th (cx_bI cx_th o K) Kc = cx_bI cx_th o (fun v s => cx_bV cx_th (K v s) Kc) := by
  rcases o with _ | ⟨(_ | r) | a, s⟩
  · rfl
  · rfl
  · rcases r with _ | _ | _ | _ <;> rfl
  · rfl
theorem bVV (o : cx_O as_) (K Kc : as_ → cx_O as_) : cx_bV cx_th (cx_bV cx_th o K) Kc = cx_bV cx_th o (fun s => cx_bV cx_th (K s) Kc) := by
  rcases o with _ | ⟨(_ | r) | a, s⟩ <;> rfl
theorem bVO {α : Type} (o : Option α) (K : α → cx_O as_) (Kc : as_ → cx_O as_) : cx_bV cx_th (o.bind K) Kc = o.bind (fun v => cx_bV cx_th (K v) Kc) := by
  cases o <;> rfl
theorem bVif {c : Prop} [Decidable c] (A B : cx_O as_) (Kc : as_ → cx_O as_) : cx_bV cx_th (if c then A else B) Kc = if c then cx_bV cx_th A Kc else cx_bV cx_th B Kc := by
  split <;> rfl
/-- the token behind the next one -/
theorem C_get1 (d : Nat) (hP : PSt T eo n ids iE x TL IL GS SL s p dp us its gl) (hp : p + 1 ≤ T.length) : ∃ i ln, CT s i (tkk T eo (p + 1)) (nI (tkp T eo n (p + 1))) ln (tkv T (p + 1)) (tkx T (p + 1)) (tkg T (p + 1)) ∧ ∀ Kc : Option Nat → as_ → cx_O as_, ((a_gr 93 (some x) s).bind fun v5 => (a_gi 94 (some x) s).bind fun v6 => (a_dp 79 v5 s).bind fun m7 => cx_bR cx_th (aE (d + 1) m7 [vr_ v5, vi_ (v6 + 1)] s) fun v9 s8 => (cx_cst a_io 14 v9 s8).bind fun _ => Kc v9 s8) = Kc (some i) s := by
  obtain ⟨i, ln, e, c⟩ := TA_tok hP.2.1 hp
  obtain ⟨⟨t1, t2, t3⟩, t4, t5, _, t7⟩ := hP.2.1
  have k3 := hP.1.1.2.2
  have ecs : cx_cst a_io 14 (some i) s = some () := by
    unfold cx_cst a_io
    dsimp only
    rw [Option.bind_some, c.1.2.2]
    rfl
  refine ⟨i, ln, c, fun Kc => ?_⟩
  rw [f_gr (f := 93) k3 rfl, Option.bind_some, f_gi (f := 94) k3 rfl, Option.bind_some, hP.1.2.1.1, hP.1.2.2.1, nI_1, f_dp (f := 79) t3 rfl, Option.bind_some, l_get d TL e (by rw [t4]; have := t5.1; simp; omega), cR_k, ecs, Option.bind_some]
theorem kw_17 : (KW_.all fun w => decide (kw_ w ≠ 17)) = true := by decide +kernel
theorem co_ok (hT : TA s TL ids iE T eo n) : (tkk T eo p = 3 ∧ tkx T p = ak_S 1079) = (Kn T p = 17) := by
  have hk := is_ok (p := p) hT (c := 1079) (k := 17) (by decide +kernel)
  apply propext
  constructor
  · rintro ⟨h1, h2⟩
    rw [← hk]
    exact ⟨Or.inl h1, h2⟩
  · intro h
    have h2 := hk.mpr h
    refine ⟨?_, h2.2⟩
    unfold tkk Kn at *
    cases hy : T[p]? with
    | none => rw [hy] at h; exact absurd h (by decide)
    | some y =>
      rw [hy] at h
      dsimp only at h ⊢
      rcases cw_cs (tk_v hT hy) with ⟨e1, e2⟩ | ⟨e1, e2⟩ | ⟨e1, e2⟩ | ⟨e1, e2, e3, e4⟩ | ⟨e1, e2, e3, e4, e5⟩
      · omega
      · omega
      · omega
      · exact e3
      · have hs := List.all_eq_true.mp kw_17 _ e1
        simp only [decide_eq_true_eq] at hs
        omega
theorem cf_42 {p nd : Nat} {y : Int32} : cf T eo n (lf_ 42 p y nd) = .inner 0 1123 (yp_ T eo n p (tkx T p) none) .leaf .leaf := rfl
theorem cf_41 {tok nd : Nat} {ts : List tr_} : cf T eo n (st_ 41 tok 0 nd ts) = cf T eo n (lkT ts) := by
  show snC (cf T eo n (lkT ts)) .leaf = _
  exact snC_leaf _
theorem s_item (hv : HV T eo V L lx) (e : Nat) (h2 : SX T eo n V L lx ids iE x TL IL GS SL XC 1 (e + 5) 287 [vr_ (some x)] (fun _ => [(11, 0, 0, 0)]) (fun _ => True) 5 22 true) : ∀ (m f : Nat) s0 s p dp us its gl R os sc nd CB ZB (pre : List tr_) X a kcP W lC lo tok q0 (Kc : as_ → cx_O as_) Q, T.length - p < m → T.length - p ≤ f → PSt T eo n ids iE x TL IL GS SL s p dp us (its ++ itm X) gl → SV L us.reverse sc → Mn T 4 R.length (pre.length + os.length) p dp sc.length nd → 20 * (61 - dp) + 23 ≤ e + 6 → Cn T s p (CB - 3) (ZB - 40) → Lw x TL IL GS SL lo → TG s lo (.inner a kcP W (snC lC X) .leaf) → aN_ s0 ≤ lo → lo ≤ aN_ s → Kp (Mx x IL GS SL) s0 s → er X = cf T eo n (lkT pre) → q0 ≤ tok ∧ q0 ≤ p ∧ tok ≤ p → (∀ u ∈ pre, q0 ≤ fi_ u) → (its ++ itm X).length ≤ p →
    (∀ X' t p' nd' s', er X' = cf T eo n t → q0 ≤ fi_ t → TG s' lo (.inner a kcP W (snC lC X') .leaf) → PSt T eo n ids iE x TL IL GS SL s' p' dp us (its ++ itm X') gl → Kp (Mx x IL GS SL) s0 s' → (aC_ s' + 10 * p ≤ aC_ s + 10 * p' + 3 ∧ aZ_ s' + 100 * p ≤ aZ_ s + 100 * p' + 40) → (nd' + 6 * p ≤ nd + 6 * p' + 3 ∧ os.length + 1 ≤ nd' ∧ p ≤ p' ∧ p' ≤ T.length) → (itm X').length + p ≤ (itm X).length + p' → aN_ s ≤ aN_ s' → RL T eo n V lx x IL GS SL s0 CB ZB (Kc s') (pR_ (Kn T) V T.length lx (R, t :: os, p', dp, sc, nd')) Q) →
    RL T eo n V lx x IL GS SL s0 CB ZB (cx_bV cx_th (aJ (e + 6) 293 0 [vr_ (some x), vr_ (some a)] [] s) Kc) (pR_ (Kn T) V T.length lx (gpT [(11, 0, 0, 0), (6, 41, tok, os.length)] (lb_ (Kn T) V f (R, pre.reverse ++ os, p, dp, sc, nd)))) Q := by
  have hTl : T.length < 2600 := hv.1
  intro m
  induction m with
  | zero => intro f s0 s p dp us its gl R os sc nd CB ZB pre X a kcP W lC lo tok q0 Kc Q hm; exact absurd hm (Nat.not_lt_zero _)
  | succ m ih =>
  intro f s0 s p dp us its gl R os sc nd CB ZB pre X a kcP W lC lo tok q0 Kc Q hm hf hP hS hM hd hC hw hG hlo hll hk hE hq hfi hI hQ
  obtain ⟨m1, m2, m3, m4, m5, m6⟩ := id hM
  have hCa := hC.1
  have hCb := hC.2
  -- no label: the command
  have fin : ¬ (Kn T p = 1 ∧ Kn T (p + 1) = 17) → RL T eo n V lx x IL GS SL s0 CB ZB ((a_dp 287 (some x) s).bind fun m45 => cx_bR cx_th (aE (e + 5) m45 [vr_ (some x)] s) fun v47 s46 => (a_dp 306 (some a) s46).bind fun m48 => cx_bR cx_th (aE (e + 5) m48 [vr_ (some a), vr_ v47] s46) fun v50 s49 => cx_bV cx_th (some (.inl none, s49)) Kc) (pR_ (Kn T) V T.length lx (gpT [(11, 0, 0, 0), (6, 41, tok, os.length)] (lb_ (Kn T) V f (R, pre.reverse ++ os, p, dp, sc, nd)))) Q := fun hn => by
    have hlb : lb_ (Kn T) V f (R, pre.reverse ++ os, p, dp, sc, nd) = (R, pre.reverse ++ os, p, dp, sc, nd) := by
      cases f with
      | zero => rfl
      | succ f =>
        show (if Kn T p = 1 ∧ Kn T (p + 1) = 17 then _ else _) = _
        rw [if_neg hn]
    rw [hlb]
    refine RL_with (e + 4) h2 rfl hP hS (R := (6, 41, tok, os.length) :: R) ⟨by simp; omega, by simp; omega, m3, m4, m5, m6⟩ (by omega) ⟨by omega, by omega⟩ trivial hI hk hlo hw hG hll fun t2 j2 k2 w2 l2 p3 dp3 nd3 s6 ⟨f0, f1⟩ hG6 hP6 hK6 ⟨cc6, cz6⟩ ⟨n5, n6, n7, n8⟩ ⟨d5, d6, d7⟩ hil6 hN6 => ?_
    obtain rfl := d7 rfl
    have f1 : p ≤ fi_ t2 := f1.1
    simp only [List.length_append, List.length_reverse] at n6
    have g6 : pR_ (Kn T) V T.length lx ((6, 41, tok, os.length) :: R, t2 :: (pre.reverse ++ os), p3, dp3, sc, nd3) = pR_ (Kn T) V T.length lx (R, st_ 41 tok 0 nd3 (pre ++ [t2]) :: os, p3, dp3, sc, nd3 + 1) := by
      refine pR_ok (pb_I (by first | omega | (simp only [List.length_cons]; omega)) (by first | omega | (simp only [List.length_cons]; omega)) (by omega) (by omega) (by omega) (by omega) (by omega) (by omega)) ((sf_app (kk := 41) (a := 0) (f := ok_) (t2 :: pre.reverse)).trans ?_)
      rw [List.reverse_cons, List.reverse_reverse]
      rfl
    rw [g6, cV_k]
    have hits : itm (snC X (.inner j2 k2 w2 l2 .leaf)) = itm X ++ itm (.inner j2 k2 w2 l2 .leaf) := itm_sn _ _
    exact hQ (snC X (.inner j2 k2 w2 l2 .leaf)) _ p3 (nd3 + 1) s6 (by rw [cf_41]; exact er_app hE f0) (fm_ge hq.1 (fun u hu => by rcases List.mem_append.mp hu with q | q; exact hfi u q; simp at q; subst q; omega)) (by rw [← snC_as]; exact hG6) (by rw [hits, ← List.append_assoc]; exact hP6) hK6 ⟨by omega, by omega⟩ ⟨by omega, by omega, by omega, n8⟩ (by rw [hits]; simp; omega) hN6
  obtain ⟨tk, ln, ct, et⟩ := C_peek (e + 3) hP m3
  rw [cj_X13_item_0, et, f_gi (f := 84) (c := 14) (by rw [ct.1.2.2]) rfl, Option.bind_some, ct.2.1.1]
  simp only [nm_ok (p := p) hP.2.1]
  by_cases c1 : Kn T p = 1
  · rw [if_pos c1]
    have hlt : p < T.length := Kn_lt (by omega)
    obtain ⟨t1, ln1, ct1, et1⟩ := C_get1 (e + 4) hP (by omega)
    have k84 : ∀ {Kc : Int32 → cx_O as_}, ((a_gi 84 (some t1) s).bind Kc) = Kc (tkk T eo (p + 1)) := by rw [f_gi (f := 84) (c := 14) (by rw [ct1.1.2.2]) rfl, ct1.2.1.1]; intro Kc; rfl
    rw [et1, k84]
    have hco := co_ok (p := p + 1) hP.2.1
    by_cases c3 : tkk T eo (p + 1) = 3
    · rw [if_pos c3, et1, C_teq (e + 4) ct1 (c := 1079) rfl (by omega)]
      by_cases c17 : Kn T (p + 1) = 17
      · have hx17 := (hco.mpr c17).2
        rw [if_neg (by rw [hx17]; simp [a_b])]
        have hlt1 : p + 1 < T.length := Kn_lt (by omega)
        obtain ⟨tka, lna, cta, eta⟩ := C_take (e + 3) hP m3
        rw [eta]
        have hP1 := PSt_at hP (p' := p + 1) (by omega)
        obtain ⟨tkb, lnb, ctb, etb⟩ := C_take (e + 3) hP1 (by omega)
        rw [etb]
        have hP2 := PSt_at hP1 (p' := p + 1 + 1) (by omega)
        have ct2 := CT_Kp (CT_Kp cta (x_Kp (x := x) (IL := IL) (GS := GS) (SL := SL) 94 (nI (p + 1))) (Mx_cl hP)) (x_Kp (x := x) (IL := IL) (GS := GS) (SL := SL) 94 (nI (p + 1 + 1))) (Mx_cl hP1)
        obtain ⟨s3, e3, hP3, hG3, hK3, cc3, cz3, cN3⟩ := C_mk2 (e + 3) (kc := 1123) hP2 ct2
        rw [e3, nw_1, aN_awI, aN_awI]
        simp only [aC_awI, aZ_awI, aN_awI] at cc3 cz3 cN3 hG3
        have ct3 := CT_Kp ct2 hK3 (fun _ q => q.elim)
        have hNa := NF_isN hG3.1.1
        obtain ⟨e4, hG4⟩ := C_text ct3 hG3
        rw [e4]
        have hP4 : PSt T eo n ids iE x TL IL GS SL (awR s3 (aN_ s) 103 (aR_ s3 tka 88)) (p + 1 + 1) dp us (its ++ itm X) gl := PSt_ownR hP3 hw hll hNa
        have hk3 : Kp (Mx x IL GS SL) s s3 := Kp_tr (Kp_tr (x_Kp 94 _) (x_Kp 94 _)) (Kp_wk hK3 (fun _ _ q => q.elim))
        have hGp3 := TG_Mx hG hP hw hk3
        have hltP := TG_lt hG
        have hGp4 := TG_ownR (f := 103) (y := aR_ s3 tka 88) hGp3 (fun q => by have := hltP _ q; omega) hNa
        obtain ⟨s5, e5, hG5, hP5, hK5, cc5, cz5, cN5⟩ := C_with (e + 4) hP4 hw hGp4 (TG_lo hG4 hll) (dj_lt (m := aN_ s) hltP hG4.2.2)
        rw [e5]
        simp only [aC_awR, aZ_awR, aN_awR] at cc5 cz5 cN5
        have hk5 : Kp (Mx x IL GS SL) s0 s5 := Kp_in (Kp_R (Kp_tr hk hk3) 103 _ (Or.inr (by omega))) hK5 (fun b hb => Or.inr (by have := hGp4.2.2 b hb; omega))
        obtain ⟨f', rfl⟩ : ∃ f', f = f' + 1 := ⟨f - 1, by omega⟩
        have hlb : lb_ (Kn T) V (f' + 1) (R, pre.reverse ++ os, p, dp, sc, nd) = lb_ (Kn T) V f' (R, (pre ++ [lf_ 42 p (V p) nd]).reverse ++ os, p + 1 + 1, dp, sc, nd + 1) := by
          show (if Kn T p = 1 ∧ Kn T (p + 1) = 17 then _ else _) = _
          rw [if_pos ⟨c1, c17⟩, List.reverse_append]
          rfl
        rw [hlb]
        have hB : er (.inner (aN_ s) 1123 (nI (tkp T eo n p), nI (tkp T eo n p), 0, tkx T p, 0, none) .leaf .leaf) = cf T eo n (lf_ 42 p (V p) nd) := by
          rw [cf_42]
          exact er_yr (by decide) (by decide) rfl
        have hits : itm (snC X (.inner (aN_ s) 1123 (nI (tkp T eo n p), nI (tkp T eo n p), 0, tkx T p, 0, none) .leaf .leaf)) = itm X := by
          rw [itm_sn, show itm (.inner (aN_ s) 1123 (nI (tkp T eo n p), nI (tkp T eo n p), 0, tkx T p, 0, none) .leaf .leaf) = [] from rfl, List.append_nil]
        refine ih f' s0 s5 (p + 1 + 1) dp us its gl R os sc (nd + 1) CB ZB (pre ++ [lf_ 42 p (V p) nd]) (snC X (.inner (aN_ s) 1123 (nI (tkp T eo n p), nI (tkp T eo n p), 0, tkx T p, 0, none) .leaf .leaf)) a kcP W lC lo tok q0 Kc Q (by omega) (by omega) (by rw [hits]; exact hP5) hS ⟨by omega, by simp; omega, by omega, m4, m5, by omega⟩ hd ⟨by omega, by omega⟩ hw (by rw [← snC_as]; exact hG5) hlo (by omega) hk5 (er_app hE hB) ⟨hq.1, by omega, by omega⟩ (fun u hu => by rcases List.mem_append.mp hu with q | q; exact hfi u q; simp at q; subst q; exact hq.2.1) (by rw [hits]; omega) fun X' t p' nd' s' g1 g2 g3 g4 g5 ⟨g6, g7⟩ ⟨g8, g9, g10, g11⟩ g12 g13 => hQ X' t p' nd' s' g1 g2 g3 g4 g5 ⟨by omega, by omega⟩ ⟨by omega, g9, by omega, g11⟩ (by rw [hits] at g12; omega) (by omega)
      · rw [if_pos (by have : ¬ tkx T (p + 1) = ak_S 1079 := fun h => c17 (hco.mp ⟨c3, h⟩); simp [this, a_b])]
        have := fin (fun h => c17 h.2)
        simp only [bVO, bVR]
        exact this
    · rw [if_neg c3]
      have := fin (fun h => c3 (hco.mpr h.2).1)
      simp only [bVO, bVR]
      exact this
  · rw [if_neg c1]
    have := fin (fun h => c1 h.1)
    simp only [bVO, bVR]
    exact this
end pc7
