/-! ===== the two parsers side by side: a declaration ===== -/
section pcj
variable {T : List tk_} {eo : Option Nat} {n : Nat} {V : Nat → Int32} {L : List (List Int32)} {lx : Bool} {ids : List Nat} {iE x TL IL GS SL : Nat}
variable {s s' s0 : as_} {p dp CB ZB nd : Nat} {us : List (List Int32)} {its : List Nat} {gl gl2 : List ((List Int32 ⊕ Int32) × Option Nat)} {R : List gl_} {os : List tr_} {sc : List (Int32 × Nat)}
theorem put_len : ∀ (l : List ((List Int32 ⊕ Int32) × Option Nat)) (k : List Int32 ⊕ Int32) (v : Option Nat), (am_put l k v).length ≤ l.length + 1
  | [], _, _ => Nat.le_refl _
  | (k', v') :: r, k, v => by
    show (if k' = k then (k, v) :: r else (k', v') :: am_put r k v).length ≤ _
    split
    · simp
    · have := put_len r k v
      simp only [List.length_cons]
      omega
theorem PSt_gl (h : PSt T eo n ids iE x TL IL GS SL s p dp us its gl) (c z : Nat) : PSt T eo n ids iE x TL IL GS SL (awC (awM s GS gl2) c z) p dp us its gl2 ∧ Kp (Mx x IL GS SL) s (awC (awM s GS gl2) c z) := by
  obtain ⟨h1, h2, h3, ⟨⟨i1, i2, i3⟩, i4, i5⟩, ⟨⟨g1, g2, g3⟩, g4⟩, h6, h7, h8⟩ := h
  have hk : Kp (fun a => a = GS) s (awC (awM s GS gl2) c z) := Kp_C (M := fun a => a = GS) (Kp_M (M := fun a => a = GS) Kp_rf _ (Or.inl rfl)) c z
  have k3 := h1.1.2.2
  have qI : ¬ IL = GS := fun q => by rw [q, g3] at i3; omega
  refine ⟨⟨CP_Kp h1 hk (fun q => by rw [q, g3] at k3; omega), TA_Kp h2 hk (fun a q => by subst q; rw [g3]; decide) (fun q => by have := h2.1.2.2; rw [q, g3] at this; omega), SC_Kp h3 hk (fun a q => by subst q; rw [g3]; decide) (fun q => by have := h3.1.2.2; rw [q, g3] at this; omega), ⟨⟨i1, i2, i3⟩, (hk.2 IL i2 qI).2.2.2.2.1.trans i4, i5⟩, ⟨⟨g1, g2, g3⟩, ?_⟩, h6, h7, h8⟩, Kp_wk hk (fun a _ q => Or.inr (Or.inr (Or.inr q)))⟩
  show aM_ (awM s GS gl2) GS = gl2
  rw [aM_awM, if_pos rfl]
theorem ad_gl (d : Nat) (hP : PSt T eo n ids iE x TL IL GS SL s p dp us its gl) {a : Nat} {u : List Int32} (h1 : (aK_ s a).1 = 26) (h2 : aS_ s a = u) : aE (d + 1) 131 [vr_ (some GS), vr_ (some a)] s = some (.inl (some (vi_ (a_b (am_get gl (.inl u)).isNone))), awC (awM s GS (am_put gl (.inl u) (some 1))) (4 + 2 * gl.length) (64 + 32 * gl.length)) := by
  refine aE_pm d _ _ s ?_
  have hkey : a_key s (some a) = some (.inl u) := by
    unfold a_key
    dsimp only
    rw [if_pos h1, h2]
  have hg : aM_ s GS = gl := hP.2.2.2.2.1.2
  show (match a_key s (some a) with
    | some k => a_i (a_b (am_get (aM_ s GS) k).isNone) (awC (awM s GS (am_put (aM_ s GS) k (some 1))) (4 + 2 * (aM_ s GS).length) (64 + 32 * (aM_ s GS).length))
    | none => some none) = _
  rw [hkey, hg]
/-- names of globals are told -/
theorem g24 (e i : Nat) : ∀ (l2 : cr_) (s : as_) (gl : List ((List Int32 ⊕ Int32) × Option Nat)) (A : Nat), PSt T eo n ids iE x TL IL GS SL s p dp us its gl → NR_ s l2 → (∀ a ∈ idl_ l2, ¬ Mx x IL GS SL a) → gl.length ≤ A → ∃ s', aJ (e + 7) 270 24 [vr_ (some x), vi_ 1, vr_ (some i), vr_ (rI_ l2)] [] s = some (.inl (some (vr_ (some i))), s') ∧ PSt T eo n ids iE x TL IL GS SL s' p dp us its (gad gl l2) ∧ Kp (Mx x IL GS SL) s s' ∧ aC_ s' ≤ aC_ s + (4 * (rts l2).length + 2 * (A * (rts l2).length) + (rts l2).length * (rts l2).length) ∧ aZ_ s' ≤ aZ_ s + (64 * (rts l2).length + 32 * (A * (rts l2).length) + 16 * ((rts l2).length * (rts l2).length)) ∧ (gad gl l2).length ≤ gl.length + (rts l2).length
  | .leaf, s, gl, A, hP, _, _, _ => by
    rw [cj_X13_declaration_24, if_neg (by decide), if_pos (show rI_ .leaf = none from rfl)]
    exact ⟨s, rfl, hP, Kp_rf, Nat.le_add_right _ _, Nat.le_add_right _ _, Nat.le_refl _⟩
  | .inner j kc v l r, s, gl, A, hP, hN, hM, hA => by
    obtain ⟨h1, ⟨h2, h3, h4⟩, h5, h6⟩ := hN
    have hNi := NF_isN h1
    obtain ⟨a, ea, hKa, _, hta⟩ := h1.2.2.2.1
    have hG3 : (aK_ s GS).1 = 41 := hP.2.2.2.2.1.1.2.2
    obtain ⟨hP2, hK2⟩ := PSt_gl (gl2 := am_put gl (.inl v.2.2.2.1) (some 1)) hP (4 + 2 * gl.length) (64 + 32 * gl.length)
    have hr := NR_Kp hK2 (Mx_cl hP) h6 (fun b hb => hM b (by simp [idl_, hb]))
    have hl := put_len gl (.inl v.2.2.2.1) (some 1)
    obtain ⟨s', e1, hP', hK', c', z', l'⟩ := g24 e i r _ _ (A + 1) hP2 hr (fun b hb => hM b (by simp [idl_, hb])) (by omega)
    have e7 : aR_ (awC (awM s GS (am_put gl (.inl v.2.2.2.1) (some 1))) (4 + 2 * gl.length) (64 + 32 * gl.length)) j 107 = rI_ r := h4
    have n7 : isN (awC (awM s GS (am_put gl (.inl v.2.2.2.1) (some 1))) (4 + 2 * gl.length) (64 + 32 * gl.length)) j := hNi
    have d7 : a_gr 107 (some j) (awC (awM s GS (am_put gl (.inl v.2.2.2.1) (some 1))) (4 + 2 * gl.length) (64 + 32 * gl.length)) = some (rI_ r) := by rw [n_gr (f := 107) n7 (by decide), e7]
    rw [cj_X13_declaration_24, if_neg (by decide), if_neg (by show ¬ some j = none; exact fun q => nomatch q), f_gr (f := 97) hP.1.1.2.2 rfl, Option.bind_some, hP.1.2.1.2.2.1]
    show ∃ s', ((a_gr 103 (some j) s).bind fun v2 => _) = _ ∧ _
    rw [n_gr (f := 103) hNi (by decide), Option.bind_some, ea, f_dp (f := 131) hG3 rfl, Option.bind_some, ad_gl (e + 5) hP hKa hta, cI_k]
    refine ⟨s', ?_, hP', Kp_tr hK2 hK', ?_, ?_, ?_⟩
    · show ((a_gr 107 (some j) (awC (awM s GS (am_put gl (.inl v.2.2.2.1) (some 1))) (4 + 2 * gl.length) (64 + 32 * gl.length))).bind fun v6 => _) = _
      rw [d7, Option.bind_some]
      exact e1
    · have : aC_ (awC (awM s GS (am_put gl (.inl v.2.2.2.1) (some 1))) (4 + 2 * gl.length) (64 + 32 * gl.length)) = aC_ s + (4 + 2 * gl.length) := rfl
      show _ ≤ aC_ s + (4 * ((rts r).length + 1) + 2 * (A * ((rts r).length + 1)) + ((rts r).length + 1) * ((rts r).length + 1))
      simp only [Nat.mul_add, Nat.add_mul, Nat.mul_one, Nat.one_mul] at c' ⊢
      omega
    · have : aZ_ (awC (awM s GS (am_put gl (.inl v.2.2.2.1) (some 1))) (4 + 2 * gl.length) (64 + 32 * gl.length)) = aZ_ s + (64 + 32 * gl.length) := rfl
      show _ ≤ aZ_ s + (64 * ((rts r).length + 1) + 32 * (A * ((rts r).length + 1)) + 16 * (((rts r).length + 1) * ((rts r).length + 1)))
      simp only [Nat.mul_add, Nat.add_mul, Nat.mul_one, Nat.one_mul] at z' ⊢
      omega
    · show (gad (am_put gl (.inl v.2.2.2.1) (some 1)) r).length ≤ gl.length + ((rts r).length + 1)
      omega
theorem gad_er : ∀ (l : cr_) (gl : List ((List Int32 ⊕ Int32) × Option Nat)), gad gl (er l) = gad gl l
  | .leaf, _ => rfl
  | .inner i k v l r, gl => gad_er r _
theorem ovC_er {b : Bool} {i kc : Nat} {w : cp_w} {l : cr_} (hk : kc = 1085 ∨ kc = 1086 ∨ kc = 1087) : ovC b gl (er (.inner i kc w l .leaf)) = er (.inner i kc w l .leaf) := by rcases hk with rfl | rfl | rfl <;> rfl
/-- a section of constants, within a block or outside -/
theorem QK_QD {b : Bool} {kc m : Nat} {s1 s2 : as_} {σ : ps_} {v : Option Nat} {gl' : List ((List Int32 ⊕ Int32) × Option Nat)} (hw : Lw x TL IL GS SL (aN_ s)) (hkc : kc = 1085 ∨ kc = 1086 ∨ kc = 1087) {t : tr_} {i : Nat} {w : cp_w} {l : cr_} {p' dp' nd' : Nat} (hv : v = some i) (hσ : σ = (R, t :: os, p', dp', sc, nd')) (h : XA T eo n ids iE x TL IL GS SL XC 0 true s p dp us its gl os nd t i kc w l p' dp' nd' s1) (h4 : 4 * (rts l).length + p + 1 ≤ p' ∧ 50 ≤ kd_ t ∧ kd_ t ≤ 52) (hP : PSt T eo n ids iE x TL IL GS SL s2 p' dp us (its ++ itm (.inner i kc w l .leaf)) gl') (hK : Kp (Mx x IL GS SL) s1 s2) (hm : m ≤ (rts l).length) (hC : aC_ s2 ≤ aC_ s1 + (4 * m + 2 * (gl.length * m) + m * m) ∧ aZ_ s2 ≤ aZ_ s1 + (64 * m + 32 * (gl.length * m) + 16 * (m * m))) (hl : gl'.length ≤ gl.length + m) (hg : gl' = if b = true then glA gl (er (.inner i kc w l .leaf)) else gl) (hb : b = false → m = 0) : QD T eo n ids iE x TL IL GS SL b s p dp us its gl R os sc nd σ v s2 := by
  obtain ⟨⟨a1, a2⟩, hG, hP1, hK1, ⟨c1, c2⟩, ⟨n1, n2, n3, n4⟩, ⟨d1, d2, d3⟩, hil⟩ := h
  obtain rfl := d3 rfl
  have c1' := hC.1
  have c2' := hC.2
  exact ⟨t, i, kc, w, l, p', nd', m, gl', hv, hσ, ⟨by rw [← a1, ovC_er hkc], a2.1, h4.2.1, Nat.le_succ_of_le h4.2.2⟩, TG_Mx hG hP1 hw hK, hP, Kp_tr hK1 hK, ⟨by omega, by omega⟩, ⟨by omega, by omega, by omega, by omega⟩, hil, by rw [← a1]; exact hg, by omega, hl, fun q => ⟨hb q, a1⟩⟩
set_option maxHeartbeats 4000000 in
theorem s_dec (hv : HV T eo V L lx) (b : Bool) (y : Nat) (hy : y = if b = true then 1 else 0) (e : Nat) (h1 : SX T eo n V L lx ids iE x TL IL GS SL (XB T eo n false) 0 (e + 5) 280 [vr_ (some x)] (fun _ => [(28, 0, 0, 0)]) (fun _ => True) 20 19 true) (h2 : SX T eo n V L lx ids iE x TL IL GS SL XC 1 (e + 5) 287 [vr_ (some x)] (fun _ => [(11, 0, 0, 0)]) (fun _ => True) 5 22 true) (s p dp us its gl R os sc nd CB ZB) (hP : PSt T eo n ids iE x TL IL GS SL s p dp us its gl) (hS : SV L us.reverse sc) (hM : Mn T 3 R.length os.length p dp sc.length nd) (hd : 20 * (61 - dp) + 24 ≤ e + 7) (hC : Cn T s p CB ZB) (hI : its.length ≤ p) : RL T eo n V lx x IL GS SL s CB ZB (aE (e + 7) 270 [vr_ (some x), vi_ (a_b b)] s) (pR_ (Kn T) V T.length lx ((3, y, 0, 0) :: R, os, p, dp, sc, nd)) (QD T eo n ids iE x TL IL GS SL b s p dp us its gl R os sc nd) := by
  obtain ⟨m1, m2, m3, m4, m5, m6⟩ := id hM
  have hTl : T.length < 2600 := hv.1
  have hw := PSt_Lw hP
  have hCa := hC.1
  have hCb := hC.2
  have hy2 : y < 2 := by rw [hy]; split <;> omega
  rw [ce_X13_declaration, C_is (e + 3) hP m3 (c := 1072) (kk := 40) rfl (by omega) (by decide +kernel)]
  by_cases c40 : Kn T p = 40
  · rw [if_neg (by simp [c40, zb_]), f_dp (f := 273) hP.1.1.2.2 rfl, Option.bind_some]
    refine RL_bind (s_con hv (e + 5) (Or.inl ⟨rfl, rfl, rfl, rfl⟩) h1 s p dp us its gl R os sc nd CB ZB hP hS hM (by omega) hC hI (Kn_lt (by omega)) _ (g3_con hM hTl y hy2 c40 (by omega))) Kp_rf fun σ v s2 q => ?_
    obtain ⟨t, i, w, l, p2, dp2, nd2, rfl, rfl, q, q4⟩ := q
    have hG := q.2.1
    rw [n_gr (f := 105) (NF_isN hG.1.1) (by decide), Option.bind_some, hG.1.2.1.1]
    have hP2 := q.2.2.1
    obtain ⟨⟨_, dd, d3⟩, _⟩ := q.2.2.2.2.2.2
    obtain rfl := d3 rfl
    cases b with
    | false =>
      rw [cj_X13_declaration_24, if_pos (by decide)]
      exact Or.inr ⟨_, _, _, rfl, rfl, QK_QD hw (Or.inl rfl) rfl rfl q q4 hP2 Kp_rf (Nat.zero_le _) ⟨Nat.le_add_right _ _, Nat.le_add_right _ _⟩ (by simp) rfl (fun _ => rfl)⟩
    | true =>
      obtain ⟨s', e1, hP', hK', c', z', l'⟩ := g24 e i l s2 gl gl.length hP2 hG.1.2.2.1 (fun a ha hx => by have := hG.2.2 a (by simp [idl_, ha]); have := Mx_lt hw a hx; omega) (Nat.le_refl _)
      exact Or.inr ⟨_, _, _, rfl, e1, QK_QD hw (Or.inl rfl) rfl rfl q q4 hP' hK' (Nat.le_refl _) ⟨c', z'⟩ l' (by show _ = gad gl (er l); rw [gad_er]) (fun q => nomatch q)⟩
  rw [if_pos (by simp [c40, zb_]), C_is (e + 3) hP m3 (c := 1073) (kk := 41) rfl (by omega) (by decide +kernel)]
  by_cases c41 : Kn T p = 41
  · rw [if_neg (by simp [c41, zb_]), f_dp (f := 273) hP.1.1.2.2 rfl, Option.bind_some]
    refine RL_bind (s_con hv (e + 5) (Or.inr (Or.inl ⟨rfl, rfl, rfl, rfl⟩)) h1 s p dp us its gl R os sc nd CB ZB hP hS hM (by omega) hC hI (Kn_lt (by omega)) _ (g3_con hM hTl y hy2 c41 (by omega))) Kp_rf fun σ v s2 q => ?_
    obtain ⟨t, i, w, l, p2, dp2, nd2, rfl, rfl, q, q4⟩ := q
    have hP2 := q.2.2.1
    obtain ⟨⟨_, dd, d3⟩, _⟩ := q.2.2.2.2.2.2
    obtain rfl := d3 rfl
    exact Or.inr ⟨_, _, _, rfl, rfl, QK_QD (m := 0) hw (Or.inr (Or.inl rfl)) rfl rfl q q4 hP2 Kp_rf (Nat.zero_le _) ⟨Nat.le_add_right _ _, Nat.le_add_right _ _⟩ (by simp) (by cases b <;> rfl) (fun _ => rfl)⟩
  rw [if_pos (by simp [c41, zb_]), C_is (e + 3) hP m3 (c := 1074) (kk := 42) rfl (by omega) (by decide +kernel)]
  by_cases c42 : Kn T p = 42
  · rw [if_neg (by simp [c42, zb_]), f_dp (f := 273) hP.1.1.2.2 rfl, Option.bind_some]
    refine RL_bind (s_con hv (e + 5) (Or.inr (Or.inr ⟨rfl, rfl, rfl, rfl⟩)) h1 s p dp us its gl R os sc nd CB ZB hP hS hM (by omega) hC hI (Kn_lt (by omega)) _ (g3_con hM hTl y hy2 c42 (by omega))) Kp_rf fun σ v s2 q => ?_
    obtain ⟨t, i, w, l, p2, dp2, nd2, rfl, rfl, q, q4⟩ := q
    have hP2 := q.2.2.1
    obtain ⟨⟨_, dd, d3⟩, _⟩ := q.2.2.2.2.2.2
    obtain rfl := d3 rfl
    exact Or.inr ⟨_, _, _, rfl, rfl, QK_QD (m := 0) hw (Or.inr (Or.inr rfl)) rfl rfl q q4 hP2 Kp_rf (Nat.zero_le _) ⟨Nat.le_add_right _ _, Nat.le_add_right _ _⟩ (by simp) (by cases b <;> rfl) (fun _ => rfl)⟩
  rw [if_pos (by simp [c42, zb_])]
  have g3 : pS_ (Kn T) V T.length lx 3 y 0 0 (R, os, p, dp, sc, nd) = (if isD_ (Kn T p) = true then (if Kn T p = 43 then ok_ ((7, y, 0, 0) :: (8, y, p, os.length) :: R, os, p + 1, dp, sc, nd) else (if Kn T (p + 1) = 10 then (if dp = 60 then fl_ (p + 1) else ok_ ((4, 10 + Kn T p, 0, 0) :: (5, 10 + Kn T p, p, os.length) :: R, os, p + 1 + 1, dp + 1, (V (p + 1), dp) :: sc, nd)) else fl_ (p + 1))) else fl_ p) := rfl
  refine RL_must (e + 2) hP m3 (c := 1071) (kk := 43) rfl (by omega) (by decide +kernel) Kp_rf hC (fun h => pR_er (pb_I (by first | omega | (simp only [List.length_cons]; omega)) (by first | omega | (simp only [List.length_cons]; omega)) (by omega) (by omega) (by omega) (by omega) (by omega) (by omega)) (g3.trans (by
    rw [if_neg (by unfold isD_; simp; omega)]
    rfl))) (fun h43 tl lnl ctl => ?_)
  have hlt : p < T.length := Kn_lt (by omega)
  have b3 : pR_ (Kn T) V T.length lx ((3, y, 0, 0) :: R, os, p, dp, sc, nd) = pR_ (Kn T) V T.length lx ((7, y, 0, 0) :: (8, y, p, os.length) :: R, os, p + 1, dp, sc, nd) := pR_ok (pb_I (by first | omega | (simp only [List.length_cons]; omega)) (by first | omega | (simp only [List.length_cons]; omega)) (by omega) (by omega) (by omega) (by omega) (by omega) (by omega)) (g3.trans (by rw [if_pos (by rw [h43]; rfl), if_pos h43]; rfl))
  have g7 : pS_ (Kn T) V T.length lx 7 y 0 0 ((8, y, p, os.length) :: R, os, p + 1, dp, sc, nd) = (if Kn T (p + 1) = 1 then (if Kn T (p + 1 + 1) = 12 then pp_ (Kn T) V (p + 1) os.length 22 0 ((8, y, p, os.length) :: R, os, p + 1 + 2, dp, sc, nd) else if y = 1 then some (.error (p + 1 + 1)) else vn_ (Kn T) V (p + 1) os.length (T.length + 2) 1 ((8, y, p, os.length) :: R, lf_ 58 (p + 1) (V (p + 1)) nd :: os, p + 1 + 1, dp, sc, nd + 1)) else some (.error (p + 1))) := rfl
  rw [b3]
  have hP1 := PSt_at hP (p' := p + 1) (by omega)
  have ctl1 := CT_Kp ctl (x_Kp (x := x) (IL := IL) (GS := GS) (SL := SL) 94 (nI (p + 1))) (Mx_cl hP)
  refine RL_name (e + 2) hP1 (by omega) (x_Kp 94 _) ⟨by simp only [aC_awI]; omega, by simp only [aZ_awI]; omega⟩ (fun h => pR_er (pb_I (by first | omega | (simp only [List.length_cons]; omega)) (by first | omega | (simp only [List.length_cons]; omega)) (by omega) (by omega) (by omega) (by omega) (by omega) (by omega)) (g7.trans (by rw [if_neg h]))) (fun hn tk ln ct => ?_)
  rw [if_pos hn] at g7
  have hlt1 : p + 1 < T.length := Kn_lt (by omega)
  have hP3 := PSt_at hP1 (p' := p + 1 + 1) (by omega)
  have ct3 := CT_Kp ct (x_Kp (x := x) (IL := IL) (GS := GS) (SL := SL) 94 (nI (p + 1 + 1))) (Mx_cl hP1)
  have ctl3 := CT_Kp ctl1 (x_Kp (x := x) (IL := IL) (GS := GS) (SL := SL) 94 (nI (p + 1 + 1))) (Mx_cl hP1)
  have hK3 : Kp (Mx x IL GS SL) s (awI (awI s x 94 (nI (p + 1))) x 94 (nI (p + 1 + 1))) := Kp_tr (x_Kp 94 _) (x_Kp 94 _)
  have y3c : aC_ (awI (awI s x 94 (nI (p + 1))) x 94 (nI (p + 1 + 1))) = aC_ s := rfl
  have y3z : aZ_ (awI (awI s x 94 (nI (p + 1))) x 94 (nI (p + 1 + 1))) = aZ_ s := rfl
  have y3n : aN_ (awI (awI s x 94 (nI (p + 1))) x 94 (nI (p + 1 + 1))) = aN_ s := rfl
  generalize awI (awI s x 94 (nI (p + 1))) x 94 (nI (p + 1 + 1)) = s3 at *
  rw [C_is (e + 3) hP3 (by omega) (c := 1048) (kk := 12) rfl (by omega) (by decide +kernel)]
  by_cases c12 : Kn T (p + 1 + 1) = 12
  · rw [if_neg (by simp [c12, zb_])]
    rw [if_pos c12] at g7
    obtain ⟨s5, e5, hP5, hG5, hK5, cc5, cz5, cN5⟩ := C_mk2 (e + 4) (kc := 1088) hP3 ctl3
    rw [e5, nw_1, y3n]
    rw [y3n] at hG5
    have ct5 := CT_Kp ct3 hK5 (fun _ q => q.elim)
    have hlt2 : p + 1 + 1 < T.length := Kn_lt (by omega)
    rw [f_dp (f := 303) hP5.1.1.2.2 rfl, Option.bind_some]
    have hK05 : Kp (Mx x IL GS SL) s s5 := Kp_tr hK3 (Kp_wk hK5 (fun _ _ q => q.elim))
    refine RL_bind (s_rou hv e h1 h2 b s5 (p + 1) dp us its gl ((8, y, p, os.length) :: R) os sc nd CB ZB tk _ _ _ _ _ ct5 hP5 hS ⟨by simp; omega, by omega, by omega, m4, m5, by omega⟩ hlt1 (by omega) ⟨by omega, by omega⟩ (by omega) (fun h => absurd c12 h) (fun h σ z => pR_ok (pb_I (by first | omega | (simp only [List.length_cons]; omega)) (by first | omega | (simp only [List.length_cons]; omega)) (by omega) (by omega) (by omega) (by omega) (by omega) (by omega)) (g7.trans z)) (fun h r z => pR_er (pb_I (by first | omega | (simp only [List.length_cons]; omega)) (by first | omega | (simp only [List.length_cons]; omega)) (by omega) (by omega) (by omega) (by omega) (by omega) (by omega)) (g7.trans z))) hK05 fun σ v s7 q => ?_
    obtain ⟨t2, j2, w2, l2, p3, nd3, rfl, rfl, ⟨f0, f1, f2, f3⟩, hG7, hP7, hK7, ⟨cc7, cz7⟩, ⟨n6, n7, n8, n9⟩, hil7⟩ := q
    have f0 := flC_54 f0 f2 f3
    have hG8 := TG_Mx hG5 hP5 hw hK7
    have hN5 : aN_ s ≤ aN_ s5 := by omega
    obtain ⟨s9, e9, hG9, hP9, hK9, cc9, cz9, cN9⟩ := C_with (e + 5) hP7 hw hG8 (TG_lo hG7 hN5) (dj_lt (m := aN_ s5) (TG_lt hG5) hG7.2.2)
    rw [e9]
    have hN9 := nfl_54 f0 f2
    have hits : itm (snC .leaf (.inner j2 1129 w2 l2 .leaf)) = itm (.inner j2 1129 w2 l2 .leaf) := rfl
    exact s_dec143 hv b y hy2 e h1 h2 (T.length - p3 + 1) s p dp us its gl R os sc nd CB ZB [] t2 (aN_ s) _ p3 nd3 s9 (Nat.lt_succ_self _) (fun w hw => by simp at hw; subst hw; exact f2) (fun w hw => by simp at hw; subst hw; omega) (fun w hw => by simp at hw; subst hw; exact hN9) hG9 (by
      show er (.inner j2 1129 w2 l2 .leaf) = flL b gl (cf T eo n (lkT [t2]))
      rw [f0, cf_lk, cf_l0, snC_leaf]) (by rw [hits]; exact hP9) (Kp_in (Kp_tr hK05 hK7) hK9 (fun b hb => Or.inr (hG8.2.2 b hb))) ⟨by omega, by omega⟩ ⟨by omega, by simp; omega, by omega, by omega⟩ (by rw [hits]; omega) hS hM (by omega) hC hw hI
  · rw [if_pos (by simp [c12, zb_])]
    rw [if_neg c12] at g7
    cases b with
    | true =>
      obtain rfl : y = 1 := hy
      rw [if_neg (by decide)]
      exact RL_fail (e + 3) hP3 (by omega) hK3 ⟨by omega, by omega⟩ (pR_er (pb_I (by first | omega | (simp only [List.length_cons]; omega)) (by first | omega | (simp only [List.length_cons]; omega)) (by omega) (by omega) (by omega) (by omega) (by omega) (by omega)) (g7.trans (by rw [if_pos rfl])))
    | false =>
      obtain rfl : y = 0 := hy
      rw [if_pos (by decide)]
      rw [if_neg (by decide)] at g7
      have hKn : Kp (fun _ => False) s3 (a_nw 5 s3).2 := Kp_new Kp_rf (5, 0)
      have ctn := CT_Kp ctl3 hKn (fun _ z => z.elim)
      have kt : (aK_ (a_nw 5 s3).2 tl).1 = 14 := by rw [ctn.1.2.2]
      rw [f_gi (f := 85) kt rfl, Option.bind_some, ctn.2.1.2.1]
      obtain ⟨s5, e5, hP5, hG5, hK5, cc5, cz5, cN5⟩ := C_mk5 (e + 3) (kc := 1089) (pl := nI (tkp T eo n p)) hP3
      rw [e5, nw_1, y3n]
      rw [y3n] at hG5
      have ct5 := CT_Kp ct3 hK5 (fun _ q => q.elim)
      obtain ⟨q1, q2, _⟩ := hG5.1.1.2.2.2.2
      rw [f_gr (f := 108) (c := 5) (by rw [q1]) rfl, Option.bind_some, q2]
      obtain ⟨e6, hP6⟩ := C_nadd (e + 5) hP5 hw hG5 ct5 (Kc := fun _ s12 => aJ (e + 7) 270 210 [vr_ (some x), vr_ (some (aN_ s))] [] s12)
      obtain ⟨hG6, hk6⟩ := TG_nadd hG5 ct5
      refine Eq.mpr (congrArg (fun o => RL T eo n V lx x IL GS SL s CB ZB o _ _) e6) ?_
      have y6c : aC_ (al_add s5 (aN_ s + 1) (some tk)) = aC_ s5 + 1 := rfl
      have y6z : aZ_ (al_add s5 (aN_ s + 1) (some tk)) = aZ_ s5 + 10 := rfl
      have hK05 : Kp (Mx x IL GS SL) s s5 := Kp_tr hK3 (Kp_wk hK5 (fun _ _ q => q.elim))
      have hr := s_let210 hv e h1 (T.length - (p + 1 + 1) + 1) s p dp us its gl R os sc nd CB ZB [(p + 1, nd)] (aN_ s) (aN_ s + 1) (p + 1 + 1) (nd + 1) _ (T.length + 2) _ (Nat.lt_succ_self _) (by omega) (by simp) hG6 (fun y hy => by simp at hy; subst hy; show p ≤ p + 1; omega) hP6 (Kp_L hK05 _ (Or.inr (by omega))) ⟨by omega, by omega⟩ ⟨by omega, by simp; omega, by omega, by omega⟩ hS hM (by omega) hC hw hI (fun σ z => pR_ok (pb_I (by first | omega | (simp only [List.length_cons]; omega)) (by first | omega | (simp only [List.length_cons]; omega)) (by omega) (by omega) (by omega) (by omega) (by omega) (by omega)) (g7.trans z)) (fun q z => pR_er (pb_I (by first | omega | (simp only [List.length_cons]; omega)) (by first | omega | (simp only [List.length_cons]; omega)) (by omega) (by omega) (by omega) (by omega) (by omega) (by omega)) (g7.trans z))
      rcases hr with hr | ⟨σ, v, s', h1, h2, t, i, kc, w, l, p', dp', nd', hv', hσ, a1, hG, hPs, hKs, hcs, hns, ⟨d1, d2, d3⟩, hil⟩
      · exact Or.inl hr
      · obtain rfl := d3 rfl
        obtain ⟨a1, a2, a3, rfl⟩ := a1
        obtain ⟨c1, c2⟩ := hcs
        obtain ⟨n1, n2, n3, n4⟩ := hns
        exact Or.inr ⟨σ, v, s', h1, h2, t, i, 1089, w, l, p', nd', 0, gl, hv', hσ, ⟨by rw [← a1]; rfl, a2, by omega, by omega⟩, hG, hPs, hKs, ⟨by omega, by omega⟩, ⟨by omega, by omega, by omega, by omega⟩, hil, rfl, by omega, by omega, fun _ => ⟨rfl, a1⟩⟩
end pcj
