/-! ===== the two parsers side by side: a routine within a block ===== -/
section pcg
variable {T : List tk_} {eo : Option Nat} {n : Nat} {V : Nat → Int32} {L : List (List Int32)} {lx : Bool} {ids : List Nat} {iE x TL IL GS SL : Nat}
theorem TG_outs {s : as_} {lo i kc nl : Nat} {l : cr_} {pl fs br va a b c d y : Int32} {tx : List Int32} {ws : List (Int32 × List Int32)} (h : TG s lo (.inner i kc (pl, fs, br, tx, va, some (nl, ws, a, b, c, d)) l .leaf)) : TG (awI s i 109 y) lo (.inner i kc (pl, fs, br, tx, va, some (nl, ws, y, b, c, d)) l .leaf) := by
  have hk : Kp (fun a => a = i) s (awI s i 109 y) := Kp_I Kp_rf 109 y (Or.inl rfl)
  obtain ⟨⟨b1, b2⟩, h3, ⟨h4, h5, h6, h7⟩, h8, z1, z2, z3, z4, z5, z6, z7⟩ := h.1.1
  have hN := NF_isN h.1.1
  have hni : ¬ nl = i := fun q => by subst q; have := h.2.1; simp [idl_, nlI] at this
  refine TG_touch h hk ⟨⟨b1, b2⟩, h3, ⟨?_, ?_, ?_, ?_⟩, St_Kp h8 hk (fun a q => isN_M hN q), z1, z2, NL_Kp z3 hk (fun a q => by subst q; rw [z1]; decide) hni, ?_, ?_, ?_, ?_⟩ (fun k q => rfl) rfl
  · rw [aI_awI, if_neg (by omega)]; exact h4
  · rw [aI_awI, if_neg (by omega)]; exact h5
  · rw [aI_awI, if_neg (by omega)]; exact h6
  · rw [aI_awI, if_neg (by omega)]; exact h7
  · rw [aI_awI, if_pos ⟨b1, rfl, rfl⟩]
  · rw [aI_awI, if_neg (by omega)]; exact z5
  · rw [aI_awI, if_neg (by omega)]; exact z6
  · rw [aI_awI, if_neg (by omega)]; exact z7
theorem TG_glob {s : as_} {lo i kc nl : Nat} {l : cr_} {pl fs br va a b c d y : Int32} {tx : List Int32} {ws : List (Int32 × List Int32)} (h : TG s lo (.inner i kc (pl, fs, br, tx, va, some (nl, ws, a, b, c, d)) l .leaf)) : TG (awI s i 110 y) lo (.inner i kc (pl, fs, br, tx, va, some (nl, ws, a, y, c, d)) l .leaf) := by
  have hk : Kp (fun a => a = i) s (awI s i 110 y) := Kp_I Kp_rf 110 y (Or.inl rfl)
  obtain ⟨⟨b1, b2⟩, h3, ⟨h4, h5, h6, h7⟩, h8, z1, z2, z3, z4, z5, z6, z7⟩ := h.1.1
  have hN := NF_isN h.1.1
  have hni : ¬ nl = i := fun q => by subst q; have := h.2.1; simp [idl_, nlI] at this
  refine TG_touch h hk ⟨⟨b1, b2⟩, h3, ⟨?_, ?_, ?_, ?_⟩, St_Kp h8 hk (fun a q => isN_M hN q), z1, z2, NL_Kp z3 hk (fun a q => by subst q; rw [z1]; decide) hni, ?_, ?_, ?_, ?_⟩ (fun k q => rfl) rfl
  · rw [aI_awI, if_neg (by omega)]; exact h4
  · rw [aI_awI, if_neg (by omega)]; exact h5
  · rw [aI_awI, if_neg (by omega)]; exact h6
  · rw [aI_awI, if_neg (by omega)]; exact h7
  · rw [aI_awI, if_neg (by omega)]; exact z4
  · rw [aI_awI, if_pos ⟨b1, rfl, rfl⟩]
  · rw [aI_awI, if_neg (by omega)]; exact z6
  · rw [aI_awI, if_neg (by omega)]; exact z7
set_option maxHeartbeats 4000000 in
theorem s_rou54 (hv : HV T eo V L lx) (e : Nat) (h1 : SX T eo n V L lx ids iE x TL IL GS SL (XB T eo n false) 0 (e + 5) 280 [vr_ (some x)] (fun _ => [(28, 0, 0, 0)]) (fun _ => True) 20 19 true) (h2 : SX T eo n V L lx ids iE x TL IL GS SL XC 1 (e + 5) 287 [vr_ (some x)] (fun _ => [(11, 0, 0, 0)]) (fun _ => True) 5 22 true) (s : as_) (q dp : Nat) (us : List (List Int32)) (its : List Nat) (gl : List ((List Int32 ⊕ Int32) × Option Nat)) (R : List gl_) (os : List tr_) (sc : List (Int32 × Nat)) (nd CB ZB : Nat) (o g : Int32) (s5 : as_) (pe : pe_) (hG5 : TG s5 (aN_ s) (.inner (aN_ s) 1129 (nI (tkp T eo n q), nI (tkp T eo n q), 0, tkx T q, 0, some (aN_ s + 1, [], o, 0, 0, 0)) .leaf .leaf)) (hP5 : PSt T eo n ids iE x TL IL GS SL s5 (q + 1) dp us its gl) (hK5 : Kp (Mx x IL GS SL) s s5) (cc3 : aC_ s5 = aC_ s + 2) (cz3 : aZ_ s5 = aZ_ s + 17) (cN3 : aN_ s + 2 ≤ aN_ s5) (hg : g = 0 ∨ g = 1) (hw : Lw x TL IL GS SL (aN_ s)) (hS : SV L us.reverse sc) (hM : Mn T 4 R.length os.length q dp sc.length nd) (hq : q < T.length) (hd : 20 * (61 - dp) + 22 ≤ e + 5) (hC : Cn T s q CB ZB) (hI : its.length ≤ q)
    (hne : Kn T (q + 1) ≠ 12 → pe = some (.error (q + 1))) (hok : Kn T (q + 1) = 12 → ∀ σ, pp_ (Kn T) V q os.length 22 0 (R, os, q + 2, dp, sc, nd) = some (.ok σ) → pe = pR_ (Kn T) V T.length lx σ) (her : Kn T (q + 1) = 12 → ∀ r, pp_ (Kn T) V q os.length 22 0 (R, os, q + 2, dp, sc, nd) = some (.error r) → pe = some (.error r)) :
    RL T eo n V lx x IL GS SL s CB ZB (aJ (e + 6) 303 54 [vr_ (some x), vr_ (some (aN_ s))] [vi_ g, vr_ (some (aN_ s))] s5) pe (QF T eo n ids iE x TL IL GS SL o g s q dp us its gl R os sc nd) := by
  have hTl : T.length < 2600 := hv.1
  obtain ⟨m1, m2, m3, m4, m5, m6⟩ := id hM
  have hCa := hC.1
  have hCb := hC.2
  rw [cj_X13_routine_54, f_pi (f := 110) (c := 5) (by rw [hG5.1.1.2.2.2.2.1]) rfl (by rcases hg with rfl | rfl <;> decide), Option.bind_some]
  have hG6 := TG_glob (y := g) hG5
  have hP6 : PSt T eo n ids iE x TL IL GS SL (awI s5 (aN_ s) 110 g) (q + 1) dp us its gl := PSt_own hP5 hw (Nat.le_refl _) (NF_isN hG5.1.1)
  have hK6 := Kp_I hK5 110 g (Or.inr (Nat.le_refl (aN_ s)))
  have y6c : aC_ (awI s5 (aN_ s) 110 g) = aC_ s5 := rfl
  have y6z : aZ_ (awI s5 (aN_ s) 110 g) = aZ_ s5 := rfl
  generalize awI s5 (aN_ s) 110 g = s6 at *
  have ei : ∀ {Kc : Int32 → as_ → cx_O as_}, _ := fun {Kc} => (C_item (e + 4) (a := aN_ s) hP6 (by omega) (Kc := Kc)).1
  have hP7 := (C_item (e + 4) (a := aN_ s) hP6 (by omega) (Kc := fun _ s => some (.inl none, s))).2
  rw [ei]
  have hIk := it_Kp (x := x) (IL := IL) (GS := GS) (SL := SL) (s := s6) (aN_ s)
  have hG7 := TG_Mx hG6 hP6 hw hIk
  have hK7 := Kp_tr hK6 hIk
  have y7c : aC_ (al_add s6 IL (some (aN_ s))) = aC_ s6 + 1 := rfl
  have y7z : aZ_ (al_add s6 IL (some (aN_ s))) = aZ_ s6 + 10 := rfl
  generalize al_add s6 IL (some (aN_ s)) = s7 at *
  refine RL_must (e + 1) hP7 (by omega) (c := 1048) (kk := 12) rfl (by omega) (by decide +kernel) hK7 ⟨by omega, by omega⟩ hne (fun h12 i8 ln8 _ => ?_)
  have hlt1 : q + 1 < T.length := Kn_lt (by omega)
  have hok := hok h12
  have her := her h12
  have hP8 := PSt_at hP7 (p' := q + 1 + 1) (by omega)
  have hG8 := TG_Mx hG7 hP7 hw (x_Kp (x := x) (IL := IL) (GS := GS) (SL := SL) 94 (nI (q + 1 + 1)))
  have hK8 : Kp (Mx x IL GS SL) s (awI s7 x 94 (nI (q + 1 + 1))) := Kp_tr hK7 (x_Kp 94 _)
  have y8c : aC_ (awI s7 x 94 (nI (q + 1 + 1))) = aC_ s7 := rfl
  have y8z : aZ_ (awI s7 x 94 (nI (q + 1 + 1))) = aZ_ s7 := rfl
  generalize awI s7 x 94 (nI (q + 1 + 1)) = s8 at *
  rw [C_is (e + 2) hP8 (by omega) (c := 1076) (kk := 13) rfl (by omega) (by decide +kernel)]
  by_cases c13 : Kn T (q + 1 + 1) = 13
  · rw [if_neg (by simp [c13, zb_])]
    have gp : pp_ (Kn T) V q os.length 22 0 (R, os, q + 2, dp, sc, nd) = (if Kn T (q + 1 + 1 + 1) = 25 then some (.ok ((28, 0, 0, 0) :: (6, 54, q, os.length) :: R, os, q + 1 + 1 + 2, dp, sc, nd)) else if Kn T (q + 1 + 1 + 1) = 45 then some (.ok ((11, 0, 0, 0) :: (6, 54, q, os.length) :: R, os, q + 1 + 1 + 2, dp, sc, nd)) else some (.error (q + 1 + 1 + 1))) := by
      show (if Kn T (q + 1 + 1) = 1 ∧ 0 < 20 then _ else if Kn T (q + 1 + 1) = 13 then _ else _) = _
      rw [if_neg (fun z => by omega), if_pos c13]
      rfl
    rw [gp] at hok her
    refine s_rou148 hv e h1 h2 s q dp us its gl R os sc nd CB ZB [] (aN_ s) (aN_ s + 1) (q + 1 + 1) nd s8 o g pe hG8 (fun _ z => by simp at z) hP8 hK8 ⟨by omega, by omega⟩ ⟨by omega, by simp; omega, by omega, by omega⟩ hS hM hd hC hw hI ?_
    rw [if_pos c13]
    by_cases c25 : Kn T (q + 1 + 1 + 1) = 25
    · rw [if_pos c25] at hok ⊢
      exact hok _ rfl
    · rw [if_neg c25] at hok her ⊢
      by_cases c45 : Kn T (q + 1 + 1 + 1) = 45
      · rw [if_pos c45] at hok ⊢
        exact hok _ rfl
      · rw [if_neg c45] at her ⊢
        exact her _ rfl
  · rw [if_pos (by simp [c13, zb_])]
    obtain ⟨q1, q2, _⟩ := hG8.1.1.2.2.2.2
    rw [f_gr (f := 108) (c := 5) (by rw [q1]) rfl, Option.bind_some, q2]
    refine RL_name (e + 1) hP8 (by omega) hK8 ⟨by omega, by omega⟩ (fun h => her _ (by
      show (if Kn T (q + 1 + 1) = 1 ∧ 0 < 20 then _ else if Kn T (q + 1 + 1) = 13 then _ else _) = _
      rw [if_neg (fun z => h z.1), if_neg c13]
      rfl)) (fun hn tk2 ln2 ct2 => ?_)
    have hlt2 : q + 1 + 1 < T.length := Kn_lt (by omega)
    have hP9 := PSt_at hP8 (p' := q + 1 + 1 + 1) (by omega)
    have hG9 := TG_Mx hG8 hP8 hw (x_Kp (x := x) (IL := IL) (GS := GS) (SL := SL) 94 (nI (q + 1 + 1 + 1)))
    have ct9 := CT_Kp ct2 (x_Kp (x := x) (IL := IL) (GS := GS) (SL := SL) 94 (nI (q + 1 + 1 + 1))) (Mx_cl hP8)
    obtain ⟨e10, hP10⟩ := C_nadd (e + 4) hP9 hw hG9 ct9 (Kc := fun _ s12 => aJ (e + 6) 303 98 [vr_ (some x), vr_ (some (aN_ s))] [] s12)
    obtain ⟨hG10, hk10⟩ := TG_nadd hG9 ct9
    refine Eq.mpr (congrArg (fun o => RL T eo n V lx x IL GS SL s CB ZB o _ _) e10) ?_
    have y3c : aC_ (al_add (awI s8 x 94 (nI (q + 1 + 1 + 1))) (aN_ s + 1) (some tk2)) = aC_ s8 + 1 := rfl
    have y3z : aZ_ (al_add (awI s8 x 94 (nI (q + 1 + 1 + 1))) (aN_ s + 1) (some tk2)) = aZ_ s8 + 10 := rfl
    have gv : pp_ (Kn T) V q os.length 22 0 (R, os, q + 2, dp, sc, nd) = (if Kn T (q + 1 + 1 + 1) = 13 then pp_ (Kn T) V q os.length 21 1 (R, lf_ 57 (q + 1 + 1) (V (q + 1 + 1)) nd :: os, q + 1 + 1 + 1, dp, sc, nd + 1) else if Kn T (q + 1 + 1 + 1) = 14 then (if (1 : Nat) = 20 then some (.error (q + 1 + 1 + 1)) else if Kn T (q + 1 + 1 + 1 + 1) = 1 then pp_ (Kn T) V q os.length 21 1 (R, lf_ 57 (q + 1 + 1) (V (q + 1 + 1)) nd :: os, q + 1 + 1 + 1 + 1, dp, sc, nd + 1) else some (.error (q + 1 + 1 + 1 + 1))) else some (.error (q + 1 + 1 + 1))) := by
      show (if Kn T (q + 1 + 1) = 1 ∧ 0 < 20 then _ else _) = _
      rw [if_pos ⟨hn, by omega⟩]
      rfl
    rw [gv] at hok her
    exact s_rou98 hv e h1 h2 21 s q dp us its gl R os sc nd CB ZB [(q + 1 + 1, nd)] (aN_ s) (aN_ s + 1) (q + 1 + 1 + 1) (nd + 1) _ o g pe (by simp) (by simp) hG10 (fun y hy => by simp at hy; subst hy; show q ≤ q + 1 + 1; omega) hP10 (Kp_L (Kp_tr hK8 (x_Kp 94 _)) _ (Or.inr (by omega))) ⟨by omega, by omega⟩ ⟨by omega, by simp; omega, by omega, by omega⟩ hS hM hd hC hw hI hok her
set_option maxHeartbeats 4000000 in
/-- a routine's node, up to its flags -/
theorem rou_hd (e : Nat) {s : as_} {q dp : Nat} {us : List (List Int32)} {its : List Nat} {gl : List ((List Int32 ⊕ Int32) × Option Nat)} {tk : Nat} {k ln w : Int32} {tag : List Int32} (y : Int32) (hy : y = 0 ∨ y = 1) (ct : CT s tk k (nI (tkp T eo n q)) ln w (tkx T q) tag) (hP : PSt T eo n ids iE x TL IL GS SL s (q + 1) dp us its gl) : ∃ s5, (∀ K : as_ → cx_O as_, ((a_gi 85 (some tk) (a_nw 5 s).2).bind fun v1 => cx_bV cx_th (aE (e + 5) 309 [vr_ (some (a_nw 5 s).1), vr_ (some 1129), vi_ v1] (a_nw 5 s).2) fun s2 => (a_gr 88 (some tk) s2).bind fun v3 => (a_pr 103 (some (a_nw 5 s).1) v3 s2).bind fun s4 => (a_pi 109 (some (a_nw 5 s).1) y s4).bind K) = K s5) ∧ TG s5 (aN_ s) (.inner (aN_ s) 1129 (nI (tkp T eo n q), nI (tkp T eo n q), 0, tkx T q, 0, some (aN_ s + 1, [], y, 0, 0, 0)) .leaf .leaf) ∧ PSt T eo n ids iE x TL IL GS SL s5 (q + 1) dp us its gl ∧ Kp (Mx x IL GS SL) s s5 ∧ aC_ s5 = aC_ s + 2 ∧ aZ_ s5 = aZ_ s + 17 ∧ aN_ s5 = aN_ s + 2 ∧ CT s5 tk k (nI (tkp T eo n q)) ln w (tkx T q) tag := by
  have hw := PSt_Lw hP
  have hKn : Kp (fun _ => False) s (a_nw 5 s).2 := Kp_new Kp_rf (5, 0)
  have ctn := CT_Kp ct hKn (fun _ z => z.elim)
  have kt : (aK_ (a_nw 5 s).2 tk).1 = 14 := by rw [ctn.1.2.2]
  obtain ⟨s3, e3, hP3, hG3, hK3, cc3, cz3, cN3⟩ := C_mk5 (e + 2) (kc := 1129) (pl := nI (tkp T eo n q)) hP
  have ct3 := CT_Kp ct hK3 (fun _ z => z.elim)
  have hN3 := NF_isN hG3.1.1
  obtain ⟨e4, hG4⟩ := C_text ct3 hG3
  have hP4 : PSt T eo n ids iE x TL IL GS SL (awR s3 (aN_ s) 103 (aR_ s3 tk 88)) (q + 1) dp us its gl := PSt_ownR hP3 hw (Nat.le_refl _) hN3
  have hK4 : Kp (Mx x IL GS SL) s (awR s3 (aN_ s) 103 (aR_ s3 tk 88)) := Kp_R (Kp_wk hK3 (fun _ _ z => z.elim)) 103 _ (Or.inr (Nat.le_refl _))
  have hG5 := TG_outs (y := y) hG4
  have hk5 : Kp (fun a => a = aN_ s) s3 (awI (awR s3 (aN_ s) 103 (aR_ s3 tk 88)) (aN_ s) 109 y) := Kp_I (M := fun a => a = aN_ s) (Kp_R (M := fun a => a = aN_ s) Kp_rf 103 _ (Or.inl rfl)) 109 y (Or.inl rfl)
  refine ⟨_, fun K => ?_, hG5, PSt_own hP4 hw (Nat.le_refl _) (NF_isN hG4.1.1), Kp_I hK4 109 y (Or.inr (Nat.le_refl (aN_ s))), cc3, cz3, cN3, CT_Kp ct3 hk5 (fun a z => by subst z; rcases hN3 with z | z <;> rw [z] <;> decide)⟩
  rw [f_gi (f := 85) kt rfl, Option.bind_some, ctn.2.1.2.1, e3, nw_1, e4, f_pi (f := 109) (c := 5) (by rw [hG4.1.1.2.2.2.2.1]) rfl (by rcases hy with rfl | rfl <;> decide), Option.bind_some]
/-- whether a text is a global's name -/
def gl_f (gl : List ((List Int32 ⊕ Int32) × Option Nat)) (u : List Int32) : Int32 := a_b (am_get gl (.inl u)).isSome
/-- a routine, behind its name: within a block, or of the text itself -/
theorem s_rou (hv : HV T eo V L lx) (e : Nat) (h1 : SX T eo n V L lx ids iE x TL IL GS SL (XB T eo n false) 0 (e + 5) 280 [vr_ (some x)] (fun _ => [(28, 0, 0, 0)]) (fun _ => True) 20 19 true) (h2 : SX T eo n V L lx ids iE x TL IL GS SL XC 1 (e + 5) 287 [vr_ (some x)] (fun _ => [(11, 0, 0, 0)]) (fun _ => True) 5 22 true) (b : Bool) (s : as_) (q dp : Nat) (us : List (List Int32)) (its : List Nat) (gl : List ((List Int32 ⊕ Int32) × Option Nat)) (R : List gl_) (os : List tr_) (sc : List (Int32 × Nat)) (nd CB ZB : Nat) (tk : Nat) (k ln w : Int32) (tag : List Int32) (pe : pe_) (ct : CT s tk k (nI (tkp T eo n q)) ln w (tkx T q) tag) (hP : PSt T eo n ids iE x TL IL GS SL s (q + 1) dp us its gl) (hS : SV L us.reverse sc) (hM : Mn T 4 R.length os.length q dp sc.length nd) (hq : q < T.length) (hd : 20 * (61 - dp) + 22 ≤ e + 5) (hC : Cn T s q CB ZB) (hI : its.length ≤ q)
    (hne : Kn T (q + 1) ≠ 12 → pe = some (.error (q + 1))) (hok : Kn T (q + 1) = 12 → ∀ σ, pp_ (Kn T) V q os.length 22 0 (R, os, q + 2, dp, sc, nd) = some (.ok σ) → pe = pR_ (Kn T) V T.length lx σ) (her : Kn T (q + 1) = 12 → ∀ r, pp_ (Kn T) V q os.length 22 0 (R, os, q + 2, dp, sc, nd) = some (.error r) → pe = some (.error r)) :
    RL T eo n V lx x IL GS SL s CB ZB (aE (e + 6) 303 [vr_ (some x), vr_ (some tk), vi_ (a_b b)] s) pe (QF T eo n ids iE x TL IL GS SL (a_b b) (if b = true then gl_f gl (tkx T q) else 0) s q dp us its gl R os sc nd) := by
  have hw := PSt_Lw hP
  obtain ⟨s5, e5, hG5, hP5, hK5, c1, c2, c3, ct5⟩ := rou_hd e (a_b b) (by cases b; exact Or.inl rfl; exact Or.inr rfl) ct hP
  rw [ce_X13_routine, e5, nw_1]
  cases b with
  | false =>
    rw [if_pos (by decide), if_neg (by decide)]
    exact s_rou54 hv e h1 h2 s q dp us its gl R os sc nd CB ZB 0 0 s5 pe hG5 hP5 hK5 c1 c2 (by omega) (Or.inl rfl) hw hS hM hq hd hC hI hne hok her
  | true =>
    obtain ⟨a, ea, hKa, _, hta⟩ := ct5.2.2.1
    rw [if_neg (by decide), if_pos rfl, f_gr (f := 97) hP5.1.1.2.2 rfl, Option.bind_some, hP5.1.2.1.2.2.1, f_gr (f := 88) (c := 14) (by rw [ct5.1.2.2]) rfl, Option.bind_some, ea, f_dp (f := 132) hP5.2.2.2.2.1.1.2.2 rfl, Option.bind_some]
    have hkey : a_key s5 (some a) = some (.inl (tkx T q)) := by
      unfold a_key
      dsimp only
      rw [hKa, if_pos rfl, hta]
    have hct : aE (e + 5) 132 [vr_ (some GS), vr_ (some a)] s5 = some (.inl (some (vi_ (a_b (am_get gl (.inl (tkx T q))).isSome))), s5) := by
      refine aE_pm (e + 4) _ _ s5 ?_
      show (match a_key s5 (some a) with
        | some k => a_i (a_b (am_get (aM_ s5 GS) k).isSome) s5
        | none => some none) = _
      rw [hkey, hP5.2.2.2.2.1.2]
    rw [hct, cI_k]
    show RL T eo n V lx x IL GS SL s CB ZB _ pe (QF T eo n ids iE x TL IL GS SL 1 (a_b (am_get gl (.inl (tkx T q))).isSome) s q dp us its gl R os sc nd)
    cases hb : (am_get gl (.inl (tkx T q))).isSome with
    | false =>
      rw [if_pos (by decide)]
      exact s_rou54 hv e h1 h2 s q dp us its gl R os sc nd CB ZB 1 0 s5 pe hG5 hP5 hK5 c1 c2 (by omega) (Or.inl rfl) hw hS hM hq hd hC hI hne hok her
    | true =>
      rw [if_neg (by decide)]
      exact s_rou54 hv e h1 h2 s q dp us its gl R os sc nd CB ZB 1 1 s5 pe hG5 hP5 hK5 c1 c2 (by omega) (Or.inr rfl) hw hS hM hq hd hC hI hne hok her
end pcg
