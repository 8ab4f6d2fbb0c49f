/-! ===== the two parsers side by side: all methods together ===== -/
section pcl
variable {T : List tk_} {eo : Option Nat} {n : Nat} {V : Nat → Int32} {L : List (List Int32)} {lx : Bool} {ids : List Nat} {iE x TL IL GS SL : Nat}
theorem s_decF (hv : HV T eo V L lx) (e : Nat) (h1 : SX T eo n V L lx ids iE x TL IL GS SL (XB T eo n false) 0 (e + 5) 280 [vr_ (some x)] (fun _ => [(28, 0, 0, 0)]) (fun _ => True) 20 19 true) (h2 : SX T eo n V L lx ids iE x TL IL GS SL XC 1 (e + 5) 287 [vr_ (some x)] (fun _ => [(11, 0, 0, 0)]) (fun _ => True) 5 22 true) : SX T eo n V L lx ids iE x TL IL GS SL XC 0 (e + 7) 270 [vr_ (some x), vi_ 0] (fun _ => [(3, 0, 0, 0)]) (fun _ => True) 3 24 true := by
  intro s p dp us its gl R os sc nd CB ZB hP hS hM hd hC _ hI
  have h := s_dec hv false 0 rfl e h1 h2 s p dp us its gl R os sc nd CB ZB hP hS hM hd ⟨by have := hC.1; omega, by have := hC.2; omega⟩ hI
  rcases h with h | ⟨σ, v, s', q1, q2, t, i, kc, w, l, p', nd', m, gl', hv', hσ, ⟨f0, f1, f2, f3⟩, hG, hPs, hKs, ⟨c1, c2⟩, ⟨n1, n2, n3, n4⟩, hil, rfl, g1, g2, g3⟩
  · exact Or.inl h
  · obtain ⟨rfl, g4⟩ := g3 rfl
    refine Or.inr ⟨σ, v, s', q1, q2, t, i, kc, w, l, p', dp, nd', hv', hσ, ⟨?_, f1, ?_⟩, hG, hPs, hKs, ⟨by omega, by omega⟩, ⟨by omega, by omega, by omega, n4⟩, ⟨Nat.le_refl _, hP.1.2.2.2.2.2, fun _ => rfl⟩, hil⟩
    · exact g4
    · unfold KC_
      simp
      omega
/-- all that is said of the methods at a depth of calls -/
def PP (T : List tk_) (eo : Option Nat) (n : Nat) (V : Nat → Int32) (L : List (List Int32)) (lx : Bool) (ids : List Nat) (iE x TL IL GS SL : Nat) (d : Nat) : Prop :=
  SX T eo n V L lx ids iE x TL IL GS SL (XB T eo n false) 0 d 280 [vr_ (some x)] (fun _ => [(28, 0, 0, 0)]) (fun _ => True) 20 19 true ∧
  (∀ l, l ≤ 7 → SX T eo n V L lx ids iE x TL IL GS SL (XB T eo n (decide (5 ≤ l))) 0 d 281 [vr_ (some x), vi_ (nI l)] (fun _ => [bl_ l]) (fun _ => True) (22 + 2 * l) (rkL l) true) ∧
  (∀ s p dp us its gl R os sc nd CB ZB t i kc w lC p1 nd1 s1, XA T eo n ids iE x TL IL GS SL (XB T eo n true) 0 true s p dp us its gl os nd t i kc w lC p1 dp nd1 s1 → lv_ (Kn T p1) = 5 → SV L us.reverse sc → Mn T 30 R.length os.length p dp sc.length nd → 20 * (61 - dp) + 13 ≤ d → Cn T s p CB ZB → Lw x TL IL GS SL (aN_ s) → its.length ≤ p → RL T eo n V lx x IL GS SL s CB ZB (aE d 302 [vr_ (some x), vr_ (some i)] s1) (pR_ (Kn T) V T.length lx ((31, 5, 0, os.length) :: R, t :: os, p1, dp, sc, nd1)) (QX T eo n ids iE x TL IL GS SL (XB T eo n false) 0 true s p dp us its gl R os sc nd)) ∧
  SX T eo n V L lx ids iE x TL IL GS SL (XB T eo n true) 0 d 282 [vr_ (some x)] (fun _ => [(33, 0, 0, 0)]) (fun _ => True) 40 9 true ∧
  SX T eo n V L lx ids iE x TL IL GS SL (XB T eo n true) 0 d 283 [vr_ (some x)] (fun _ => [(34, 0, 0, 0)]) (fun _ => True) 42 8 true ∧
  SX T eo n V L lx ids iE x TL IL GS SL (XB T eo n true) 0 d 284 [vr_ (some x), vi_ 0] (fun _ => [(34, 0, 0, 0)]) (fun p => Kn T p = 18 ∨ Kn T p = 20) 42 7 true ∧
  SX T eo n V L lx ids iE x TL IL GS SL (XB T eo n true) 0 d 284 [vr_ (some x), vi_ 1] (fun _ => [(36, 0, 0, 0)]) (fun p => Kn T p = 18 ∨ Kn T p = 20) 45 7 false ∧
  SX T eo n V L lx ids iE x TL IL GS SL (XB T eo n true) 0 d 285 [vr_ (some x)] (fun z => [(39, 0, 0, 0), (37, 0, 0, z)]) (fun _ => True) 46 7 false ∧
  SX T eo n V L lx ids iE x TL IL GS SL (XB T eo n true) 0 d 286 [vr_ (some x)] (fun _ => [(39, 0, 0, 0)]) (fun _ => True) 50 6 true ∧
  SX T eo n V L lx ids iE x TL IL GS SL XC 1 d 287 [vr_ (some x)] (fun _ => [(11, 0, 0, 0)]) (fun _ => True) 5 22 true ∧
  (∀ s p dp us its gl R os sc nd CB ZB, PSt T eo n ids iE x TL IL GS SL s p dp us its gl → SV L us.reverse sc → Mn T 5 R.length os.length p dp sc.length nd → 20 * (61 - dp) + 21 ≤ d → Cn T s p (CB - 3) (ZB - 40) → its.length ≤ p → RL T eo n V lx x IL GS SL s CB ZB (aE d 288 [vr_ (some x)] s) (pR_ (Kn T) V T.length lx ((11, 0, 0, 0) :: R, os, p, dp, sc, nd)) (QX T eo n ids iE x TL IL GS SL XC 1 true s p dp us its gl ((12, dp, 0, os.length) :: R) os sc nd)) ∧
  SX T eo n V L lx ids iE x TL IL GS SL XC 1 d 298 [vr_ (some x)] (fun _ => [(14, 0, 0, 0)]) (fun _ => True) 60 6 true ∧
  SX T eo n V L lx ids iE x TL IL GS SL XC 0 d 270 [vr_ (some x), vi_ 0] (fun _ => [(3, 0, 0, 0)]) (fun _ => True) 3 24 true
theorem SX_lt {B : Nat → tr_ → Nat → cp_w → Prop} {b d m : Nat} {as : List pj_V} {G : Nat → List gl_} {C : Nat → Prop} {k rk : Nat} {rst : Bool} (h : d < 20 + rk) : SX T eo n V L lx ids iE x TL IL GS SL B b d m as G C k rk rst := fun s p dp us its gl R os sc nd CB ZB hP hS hM hd => absurd hd (by have := hM.2.2.2.1; omega)
theorem rkL_v (l : Nat) : rkL l = if l ≤ 4 then 18 - l else 17 - l := rfl
theorem P_all (hv : HV T eo V L lx) : ∀ d, PP T eo n V L lx ids iE x TL IL GS SL d := by
  intro d
  induction d using Nat.strongRecOn with
  | _ d ih =>
  cases d with
  | zero =>
    refine ⟨SX_lt (by omega), fun l hl => SX_lt (by omega), fun s p dp us its gl R os sc nd CB ZB t i kc w lC p1 nd1 s1 _ _ _ hM hd => absurd hd (by have := hM.2.2.2.1; omega), SX_lt (by omega), SX_lt (by omega), SX_lt (by omega), SX_lt (by omega), SX_lt (by omega), SX_lt (by omega), SX_lt (by omega), fun s p dp us its gl R os sc nd CB ZB _ _ hM hd => absurd hd (by have := hM.2.2.2.1; omega), SX_lt (by omega), SX_lt (by omega)⟩
  | succ d =>
    obtain ⟨h280, h281, h302, h282, h283, h284F, h284T, h285, h286, h287, h288, h298, h270⟩ := ih d (Nat.lt_succ_self d)
    refine ⟨s_expr hv d (h281 0 (by omega)) h280, fun l hl => ?_, fun s p dp us its gl R os sc nd CB ZB t i kc w lC p1 nd1 s1 hq h5 hS hM hd hC hw hI => s_cmp hv d true (h281 5 (by omega)) s p dp us its gl R os sc nd CB ZB t i kc w lC p1 nd1 s1 hq h5 hS hM hd hC hw hI, s_pre hv d h283 h282, s_adr hv d h284F h285 h284T, s_mkF hv d h283 h284F, s_mkT hv d h285 h284T, s_call hv d h286 h280, s_prim hv d h280 h287, s_cmd hv d h288 h280, ?_, s_inner hv d h287, ?_⟩
    · rcases Nat.lt_or_ge l 7 with h7 | h7
      · refine s_lev hv d l h7 (decide (5 ≤ l)) (decide (5 ≤ l + 1)) (fun q => ?_) (by have := h281 (l + 1) (by omega); rw [show 22 + 2 * (l + 1) = 24 + 2 * l by omega] at this; exact this) (fun q => ?_) (fun q s p dp us its gl R os sc nd CB ZB t i kc w lC p1 nd1 s1 => h302 s p dp us its gl R os sc nd CB ZB t i kc w lC p1 nd1 s1)
        · simp at q ⊢; omega
        · subst q; exact ⟨rfl, rfl⟩
      · obtain rfl : l = 7 := by omega
        exact s_lev7 hv d h282
    · intro s p dp us its gl R os sc nd CB ZB hP hS hM hd hC hI
      have := hM.2.2.2.1
      obtain ⟨e, rfl⟩ : ∃ e, d = e + 8 := ⟨d - 8, by omega⟩
      obtain ⟨g280, _, _, _, _, _, _, _, _, _, _, g298, g270⟩ := ih (e + 7) (by omega)
      obtain ⟨_, _, _, _, _, _, _, _, _, f287, _, _, _⟩ := ih (e + 6) (by omega)
      exact s_simple hv e g280 h280 f287 g298 h298 g270 s p dp us its gl R os sc nd CB ZB hP hS hM hd hC hI
    · by_cases h : 6 ≤ d
      · obtain ⟨e, rfl⟩ : ∃ e, d = e + 6 := ⟨d - 6, by omega⟩
        obtain ⟨g280, _, _, _, _, _, _, _, _, g287, _, _, _⟩ := ih (e + 5) (by omega)
        exact s_decF hv e g280 g287
      · exact SX_lt (by omega)
end pcl
