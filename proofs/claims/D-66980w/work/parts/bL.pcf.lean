/-! ===== the two parsers side by side: a routine's parameters ===== -/
section pcf
variable {T : List tk_} {eo : Option Nat} {n : Nat} {V : Nat → Int32} {L : List (List Int32)} {lx : Bool} {ids : List Nat} {iE x TL IL GS SL : Nat}
set_option maxHeartbeats 4000000 in
theorem s_rou98 (hv : HV T eo V L lx) (e : Nat) (h1 : SX T eo n V L lx ids iE x TL IL GS SL (XB T eo n false) 0 (e + 5) 280 [vr_ (some x)] (fun _ => [(28, 0, 0, 0)]) (fun _ => True) 20 19 true) (h2 : SX T eo n V L lx ids iE x TL IL GS SL XC 1 (e + 5) 287 [vr_ (some x)] (fun _ => [(11, 0, 0, 0)]) (fun _ => True) 5 22 true) : ∀ (fu : Nat) (s : as_) (q dp : Nat) (us : List (List Int32)) (its : List Nat) (gl : List ((List Int32 ⊕ Int32) × Option Nat)) (R : List gl_) (os : List tr_) (sc : List (Int32 × Nat)) (nd CB ZB : Nat) (ns : List (Nat × Nat)) (a nl p1 nd1 : Nat) (s1 : as_) (o g : Int32) (pe : pe_), fu + ns.length = 22 → ns.length ≤ 20 → TG s1 (aN_ s) (.inner a 1129 (nI (tkp T eo n q), nI (tkp T eo n q), 0, tkx T q, 0, some (nl, nwL T eo n ns, o, g, 0, 0)) .leaf .leaf) → (∀ y ∈ ns, q ≤ y.1) → PSt T eo n ids iE x TL IL GS SL s1 p1 dp us (its ++ [a]) gl → Kp (Mx x IL GS SL) s s1 → (aC_ s1 + 10 * q ≤ aC_ s + 10 * p1 ∧ aZ_ s1 + 100 * q ≤ aZ_ s + 100 * p1) → (nd1 + 6 * q ≤ nd + 6 * p1 ∧ os.length + ns.length ≤ nd1 ∧ q + 2 ≤ p1 ∧ p1 ≤ T.length) → SV L us.reverse sc → Mn T 4 R.length os.length q dp sc.length nd → 20 * (61 - dp) + 22 ≤ e + 5 → Cn T s q CB ZB → Lw x TL IL GS SL (aN_ s) → its.length ≤ q →
    (∀ σ, (if Kn T p1 = 13 then pp_ (Kn T) V q os.length fu ns.length (R, (pml V ns).reverse ++ os, p1, dp, sc, nd1) else if Kn T p1 = 14 then (if ns.length = 20 then some (.error p1) else if Kn T (p1 + 1) = 1 then pp_ (Kn T) V q os.length fu ns.length (R, (pml V ns).reverse ++ os, p1 + 1, dp, sc, nd1) else some (.error (p1 + 1))) else some (.error p1) : pe_) = some (.ok σ) → pe = pR_ (Kn T) V T.length lx σ) →
    (∀ r, (if Kn T p1 = 13 then pp_ (Kn T) V q os.length fu ns.length (R, (pml V ns).reverse ++ os, p1, dp, sc, nd1) else if Kn T p1 = 14 then (if ns.length = 20 then some (.error p1) else if Kn T (p1 + 1) = 1 then pp_ (Kn T) V q os.length fu ns.length (R, (pml V ns).reverse ++ os, p1 + 1, dp, sc, nd1) else some (.error (p1 + 1))) else some (.error p1) : pe_) = some (.error r) → pe = some (.error r)) →
    RL T eo n V lx x IL GS SL s CB ZB (aJ (e + 6) 303 98 [vr_ (some x), vr_ (some a)] [] s1) pe (QF T eo n ids iE x TL IL GS SL o g s q dp us its gl R os sc nd) := by
  have hTl : T.length < 2600 := hv.1
  intro fu
  induction fu with
  | zero => intro s q dp us its gl R os sc nd CB ZB ns a nl p1 nd1 s1 o g pe h22 h20; exact absurd h22 (by omega)
  | succ fu ih =>
  intro s q dp us its gl R os sc nd CB ZB ns a nl p1 nd1 s1 o g pe h22 h20 hG hns hP1 hK1 ⟨c1, c2⟩ ⟨n1, n2, n3, n4⟩ hS hM hd hC hw hI hok her
  obtain ⟨m1, m2, m3, m4, m5, m6⟩ := id hM
  have hCa := hC.1
  have hCb := hC.2
  have hN1 : aN_ s ≤ aN_ s1 := hK1.1
  rw [cj_X13_routine_98, C_is (e + 2) hP1 n4 (c := 1082) (kk := 14) rfl (by omega) (by decide +kernel)]
  by_cases c14 : Kn T p1 = 14
  · rw [if_neg (by simp [c14, zb_])]
    rw [if_neg (show ¬ Kn T p1 = 13 by omega), if_pos c14] at hok her
    have hlt : p1 < T.length := Kn_lt (by omega)
    obtain ⟨g1, g2, ⟨⟨g3, g4, g5⟩, al, hL, hNL⟩, _⟩ := hG.1.1.2.2.2.2
    have hal : al.length = ns.length := by rw [NLs_ln hNL]; simp [nwL]
    rw [f_gr (f := 108) (c := 5) (by rw [g1]) rfl, Option.bind_some, g2, f_dp (f := 78) (by rw [g5]) rfl, Option.bind_some, l_size, cI_k, hL, List.length_map, hal]
    by_cases c20 : ns.length = 20
    · rw [if_pos (by rw [c20]; rfl)]
      rw [if_pos c20] at hok her
      exact RL_fail (e + 2) hP1 n4 hK1 ⟨by omega, by omega⟩ (her _ rfl)
    · rw [if_neg (by
        show ¬ nI ns.length = nI 20
        rw [neq_ (by omega) (by omega)]
        exact c20)]
      rw [if_neg c20] at hok her
      obtain ⟨tk0, ln0, ct0, et0⟩ := C_take (e + 3) hP1 n4
      rw [et0]
      have hP2 := PSt_at hP1 (p' := p1 + 1) (by omega)
      have hG2 := TG_Mx hG hP1 hw (x_Kp (x := x) (IL := IL) (GS := GS) (SL := SL) 94 (nI (p1 + 1)))
      obtain ⟨q1, q2, _⟩ := hG2.1.1.2.2.2.2
      rw [f_gr (f := 108) (c := 5) (by rw [q1]) rfl, Option.bind_some, q2]
      refine RL_name (e + 1) hP2 (by omega) (Kp_tr hK1 (x_Kp 94 _)) ⟨by simp only [aC_awI]; omega, by simp only [aZ_awI]; omega⟩ (fun h => her _ (by rw [if_neg h])) (fun hn tk ln ct => ?_)
      rw [if_pos hn] at hok her
      have hlt1 : p1 + 1 < T.length := Kn_lt (by omega)
      have hP3 := PSt_at hP2 (p' := p1 + 1 + 1) (by omega)
      have hG3 := TG_Mx hG2 hP2 hw (x_Kp (x := x) (IL := IL) (GS := GS) (SL := SL) 94 (nI (p1 + 1 + 1)))
      have ct3 := CT_Kp ct (x_Kp (x := x) (IL := IL) (GS := GS) (SL := SL) 94 (nI (p1 + 1 + 1))) (Mx_cl hP2)
      obtain ⟨e3, hP4⟩ := C_nadd (e + 4) hP3 hw hG3 ct3 (Kc := fun _ s12 => aJ (e + 6) 303 98 [vr_ (some x), vr_ (some a)] [] s12)
      obtain ⟨hG4, hk4⟩ := TG_nadd hG3 ct3
      have hnl : aN_ s ≤ nl := hG.2.2 _ (by simp [idl_, nlI])
      refine Eq.mpr (congrArg (fun o => RL T eo n V lx x IL GS SL s CB ZB o _ _) e3) ?_
      have y3c : aC_ (al_add (awI (awI s1 x 94 (nI (p1 + 1))) x 94 (nI (p1 + 1 + 1))) nl (some tk)) = aC_ s1 + 1 := rfl
      have y3z : aZ_ (al_add (awI (awI s1 x 94 (nI (p1 + 1))) x 94 (nI (p1 + 1 + 1))) nl (some tk)) = aZ_ s1 + 10 := rfl
      have en : (pml V (ns ++ [(p1 + 1, nd1)])).reverse ++ os = lf_ 57 (p1 + 1) (V (p1 + 1)) nd1 :: ((pml V ns).reverse ++ os) := by simp [pml]
      have ew : nwL T eo n (ns ++ [(p1 + 1, nd1)]) = nwL T eo n ns ++ [(nI (tkp T eo n (p1 + 1)), tkx T (p1 + 1))] := by simp [nwL]
      have el : (ns ++ [(p1 + 1, nd1)]).length = ns.length + 1 := by simp
      have gv : pp_ (Kn T) V q os.length (fu + 1) ns.length (R, (pml V ns).reverse ++ os, p1 + 1, dp, sc, nd1) = (if Kn T (p1 + 1 + 1) = 13 then pp_ (Kn T) V q os.length fu (ns.length + 1) (R, lf_ 57 (p1 + 1) (V (p1 + 1)) nd1 :: ((pml V ns).reverse ++ os), p1 + 1 + 1, dp, sc, nd1 + 1) else if Kn T (p1 + 1 + 1) = 14 then (if ns.length + 1 = 20 then some (.error (p1 + 1 + 1)) else if Kn T (p1 + 1 + 1 + 1) = 1 then pp_ (Kn T) V q os.length fu (ns.length + 1) (R, lf_ 57 (p1 + 1) (V (p1 + 1)) nd1 :: ((pml V ns).reverse ++ os), p1 + 1 + 1 + 1, dp, sc, nd1 + 1) else some (.error (p1 + 1 + 1 + 1))) else some (.error (p1 + 1 + 1))) := by
        show (if Kn T (p1 + 1) = 1 ∧ ns.length < 20 then _ else _) = _
        rw [if_pos ⟨hn, by omega⟩]
        rfl
      rw [gv] at hok her
      exact ih s q dp us its gl R os sc nd CB ZB (ns ++ [(p1 + 1, nd1)]) a nl (p1 + 1 + 1) (nd1 + 1) _ o g pe (by omega) (by omega) (by rw [ew]; exact hG4) (fun y hy => by rcases List.mem_append.mp hy with z | z; exact hns y z; simp at z; subst z; show q ≤ p1 + 1; omega) hP4 (Kp_L (Kp_tr (Kp_tr hK1 (x_Kp 94 _)) (x_Kp 94 _)) _ (Or.inr hnl)) ⟨by omega, by omega⟩ ⟨by omega, by omega, by omega, by omega⟩ hS hM hd hC hw hI (by rw [en, el]; exact hok) (by rw [en, el]; exact her)
  · rw [if_pos (by simp [c14, zb_])]
    rw [if_neg c14] at hok her
    refine s_rou148 hv e h1 h2 s q dp us its gl R os sc nd CB ZB ns a nl p1 nd1 s1 o g pe hG hns hP1 hK1 ⟨c1, c2⟩ ⟨n1, n2, n3, n4⟩ hS hM hd hC hw hI ?_
    by_cases c13 : Kn T p1 = 13
    · have gp : pp_ (Kn T) V q os.length (fu + 1) ns.length (R, (pml V ns).reverse ++ os, p1, dp, sc, nd1) = (if Kn T (p1 + 1) = 25 then some (.ok ((28, 0, 0, 0) :: (6, 54, q, os.length) :: R, (pml V ns).reverse ++ os, p1 + 2, dp, sc, nd1)) else if Kn T (p1 + 1) = 45 then some (.ok ((11, 0, 0, 0) :: (6, 54, q, os.length) :: R, (pml V ns).reverse ++ os, p1 + 2, dp, sc, nd1)) else some (.error (p1 + 1))) := by
        show (if Kn T p1 = 1 ∧ ns.length < 20 then _ else if Kn T p1 = 13 then _ else _) = _
        rw [if_neg (fun z => by omega), if_pos c13]
        rfl
      rw [if_pos c13, gp] at hok her
      rw [if_pos c13]
      by_cases c25 : Kn T (p1 + 1) = 25
      · rw [if_pos c25] at hok ⊢
        exact hok _ rfl
      · rw [if_neg c25] at hok her ⊢
        by_cases c45 : Kn T (p1 + 1) = 45
        · rw [if_pos c45] at hok ⊢
          exact hok _ rfl
        · rw [if_neg c45] at her ⊢
          exact her _ rfl
    · rw [if_neg c13] at her ⊢
      exact her _ rfl
end pcf
