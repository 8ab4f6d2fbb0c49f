/-! ===== the component's parser: a node is made with a token taken ===== -/
/-- a node: kind, place, first place, in brackets, name, value; nothing behind it -/
def ND (s : as_) (id kc : Nat) (pl fs br : Int32) (nm : List Int32) (v : Int32) : Prop := (4000 ≤ id ∧ id < aN_ s ∧ aK_ s id = (9, 0)) ∧ aR_ s id 99 = some kc ∧ (aI_ s id 100 = pl ∧ aI_ s id 101 = fs ∧ aI_ s id 102 = br ∧ aI_ s id 104 = v) ∧ St s (aR_ s id 103) nm ∧ aR_ s id 107 = none
section cmk
variable {s s' : as_} {x TL IL GS SL p dp iE n : Nat} {ids : List Nat} {T : List tk_} {eo : Option Nat}
theorem y_mk (d : Nat) (h : CP s x TL IL GS SL p dp) (hT : TA s TL ids iE T eo n) (hp : p ≤ T.length) (kc : Nat) : ∃ s', (∀ K : as_ → cx_O as_, ((a_dp 274 (some x) (a_nw 9 s).2).bind fun m1 => cx_bR cx_th (aE (d + 2) m1 [vr_ (some x)] (a_nw 9 s).2) fun v3 s2 => (a_gi 85 v3 s2).bind fun v4 => cx_bV cx_th (aE (d + 2) 305 [vr_ (some (a_nw 9 s).1), vr_ (some kc), vi_ v4] s2) K) = K s') ∧ CP s' x TL IL GS SL (p + 1) dp ∧ TA s' TL ids iE T eo n ∧ ND s' (aN_ s) kc (nI (tkp T eo n p)) (nI (tkp T eo n p)) 0 [] 0 ∧ Ch s' (aN_ s) [] ∧ Kp (fun a => a = x) s s' ∧ Rm 1 (az_ 9) s s' ∧ aN_ s' = aN_ s + 1 := by
  have hN : 4000 ≤ aN_ s := by have := h.1; omega
  have hxN : x < aN_ s := h.1.2.1
  have hK : Kp (fun _ => False) s (a_nw 9 s).2 := Kp_new Kp_rf (9, 0)
  have h1 := CP_Kp h hK id
  have hT1 := TA_Kp hT hK (fun _ q => q.elim) id
  obtain ⟨i, ln, e, t⟩ := y_take d h1 hT1 hp
  have h2 := CP_at h1 (p' := p + 1) (by have := hT.2.2.2.2; omega)
  have hne : ¬ aN_ s = x := by omega
  let s1 : as_ := awI (a_nw 9 s).2 x 94 (nI (p + 1))
  have k1 : aK_ s1 (aN_ s) = (9, 0) := by
    show aK_ (anew s (9, 0)) (aN_ s) = _
    rw [aK_anew, if_pos ⟨hN, rfl⟩]
  have ki : (aK_ s1 i).1 = 14 := by show (aK_ (a_nw 9 s).2 i).1 = 14; rw [t.1.2.2]
  have hix : i ≠ x := by
    rintro rfl
    have := h1.1.2.2
    rw [t.1.2.2] at this
    omega
  have ei : aI_ s1 i 85 = nI (tkp T eo n p) := by
    show aI_ (awI (a_nw 9 s).2 x 94 (nI (p + 1))) i 85 = _
    rw [aI_awI, if_neg (by omega)]
    exact t.2.1.2.1
  have iz : ∀ k, aI_ s1 (aN_ s) k = 0 := fun k => by
    show aI_ (awI (a_nw 9 s).2 x 94 (nI (p + 1))) (aN_ s) k = 0
    rw [aI_awI, if_neg (by omega)]
    show aI_ (anew s (9, 0)) (aN_ s) k = 0
    rw [aI_anew, if_pos ⟨hN, rfl⟩]
  have rz : ∀ k, aR_ s1 (aN_ s) k = none := fun k => by
    show aR_ (anew s (9, 0)) (aN_ s) k = none
    rw [aR_anew, if_pos rfl]
  have K1 : Kp (fun a => a = x) s s1 := Kp_I (Kp_wk hK (fun _ _ q => q.elim)) 94 _ (Or.inl rfl)
  have K12 : Kp (fun a => a = aN_ s) s1 (nn_ s1 (aN_ s) (some kc) (nI (tkp T eo n p))) := Kp_I (Kp_I (Kp_R (Kp_R (M := fun a => a = aN_ s) Kp_rf 103 _ (Or.inl rfl)) 99 _ (Or.inl rfl)) 100 _ (Or.inl rfl)) 101 _ (Or.inl rfl)
  have K2 : Kp (fun a => a = x) s (nn_ s1 (aN_ s) (some kc) (nI (tkp T eo n p))) := Kp_in K1 K12 (fun a q => Or.inr (by omega))
  have hM : ∀ a, a = x → (aK_ (a_nw 9 s).2 a).1 ≠ 26 ∧ (aK_ (a_nw 9 s).2 a).1 ≠ 14 := fun a q => by subst q; rw [h1.1.2.2]; decide
  have hT2 : TA s1 TL ids iE T eo n := TA_Kp hT1 (Kp_I (M := fun a => a = x) Kp_rf 94 _ (Or.inl rfl)) hM (by intro q; have := hT1.1.2.2; rw [q, h1.1.2.2] at this; omega)
  refine ⟨nn_ s1 (aN_ s) (some kc) (nI (tkp T eo n p)), fun K => ?_, CP_Kp h2 K12 (fun q => hne q.symm), TA_Kp hT2 K12 (fun a q => by subst q; rw [k1]; decide) (by intro q; have := hT2.1.2.2; rw [q, k1] at this; omega), ⟨⟨hN, Nat.lt_succ_self _, k1⟩, ?_, ⟨?_, ?_, ?_, ?_⟩, ?_, ?_⟩, ⟨?_, ?_⟩, K2, ⟨Nat.le_refl _, Nat.le_refl _⟩, rfl⟩
  · rw [f_dp (f := 274) h1.1.2.2 rfl, Option.bind_some, e, cR_k]
    show (a_gi 85 (some i) s1).bind _ = _
    rw [f_gi (f := 85) ki rfl, Option.bind_some, ei]
    have en : aE (d + 2) 305 [vr_ (some (a_nw 9 s).1), vr_ (some kc), vi_ (nI (tkp T eo n p))] s1 = _ := y_new d (id := aN_ s) (s := s1) (Or.inl (by rw [k1])) (some kc) (nI (tkp T eo n p))
    rw [en, cV_k]
  · unfold nn_
    rw [aR_awI, aR_awI, aR_awR, if_pos ⟨rfl, rfl⟩]
  · unfold nn_
    rw [aI_awI, if_neg (by omega), aI_awI, if_pos ⟨hN, rfl, rfl⟩]
  · unfold nn_
    rw [aI_awI, if_pos ⟨hN, rfl, rfl⟩]
  · unfold nn_
    rw [aI_awI, if_neg (by omega), aI_awI, if_neg (by omega), aI_awR, aI_awR]
    exact iz 102
  · unfold nn_
    rw [aI_awI, if_neg (by omega), aI_awI, if_neg (by omega), aI_awR, aI_awR]
    exact iz 104
  · have er : aR_ (nn_ s1 (aN_ s) (some kc) (nI (tkp T eo n p))) (aN_ s) 103 = some 1010 := by
      unfold nn_
      rw [aR_awI, aR_awI, aR_awR, if_neg (by omega), aR_awR, if_pos ⟨rfl, rfl⟩]
    rw [er]
    exact St_c 1010 rfl (by omega) (by show 4000 ≤ aN_ s + 1; omega)
  · unfold nn_
    rw [aR_awI, aR_awI, aR_awR, if_neg (by omega), aR_awR, if_neg (by omega)]
    exact rz 107
  · show aR_ (nn_ s1 (aN_ s) (some kc) (nI (tkp T eo n p))) (aN_ s) 105 = none
    unfold nn_
    rw [aR_awI, aR_awI, aR_awR, if_neg (by omega), aR_awR, if_neg (by omega)]
    exact rz 105
  · show aR_ (nn_ s1 (aN_ s) (some kc) (nI (tkp T eo n p))) (aN_ s) 106 = none
    unfold nn_
    rw [aR_awI, aR_awI, aR_awR, if_neg (by omega), aR_awR, if_neg (by omega)]
    exact rz 106
end cmk
