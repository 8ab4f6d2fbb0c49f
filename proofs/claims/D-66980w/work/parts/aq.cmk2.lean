/-! ===== the component's parser: a node is made for a token taken before ===== -/
section cmk2
variable {s s' : as_} {i kc : Nat} {k pl ln v : Int32} {txt tag : List Int32}
theorem nn_ND (hN : 4000 ≤ aN_ s) : ND (nn_ (a_nw 9 s).2 (aN_ s) (some kc) pl) (aN_ s) kc pl pl 0 [] 0 ∧ Ch (nn_ (a_nw 9 s).2 (aN_ s) (some kc) pl) (aN_ s) [] ∧ Kp (fun _ => False) s (nn_ (a_nw 9 s).2 (aN_ s) (some kc) pl) ∧ Rm 1 (az_ 9) s (nn_ (a_nw 9 s).2 (aN_ s) (some kc) pl) ∧ aN_ (nn_ (a_nw 9 s).2 (aN_ s) (some kc) pl) = aN_ s + 1 := by
  have k1 : aK_ (a_nw 9 s).2 (aN_ s) = (9, 0) := by
    show aK_ (anew s (9, 0)) (aN_ s) = _
    rw [aK_anew, if_pos ⟨hN, rfl⟩]
  have iz : ∀ k, aI_ (a_nw 9 s).2 (aN_ s) k = 0 := fun k => by
    show aI_ (anew s (9, 0)) (aN_ s) k = 0
    rw [aI_anew, if_pos ⟨hN, rfl⟩]
  have rz : ∀ k, aR_ (a_nw 9 s).2 (aN_ s) k = none := fun k => by
    show aR_ (anew s (9, 0)) (aN_ s) k = none
    rw [aR_anew, if_pos rfl]
  have K2 : Kp (fun _ => False) s (nn_ (a_nw 9 s).2 (aN_ s) (some kc) pl) := Kp_I (Kp_I (Kp_R (Kp_R (M := fun _ => False) (Kp_new Kp_rf (9, 0)) 103 _ (Or.inr (Nat.le_refl _))) 99 _ (Or.inr (Nat.le_refl _))) 100 _ (Or.inr (Nat.le_refl _))) 101 _ (Or.inr (Nat.le_refl _))
  refine ⟨⟨⟨hN, Nat.lt_succ_self _, k1⟩, ?_, ⟨?_, ?_, ?_, ?_⟩, ?_, ?_⟩, ⟨?_, ?_⟩, K2, ⟨Nat.le_refl _, Nat.le_refl _⟩, rfl⟩
  · unfold nn_
    rw [aR_awI, aR_awI, aR_awR, if_pos ⟨rfl, rfl⟩]
  · unfold nn_
    rw [aI_awI, if_neg (by omega), aI_awI, if_pos ⟨hN, rfl, rfl⟩]
  · unfold nn_
    rw [aI_awI, if_pos ⟨hN, rfl, rfl⟩]
  · unfold nn_
    rw [aI_awI, if_neg (by omega), aI_awI, if_neg (by omega), aI_awR, aI_awR]
    exact iz 102
  · unfold nn_
    rw [aI_awI, if_neg (by omega), aI_awI, if_neg (by omega), aI_awR, aI_awR]
    exact iz 104
  · have er : aR_ (nn_ (a_nw 9 s).2 (aN_ s) (some kc) pl) (aN_ s) 103 = some 1010 := by
      unfold nn_
      rw [aR_awI, aR_awI, aR_awR, if_neg (by omega), aR_awR, if_pos ⟨rfl, rfl⟩]
    rw [er]
    exact St_c 1010 rfl (by omega) (by show 4000 ≤ aN_ s + 1; omega)
  · unfold nn_
    rw [aR_awI, aR_awI, aR_awR, if_neg (by omega), aR_awR, if_neg (by omega)]
    exact rz 107
  · show aR_ (nn_ (a_nw 9 s).2 (aN_ s) (some kc) pl) (aN_ s) 105 = none
    unfold nn_
    rw [aR_awI, aR_awI, aR_awR, if_neg (by omega), aR_awR, if_neg (by omega)]
    exact rz 105
  · show aR_ (nn_ (a_nw 9 s).2 (aN_ s) (some kc) pl) (aN_ s) 106 = none
    unfold nn_
    rw [aR_awI, aR_awI, aR_awR, if_neg (by omega), aR_awR, if_neg (by omega)]
    exact rz 106
theorem y_mk2 (d : Nat) (t : CT s i k pl ln v txt tag) (K : as_ → cx_O as_) : ((a_gi 85 (some i) (a_nw 9 s).2).bind fun v4 => cx_bV cx_th (aE (d + 2) 305 [vr_ (some (a_nw 9 s).1), vr_ (some kc), vi_ v4] (a_nw 9 s).2) K) = K (nn_ (a_nw 9 s).2 (aN_ s) (some kc) pl) := by
  have hN : 4000 ≤ aN_ s := by have := t.1; omega
  have c2 : (aK_ s i).1 = 14 := by rw [t.1.2.2]
  have k1 : aK_ (a_nw 9 s).2 (aN_ s) = (9, 0) := by
    show aK_ (anew s (9, 0)) (aN_ s) = _
    rw [aK_anew, if_pos ⟨hN, rfl⟩]
  rw [f_gi (f := 85) (nw_K c2 t.1.2.1) rfl, Option.bind_some, nw_I t.1.2.1, t.2.1.2.1]
  have en : aE (d + 2) 305 [vr_ (some (a_nw 9 s).1), vr_ (some kc), vi_ pl] (a_nw 9 s).2 = _ := y_new d (id := aN_ s) (s := (a_nw 9 s).2) (Or.inl (by rw [k1])) (some kc) pl
  rw [en, cV_k]
end cmk2
