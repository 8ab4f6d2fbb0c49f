/-! ===== the component's scanner: made and run ===== -/
section clexC
variable {s s' s0 : as_} {A : Nat} {t : Nat → Nat} {n : Nat}
theorem x_lexNew (d : Nat) (hA : 4000 ≤ A ∧ A < aN_ s) (kA : aK_ s A = (201, 6000)) (hn : n ≤ 6000) (ht : ∀ i, i < n → t i < 256 ∧ aI_ s A i = (nI (t i)).toInt8.toInt32) : ∃ s', aE (d + 2) 250 [vr_ (some (a_nw 4 s).1), vr_ (some A), vi_ (nI n)] (a_nw 4 s).2 = some (.inl none, s') ∧ LX s' (aN_ s) A (aN_ s + 1) (aN_ s + 2) t n 0 0 [] [] ∧ Kp (fun _ => False) s s' ∧ Rm 4 64 s s' := by
  have hx : ¬ A = aN_ s := by omega
  have hx1 : ¬ A = aN_ s + 1 := by omega
  have hx2 : ¬ A = aN_ s + 2 := by omega
  have q0 : (a_nw 4 s).1 = aN_ s := rfl
  have q1 : (a_nw 36 (a_nw 4 s).2).1 = aN_ s + 1 := rfl
  have k1 : aK_ (a_nw 4 s).2 (aN_ s) = (4, 0) := by
    show aK_ (anew s (4, 0)) (aN_ s) = _
    rw [aK_anew, if_pos ⟨by omega, rfl⟩]
  have k2 : aK_ (a_nw 36 (a_nw 4 s).2).2 (aN_ s) = (4, 0) := by
    show aK_ (anew (a_nw 4 s).2 (36, 0)) (aN_ s) = _
    rw [aK_anew, if_neg (by rintro ⟨_, q⟩; have : aN_ (a_nw 4 s).2 = aN_ s + 1 := rfl; omega)]
    exact k1
  have t2 : aK_ (a_nw 36 (a_nw 4 s).2).2 (aN_ s + 1) = (36, 0) := by
    show aK_ (anew (a_nw 4 s).2 (36, 0)) (aN_ s + 1) = _
    rw [aK_anew, if_pos ⟨by omega, rfl⟩]
  let s3 : as_ := awR (awL (a_nw 36 (a_nw 4 s).2).2 (aN_ s + 1) []) (aN_ s) 82 (some (aN_ s + 1))
  have k3 : aK_ (a_nw 27 s3).2 (aN_ s) = (4, 0) := by
    show aK_ (anew s3 (27, 0)) (aN_ s) = _
    rw [aK_anew, if_neg (by rintro ⟨_, q⟩; have : aN_ s3 = aN_ s + 2 := rfl; omega)]
    exact k2
  have t3 : aK_ (a_nw 27 s3).2 (aN_ s + 1) = (36, 0) := by
    show aK_ (anew s3 (27, 0)) (aN_ s + 1) = _
    rw [aK_anew, if_neg (by rintro ⟨_, q⟩; have : aN_ s3 = aN_ s + 2 := rfl; omega)]
    exact t2
  have u3 : aK_ (a_nw 27 s3).2 (aN_ s + 2) = (27, 0) := by
    show aK_ (anew s3 (27, 0)) (aN_ s + 2) = _
    rw [aK_anew, if_pos ⟨by omega, rfl⟩]
  have A3 : aK_ (a_nw 27 s3).2 A = (201, 6000) := by
    show aK_ (anew s3 (27, 0)) A = _
    rw [aK_anew, if_neg (by rintro ⟨_, q⟩; exact hx2 q)]
    show aK_ (anew (a_nw 4 s).2 (36, 0)) A = _
    rw [aK_anew, if_neg (by rintro ⟨_, q⟩; exact hx1 q)]
    show aK_ (anew s (4, 0)) A = _
    rw [aK_anew, if_neg (by rintro ⟨_, q⟩; exact hx q)]
    exact kA
  have iA : ∀ i, aI_ (a_nw 27 s3).2 A i = aI_ s A i := fun i => by
    show aI_ (anew s3 (27, 0)) A i = _
    rw [aI_anew, if_neg (by rintro ⟨_, q⟩; exact hx2 q)]
    show aI_ (anew (a_nw 4 s).2 (36, 0)) A i = _
    rw [aI_anew, if_neg (by rintro ⟨_, q⟩; exact hx1 q)]
    show aI_ (anew s (4, 0)) A i = _
    rw [aI_anew, if_neg (by rintro ⟨_, q⟩; exact hx q)]
  have ix : ∀ i, aI_ (a_nw 27 s3).2 (aN_ s) i = 0 := fun i => by
    show aI_ (anew s3 (27, 0)) (aN_ s) i = _
    rw [aI_anew, if_neg (by rintro ⟨_, q⟩; have : aN_ s3 = aN_ s + 2 := rfl; omega)]
    show aI_ (anew (a_nw 4 s).2 (36, 0)) (aN_ s) i = _
    rw [aI_anew, if_neg (by rintro ⟨_, q⟩; have : aN_ (a_nw 4 s).2 = aN_ s + 1 := rfl; omega)]
    show aI_ (anew s (4, 0)) (aN_ s) i = _
    rw [aI_anew, if_pos ⟨by omega, rfl⟩]
  have kx2 : (aK_ (awL (a_nw 36 (a_nw 4 s).2).2 (aN_ s + 1) []) (aN_ s)).1 = 4 := by show (aK_ (a_nw 36 (a_nw 4 s).2).2 (aN_ s)).1 = 4; rw [k2]
  let s4 : as_ := awC (awS (a_nw 27 s3).2 (aN_ s + 2) []) 1 16
  have kx4 : (aK_ s4 (aN_ s)).1 = 4 := by show (aK_ (a_nw 27 s3).2 (aN_ s)).1 = 4; rw [k3]
  have K3 : Kp (fun _ => False) s s3 := Kp_R (Kp_L (Kp_new (Kp_new Kp_rf (4, 0)) (36, 0)) _ (Or.inr (by omega))) 82 _ (Or.inr (Nat.le_refl _))
  have K4 : Kp (fun _ => False) s s4 := Kp_S (s := (a_nw 27 s3).2) (Kp_new K3 (27, 0)) [] (Or.inr (by omega))
  refine ⟨awI (awR (awR s4 (aN_ s) 83 (some (aN_ s + 2))) (aN_ s) 78 (some A)) (aN_ s) 79 (nI n), ?_, ?_, ?_, ?_⟩
  · rw [ce_X10_init, l_obj, cV_k, q0, l_newL, cV_k, q1, f_pr (f := 82) kx2 rfl, Option.bind_some]
    show cx_bV cx_th (aE (d + 1) 117 [vr_ (some (a_nw 27 s3).1)] (a_nw 27 s3).2) _ = _
    rw [l_sbInit, cV_k]
    show (a_pr 83 (some (aN_ s)) (some (aN_ s + 2)) s4).bind _ = _
    rw [f_pr (f := 83) kx4 rfl, Option.bind_some, f_pr (f := 78) (s := awR s4 (aN_ s) 83 (some (aN_ s + 2))) kx4 rfl, Option.bind_some, f_pi (f := 79) (s := awR (awR s4 (aN_ s) 83 (some (aN_ s + 2))) (aN_ s) 78 (some A)) kx4 rfl rfl, Option.bind_some]
  · refine ⟨⟨⟨by omega, ?_⟩, ⟨hA.1, ?_⟩, ⟨by omega, ?_⟩, ⟨by omega, ?_⟩⟩, ⟨kx4, A3, ?_, ?_⟩, ⟨?_, ?_, ?_⟩, ⟨?_, ?_, ?_⟩, ⟨hn, fun i hi => ⟨(ht i hi).1, ?_⟩⟩, ?_, ?_⟩
    · show aN_ s < aN_ s + 3; omega
    · show A < aN_ s + 3; omega
    · show aN_ s + 1 < aN_ s + 3; omega
    · show aN_ s + 2 < aN_ s + 3; omega
    · show (aK_ (a_nw 27 s3).2 (aN_ s + 1)).1 = 36; rw [t3]
    · show (aK_ (a_nw 27 s3).2 (aN_ s + 2)).1 = 27; rw [u3]
    · rw [aI_awI, if_pos ⟨by omega, rfl, rfl⟩]
    · rw [aI_awI, if_neg (by omega)]; exact ix 80
    · rw [aI_awI, if_neg (by omega)]; exact ix 81
    · rw [aR_awI, aR_awR, if_pos ⟨rfl, rfl⟩]
    · rw [aR_awI, aR_awR, if_neg (by omega), aR_awR, if_neg (by omega)]
      show aR_ (anew s3 (27, 0)) (aN_ s) 82 = _
      rw [aR_anew, if_neg (by have : aN_ s3 = aN_ s + 2 := rfl; omega)]
      show aR_ (awR (awL (a_nw 36 (a_nw 4 s).2).2 (aN_ s + 1) []) (aN_ s) 82 (some (aN_ s + 1))) (aN_ s) 82 = _
      rw [aR_awR, if_pos ⟨rfl, rfl⟩]
    · rw [aR_awI, aR_awR, if_neg (by omega), aR_awR, if_pos ⟨rfl, rfl⟩]
    · rw [aI_awI, if_neg (by rintro ⟨_, q, _⟩; exact hx q)]
      exact (iA i).trans (ht i hi).2
    · show aS_ (awS (a_nw 27 s3).2 (aN_ s + 2) []) (aN_ s + 2) = []
      rw [aS_awS, if_pos ⟨by omega, rfl⟩]
    · show aL_ (anew s3 (27, 0)) (aN_ s + 1) = []
      rw [aL_anew, if_neg (by have : aN_ s3 = aN_ s + 2 := rfl; omega)]
      show aL_ (awL (a_nw 36 (a_nw 4 s).2).2 (aN_ s + 1) []) (aN_ s + 1) = []
      rw [aL_awL, if_pos rfl]
  · exact Kp_I (Kp_R (Kp_R K4 83 _ (Or.inr (Nat.le_refl _))) 78 _ (Or.inr (Nat.le_refl _))) 79 _ (Or.inr (Nat.le_refl _))
  · refine ⟨?_, ?_⟩
    · show aC_ s + 1 + 1 + 1 + 1 ≤ _; omega
    · show aZ_ s + az_ 4 + az_ 36 + az_ 27 + 16 ≤ _
      have e1 : az_ 4 + az_ 36 + az_ 27 ≤ 48 := by decide
      omega
/-- all tokens of a text -/
theorem x_lex (d : Nat) {s : as_} {x TL SB : Nat} (h : LX s x A TL SB t n 0 0 [] []) : ∃ s' ids iE p' line' sb', aE (d + 6) 251 [vr_ (some x)] s = some (.inl none, s') ∧ LX s' x A TL SB t n p' line' sb' (ids ++ [iE]) ∧ TKs s' ids (sc_ t n (n + 1) 0 0 0 []).1 ∧ CT s' iE (eK_ (sc_ t n (n + 1) 0 0 0 []).2) (nI (eP_ n (sc_ t n (n + 1) 0 0 0 []).2)) (nI line') 0 (ak_S 1010) [] ∧ Kp (fun a => a = x ∨ a = SB ∨ a = TL) s s' ∧ Rm (8 * n + 8) (60 * n + 60) s s' := by
  have hT : TKs s [] [] := ⟨rfl, fun j id y h1 => by simp at h1⟩
  obtain ⟨s', ids, iE, p', line', sb', a1, a2, a3, a4, a5, a6⟩ := x_all_0 d (n + 1) 0 0 0 (n + 1) s [] [] [] (by omega) (by omega) (by omega) (by omega) (by omega) h hT (fun i1 il e => by simp at e) (by simp)
  refine ⟨s', ids, iE, p', line', sb', ?_, a2, a3, a4, a5, Rm_wk a6 (by omega) (by omega)⟩
  exact ((ce_X10_all (d + 5) x s).trans (cj_X10_all_0 (d + 5) x s).symm).trans a1
end clexC
