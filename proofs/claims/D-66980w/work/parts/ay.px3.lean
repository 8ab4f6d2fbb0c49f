/-! ===== the two parsers side by side: rows of relations, one level ===== -/
section px3
variable {T : List tk_} {eo : Option Nat} {n : Nat} {V : Nat → Int32} {L : List (List Int32)} {lx : Bool} {ids : List Nat} {iE x TL IL GS SL : Nat}
variable {s s' s0 : as_} {i kc lo p dp : Nat} {v : cp_w} {l : cr_} {us : List (List Int32)} {its : List Nat} {gl : List ((List Int32 ⊕ Int32) × Option Nat)}
theorem nn5_TG {pl : Int32} (hN : 4000 ≤ aN_ s) : TG (nn5_ (a_nw 5 s).2 (aN_ s) (some kc) pl) (aN_ s) (.inner (aN_ s) kc (pl, pl, 0, [], 0, some (aN_ s + 1, [], 0, 0, 0, 0)) .leaf .leaf) ∧ Kp (fun _ => False) s (nn5_ (a_nw 5 s).2 (aN_ s) (some kc) pl) ∧ aC_ (nn5_ (a_nw 5 s).2 (aN_ s) (some kc) pl) = aC_ s + 2 ∧ aZ_ (nn5_ (a_nw 5 s).2 (aN_ s) (some kc) pl) = aZ_ s + 17 ∧ aN_ (nn5_ (a_nw 5 s).2 (aN_ s) (some kc) pl) = aN_ s + 2 := by
  have k1 : aK_ (a_nw 5 s).2 (aN_ s) = (5, 0) := by
    show aK_ (anew s (5, 0)) (aN_ s) = _
    rw [aK_anew, if_pos ⟨hN, rfl⟩]
  have iz : ∀ k, aI_ (a_nw 5 s).2 (aN_ s) k = 0 := fun k => by
    show aI_ (anew s (5, 0)) (aN_ s) k = 0
    rw [aI_anew, if_pos ⟨hN, rfl⟩]
  have rz : ∀ k, aR_ (a_nw 5 s).2 (aN_ s) k = none := fun k => by
    show aR_ (anew s (5, 0)) (aN_ s) k = none
    rw [aR_anew, if_pos rfl]
  have K1 : Kp (fun _ => False) s (nn_ (a_nw 5 s).2 (aN_ s) (some kc) pl) := Kp_I (Kp_I (Kp_R (Kp_R (M := fun _ => False) (Kp_new Kp_rf (5, 0)) 103 _ (Or.inr (Nat.le_refl _))) 99 _ (Or.inr (Nat.le_refl _))) 100 _ (Or.inr (Nat.le_refl _))) 101 _ (Or.inr (Nat.le_refl _))
  have K2 : Kp (fun _ => False) s (nn5_ (a_nw 5 s).2 (aN_ s) (some kc) pl) := Kp_R (Kp_L (Kp_new K1 (36, 0)) [] (Or.inr (Nat.le_succ _))) 108 _ (Or.inr (Nat.le_refl _))
  have eI : ∀ k, aI_ (nn5_ (a_nw 5 s).2 (aN_ s) (some kc) pl) (aN_ s) k = if k = 100 ∨ k = 101 then pl else 0 := fun k => by
    show aI_ (anew (nn_ (a_nw 5 s).2 (aN_ s) (some kc) pl) (36, 0)) (aN_ s) k = _
    rw [aI_anew, if_neg (fun q => by have h : aN_ s = aN_ s + 1 := q.2; omega)]
    unfold nn_
    rw [aI_awI]
    by_cases c1 : k = 101
    · rw [if_pos ⟨hN, rfl, c1⟩, if_pos (Or.inr c1)]
    · rw [if_neg (fun q => c1 q.2.2), aI_awI]
      by_cases c0 : k = 100
      · rw [if_pos ⟨hN, rfl, c0⟩, if_pos (Or.inl c0)]
      · rw [if_neg (fun q => c0 q.2.2), aI_awR, aI_awR, if_neg (by omega)]
        exact iz k
  have eR : ∀ k, aR_ (nn5_ (a_nw 5 s).2 (aN_ s) (some kc) pl) (aN_ s) k = if k = 108 then some (aN_ s + 1) else if k = 99 then some kc else if k = 103 then some 1010 else none := fun k => by
    show aR_ (awR (awL (a_nw 36 (nn_ (a_nw 5 s).2 (aN_ s) (some kc) pl)).2 (aN_ s + 1) []) (aN_ s) 108 (some (aN_ s + 1))) (aN_ s) k = _
    rw [aR_awR]
    by_cases c1 : k = 108
    · rw [if_pos ⟨rfl, c1⟩, if_pos c1]
    · rw [if_neg (fun q => c1 q.2), if_neg c1]
      show aR_ (anew (nn_ (a_nw 5 s).2 (aN_ s) (some kc) pl) (36, 0)) (aN_ s) k = _
      rw [aR_anew, if_neg (fun q => by have h : aN_ s = aN_ s + 1 := q; omega)]
      unfold nn_
      rw [aR_awI, aR_awI, aR_awR]
      by_cases c2 : k = 99
      · rw [if_pos ⟨rfl, c2⟩, if_pos c2]
      · rw [if_neg (fun q => c2 q.2), if_neg c2, aR_awR]
        by_cases c3 : k = 103
        · rw [if_pos ⟨rfl, c3⟩, if_pos c3]
        · rw [if_neg (fun q => c3 q.2), if_neg c3]
          exact rz k
  have eK : aK_ (nn5_ (a_nw 5 s).2 (aN_ s) (some kc) pl) (aN_ s) = (5, 0) := by
    show aK_ (anew (nn_ (a_nw 5 s).2 (aN_ s) (some kc) pl) (36, 0)) (aN_ s) = _
    rw [aK_anew, if_neg (fun q => by have h : aN_ s = aN_ s + 1 := q.2; omega)]
    exact k1
  have eK2 : aK_ (nn5_ (a_nw 5 s).2 (aN_ s) (some kc) pl) (aN_ s + 1) = (36, 0) := by
    show aK_ (anew (nn_ (a_nw 5 s).2 (aN_ s) (some kc) pl) (36, 0)) (aN_ s + 1) = _
    rw [aK_anew, if_pos ⟨(by show 4000 ≤ aN_ s + 1; omega), rfl⟩]
  refine ⟨⟨⟨⟨⟨hN, by show aN_ s < aN_ s + 2; omega⟩, ?_, ⟨?_, ?_, ?_, ?_⟩, ?_, ⟨eK, ?_, ⟨⟨by omega, by show aN_ s + 1 < aN_ s + 2; omega, eK2⟩, [], ?_, trivial⟩, ?_, ?_, ?_, ?_⟩⟩, ⟨?_, ?_, ?_⟩, trivial, trivial⟩, by simp [idl_, nlI], by simp [idl_, nlI]⟩, K2, rfl, rfl, rfl⟩
  · rw [eR]; rfl
  · rw [eI]; rfl
  · rw [eI]; rfl
  · rw [eI]; rfl
  · rw [eI]; rfl
  · rw [eR]
    exact St_c 1010 rfl (by omega) (by show 4000 ≤ aN_ s + 2; omega)
  · rw [eR]; rfl
  · show aL_ (awL (a_nw 36 (nn_ (a_nw 5 s).2 (aN_ s) (some kc) pl)).2 (aN_ s + 1) []) (aN_ s + 1) = _
    rw [aL_awL, if_pos rfl]
    rfl
  · rw [eI]; rfl
  · rw [eI]; rfl
  · rw [eI]; rfl
  · rw [eI]; rfl
  · rw [eR]; rfl
  · rw [eR]; rfl
  · rw [eR]; rfl
/-- a new node with a list of names -/
theorem C_mk5 (d : Nat) {pl : Int32} (hP : PSt T eo n ids iE x TL IL GS SL s p dp us its gl) : ∃ s', (∀ K : as_ → cx_O as_, (cx_bV cx_th (aE (d + 3) 309 [vr_ (some (a_nw 5 s).1), vr_ (some kc), vi_ pl] (a_nw 5 s).2) K) = K s') ∧ PSt T eo n ids iE x TL IL GS SL s' p dp us its gl ∧ TG s' (aN_ s) (.inner (aN_ s) kc (pl, pl, 0, [], 0, some (aN_ s + 1, [], 0, 0, 0, 0)) .leaf .leaf) ∧ Kp (fun _ => False) s s' ∧ aC_ s' = aC_ s + 2 ∧ aZ_ s' = aZ_ s + 17 ∧ aN_ s' = aN_ s + 2 := by
  have hN : 4000 ≤ aN_ s := by have := hP.1.1; omega
  obtain ⟨h1, h2, h3, h4, h5⟩ := nn5_TG (s := s) (kc := kc) (pl := pl) hN
  have k1 : (aK_ (a_nw 5 s).2 (aN_ s)).1 = 5 := by
    show (aK_ (anew s (5, 0)) (aN_ s)).1 = _
    rw [aK_anew, if_pos ⟨hN, rfl⟩]
  refine ⟨_, fun K => ?_, PSt_Kp hP h2 (fun _ q => q.elim) (fun _ q => q.elim), h1, h2, h3, h4, h5⟩
  rw [show aE (d + 3) 309 [vr_ (some (a_nw 5 s).1), vr_ (some kc), vi_ pl] (a_nw 5 s).2 = _ from y_new5 d k1 (Nat.lt_succ_self _), cV_k]
  rfl
/-- one name more -/
theorem TG_nadd {pl fs br va : Int32} {tx : List Int32} {nl : Nat} {ws : List (Int32 × List Int32)} {fl : Int32 × Int32 × Int32 × Int32} {t : Nat} {k qp ln w : Int32} {txt tag : List Int32} (h : TG s lo (.inner i kc (pl, fs, br, tx, va, some (nl, ws, fl)) l .leaf)) (t1 : CT s t k qp ln w txt tag) : TG (al_add s nl (some t)) lo (.inner i kc (pl, fs, br, tx, va, some (nl, ws ++ [(qp, txt)], fl)) l .leaf) ∧ Kp (fun a => a = nl) s (al_add s nl (some t)) := by
  have hk : Kp (fun a => a = nl) s (al_add s nl (some t)) := Kp_L Kp_rf _ (Or.inl rfl)
  refine ⟨?_, hk⟩
  obtain ⟨⟨⟨b, h3, h4, h5, g1, g2, ⟨⟨n1, n2, n3⟩, jds, n4, n5⟩, g4⟩, hr, hl, _⟩, h2, h6⟩ := h
  have hM : ∀ a, a = nl → (aK_ s a).1 ≠ 26 ∧ (aK_ s a).1 ≠ 14 := fun a q => by subst q; rw [n3]; decide
  have hnl : nl ∉ idl_ l := by simp [idl_, nlI] at h2; exact h2.2.1
  refine ⟨⟨⟨b, h3, h4, St_Kp h5 hk (fun a q => (hM a q).1), g1, g2, ⟨⟨n1, n2, n3⟩, jds ++ [t], ?_, ?_⟩, g4⟩, hr, NR_Kp hk hM hl (fun a ha q => hnl (q ▸ ha)), trivial⟩, by simpa [idl_, nlI] using h2, by simpa [idl_, nlI] using h6⟩
  · show aL_ (awL s nl _) nl = _
    rw [aL_awL, if_pos rfl, n4, List.map_append]
    rfl
  · exact NLs_sn ⟨k, ln, w, tag, CT_Kp t1 hk hM⟩ (NLs_Kp hk hM n5)
theorem C_nadd (d : Nat) {pl fs br va : Int32} {tx : List Int32} {nl : Nat} {ws : List (Int32 × List Int32)} {fl : Int32 × Int32 × Int32 × Int32} {t : Nat} {k qp ln w : Int32} {txt tag : List Int32} {Kc : Int32 → as_ → cx_O as_} (hP : PSt T eo n ids iE x TL IL GS SL s p dp us its gl) (hw : Lw x TL IL GS SL lo) (h : TG s lo (.inner i kc (pl, fs, br, tx, va, some (nl, ws, fl)) l .leaf)) (t1 : CT s t k qp ln w txt tag) : ((a_dp 73 (some nl) s).bind fun m8 => cx_bI cx_th (aE (d + 1) m8 [vr_ (some nl), vr_ (some t)] s) Kc) = Kc 1 (al_add s nl (some t)) ∧ PSt T eo n ids iE x TL IL GS SL (al_add s nl (some t)) p dp us its gl := by
  have n3 := h.1.1.2.2.2.2.2.2.1.1.2.2
  have hk := (TG_nadd h t1).2
  refine ⟨?_, PSt_hi hP hw hk (fun a q => by subst q; rw [n3]; decide) (fun a q => by subst q; exact h.2.2 _ (by simp [idl_, nlI]))⟩
  rw [f_dp (f := 73) (c := 36) (by rw [n3]) rfl, Option.bind_some, l_add, cI_k]
theorem cf_sr (y : Nat) (t : tr_) : cf T eo n (sr_r y t) = cf T eo n t := by cases t <;> rfl
theorem rl_sn : ∀ (a b : tr_), rlT (sn_ a b) = rlT a ++ rlT b
  | .leaf, _ => rfl
  | .inner _ _ v _ r, b => by
    show (0, sgt_ v.2.2.1) :: rlT (sn_ r b) = _
    rw [rl_sn r b]
    rfl
theorem sg_tx : ((List.range 37).all fun k => decide (k < 25) || decide (30 < k) || decide (kw_ (sgt_ k) ≠ k)) = true := by decide +kernel
theorem kw_no : (KW_.all fun w => decide (kw_ w < 25) || decide (30 < kw_ w)) = true := by decide +kernel
theorem tkx_sg {s1 : as_} (hT : TA s1 TL ids iE T eo n) (h : 25 ≤ Kn T p ∧ Kn T p ≤ 30) : tkx T p = sgt_ (Kn T p) := by
  unfold tkx Kn at *
  cases hy : T[p]? with
  | none => rw [hy] at h; dsimp only at h; omega
  | some y =>
    rw [hy] at h
    dsimp only at h ⊢
    rcases cw_cs (tk_v hT hy) with ⟨e1, e2⟩ | ⟨e1, e2⟩ | ⟨e1, e2⟩ | ⟨e1, e2, e3, e4⟩ | ⟨e1, e2, e3, e4, e5⟩
    · omega
    · omega
    · omega
    · exact e4
    · have hs := List.all_eq_true.mp kw_no _ e1
      simp only [Bool.or_eq_true, decide_eq_true_eq] at hs
      omega
theorem lv_5 {k : Nat} (h : lv_ k = 5) : 25 ≤ k ∧ k ≤ 30 := by
  unfold lv_ at h
  repeat' (split at h)
  all_goals first | omega | skip
end px3
