/-! ===== the component's parser: DO, THEN or none ===== -/
section cthen
variable {s s' : as_} {x TL IL GS SL p dp iE n : Nat} {ids : List Nat} {T : List tk_} {eo : Option Nat}
theorem y_skipx (d : Nat) (h : CP s x TL IL GS SL p dp) (hT : TA s TL ids iE T eo n) (hp : p ≤ T.length) {c : Nat} (hc : ak_K c = (26, 0)) (hc3 : c < 3000) : aE (d + 4) 290 [vr_ (some x), vr_ (some c)] s = if isx T eo p c = true then some (.inl (some (vi_ 1)), awI s x 94 (nI (p + 1))) else some (.inl (some (vi_ 0)), s) := by
  have h3 := h.1.2.2
  rw [ce_X13_skip, f_dp (f := 271) h3 rfl, Option.bind_some, y_isx d h hT hp hc hc3, cI_k]
  cases q : isx T eo p c with
  | true => rw [if_pos rfl, if_neg (by decide), f_gi (f := 94) h3 rfl, Option.bind_some, h.2.2.1, nI_1, f_pi (f := 94) h3 rfl rfl, Option.bind_some]
  | false => rw [if_pos (show zb_ false = 0 from rfl), if_neg (show ¬ (false = true) by decide)]
theorem cm_kw : (KW_.all fun w => decide (sg_commands (sx_ w sl_commands) = zb_ (dl_ (kw_ w))) && !decide (kw_ w = 10)) = true := by decide +kernel
theorem dl_sg : ((List.range 37).all fun k => decide (dl_ k = decide (k = 10))) = true := by decide +kernel
theorem dl_at : ∀ k, k = 1 ∨ k = 2 ∨ k = 4 → dl_ k = decide (k = 10) := by
  rintro k (rfl | rfl | rfl) <;> rfl
theorem dl_cs (hT : TA s TL ids iE T eo n) : (tkk T eo p = 4 ∧ sg_commands (sx_ (tkx T p) sl_commands) = zb_ (dl_ (Kn T p)) ∧ Kn T p ≠ 10) ∨ (tkk T eo p ≠ 4 ∧ dl_ (Kn T p) = decide (Kn T p = 10)) := by
  unfold tkk tkx Kn
  cases hy : T[p]? with
  | none =>
    dsimp only
    refine Or.inr ⟨?_, rfl⟩
    rcases eK_n eo with e | e <;> rw [e] <;> decide
  | some y =>
    dsimp only
    rcases cw_cs (tk_v hT hy) with ⟨e1, e2⟩ | ⟨e1, e2⟩ | ⟨e1, e2⟩ | ⟨e1, e2, e3, e4⟩ | ⟨e1, e2, e3, e4, e5⟩
    · exact Or.inr ⟨by rw [e2]; decide, dl_at _ (by omega)⟩
    · exact Or.inr ⟨by rw [e2]; decide, dl_at _ (by omega)⟩
    · exact Or.inr ⟨by rw [e2]; decide, dl_at _ (by omega)⟩
    · rw [e3]
      have hs := List.all_eq_true.mp dl_sg y.1 (by simp; omega)
      simp only [decide_eq_true_eq] at hs
      exact Or.inr ⟨by decide, hs⟩
    · rw [e4, e5]
      have hs := List.all_eq_true.mp cm_kw _ e1
      simp only [Bool.and_eq_true, decide_eq_true_eq, Bool.not_eq_true', decide_eq_false_iff_not] at hs
      rw [← e3] at hs
      exact Or.inl ⟨rfl, hs.1, hs.2⟩
theorem y_then (d : Nat) (h : CP s x TL IL GS SL p dp) (hT : TA s TL ids iE T eo n) (hp : p ≤ T.length) : if Kn T p = 48 then aE (d + 5) 296 [vr_ (some x)] s = some (.inl none, awI s x 94 (nI (p + 1))) else if dl_ (Kn T p) = true then aE (d + 5) 296 [vr_ (some x)] s = some (.inl none, s) else WR 1 8 (fun _ => False) s (aE (d + 5) 296 [vr_ (some x)] s) (nI (tkp T eo n p)) (tkf T eo p) := by
  have h3 := h.1.2.2
  have e2 := is_2 (p := p) hT gd_do
  have f1 := y_skipx d h hT hp (c := 1038) rfl (by omega)
  have f2 := y_skipx d h hT hp (c := 1039) rfl (by omega)
  generalize ho : aE (d + 5) 296 [vr_ (some x)] s = o
  rw [ce_X13_then, f_dp (f := 290) h3 rfl, Option.bind_some, f1] at ho
  cases q1 : isx T eo p 1038 with
  | true =>
    rw [q1, if_pos rfl, cI_k, if_neg (by decide)] at ho
    rw [q1] at e2
    have : Kn T p = 48 := by simpa using e2.symm
    rw [if_pos this]
    exact ho.symm
  | false =>
    rw [q1, if_neg (by decide), cI_k, if_pos rfl, f_dp (f := 290) h3 rfl, Option.bind_some, f2] at ho
    cases q2 : isx T eo p 1039 with
    | true =>
      rw [q2, if_pos rfl, cI_k, if_neg (by decide)] at ho
      rw [q1, q2] at e2
      have : Kn T p = 48 := by simpa using e2.symm
      rw [if_pos this]
      exact ho.symm
    | false =>
      rw [q2, if_neg (by decide), cI_k, if_pos rfl] at ho
      rw [q1, q2] at e2
      have hk : ¬ Kn T p = 48 := by simpa using e2.symm
      rw [if_neg hk]
      obtain ⟨i, ln, e, t⟩ := y_peek (d + 2) h hT hp
      have e' : aE (d + 4) 272 [vr_ (some x)] s = _ := e
      have ki : (aK_ s i).1 = 14 := by rw [t.1.2.2]
      obtain ⟨a, ea, z1, z2, z3⟩ := t.2.2.1
      rw [f_dp (f := 272) h3 rfl, Option.bind_some, e', cR_k, f_gi (f := 84) ki rfl, Option.bind_some, t.2.1.1] at ho
      -- the way of 42
      have k42 : dl_ (Kn T p) = decide (Kn T p = 10) → aJ (d + 5) 296 42 [vr_ (some x)] [] s = o → (if dl_ (Kn T p) = true then o = some (.inl none, s) else WR 1 8 (fun _ => False) s o (nI (tkp T eo n p)) (tkf T eo p)) := fun hd hj => by
        have e10 : aE (d + 4) 271 [vr_ (some x), vr_ (some 1051)] s = _ := y_is (d + 1) h hT hp (c := 1051) (k := 10) rfl (by omega) (by decide +kernel)
        rw [cj_X13_then_42, f_dp (f := 271) h3 rfl, Option.bind_some, e10, cI_k] at hj
        rw [hd]
        by_cases c10 : Kn T p = 10
        · rw [if_neg (by simp [c10, zb_])] at hj
          rw [if_pos (by simp [c10])]
          exact hj.symm
        · rw [if_pos (by simp [c10, zb_])] at hj
          rw [if_neg (by simp [c10]), ← hj]
          exact y_fail (d + 1) h hT hp
      rcases dl_cs (p := p) hT with ⟨d1, d2, d3⟩ | ⟨d1, d2⟩
      · have f3 : aE (d + 4) 297 [vr_ (some a)] s = _ := s_commands (d + 2) z1 z3
        rw [if_pos d1, f_gr (f := 88) ki rfl, Option.bind_some, ea, f3, cI_k, d2] at ho
        cases hd : dl_ (Kn T p) with
        | true =>
          rw [hd, if_neg (by decide)] at ho
          rw [if_pos rfl]
          exact ho.symm
        | false =>
          rw [hd, if_pos (show zb_ false = 0 from rfl)] at ho
          have := k42 (by rw [hd]; simp [d3]) ho
          rw [hd] at this
          exact this
      · rw [if_neg d1] at ho
        exact k42 d2 ho
end cthen
