/-! ===== the component's parser: a section is shut, levels, declarations ===== -/
section csec2
variable {s s' : as_} {x TL IL GS SL p dp iE n : Nat} {ids : List Nat} {T : List tk_} {eo : Option Nat} {M : Nat → Prop} {us : List (List Int32)} {u : List Int32}
/-- the memory with the last section shut -/
def shS (s : as_) (SL : Nat) : as_ := awL s SL (aL_ s SL).dropLast
theorem shS_SC (hS : SC s SL (us ++ [u])) : SC (shS s SL) SL us := by
  obtain ⟨⟨s1, s2, s3⟩, rs, s4, s5, s6⟩ := hS
  obtain ⟨rs0, a, rfl, h1, h2⟩ := RS_ls s5
  refine ⟨⟨s1, s2, s3⟩, rs0, ?_, ?_, by simp at s6; omega⟩
  · unfold shS
    rw [aL_awL, if_pos rfl, s4, List.map_append]
    simp
  · have hk : Kp (fun b => b = SL) s (shS s SL) := Kp_L Kp_rf _ (Or.inl rfl)
    exact RS_Kp hk (fun b qb => by subst qb; rw [s3]; decide) h1
theorem shS_Kp : Kp (fun b => b = SL) s (shS s SL) := Kp_L Kp_rf _ (Or.inl rfl)
theorem y_closes (d : Nat) (h : CP s x TL IL GS SL p dp) (hT : TA s TL ids iE T eo n) (hS : SC s SL (us ++ [u])) (hne : TL ≠ SL) (hp : p ≤ T.length) : if Kn T p = 11 then (if tkg T p = [] ∨ tkg T p = u then aE (d + 5) 294 [vr_ (some x)] s = some (.inl none, awI (shS s SL) x 94 (nI (p + 1))) else if tkg T p ∈ us then aE (d + 5) 294 [vr_ (some x)] s = some (.inl none, shS s SL) else WR 1 8 (fun b => b = SL) s (aE (d + 5) 294 [vr_ (some x)] s) (nI (tkp T eo n p)) (tkf T eo p)) else WR 1 8 (fun _ => False) s (aE (d + 5) 294 [vr_ (some x)] s) (nI (tkp T eo n p)) (tkf T eo p) := by
  have h3 := h.1.2.2
  have e271 : aE (d + 4) 271 [vr_ (some x), vr_ (some 1075)] s = _ := y_is (d + 1) h hT hp (c := 1075) (k := 11) rfl (by omega) (by decide +kernel)
  generalize ho : aE (d + 5) 294 [vr_ (some x)] s = o
  rw [ce_X13_closes, f_dp (f := 271) h3 rfl, Option.bind_some, e271, cI_k] at ho
  by_cases q : Kn T p = 11
  · rw [if_pos q]
    rw [if_neg (by simp [q, zb_])] at ho
    have hS1 := shS_SC hS
    obtain ⟨⟨s1, s2, s3⟩, rs, s4, s5, s6⟩ := id hS
    obtain ⟨rs0, a, rfl, g1, g2⟩ := RS_ls s5
    have hsl : SL ≠ x := by rintro rfl; omega
    have h1 : CP (shS s SL) x TL IL GS SL p dp := CP_Kp h shS_Kp (fun w => hsl w.symm)
    have hT1 : TA (shS s SL) TL ids iE T eo n := TA_Kp hT shS_Kp (fun b qb => by subst qb; rw [s3]; decide) hne
    have g2' : St (shS s SL) (some a) u := St_Kp g2 shS_Kp (fun b qb => by subst qb; rw [s3]; decide)
    obtain ⟨i, ln, e, t⟩ := y_peek (d + 2) h1 hT1 hp
    have e' : aE (d + 4) 272 [vr_ (some x)] (shS s SL) = _ := e
    have k3 := h1.1.2.2
    have r4 := h.2.1.2.2.2
    have ki : (aK_ (shS s SL) i).1 = 14 := by rw [t.1.2.2]
    obtain ⟨b, eb, z1, z2, z3⟩ := t.2.2.2
    have hl1 : (nI (aL_ s SL).length - 1 : Int32) = nI rs0.length := by
      rw [s4, List.length_map, List.length_append]
      exact nI_pred _
    have hlen : rs0.length < 30000 := by
      have := RS_len s5
      simp at this s6
      omega
    have hrem : aE (d + 4) 81 [vr_ (some SL), vi_ (nI rs0.length)] s = some (.inl (some (vr_ (some a))), shS s SL) := by
      have w := l_rem (d + 3) SL (i := rs0.length) (y := some a) (s := s) (by rw [s4]; simp) (by rw [s4]; simp; omega)
      have we : (aL_ s SL).eraseIdx rs0.length = (aL_ s SL).dropLast := by
        rw [s4, List.map_append]
        simp [List.eraseIdx_append_of_length_le]
      rw [we] at w
      exact w
    have ecs : cx_cst a_io 26 (some a) (shS s SL) = some () := by
      obtain ⟨c, ec, w1, _⟩ := g2'
      cases ec
      unfold cx_cst a_io
      dsimp only
      rw [Option.bind_some, w1]
      rfl
    rw [f_gr (f := 98) h3 rfl, Option.bind_some, Option.bind_some, r4, f_dp (f := 78) s3 rfl, Option.bind_some, l_size, cI_k, hl1, f_dp (f := 81) s3 rfl, Option.bind_some, hrem, cR_k, ecs, Option.bind_some, f_dp (f := 272) k3 rfl, Option.bind_some, e', cR_k, f_gr (f := 90) ki rfl, Option.bind_some, eb, f_dp (f := 104) z1 rfl, Option.bind_some, l_isEmpty, cI_k, z3] at ho
    obtain ⟨i2, ln2, e2, _⟩ := y_take (d + 2) h1 hT1 hp
    have e2' : aE (d + 4) 274 [vr_ (some x)] (shS s SL) = _ := e2
    by_cases c0 : tkg T p = []
    · rw [if_pos (Or.inl c0)]
      rw [c0, if_neg (by decide), f_dp (f := 274) k3 rfl, Option.bind_some, e2', cR_k] at ho
      exact ho.symm
    · have c0' : a_b (tkg T p).isEmpty = 0 := by cases hg : tkg T p with | nil => exact absurd hg c0 | cons _ _ => rfl
      rw [if_pos c0', f_dp (f := 99) z1 rfl, Option.bind_some, l_equals, cI_k, St_key g2', z3] at ho
      by_cases cu : tkg T p = u
      · rw [if_pos (Or.inr cu)]
        rw [if_neg (by rw [cu]; simp [a_b]), f_dp (f := 274) k3 rfl, Option.bind_some, e2', cR_k] at ho
        exact ho.symm
      · have cu' : ¬ u = tkg T p := fun w => cu w.symm
        rw [if_neg (show ¬ (tkg T p = [] ∨ tkg T p = u) from fun w => w.elim c0 cu)]
        rw [if_pos (by simp [cu', a_b])] at ho
        obtain ⟨_, rs1, u4, u5, _⟩ := hS1
        have ekey : a_key (shS s SL) (some b) = some (.inl (tkg T p)) := St_key ⟨b, rfl, z1, z2, z3⟩
        have kS : (aK_ (shS s SL) SL).1 = 36 := s3
        rw [f_gr (f := 98) k3 rfl, Option.bind_some, h1.2.1.2.2.2, f_dp (f := 83) kS rfl, Option.bind_some, l_has (d + 3) SL ekey, cI_k, u4, RS_any (tkg T p) u5] at ho
        by_cases cm : tkg T p ∈ us
        · rw [if_pos cm]
          rw [if_neg (by simp [cm, a_b])] at ho
          exact ho.symm
        · rw [if_neg cm]
          rw [if_pos (by simp [cm, a_b])] at ho
          rw [← ho]
          obtain ⟨s', i, w1, w2, w3, w4, w5⟩ := y_fail (d + 1) h1 hT1 hp
          exact ⟨s', i, w1, w2, w3, Kp_in shS_Kp w4 (fun _ q => q.elim), w5⟩
  · rw [if_neg q]
    rw [if_pos (by simp [q, zb_])] at ho
    rw [← ho]
    exact y_fail (d + 1) h hT hp
theorem y_isOf (d : Nat) (h : CP s x TL IL GS SL p dp) (hT : TA s TL ids iE T eo n) (hp : p ≤ T.length) (v : Int32) : aE (d + 3) 301 [vr_ (some x), vi_ v] s = some (.inl (some (vi_ (zb_ (decide (lvl_ (tkk T eo p) (tkx T p) = v))))), s) := by
  have h3 := h.1.2.2
  obtain ⟨i, ln, e, t⟩ := y_peek d h hT hp
  have ki : (aK_ s i).1 = 14 := by rw [t.1.2.2]
  rw [ce_X13_isOf, f_dp (f := 272) h3 rfl, Option.bind_some, e, cR_k, f_gi (f := 89) ki rfl, Option.bind_some, t.2.1.2.2.2.2]
  by_cases c : lvl_ (tkk T eo p) (tkx T p) = v
  · rw [if_pos c]; simp [c, zb_]
  · rw [if_neg c]; simp [c, zb_]
theorem y_isDecl (d : Nat) (h : CP s x TL IL GS SL p dp) (hT : TA s TL ids iE T eo n) (hp : p ≤ T.length) : aE (d + 4) 292 [vr_ (some x)] s = some (.inl (some (vi_ (zb_ (isD_ (Kn T p))))), s) := by
  have h3 := h.1.2.2
  have e2 := y_is d h hT hp (c := 1072) (k := 40) rfl (by omega) (by decide +kernel)
  have e3 := y_is d h hT hp (c := 1073) (k := 41) rfl (by omega) (by decide +kernel)
  have e4 := y_is d h hT hp (c := 1074) (k := 42) rfl (by omega) (by decide +kernel)
  have e1 := y_is d h hT hp (c := 1071) (k := 43) rfl (by omega) (by decide +kernel)
  rw [ce_X13_isDeclaration, f_dp (f := 271) h3 rfl, Option.bind_some, e2, cI_k]
  by_cases c2 : Kn T p = 40
  · rw [if_neg (by simp [c2, zb_]), c2]; rfl
  rw [if_pos (by simp [c2, zb_]), f_dp (f := 271) h3 rfl, Option.bind_some, e3, cI_k]
  by_cases c3 : Kn T p = 41
  · rw [if_neg (by simp [c3, zb_]), c3]; rfl
  rw [if_pos (by simp [c3, zb_]), f_dp (f := 271) h3 rfl, Option.bind_some, e4, cI_k]
  by_cases c4 : Kn T p = 42
  · rw [if_neg (by simp [c4, zb_]), c4]; rfl
  rw [if_pos (by simp [c4, zb_]), f_dp (f := 271) h3 rfl, Option.bind_some, e1, cI_k]
  by_cases c1 : Kn T p = 43
  · rw [if_neg (by simp [c1, zb_]), c1]; rfl
  rw [if_pos (by simp [c1, zb_])]
  have : isD_ (Kn T p) = false := by
    unfold isD_
    simp [c1, c2, c3, c4]
  rw [this]
  rfl
end csec2
