/-! ===== the component's parser: a token that has two writings ===== -/
def isx (T : List tk_) (eo : Option Nat) (p c : Nat) : Bool := decide ((tkk T eo p = 3 ∨ tkk T eo p = 4) ∧ tkx T p = ak_S c)
/-- two texts of the table stand for one kind of the reference -/
def gd2_ (c c' k : Nat) : Bool := ((List.range 37).all fun j => decide (j < 10) || decide (((sgt_ j = ak_S c ∨ sgt_ j = ak_S c') ∧ j = k) ∨ (¬ sgt_ j = ak_S c ∧ ¬ sgt_ j = ak_S c' ∧ ¬ j = k))) && (KW_.all fun w => decide (((w = ak_S c ∨ w = ak_S c') ∧ kw_ w = k) ∨ (¬ w = ak_S c ∧ ¬ w = ak_S c' ∧ ¬ kw_ w = k))) && decide (10 ≤ k)
section cis2
variable {s s' : as_} {x TL IL GS SL p dp iE n : Nat} {ids : List Nat} {T : List tk_} {eo : Option Nat}
theorem y_isx (d : Nat) (h : CP s x TL IL GS SL p dp) (hT : TA s TL ids iE T eo n) (hp : p ≤ T.length) {c : Nat} (hc : ak_K c = (26, 0)) (hc3 : c < 3000) : aE (d + 3) 271 [vr_ (some x), vr_ (some c)] s = some (.inl (some (vi_ (zb_ (isx T eo p c)))), s) := by
  obtain ⟨i, ln, e, t⟩ := y_peek d h hT hp
  have h3 := h.1.2.2
  have ki : (aK_ s i).1 = 14 := by rw [t.1.2.2]
  obtain ⟨a, ea, z1, z2, z3⟩ := t.2.2.1
  rw [ce_X13_is, f_dp (f := 272) h3 rfl, Option.bind_some, e, cR_k, f_gi (f := 84) ki rfl, Option.bind_some, t.2.1.1]
  unfold isx
  have key : (tkk T eo p = 3 ∨ tkk T eo p = 4) → (cx_bI cx_th (aE (d + 2) 99 [vr_ (some a), vr_ (some c)] s) fun v11 s10 => if v11 = 0 then some (.inl (some (vi_ 0)), s10) else some (.inl (some (vi_ 1)), s10)) = some (.inl (some (vi_ (zb_ (decide ((tkk T eo p = 3 ∨ tkk T eo p = 4) ∧ tkx T p = ak_S c))))), s) := fun q => by
    rw [l_equals, cI_k, ak_key s c hc hc3, z3]
    by_cases c1 : tkx T p = ak_S c
    · rw [c1]
      simp [q, a_b, zb_]
    · have c2 : ¬ ak_S c = tkx T p := fun w => c1 w.symm
      simp [c1, c2, a_b, zb_]
  by_cases q3 : tkk T eo p = 3
  · rw [if_pos q3, f_dp (f := 272) h3 rfl, Option.bind_some, e, cR_k, f_gr (f := 88) ki rfl, Option.bind_some, ea, f_dp (f := 99) z1 rfl, Option.bind_some]
    exact key (Or.inl q3)
  · rw [if_neg q3, f_dp (f := 272) h3 rfl, Option.bind_some, e, cR_k, f_gi (f := 84) ki rfl, Option.bind_some, t.2.1.1]
    by_cases q4 : tkk T eo p = 4
    · rw [if_pos q4, f_dp (f := 272) h3 rfl, Option.bind_some, e, cR_k, f_gr (f := 88) ki rfl, Option.bind_some, ea, f_dp (f := 99) z1 rfl, Option.bind_some]
      exact key (Or.inr q4)
    · rw [if_neg q4]
      simp [q3, q4, zb_]
theorem is_2 (hT : TA s TL ids iE T eo n) {c c' k : Nat} (hg : gd2_ c c' k = true) : (isx T eo p c || isx T eo p c') = decide (Kn T p = k) := by
  unfold gd2_ at hg
  simp only [Bool.and_eq_true, decide_eq_true_eq] at hg
  obtain ⟨⟨g1, g2⟩, g3⟩ := hg
  unfold isx tkk tkx Kn
  cases hy : T[p]? with
  | none =>
    dsimp only
    have : ¬ 0 = k := by omega
    rcases eK_n eo with e | e <;> rw [e] <;> simp [this]
  | some y =>
    dsimp only
    rcases cw_cs (tk_v hT hy) with ⟨e1, e2⟩ | ⟨e1, e2⟩ | ⟨e1, e2⟩ | ⟨e1, e2, e3, e4⟩ | ⟨e1, e2, e3, e4, e5⟩
    · have : ¬ 1 = k := by omega
      simp [e2, e1, this]
    · have : ¬ 2 = k := by omega
      simp [e2, e1, this]
    · have : ¬ 4 = k := by omega
      simp [e2, e1, this]
    · simp only [e3, e4]
      have hs := List.all_eq_true.mp g1 y.1 (by simp; omega)
      simp only [Bool.or_eq_true, decide_eq_true_eq] at hs
      rcases hs.resolve_left (by omega) with ⟨h1 | h1, h2⟩ | ⟨h1, h2, h3⟩
      · rw [h2] at h1; simp [h1, h2]
      · rw [h2] at h1; simp [h1, h2]
      · simp [h1, h2, h3]
    · simp only [e4, e5]
      have hs := List.all_eq_true.mp g2 _ e1
      simp only [decide_eq_true_eq] at hs
      rw [← e3] at hs
      rcases hs with ⟨h1 | h1, h2⟩ | ⟨h1, h2, h3⟩
      · simp [h1, h2]
      · simp [h1, h2]
      · simp [h1, h2, h3]
theorem gd_not : gd2_ 1080 1032 33 = true := by decide +kernel
theorem gd_do : gd2_ 1038 1039 48 = true := by decide +kernel
theorem gd_or : gd2_ 1040 1041 51 = true := by decide +kernel
end cis2
