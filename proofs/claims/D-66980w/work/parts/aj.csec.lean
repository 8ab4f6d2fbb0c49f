/-! ===== the component's parser: sections ===== -/
def RS (s : as_) : List Nat → List (List Int32) → Prop
  | [], [] => True
  | a :: r, u :: w => St s (some a) u ∧ RS s r w
  | _, _ => False
/-- the open sections' tags, the last one at the end -/
def SC (s : as_) (SL : Nat) (us : List (List Int32)) : Prop := (4000 ≤ SL ∧ SL < aN_ s ∧ (aK_ s SL).1 = 36) ∧ ∃ rs, aL_ s SL = rs.map some ∧ RS s rs us ∧ us.length < 30000
section csec
variable {s s' : as_} {x TL IL GS SL p dp iE n : Nat} {ids : List Nat} {T : List tk_} {eo : Option Nat} {M : Nat → Prop} {us : List (List Int32)} {u : List Int32}
theorem RS_Kp (hk : Kp M s s') (hM : ∀ a, M a → (aK_ s a).1 ≠ 26) : ∀ {rs : List Nat} {us : List (List Int32)}, RS s rs us → RS s' rs us
  | [], [], _ => trivial
  | _ :: _, _ :: _, h => ⟨St_Kp h.1 hk hM, RS_Kp hk hM h.2⟩
  | [], _ :: _, h => h.elim
  | _ :: _, [], h => h.elim
theorem RS_len : ∀ {rs : List Nat} {us : List (List Int32)}, RS s rs us → rs.length = us.length
  | [], [], _ => rfl
  | _ :: _, _ :: _, h => by simp [RS_len h.2]
  | [], _ :: _, h => h.elim
  | _ :: _, [], h => h.elim
theorem RS_sn {a : Nat} (ha : St s (some a) u) : ∀ {rs : List Nat} {us : List (List Int32)}, RS s rs us → RS s (rs ++ [a]) (us ++ [u])
  | [], [], _ => ⟨ha, trivial⟩
  | _ :: _, _ :: _, h => ⟨h.1, RS_sn ha h.2⟩
  | [], _ :: _, h => h.elim
  | _ :: _, [], h => h.elim
theorem RS_ls : ∀ {us : List (List Int32)} {rs : List Nat}, RS s rs (us ++ [u]) → ∃ rs0 a, rs = rs0 ++ [a] ∧ RS s rs0 us ∧ St s (some a) u
  | [], [], h => h.elim
  | [], [a], h => ⟨[], a, rfl, trivial, h.1⟩
  | [], _ :: _ :: _, h => h.2.elim
  | _ :: _, [], h => h.elim
  | v :: us, b :: rs, h => by
    obtain ⟨rs0, a, e, h1, h2⟩ := RS_ls (us := us) (rs := rs) h.2
    exact ⟨b :: rs0, a, by rw [e]; rfl, ⟨h.1, h1⟩, h2⟩
theorem St_key {a : Nat} (h : St s (some a) u) : a_key s (some a) = some (.inl u) := by
  obtain ⟨b, e, h1, h2, h3⟩ := h
  cases e
  unfold a_key
  dsimp only
  rw [if_pos h1, h3]
theorem RS_any (g : List Int32) : ∀ {rs : List Nat} {us : List (List Int32)}, RS s rs us → ((rs.map some).any fun y => decide (a_key s y = some (.inl g))) = decide (g ∈ us)
  | [], [], _ => by simp
  | a :: rs, u :: us, h => by
    have := RS_any g h.2
    simp only [List.map_cons, List.any_cons, this, St_key h.1, List.mem_cons]
    by_cases c : g = u
    · subst c; simp
    · have c' : ¬ u = g := fun q => c q.symm
      simp [c, c']
  | [], _ :: _, h => h.elim
  | _ :: _, [], h => h.elim
theorem SC_Kp (h : SC s SL us) (hk : Kp M s s') (hM : ∀ a, M a → (aK_ s a).1 ≠ 26) (hS : ¬ M SL) : SC s' SL us := by
  obtain ⟨⟨h1, h2, h3⟩, rs, e, h4, h5⟩ := h
  have q := hk.2 SL h2 hS
  exact ⟨⟨h1, by have := hk.1; omega, by rw [q.2.2.1]; exact h3⟩, rs, q.2.2.2.2.1.trans e, RS_Kp hk hM h4, h5⟩
theorem l_rem (d x : Nat) {i : Nat} {y : Option Nat} {s : as_} (h : (aL_ s x)[i]? = some y) (hl : (aL_ s x).length < 2 ^ 31) : aE (d + 1) 81 [vr_ (some x), vi_ (nI i)] s = some (.inl (some (vr_ y)), awL s x ((aL_ s x).eraseIdx i)) := by
  have hi : i < (aL_ s x).length := (List.getElem?_eq_some_iff.mp h).1
  refine aE_pm d _ _ s ?_
  show (if mm_in (nI i) (aL_ s x).length then _ else _) = _
  rw [mm_in_n hi hl, if_pos rfl, nI_clamp (by omega)]
  show a_r ((aL_ s x).getD i none) _ = _
  rw [List.getD_eq_getElem?_getD, h]
  rfl
theorem l_has (d x : Nat) {y : Option Nat} {k : List Int32 ⊕ Int32} {s : as_} (h : a_key s y = some k) : aE (d + 1) 83 [vr_ (some x), vr_ y] s = some (.inl (some (vi_ (a_b ((aL_ s x).any fun z => decide (a_key s z = some k))))), s) := by
  refine aE_pm d _ _ s ?_
  show (match a_key s y with
    | some k => a_i (a_b ((aL_ s x).any fun y => decide (a_key s y = some k))) s
    | none => some none) = _
  rw [h]
theorem y_opens (d : Nat) (h : CP s x TL IL GS SL p dp) (hT : TA s TL ids iE T eo n) (hS : SC s SL us) (hp : p ≤ T.length) (hu : us.length + 1 < 30000) : if Kn T p = 10 then ∃ i ln v, aE (d + 5) 277 [vr_ (some x)] s = some (.inl (some (vr_ (some i))), al_add (awI s x 94 (nI (p + 1))) SL v) ∧ CT s i (tkk T eo p) (nI (tkp T eo n p)) ln (tkv T p) (tkx T p) (tkg T p) ∧ SC (al_add (awI s x 94 (nI (p + 1))) SL v) SL (us ++ [tkg T p]) else WR 1 8 (fun _ => False) s (aE (d + 5) 277 [vr_ (some x)] s) (nI (tkp T eo n p)) (tkf T eo p) := by
  have h3 := h.1.2.2
  have hm := y_must d h hT hp (c := 1051) (k := 10) rfl (by omega) (by decide +kernel)
  rw [ce_X13_opens, f_dp (f := 278) h3 rfl, Option.bind_some]
  by_cases q : Kn T p = 10
  · rw [if_pos q] at hm
    rw [if_pos q]
    obtain ⟨i, ln, e, t⟩ := hm
    have k3 : (aK_ (awI s x 94 (nI (p + 1))) x).1 = 10 := h3
    have ki : (aK_ (awI s x 94 (nI (p + 1))) i).1 = 14 := by show (aK_ s i).1 = 14; rw [t.1.2.2]
    have kS : (aK_ (awI s x 94 (nI (p + 1))) SL).1 = 36 := hS.1.2.2
    have r4 : aR_ (awI s x 94 (nI (p + 1))) x 98 = some SL := h.2.1.2.2.2
    refine ⟨i, ln, aR_ s i 90, ?_, t, ?_⟩
    · rw [e, cR_k, f_gr (f := 98) k3 rfl, Option.bind_some, f_gr (f := 90) ki rfl, Option.bind_some, r4, f_dp (f := 73) kS rfl, Option.bind_some, l_add, cI_k]
      rfl
    · obtain ⟨⟨s1, s2, s3⟩, rs, s4, s5, s6⟩ := hS
      obtain ⟨a, ea, z⟩ := t.2.2.2
      refine ⟨⟨s1, s2, s3⟩, rs ++ [a], ?_, ?_, ?_⟩
      · show aL_ (awL (awI s x 94 (nI (p + 1))) SL _) SL = _
        rw [aL_awL, if_pos rfl, ea]
        show aL_ s SL ++ _ = _
        rw [s4, List.map_append]
        rfl
      · have hs : RS s (rs ++ [a]) (us ++ [tkg T p]) := RS_sn ⟨a, rfl, z⟩ s5
        have hk : Kp (fun b => b = x ∨ b = SL) s (al_add (awI s x 94 (nI (p + 1))) SL (aR_ s i 90)) := Kp_L (Kp_I Kp_rf 94 _ (Or.inl (Or.inl rfl))) _ (Or.inl (Or.inr rfl))
        exact RS_Kp hk (fun b qb => by rcases qb with rfl | rfl; rw [h3]; decide; rw [s3]; decide) hs
      · simp; omega
  · rw [if_neg q] at hm
    rw [if_neg q]
    obtain ⟨s', i, e, w⟩ := hm
    exact ⟨s', i, by rw [e, cR_x]; rfl, w⟩
end csec
