/-! ===== the component's scanner: adding a token ===== -/
/-- the tokens of the component against those of the plain scanner -/
def TKs (s : as_) (ids : List Nat) (T : List tk_) : Prop := ids.length = T.length ∧ ∀ (j id : Nat) (y : tk_), ids[j]? = some id → T[j]? = some y → Vt y ∧ ∃ ln, CT s id (cw_ y).1 (nI y.2.1) ln (if y.1 = 2 then y.2.2.1 else 0) (cw_ y).2.1 (cw_ y).2.2
section clexA
variable {s s' s0 : as_} {x A TL SB : Nat} {t : Nat → Nat} {n p line : Nat} {sb : List Int32} {ids : List Nat} {M : Nat → Prop}
theorem LX_add (h : LX s x A TL SB t n p line sb ids) (id : Nat) : LX (al_add s TL (some id)) x A TL SB t n p line sb (ids ++ [id]) := by
  refine LX_of h (Nat.le_refl _) (fun _ _ => rfl) rfl h.2.2.1.2.1 h.2.2.1.2.2 (fun _ => rfl) (fun _ => rfl) h.2.2.2.2.2.1 ?_
  show aL_ (awL s TL (aL_ s TL ++ [some id])) TL = _
  rw [aL_awL, if_pos rfl, h.2.2.2.2.2.2, List.map_append]
  rfl
theorem Kp_add (h : Kp M s0 s) (hm : M TL ∨ aN_ s0 ≤ TL) (y : Option Nat) : Kp M s0 (al_add s TL y) := Kp_L h _ hm
theorem Kp_aT (h : Kp (fun a => a = TL) s0 s) (y : Option Nat) : Kp (fun a => a = TL) s0 (al_add s TL y) := Kp_L h _ (Or.inl rfl)
theorem Rm_add (y : Option Nat) : Rm 1 10 s (al_add s TL y) := ⟨Nat.le_refl _, Nat.le_refl _⟩
theorem x_put (d : Nat) (h : LX s x A TL SB t n p line sb ids) (id : Option Nat) : ((a_gr 82 (some x) s).bind fun v => (a_dp 73 v s).bind fun m => cx_bI cx_th (aE (d + 1) m [vr_ v, vr_ id] s) fun _ s' => some (.inl none, s')) = some (.inl none, al_add s TL id) := by
  obtain ⟨b, ⟨k1, k2, k3, k4⟩, ⟨i1, i2, i3⟩, ⟨r1, r2, r3⟩, _⟩ := h
  rw [f_gr (f := 82) k1 rfl, Option.bind_some, r2, f_dp (f := 73) k3 rfl, Option.bind_some, l_add, cI_k]
theorem x_add0 (d : Nat) (h : LX s x A TL SB t n p line sb []) (i0 : Option Nat) : aE (d + 2) 265 [vr_ (some x), vr_ i0] s = some (.inl none, al_add s TL i0) := by
  obtain ⟨b, ⟨k1, k2, k3, k4⟩, ⟨i1, i2, i3⟩, ⟨r1, r2, r3⟩, _, _, e2⟩ := id h
  rw [ce_X10_add, f_gr (f := 82) k1 rfl, Option.bind_some, r2, f_dp (f := 77) k3 rfl, Option.bind_some, l_empty, cI_k, e2, if_neg (show ¬ a_b (List.map some ([] : List Nat)).isEmpty = 0 by decide)]
  exact x_put d h i0
theorem x_add99 (d : Nat) {il i0 : Nat} {kl pll vl k pl v e b : Int32} {tl gl txt tag : List Int32} {last ln : Nat} (h : LX s x A TL SB t n p line sb ids) (hi : CT s il kl pll (nI last) vl tl gl) (hc : CT s i0 k pl (nI ln) v txt tag) (b1 : last < 2 ^ 31) (b2 : ln < 2 ^ 31) : ∃ s', aJ (d + 4) 265 99 [vr_ (some x), vr_ (some i0), vr_ (some il), vi_ e] [vi_ b] s = some (.inl none, s') ∧ Kp (fun a => a = TL) s s' ∧ Rm 3 27 s s' ∧ (if last < ln ∧ e ≠ 0 ∧ b ≠ 0 then ∃ i2, aN_ s ≤ i2 ∧ CT s' i2 3 pl (nI ln) 0 (ak_S 1083) [] ∧ LX s' x A TL SB t n p line sb (ids ++ [i2] ++ [i0]) else LX s' x A TL SB t n p line sb (ids ++ [i0])) := by
  obtain ⟨bb, ⟨k1, k2, k3, k4⟩, ⟨i1, i2, i3⟩, ⟨r1, r2, r3⟩, ⟨hn, ht⟩, e1, e2⟩ := id h
  have h4 : 4000 ≤ aN_ s := by omega
  have c1 : (aK_ s il).1 = 14 := by rw [hi.1.2.2]
  have c2 : (aK_ s i0).1 = 14 := by rw [hc.1.2.2]
  rw [cj_X10_add_99, f_gi (f := 86) c1 rfl, Option.bind_some, f_gi (f := 86) c2 rfl, Option.bind_some, hi.2.1.2.2.1, hc.2.1.2.2.1]
  simp only [nlt_ b1 b2]
  have fin : ¬ (last < ln ∧ e ≠ 0 ∧ b ≠ 0) → ∃ s', (some (.inl none, al_add s TL (some i0)) : cx_O as_) = some (.inl none, s') ∧ Kp (fun a => a = TL) s s' ∧ Rm 3 27 s s' ∧ (if last < ln ∧ e ≠ 0 ∧ b ≠ 0 then ∃ i2, aN_ s ≤ i2 ∧ CT s' i2 3 pl (nI ln) 0 (ak_S 1083) [] ∧ LX s' x A TL SB t n p line sb (ids ++ [i2] ++ [i0]) else LX s' x A TL SB t n p line sb (ids ++ [i0])) := fun q => by
    refine ⟨_, rfl, Kp_aT Kp_rf _, Rm_wk (Rm_add _) (by omega) (by omega), ?_⟩
    rw [if_neg q]
    exact LX_add h i0
  by_cases c : last < ln
  · rw [if_pos c]
    by_cases ce : e = 0
    · rw [if_pos ce, x_put (d + 2) h]
      exact fin (fun q => q.2.1 ce)
    · rw [if_neg ce]
      by_cases cb : b = 0
      · rw [if_pos cb, x_put (d + 2) h]
        exact fin (fun q => q.2.2 cb)
      · rw [if_neg cb, f_gr (f := 82) k1 rfl, Option.bind_some, r2, f_gi (f := 85) (nw_K c2 hc.1.2.1) rfl, Option.bind_some, nw_I hc.1.2.1, hc.2.1.2.1, f_gi (f := 86) (nw_K c2 hc.1.2.1) rfl, Option.bind_some, nw_I hc.1.2.1, hc.2.1.2.2.1]
        obtain ⟨a, ea, z1, z2, z3⟩ := St_c (s := s) 1083 rfl (by omega) h4
        cases ea
        obtain ⟨s1, a1, a2, a3, a4, a5⟩ := x_newTok d (s := s) (tx := 1083) (k := 3) (pl := pl) (ln := nI ln) (v := 0) (l := ak_S 1083) h4 z1 z2 z3
        have h1 := LX_Kp h a3 id id id id
        have h2 := LX_add h1 (a_nw 14 s).1
        have K2 : Kp (fun a => a = TL) s (al_add s1 TL (some (a_nw 14 s).1)) := Kp_aT (Kp_in Kp_rf a3 (fun _ q => q.elim)) _
        have kT := h1.2.1.2.2.1
        rw [a1, cV_k, f_dp (f := 73) kT rfl, Option.bind_some, l_add, cI_k, x_put (d + 2) h2]
        refine ⟨_, rfl, Kp_aT K2 _, Rm_wk (Rm_tr (Rm_tr a4 (Rm_add _)) (Rm_add _)) (by omega) (by omega), ?_⟩
        rw [if_pos ⟨c, ce, cb⟩]
        refine ⟨aN_ s, Nat.le_refl _, CT_Kp a2 (Kp_aT (Kp_aT Kp_rf _) _) (fun a q => by subst q; rw [kT]; decide), LX_add h2 i0⟩
  · rw [if_neg c, x_put (d + 2) h]
    exact fin (fun q => c q.1)
theorem x_add67 (d : Nat) {il i0 : Nat} {kl pll vl k pl v e : Int32} {tl gl txt tag : List Int32} {last ln : Nat} (h : LX s x A TL SB t n p line sb ids) (hi : CT s il kl pll (nI last) vl tl gl) (hc : CT s i0 k pl (nI ln) v txt tag) (b1 : last < 2 ^ 31) (b2 : ln < 2 ^ 31) : ∃ s', aJ (d + 4) 265 67 [vr_ (some x), vr_ (some i0), vr_ (some il)] [vi_ e] s = some (.inl none, s') ∧ Kp (fun a => a = TL) s s' ∧ Rm 3 27 s s' ∧ (if last < ln ∧ e ≠ 0 ∧ bgn_ k txt ≠ 0 then ∃ i2, aN_ s ≤ i2 ∧ CT s' i2 3 pl (nI ln) 0 (ak_S 1083) [] ∧ LX s' x A TL SB t n p line sb (ids ++ [i2] ++ [i0]) else LX s' x A TL SB t n p line sb (ids ++ [i0])) := by
  have c2 : (aK_ s i0).1 = 14 := by rw [hc.1.2.2]
  obtain ⟨a, ea, z1, z2, z3⟩ := hc.2.2.1
  rw [cj_X10_add_67, f_gi (f := 84) c2 rfl, Option.bind_some, hc.2.1.1]
  by_cases c : 2 < k
  · rw [if_pos c, Option.bind_some]
    by_cases c5 : k < 5
    · rw [if_pos c5, f_gr (f := 88) c2 rfl, Option.bind_some, ea, s_begins (d + 1) z1 z3, cI_k]
      by_cases c0 : sg_begins (sx_ txt sl_begins) = 0
      · rw [if_pos c0, show bgn_ k txt = 0 by unfold bgn_; rw [if_pos c, if_pos c5, if_pos c0]]
        exact x_add99 d h hi hc b1 b2
      · rw [if_neg c0, show bgn_ k txt = 1 by unfold bgn_; rw [if_pos c, if_pos c5, if_neg c0]]
        exact x_add99 d h hi hc b1 b2
    · rw [if_neg c5, show bgn_ k txt = 0 by unfold bgn_; rw [if_pos c, if_neg c5]]
      exact x_add99 d h hi hc b1 b2
  · rw [if_neg c, show bgn_ k txt = 1 by unfold bgn_; rw [if_neg c]]
    exact x_add99 d h hi hc b1 b2
theorem x_add1 (d : Nat) {il i0 : Nat} {kl pll vl k pl v : Int32} {tl gl txt tag : List Int32} {last ln : Nat} (h : LX s x A TL SB t n p line sb (ids ++ [il])) (hL : ids.length + 1 < 2 ^ 31) (hi : CT s il kl pll (nI last) vl tl gl) (hc : CT s i0 k pl (nI ln) v txt tag) (b1 : last < 2 ^ 31) (b2 : ln < 2 ^ 31) : ∃ s', aE (d + 4) 265 [vr_ (some x), vr_ (some i0)] s = some (.inl none, s') ∧ Kp (fun a => a = TL) s s' ∧ Rm 3 27 s s' ∧ (if last < ln ∧ el_ kl tl ≠ 0 ∧ bgn_ k txt ≠ 0 then ∃ i2, aN_ s ≤ i2 ∧ CT s' i2 3 pl (nI ln) 0 (ak_S 1083) [] ∧ LX s' x A TL SB t n p line sb (ids ++ [il] ++ [i2] ++ [i0]) else LX s' x A TL SB t n p line sb (ids ++ [il] ++ [i0])) := by
  obtain ⟨bb, ⟨k1, k2, k3, k4⟩, ⟨i1, i2, i3⟩, ⟨r1, r2, r3⟩, ⟨hn, ht⟩, e1, e2⟩ := id h
  have c1 : (aK_ s il).1 = 14 := by rw [hi.1.2.2]
  obtain ⟨a, ea, z1, z2, z3⟩ := hi.2.2.1
  have eE : a_b (List.map some (ids ++ [il])).isEmpty = 0 := by cases ids <;> rfl
  have eg : aE (d + 3) 79 [vr_ (some TL), vi_ (nI ids.length)] s = some (.inl (some (vr_ (some il))), s) := l_get (d + 2) TL (i := ids.length) (by rw [e2]; simp) (by rw [e2]; simp; omega)
  have ecs : cx_cst a_io 14 (some il) s = some () := by
    unfold cx_cst a_io
    dsimp only
    rw [Option.bind_some, c1]
    rfl
  have ep : (nI (List.map some (ids ++ [il])).length - 1 : Int32) = nI ids.length := by
    rw [List.length_map, List.length_append]
    exact nI_pred _
  rw [ce_X10_add, f_gr (f := 82) k1 rfl, Option.bind_some, r2, f_dp (f := 77) k3 rfl, Option.bind_some, l_empty, cI_k, e2, if_pos eE, f_gr (f := 82) k1 rfl, Option.bind_some, Option.bind_some, r2, f_dp (f := 78) k3 rfl, Option.bind_some, l_size, cI_k, e2, ep, f_dp (f := 79) k3 rfl, Option.bind_some, eg, cR_k, ecs, Option.bind_some, f_gi (f := 84) c1 rfl, Option.bind_some, hi.2.1.1]
  by_cases c : 2 < kl
  · rw [if_pos c, Option.bind_some]
    by_cases c5 : kl < 5
    · rw [if_pos c5, f_gr (f := 88) c1 rfl, Option.bind_some, ea, s_ends (d + 1) z1 z3, cI_k]
      by_cases c0 : sg_ends (sx_ tl sl_ends) = 0
      · rw [if_pos c0, show el_ kl tl = 0 by unfold el_; rw [if_pos c, if_pos c5, if_pos c0]]
        exact x_add67 d h hi hc b1 b2
      · rw [if_neg c0, show el_ kl tl = 1 by unfold el_; rw [if_pos c, if_pos c5, if_neg c0]]
        exact x_add67 d h hi hc b1 b2
    · rw [if_neg c5, show el_ kl tl = 0 by unfold el_; rw [if_pos c, if_neg c5]]
      exact x_add67 d h hi hc b1 b2
  · rw [if_neg c, show el_ kl tl = 1 by unfold el_; rw [if_neg c]]
    exact x_add67 d h hi hc b1 b2
theorem TKs_Kp {T : List tk_} (h : TKs s ids T) (hk : Kp M s s') (hM : ∀ a, M a → (aK_ s a).1 ≠ 26 ∧ (aK_ s a).1 ≠ 14) : TKs s' ids T := ⟨h.1, fun j id y h1 h2 => by
  obtain ⟨q1, ln, q2⟩ := h.2 j id y h1 h2
  exact ⟨q1, ln, CT_Kp q2 hk hM⟩⟩
theorem TKs_snoc {T : List tk_} (h : TKs s ids T) {id : Nat} {y : tk_} {ln : Int32} (hv : Vt y) (hc : CT s id (cw_ y).1 (nI y.2.1) ln (if y.1 = 2 then y.2.2.1 else 0) (cw_ y).2.1 (cw_ y).2.2) : TKs s (ids ++ [id]) (T ++ [y]) := ⟨by simp [h.1], fun j i z h1 h2 => by
  rw [List.getElem?_append] at h1 h2
  by_cases c : j < ids.length
  · rw [if_pos c] at h1
    rw [if_pos (by have := h.1; omega)] at h2
    exact h.2 j i z h1 h2
  · rw [if_neg c] at h1
    rw [if_neg (by have := h.1; omega), ← h.1] at h2
    cases hj : j - ids.length with
    | zero =>
      rw [hj] at h1 h2
      cases h1; cases h2
      exact ⟨hv, ln, hc⟩
    | succ q =>
      rw [hj] at h1
      simp at h1⟩
end clexA
