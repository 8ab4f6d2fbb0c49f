/-! ===== the component's Translator: faults, scopes, names ===== -/
section hop2
variable {x SCL RTL AR DA EA : Nat} {s0 s s' : as_} {K : Nat → Prop} {X : (Nat → Int32) × (Nat → Option Nat)} {L : List Nat × List Nat × List (Option Nat)} {J : List Nat × (Nat → List Nat)} {M : List Nat × (Nat → List ((List Int32 ⊕ Int32) × Option Nat))} {N : List Nat × (Nat → mn_T)} {R : Nat → rn_T} {D E : Nat → Int32} {Cb Zb Zc : Nat} {rt : List Nat}
variable {i : Nat}
theorem T_gi {f : Nat} (h : HS_ x SCL RTL AR DA EA s0 s (X, L, J, M, N, R, D, E) Cb Zb) (hf : ac_f f 15 = true) : a_gi f (some x) s = some (X.1 f) := by rw [f_gi (HS_d h).1.1.2.2 hf, (HS_d h).1.2.1]
theorem T_gr {f : Nat} (h : HS_ x SCL RTL AR DA EA s0 s (X, L, J, M, N, R, D, E) Cb Zb) (hf : ac_f f 15 = true) : a_gr f (some x) s = some (X.2 f) := by rw [f_gr (HS_d h).1.1.2.2 hf, (HS_d h).1.2.2.1]
theorem T_pi {τ : th_} {f : Nat} {v : Int32} (h : HS_ x SCL RTL AR DA EA s0 s τ Cb Zb) (hf : ac_f f 15 = true) (hz : (!af_z f || mm_01 v) = true) : a_pi f (some x) v s = some (awI s x f v) := f_pi h.1.1.2.2 hf hz
theorem T_pr {τ : th_} {f : Nat} {v : Option Nat} (h : HS_ x SCL RTL AR DA EA s0 s τ Cb Zb) (hf : ac_f f 15 = true) : a_pr f (some x) v s = some (awR s x f v) := f_pr h.1.1.2.2 hf
theorem T_dp {τ : th_} {f : Nat} (h : HS_ x SCL RTL AR DA EA s0 s τ Cb Zb) (hf : ac_m f 15 = true) : a_dp f (some x) s = some f := f_dp h.1.1.2.2 hf
/-- of all faults the one at the least place -/
def wr_c (at0 kd : Int32) (xi : Nat → Int32) : Nat → Int32 := if xi 173 < 0 then au_ (au_ xi 173 at0) 174 kd else if xi 173 < at0 then xi else if xi 173 = at0 then (if kd < xi 174 then au_ (au_ xi 173 at0) 174 kd else xi) else au_ (au_ xi 173 at0) 174 kd
theorem h_wrong (d : Nat) (at0 kd : Int32) (h : HS_ x SCL RTL AR DA EA s0 s (X, L, J, M, N, R, D, E) Cb Zb) : ∃ s', aE (d + 1) 375 [vr_ (some x), vi_ at0, vi_ kd] s = some (.inl none, s') ∧ HS_ x SCL RTL AR DA EA s0 s' ((wr_c at0 kd X.1, X.2), L, J, M, N, R, D, E) Cb Zb := by
  have h2 := HS_xI (f := 174) (v := kd) (HS_xI (f := 173) (v := at0) h)
  have w : ∀ K : as_ → cx_O as_, ((a_pi 173 (some x) at0 s).bind fun s => (a_pi 174 (some x) kd s).bind K) = K (awI (awI s x 173 at0) x 174 kd) := fun K => by
    rw [T_pi h rfl rfl, Option.bind_some, T_pi (HS_xI (f := 173) (v := at0) h) rfl rfl, Option.bind_some]
  rw [ce_X9_wrong]
  simp only [T_gi h (f := 173) rfl, T_gi h (f := 174) rfl, Option.bind_some]
  unfold wr_c
  by_cases c1 : X.1 173 < 0
  · rw [if_pos c1, if_pos c1, w]; exact ⟨_, rfl, h2⟩
  rw [if_neg c1, if_neg c1]
  by_cases c2 : X.1 173 < at0
  · rw [if_pos c2, if_pos c2]; exact ⟨_, rfl, h⟩
  rw [if_neg c2, if_neg c2]
  by_cases c3 : X.1 173 = at0
  · rw [if_pos c3, if_pos c3]
    by_cases c4 : kd < X.1 174
    · rw [if_pos c4, if_pos c4, w]; exact ⟨_, rfl, h2⟩
    · rw [if_neg c4, if_neg c4]; exact ⟨_, rfl, h⟩
  · rw [if_neg c3, if_neg c3, w]; exact ⟨_, rfl, h2⟩
/-- the scopes' row is set -/
theorem HS_sc {sc : List Nat} (h : HS_ x SCL RTL AR DA EA s0 s (X, L, J, M, N, R, D, E) Cb Zb) (hl : sc.length < 2 ^ 24) : HS_ x SCL RTL AR DA EA s0 (awL s SCL (sc.map some).reverse) (X, (sc, L.2), J, M, N, R, D, E) Cb Zb := by
  obtain ⟨h1, ⟨⟨⟨a1, a2, a3⟩, a4, a5⟩, l2, l3, d1, d2, d3⟩, h3, h4, h5, h6, h7, h8, h9, h10⟩ := h
  have hk : Kp (fun a => a = SCL) s (awL s SCL (sc.map some).reverse) := Kp_L Kp_rf _ (Or.inl rfl)
  have hc : ∀ c, c ≠ 36 → ∀ a, a = SCL → (aK_ s a).1 ≠ c := fun c hc a e => by subst e; rw [a3]; exact fun q => hc q.symm
  have hD := h7
  obtain ⟨⟨d1', d2', d3'⟩, ⟨e1', e2', e3'⟩, _⟩ := h7
  have hb : aN_ s0 ≤ aN_ s := h8.1
  refine ⟨HX_Kp h1 hk (hc _ (by decide)), ⟨⟨⟨a1, a2, a3⟩, ?_, by simpa using hl⟩, ls_Kp l2 hk (fun q => d1 q.symm), ls_Kp l3 hk (fun q => d2 q.symm), d1, d2, d3⟩, HJ_Kp h3 hk (hc _ (by decide)) (fun a e hi => by subst e; have := (h3 _ hi).1.1; omega), HM_Kp h4 hk (hc _ (by decide)), HN_Kp h5 hk (hc _ (by decide)), HR_Kp (dz := 0) h6 hk (hc _ (by decide)) (fun a e => Or.inl (hc _ (by decide) a e)) (Nat.le_refl _), HD_Kp hD hk hb (fun a e => ⟨fun q => hc 200 (by decide) a e (by rw [q, d3']), fun q => hc 200 (by decide) a e (by rw [q, e3'])⟩), Kp_L h8 _ (Or.inl (Or.inr (Or.inl rfl))), h9, h10⟩
  rw [aL_awL, if_pos rfl]
theorem HS_ar {ar : List (Option Nat)} (h : HS_ x SCL RTL AR DA EA s0 s (X, L, J, M, N, R, D, E) Cb Zb) (hl : ar.length < 2 ^ 24) : HS_ x SCL RTL AR DA EA s0 (awL s AR ar) (X, (L.1, L.2.1, ar), J, M, N, R, D, E) Cb Zb := by
  obtain ⟨h1, ⟨l1, l2, ⟨⟨a1, a2, a3⟩, a4, a5⟩, d1, d2, d3⟩, h3, h4, h5, h6, h7, h8, h9, h10⟩ := h
  have hk : Kp (fun a => a = AR) s (awL s AR ar) := Kp_L Kp_rf _ (Or.inl rfl)
  have hc : ∀ c, c ≠ 36 → ∀ a, a = AR → (aK_ s a).1 ≠ c := fun c hc a e => by subst e; rw [a3]; exact fun q => hc q.symm
  have hD := h7
  obtain ⟨⟨d1', d2', d3'⟩, ⟨e1', e2', e3'⟩, _⟩ := h7
  have hb : aN_ s0 ≤ aN_ s := h8.1
  refine ⟨HX_Kp h1 hk (hc _ (by decide)), ⟨ls_Kp l1 hk (fun q => d2 q), ls_Kp l2 hk (fun q => d3 q), ⟨⟨a1, a2, a3⟩, ?_, hl⟩, d1, d2, d3⟩, HJ_Kp h3 hk (hc _ (by decide)) (fun a e hi => by subst e; have := (h3 _ hi).1.1; omega), HM_Kp h4 hk (hc _ (by decide)), HN_Kp h5 hk (hc _ (by decide)), HR_Kp (dz := 0) h6 hk (hc _ (by decide)) (fun a e => Or.inl (hc _ (by decide) a e)) (Nat.le_refl _), HD_Kp hD hk hb (fun a e => ⟨fun q => hc 200 (by decide) a e (by rw [q, d3']), fun q => hc 200 (by decide) a e (by rw [q, e3'])⟩), Kp_L h8 _ (Or.inl (Or.inr (Or.inr (Or.inr (Or.inl rfl))))), h9, h10⟩
  rw [aL_awL, if_pos rfl]
/-- a map of a scope is set -/
theorem HS_map {m : Nat} {c : List ((List Int32 ⊕ Int32) × Option Nat)} (h : HS_ x SCL RTL AR DA EA s0 s (X, L, J, M, N, R, D, E) Cb Zb) (hm : m ∈ M.1) (h0 : aN_ s0 ≤ m) : HS_ x SCL RTL AR DA EA s0 (awM s m c) (X, L, J, (M.1, au_ M.2 m c), N, R, D, E) Cb Zb := by
  obtain ⟨h1, h2, h3, h4, h5, h6, h7, h8, h9, h10⟩ := h
  obtain ⟨⟨a1, a2, a3⟩, a4⟩ := h4 m hm
  have hk : Kp (fun a => a = m) s (awM s m c) := Kp_M Kp_rf _ (Or.inl rfl)
  have hc : ∀ c, c ≠ 38 → ∀ a, a = m → (aK_ s a).1 ≠ c := fun c hc a e => by subst e; rw [a3]; exact fun q => hc q.symm
  have hD := h7
  obtain ⟨⟨d1', d2', d3'⟩, ⟨e1', e2', e3'⟩, _⟩ := h7
  have hb : aN_ s0 ≤ aN_ s := h8.1
  refine ⟨HX_Kp h1 hk (hc _ (by decide)), HL_Kp h2 hk (hc _ (by decide)), HJ_Kp h3 hk (hc _ (by decide)) (fun a e hi => by subst e; have := (h3 _ hi).1.2.2; omega), fun j hj => ?_, HN_Kp h5 hk (hc _ (by decide)), HR_Kp (dz := 0) h6 hk (hc _ (by decide)) (fun a e => Or.inl (hc _ (by decide) a e)) (Nat.le_refl _), HD_Kp hD hk hb (fun a e => ⟨fun q => hc 200 (by decide) a e (by rw [q, d3']), fun q => hc 200 (by decide) a e (by rw [q, e3'])⟩), Kp_M h8 _ (Or.inr h0), h9, h10⟩
  obtain ⟨b1, b2⟩ := h4 j hj
  refine ⟨b1, ?_⟩
  rw [aM_awM]
  show _ = au_ M.2 m c j
  unfold au_
  split
  · rfl
  · exact b2
/-- a new map -/
theorem HS_newM (h : HS_ x SCL RTL AR DA EA s0 s (X, L, J, M, N, R, D, E) Cb Zb) : HS_ x SCL RTL AR DA EA s0 (awM (a_nw 38 s).2 (aN_ s) []) (X, L, J, (aN_ s :: M.1, au_ M.2 (aN_ s) []), N, R, D, E) (Cb + 1) (Zb + 8) := by
  have hN0 := h.2.2.2.2.2.2.2.2.2.1
  have hN1 := h.2.2.2.2.2.2.2.1.1
  have hk : Kp (fun a => a = aN_ s) s (awM (a_nw 38 s).2 (aN_ s) []) := Kp_M (Kp_wk (Kp_new Kp_rf (38, 0)) (fun _ _ (z : False) => z.elim)) _ (Or.inl rfl)
  have h' := HS_Kp (dc := 1) (dz := 8) h hk (fun a e => by omega) (Nat.le_refl _) (Nat.le_refl _)
  obtain ⟨h1, h2, h3, h4, h5, h6, h7, h8, h9⟩ := h'
  refine ⟨h1, h2, h3, fun j hj => ?_, h5, h6, h7, h8, h9⟩
  by_cases q : j = aN_ s
  · subst q
    refine ⟨⟨by omega, Nat.lt_succ_self _, ?_⟩, ?_⟩
    · show (aK_ (anew s (38, 0)) (aN_ s)).1 = 38
      rw [aK_anew, if_pos ⟨by omega, rfl⟩]
    · rw [aM_awM, if_pos rfl]
      show [] = au_ M.2 (aN_ s) [] (aN_ s)
      unfold au_
      rw [if_pos rfl]
  · have hj' : j ∈ M.1 := by simpa [q] using hj
    obtain ⟨b1, b2⟩ := h4 j hj'
    refine ⟨b1, b2.trans ?_⟩
    show M.2 j = au_ M.2 (aN_ s) [] j
    unfold au_
    rw [if_neg q]
/-- one scope more -/
theorem h_open (d : Nat) (h : HS_ x SCL RTL AR DA EA s0 s (X, L, J, M, N, R, D, E) Cb Zb) (hl : L.1.length + 1 < 2 ^ 24) : ∃ s', aE (d + 2) 371 [vr_ (some x)] s = some (.inl none, s') ∧ HS_ x SCL RTL AR DA EA s0 s' (X, (aN_ s :: L.1, L.2), J, (aN_ s :: M.1, au_ M.2 (aN_ s) []), N, R, D, E) (Cb + 2) (Zb + 18) ∧ aN_ s < aN_ s' := by
  have h1 := HS_newM h
  have hS := h1.2.1.1
  have h2 := HS_sc (sc := aN_ s :: L.1) h1 (by simpa using hl)
  have k38 : (aK_ (a_nw 38 s).2 (aN_ s)).1 = 38 := by
    have := h.2.2.2.2.2.2.2.2.2.1
    have := h.2.2.2.2.2.2.2.1.1
    show (aK_ (anew s (38, 0)) (aN_ s)).1 = 38
    rw [aK_anew, if_pos ⟨by omega, rfl⟩]
  refine ⟨awC (awL (awM (a_nw 38 s).2 (aN_ s) []) SCL ((aN_ s :: L.1).map some).reverse) 1 10, ?_, ?_, Nat.lt_succ_self _⟩
  · have e1 : X.2 169 = some SCL := (HS_d h).1.2.2.2.1
    rw [ce_X9_open, T_gr h rfl, Option.bind_some]
    show cx_bV cx_th (aE (d + 1) 1 [vr_ (some (aN_ s))] (a_nw 38 s).2) _ = _
    rw [aE_pm d 1 [vr_ (some (aN_ s))] (a_nw 38 s).2 (o := some (.inl none, awM (a_nw 38 s).2 (aN_ s) [])) rfl, cV_k]
    show ((a_dp 73 (X.2 169) _).bind fun m3 => _) = _
    rw [e1, f_dp hS.1.2.2 rfl, Option.bind_some]
    show cx_bI cx_th (aE (d + 1) 73 [vr_ (some SCL), vr_ (some (aN_ s))] (awM (a_nw 38 s).2 (aN_ s) [])) _ = _
    rw [l_add, cI_k]
    unfold al_add
    rw [hS.2.1]
    simp
  · have := HS_Kp (dc := 1) (dz := 10) (s' := awC (awL (awM (a_nw 38 s).2 (aN_ s) []) SCL ((aN_ s :: L.1).map some).reverse) 1 10) h2 (K := fun _ => False) (Kp_C Kp_rf 1 10) (fun _ z => z.elim) (Nat.le_refl _) (Nat.le_refl _)
    exact this
/-- the innermost scope ends -/
theorem h_close (d : Nat) {m : Nat} {sc : List Nat} (h : HS_ x SCL RTL AR DA EA s0 s (X, (m :: sc, L.2), J, M, N, R, D, E) Cb Zb) : ∃ s', aE (d + 2) 400 [vr_ (some x)] s = some (.inl none, s') ∧ HS_ x SCL RTL AR DA EA s0 s' (X, (sc, L.2), J, M, N, R, D, E) Cb Zb := by
  have hS := (HS_d h).2.1.1
  have e1 : X.2 169 = some SCL := (HS_d h).1.2.2.2.1
  have hl : aL_ s SCL = (sc.map some).reverse ++ [some m] := by rw [hS.2.1]; simp
  have hlen : (aL_ s SCL).length = sc.length + 1 := by rw [hl]; simp
  have hlt : sc.length + 1 < 2 ^ 24 := by have := hS.2.2; simpa using this
  refine ⟨_, ?_, HS_sc (L := (m :: sc, L.2)) (sc := sc) h (by omega)⟩
  rw [ce_X9_close, T_gr h rfl, Option.bind_some, Option.bind_some]
  show ((a_dp 78 (X.2 169) s).bind fun m3 => _) = _
  rw [e1, f_dp hS.1.2.2 rfl, Option.bind_some]
  show cx_bI cx_th (aE (d + 1) 78 [vr_ (some SCL)] s) _ = _
  rw [l_size, cI_k, hlen, show (nI (sc.length + 1) - 1 : Int32) = nI sc.length from nI_pred _]
  show ((a_dp 81 (some SCL) s).bind fun m6 => _) = _
  rw [f_dp hS.1.2.2 rfl, Option.bind_some]
  have hr : aE (d + 1) 81 [vr_ (some SCL), vi_ (nI sc.length)] s = some (.inl (some (vr_ (some m))), awL s SCL (sc.map some).reverse) := by
    refine aE_pm d _ _ s ?_
    show (if mm_in (nI sc.length) (aL_ s SCL).length then _ else _) = _
    rw [hlen, mm_in_n (Nat.lt_succ_self _) (by omega), if_pos rfl, nI_clamp (by omega), hl]
    have z1 : ((sc.map some).reverse ++ [some m]).getD sc.length none = some m := by
      rw [List.getD_eq_getElem?_getD, List.getElem?_append_right (by simp)]
      simp
    have z2 : ((sc.map some).reverse ++ [some m]).eraseIdx sc.length = (sc.map some).reverse := by
      rw [List.eraseIdx_append_of_length_le (by simp)]
      simp
    rw [z1, z2]
  rw [hr, cR_k]
/-- what a name means -/
def fd_ (m : Nat → List ((List Int32 ⊕ Int32) × Option Nat)) (u : List Int32) : List Nat → Option Nat
  | [] => none
  | i :: r => match (am_get (m i) (.inl u)).getD none with
    | some a => some a
    | none => fd_ m u r
/-- scopes are made of maps, these of meanings -/
def WT_ (L : List Nat × List Nat × List (Option Nat)) (M : List Nat × (Nat → List ((List Int32 ⊕ Int32) × Option Nat))) (N : List Nat × (Nat → mn_T)) : Prop := (∀ i ∈ L.1, i ∈ M.1) ∧ ∀ i ∈ M.1, ∀ u m, (am_get (M.2 i) (.inl u)).getD none = some m → m ∈ N.1
theorem map_get (d : Nat) {i a : Nat} {u : List Int32} (h : HS_ x SCL RTL AR DA EA s0 s (X, L, J, M, N, R, D, E) Cb Zb) (hi : i ∈ M.1) (ha : (aK_ s a).1 = 26 ∧ aS_ s a = u) : aE (d + 1) 17 [vr_ (some i), vr_ (some a)] s = some (.inl (some (vr_ ((am_get (M.2 i) (.inl u)).getD none))), s) := by
  refine aE_pm d _ _ s ?_
  have hkey : a_key s (some a) = some (.inl u) := by
    unfold a_key
    dsimp only
    rw [if_pos ha.1, ha.2]
  show (match a_key s (some a) with
    | some k => a_r ((am_get (aM_ s i) k).getD none) s
    | none => some none) = _
  rw [hkey, (h.2.2.2.1 i hi).2]
theorem h_find12 (d : Nat) {a : Nat} {u : List Int32} (h : HS_ x SCL RTL AR DA EA s0 s (X, L, J, M, N, R, D, E) Cb Zb) (hw : WT_ L M N) (ha : (aK_ s a).1 = 26 ∧ aS_ s a = u) : ∀ (k : Nat), k ≤ L.1.length → aJ (d + 2) 380 12 [vr_ (some x), vr_ (some a), vi_ (nI k - 1)] [] s = some (.inl (some (vr_ (fd_ M.2 u (L.1.drop (L.1.length - k))))), s) := by
  have hS := (HS_d h).2.1.1
  have e1 : X.2 169 = some SCL := (HS_d h).1.2.2.2.1
  have hlt : L.1.length < 2 ^ 24 := by have := hS.2.2; simpa using this
  intro k
  induction k with
  | zero =>
    intro _
    rw [cj_X9_find_12, if_pos (by decide), Nat.sub_zero, List.drop_length]
    rfl
  | succ k ih =>
    intro hk
    have hm : L.1.drop (L.1.length - (k + 1)) = L.1[L.1.length - (k + 1)]'(by omega) :: L.1.drop (L.1.length - k) := by
      rw [List.drop_eq_getElem_cons (by omega : L.1.length - (k + 1) < L.1.length), show L.1.length - (k + 1) + 1 = L.1.length - k by omega]
    generalize hmi : L.1[L.1.length - (k + 1)]'(by omega) = mi at hm
    have hget : (aL_ s SCL)[k]? = some (some mi) := by
      rw [hS.2.1, List.getElem?_reverse (by simp; omega), List.getElem?_map, List.length_map, show L.1.length - 1 - k = L.1.length - (k + 1) by omega, List.getElem?_eq_getElem (by omega), hmi]
      rfl
    have hmem : mi ∈ L.1 := by rw [← hmi]; exact List.getElem_mem _
    have hmM := hw.1 mi hmem
    have k38 := ((HS_d h).2.2.2.1 mi hmM).1.2.2
    rw [cj_X9_find_12, show (nI (k + 1) - 1 : Int32) = nI k from nI_pred _, if_neg (nI_pos (by omega)), T_gr h rfl, Option.bind_some]
    show ((a_dp 79 (X.2 169) s).bind fun m2 => _) = _
    rw [e1, f_dp hS.1.2.2 rfl, Option.bind_some, l_get (d + 0) SCL hget (by rw [hS.2.1]; simp; omega), cR_k]
    have hcst : cx_cst a_io 56 (some mi) s = some () := by
      unfold cx_cst a_io
      dsimp only
      rw [k38]
      rfl
    rw [hcst, Option.bind_some, f_dp k38 rfl, Option.bind_some, map_get d h hmM ha, cR_k]
    rw [hm]
    show _ = some (Sum.inl (some (vr_ (match (am_get (M.2 mi) (.inl u)).getD none with
      | some a => some a
      | none => fd_ M.2 u (L.1.drop (L.1.length - k))))), s)
    cases hg : (am_get (M.2 mi) (.inl u)).getD none with
    | none =>
      rw [show cx_cst a_io 7 none s = some () from rfl, Option.bind_some, if_pos rfl, show (nI k + -1 : Int32) = nI k - 1 from (Int32.sub_eq_add_neg _ _).symm]
      exact ih (by omega)
    | some a' =>
      have k7 := ((HS_d h).2.2.2.2.1 a' (hw.2 mi hmM u a' hg)).1.2.2
      have hc7 : cx_cst a_io 7 (some a') s = some () := by
        unfold cx_cst a_io
        dsimp only
        rw [k7]
        rfl
      rw [hc7, Option.bind_some, if_neg (fun q => nomatch q)]
theorem h_find (d : Nat) {a : Nat} {u : List Int32} (h : HS_ x SCL RTL AR DA EA s0 s (X, L, J, M, N, R, D, E) Cb Zb) (hw : WT_ L M N) (ha : (aK_ s a).1 = 26 ∧ aS_ s a = u) : aE (d + 2) 380 [vr_ (some x), vr_ (some a)] s = some (.inl (some (vr_ (fd_ M.2 u L.1))), s) := by
  have hS := (HS_d h).2.1.1
  have e1 : X.2 169 = some SCL := (HS_d h).1.2.2.2.1
  rw [ce_X9_find, T_gr h rfl, Option.bind_some]
  show ((a_dp 78 (X.2 169) s).bind fun m2 => _) = _
  rw [e1, f_dp hS.1.2.2 rfl, Option.bind_some, l_size, cI_k, hS.2.1, List.length_reverse, List.length_map]
  have := h_find12 d h hw ha L.1.length (Nat.le_refl _)
  rw [Nat.sub_self, List.drop_zero] at this
  exact this
end hop2
