/-! ===== the component's scanner: all tokens ===== -/
section clexB
variable {s s' s0 : as_} {x A TL SB : Nat} {t : Nat → Nat} {n p line : Nat} {sb : List Int32} {ids : List Nat} {M : Nat → Prop}
theorem ls_cs {α : Type} (l : List α) : l = [] ∨ ∃ a b, l = a ++ [b] := by
  cases h : l.reverse with
  | nil => exact Or.inl (List.reverse_eq_nil_iff.mp h)
  | cons b a => exact Or.inr ⟨a.reverse, b, by rw [← List.reverse_reverse l, h, List.reverse_cons]⟩
theorem cw_lt (y : tk_) : (cw_ y).1 < 5 := by
  unfold cw_
  repeat' split
  all_goals (dsimp only; decide)
theorem x_addT (d : Nat) {T : List tk_} {last ln i0 : Nat} {y : tk_} (h : LX s x A TL SB t n p line sb ids) (hT : TKs s ids T) (hla : ∀ i1 il, ids = i1 ++ [il] → aI_ s il 86 = nI last) (hl : ids.length < 2 ^ 31) (b1 : last < 2 ^ 31) (b2 : ln < 2 ^ 31) (hv : Vt y) (hc : CT s i0 (cw_ y).1 (nI y.2.1) (nI ln) (if y.1 = 2 then y.2.2.1 else 0) (cw_ y).2.1 (cw_ y).2.2) : ∃ s' mid, aE (d + 4) 265 [vr_ (some x), vr_ (some i0)] s = some (.inl none, s') ∧ LX s' x A TL SB t n p line sb (ids ++ mid ++ [i0]) ∧ TKs s' (ids ++ mid ++ [i0]) (ta_ T last ln y) ∧ Kp (fun a => a = TL) s s' ∧ Rm 3 27 s s' := by
  have kT := h.2.1.2.2.1
  have hM : ∀ a, a = TL → (aK_ s a).1 ≠ 26 ∧ (aK_ s a).1 ≠ 14 := fun a q => by subst q; rw [kT]; decide
  rcases ls_cs ids with rfl | ⟨i1, il, rfl⟩
  · obtain rfl : T = [] := List.length_eq_zero_iff.mp hT.1.symm
    have hK : Kp (fun a => a = TL) s (al_add s TL (some i0)) := Kp_aT Kp_rf _
    refine ⟨_, [], x_add0 (d + 2) h (some i0), LX_add h i0, ?_, hK, Rm_wk (Rm_add _) (by omega) (by omega)⟩
    exact TKs_snoc (TKs_Kp hT hK hM) hv (CT_Kp hc hK hM)
  · rcases ls_cs T with rfl | ⟨T0, z, rfl⟩
    · have := hT.1; simp at this
    · have hlen : i1.length = T0.length := by have := hT.1; simp at this; exact this
      obtain ⟨vz, l0, cz⟩ := hT.2 i1.length il z (by simp) (by rw [hlen]; simp)
      have e0 : l0 = nI last := cz.2.1.2.2.1.symm.trans (hla i1 il rfl)
      subst e0
      obtain ⟨s', a1, a2, a3, a4⟩ := x_add1 d h (by simp at hl; omega) cz hc b1 b2
      have eC : (last < ln ∧ el_ (cw_ z).1 (cw_ z).2.1 ≠ 0 ∧ bgn_ (cw_ y).1 (cw_ y).2.1 ≠ 0) = (last < ln ∧ eL_ z.1 = true ∧ bE_ y.1 = true) := by
        rw [(el_ok vz).1, (el_ok hv).2]
        simp only [ne_eq, zb_0, Bool.not_eq_false]
      have eT : ta_ (T0 ++ [z]) last ln y = if last < ln ∧ eL_ z.1 = true ∧ bE_ y.1 = true then T0 ++ [z] ++ [(15, y.2.1, 0, [])] ++ [y] else T0 ++ [z] ++ [y] := by
        unfold ta_
        rw [List.getLast?_concat]
      have hT' := TKs_Kp hT a2 hM
      have hc' := CT_Kp hc a2 hM
      simp only [eC] at a4
      rw [eT]
      by_cases c : last < ln ∧ eL_ z.1 = true ∧ bE_ y.1 = true
      · rw [if_pos c] at a4
        obtain ⟨i2, _, c2, l2⟩ := a4
        rw [if_pos c]
        refine ⟨s', [i2], a1, l2, ?_, a2, a3⟩
        have v15 : Vt (15, y.2.1, 0, []) := ⟨by simp, Or.inr (Or.inr (Or.inr (Or.inl ⟨by simp, by simp, Or.inr (Or.inr rfl)⟩)))⟩
        exact TKs_snoc (TKs_snoc hT' v15 (y := (15, y.2.1, 0, [])) (id := i2) (ln := nI ln) c2) hv hc'
      · rw [if_neg c] at a4
        rw [if_neg c]
        refine ⟨s', [], a1, by simpa using a4, ?_, a2, a3⟩
        rw [List.append_nil]
        exact TKs_snoc hT' hv hc'
/-- the last token, of the end or of a misreading -/
theorem x_addE (d : Nat) {T : List tk_} {last ln i0 : Nat} {k pl v : Int32} {txt tag : List Int32} (h : LX s x A TL SB t n p line sb ids) (hT : TKs s ids T) (hla : ∀ i1 il, ids = i1 ++ [il] → aI_ s il 86 = nI last) (hl : ids.length < 2 ^ 31) (b1 : last < 2 ^ 31) (b2 : ln < 2 ^ 31) (hc : CT s i0 k pl (nI ln) v txt tag) (hk : 2 < k ∧ ¬ k < 5) : ∃ s', aE (d + 4) 265 [vr_ (some x), vr_ (some i0)] s = some (.inl none, s') ∧ LX s' x A TL SB t n p line sb (ids ++ [i0]) ∧ TKs s' ids T ∧ CT s' i0 k pl (nI ln) v txt tag ∧ Kp (fun a => a = TL) s s' ∧ Rm 3 27 s s' := by
  have kT := h.2.1.2.2.1
  have hM : ∀ a, a = TL → (aK_ s a).1 ≠ 26 ∧ (aK_ s a).1 ≠ 14 := fun a q => by subst q; rw [kT]; decide
  have eb : bgn_ k txt = 0 := by unfold bgn_; rw [if_pos hk.1, if_neg hk.2]
  rcases ls_cs ids with rfl | ⟨i1, il, rfl⟩
  · have hK : Kp (fun a => a = TL) s (al_add s TL (some i0)) := Kp_aT Kp_rf _
    exact ⟨_, x_add0 (d + 2) h (some i0), LX_add h i0, TKs_Kp hT hK hM, CT_Kp hc hK hM, hK, Rm_wk (Rm_add _) (by omega) (by omega)⟩
  · rcases ls_cs T with rfl | ⟨T0, z, rfl⟩
    · have := hT.1; simp at this
    · have hlen : i1.length = T0.length := by have := hT.1; simp at this; exact this
      obtain ⟨vz, l0, cz⟩ := hT.2 i1.length il z (by simp) (by rw [hlen]; simp)
      have e0 : l0 = nI last := cz.2.1.2.2.1.symm.trans (hla i1 il rfl)
      subst e0
      obtain ⟨s', a1, a2, a3, a4⟩ := x_add1 d h (by simp at hl; omega) cz hc b1 b2
      rw [if_neg (fun q => q.2.2 eb)] at a4
      exact ⟨s', a1, a4, TKs_Kp hT a2 hM, CT_Kp hc a2 hM, a2, a3⟩
/-- the end's kind and place -/
def eK_ (o : Option Nat) : Int32 := match o with
  | none => 5
  | some _ => 6
def eP_ (n : Nat) (o : Option Nat) : Nat := match o with
  | none => n
  | some q => q
theorem ta_ln (T : List tk_) (last line : Nat) (x : tk_) : (ta_ T last line x).length ≤ T.length + 2 := ta_len T last line x
theorem x_all_0 (d : Nat) : ∀ (k p line last m : Nat) (s : as_) (sb : List Int32) (ids : List Nat) (T : List tk_), n < p + k → n < p + m → p ≤ n → line ≤ p → last ≤ line → LX s x A TL SB t n p line sb ids → TKs s ids T → (∀ i1 il, ids = i1 ++ [il] → aI_ s il 86 = nI last) → T.length ≤ 2 * p →
    ∃ s' ids' iE p' line' sb', aJ (d + 6) 251 0 [vr_ (some x)] [] s = some (.inl none, s') ∧ LX s' x A TL SB t n p' line' sb' (ids' ++ [iE]) ∧ TKs s' ids' (sc_ t n m p line last T).1 ∧ CT s' iE (eK_ (sc_ t n m p line last T).2) (nI (eP_ n (sc_ t n m p line last T).2)) (nI line') 0 (ak_S 1010) [] ∧ Kp (fun a => a = x ∨ a = SB ∨ a = TL) s s' ∧ Rm (7 * (n - p) + n + 8) (49 * (n - p) + 11 * n + 60) s s'
  | 0, p, line, last, m, s, sb, ids, T, hk, _, hp, _, _, _, _, _, _ => by omega
  | k + 1, p, line, last, m, s, sb, ids, T, hk, hm, hp, hlp, hll, h, hT, hla, hTl => by
    have k1 := h.2.1.1
    have hn := h.2.2.2.2.1.1
    obtain ⟨s1, p1, l1, a1, h1, a3, a4, ⟨b1, b2, b3, b4, b5⟩, a6⟩ := x_blanks_0 (d + 3) (n + 1) p line s (by omega) hp hlp h
    have a0 : aE (d + 5) 252 [vr_ (some x)] s = some (.inl none, s1) := ((ce_X10_blanks (d + 4) x s).trans (cj_X10_blanks_0 (d + 4) x s).symm).trans a1
    obtain ⟨m', hm', em⟩ := b5 m last T hm
    rw [em]
    clear em
    have hM1 : ∀ a, a = x → (aK_ s a).1 ≠ 26 ∧ (aK_ s a).1 ≠ 14 := fun a q => by subst q; rw [k1]; decide
    have hT1 := TKs_Kp hT a3 hM1
    have hla1 : ∀ i1 il, ids = i1 ++ [il] → aI_ s1 il 86 = nI last := fun i1 il e => by
      subst e
      have q := hla i1 il rfl
      rcases ls_cs T with rfl | ⟨T0, z, rfl⟩
      · have := hT.1; simp at this
      · have hlen : i1.length = T0.length := by have := hT.1; simp at this; exact this
        obtain ⟨vz, l0, cz⟩ := hT.2 i1.length il z (by simp) (by rw [hlen]; simp)
        have c2 := CT_Kp cz a3 hM1
        exact (c2.2.1.2.2.1.trans cz.2.1.2.2.1.symm).trans q
    obtain ⟨bb, ⟨k1', _⟩, ⟨i1, i2, i3⟩, _⟩ := id h1
    have h4 : 4000 ≤ aN_ s1 := by omega
    have hil : ids.length ≤ 2 * n := by have := hT.1; omega
    rw [cj_X10_all_0, f_dp (f := 252) k1 rfl, Option.bind_some, a0, cV_k, f_gi (f := 80) k1' rfl, Option.bind_some, f_gi (f := 79) k1' rfl, Option.bind_some, i1, i2]
    simp only [neq_ (show p1 < 2 ^ 31 by omega) (show n < 2 ^ 31 by omega)]
    cases m' with
    | zero => omega
    | succ m' =>
    obtain ⟨ae, eae, z1, z2, z3⟩ := St_c (s := s1) 1010 rfl (by omega) h4
    cases eae
    by_cases c : p1 = n
    · rw [if_pos c, f_gi (f := 79) (nw_K k1' bb.1.2) rfl, Option.bind_some, nw_I bb.1.2, f_gi (f := 81) (nw_K k1' bb.1.2) rfl, Option.bind_some, nw_I bb.1.2, i1, i3]
      obtain ⟨s2, c1, c2, c3, c4, c5⟩ := x_newTok (d + 2) (s := s1) (tx := 1010) (k := 5) (pl := nI n) (ln := nI l1) (v := 0) (l := ak_S 1010) h4 z1 z2 z3
      have h2 := LX_Kp h1 c3 id id id id
      have k2 := h2.2.1.1
      have hT2 := TKs_Kp hT1 c3 (fun _ q => q.elim)
      have hla2 : ∀ i1 il, ids = i1 ++ [il] → aI_ s2 il 86 = nI last := fun i1 il e => by
        have q := hla1 i1 il e
        subst e
        rcases ls_cs T with rfl | ⟨T0, z, rfl⟩
        · have := hT.1; simp at this
        · have hlen : i1.length = T0.length := by have := hT.1; simp at this; exact this
          obtain ⟨vz, l0, cz⟩ := hT1.2 i1.length il z (by simp) (by rw [hlen]; simp)
          exact ((CT_Kp cz c3 (fun _ q => q.elim)).2.1.2.2.1.trans cz.2.1.2.2.1.symm).trans q
      obtain ⟨s3, d1, d2, d3, d4, d5, d6⟩ := x_addE (d + 1) (i0 := aN_ s1) (last := last) (ln := l1) h2 hT2 hla2 (by omega) (by omega) (by omega) c2 (by decide)
      have d1' : aE (d + 5) 265 [vr_ (some x), vr_ (some (a_nw 14 s1).1)] s2 = some (.inl none, s3) := d1
      have ek : (aK_ s3 (a_nw 14 s1).1).1 = 14 := by show (aK_ s3 (aN_ s1)).1 = 14; rw [d4.1.2.2]
      have ei : aI_ s3 (a_nw 14 s1).1 84 = 5 := d4.2.1.1
      rw [c1, cV_k, f_dp (f := 265) k2 rfl, Option.bind_some, d1', cV_k, f_gi (f := 84) ek rfl, Option.bind_some, ei, if_neg (by decide)]
      have es : sc_ t n (m' + 1) p1 l1 last T = (T, none) := by unfold sc_; rw [if_neg (by omega)]
      rw [es]
      refine ⟨s3, ids, aN_ s1, p1, l1, sb, rfl, d2, d3, d4, ?_, ?_⟩
      · exact Kp_tr (Kp_in (Kp_in Kp_rf a3 (fun a q => Or.inl (Or.inl q))) c3 (fun _ q => q.elim)) (Kp_wk d5 (fun a _ q => Or.inr (Or.inr q)))
      · exact Rm_wk (Rm_tr (Rm_tr a4 c4) d6) (by omega) (by omega)
    · have hp1 : p1 < n := by omega
      obtain ⟨g1, g2, g3⟩ := a6 hp1
      rw [if_neg c, f_dp (f := 254) k1' rfl, Option.bind_some]
      have ht := x_token d h1 hp1
      have es : sc_ t n (m' + 1) p1 l1 last T = (match on_ t n p1 with
        | none => (T, some p1)
        | some x => sc_ t n m' x.2 l1 l1 (ta_ T last l1 x.1)) := by
        conv => lhs; unfold sc_
        rw [if_pos hp1, if_neg g1, if_neg g2, if_neg g3]
        cases on_ t n p1 <;> rfl
      rw [es]
      cases ho : on_ t n p1 with
      | none =>
        rw [ho] at ht
        obtain ⟨s2, i0, p2, sb2, c1, c2, c3, h2, c5, c6, c7⟩ := ht
        have k2 := h2.2.1.1
        have hM2 : ∀ a, a = x ∨ a = SB → (aK_ s1 a).1 ≠ 26 ∧ (aK_ s1 a).1 ≠ 14 := fun a q => by
          rcases q with rfl | rfl
          · rw [k1']; decide
          · rw [h1.2.1.2.2.2]; decide
        have eio : a_io 8 (some i0) s2 = some true := by
          unfold a_io
          dsimp only
          rw [c3.2.2.1]
          rfl
        have h4' : 4000 ≤ aN_ s2 := by have := c6.1; omega
        obtain ⟨ae, eae, z1, z2, z3⟩ := St_c (s := s2) 1010 rfl (by omega) h4'
        cases eae
        have ki : (aK_ s2 i0).1 = 8 := by rw [c3.2.2.1]
        rw [c1, cR_x, eio, Option.bind_some]
        show ∃ s' ids' iE p' line' sb', aJ (d + 6) 251 45 [vr_ (some x)] [vr_ (some i0)] s2 = _ ∧ _
        rw [cj_X10_all_45, f_gi (f := 91) (nw_K ki c3.2.1) rfl, Option.bind_some, nw_I c3.2.1, c3.2.2.2.1, f_gi (f := 81) (nw_K k2 h2.1.1.2) rfl, Option.bind_some, nw_I h2.1.1.2, h2.2.2.1.2.2]
        obtain ⟨s3, e1, e2, e3, e4, e5⟩ := x_newTok (d + 2) (s := s2) (tx := 1010) (k := 6) (pl := nI p1) (ln := nI l1) (v := 0) (l := ak_S 1010) h4' z1 z2 z3
        have h3 := LX_Kp h2 e3 id id id id
        have k3 := h3.2.1.1
        have hT2 := TKs_Kp hT1 c6 hM2
        have hT3 := TKs_Kp hT2 e3 (fun _ q => q.elim)
        have hla3 : ∀ i1 il, ids = i1 ++ [il] → aI_ s3 il 86 = nI last := fun i1 il e => by
          have q := hla1 i1 il e
          subst e
          rcases ls_cs T with rfl | ⟨T0, z, rfl⟩
          · have := hT.1; simp at this
          · have hlen : i1.length = T0.length := by have := hT.1; simp at this; exact this
            obtain ⟨vz, l0, cz⟩ := hT1.2 i1.length il z (by simp) (by rw [hlen]; simp)
            exact ((CT_Kp (CT_Kp cz c6 hM2) e3 (fun _ q => q.elim)).2.1.2.2.1.trans cz.2.1.2.2.1.symm).trans q
        obtain ⟨s4, d1, d2, d3, d4, d5, d6⟩ := x_addE (d + 1) (i0 := aN_ s2) (last := last) (ln := l1) h3 hT3 hla3 (by omega) (by omega) (by omega) e2 (by decide)
        have d1' : aE (d + 5) 265 [vr_ (some x), vr_ (some (a_nw 14 s2).1)] s3 = some (.inl none, s4) := d1
        have ek : (aK_ s4 (a_nw 14 s2).1).1 = 14 := by show (aK_ s4 (aN_ s2)).1 = 14; rw [d4.1.2.2]
        have ei : aI_ s4 (a_nw 14 s2).1 84 = 6 := d4.2.1.1
        rw [e1, cV_k, f_dp (f := 265) k3 rfl, Option.bind_some, d1', cV_k, f_gi (f := 84) ek rfl, Option.bind_some, ei, if_neg (by decide)]
        refine ⟨s4, ids, aN_ s2, p2, l1, sb2, rfl, d2, d3, d4, ?_, ?_⟩
        · exact Kp_tr (Kp_in (Kp_in (Kp_in Kp_rf a3 (fun a q => Or.inl (Or.inl q))) c6 (fun a q => Or.inl (q.elim Or.inl (fun q => Or.inr (Or.inl q))))) e3 (fun _ q => q.elim)) (Kp_wk d5 (fun a _ q => Or.inr (Or.inr q)))
        · exact Rm_wk (Rm_tr (Rm_tr (Rm_tr a4 c7) e4) d6) (by omega) (by omega)
      | some w =>
        obtain ⟨y, p2⟩ := w
        rw [ho] at ht
        obtain ⟨s2, i0, sb2, c1, c2, c3, h2, c6, c7⟩ := ht
        obtain ⟨o1, o2, o3, o4⟩ := on_ok hp1 ho
        have k2 := h2.2.1.1
        have hM2 : ∀ a, a = x ∨ a = SB → (aK_ s1 a).1 ≠ 26 ∧ (aK_ s1 a).1 ≠ 14 := fun a q => by
          rcases q with rfl | rfl
          · rw [k1']; decide
          · rw [h1.2.1.2.2.2]; decide
        have hT2 := TKs_Kp hT1 c6 hM2
        have hla2 : ∀ i1 il, ids = i1 ++ [il] → aI_ s2 il 86 = nI last := fun i1 il e => by
          have q := hla1 i1 il e
          subst e
          rcases ls_cs T with rfl | ⟨T0, z, rfl⟩
          · have := hT.1; simp at this
          · have hlen : i1.length = T0.length := by have := hT.1; simp at this; exact this
            obtain ⟨vz, l0, cz⟩ := hT1.2 i1.length il z (by simp) (by rw [hlen]; simp)
            exact ((CT_Kp cz c6 hM2).2.1.2.2.1.trans cz.2.1.2.2.1.symm).trans q
        obtain ⟨s3, mid, d1, d2, d3, d4, d5⟩ := x_addT (d + 1) h2 hT2 hla2 (by omega) (by omega) (show l1 < 2 ^ 31 by omega) o1 c3
        have hM3 : ∀ a, a = TL → (aK_ s2 a).1 ≠ 26 ∧ (aK_ s2 a).1 ≠ 14 := fun a q => by subst q; rw [h2.2.1.2.2.1]; decide
        have c3' := CT_Kp c3 d4 hM3
        have ek : (aK_ s3 i0).1 = 14 := by rw [c3'.1.2.2]
        rw [c1, cR_k, f_dp (f := 265) k2 rfl, Option.bind_some, d1, cV_k, f_gi (f := 84) ek rfl, Option.bind_some, c3'.2.1.1, if_pos (cw_lt y)]
        have tl := ta_len T last l1 y
        obtain ⟨s4, ids', iE, p', line', sb', f1, f2, f3, f4, f5, f6⟩ := x_all_0 d k p2 l1 l1 m' s3 sb2 (ids ++ mid ++ [i0]) (ta_ T last l1 y) (by omega) (by omega) o4 (by omega) (Nat.le_refl _) d2 d3 (fun i1 il e => by
          have := List.append_inj' e rfl
          obtain ⟨_, e2⟩ := this
          cases e2
          exact c3'.2.1.2.2.1) (by omega)
        refine ⟨s4, ids', iE, p', line', sb', f1, f2, f3, f4, ?_, ?_⟩
        · exact Kp_tr (Kp_in (Kp_in Kp_rf a3 (fun a q => Or.inl (Or.inl q))) c6 (fun a q => Or.inl (q.elim Or.inl (fun q => Or.inr (Or.inl q))))) (Kp_tr (Kp_wk d4 (fun a _ q => Or.inr (Or.inr q))) f5)
        · exact Rm_wk (Rm_tr (Rm_tr (Rm_tr a4 c7) d5) f6) (by omega) (by omega)
end clexB
