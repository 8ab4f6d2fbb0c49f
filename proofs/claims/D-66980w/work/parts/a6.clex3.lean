/-! ===== tokens and misreadings as objects ===== -/
/-- the text of a sign, by its number in the reference -/
def sgt_ (k : Nat) : List Int32 :=
  if k = 12 then ak_S 1048 else if k = 13 then ak_S 1076 else if k = 14 then ak_S 1082 else if k = 15 then ak_S 1083 else if k = 16 then ak_S 1078 else if k = 17 then ak_S 1079 else if k = 18 then ak_S 1049 else if k = 19 then ak_S 1084 else if k = 20 then ak_S 1050 else if k = 21 then ak_S 1027 else if k = 22 then ak_S 1028 else if k = 23 then ak_S 1029 else if k = 24 then ak_S 1030 else if k = 25 then ak_S 1021 else if k = 26 then ak_S 1022 else if k = 27 then ak_S 1023 else if k = 28 then ak_S 1024 else if k = 29 then ak_S 1025 else if k = 30 then ak_S 1026 else if k = 31 then ak_S 1019 else if k = 32 then ak_S 1020 else if k = 33 then ak_S 1080 else if k = 34 then ak_S 1018 else if k = 35 then ak_S 1017 else if k = 36 then ak_S 1081 else if k = 10 then ak_S 1051 else if k = 11 then ak_S 1075 else []
/-- kind, text, tag of a token as the component has them -/
def cw_ (y : tk_) : Int32 × List Int32 × List Int32 :=
  if y.1 = 2 then (1, [], []) else if y.1 = 4 then (2, y.2.2.2, []) else if y.1 = 10 ∨ y.1 = 11 then (3, sgt_ y.1, y.2.2.2) else if y.2.2.2 = [] then (3, sgt_ y.1, []) else if y.1 = 1 then (0, y.2.2.2, []) else (4, y.2.2.2, [])
def lvl_ (k : Int32) (t : List Int32) : Int32 := if k = 3 then sg_levelOf (sx_ t sl_levelOf) else if k = 4 then sg_levelOf (sx_ t sl_levelOf) else -1
/-- a string of a text -/
def St (s : as_) (r : Option Nat) (l : List Int32) : Prop := ∃ a, r = some a ∧ (aK_ s a).1 = 26 ∧ a < aN_ s ∧ aS_ s a = l
/-- a token object: kind, place, line, value, text, level, tag -/
def CT (s : as_) (id : Nat) (k pl ln v : Int32) (txt tag : List Int32) : Prop := (4000 ≤ id ∧ id < aN_ s ∧ aK_ s id = (14, 0)) ∧ (aI_ s id 84 = k ∧ aI_ s id 85 = pl ∧ aI_ s id 86 = ln ∧ aI_ s id 87 = v ∧ aI_ s id 89 = lvl_ k txt) ∧ St s (aR_ s id 88) txt ∧ St s (aR_ s id 90) tag
section clex3
variable {s s' : as_} {x A TL SB : Nat} {t : Nat → Nat} {n p line : Nat} {sb : List Int32} {ids : List Nat} {M : Nat → Prop}
theorem St_Kp {r : Option Nat} {l : List Int32} (h : St s r l) (hk : Kp M s s') (hM : ∀ a, M a → (aK_ s a).1 ≠ 26) : St s' r l := by
  obtain ⟨a, rfl, h1, h2, h3⟩ := h
  have := hk.2 a h2 (fun q => hM a q h1)
  exact ⟨a, rfl, by rw [this.2.2.1]; exact h1, by have := hk.1; omega, this.2.2.2.1.trans h3⟩
theorem St_c (c : Nat) (h : ak_K c = (26, 0)) (hc : c < 3000) (hN : 4000 ≤ aN_ s) : St s (some c) (ak_S c) := by
  refine ⟨c, rfl, ?_, by omega, ?_⟩
  · unfold aK_; rw [if_pos (by omega), if_pos hc, h]
  · unfold aS_; rw [if_pos (by omega)]
theorem CT_Kp {id : Nat} {k pl ln v : Int32} {txt tag : List Int32} (h : CT s id k pl ln v txt tag) (hk : Kp M s s') (hM : ∀ a, M a → (aK_ s a).1 ≠ 26 ∧ (aK_ s a).1 ≠ 14) : CT s' id k pl ln v txt tag := by
  obtain ⟨⟨h1, h2, h3⟩, ⟨i1, i2, i3, i4, i5⟩, s1, s2⟩ := h
  have q := hk.2 id h2 (fun q => (hM id q).2 (by rw [h3]))
  refine ⟨⟨h1, by have := hk.1; omega, q.2.2.1.trans h3⟩, ⟨(q.1 _).trans i1, (q.1 _).trans i2, (q.1 _).trans i3, (q.1 _).trans i4, (q.1 _).trans i5⟩, ?_, ?_⟩
  · rw [q.2.1]; exact St_Kp s1 hk (fun a ha => (hM a ha).1)
  · rw [q.2.1]; exact St_Kp s2 hk (fun a ha => (hM a ha).1)
/-- what Token's constructor does -/
def nt_ (s : as_) (id : Nat) (k pl ln v : Int32) (tx : Nat) (lv : Int32) : as_ := awI (awR (awI (awI (awI (awI (awR s id 90 (some 1010)) id 84 k) id 85 pl) id 86 ln) id 87 v) id 88 (some tx)) id 89 lv
theorem x_tok (d : Nat) {id tx : Nat} {k pl ln v : Int32} {l : List Int32} (hK : (aK_ s id).1 = 14) (ht : (aK_ s tx).1 = 26) (hs : aS_ s tx = l) : aE (d + 3) 266 [vr_ (some id), vi_ k, vi_ pl, vi_ ln, vi_ v, vr_ (some tx)] s = some (.inl none, nt_ s id k pl ln v tx (lvl_ k l)) := by
  rw [ce_X11_init, l_obj, cV_k, f_pr (f := 90) hK rfl, Option.bind_some, f_pi (f := 84) (s := awR s id 90 (some 1010)) hK rfl rfl, Option.bind_some, f_pi (f := 85) (s := awI (awR s id 90 (some 1010)) id 84 k) hK rfl rfl, Option.bind_some, f_pi (f := 86) (s := awI (awI (awR s id 90 (some 1010)) id 84 k) id 85 pl) hK rfl rfl, Option.bind_some, f_pi (f := 87) (s := awI (awI (awI (awR s id 90 (some 1010)) id 84 k) id 85 pl) id 86 ln) hK rfl rfl, Option.bind_some, f_pr (f := 88) (s := awI (awI (awI (awI (awR s id 90 (some 1010)) id 84 k) id 85 pl) id 86 ln) id 87 v) hK rfl, Option.bind_some]
  have e := s_levelOf d (s := awR (awI (awI (awI (awI (awR s id 90 (some 1010)) id 84 k) id 85 pl) id 86 ln) id 87 v) id 88 (some tx)) (x := tx) (t := l) ht hs
  unfold nt_ lvl_
  by_cases c3 : k = 3
  · rw [if_pos c3, if_pos c3, e, cI_k, f_pi (f := 89) (s := awR (awI (awI (awI (awI (awR s id 90 (some 1010)) id 84 k) id 85 pl) id 86 ln) id 87 v) id 88 (some tx)) hK rfl rfl, Option.bind_some]
  rw [if_neg c3, if_neg c3]
  by_cases c4 : k = 4
  · rw [if_pos c4, if_pos c4, e, cI_k, f_pi (f := 89) (s := awR (awI (awI (awI (awI (awR s id 90 (some 1010)) id 84 k) id 85 pl) id 86 ln) id 87 v) id 88 (some tx)) hK rfl rfl, Option.bind_some]
  rw [if_neg c4, if_neg c4, f_pi (f := 89) (s := awR (awI (awI (awI (awI (awR s id 90 (some 1010)) id 84 k) id 85 pl) id 86 ln) id 87 v) id 88 (some tx)) hK rfl rfl, Option.bind_some]
theorem CT_nt {id tx : Nat} {k pl ln v : Int32} {l : List Int32} (h1 : 4000 ≤ id) (h2 : id < aN_ s) (h3 : aK_ s id = (14, 0)) (ht : (aK_ s tx).1 = 26) (hx : tx < aN_ s) (hs : aS_ s tx = l) : CT (nt_ s id k pl ln v tx (lvl_ k l)) id k pl ln v l [] := by
  refine ⟨⟨h1, h2, h3⟩, ⟨?_, ?_, ?_, ?_, ?_⟩, ⟨tx, ?_, ht, hx, hs⟩, ?_⟩
  · simp [nt_, aI_awI, aI_awR, h1]
  · simp [nt_, aI_awI, aI_awR, h1]
  · simp [nt_, aI_awI, aI_awR, h1]
  · simp [nt_, aI_awI, aI_awR, h1]
  · simp [nt_, aI_awI, h1]
  · simp [nt_, aR_awI, aR_awR]
  · have e : aR_ (nt_ s id k pl ln v tx (lvl_ k l)) id 90 = some 1010 := by simp [nt_, aR_awI, aR_awR]
    rw [e]
    exact St_c 1010 rfl (by decide) (by show 4000 ≤ aN_ s; omega)
theorem Kp_nt {s0 : as_} {id tx : Nat} {k pl ln v lv : Int32} (h : Kp M s0 s) (hi : M id ∨ aN_ s0 ≤ id) : Kp M s0 (nt_ s id k pl ln v tx lv) := Kp_I (Kp_R (Kp_I (Kp_I (Kp_I (Kp_I (Kp_R h 90 _ hi) 84 _ hi) 85 _ hi) 86 _ hi) 87 _ hi) 88 _ hi) 89 _ hi
/-- a new token -/
theorem x_newTok (d : Nat) {tx : Nat} {k pl ln v : Int32} {l : List Int32} (hN : 4000 ≤ aN_ s) (ht : (aK_ s tx).1 = 26) (hx : tx < aN_ s) (hs : aS_ s tx = l) : ∃ s', aE (d + 3) 266 [vr_ (some (a_nw 14 s).1), vi_ k, vi_ pl, vi_ ln, vi_ v, vr_ (some tx)] (a_nw 14 s).2 = some (.inl none, s') ∧ CT s' (aN_ s) k pl ln v l [] ∧ Kp (fun _ => False) s s' ∧ Rm 1 7 s s' ∧ aN_ s' = aN_ s + 1 := by
  have hne : ¬ tx = aN_ s := by omega
  have k1 : aK_ (a_nw 14 s).2 (aN_ s) = (14, 0) := by
    show aK_ (anew s (14, 0)) (aN_ s) = _
    rw [aK_anew, if_pos ⟨hN, rfl⟩]
  have k2 : (aK_ (a_nw 14 s).2 tx).1 = 26 := by
    show (aK_ (anew s (14, 0)) tx).1 = _
    rw [aK_anew, if_neg (fun q => hne q.2)]
    exact ht
  have k3 : aS_ (a_nw 14 s).2 tx = l := by
    show aS_ (anew s (14, 0)) tx = _
    rw [aS_anew, if_neg (fun q => hne q.2)]
    exact hs
  refine ⟨_, x_tok d (by rw [show (a_nw 14 s).1 = aN_ s from rfl, k1]) k2 k3, CT_nt hN (Nat.lt_succ_self _) k1 k2 (Nat.lt_succ_of_lt hx) k3, Kp_nt (Kp_new Kp_rf (14, 0)) (Or.inr (Nat.le_refl _)), ⟨Nat.le_refl _, Nat.le_refl _⟩, rfl⟩
/-- a misreading: place and fault -/
def Mis (s : as_) (id : Nat) (pl f : Int32) : Prop := 4000 ≤ id ∧ id < aN_ s ∧ aK_ s id = (8, 0) ∧ aI_ s id 91 = pl ∧ aI_ s id 92 = f
theorem x_newMis (d : Nat) {pl f : Int32} (hN : 4000 ≤ aN_ s) : ∃ s', aE (d + 2) 267 [vr_ (some (a_nw 8 s).1), vi_ pl, vi_ f] (a_nw 8 s).2 = some (.inl none, s') ∧ Mis s' (aN_ s) pl f ∧ Kp (fun _ => False) s s' ∧ Rm 1 8 s s' ∧ aN_ s' = aN_ s + 1 := by
  have k1 : aK_ (a_nw 8 s).2 (aN_ s) = (8, 0) := by
    show aK_ (anew s (8, 0)) (aN_ s) = _
    rw [aK_anew, if_pos ⟨hN, rfl⟩]
  have k1' : (aK_ (a_nw 8 s).2 (a_nw 8 s).1).1 = 8 := by rw [show (a_nw 8 s).1 = aN_ s from rfl, k1]
  refine ⟨awI (awI (a_nw 8 s).2 (aN_ s) 91 pl) (aN_ s) 92 f, ?_, ⟨hN, Nat.lt_succ_self _, k1, ?_, ?_⟩, Kp_I (Kp_I (Kp_new Kp_rf (8, 0)) 91 _ (Or.inr (Nat.le_refl _))) 92 _ (Or.inr (Nat.le_refl _)), ⟨Nat.le_refl _, Nat.le_refl _⟩, rfl⟩
  · rw [ce_X12_init, l_rte, cV_k, f_pi (f := 91) k1' rfl rfl, Option.bind_some, f_pi (f := 92) (s := awI (a_nw 8 s).2 (a_nw 8 s).1 91 pl) k1' rfl rfl, Option.bind_some]
    rfl
  · simp [aI_awI, hN]
  · simp [aI_awI, hN]
/-! letters, digits and the like -/
theorem u16_ : ∀ c, c < 256 → ((nI c).toUInt32 % 65536).toInt32 = nI c ∧ (0 ≤ nI c ∧ nI c < 256) := by decide +kernel
theorem x_isRest (h : LX s x A TL SB t n p line sb ids) (hp : p ≤ n) (d : Nat) {pl : Int32} : (cR_ (tx_ t n p) = true → aJ (d + 3) 257 10 [vr_ (some x), vi_ pl, vr_ (some SB)] [] s = aJ (d + 3) 257 52 [vr_ (some x), vi_ pl, vr_ (some SB)] [] s) ∧ (cR_ (tx_ t n p) = false → aJ (d + 3) 257 10 [vr_ (some x), vi_ pl, vr_ (some SB)] [] s = (if (40 : Int32) < nI sb.length then (cx_bV cx_th (aE (d + 2) 267 [vr_ (some (a_nw 8 s).1), vi_ pl, vi_ 1] (a_nw 8 s).2) fun s20 => some (.inr (a_nw 8 s).1, s20)) else some (.inl (some (vr_ (some (aN_ s)))), as_new s sb))) := by
  obtain ⟨_, ⟨k1, k2, k3, k4⟩, ⟨i1, i2, i3⟩, ⟨r1, r2, r3⟩, ⟨hn, ht⟩, e1, e2⟩ := id h
  have ht' : ∀ i, i < n → t i < 256 := fun i hi => (ht i hi).1
  have e0 : aE (d + 1 + 1) 253 [vr_ (some x), vi_ 0] s = _ := x_peek0 (d + 1) h hp
  have el := x_isLetter (s := s) (d + 1) p ht'
  have ed := x_isDigit (s := s) (d + 1) p ht'
  rw [cj_X10_rest_10, f_dp (f := 253) k1 rfl, Option.bind_some, e0, cI_k, el, cI_k]
  simp only [zb_0, f_dp (f := 253) k1 rfl, Option.bind_some, e0, cI_k, ed, pk_tx (q := p) ht' 46 (by decide) (by decide), pk_tx (q := p) ht' 95 (by decide) (by decide)]
  unfold cR_
  cases h1 : cL_ (tx_ t n p) with
  | true => exact ⟨fun _ => by rw [if_neg (by decide)], fun q => by simp at q⟩
  | false =>
    cases h2 : cD_ (tx_ t n p) with
    | true => exact ⟨fun _ => by rw [if_pos rfl, if_neg (by decide)], fun q => by simp at q⟩
    | false =>
      rw [if_pos rfl, if_pos rfl]
      by_cases h3 : tx_ t n p = 46
      · rw [if_pos h3]; exact ⟨fun _ => rfl, fun q => by simp [h3] at q⟩
      rw [if_neg h3]
      by_cases h4 : tx_ t n p = 95
      · rw [if_pos h4]; exact ⟨fun _ => rfl, fun q => by simp [h4] at q⟩
      rw [if_neg h4]
      refine ⟨fun q => by simp [h3, h4] at q, fun _ => ?_⟩
      rw [f_dp (f := 120) k4 rfl, Option.bind_some, l_sbLen, cI_k, e1, f_dp (f := 121) k4 rfl, Option.bind_some, l_sbStr, cR_k, e1]
theorem x_rest_52 (d : Nat) {pl : Int32} (h : LX s x A TL SB t n p line sb ids) (hp : p < n) : ∃ s', aJ (d + 3) 257 52 [vr_ (some x), vi_ pl, vr_ (some SB)] [] s = aJ (d + 3) 257 10 [vr_ (some x), vi_ pl, vr_ (some SB)] [] s' ∧ LX s' x A TL SB t n (p + 1) line (sb ++ [nI (t p)]) ids ∧ Kp (fun a => a = x ∨ a = SB) s s' ∧ Rm 1 10 s s' ∧ aN_ s' = aN_ s := by
  obtain ⟨_, ⟨k1, k2, k3, k4⟩, ⟨i1, i2, i3⟩, ⟨r1, r2, r3⟩, ⟨hn, ht⟩, e1, e2⟩ := id h
  have e0 : aE (d + 1 + 1) 253 [vr_ (some x), vi_ 0] s = _ := x_peek0 (d + 1) h (by omega)
  have ep : pkc_ t n p = nI (t p) := by unfold pkc_; rw [if_pos hp]
  rw [ep] at e0
  have u := u16_ (t p) (ht p hp).1
  have h1 : LX (as_app s SB (nI (t p))) x A TL SB t n p line (sb ++ [nI (t p)]) ids := by
    have := LX_C (LX_sb h (sb ++ [nI (t p)])) 1 10
    unfold as_app
    rw [e1]
    exact this
  refine ⟨awI (as_app s SB (nI (t p))) x 80 (nI (p + 1)), ?_, LX_at h1 (p + 1), Kp_I (Kp_C (Kp_S Kp_rf _ (Or.inl (Or.inr rfl))) 1 10) 80 _ (Or.inl (Or.inl rfl)), ⟨Nat.le_refl _, Nat.le_refl _⟩, rfl⟩
  rw [cj_X10_rest_52, f_dp (f := 253) k1 rfl, Option.bind_some, e0, cI_k, f_dp (f := 119) k4 rfl, Option.bind_some, u.1, l_sbApp _ _ u.2, cR_k, f_gi (f := 80) (s := as_app s SB (nI (t p))) k1 rfl, Option.bind_some, h1.2.2.1.2.1, nI_1, f_pi (f := 80) (s := as_app s SB (nI (t p))) k1 rfl rfl, Option.bind_some]
theorem x_rest_10 (d : Nat) {pl : Int32} : ∀ (m p : Nat) (s : as_) (sb : List Int32), p ≤ n → n ≤ p + m → LX s x A TL SB t n p line sb ids → ∃ s', aJ (d + 3) 257 10 [vr_ (some x), vi_ pl, vr_ (some SB)] [] s = (if (40 : Int32) < nI (sb ++ tw_ t p (rs_ t n m p - p)).length then (cx_bV cx_th (aE (d + 2) 267 [vr_ (some (a_nw 8 s').1), vi_ pl, vi_ 1] (a_nw 8 s').2) fun s20 => some (.inr (a_nw 8 s').1, s20)) else some (.inl (some (vr_ (some (aN_ s')))), as_new s' (sb ++ tw_ t p (rs_ t n m p - p)))) ∧ LX s' x A TL SB t n (rs_ t n m p) line (sb ++ tw_ t p (rs_ t n m p - p)) ids ∧ Kp (fun a => a = x ∨ a = SB) s s' ∧ Rm (rs_ t n m p - p) (10 * (rs_ t n m p - p)) s s' ∧ aN_ s' = aN_ s
  | 0, p, s, sb, hp, hm, h => by
    have e : p = n := by omega
    have hc : cR_ (tx_ t n p) = false := by rw [tx_big (by omega)]; exact cR_0
    have er : rs_ t n 0 p = p := rfl
    have et : tw_ t p (p - p) = [] := by rw [Nat.sub_self]; rfl
    rw [er, et, List.append_nil]
    exact ⟨s, (x_isRest h hp d).2 hc, h, Kp_rf, by rw [Nat.sub_self]; exact Rm_rf, rfl⟩
  | m + 1, p, s, sb, hp, hm, h => by
    unfold rs_
    cases hc : cR_ (tx_ t n p) with
    | false =>
      have et : tw_ t p (p - p) = [] := by rw [Nat.sub_self]; rfl
      rw [if_neg (by decide), et, List.append_nil]
      exact ⟨s, (x_isRest h hp d).2 hc, h, Kp_rf, by rw [Nat.sub_self]; exact Rm_rf, rfl⟩
    | true =>
      rw [if_pos rfl]
      have hlt : p < n := by
        by_cases c : p < n
        · exact c
        · rw [tx_big (by omega), cR_0] at hc; cases hc
      obtain ⟨s1, a1, a2, a3, a4, a5⟩ := x_rest_52 d (pl := pl) h hlt
      obtain ⟨s', b1, b2, b3, b4, b5⟩ := x_rest_10 d (pl := pl) m (p + 1) s1 (sb ++ [nI (t p)]) (by omega) (by omega) a2
      have hle := rs_le (t := t) (n := n) m (p + 1) (by omega)
      have et : tw_ t p (rs_ t n m (p + 1) - p) = nI (t p) :: tw_ t (p + 1) (rs_ t n m (p + 1) - (p + 1)) := by
        rw [show rs_ t n m (p + 1) - p = (rs_ t n m (p + 1) - (p + 1)) + 1 by omega]
        rfl
      have ea : sb ++ [nI (t p)] ++ tw_ t (p + 1) (rs_ t n m (p + 1) - (p + 1)) = sb ++ tw_ t p (rs_ t n m (p + 1) - p) := by rw [et]; simp
      rw [ea] at b1 b2
      refine ⟨s', by rw [(x_isRest h hp d).1 hc, a1, b1], b2, Kp_tr a3 b3, Rm_wk (Rm_tr a4 b4) (by omega) (by omega), b5.trans a5⟩
end clex3
