/-! ===== the two parsers side by side: the text ===== -/
section pck
variable {T : List tk_} {eo : Option Nat} {n : Nat} {V : Nat → Int32} {L : List (List Int32)} {lx : Bool} {ids : List Nat} {iE x TL IL GS SL : Nat}
theorem tk5 (p : Nat) : tkk T eo p = 5 ↔ T.length ≤ p ∧ eo = none := by
  unfold tkk
  cases hy : T[p]? with
  | none =>
    have := List.getElem?_eq_none_iff.mp hy
    cases eo with
    | none => exact ⟨fun _ => ⟨this, rfl⟩, fun _ => rfl⟩
    | some _ => exact ⟨fun h => absurd h (by show ¬ (6 : Int32) = 5; decide), fun h => nomatch h.2⟩
  | some y =>
    have hlt := (List.getElem?_eq_some_iff.mp hy).1
    refine ⟨fun h => absurd h ?_, fun h => absurd h.1 (by omega)⟩
    show ¬ (cw_ y).1 = 5
    unfold cw_
    repeat' split
    all_goals first | (show ¬ (1 : Int32) = 5; decide) | (show ¬ (2 : Int32) = 5; decide) | (show ¬ (3 : Int32) = 5; decide) | (show ¬ (0 : Int32) = 5; decide) | (show ¬ (4 : Int32) = 5; decide)
/-- declarations of the text itself; names of globals behind them -/
def TXc (T : List tk_) (eo : Option Nat) (n : Nat) : List ((List Int32 ⊕ Int32) × Option Nat) → List cr_ → List tr_ → Prop
  | _, [], [] => True
  | gl, c :: cs, t :: ts => (er c = ovC true gl (cf T eo n t) ∧ 50 ≤ kd_ t ∧ kd_ t ≤ 53) ∧ TXc T eo n (glA gl (cf T eo n t)) cs ts
  | _, _, _ => False
def glS (T : List tk_) (eo : Option Nat) (n : Nat) : List ((List Int32 ⊕ Int32) × Option Nat) → List tr_ → List ((List Int32 ⊕ Int32) × Option Nat)
  | gl, [] => gl
  | gl, t :: ts => glS T eo n (glA gl (cf T eo n t)) ts
theorem glS_sn (t : tr_) : ∀ (ts : List tr_) (gl : List ((List Int32 ⊕ Int32) × Option Nat)), glS T eo n gl (ts ++ [t]) = glA (glS T eo n gl ts) (cf T eo n t)
  | [], _ => rfl
  | u :: r, gl => glS_sn t r (glA gl (cf T eo n u))
theorem TXc_sn {c : cr_} {t : tr_} : ∀ {cs : List cr_} {ts : List tr_} {gl : List ((List Int32 ⊕ Int32) × Option Nat)}, TXc T eo n gl cs ts → (er c = ovC true (glS T eo n gl ts) (cf T eo n t) ∧ 50 ≤ kd_ t ∧ kd_ t ≤ 53) → TXc T eo n gl (cs ++ [c]) (ts ++ [t])
  | [], [], _, _, h => ⟨h, trivial⟩
  | _ :: _, _ :: _, _, h, h2 => ⟨h.1, TXc_sn h.2 h2⟩
  | [], _ :: _, _, h, _ => h.elim
  | _ :: _, [], _, h, _ => h.elim
/-- the text was read -/
def QT (T : List tk_) (eo : Option Nat) (n : Nat) (ids : List Nat) (iE x TL IL GS SL : Nat) (s0 : as_) (CB ZB : Nat) (σ : ps_) (v : Option Nat) (s' : as_) : Prop :=
  ∃ a cs ts nd gl, v = some a ∧ σ = ([], ts.reverse, T.length, 0, [], nd) ∧ TXc T eo n [] cs ts ∧ (∀ c ∈ cs, TG s' (a + 1) c ∧ ∃ i k w l, c = .inner i k w l .leaf) ∧ (cs.flatMap idl_).Nodup ∧ aL_ s' a = cs.map rI_ ∧ (4000 ≤ a ∧ a < aN_ s' ∧ (aK_ s' a).1 = 36) ∧ aN_ s0 ≤ a ∧ PSt T eo n ids iE x TL IL GS SL s' T.length 0 [] (cs.flatMap itm) gl ∧ Kp (Mx x IL GS SL) s0 s' ∧ aC_ s' ≤ CB ∧ aZ_ s' ≤ ZB ∧ (cs.flatMap itm).length ≤ T.length
theorem sq_gl {p p' g m : Nat} (h1 : 4 * m + p ≤ p') (h2 : 4 * g ≤ p) : p * p + 32 * (g * m) + 16 * (m * m) ≤ p' * p' := by
  refine Nat.le_trans ?_ (Nat.mul_self_le_mul_self h1)
  have := Nat.mul_le_mul_right m h2
  simp only [Nat.mul_add, Nat.add_mul, Nat.mul_assoc, Nat.mul_left_comm _ 4 _, Nat.mul_comm m p] at this ⊢
  omega
set_option maxHeartbeats 4000000 in
theorem s_text8 (hv : HV T eo V L lx) (e : Nat) (h1 : SX T eo n V L lx ids iE x TL IL GS SL (XB T eo n false) 0 (e + 5) 280 [vr_ (some x)] (fun _ => [(28, 0, 0, 0)]) (fun _ => True) 20 19 true) (h2 : SX T eo n V L lx ids iE x TL IL GS SL XC 1 (e + 5) 287 [vr_ (some x)] (fun _ => [(11, 0, 0, 0)]) (fun _ => True) 5 22 true) (hd : 20 * 61 + 24 ≤ e + 7) (s0 : as_) (CB ZB : Nat) : ∀ (m : Nat) s p its nd (ts : List tr_) (cs : List cr_) a, T.length - p < m → PSt T eo n ids iE x TL IL GS SL s p 0 [] (cs.flatMap itm) (glS T eo n [] ts) → its = cs.flatMap itm → its.length ≤ p → 4 * (glS T eo n [] ts).length ≤ p → TXc T eo n [] cs ts → (∀ c ∈ cs, TG s (a + 1) c ∧ ∃ i k w l, c = .inner i k w l .leaf) → (cs.flatMap idl_).Nodup → aL_ s a = cs.map rI_ → (4000 ≤ a ∧ a < aN_ s ∧ (aK_ s a).1 = 36) → aN_ s0 ≤ a → Kp (Mx x IL GS SL) s0 s → Lw x TL IL GS SL (aN_ s0) → p ≤ T.length → (16 * aC_ s + 250 * T.length + T.length * T.length + 200 ≤ 16 * CB + 250 * p + p * p ∧ aZ_ s + 250 * T.length + T.length * T.length + 200 ≤ ZB + 250 * p + p * p) → nd ≤ 6 * p ∧ ts.length ≤ nd →
    RL T eo n V lx x IL GS SL s0 CB ZB (aJ (e + 8) 269 8 [vr_ (some x), vr_ (some a)] [] s) (pR_ (Kn T) V T.length lx ([(3, 1, 0, 0), (2, 0, 0, 0)], ts.reverse, p, 0, [], nd)) (QT T eo n ids iE x TL IL GS SL s0 CB ZB) := by
  have hTl : T.length < 2600 := hv.1
  intro m
  induction m with
  | zero => intro s p its nd ts cs a hm; exact absurd hm (Nat.not_lt_zero _)
  | succ m ih =>
  intro s p its nd ts cs a hm hP hits hI hgl hTX hTG hnd hL hA hla hK hw hp ⟨hc, hz⟩ ⟨hn, hts⟩
  have hpp : p * p ≤ T.length * T.length := Nat.mul_self_le_mul_self hp
  have hC : Cn T s p CB ZB := ⟨by omega, by omega⟩
  have hlw : Lw x TL IL GS SL (a + 1) := Lw_le hw (by omega)
  have hlt : ∀ c ∈ cs, ∀ b ∈ idl_ c, b < aN_ s := fun c hc => TG_lt (hTG c hc).1
  rw [cj_X13_text_8, f_dp (f := 270) hP.1.1.2.2 rfl, Option.bind_some]
  refine RL_bind (s_dec hv true 1 rfl e h1 h2 s p 0 [] _ _ [(2, 0, 0, 0)] ts.reverse [] nd CB ZB hP trivial ⟨by simp, by simp; omega, hp, by omega, by simp, by omega⟩ (by omega) hC (by rw [← hits]; exact hI)) hK fun σ v s2 q => ?_
  obtain ⟨t, i, kc, w, l, p2, nd2, k, gl2, rfl, rfl, ⟨f0, f1, f2⟩, hG, hP2, hK2, ⟨c2, z2⟩, ⟨n1, n2, n3, n4⟩, hil, rfl, g1, g2, _⟩ := q
  rw [if_pos rfl] at hP2 g2
  have hN2 := hK2.1
  have hA2 : (4000 ≤ a ∧ a < aN_ s2 ∧ (aK_ s2 a).1 = 36) := ⟨hA.1, by omega, by
    rw [(hK2.2 a hA.2.1 (fun q => by have := Mx_lt hw a q; omega)).2.2.1]
    exact hA.2.2⟩
  have hL2 : aL_ s2 a = cs.map rI_ := by
    rw [(hK2.2 a hA.2.1 (fun q => by have := Mx_lt hw a q; omega)).2.2.2.2.1]
    exact hL
  rw [f_dp (f := 73) hA2.2.2 rfl, Option.bind_some, l_add, cI_k]
  have hk3 : Kp (fun b => b = a) s2 (al_add s2 a (some i)) := Kp_L Kp_rf _ (Or.inl rfl)
  have hM3 : ∀ b, b = a → (aK_ s2 b).1 ≠ 26 ∧ (aK_ s2 b).1 ≠ 14 := fun b q => by subst q; rw [hA2.2.2]; decide
  have hP3 : PSt T eo n ids iE x TL IL GS SL (al_add s2 a (some i)) p2 0 [] ((cs ++ [(Std.DTreeMap.Internal.Impl.inner i kc w l .leaf : cr_)]).flatMap itm) (glS T eo n [] (ts ++ [t])) := by
    rw [glS_sn, List.flatMap_append]
    have := PSt_hi hP2 hw hk3 hM3 (fun b q => by omega)
    simpa using this
  have hTX3 := TXc_sn hTX ⟨f0, f2⟩
  have hTG3 : ∀ c ∈ cs ++ [(Std.DTreeMap.Internal.Impl.inner i kc w l .leaf : cr_)], TG (al_add s2 a (some i)) (a + 1) c ∧ ∃ i k w l, c = .inner i k w l .leaf := fun c hc => by
    rcases List.mem_append.mp hc with q | q
    · exact ⟨TG_Kp (TG_Mx (hTG c q).1 hP hlw hK2) hk3 hM3 (fun b hb z => by have := (hTG c q).1.2.2 b hb; omega), (hTG c q).2⟩
    · simp only [List.mem_singleton] at q
      subst q
      exact ⟨TG_Kp (TG_lo hG (by omega)) hk3 hM3 (fun b hb z => by have := hG.2.2 b hb; omega), _, _, _, _, rfl⟩
  have hnd3 : ((cs ++ [(Std.DTreeMap.Internal.Impl.inner i kc w l .leaf : cr_)]).flatMap idl_).Nodup := by
    rw [List.flatMap_append, List.nodup_append]
    refine ⟨hnd, by simpa using hG.2.1, fun b hb b' hb' z => ?_⟩
    obtain ⟨c, hc, hbc⟩ := List.mem_flatMap.mp hb
    have q1 := hlt c hc b hbc
    have q2 := hG.2.2 b' (by simpa using hb')
    omega
  have hL3 : aL_ (al_add s2 a (some i)) a = (cs ++ [(Std.DTreeMap.Internal.Impl.inner i kc w l .leaf : cr_)]).map rI_ := by
    show aL_ (awL s2 a _) a = _
    rw [aL_awL, if_pos rfl, hL2, List.map_append]
    rfl
  have hK3 : Kp (Mx x IL GS SL) s0 (al_add s2 a (some i)) := Kp_L (Kp_tr hK hK2) _ (Or.inr hla)
  have hI3 : ((cs ++ [(Std.DTreeMap.Internal.Impl.inner i kc w l .leaf : cr_)]).flatMap itm).length ≤ p2 := by
    rw [List.flatMap_append, List.length_append, ← hits]
    simp
    omega
  have hgl3 : 4 * (glS T eo n [] (ts ++ [t])).length ≤ p2 := by rw [glS_sn]; omega
  have hA3 : (4000 ≤ a ∧ a < aN_ (al_add s2 a (some i)) ∧ (aK_ (al_add s2 a (some i)) a).1 = 36) := hA2
  have sq := sq_gl g1 hgl
  have hc3 : 16 * aC_ (al_add s2 a (some i)) + 250 * T.length + T.length * T.length + 200 ≤ 16 * CB + 250 * p2 + p2 * p2 := by
    have : aC_ (al_add s2 a (some i)) = aC_ s2 + 1 := rfl
    omega
  have hz3 : aZ_ (al_add s2 a (some i)) + 250 * T.length + T.length * T.length + 200 ≤ ZB + 250 * p2 + p2 * p2 := by
    have : aZ_ (al_add s2 a (some i)) = aZ_ s2 + 10 := rfl
    omega
  have hrev : t :: ts.reverse = (ts ++ [t]).reverse := by rw [List.reverse_append]; rfl
  have hn3 : nd2 ≤ 6 * p2 ∧ (ts ++ [t]).length ≤ nd2 := ⟨by omega, by simp at n2 ⊢; omega⟩
  rw [hrev]
  clear hP hTX hTG hnd hL hA hlt hP2 hG hM3 hk3 hL2 hA2 hK2
  generalize al_add s2 a (some i) = s3 at *
  generalize hcs3 : cs ++ [(Std.DTreeMap.Internal.Impl.inner i kc w l .leaf : cr_)] = cs3 at *
  generalize hts3 : ts ++ [t] = ts3 at *
  have hpp2 : p2 * p2 ≤ T.length * T.length := Nat.mul_self_le_mul_self n4
  have hC3 : Cn T s3 p2 CB ZB := ⟨by omega, by omega⟩
  have g2r : pS_ (Kn T) V T.length lx 2 0 0 0 ([], ts3.reverse, p2, 0, [], nd2) = (if p2 = T.length then (if lx = true then ok_ ([], ts3.reverse, p2, 0, [], nd2) else fl_ p2) else if Kn T p2 = 15 then (if p2 + 1 = T.length then (if lx = true then ok_ ([], ts3.reverse, p2 + 1, 0, [], nd2) else fl_ (p2 + 1)) else ok_ ([(1, 0, 0, 0)], ts3.reverse, p2 + 1, 0, [], nd2)) else fl_ p2) := rfl
  have fin : ∀ s4 p4, PSt T eo n ids iE x TL IL GS SL s4 p4 0 [] (cs3.flatMap itm) (glS T eo n [] ts3) → Kp (Mx x IL GS SL) s3 s4 → aC_ s4 = aC_ s3 → aZ_ s4 = aZ_ s3 → p4 = T.length → RL T eo n V lx x IL GS SL s0 CB ZB (some (.inl (some (vr_ (some a))), s4)) (pR_ (Kn T) V T.length lx ([], ts3.reverse, p4, 0, [], nd2)) (QT T eo n ids iE x TL IL GS SL s0 CB ZB) := fun s4 p4 hP4 hK4 cc4 cz4 hp4 => by
    subst hp4
    have hNo : ∀ b, Mx x IL GS SL b → b ≠ a := fun b q => by have := Mx_lt hw b q; omega
    have q4 := hK4.2 a hA3.2.1 (fun q => hNo a q rfl)
    have := hK4.1
    exact Or.inr ⟨_, _, _, rfl, rfl, a, cs3, ts3, nd2, _, rfl, rfl, hTX3, fun c hc => ⟨TG_Mx (hTG3 c hc).1 hP3 hlw hK4, (hTG3 c hc).2⟩, hnd3, q4.2.2.2.2.1.trans hL3, ⟨hA3.1, by omega, by rw [q4.2.2.1]; exact hA3.2.2⟩, hla, hP4, Kp_tr hK3 hK4, by omega, by omega, by omega⟩
  rw [C_skip (e + 3) hP3 n4 (c := 1083) (kk := 15) rfl (by omega) (by decide +kernel)]
  by_cases c15 : Kn T p2 = 15
  · have hl2 : p2 < T.length := Kn_lt (by omega)
    rw [if_pos c15, if_neg (by decide)]
    rw [if_neg (by omega), if_pos c15] at g2r
    have hP4 := PSt_at hP3 (p' := p2 + 1) (by omega)
    obtain ⟨tk, ln, ct, et⟩ := C_peek (e + 5) hP4 (by omega)
    rw [et, f_gi (f := 84) (c := 14) (by rw [ct.1.2.2]) rfl, Option.bind_some, ct.2.1.1]
    by_cases h5 : tkk T eo (p2 + 1) = 5
    · obtain ⟨hge, heo⟩ := (tk5 (p2 + 1)).mp h5
      have hpe : p2 + 1 = T.length := by omega
      have hlx : lx = true := by rw [hv.2.2.2.2.2, heo]; rfl
      rw [if_pos hpe, if_pos hlx] at g2r
      rw [if_pos h5]
      obtain ⟨tk2, ln2, ct2, et2⟩ := C_peek (e + 5) hP4 (by omega)
      rw [et2, f_gi (f := 84) (c := 14) (by rw [ct2.1.2.2]) rfl, Option.bind_some, ct2.2.1.1, if_pos h5]
      have b2 : pR_ (Kn T) V T.length lx ([(2, 0, 0, 0)], ts3.reverse, p2, 0, [], nd2) = pR_ (Kn T) V T.length lx ([], ts3.reverse, p2 + 1, 0, [], nd2) := pR_ok (pb_I (by simp) (by simp) (by omega) (by omega) (by omega) (by omega) (by omega) (by omega)) g2r
      rw [b2]
      exact fin _ _ hP4 (x_Kp 94 _) rfl rfl hpe
    · rw [if_neg (by intro q; exact h5 q)]
      by_cases hpe : p2 + 1 = T.length
      · have hlx : ¬ lx = true := fun q => h5 ((tk5 (p2 + 1)).mpr ⟨by omega, by
          rw [hv.2.2.2.2.2] at q
          cases heo : eo with
          | none => rfl
          | some _ => rw [heo] at q; exact nomatch q⟩)
        rw [if_pos hpe, if_neg hlx] at g2r
        have b2 : pR_ (Kn T) V T.length lx ([(2, 0, 0, 0)], ts3.reverse, p2, 0, [], nd2) = some (.error (p2 + 1)) := pR_er (pb_I (by simp) (by simp) (by omega) (by omega) (by omega) (by omega) (by omega) (by omega)) g2r
        rw [b2, cj_X13_text_8, f_dp (f := 270) hP4.1.1.2.2 rfl, Option.bind_some]
        have hd2 := s_dec hv true 1 rfl e h1 h2 _ (p2 + 1) 0 [] _ _ [(2, 0, 0, 0)] ts3.reverse [] nd2 CB ZB hP4 trivial ⟨by simp, by simp; omega, by omega, by omega, by simp, by omega⟩ (by omega) ⟨by simp only [aC_awI]; have := hC3.1; omega, by simp only [aZ_awI]; have := hC3.2; omega⟩ (by omega)
        have hK0 : Kn T (p2 + 1) = 0 := by unfold Kn; rw [List.getElem?_eq_none (by omega)]
        have g3 : pS_ (Kn T) V T.length lx 3 1 0 0 ([(2, 0, 0, 0)], ts3.reverse, p2 + 1, 0, [], nd2) = fl_ (p2 + 1) := by
          show (if isD_ (Kn T (p2 + 1)) = true then _ else fl_ (p2 + 1)) = _
          rw [hK0]
          rfl
        have b3 : pR_ (Kn T) V T.length lx ([(3, 1, 0, 0), (2, 0, 0, 0)], ts3.reverse, p2 + 1, 0, [], nd2) = some (.error (p2 + 1)) := pR_er (pb_I (by simp) (by simp) (by omega) (by omega) (by omega) (by omega) (by omega) (by omega)) g3
        rw [b3] at hd2
        refine RL_bind hd2 (Kp_tr hK3 (x_Kp 94 _)) fun σ v s5 q => ?_
        obtain ⟨t', i', kc', w', l', p5, nd5, k', gl5, rfl, rfl, _, _, _, _, _, ⟨_, _, n7, n8⟩, _⟩ := q
        exact absurd n7 (by omega)
      · rw [if_neg hpe] at g2r
        have b2 : pR_ (Kn T) V T.length lx ([(2, 0, 0, 0)], ts3.reverse, p2, 0, [], nd2) = pR_ (Kn T) V T.length lx ([(1, 0, 0, 0)], ts3.reverse, p2 + 1, 0, [], nd2) := pR_ok (pb_I (by simp) (by simp) (by omega) (by omega) (by omega) (by omega) (by omega) (by omega)) g2r
        have b1 : pR_ (Kn T) V T.length lx ([(1, 0, 0, 0)], ts3.reverse, p2 + 1, 0, [], nd2) = pR_ (Kn T) V T.length lx ([(3, 1, 0, 0), (2, 0, 0, 0)], ts3.reverse, p2 + 1, 0, [], nd2) := pR_ok (pb_I (by simp) (by simp) (by omega) (by omega) (by omega) (by omega) (by omega) (by omega)) rfl
        rw [b2, b1]
        have hs : (p2 + 1) * (p2 + 1) = p2 * p2 + 2 * p2 + 1 := by simp only [Nat.mul_add, Nat.add_mul]; omega
        exact ih _ (p2 + 1) _ nd2 ts3 cs3 a (by omega) hP4 rfl (by omega) (by omega) hTX3 (fun c hc => ⟨TG_Mx (hTG3 c hc).1 hP3 hlw (x_Kp 94 _), (hTG3 c hc).2⟩) hnd3 hL3 ⟨hA3.1, hA3.2.1, hA3.2.2⟩ hla (Kp_tr hK3 (x_Kp 94 _)) hw (by omega) ⟨by simp only [aC_awI]; omega, by simp only [aZ_awI]; omega⟩ ⟨by omega, hn3.2⟩
  · rw [if_neg c15, if_pos rfl]
    rw [if_neg c15] at g2r
    obtain ⟨tk, ln, ct, et⟩ := C_peek (e + 5) hP3 (by omega)
    rw [et, f_gi (f := 84) (c := 14) (by rw [ct.1.2.2]) rfl, Option.bind_some, ct.2.1.1]
    by_cases h5 : tkk T eo p2 = 5
    · obtain ⟨hge, heo⟩ := (tk5 p2).mp h5
      have hlx : lx = true := by rw [hv.2.2.2.2.2, heo]; rfl
      rw [if_pos (by omega), if_pos hlx] at g2r
      rw [if_pos h5]
      have b2 : pR_ (Kn T) V T.length lx ([(2, 0, 0, 0)], ts3.reverse, p2, 0, [], nd2) = pR_ (Kn T) V T.length lx ([], ts3.reverse, p2, 0, [], nd2) := pR_ok (pb_I (by simp) (by simp) (by omega) (by omega) (by omega) (by omega) (by omega) (by omega)) g2r
      rw [b2]
      exact fin _ _ hP3 Kp_rf rfl rfl (by omega)
    · rw [if_neg (by intro q; exact h5 q)]
      refine RL_fail (e + 4) hP3 n4 hK3 hC3 (pR_er (pb_I (by simp) (by simp) (by omega) (by omega) (by omega) (by omega) (by omega) (by omega)) (g2r.trans ?_))
      by_cases hpe : p2 = T.length
      · have hlx : ¬ lx = true := fun q => h5 ((tk5 p2).mpr ⟨by omega, by
          rw [hv.2.2.2.2.2] at q
          cases heo : eo with
          | none => rfl
          | some _ => rw [heo] at q; exact nomatch q⟩)
        rw [if_pos hpe, if_neg hlx]
        rfl
      · rw [if_neg hpe]
        rfl
end pck
