/-! ===== the two parsers side by side: the pairs of an assignment ===== -/
section pc4
variable {T : List tk_} {eo : Option Nat} {n : Nat} {V : Nat → Int32} {L : List (List Int32)} {lx : Bool} {ids : List Nat} {iE x TL IL GS SL : Nat}
variable {s s' s0 : as_} {i kc lo p dp CB ZB nd : Nat} {v : cp_w} {l : cr_} {us : List (List Int32)} {its : List Nat} {gl : List ((List Int32 ⊕ Int32) × Option Nat)} {R : List gl_} {os : List tr_} {sc : List (Int32 × Nat)} {pe : pe_} {Q : ps_ → Option Nat → as_ → Prop}
theorem GL_ins {c q : cr_} {cs : List cr_} {m : Nat} (h : GL s lo (q :: cs)) (hc : TG s m c) (hs : sgC c) (hl : ∀ a ∈ flI (q :: cs), a < m) (hm : lo ≤ m) : GL s lo (q :: c :: cs) := by
  have e0 : flI (q :: cs) = idl_ q ++ flI cs := by simp [flI]
  have e1 : flI (q :: c :: cs) = idl_ q ++ (idl_ c ++ flI cs) := by simp [flI]
  obtain ⟨h1, h2, h3⟩ := h
  rw [e0] at h2 h3 hl
  have n := List.nodup_append.mp h2
  refine ⟨fun d hd => ?_, ?_, fun a ha => ?_⟩
  · simp only [List.mem_cons] at hd
    rcases hd with rfl | rfl | hd
    · exact h1 _ (by simp)
    · exact ⟨hc.1, hs⟩
    · exact h1 _ (by simp [hd])
  · rw [e1, List.nodup_append, List.nodup_append]
    refine ⟨n.1, ⟨hc.2.1, n.2.1, fun a ha b hb w => ?_⟩, fun a ha b hb w => ?_⟩
    · have := hc.2.2 a ha
      have := hl b (by simp [hb])
      omega
    · rcases List.mem_append.mp hb with q | q
      · have := hc.2.2 b q
        have := hl a (by simp [ha])
        omega
      · exact n.2.2 a ha b q w
  · rw [e1] at ha
    simp only [List.mem_append] at ha
    rcases ha with q | q | q
    · exact h3 a (by simp [q])
    · have := hc.2.2 a q; omega
    · exact h3 a (by simp [q])
theorem cf_20 {tok x nd : Nat} {ts : List tr_} (hx : x < 2 ^ 31) : cf T eo n (st_ 20 tok (nI x) nd ts) = .inner 0 1121 (zp_ [] none) (altC x (cf T eo n (lkT ts))) .leaf := by
  show (Std.DTreeMap.Internal.Impl.inner 0 1121 (zp_ [] none) (altC (nI x).toInt.toNat (cf T eo n (lkT ts))) .leaf : cr_) = _
  rw [nI_toInt hx]
  rfl
theorem E2_app : ∀ {a : List cr_} {b : List tr_} {c : List cr_} {d : List tr_}, E2 T eo n a b → E2 T eo n c d → E2 T eo n (a ++ c) (b ++ d)
  | [], [], _, _, _, h => h
  | _ :: _, _ :: _, _, _, h, h2 => ⟨h.1, E2_app h.2 h2⟩
  | [], _ :: _, _, _, h, _ => h.elim
  | _ :: _, [], _, _, h, _ => h.elim
def rt1 : cr_ → Nat
  | .leaf => 0
  | .inner i _ _ _ _ => i
theorem s_asg154 (hv : HV T eo V L lx) (e : Nat) (h1 : SX T eo n V L lx ids iE x TL IL GS SL (XB T eo n false) 0 (e + 5) 280 [vr_ (some x)] (fun _ => [(28, 0, 0, 0)]) (fun _ => True) 20 19 true) : ∀ (m : Nat) s p dp us its gl R os sc nd CB ZB (ls rs : List cr_) (tl tr : List tr_) a w0 p1 nd1 s1, ls.length - rs.length < m → rs.length ≤ ls.length → 1 ≤ ls.length → ls.length + p ≤ p1 →
      ((aK_ s1 (aN_ s)).1 = 36 ∧ aL_ s1 (aN_ s) = (ls.map rt1).map some) → GL s1 (aN_ s + 1) (.inner a 1121 (w0, w0, 0, [], 0, none) (ofC (ilv (ls.take rs.length) rs)) .leaf :: ls.drop rs.length) → (∀ c ∈ ls, sgC c) → (∀ c ∈ rs, sgC c) → E2 T eo n ls tl → E2 T eo n rs tr → (∀ u ∈ tl, p ≤ fi_ u) → (∀ u ∈ tr, p ≤ fi_ u) →
      PSt T eo n ids iE x TL IL GS SL s1 p1 dp us (its ++ flM ls ++ flM rs) gl → Kp (Mx x IL GS SL) s s1 → (aC_ s1 + 10 * p ≤ aC_ s + 10 * p1 ∧ aZ_ s1 + 100 * p ≤ aZ_ s + 100 * p1) → (nd1 + 6 * p + 1 ≤ nd + 6 * p1 ∧ os.length + ls.length + rs.length ≤ nd1 ∧ p < p1 ∧ p1 ≤ T.length) → (flM ls).length + (flM rs).length + p ≤ p1 →
      SV L us.reverse sc → Mn T 8 R.length os.length p dp sc.length nd → 20 * (61 - dp) + 20 ≤ e + 6 → Cn T s p CB ZB → Lw x TL IL GS SL (aN_ s) → its.length ≤ p →
      RL T eo n V lx x IL GS SL s CB ZB (aJ (e + 6) 289 154 [vr_ (some x), vr_ (some (aN_ s)), vr_ (some a), vi_ (nI rs.length)] [] s1) (pR_ (Kn T) V T.length lx ((if rs.length = 0 then [(28, 0, 0, 0), (27, 8192 * ls.length + 1, p, os.length)] else [(27, 8192 * ls.length + rs.length, p, os.length)]) ++ R, (tl ++ tr).reverse ++ os, p1, dp, sc, nd1)) (QX T eo n ids iE x TL IL GS SL XC 1 true s p dp us its gl R os sc nd) := by
  have hTl : T.length < 2600 := hv.1
  intro m
  induction m with
  | zero => intro s p dp us its gl R os sc nd CB ZB ls rs tl tr a w0 p1 nd1 s1 hm; exact absurd hm (Nat.not_lt_zero _)
  | succ m ih =>
  intro s p dp us its gl R os sc nd CB ZB ls rs tl tr a w0 p1 nd1 s1 hm hle hl1 hlp ⟨hl36, hlL⟩ hG hsl hsr hE hF hfl hfr hP1 hK1 ⟨c1, c2⟩ ⟨n1, n2, n3, n4⟩ hil hS hM hd hC hw hI
  obtain ⟨m1, m2, m3, m4, m5, m6⟩ := id hM
  have hN1 : aN_ s ≤ aN_ s1 := hK1.1
  have hCa := hC.1
  have hCb := hC.2
  have hEl := E2_len hE
  have hFl := E2_len hF
  have hw1 : Lw x TL IL GS SL (aN_ s + 1) := Lw_le hw (by omega)
  have hsz : aE (e + 5) 78 [vr_ (some (aN_ s))] s1 = some (.inl (some (vi_ (nI ls.length))), s1) := by
    rw [l_size, hlL]; simp
  have g27 : ∀ k p1 nd1 (o : List tr_), k < 8192 → pS_ (Kn T) V T.length lx 27 (8192 * ls.length + k) p os.length (R, o, p1, dp, sc, nd1) = (if k = ls.length then (if o.length = os.length + 2 * ls.length then sf_ 20 p os.length (nI ls.length) ok_ (R, o, p1, dp, sc, nd1) else none) else if Kn T p1 = 14 then ok_ ((28, 0, 0, 0) :: (27, 8192 * ls.length + k + 1, p, os.length) :: R, o, p1 + 1, dp, sc, nd1) else fl_ p1) := fun k p1 nd1 o hk => by
    have e1 : (8192 * ls.length + k) % 8192 = k := by omega
    have e2 : (8192 * ls.length + k) / 8192 = ls.length := by omega
    show (if (8192 * ls.length + k) % 8192 = (8192 * ls.length + k) / 8192 then (if o.length = os.length + 2 * ((8192 * ls.length + k) / 8192) then sf_ 20 p os.length (nI ((8192 * ls.length + k) / 8192)) ok_ (R, o, p1, dp, sc, nd1) else none) else (if Kn T p1 = 14 then ok_ ((28, 0, 0, 0) :: (27, 8192 * ls.length + k + 1, p, os.length) :: R, o, p1 + 1, dp, sc, nd1) else fl_ p1)) = _
    rw [e1, e2]
  rw [cj_X13_assignment_154, f_dp (f := 78) hl36 rfl, Option.bind_some, hsz, cI_k]
  simp only [nlt_ (show rs.length < 2 ^ 31 by omega) (show ls.length < 2 ^ 31 by omega)]
  by_cases ck : rs.length < ls.length
  · rw [if_pos ck]
    -- the left side that is next
    obtain ⟨cl, hcl⟩ : ∃ c, ls[rs.length]? = some c := ⟨ls[rs.length], List.getElem?_eq_getElem ck⟩
    have hdrop : ls.drop rs.length = cl :: ls.drop (rs.length + 1) := by
      rw [List.drop_eq_getElem_cons ck]
      rw [List.getElem?_eq_getElem ck] at hcl
      rw [Option.some.inj hcl]
    have htake : ls.take (rs.length + 1) = ls.take rs.length ++ [cl] := by
      rw [List.take_add_one, hcl]; rfl
    have hclm : cl ∈ ls := List.mem_of_getElem? hcl
    rw [hdrop] at hG
    -- what comes after the comma, if one is due
    have way : ∀ p2 s2, PSt T eo n ids iE x TL IL GS SL s2 p2 dp us (its ++ flM ls ++ flM rs) gl → Kp (Mx x IL GS SL) s1 s2 → aC_ s2 = aC_ s1 → aZ_ s2 = aZ_ s1 → aN_ s2 = aN_ s1 → aL_ s2 (aN_ s) = aL_ s1 (aN_ s) → aK_ s2 (aN_ s) = aK_ s1 (aN_ s) → p1 ≤ p2 → p2 ≤ T.length → RL T eo n V lx x IL GS SL s CB ZB ((a_dp 79 (some (aN_ s)) s2).bind fun m7 => cx_bR cx_th (aE (e + 5) m7 [vr_ (some (aN_ s)), vi_ (nI rs.length)] s2) fun v9 s8 => (cx_cst a_io 9 v9 s8).bind fun _ => (a_dp 306 (some a) s8).bind fun m10 => cx_bR cx_th (aE (e + 5) m10 [vr_ (some a), vr_ v9] s8) fun v12 s11 => (a_dp 280 (some x) s11).bind fun m13 => cx_bR cx_th (aE (e + 5) m13 [vr_ (some x)] s11) fun v15 s14 => (a_dp 306 v12 s14).bind fun m16 => cx_bR cx_th (aE (e + 5) m16 [vr_ v12, vr_ v15] s14) fun v18 s17 => aJ (e + 6) 289 154 [vr_ (some x), vr_ (some (aN_ s)), vr_ (some a), vi_ (nI rs.length + 1)] [] s17) (pR_ (Kn T) V T.length lx ([(28, 0, 0, 0)] ++ ((27, 8192 * ls.length + (rs.length + 1), p, os.length) :: R), (tl ++ tr).reverse ++ os, p2, dp, sc, nd1)) (QX T eo n ids iE x TL IL GS SL XC 1 true s p dp us its gl R os sc nd) := fun p2 s2 hP2 hK2 cc2 cz2 cN2 eL eK hp12 hp2 => by
      have hG2 := GL_Mx hG hP1 hw1 hK2
      match cl, hsl _ hclm, hG2, hcl, htake with
      | .inner y ky vy ly .leaf, _, hG2, hcl, htake =>
      have hxs : (ls.map rt1)[rs.length]? = some y := by rw [List.getElem?_map, hcl]; rfl
      rw [C_lget (e + 4) (by rw [eK]; exact hl36) (eL.trans hlL) (by simp; omega) hxs (show NR_ s2 (.inner y ky vy ly .leaf) from (hG2.1 _ (by simp)).1)]
      have hsN : aN_ s < aN_ s2 := by have := (GL_lt hG2 a (by simp [flI, idl_])); have := hG2.2.2 a (by simp [flI, idl_]); omega
      obtain ⟨s3, e3, hG3, hP3, hK3, cc3, cz3, cN3⟩ := C_withG (e + 4) hP2 hw1 hG2
      rw [e3, f_dp (f := 280) hP3.1.1.2.2 rfl, Option.bind_some, nI_1]
      have hk03 : Kp (Mx x IL GS SL) s s3 := Kp_in (Kp_tr hK1 hK2) hK3 (fun b hb => Or.inr (by omega))
      refine RL_bind (h1 s3 p2 dp us _ gl ((27, 8192 * ls.length + (rs.length + 1), p, os.length) :: R) ((tl ++ tr).reverse ++ os) sc nd1 CB ZB hP3 hS ⟨by simp; omega, by simp; omega, hp2, m4, m5, by omega⟩ (by omega) ⟨by omega, by omega⟩ trivial (by simp; omega)) hk03 fun σ v s4 q => ?_
      obtain ⟨t2, j2, k2, w2, l2, p3, dp3, nd3, rfl, rfl, ⟨b0, b1, b2, b3, b4, b5, b6, b7⟩, hG4, hP4, hK4, ⟨cc4, cz4⟩, ⟨n5, n6, n7, n8⟩, ⟨d5, d6, d7⟩, hil4⟩ := q
      obtain rfl := d7 rfl
      have hG34 := GL_Mx hG3 hP3 hw1 hK4
      have hG44 := GL_ins hG34 hG4 trivial (GL_lt hG3) (by omega)
      obtain ⟨s5, e5, hG5, hP5, hK5, cc5, cz5, cN5⟩ := C_withG (e + 4) hP4 hw1 hG44
      rw [e5]
      have hx3 := hK3.2 (aN_ s) hsN (by omega)
      have hx4 := hK4.2 (aN_ s) (by omega) (fun q => by have := Mx_lt hw _ q; omega)
      have hx5 := hK5.2 (aN_ s) (by have := hK4.1; omega) (by omega)
      have hrl : (rs ++ [(.inner j2 k2 w2 l2 .leaf : cr_)]).length = rs.length + 1 := by simp
      have hch : ofC (ilv (ls.take (rs ++ [(.inner j2 k2 w2 l2 .leaf : cr_)]).length) (rs ++ [.inner j2 k2 w2 l2 .leaf])) = snC (snC (ofC (ilv (ls.take rs.length) rs)) (.inner y ky vy ly .leaf)) (.inner j2 k2 w2 l2 .leaf) := by
        rw [hrl, htake, ilv_sn _ _ _ _ (by simp; omega), ofC_app, snC_as]
        rfl
      have hfm : flM (rs ++ [(.inner j2 k2 w2 l2 .leaf : cr_)]) = flM rs ++ itm (.inner j2 k2 w2 l2 .leaf) := by rw [flM_app]; simp [flM]
      have := ih s p dp3 us its gl R os sc nd CB ZB ls (rs ++ [.inner j2 k2 w2 l2 .leaf]) tl (tr ++ [t2]) a w0 p3 nd3 s5 (by simp; omega) (by simp; omega) hl1 (by omega) ⟨by rw [hx5.2.2.1, hx4.2.2.1, hx3.2.2.1, eK]; exact hl36, (hx5.2.2.2.2.1.trans (hx4.2.2.2.2.1.trans (hx3.2.2.2.2.1.trans eL))).trans hlL⟩ (by rw [hch, hrl]; exact hG5) hsl (fun c hc => by rcases List.mem_append.mp hc with q | q; exact hsr c q; simp at q; subst q; trivial) hE (E2_sn b0 hF) hfl (fun u hu => by rcases List.mem_append.mp hu with q | q; exact hfr u q; simp at q; subst q; omega) (by rw [hfm, ← List.append_assoc]; exact hP5) (Kp_in (Kp_tr hk03 hK4) hK5 (fun b hb => Or.inr (by omega))) ⟨by omega, by omega⟩ ⟨by omega, by simp at n6 ⊢; omega, by omega, n8⟩ (by rw [hfm]; simp; omega) hS hM hd hC hw hI
      rw [hrl, if_neg (by omega)] at this
      rw [← List.append_assoc, List.reverse_append] at this
      exact this
    by_cases c0 : rs.length = 0
    · rw [if_neg (by rw [c0]; decide), if_pos c0]
      have := way p1 s1 hP1 Kp_rf rfl rfl rfl rfl rfl (Nat.le_refl _) n4
      rw [c0] at this ⊢
      exact this
    · have hpos : (0 : Int32) < nI rs.length := by
        rw [show ((0 : Int32) < nI rs.length) = (0 < rs.length) from nlt2_ 0 (by omega) (by decide)]
        omega
      rw [if_pos hpos, if_neg c0]
      refine RL_must (e + 1) hP1 n4 (c := 1082) (kk := 14) rfl (by omega) (by decide +kernel) hK1 ⟨by omega, by omega⟩ (fun h14 => ?_) (fun h14 i6 ln6 _ => ?_)
      · exact pR_er (gs := R) (pb_I (by first | omega | (simp only [List.length_cons]; omega)) (by first | omega | (simp only [List.length_cons]; omega)) (by omega) (by omega) (by omega) (by omega) (by omega) (by omega)) ((g27 rs.length p1 nd1 _ (by omega)).trans (by rw [if_neg (by omega), if_neg h14]; rfl))
      · have hlt : p1 < T.length := Kn_lt (by omega)
        have b1 : pR_ (Kn T) V T.length lx ([(27, 8192 * ls.length + rs.length, p, os.length)] ++ R, (tl ++ tr).reverse ++ os, p1, dp, sc, nd1) = pR_ (Kn T) V T.length lx ([(28, 0, 0, 0)] ++ ((27, 8192 * ls.length + (rs.length + 1), p, os.length) :: R), (tl ++ tr).reverse ++ os, p1 + 1, dp, sc, nd1) := pR_ok (gs := R) (pb_I (by first | omega | (simp only [List.length_cons]; omega)) (by first | omega | (simp only [List.length_cons]; omega)) (by omega) (by omega) (by omega) (by omega) (by omega) (by omega)) ((g27 rs.length p1 nd1 _ (by omega)).trans (by rw [if_neg (by omega), if_pos h14]; rfl))
        rw [b1]
        exact way (p1 + 1) _ (PSt_at hP1 (by omega)) (x_Kp 94 _) rfl rfl rfl rfl rfl (by omega) (by omega)
  · rw [if_neg ck, if_neg (by omega)]
    have hkl : rs.length = ls.length := by omega
    have b1 : pR_ (Kn T) V T.length lx ([(27, 8192 * ls.length + rs.length, p, os.length)] ++ R, (tl ++ tr).reverse ++ os, p1, dp, sc, nd1) = pR_ (Kn T) V T.length lx (R, st_ 20 p (nI ls.length) nd1 (tl ++ tr) :: os, p1, dp, sc, nd1 + 1) := by
      refine pR_ok (gs := R) (pb_I (by first | omega | (simp only [List.length_cons]; omega)) (by first | omega | (simp only [List.length_cons]; omega)) (by omega) (by omega) (by omega) (by omega) (by omega) (by omega)) ((g27 rs.length p1 nd1 _ (by omega)).trans ?_)
      rw [if_pos hkl, if_pos (by simp; omega)]
      refine (sf_app (kk := 20) (f := ok_) (tl ++ tr).reverse).trans ?_
      rw [List.reverse_reverse]
      rfl
    rw [b1]
    have htk : ls.take rs.length = ls := by rw [hkl, List.take_length]
    have hdr : ls.drop rs.length = [] := by rw [hkl, List.drop_length]
    rw [htk, hdr] at hG
    have hTG : TG s1 (aN_ s) (.inner a 1121 (w0, w0, 0, [], 0, none) (ofC (ilv ls rs)) .leaf) := ⟨(hG.1 _ (by simp)).1, by simpa [flI] using hG.2.1, fun b hb => by have := hG.2.2 b (by simpa [flI] using hb); omega⟩
    obtain ⟨ev1, ev2⟩ := ev_ilv ls rs (by omega)
    have hit : itm (.inner a 1121 (w0, w0, 0, [], 0, none) (ofC (ilv ls rs)) .leaf) = flM ls ++ flM rs := by
      rw [itm_1]
      show [] ++ (evL (itL (ofC (ilv ls rs))) ++ odL (itL (ofC (ilv ls rs)))) = _
      rw [itL_of _ (fun c hc => by rcases ilv_mem ls rs c hc with q | q; exact hsl c q; exact hsr c q), ev1, ev2]
      rfl
    refine Or.inr ⟨_, _, _, rfl, rfl, _, _, _, _, _, _, _, _, rfl, rfl, ⟨?_, fm_ge (Nat.le_refl _) (fun u hu => by rcases List.mem_append.mp hu with q | q; exact hfl u q; exact hfr u q), rfl⟩, hTG, by rw [hit, ← List.append_assoc]; exact hP1, hK1, ⟨by omega, by omega⟩, ⟨by omega, by omega, by omega, n4⟩, ⟨by omega, by omega, fun _ => rfl⟩, by rw [hit]; simp; omega⟩
    rw [cf_20 (by omega)]
    show (Std.DTreeMap.Internal.Impl.inner 0 1121 (erp 1121 _) (er (ofC (ilv ls rs))) .leaf : cr_) = _
    have hlr : E2 T eo n (ls ++ rs) (tl ++ tr) := E2_app hE hF
    have e6 : toC (cf T eo n (lkT (tl ++ tr))) = (ls ++ rs).map er := E2_toC hlr (fun c hc => by rcases List.mem_append.mp hc with q | q; exact hsl c q; exact hsr c q)
    unfold altC
    rw [e6, List.map_append, List.take_left' (by simp), List.drop_left' (by simp), er_of, ilv_map]
    rfl
end pc4
