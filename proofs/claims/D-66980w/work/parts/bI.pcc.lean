/-! ===== the two parsers side by side: what a variable begins with ===== -/
section pcc
variable {T : List tk_} {eo : Option Nat} {n : Nat} {V : Nat → Int32} {L : List (List Int32)} {lx : Bool} {ids : List Nat} {iE x TL IL GS SL : Nat}
/-- what a variable begins with: no name -/
def XI (p : Nat) (t : tr_) (_ : Nat) (_ : cp_w) : Prop := p ≤ fi_ t ∧ kd_ t ≠ 57 ∧ kd_ t ≠ 58
theorem s_ini (hv : HV T eo V L lx) (e : Nat) (h1 : SX T eo n V L lx ids iE x TL IL GS SL (XB T eo n false) 0 (e + 5) 280 [vr_ (some x)] (fun _ => [(28, 0, 0, 0)]) (fun _ => True) 20 19 true) (s : as_) (p dp : Nat) (us : List (List Int32)) (its : List Nat) (gl : List ((List Int32 ⊕ Int32) × Option Nat)) (R : List gl_) (os : List tr_) (sc : List (Int32 × Nat)) (nd CB ZB : Nat) (hP : PSt T eo n ids iE x TL IL GS SL s p dp us its gl) (hS : SV L us.reverse sc) (hM : Mn T 18 R.length os.length p dp sc.length nd) (hd : 20 * (61 - dp) + 19 ≤ e + 5) (hC : Cn T s p CB ZB) (hI : its.length ≤ p) :
    RL T eo n V lx x IL GS SL s CB ZB (aE (e + 6) 304 [vr_ (some x)] s) (if Kn T p = 46 then pR_ (Kn T) V T.length lx ((28, 0, 0, 0) :: (6, 59, p, os.length) :: R, os, p + 1, dp, sc, nd) else pR_ (Kn T) V T.length lx ((28, 0, 0, 0) :: R, os, p, dp, sc, nd)) (QX T eo n ids iE x TL IL GS SL XI 0 true s p dp us its gl R os sc nd) := by
  obtain ⟨m1, m2, m3, m4, m5, m6⟩ := id hM
  have hTl : T.length < 2600 := hv.1
  have hw := PSt_Lw hP
  have hCa := hC.1
  have hCb := hC.2
  rw [ce_X13_initial, C_is (e + 2) hP m3 (c := 1035) (kk := 46) rfl (by omega) (by decide +kernel)]
  by_cases c46 : Kn T p = 46
  · have hlt : p < T.length := Kn_lt (by omega)
    obtain ⟨s3, e3, hP3, hG3, hK3, cc3, cz3, cN3⟩ := C_mk (e + 3) hP m3 1130
    rw [if_neg (by simp [c46, zb_]), if_pos c46, e3, nw_1]
    refine RL_with (e + 4) h1 rfl hP3 hS (R := (6, 59, p, os.length) :: R) ⟨by simp; omega, m2, by omega, m4, m5, by omega⟩ (by omega) ⟨by omega, by omega⟩ trivial (by omega) hK3 (Nat.le_refl _) hw hG3 (by omega) fun t2 j2 k2 w2 l2 p2 dp2 nd2 s6 ⟨f0, b1, b2, b3, b4, b5, b6, b7⟩ hG6 hP6 hK6 ⟨cc6, cz6⟩ ⟨n5, n6, n7, n8⟩ ⟨d5, d6, dd7⟩ hil6 hN6 => ?_
    obtain rfl := dd7 rfl
    clear b7
    have g6 : pR_ (Kn T) V T.length lx ((6, 59, p, os.length) :: R, t2 :: os, p2, dp2, sc, nd2) = pR_ (Kn T) V T.length lx (R, st_ 59 p 0 nd2 [t2] :: os, p2, dp2, sc, nd2 + 1) := pR_ok (pb_I (by first | omega | (simp only [List.length_cons]; omega)) (by first | omega | (simp only [List.length_cons]; omega)) (by omega) (by omega) (by omega) (by omega) (by omega) (by omega)) (sf_app (kk := 59) (a := 0) (f := ok_) [t2])
    rw [g6]
    have hit : itm (.inner (aN_ s) 1130 (nI (tkp T eo n p), nI (tkp T eo n p), 0, [], 0, none) (.inner j2 k2 w2 l2 .leaf) .leaf) = itm (.inner j2 k2 w2 l2 .leaf) := (itm_c rfl (by decide)).trans rfl
    exact Or.inr ⟨_, _, _, rfl, rfl, _, aN_ s, 1130, _, _, _, _, _, rfl, rfl, ⟨er_k (k := 59) (by decide) (er_one f0) rfl, ⟨fm_ge (Nat.le_refl _) (fun u hu => by simp at hu; subst hu; omega), by show (59 : Nat) ≠ 57; decide, by show (59 : Nat) ≠ 58; decide⟩⟩, hG6, by rw [hit]; exact hP6, hK6, ⟨by omega, by omega⟩, ⟨by omega, by omega, by omega, n8⟩, ⟨by omega, by omega, fun _ => rfl⟩, by rw [hit]; omega⟩
  · rw [if_pos (by simp [c46, zb_]), if_neg c46, f_dp (f := 280) hP.1.1.2.2 rfl, Option.bind_some]
    refine RL_bind (h1 s p dp us its gl R os sc nd CB ZB hP hS ⟨by omega, m2, m3, m4, m5, m6⟩ (by omega) hC trivial hI) Kp_rf fun σ v s2 q => ?_
    obtain ⟨t, j, kc, w, l, p2, dp2, nd2, rfl, rfl, ⟨f0, f1, f2, f3, f4, f5, f6, f7⟩, hG6, hP6, hK6, c6, n6, d6, hil6⟩ := q
    exact Or.inr ⟨_, _, _, rfl, rfl, t, j, kc, w, l, p2, dp2, nd2, rfl, rfl, ⟨f0, by omega, by obtain ⟨k, _, _, _, rfl, h1, h2⟩ := f7; show k ≠ 57; omega, by obtain ⟨k, _, _, _, rfl, h1, h2⟩ := f7; show k ≠ 58; omega⟩, hG6, hP6, hK6, c6, n6, d6, hil6⟩
def nml (V : Nat → Int32) (ns : List (Nat × Nat)) : List tr_ := ns.map fun y => lf_ 58 y.1 (V y.1) y.2
def nwL (T : List tk_) (eo : Option Nat) (n : Nat) (ns : List (Nat × Nat)) : List (Int32 × List Int32) := ns.map fun y => (nI (tkp T eo n y.1), tkx T y.1)
theorem nm_no : ∀ {ts : List tr_}, (∀ w ∈ ts, kd_ w ≠ 57 ∧ kd_ w ≠ 58) → nmT T eo n (lkT ts) = []
  | [], _ => rfl
  | .leaf :: r, h => nm_no (ts := r) fun w hw => h w (by simp [hw])
  | .inner k i v l r' :: r, h => by
    have q := h _ (List.mem_cons_self)
    show (if k = 57 ∨ k = 58 then _ else _) = _
    rw [if_neg (fun z => z.elim q.1 q.2)]
theorem nm_let {ts : List tr_} (h : ∀ w ∈ ts, kd_ w ≠ 57 ∧ kd_ w ≠ 58) : ∀ (ns : List (Nat × Nat)), nmT T eo n (lkT (nml V ns ++ ts)) = nwL T eo n ns
  | [] => nm_no h
  | y :: r => by
    show (nI (tkp T eo n y.1), tkx T y.1) :: nmT T eo n (lkT (nml V r ++ ts)) = _
    rw [nm_let h r]
    rfl
theorem cf_let {ts : List tr_} : ∀ (ns : List (Nat × Nat)), cf T eo n (lkT (nml V ns ++ ts)) = cf T eo n (lkT ts)
  | [] => rfl
  | y :: r => by
    show cf T eo n (lkT (lf_ 58 y.1 (V y.1) y.2 :: (nml V r ++ ts))) = _
    rw [cf_lk, cf_let r]
    rfl
theorem NLs_ln {s : as_} : ∀ {a : List Nat} {ws : List (Int32 × List Int32)}, NLs s a ws → a.length = ws.length
  | [], [], _ => rfl
  | [], _ :: _, h => h.elim
  | _ :: _, [], h => h.elim
  | _ :: _, _ :: _, h => by simp only [List.length_cons]; rw [NLs_ln h.2]
theorem cf_53 {tok q nd m : Nat} {ts : List tr_} : cf T eo n (st_ 53 tok 0 nd [st_ 55 q 0 m ts]) = .inner 0 1089 (zp_ [] (some (0, nmT T eo n (lkT ts), 0, 0, 0, 0))) (cf T eo n (lkT ts)) .leaf := rfl
end pcc
