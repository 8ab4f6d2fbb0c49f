/-! ===== the two parsers side by side: expressions, what is said of them ===== -/
section px
variable (T : List tk_) (eo : Option Nat) (n : Nat) (V : Nat → Int32) (L : List (List Int32)) (lx : Bool) (ids : List Nat) (iE x TL IL GS SL : Nat)
/-- what the tokens tell, on both sides -/
def HV : Prop := T.length < 2600 ∧ L.Nodup ∧ L.length < 2 ^ 31 ∧ (∀ p, Kn T p = 10 ∨ Kn T p = 11 → VL L (tkg T p) (V p)) ∧ (∀ p, Kn T p = 2 → V p = tkv T p) ∧ lx = eo.isNone
/-- of an expression's trees -/
def XB (rel : Bool) (p : Nat) (t : tr_) (kc : Nat) (w : cp_w) : Prop := xk_ kc = true ∧ w.2.1 = nI (tkp T eo n p) ∧ w.2.2.1 = bz_ (pr_ t) ∧ fi_ t = p ∧ (kc = 1098 ↔ kd_ t = 6) ∧ (rel = true → kd_ t = 11 → pr_ t = true) ∧ ∃ k j u m, t = .inner k j u m .leaf ∧ 1 ≤ k ∧ k ≤ 12
def KC_ (k : Nat) : Bool := decide (20 ≤ k) && (decide (k ≠ 57) && decide (k ≠ 58))
/-- of a command's or declaration's trees -/
def XC (p : Nat) (t : tr_) (_ : Nat) (_ : cp_w) : Prop := p ≤ fi_ t ∧ KC_ (kd_ t) = true
theorem KC_i {k : Nat} (h : KC_ k = true) : 20 ≤ k ∧ k ≠ 57 ∧ k ≠ 58 := by
  unfold KC_ at h
  simpa using h
theorem KC_m {k : Nat} (h : k ∈ [21, 22, 23, 24, 25, 26, 28, 33, 36, 38, 39, 40, 43, 59]) : KC_ k = true := (by decide : ∀ k ∈ [21, 22, 23, 24, 25, 26, 28, 33, 36, 38, 39, 40, 43, 59], KC_ k = true) k h
theorem KC_l {k : Nat} (h : k ∈ [29, 30, 31, 32, 34, 37]) : KC_ k = true := (by decide : ∀ k ∈ [29, 30, 31, 32, 34, 37], KC_ k = true) k h
/-- something was read: its two trees, where both are -/
def XA (B : Nat → tr_ → Nat → cp_w → Prop) (b : Nat) (rst : Bool) (s : as_) (p dp : Nat) (us : List (List Int32)) (its : List Nat) (gl : List ((List Int32 ⊕ Int32) × Option Nat)) (os : List tr_) (nd : Nat) (t : tr_) (i kc : Nat) (w : cp_w) (l : cr_) (p' dp' nd' : Nat) (s' : as_) : Prop :=
    (er (.inner i kc w l .leaf) = cf T eo n t ∧ B p t kc w) ∧
    TG s' (aN_ s) (.inner i kc w l .leaf) ∧ PSt T eo n ids iE x TL IL GS SL s' p' dp' us (its ++ itm (.inner i kc w l .leaf)) gl ∧ Kp (Mx x IL GS SL) s s' ∧
    (aC_ s' + 10 * p ≤ aC_ s + 10 * p' + 3 * b ∧ aZ_ s' + 100 * p ≤ aZ_ s + 100 * p' + 40 * b) ∧ (nd' + 6 * p ≤ nd + 6 * p' + 2 * b ∧ os.length + 1 ≤ nd' ∧ p + 1 ≤ p' + b ∧ p' ≤ T.length) ∧ (dp ≤ dp' ∧ dp' ≤ 60 ∧ (rst = true → dp' = dp)) ∧ (itm (.inner i kc w l .leaf)).length + p ≤ p'
def QX (B : Nat → tr_ → Nat → cp_w → Prop) (b : Nat) (rst : Bool) (s : as_) (p dp : Nat) (us : List (List Int32)) (its : List Nat) (gl : List ((List Int32 ⊕ Int32) × Option Nat)) (R : List gl_) (os : List tr_) (sc : List (Int32 × Nat)) (nd : Nat) (σ : ps_) (v : Option Nat) (s' : as_) : Prop :=
  ∃ t i kc w l p' dp' nd', v = some i ∧ σ = (R, t :: os, p', dp', sc, nd') ∧ XA T eo n ids iE x TL IL GS SL B b rst s p dp us its gl os nd t i kc w l p' dp' nd' s'
/-- a method that reads a node -/
def SX (B : Nat → tr_ → Nat → cp_w → Prop) (b : Nat) (d m : Nat) (as : List pj_V) (G : Nat → List gl_) (C : Nat → Prop) (k rk : Nat) (rst : Bool) : Prop :=
  ∀ s p dp us its gl R os sc nd CB ZB, PSt T eo n ids iE x TL IL GS SL s p dp us its gl → SV L us.reverse sc → Mn T k R.length os.length p dp sc.length nd → 20 * (61 - dp) + rk ≤ d → Cn T s p (CB - 3 * b) (ZB - 40 * b) → C p → its.length ≤ p →
    RL T eo n V lx x IL GS SL s CB ZB (aE d m as s) (pR_ (Kn T) V T.length lx (G os.length ++ R, os, p, dp, sc, nd)) (QX T eo n ids iE x TL IL GS SL B b rst s p dp us its gl R os sc nd)
end px
section pxl
variable {T : List tk_} {eo : Option Nat} {n : Nat} {V : Nat → Int32} {L : List (List Int32)} {lx : Bool} {ids : List Nat} {iE x TL IL GS SL : Nat}
variable {s s0 s1 s' : as_} {p dp CB ZB nd k : Nat} {us : List (List Int32)} {its : List Nat} {gl : List ((List Int32 ⊕ Int32) × Option Nat)} {M : Nat → Prop} {R gs : List gl_} {os : List tr_} {sc : List (Int32 × Nat)} {o : cx_O as_} {pe : pe_} {Q : ps_ → Option Nat → as_ → Prop}
theorem nw_1 (c : Nat) (s : as_) : (a_nw c s).1 = aN_ s := rfl
theorem sf_app {kk tok : Nat} {a : Int32} {f : ps_ → pe_} (ts : List tr_) : sf_ kk tok os.length a f (gs, ts ++ os, p, dp, sc, nd) = f (gs, st_ kk tok a nd ts.reverse :: os, p, dp, sc, nd + 1) := by
  unfold sf_ sh_
  dsimp only
  rw [if_pos (by simp), List.length_append, Nat.add_sub_cancel, List.take_left, List.drop_left]
theorem cf_lk (t : tr_) (r : List tr_) : cf T eo n (lkT (t :: r)) = snC (cf T eo n t) (cf T eo n (lkT r)) := cf_sn T eo n t (lkT r)
theorem cf_l0 : cf T eo n (lkT []) = .leaf := rfl
theorem itm_1 (i kc : Nat) (w : cp_w) (l : cr_) : itm (.inner i kc w l .leaf) = (if isIt kc w.2.2.2.1 = true then [i] else []) ++ arL kc (itL l) := by
  simp [itm, itL]
theorem itL_1 (i kc : Nat) (w : cp_w) (l : cr_) : itL (.inner i kc w l .leaf) = [itm (.inner i kc w l .leaf)] := by
  simp [itm, itL]
/-- a node with a part more -/
theorem C_with (d : Nat) {i kc y ky lo : Nat} {v vy : cp_w} {l ly : cr_} (hP : PSt T eo n ids iE x TL IL GS SL s p dp us its gl) (hw : Lw x TL IL GS SL lo) (hp : TG s lo (.inner i kc v l .leaf)) (hc : TG s lo (.inner y ky vy ly .leaf)) (hd : ∀ a ∈ idl_ (.inner i kc v l .leaf), a ∉ idl_ (.inner y ky vy ly .leaf)) : ∃ s', (∀ Kc : Option Nat → as_ → cx_O as_, ((a_dp 306 (some i) s).bind fun m => cx_bR cx_th (aE (d + 1) m [vr_ (some i), vr_ (some y)] s) Kc) = Kc (some i) s') ∧ TG s' lo (.inner i kc v (snC l (.inner y ky vy ly .leaf)) .leaf) ∧ PSt T eo n ids iE x TL IL GS SL s' p dp us its gl ∧ Kp (fun a => a ∈ idl_ (.inner i kc v l .leaf)) s s' ∧ aC_ s' = aC_ s ∧ aZ_ s' = aZ_ s ∧ aN_ s' = aN_ s := by
  obtain ⟨s', e, h1, h2, h3, h4, h5⟩ := y_withT d hp hc.1 hc.2.1 hc.2.2 hd
  refine ⟨s', fun Kc => ?_, h1, PSt_hi hP hw h2 (TG_cl hp) (fun a ha => hp.2.2 a ha), h2, h3, h4, h5⟩
  rw [n_dp (f := 306) (NF_isN hp.1.1) (by decide), Option.bind_some, e, cR_k]
theorem C_mk (d : Nat) (hP : PSt T eo n ids iE x TL IL GS SL s p dp us its gl) (hp : p ≤ T.length) (kc : Nat) : ∃ s', (∀ K : as_ → cx_O as_, ((a_dp 274 (some x) (a_nw 9 s).2).bind fun m1 => cx_bR cx_th (aE (d + 2) m1 [vr_ (some x)] (a_nw 9 s).2) fun v3 s2 => (a_gi 85 v3 s2).bind fun v4 => cx_bV cx_th (aE (d + 2) 305 [vr_ (some (a_nw 9 s).1), vr_ (some kc), vi_ v4] s2) K) = K s') ∧ PSt T eo n ids iE x TL IL GS SL s' (p + 1) dp us its gl ∧ TG s' (aN_ s) (.inner (aN_ s) kc (nI (tkp T eo n p), nI (tkp T eo n p), 0, [], 0, none) .leaf .leaf) ∧ Kp (Mx x IL GS SL) s s' ∧ aC_ s' ≤ aC_ s + 1 ∧ aZ_ s' ≤ aZ_ s + 9 ∧ aN_ s' = aN_ s + 1 := by
  obtain ⟨s', e, h1, h2, h3, h4, h5, h6⟩ := y_mkT d hP.1 hP.2.1 hp kc
  have k3 := hP.1.1.2.2
  obtain ⟨p1, p2, p3, ⟨⟨i1, i2, i3⟩, i4, i5⟩, ⟨⟨g1, g2, g3⟩, g4⟩, p6⟩ := hP
  have hM : ∀ a, a = x → (aK_ s a).1 ≠ 26 ∧ (aK_ s a).1 ≠ 14 := fun a q => by subst q; rw [k3]; decide
  have xI : ¬ IL = x := fun q => by rw [q, k3] at i3; omega
  have xG : ¬ GS = x := fun q => by rw [q, k3] at g3; omega
  have qI := h3.2 IL i2 xI
  have qG := h3.2 GS g2 xG
  exact ⟨s', e, ⟨h1, TA_Kp p2 h3 hM (fun q => by have := p2.1.2.2; rw [q, k3] at this; omega), SC_Kp p3 h3 (fun a q => (hM a q).1) (fun q => by have := p3.1.2.2; rw [q, k3] at this; omega), ⟨⟨i1, by omega, by rw [qI.2.2.1]; exact i3⟩, qI.2.2.2.2.1.trans i4, i5⟩, ⟨⟨g1, by omega, by rw [qG.2.2.1]; exact g3⟩, qG.2.2.2.2.2.trans g4⟩, p6⟩, h2, Kp_wk h3 (fun a _ q => Or.inl q), h4, h5, h6⟩
theorem C_mk2 (d : Nat) {t kc : Nat} {k pl ln w : Int32} {txt tag : List Int32} (hP : PSt T eo n ids iE x TL IL GS SL s p dp us its gl) (t1 : CT s t k pl ln w txt tag) : ∃ s', (∀ K : as_ → cx_O as_, ((a_gi 85 (some t) (a_nw 9 s).2).bind fun v4 => cx_bV cx_th (aE (d + 2) 305 [vr_ (some (a_nw 9 s).1), vr_ (some kc), vi_ v4] (a_nw 9 s).2) K) = K s') ∧ PSt T eo n ids iE x TL IL GS SL s' p dp us its gl ∧ TG s' (aN_ s) (.inner (aN_ s) kc (pl, pl, 0, [], 0, none) .leaf .leaf) ∧ Kp (fun _ => False) s s' ∧ aC_ s' ≤ aC_ s + 1 ∧ aZ_ s' ≤ aZ_ s + 9 ∧ aN_ s' = aN_ s + 1 := by
  obtain ⟨s', e, h1, h2, h3, h4, h5⟩ := y_mkT2 d (kc := kc) t1
  exact ⟨s', e, PSt_Kp hP h2 (fun _ q => q.elim) (fun _ q => q.elim), h1, h2, h3, h4, h5⟩
/-- the first place is the part's -/
theorem C_from {i kc lo y ky : Nat} {v vy : cp_w} {l ly ry : cr_} {Kc : as_ → cx_O as_} (hp : TG s lo (.inner i kc v l .leaf)) (hy : NR_ s (.inner y ky vy ly ry)) : ((a_gi 101 (some y) s).bind fun v => (a_pi 101 (some i) v s).bind Kc) = Kc (awI s i 101 vy.2.1) ∧ TG (awI s i 101 vy.2.1) lo (.inner i kc (v.1, vy.2.1, v.2.2) l .leaf) := by
  refine ⟨?_, TG_from hp _⟩
  rw [n_gi (f := 101) (NF_isN hy.1) (by decide), Option.bind_some, hy.1.2.2.1.2.1, n_pi (f := 101) (NF_isN hp.1.1) (by decide) rfl, Option.bind_some]
theorem PSt_own {i lo f : Nat} {y : Int32} (hP : PSt T eo n ids iE x TL IL GS SL s p dp us its gl) (hw : Lw x TL IL GS SL lo) (hi : lo ≤ i) (hc : isN s i) : PSt T eo n ids iE x TL IL GS SL (awI s i f y) p dp us its gl :=
  PSt_hi (M := fun a => a = i) hP hw (Kp_I Kp_rf f y (Or.inl rfl)) (fun a q => by subst q; rcases hc with w | w <;> rw [w] <;> decide) (fun a q => by omega)
theorem PSt_ownR {i lo f : Nat} {y : Option Nat} (hP : PSt T eo n ids iE x TL IL GS SL s p dp us its gl) (hw : Lw x TL IL GS SL lo) (hi : lo ≤ i) (hc : isN s i) : PSt T eo n ids iE x TL IL GS SL (awR s i f y) p dp us its gl :=
  PSt_hi (M := fun a => a = i) hP hw (Kp_R Kp_rf f y (Or.inl rfl)) (fun a q => by subst q; rcases hc with w | w <;> rw [w] <;> decide) (fun a q => by omega)
/-- a tree another is written beside -/
theorem TG_own {lo j f : Nat} {y : Int32} {c : cr_} (h : TG s lo c) (hj : j ∉ idl_ c) (hc : isN s j) : TG (awI s j f y) lo c :=
  TG_Kp (M := fun a => a = j) h (Kp_I Kp_rf f y (Or.inl rfl)) (fun a q => by subst q; rcases hc with w | w <;> rw [w] <;> decide) (fun a ha q => hj (q ▸ ha))
theorem dj_lt {m : Nat} {c1 c2 : cr_} (h1 : ∀ a ∈ idl_ c1, a < m) (h2 : ∀ a ∈ idl_ c2, m ≤ a) : ∀ a ∈ idl_ c1, a ∉ idl_ c2 := fun a ha hb => by
  have := h1 a ha
  have := h2 a hb
  omega
theorem dj_gt {m : Nat} {c1 c2 : cr_} (h1 : ∀ a ∈ idl_ c1, m ≤ a) (h2 : ∀ a ∈ idl_ c2, a < m) : ∀ a ∈ idl_ c1, a ∉ idl_ c2 := fun a ha hb => by
  have := h1 a ha
  have := h2 a hb
  omega
/-- a part is read and put behind the others -/
theorem RL_with (d : Nat) {B : Nat → tr_ → Nat → cp_w → Prop} {b m rk i kc lo : Nat} {as : List pj_V} {G : Nat → List gl_} {C : Nat → Prop} {rst : Bool} {v : cp_w} {l : cr_} {Kc : Option Nat → as_ → cx_O as_} (h : SX T eo n V L lx ids iE x TL IL GS SL B b (d + 1) m as G C k rk rst) (hm : ac_m m 10 = true) (hP : PSt T eo n ids iE x TL IL GS SL s p dp us its gl) (hS : SV L us.reverse sc) (hMn : Mn T k R.length os.length p dp sc.length nd) (hrk : 20 * (61 - dp) + rk ≤ d + 1) (hC : Cn T s p (CB - 3 * b) (ZB - 40 * b)) (hCp : C p) (hI : its.length ≤ p) (hk : Kp (Mx x IL GS SL) s0 s) (hlo : aN_ s0 ≤ lo) (hw : Lw x TL IL GS SL lo) (hp : TG s lo (.inner i kc v l .leaf)) (hll : lo ≤ aN_ s)
    (hQ : ∀ t j kj wj lj p' dp' nd' s', (er (.inner j kj wj lj .leaf) = cf T eo n t ∧ B p t kj wj) → TG s' lo (.inner i kc v (snC l (.inner j kj wj lj .leaf)) .leaf) → PSt T eo n ids iE x TL IL GS SL s' p' dp' us (its ++ itm (.inner j kj wj lj .leaf)) gl → Kp (Mx x IL GS SL) s0 s' → (aC_ s' + 10 * p ≤ aC_ s + 10 * p' + 3 * b ∧ aZ_ s' + 100 * p ≤ aZ_ s + 100 * p' + 40 * b) → (nd' + 6 * p ≤ nd + 6 * p' + 2 * b ∧ os.length + 1 ≤ nd' ∧ p + 1 ≤ p' + b ∧ p' ≤ T.length) → (dp ≤ dp' ∧ dp' ≤ 60 ∧ (rst = true → dp' = dp)) → (itm (.inner j kj wj lj .leaf)).length + p ≤ p' → aN_ s ≤ aN_ s' → RL T eo n V lx x IL GS SL s0 CB ZB (Kc (some i) s') (pR_ (Kn T) V T.length lx (R, t :: os, p', dp', sc, nd')) Q) :
    RL T eo n V lx x IL GS SL s0 CB ZB ((a_dp m (some x) s).bind fun m1 => cx_bR cx_th (aE (d + 1) m1 as s) fun v1 s1 => (a_dp 306 (some i) s1).bind fun m2 => cx_bR cx_th (aE (d + 1) m2 [vr_ (some i), vr_ v1] s1) Kc) (pR_ (Kn T) V T.length lx (G os.length ++ R, os, p, dp, sc, nd)) Q := by
  rw [f_dp hP.1.1.2.2 hm, Option.bind_some]
  refine RL_bind (h s p dp us its gl R os sc nd CB ZB hP hS hMn hrk hC hCp hI) hk fun σ v1 s1 q => ?_
  obtain ⟨t, j, kj, wj, lj, p', dp', nd', rfl, rfl, a1, hG, hP1, hK1, c1, n1, d1, hil⟩ := q
  have hG0 : TG s1 lo (.inner i kc v l .leaf) := TG_Mx hp hP hw hK1
  obtain ⟨s2, e2, hG2, hP2, hK2, cc2, cz2, cN2⟩ := C_with d hP1 hw hG0 (TG_lo hG hll) (dj_lt (m := aN_ s) (TG_lt hp) hG.2.2)
  rw [e2]
  have hkk : Kp (Mx x IL GS SL) s0 s2 := Kp_in (Kp_tr hk hK1) hK2 (fun a ha => Or.inr (Nat.le_trans hlo (hG0.2.2 a ha)))
  exact hQ t j kj wj lj p' dp' nd' s2 a1 hG2 hP2 hkk (by rw [cc2, cz2]; exact c1) n1 d1 hil (by rw [cN2]; exact hK1.1)
/-- what stands already becomes the first part -/
theorem C_first (d : Nat) {i kc lo y ky : Nat} {v vy : cp_w} {ly : cr_} (hP : PSt T eo n ids iE x TL IL GS SL s p dp us its gl) (hw : Lw x TL IL GS SL lo) (hk : Kp (Mx x IL GS SL) s0 s) (hlo : aN_ s0 ≤ lo) (hp : TG s lo (.inner i kc v .leaf .leaf)) (hy : TG s lo (.inner y ky vy ly .leaf)) (hd : ∀ a ∈ idl_ (.inner i kc v .leaf .leaf), a ∉ idl_ (.inner y ky vy ly .leaf)) : ∃ s', (∀ Kc : Option Nat → as_ → cx_O as_, ((a_gi 101 (some y) s).bind fun v => (a_pi 101 (some i) v s).bind fun s => (a_dp 306 (some i) s).bind fun m => cx_bR cx_th (aE (d + 1) m [vr_ (some i), vr_ (some y)] s) Kc) = Kc (some i) s') ∧ TG s' lo (.inner i kc (v.1, vy.2.1, v.2.2) (.inner y ky vy ly .leaf) .leaf) ∧ PSt T eo n ids iE x TL IL GS SL s' p dp us its gl ∧ Kp (Mx x IL GS SL) s0 s' ∧ aC_ s' = aC_ s ∧ aZ_ s' = aZ_ s ∧ aN_ s' = aN_ s ∧ Kp (fun a => a ∈ idl_ (.inner i kc v .leaf .leaf)) s s' := by
  have hN := NF_isN hp.1.1
  have hi : i ∉ idl_ (.inner y ky vy ly .leaf) := hd i (by simp [idl_])
  have hil : lo ≤ i := hp.2.2 i (by simp [idl_])
  have hT := TG_from hp vy.2.1
  have hY := TG_own (f := 101) (y := vy.2.1) hy hi hN
  have hP1 : PSt T eo n ids iE x TL IL GS SL (awI s i 101 vy.2.1) p dp us its gl := PSt_own hP hw hil hN
  obtain ⟨s2, e2, hG2, hP2, hK2, cc2, cz2, cN2⟩ := C_with d hP1 hw hT hY (fun a ha => hd a (by simpa [idl_] using ha))
  refine ⟨s2, fun Kc => ?_, hG2, hP2, ?_, cc2, cz2, cN2, Kp_tr (Kp_I Kp_rf 101 vy.2.1 (Or.inl (by simp [idl_]))) (Kp_wk hK2 (fun a _ ha => by simpa [idl_] using ha))⟩
  · rw [(C_from hp hy.1).1, e2]
  · exact Kp_in (Kp_I hk 101 vy.2.1 (Or.inr (Nat.le_trans hlo hil))) hK2 (fun a ha => Or.inr (Nat.le_trans hlo (hT.2.2 a ha)))
theorem fm_1 {m a : Nat} {t : tr_} (h : fi_ t = a) (hm : a ≤ m) : fm_ m [t] = a := by
  show (if fi_ t < m then fi_ t else m) = a
  split <;> omega
theorem fm_2 {m a : Nat} {t t2 : tr_} (h : fi_ t = a) (hm : a ≤ m) (h2 : a ≤ fi_ t2) : fm_ m [t, t2] = a := by
  show (if fi_ t2 < (if fi_ t < m then fi_ t else m) then fi_ t2 else (if fi_ t < m then fi_ t else m)) = a
  split <;> split at * <;> omega
theorem fm_ge {a : Nat} : ∀ {ts : List tr_} {m : Nat}, a ≤ m → (∀ t ∈ ts, a ≤ fi_ t) → a ≤ fm_ m ts
  | [], _, h, _ => h
  | t :: r, m, h, h2 => by
    show a ≤ fm_ (if fi_ t < m then fi_ t else m) r
    refine fm_ge ?_ (fun u hu => h2 u (by simp [hu]))
    have := h2 t (by simp)
    split <;> omega
theorem fm_le : ∀ {ts : List tr_} {m : Nat}, fm_ m ts ≤ m
  | [], _ => Nat.le_refl _
  | t :: r, m => by
    show fm_ (if fi_ t < m then fi_ t else m) r ≤ m
    refine Nat.le_trans fm_le ?_
    split <;> omega
theorem fm_eq {m a : Nat} {t : tr_} {r : List tr_} (h : fi_ t = a) (hm : a ≤ m) (h2 : ∀ u ∈ r, a ≤ fi_ u) : fm_ m (t :: r) = a := by
  refine Nat.le_antisymm ?_ (fm_ge hm (fun u hu => by rcases List.mem_cons.mp hu with rfl | q; omega; exact h2 u q))
  show fm_ (if fi_ t < m then fi_ t else m) r ≤ a
  refine Nat.le_trans fm_le ?_
  split <;> omega
theorem er_app {lC c : cr_} {t : tr_} : ∀ {ts : List tr_}, er lC = cf T eo n (lkT ts) → er c = cf T eo n t → er (snC lC c) = cf T eo n (lkT (ts ++ [t])) := by
  intro ts h1 h2
  rw [er_sn, h1, h2]
  clear h1
  induction ts with
  | nil =>
    show snC .leaf (cf T eo n t) = cf T eo n (sn_ t .leaf)
    rw [cf_sn, show cf T eo n .leaf = .leaf from rfl, snC_leaf]
    rfl
  | cons a r ih =>
    show snC (cf T eo n (lkT (a :: r))) (cf T eo n t) = cf T eo n (lkT (a :: (r ++ [t])))
    rw [cf_lk, cf_lk, snC_as, ih]
theorem er_one {c : cr_} {t : tr_} (h : er c = cf T eo n t) : er c = cf T eo n (lkT [t]) := by
  rw [cf_lk, cf_l0, snC_leaf, h]
theorem er_x {a kc tok : Nat} {av wv : Int32} {u : List Int32} {lC : cr_} {ts : List tr_} (hx : xk_ kc = true) (hk : kc ≠ 1121 ∧ kc ≠ 1089) (hl : er lC = cf T eo n (lkT ts)) (hf : fm_ tok ts = p) : er (.inner a kc (nI (tkp T eo n tok), nI (tkp T eo n p), 0, u, wv, none) lC .leaf) = .inner 0 kc (xp_ T eo n (tok, av, 0, fm_ tok ts, false) u wv none) (cf T eo n (lkT ts)) .leaf := by
  show Std.DTreeMap.Internal.Impl.inner 0 kc (erp kc _) (er lC) .leaf = _
  rw [hl]
  unfold erp xp_
  rw [if_neg (fun q => q.elim hk.1 hk.2), if_pos hx, hf]
  rfl
theorem Kn_lt (h : Kn T p ≠ 0) : p < T.length := by
  rcases Nat.lt_or_ge p T.length with q | q
  · exact q
  · exact absurd (by unfold Kn; rw [List.getElem?_eq_none q]) h
/-- the text of a token -/
theorem C_text {t i kc lo : Nat} {k pl ln w : Int32} {txt tag : List Int32} {v : cp_w} {l : cr_} (t1 : CT s t k pl ln w txt tag) (hp : TG s lo (.inner i kc v l .leaf)) : (∀ Kc : as_ → cx_O as_, ((a_gr 88 (some t) s).bind fun v => (a_pr 103 (some i) v s).bind Kc) = Kc (awR s i 103 (aR_ s t 88))) ∧ TG (awR s i 103 (aR_ s t 88)) lo (.inner i kc (v.1, v.2.1, v.2.2.1, txt, v.2.2.2.2) l .leaf) := by
  refine ⟨fun Kc => ?_, TG_text hp t1.2.2.1⟩
  rw [f_gr (f := 88) (c := 14) (by rw [t1.1.2.2]) rfl, Option.bind_some, n_pr (f := 103) (NF_isN hp.1.1) (by decide), Option.bind_some]
theorem TG_ownR {lo j f : Nat} {y : Option Nat} {c : cr_} (h : TG s lo c) (hj : j ∉ idl_ c) (hc : isN s j) : TG (awR s j f y) lo c :=
  TG_Kp (M := fun a => a = j) h (Kp_R Kp_rf f y (Or.inl rfl)) (fun a q => by subst q; rcases hc with w | w <;> rw [w] <;> decide) (fun a ha q => hj (q ▸ ha))
theorem isN_awI {a j f : Nat} {y : Int32} (h : isN s a) : isN (awI s j f y) a := h
theorem isN_awR {a j f : Nat} {y : Option Nat} (h : isN s a) : isN (awR s j f y) a := h
theorem itm_c {i kc : Nat} {w : cp_w} {l : cr_} (h1 : isIt kc w.2.2.2.1 = false) (h2 : kc ≠ 1121 ∧ kc ≠ 1124) : itm (.inner i kc w l .leaf) = (itL l).flatten := by
  rw [itm_1, h1]
  unfold arL
  rw [if_neg h2.1, if_neg h2.2]
  rfl
theorem itm_sn (a b : cr_) : itm (snC a b) = itm a ++ itm b := by unfold itm; rw [itL_sn, List.flatten_append]
end pxl
