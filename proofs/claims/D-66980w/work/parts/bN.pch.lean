/-! ===== the two parsers side by side: routines in a row, within a block ===== -/
section pch
variable {T : List tk_} {eo : Option Nat} {n : Nat} {V : Nat → Int32} {L : List (List Int32)} {lx : Bool} {ids : List Nat} {iE x TL IL GS SL : Nat}
/-- a row of routines with their flags -/
def flL (b : Bool) (gl : List ((List Int32 ⊕ Int32) × Option Nat)) : cr_ → cr_
  | .leaf => .leaf
  | .inner i k v l r => .inner i k (v.1, v.2.1, v.2.2.1, v.2.2.2.1, v.2.2.2.2.1, v.2.2.2.2.2.map fun w => (w.1, w.2.1, a_b b, (if b = true then gl_f gl v.2.2.2.1 else 0), w.2.2.2.2)) l (flL b gl r)
theorem flL_sn (b : Bool) (gl : List ((List Int32 ⊕ Int32) × Option Nat)) : ∀ (a c : cr_), flL b gl (snC a c) = snC (flL b gl a) (flL b gl c)
  | .leaf, _ => rfl
  | .inner i k v l r, c => by
    show (Std.DTreeMap.Internal.Impl.inner i k _ l (flL b gl (snC r c)) : cr_) = _
    rw [flL_sn b gl r c]
    rfl
theorem er_appF {b : Bool} {gl : List ((List Int32 ⊕ Int32) × Option Nat)} {lC c : cr_} {t : tr_} {ts : List tr_} (h1 : er lC = flL b gl (cf T eo n (lkT ts))) (h2 : er c = flL b gl (cf T eo n t)) : er (snC lC c) = flL b gl (cf T eo n (lkT (ts ++ [t]))) := by
  rw [er_sn, h1, h2, ← flL_sn]
  clear h1
  congr 1
  induction ts with
  | nil =>
    show snC .leaf (cf T eo n t) = cf T eo n (sn_ t .leaf)
    rw [cf_sn, show cf T eo n .leaf = .leaf from rfl, snC_leaf]
    rfl
  | cons a r ih =>
    show snC (cf T eo n (lkT (a :: r))) (cf T eo n t) = cf T eo n (lkT (a :: (r ++ [t])))
    rw [cf_lk, cf_lk, snC_as, ih]
/-- one routine -/
theorem flC_54 {b : Bool} {gl : List ((List Int32 ⊕ Int32) × Option Nat)} {q i : Nat} {w : cp_w} {l : cr_} {t : tr_} (h : er (.inner i 1129 w l .leaf) = flC (a_b b) (if b = true then gl_f gl (tkx T q) else 0) (cf T eo n t)) (hk : kd_ t = 54) (hq : hdT t = q) : er (.inner i 1129 w l .leaf) = flL b gl (cf T eo n t) := by
  cases t with
  | leaf => exact absurd hk (by decide)
  | inner k j v c r =>
    obtain rfl : k = 54 := hk
    obtain rfl : v.1 = q := hq
    have hr : cf T eo n r = .leaf := by
      have := congrArg (fun z : cr_ => match z with
        | .inner _ _ _ _ r => r
        | .leaf => .leaf) h
      exact this.symm
    rw [h]
    show flC (a_b b) (if b = true then gl_f gl (tkx T v.1) else 0) (.inner 0 1129 (yp_ T eo n v.1 (tkx T v.1) (some (0, nmT T eo n c, 0, 0, bz_ (gvT c), 0))) (cf T eo n c) (cf T eo n r)) = flL b gl (.inner 0 1129 (yp_ T eo n v.1 (tkx T v.1) (some (0, nmT T eo n c, 0, 0, bz_ (gvT c), 0))) (cf T eo n c) (cf T eo n r))
    rw [hr]
    rfl
/-- within a block there are none -/
def nfl : cr_ → Prop
  | .leaf => True
  | .inner _ _ v _ r => (∀ w, v.2.2.2.2.2 = some w → w.2.2.1 = 0 ∧ w.2.2.2.1 = 0) ∧ nfl r
theorem flL_nf (gl : List ((List Int32 ⊕ Int32) × Option Nat)) : ∀ {c : cr_}, nfl c → flL false gl c = c
  | .leaf, _ => rfl
  | .inner i k (a, b, c, d, e, o) l r, h => by
    show (Std.DTreeMap.Internal.Impl.inner i k (a, b, c, d, e, o.map fun w => (w.1, w.2.1, a_b false, (if false = true then gl_f gl d else 0), w.2.2.2.2)) l (flL false gl r) : cr_) = _
    rw [flL_nf gl h.2]
    cases o with
    | none => rfl
    | some w =>
      obtain ⟨h1, h2⟩ := h.1 w rfl
      obtain ⟨w1, w2, w3, w4, w5⟩ := w
      obtain rfl : w3 = 0 := h1
      obtain rfl : w4 = 0 := h2
      rfl
theorem nfl_sn : ∀ {a b : cr_}, nfl a → nfl b → nfl (snC a b)
  | .leaf, _, _, h => h
  | .inner _ _ _ _ _, _, h, h2 => ⟨h.1, nfl_sn h.2 h2⟩
theorem nfl_lk {ts : List tr_} (h : ∀ w ∈ ts, nfl (cf T eo n w)) : nfl (cf T eo n (lkT ts)) := by
  induction ts with
  | nil => trivial
  | cons a r ih =>
    rw [cf_lk]
    exact nfl_sn (h a (by simp)) (ih fun w hw => h w (by simp [hw]))
theorem nfl_54 {b : Bool} {gl : List ((List Int32 ⊕ Int32) × Option Nat)} {i : Nat} {w : cp_w} {l : cr_} {t : tr_} (h : er (.inner i 1129 w l .leaf) = flL b gl (cf T eo n t)) (hk : kd_ t = 54) : nfl (cf T eo n t) := by
  cases t with
  | leaf => exact absurd hk (by decide)
  | inner k j v c r =>
    obtain rfl : k = 54 := hk
    have hr : flL b gl (cf T eo n r) = .leaf := by
      have := congrArg (fun z : cr_ => match z with
        | .inner _ _ _ _ r => r
        | .leaf => .leaf) h
      exact this.symm
    have hr : cf T eo n r = .leaf := by
      cases hc : cf T eo n r with
      | leaf => rfl
      | inner _ _ _ _ _ => rw [hc] at hr; cases hr
    show nfl (.inner 0 1129 (yp_ T eo n v.1 (tkx T v.1) (some (0, nmT T eo n c, 0, 0, bz_ (gvT c), 0))) (cf T eo n c) (cf T eo n r))
    rw [hr]
    exact ⟨fun w hw => by injection hw with hw; subst hw; exact ⟨rfl, rfl⟩, trivial⟩
theorem cf_53r {tok nd : Nat} {ts : List tr_} (h : kd_ (lkT ts) ≠ 55) : cf T eo n (st_ 53 tok 0 nd ts) = .inner 0 1088 (yp_ T eo n tok [] none) (cf T eo n (lkT ts)) .leaf := by
  show (if kd_ (lkT ts) = 55 then _ else _) = _
  rw [if_neg h]
  rfl
theorem kd_lk {ts : List tr_} (h : ∀ w ∈ ts, kd_ w = 54) : kd_ (lkT ts) ≠ 55 := by
  cases ts with
  | nil => decide
  | cons w r =>
    have := h w (by simp)
    cases w with
    | leaf => exact absurd this (by decide)
    | inner k i v l r' => show k ≠ 55; have : k = 54 := this; omega
/-- a declaration's tree, with the flags of its routines -/
def ovC (b : Bool) (gl : List ((List Int32 ⊕ Int32) × Option Nat)) : cr_ → cr_
  | .leaf => .leaf
  | .inner i k v l r => .inner i k v (if k = 1088 then flL b gl l else l) r
/-- names of globals, one row more -/
def gad (gl : List ((List Int32 ⊕ Int32) × Option Nat)) : cr_ → List ((List Int32 ⊕ Int32) × Option Nat)
  | .leaf => gl
  | .inner _ _ v _ r => gad (am_put gl (.inl v.2.2.2.1) (some 1)) r
def glA (gl : List ((List Int32 ⊕ Int32) × Option Nat)) : cr_ → List ((List Int32 ⊕ Int32) × Option Nat)
  | .leaf => gl
  | .inner _ k _ l _ => if k = 1085 then gad gl l else gl
/-- a declaration was read -/
def QD (T : List tk_) (eo : Option Nat) (n : Nat) (ids : List Nat) (iE x TL IL GS SL : Nat) (b : Bool) (s : as_) (p dp : Nat) (us : List (List Int32)) (its : List Nat) (gl : List ((List Int32 ⊕ Int32) × Option Nat)) (R : List gl_) (os : List tr_) (sc : List (Int32 × Nat)) (nd : Nat) (σ : ps_) (v : Option Nat) (s' : as_) : Prop :=
  ∃ t i kc w l p' nd' m gl', v = some i ∧ σ = (R, t :: os, p', dp, sc, nd') ∧ (er (.inner i kc w l .leaf) = ovC b gl (cf T eo n t) ∧ p ≤ fi_ t ∧ 50 ≤ kd_ t ∧ kd_ t ≤ 53) ∧ TG s' (aN_ s) (.inner i kc w l .leaf) ∧ PSt T eo n ids iE x TL IL GS SL s' p' dp us (its ++ itm (.inner i kc w l .leaf)) gl' ∧ Kp (Mx x IL GS SL) s s' ∧ (aC_ s' + 10 * p ≤ aC_ s + 10 * p' + (4 * m + 2 * (gl.length * m) + m * m) ∧ aZ_ s' + 100 * p ≤ aZ_ s + 100 * p' + (64 * m + 32 * (gl.length * m) + 16 * (m * m))) ∧ (nd' + 6 * p ≤ nd + 6 * p' ∧ os.length + 1 ≤ nd' ∧ p + 1 ≤ p' ∧ p' ≤ T.length) ∧ (itm (.inner i kc w l .leaf)).length + p ≤ p' ∧ (gl' = (if b = true then glA gl (cf T eo n t) else gl) ∧ 4 * m + p ≤ p' ∧ gl'.length ≤ gl.length + m ∧ (b = false → m = 0 ∧ er (.inner i kc w l .leaf) = cf T eo n t))
set_option maxHeartbeats 4000000 in
theorem s_dec143 (hv : HV T eo V L lx) (b : Bool) (y : Nat) (hy : y < 2) (e : Nat) (h1 : SX T eo n V L lx ids iE x TL IL GS SL (XB T eo n false) 0 (e + 5) 280 [vr_ (some x)] (fun _ => [(28, 0, 0, 0)]) (fun _ => True) 20 19 true) (h2 : SX T eo n V L lx ids iE x TL IL GS SL XC 1 (e + 5) 287 [vr_ (some x)] (fun _ => [(11, 0, 0, 0)]) (fun _ => True) 5 22 true) : ∀ (m : Nat) s p dp us its gl R os sc nd CB ZB (ts : List tr_) (t : tr_) a lC p1 nd1 s1, T.length - p1 < m → (∀ w ∈ ts ++ [t], kd_ w = 54) → (∀ w ∈ ts ++ [t], p ≤ fi_ w) → (∀ w ∈ ts ++ [t], nfl (cf T eo n w)) → TG s1 (aN_ s) (.inner a 1088 (nI (tkp T eo n p), nI (tkp T eo n p), 0, [], 0, none) lC .leaf) → er lC = flL b gl (cf T eo n (lkT (ts ++ [t]))) → PSt T eo n ids iE x TL IL GS SL s1 p1 dp us (its ++ itm lC) gl → Kp (Mx x IL GS SL) s s1 → (aC_ s1 + 10 * p ≤ aC_ s + 10 * p1 ∧ aZ_ s1 + 100 * p ≤ aZ_ s + 100 * p1) → (nd1 + 6 * p + 2 ≤ nd + 6 * p1 ∧ os.length + ts.length + 1 ≤ nd1 ∧ p < p1 ∧ p1 ≤ T.length) → (itm lC).length + p ≤ p1 → SV L us.reverse sc → Mn T 3 R.length os.length p dp sc.length nd → 20 * (61 - dp) + 22 ≤ e + 5 → Cn T s p CB ZB → Lw x TL IL GS SL (aN_ s) → its.length ≤ p →
    RL T eo n V lx x IL GS SL s CB ZB (aJ (e + 7) 270 143 [vr_ (some x), vi_ (a_b b), vr_ (some a)] [] s1) (pR_ (Kn T) V T.length lx ((8, y, p, os.length) :: R, t :: (ts.reverse ++ os), p1, dp, sc, nd1)) (QD T eo n ids iE x TL IL GS SL b s p dp us its gl R os sc nd) := by
  have hTl : T.length < 2600 := hv.1
  intro m
  induction m with
  | zero => intro s p dp us its gl R os sc nd CB ZB ts t a lC p1 nd1 s1 hm; exact absurd hm (Nat.not_lt_zero _)
  | succ m ih =>
  intro s p dp us its gl R os sc nd CB ZB ts t a lC p1 nd1 s1 hm hkd hfi hnf hG hE hP1 hK1 ⟨c1, c2⟩ ⟨n1, n2, n3, n4⟩ hil hS hM hd hC hw hI
  obtain ⟨m1, m2, m3, m4, m5, m6⟩ := id hM
  have hCa := hC.1
  have hCb := hC.2
  have hN1 : aN_ s ≤ aN_ s1 := hK1.1
  have hkt : kd_ t = 54 := hkd t (by simp)
  have g8 : pS_ (Kn T) V T.length lx 8 y p os.length (R, t :: (ts.reverse ++ os), p1, dp, sc, nd1) = (if kd_ t = 54 ∧ Kn T p1 = 44 then ok_ ((7, 1, 0, 0) :: (8, y, p, os.length) :: R, t :: (ts.reverse ++ os), p1 + 1, dp, sc, nd1) else sf_ 53 p os.length 0 ok_ (R, t :: (ts.reverse ++ os), p1, dp, sc, nd1)) := rfl
  have hlr : t :: (ts.reverse ++ os) = (ts ++ [t]).reverse ++ os := by rw [List.reverse_append]; rfl
  rw [cj_X13_declaration_143, C_skip (e + 2) hP1 n4 (c := 1033) (kk := 44) rfl (by omega) (by decide +kernel)]
  by_cases c44 : Kn T p1 = 44
  · rw [if_pos c44, if_neg (by decide)]
    have hlt : p1 < T.length := Kn_lt (by omega)
    have hP2 := PSt_at hP1 (p' := p1 + 1) (by omega)
    have hG2 := TG_Mx hG hP1 hw (x_Kp (x := x) (IL := IL) (GS := GS) (SL := SL) 94 (nI (p1 + 1)))
    have b8 : pR_ (Kn T) V T.length lx ((8, y, p, os.length) :: R, t :: (ts.reverse ++ os), p1, dp, sc, nd1) = pR_ (Kn T) V T.length lx ((7, 1, 0, 0) :: (8, y, p, os.length) :: R, t :: (ts.reverse ++ os), p1 + 1, dp, sc, nd1) := pR_ok (pb_I (by first | omega | (simp only [List.length_cons]; omega)) (by first | omega | (simp only [List.length_cons]; omega)) (by omega) (by omega) (by omega) (by omega) (by omega) (by omega)) (g8.trans (by rw [if_pos ⟨hkt, c44⟩]; rfl))
    have g7 : pS_ (Kn T) V T.length lx 7 1 0 0 ((8, y, p, os.length) :: R, t :: (ts.reverse ++ os), p1 + 1, dp, sc, nd1) = (if Kn T (p1 + 1) = 1 then (if Kn T (p1 + 1 + 1) = 12 then pp_ (Kn T) V (p1 + 1) (t :: (ts.reverse ++ os)).length 22 0 ((8, y, p, os.length) :: R, t :: (ts.reverse ++ os), p1 + 1 + 2, dp, sc, nd1) else some (.error (p1 + 1 + 1))) else some (.error (p1 + 1))) := rfl
    rw [b8]
    refine RL_name (e + 2) hP2 (by omega) (Kp_tr hK1 (x_Kp 94 _)) ⟨by simp only [aC_awI]; omega, by simp only [aZ_awI]; omega⟩ (fun h => pR_er (pb_I (by first | omega | (simp only [List.length_cons]; omega)) (by first | omega | (simp only [List.length_cons]; omega)) (by omega) (by omega) (by omega) (by omega) (by omega) (by omega)) (g7.trans (by rw [if_neg h]))) (fun hn tk ln ct => ?_)
    rw [if_pos hn] at g7
    have hlt1 : p1 + 1 < T.length := Kn_lt (by omega)
    have hP3 := PSt_at hP2 (p' := p1 + 1 + 1) (by omega)
    have hG3 := TG_Mx hG2 hP2 hw (x_Kp (x := x) (IL := IL) (GS := GS) (SL := SL) 94 (nI (p1 + 1 + 1)))
    have ct3 := CT_Kp ct (x_Kp (x := x) (IL := IL) (GS := GS) (SL := SL) 94 (nI (p1 + 1 + 1))) (Mx_cl hP2)
    have hK3 : Kp (Mx x IL GS SL) s1 (awI (awI s1 x 94 (nI (p1 + 1))) x 94 (nI (p1 + 1 + 1))) := Kp_tr (x_Kp 94 _) (x_Kp 94 _)
    have y3c : aC_ (awI (awI s1 x 94 (nI (p1 + 1))) x 94 (nI (p1 + 1 + 1))) = aC_ s1 := rfl
    have y3z : aZ_ (awI (awI s1 x 94 (nI (p1 + 1))) x 94 (nI (p1 + 1 + 1))) = aZ_ s1 := rfl
    have y3n : aN_ (awI (awI s1 x 94 (nI (p1 + 1))) x 94 (nI (p1 + 1 + 1))) = aN_ s1 := rfl
    generalize awI (awI s1 x 94 (nI (p1 + 1))) x 94 (nI (p1 + 1 + 1)) = s3 at *
    rw [f_dp (f := 303) hP3.1.1.2.2 rfl, Option.bind_some]
    refine RL_bind (s_rou hv e h1 h2 b s3 (p1 + 1) dp us (its ++ itm lC) gl ((8, y, p, os.length) :: R) (t :: (ts.reverse ++ os)) sc nd1 CB ZB tk _ _ _ _ _ ct3 hP3 hS ⟨by simp; omega, by simp; omega, by omega, m4, m5, by omega⟩ hlt1 hd ⟨by omega, by omega⟩ (by simp; omega) (fun h => pR_er (pb_I (by first | omega | (simp only [List.length_cons]; omega)) (by first | omega | (simp only [List.length_cons]; omega)) (by omega) (by omega) (by omega) (by omega) (by omega) (by omega)) (g7.trans (by rw [if_neg h]))) (fun h σ z => pR_ok (pb_I (by first | omega | (simp only [List.length_cons]; omega)) (by first | omega | (simp only [List.length_cons]; omega)) (by omega) (by omega) (by omega) (by omega) (by omega) (by omega)) (g7.trans (by rw [if_pos h]; exact z))) (fun h r z => pR_er (pb_I (by first | omega | (simp only [List.length_cons]; omega)) (by first | omega | (simp only [List.length_cons]; omega)) (by omega) (by omega) (by omega) (by omega) (by omega) (by omega)) (g7.trans (by rw [if_pos h]; exact z)))) (Kp_tr hK1 hK3) fun σ v s7 q => ?_
    obtain ⟨t2, j2, w2, l2, p3, nd3, rfl, rfl, ⟨f0, f1, f2, f3⟩, hG7, hP7, hK7, ⟨cc7, cz7⟩, ⟨n6, n7, n8, n9⟩, hil7⟩ := q
    have f0 := flC_54 f0 f2 f3
    have hG8 := TG_Mx hG3 hP3 hw hK7
    obtain ⟨s9, e9, hG9, hP9, hK9, cc9, cz9, cN9⟩ := C_with (e + 5) hP7 hw hG8 (TG_lo hG7 (by omega)) (dj_lt (m := aN_ s3) (TG_lt hG3) hG7.2.2)
    rw [e9]
    have hits : itm (snC lC (.inner j2 1129 w2 l2 .leaf)) = itm lC ++ itm (.inner j2 1129 w2 l2 .leaf) := itm_sn _ _
    simp only [List.length_cons, List.length_append, List.length_reverse] at n7
    rw [hlr]
    exact ih s p dp us its gl R os sc nd CB ZB (ts ++ [t]) t2 a _ p3 nd3 s9 (by omega) (fun w hw => by rcases List.mem_append.mp hw with z | z; exact hkd w z; simp at z; subst z; exact f2) (fun w hw => by rcases List.mem_append.mp hw with z | z; exact hfi w z; simp at z; subst z; omega) (fun w hw => by rcases List.mem_append.mp hw with z | z; exact hnf w z; simp at z; subst z; exact nfl_54 f0 f2) hG9 (er_appF hE f0) (by rw [hits, ← List.append_assoc]; exact hP9) (Kp_in (Kp_tr (Kp_tr hK1 hK3) hK7) hK9 (fun b hb => Or.inr (hG8.2.2 b hb))) ⟨by omega, by omega⟩ ⟨by omega, by simp; omega, by omega, by omega⟩ (by rw [hits]; simp; omega) hS hM hd hC hw hI
  · rw [if_neg c44, if_pos rfl]
    have b8 : pR_ (Kn T) V T.length lx ((8, y, p, os.length) :: R, t :: (ts.reverse ++ os), p1, dp, sc, nd1) = pR_ (Kn T) V T.length lx (R, st_ 53 p 0 nd1 (ts ++ [t]) :: os, p1, dp, sc, nd1 + 1) := by
      refine pR_ok (pb_I (by first | omega | (simp only [List.length_cons]; omega)) (by first | omega | (simp only [List.length_cons]; omega)) (by omega) (by omega) (by omega) (by omega) (by omega) (by omega)) (g8.trans ?_)
      rw [if_neg (fun z => c44 z.2), hlr]
      refine (sf_app (kk := 53) (a := 0) (f := ok_) (ts ++ [t]).reverse).trans ?_
      rw [List.reverse_reverse]
      rfl
    rw [b8]
    have hit : itm (.inner a 1088 (nI (tkp T eo n p), nI (tkp T eo n p), 0, [], 0, none) lC .leaf) = itm lC := itm_c rfl (by decide)
    refine Or.inr ⟨_, _, _, rfl, rfl, _, a, 1088, _, _, _, _, 0, gl, rfl, rfl, ⟨?_, fm_ge (Nat.le_refl _) hfi, (by show (50 : Nat) ≤ 53; decide), (by show (53 : Nat) ≤ 53; decide)⟩, hG, by rw [hit]; exact hP1, hK1, ⟨by omega, by omega⟩, ⟨by omega, by omega, by omega, n4⟩, by rw [hit]; exact hil, ?_, by omega, by omega, fun hb => ⟨rfl, ?_⟩⟩
    · rw [cf_53r (kd_lk hkd)]
      exact er_yr (by decide) (by decide) hE
    · rw [cf_53r (kd_lk hkd)]
      cases b <;> rfl
    · subst hb
      rw [flL_nf gl (nfl_lk hnf)] at hE
      rw [cf_53r (kd_lk hkd)]
      exact er_yr (by decide) (by decide) hE
end pch
