/-! ===== calls and commands: by gen/gen_rtask4.py ===== -/
section RRtask4
variable {z s q : mm_S} {td : List tqT} {vs : List Int32} {fr : List (Int32 × Int32)} {r : Option rs_t}
theorem r_enter_72 (d : Nat) {rb : Nat → tr_} {r at0 : Int32} {many : Nat} (hrb : ∀ j, j < 3100 → z 72 j = rt_ (rb j) ∧ Rs z (rb j)) (hm : many ≤ vs.length) (hv : vs.length < 300000) (hf : fr.length ≤ 100) (hf2 : ¬ fr.length = 100) (hl : td.length + 10 < 620000) (hr0 : ¬ r < 0) (hr1 : r.toNatClampNeg < 3100) :
    ∀ (m j : Nat) (as : List Int32) (s q : mm_S), RR z s (td, vs, fr, q) → j + m = (z 71 r.toNatClampNeg).toNatClampNeg → j + as.length = max j many → (∀ i v, as[i]? = some v → s 92 (vs.length - many + j + i) = v) →
    wq_ z ((pm_ at0 m (nI j) as q).bind fun q2 => match rb r.toNatClampNeg with
        | .leaf => none
        | .inner k i v l nx => some ((if k < 20 then xE_ (.inner k i v l nx) else xC_ (.inner k i v l nx)) :: (18, .leaf, .leaf, (if k < 20 then 1 else 0), nI (vs.length - many)) :: td, vs.drop many, (q2 0 96, q2 0 97) :: fr, mm_u (mm_u q2 0 96 at0) 0 97 r))
      (mJ (d + 1 + 1) 106 72 [vr_ (some 0), vi_ r, vi_ at0, vi_ (nI many), vi_ (nI (vs.length - many)), vi_ (nI j)] [] s) := by
  obtain ⟨er, er2⟩ := clamp_nI r hr0
  have e71 : ∀ (s q : mm_S), RR z s (td, vs, fr, q) → mm_a 3100 71 r s = some (z 71 r.toNatClampNeg) := fun s q h => by
    rw [mm_a_z h (fun i => by unfold zf_; omega)]
    conv => lhs; rw [er]
    exact mm_a_n hr1 (by decide)
  intro m
  induction m with
  | zero =>
    intro j as s q h hj ha hv2
    have hlt : ¬ nI j < z 71 r.toNatClampNeg := by
      by_cases hneg : z 71 r.toNatClampNeg < 0
      · intro hc
        have := Int32.lt_trans hc hneg
        have h31 : j < 2 ^ 31 := by have := clamp_neg hneg; omega
        exact nI_pos h31 this
      · obtain ⟨e1, e2⟩ := clamp_nI _ hneg
        rw [e1]
        exact nI_nlt (by omega) (by omega)
    rw [mj_enter_72, e71 s q h, Option.bind_some, if_neg hlt]
    show wq_ z (match rb r.toNatClampNeg with
        | .leaf => none
        | .inner k i v l nx => some ((if k < 20 then xE_ (.inner k i v l nx) else xC_ (.inner k i v l nx)) :: (18, .leaf, .leaf, (if k < 20 then 1 else 0), nI (vs.length - many)) :: td, vs.drop many, (q 0 96, q 0 97) :: fr, mm_u (mm_u q 0 96 at0) 0 97 r)) _
    obtain ⟨hb72, hbRs⟩ := hrb r.toNatClampNeg hr1
    cases hbb : rb r.toNatClampNeg with
    | leaf => exact w_none
    | inner k i v l nx =>
      rw [hbb] at hb72 hbRs
      have h95 := h.2.2.1.2.2
      have hd : RR z (mm_u s 0 91 (nI (vs.length - many))) (td, vs.drop many, fr, q) := by
        have := RR_vs (vs' := vs.drop many) h (VS_drop many h.2.2.2.2.1)
        rw [List.length_drop] at this
        exact this
      rw [h95, mm_w_n (by omega) (by decide), Option.bind_some, RR_qq h (f := 0) (i := 96) (by unfold qf_; omega)]
      generalize mm_u s 0 91 (nI (vs.length - many)) = s1 at hd ⊢
      have c1 : mm_u s1 93 fr.length (q 0 96) 0 95 = nI fr.length := (mu_n (by omega)).trans hd.2.2.1.2.2
      have c2 : mm_u s1 93 fr.length (q 0 96) 0 97 = q 0 97 := (mu_n (by omega)).trans (RR_qq hd (f := 0) (i := 97) (by unfold qf_; omega))
      rw [c1, c2, mm_w_n (by omega) (by decide), Option.bind_some]
      have c3 : mm_u (mm_u s1 93 fr.length (q 0 96)) 94 fr.length (q 0 97) 0 95 = nI fr.length := (mu_n (by omega)).trans c1
      rw [c3, nI_1]
      have h2 : RR z (mm_u (mm_u (mm_u s1 93 fr.length (q 0 96)) 94 fr.length (q 0 97)) 0 95 (nI (fr.length + 1))) (td, vs.drop many, (q 0 96, q 0 97) :: fr, q) := by
        obtain ⟨a, b, ⟨d1, d2, d3⟩, e, g', k'⟩ := hd
        have go : ∀ f j, ¬ (93 ≤ f ∧ f ≤ 94 ∧ j = fr.length) → ¬ (f = 0 ∧ j = 95) → mm_u (mm_u (mm_u s1 93 fr.length (q 0 96)) 94 fr.length (q 0 97)) 0 95 (nI (fr.length + 1)) f j = s1 f j := fun f j x y => by rw [mu_n y, mu_n (by omega), mu_n (by omega)]
        refine ⟨fun f i hz => ?_, fun f i hq => ?_, ⟨(go _ _ (by omega) (by omega)).trans d1, (go _ _ (by omega) (by omega)).trans d2, mu_s⟩, TD_fr (fun f j _ _ _ => go _ _ (by omega) (by omega)) e, VS_fr (fun j _ => go _ _ (by omega) (by omega)) g', ⟨⟨?_, ?_⟩, FS_fr (fun f j _ _ _ => go _ _ (by omega) (by omega)) k'⟩⟩
        · have := zf_lt hz; rw [go _ _ (by omega) (by omega)]; exact a f i hz
        · have := qf_lt hq; rw [go _ _ (by omega) (by omega)]; exact b f i hq
        · rw [mu_n (by omega), mu_n (by omega), mu_s]
        · rw [mu_n (by omega), mu_s]
      have h3 := RR_q (RR_q h2 (f := 0) (i := 96) at0 (by unfold qf_; omega)) (f := 0) (i := 97) r (by unfold qf_; omega)
      generalize mm_u (mm_u (mm_u (mm_u (mm_u s1 93 fr.length (q 0 96)) 94 fr.length (q 0 97)) 0 95 (nI (fr.length + 1))) 0 96 at0) 0 97 r = s3 at h3 ⊢
      have e72 : mm_a 3100 72 r s3 = some (nI i) := by
        rw [mm_a_z h3 (fun i => by unfold zf_; omega)]
        conv => lhs; rw [er]
        rw [mm_a_n hr1 (by decide), hb72]
        rfl
      rw [e72, Option.bind_some, Rs_k h3 hbRs, Option.bind_some]
      simp only [nlt1_ 20 (show k < 2 ^ 31 by have := hbRs.1.2; omega) (by decide), show ¬ ((1 : Int32) = 0) by decide, if_false, if_true, mj_enter_212]
      by_cases h20 : k < 20
      · simp only [if_pos h20, h3.2.2.1.2.1]
        refine w_todo (g := 18) (t := .leaf) (u := .leaf) (x := 1) (y := nI (vs.length - many)) h3 rfl rfl (by rw [if_neg (by decide), List.length_drop]) (by omega) (by decide) trivial trivial (fun s4 h4 => ?_)
        exact w_todoE (t := .inner k i v l nx) h4 (nlo_ _) rfl rfl (by simp only [List.length_cons]; omega) (by decide) hbRs (fun s5 h5 => w_okc h5 rfl)
      · simp only [if_neg h20, h3.2.2.1.2.1]
        refine w_todo (g := 18) (t := .leaf) (u := .leaf) (x := 0) (y := nI (vs.length - many)) h3 rfl rfl (by rw [if_neg (by decide), List.length_drop]) (by omega) (by decide) trivial trivial (fun s4 h4 => ?_)
        exact w_todoE (t := .inner k i v l nx) h4 (nlo_ _) rfl rfl (by simp only [List.length_cons]; omega) (by decide) hbRs (fun s5 h5 => w_okc h5 rfl)
  | succ m ih =>
    intro j as s q h hj ha hv2
    have hnn : ¬ z 71 r.toNatClampNeg < 0 := fun hc => by have := clamp_neg hc; omega
    obtain ⟨e1, e2⟩ := clamp_nI _ hnn
    have hlt : nI j < z 71 r.toNatClampNeg := by
      rw [e1]
      exact nI_lt (by omega) e2
    rw [mj_enter_72, e71 s q h, Option.bind_some, if_pos hlt, nI_1]
    simp only [nlt_ (show j < 2 ^ 31 by omega) (show many < 2 ^ 31 by omega)]
    cases as with
    | nil =>
      simp only [List.length_nil] at ha
      rw [if_neg (by omega)]
      show wq_ z (((mm_w 65536 98 (at0 + 2 + nI j) 0 q).bind fun q => pm_ at0 m (nI j + 1) [] q).bind _) _
      rw [Option.bind_assoc, nI_1]
      refine w_w' h zf98 (fun s1 q1 h1 f1 => ?_)
      exact ih (j + 1) [] s1 q1 h1 (by omega) (by simp only [List.length_nil]; omega) (fun i v hi => by simp at hi)
    | cons v as =>
      simp only [List.length_cons] at ha
      have hv0 : s 92 (vs.length - many + j) = v := hv2 0 v (by simp)
      rw [if_pos (by omega), nI_add, mm_a_n (by omega) (by decide), Option.bind_some, hv0]
      show wq_ z (((mm_w 65536 98 (at0 + 2 + nI j) v q).bind fun q => pm_ at0 m (nI j + 1) as q).bind _) _
      rw [Option.bind_assoc, nI_1]
      refine w_w' h zf98 (fun s1 q1 h1 f1 => ?_)
      refine ih (j + 1) as s1 q1 h1 (by omega) (by omega) (fun i v1 hi => ?_)
      rw [f1 _ _ (by decide), ← hv2 (i + 1) v1 (by simpa using hi)]
      congr 1
      omega
theorem r_ret_13 (d : Nat) {v y : Int32} (h : RR z s (td, vs, fr, q)) (hf : fr.length ≤ 100) (hv : vs.length < 299999) : wq_ z (rn_ v y td vs fr q) (mJ (d + 1 + 1) 132 13 [vr_ (some 0), vi_ y] [vi_ v] s) := by
  cases fr with
  | nil => exact w_none
  | cons b fr =>
    obtain ⟨b, rr⟩ := b
    dsimp only [rn_]
    by_cases hy : y.toNatClampNeg ≤ vs.length ∧ y = nI y.toNatClampNeg
    case neg => rw [if_neg hy]; exact w_none
    rw [if_pos hy]
    obtain ⟨hy1, hy2⟩ := hy
    simp only [List.length_cons] at hf
    have h95 : s 0 95 = nI (fr.length + 1) := h.2.2.1.2.2
    have hd : RR z (mm_u s 0 91 y) (td, vs.drop (vs.length - y.toNatClampNeg), (b, rr) :: fr, q) := by
      have := RR_vs (vs' := vs.drop (vs.length - y.toNatClampNeg)) h (VS_drop _ h.2.2.2.2.1)
      rw [List.length_drop, show vs.length - (vs.length - y.toNatClampNeg) = y.toNatClampNeg by omega, ← hy2] at this
      exact this
    rw [mj_returns_13, h95, show (nI (fr.length + 1) - 1 : Int32) = nI fr.length from nI_pred _]
    generalize mm_u s 0 91 y = s1 at hd ⊢
    have go : ∀ f j, ¬ (f = 0 ∧ j = 95) → mm_u s1 0 95 (nI fr.length) f j = s1 f j := fun f j x => mu_n x
    have h2 : RR z (mm_u s1 0 95 (nI fr.length)) (td, vs.drop (vs.length - y.toNatClampNeg), fr, q) := by
      obtain ⟨a, b', ⟨d1, d2, d3⟩, e, g', k'⟩ := hd
      refine ⟨fun f i hz => ?_, fun f i hq => ?_, ⟨(go _ _ (by omega)).trans d1, (go _ _ (by omega)).trans d2, mu_s⟩, TD_fr (fun f j _ _ _ => go _ _ (by omega)) e, VS_fr (fun j _ => go _ _ (by omega)) g', FS_fr (fun f j _ _ _ => go _ _ (by omega)) k'.2⟩
      · have := zf_lt hz; rw [go _ _ (by omega)]; exact a f i hz
      · have := qf_lt hq; rw [go _ _ (by omega)]; exact b' f i hq
    have f1 : mm_u s1 0 95 (nI fr.length) 93 fr.length = b := (go _ _ (by omega)).trans hd.2.2.2.2.2.1.1
    have f2 : mm_u (mm_u s1 0 95 (nI fr.length)) 0 96 b 94 fr.length = rr := by rw [mu_n (by omega), go _ _ (by omega)]; exact hd.2.2.2.2.2.1.2
    rw [mm_a_n (by omega) (by decide), Option.bind_some, f1, mm_a_n (by omega) (by decide), Option.bind_some, f2]
    exact w_push (RR_q (RR_q h2 (f := 0) (i := 96) b (by unfold qf_; omega)) (f := 0) (i := 97) rr (by unfold qf_; omega)) (by rw [List.length_drop]; omega) (fun s4 h4 => w_ok h4)
theorem RR_pop {x : tqT} (h : RR z s (x :: td, vs, fr, q)) : RR z (mm_u s 0 87 (nI td.length)) (td, vs, fr, q) := RR_td h h.2.2.2.1.2
theorem r_topk {x : tqT} (h : RR z s (x :: td, vs, fr, q)) (hl : td.length < 620000) : s 0 87 - 1 = nI td.length ∧ mm_a 620000 88 (nI td.length) s = some (nI x.1) ∧ x.1 < 100 := by
  refine ⟨?_, ?_, h.2.2.2.1.1.2.1⟩
  · rw [show s 0 87 = nI (td.length + 1) from h.2.2.1.1, show (nI (td.length + 1) - 1 : Int32) = nI td.length from nI_pred _]
  · rw [mm_a_n hl (by decide), h.2.2.2.1.1.1.1]
theorem r_brk (d : Nat) : ∀ (td : List tqT) {s : mm_S}, RR z s (td, vs, fr, q) → td.length < 620000 → wq_ z ((bk_ td).bind fun td => some (td, vs, fr, q)) (mJ (d + 1) 122 253 [vr_ (some 0)] [] s)
  | [], s, h, hl => w_none
  | x :: td, s, h, hl => by
    simp only [List.length_cons] at hl
    obtain ⟨e1, e2, e3⟩ := r_topk h (by omega)
    rw [mj_perform_253, e1, e2, Option.bind_some]
    simp only [neq1_ 15 (show x.1 < 2 ^ 31 by omega) (by decide)]
    unfold bk_
    by_cases hx : x.1 = 15
    · rw [if_pos hx, if_pos hx]
      exact w_ok (RR_pop h)
    · rw [if_neg hx, if_neg hx]
      exact r_brk d td (RR_pop h) (by omega)
theorem r_lop (d : Nat) : ∀ (td : List tqT) {s : mm_S}, RR z s (td, vs, fr, q) → td.length < 620000 → wq_ z ((lp_ td).bind fun td => some (td, vs, fr, q)) (mJ (d + 1) 122 301 [vr_ (some 0)] [] s)
  | [], s, h, hl => w_none
  | x :: td, s, h, hl => by
    simp only [List.length_cons] at hl
    obtain ⟨e1, e2, e3⟩ := r_topk h (by omega)
    rw [mj_perform_301, e1, e2, Option.bind_some]
    simp only [neq1_ 15 (show x.1 < 2 ^ 31 by omega) (by decide)]
    unfold lp_
    by_cases hx : x.1 = 15
    · rw [if_pos hx, if_pos hx]
      exact w_ok h
    · rw [if_neg hx, if_neg hx]
      exact r_lop d td (RR_pop h) (by omega)
theorem r_rtu (d : Nat) : ∀ (td : List tqT) {s : mm_S}, RR z s (td, vs, fr, q) → td.length < 620000 → wq_ z ((rt_u td).bind fun td => some (td, vs, fr, q)) (mJ (d + 1) 122 405 [vr_ (some 0)] [] s)
  | [], s, h, hl => w_none
  | x :: td, s, h, hl => by
    simp only [List.length_cons] at hl
    obtain ⟨e1, e2, e3⟩ := r_topk h (by omega)
    rw [mj_perform_405, e1, e2, Option.bind_some]
    simp only [neq1_ 18 (show x.1 < 2 ^ 31 by omega) (by decide)]
    unfold rt_u
    by_cases hx : x.1 = 18
    · rw [if_pos hx, if_pos hx]
      exact w_ok h
    · rw [if_neg hx, if_neg hx]
      exact r_rtu d td (RR_pop h) (by omega)
theorem r_top89 {x : tqT} (h : RR z s (x :: td, vs, fr, q)) (hl : td.length < 620000) (hx : x.1 = 17) : mm_a 620000 89 (nI td.length) s = some (rt_ x.2.1) ∧ Rs z x.2.1 := by
  obtain ⟨⟨c1, c2, c3⟩, c4, c5, c6⟩ := h.2.2.2.1.1
  refine ⟨?_, c5⟩
  rw [mm_a_n hl (by decide), c2, if_neg (by omega)]
theorem r_enc (d : Nat) : ∀ (td : List tqT) {s : mm_S}, RR z s (td, vs, fr, q) → td.length < 620000 → wq_ z ((ec_ td).bind fun td => some (td, vs, fr, q)) (mJ (d + 1) 122 336 [vr_ (some 0)] [] s)
  | [], s, h, hl => w_none
  | (xk, xt, xu, xx, xy) :: td, s, h, hl => by
    simp only [List.length_cons] at hl
    obtain ⟨e1, e2, e3⟩ := r_topk h (by omega)
    have e2 : mm_a 620000 88 (nI td.length) s = some (nI xk) := e2
    have e3 : xk < 100 := e3
    rw [mj_perform_336, e1, e2, Option.bind_some]
    simp only [neq1_ 17 (show xk < 2 ^ 31 by omega) (by decide)]
    unfold ec_
    dsimp only
    by_cases hx : xk = 17
    · obtain ⟨e4, e5⟩ := r_top89 h (by omega) hx
      have e4 : mm_a 620000 89 (nI td.length) s = some (rt_ xt) := e4
      have e5 : Rs z xt := e5
      rw [if_pos hx, e4, Option.bind_some]
      by_cases h0 : kd_ xt = 0
      · rw [if_pos ⟨hx, h0⟩]; exact w_none
      rw [if_neg (fun e => h0 e.2)]
      cases xt with
      | leaf => exact absurd rfl h0
      | inner k i v l nx =>
        rw [show rt_ (.inner k i v l nx : tr_) = nI i from rfl, Rs_k h e5, Option.bind_some]
        simp only [neq1_ 28 (show k < 2 ^ 31 by have := e5.1.2; omega) (by decide)]
        by_cases h28 : k = 28
        · rw [if_pos h28, if_pos ⟨hx, h28⟩]
          exact w_ok (RR_pop h)
        · rw [if_neg h28, if_neg (fun e => h28 e.2)]
          exact r_enc d td (RR_pop h) (by omega)
    · rw [if_neg hx, if_neg (fun e => hx e.1), if_neg (fun e => hx e.1)]
      exact r_enc d td (RR_pop h) (by omega)
theorem fd_Rs {n : Int32} : ∀ {t u : tr_}, fd_r n t = some u → Rs z t → Rs z u ∧ rt_ u = n
  | .leaf, u, h, _ => by cases h
  | .inner k i v l r, u, h, ht => by
    unfold fd_r at h
    split at h
    · rename_i e
      cases h
      exact ⟨ht, e⟩
    · exact fd_Rs h (Rs_r ht)
theorem r_gto (d : Nat) (to sec : Int32) (e30 : mm_a 26000 30 to z = some sec) : ∀ (td : List tqT) {s : mm_S}, RR z s (td, vs, fr, q) → td.length < 620000 → wq_ z ((gtT to sec td).bind fun td => some (td, vs, fr, q)) (mJ (d + 1) 122 472 [vr_ (some 0), vi_ to] [] s)
  | [], s, h, hl => w_none
  | (xk, xt, xu, xx, xy) :: td, s, h, hl => by
    simp only [List.length_cons] at hl
    obtain ⟨e1, e2, e3⟩ := r_topk h (by omega)
    have e2 : mm_a 620000 88 (nI td.length) s = some (nI xk) := e2
    have e3 : xk < 100 := e3
    rw [mj_perform_472, e1, e2, Option.bind_some]
    simp only [neq1_ 17 (show xk < 2 ^ 31 by omega) (by decide)]
    unfold gtT
    dsimp only
    by_cases hx : xk = 17
    · obtain ⟨e4, e5⟩ := r_top89 h (by omega) hx
      have e4 : mm_a 620000 89 (nI td.length) s = some (rt_ xt) := e4
      have e5 : Rs z xt := e5
      rw [if_pos hx, e4, Option.bind_some, mm_a_z h (zfa (by omega) (by omega)), e30, Option.bind_some]
      by_cases hs : rt_ xt = sec
      · rw [if_pos hs, if_pos ⟨hx, hs⟩, mm_w_n (by omega) (by decide), Option.bind_some]
        cases hfd : fd_r to (ch_r xt) with
        | none => exact w_none
        | some u =>
          obtain ⟨hu1, hu2⟩ := fd_Rs hfd (Rs_ch e5)
          refine w_ok (σ := ((17, xt, u, 0, 0) :: td, vs, fr, q)) ?_
          obtain ⟨a, b, ⟨d1, d2, d3⟩, ⟨⟨⟨t1, t2, t3⟩, t4⟩, e⟩, g', k'⟩ := h
          refine ⟨fun f i hz => ?_, fun f i hq => ?_, ⟨(mu_n (by omega)).trans d1, (mu_n (by omega)).trans d2, (mu_n (by omega)).trans d3⟩, ⟨⟨⟨?_, ?_, ?_⟩, show (17 : Nat) < 100 by decide, e5, hu1⟩, TD_fr (fun f j x y w => mu_n (by omega)) e⟩, VS_fr (fun j _ => mu_n (by omega)) g', FS_fr (fun f j x y _ => mu_n (by omega)) k'⟩
          · have := zf_lt hz; rw [mu_n (by omega)]; exact a f i hz
          · have := qf_lt hq; rw [mu_n (by omega)]; exact b f i hq
          · rw [mu_n (by omega), t1]; show nI xk = nI 17; rw [hx]
          · rw [mu_n (by omega), t2]; show (if xk = 18 ∨ xk = 23 then _ else rt_ xt) = rt_ xt; rw [if_neg (by omega)]
          · rw [mu_s, ← hu2]; rfl
      · rw [if_neg hs, if_neg (fun e => hs e.2)]
        exact r_gto d to sec e30 td (RR_pop h) (by omega)
    · rw [if_neg hx, if_neg (fun e => hx e.1)]
      exact r_gto d to sec e30 td (RR_pop h) (by omega)
theorem nx_rd {l n : tr_} (h : RR z s (td, vs, fr, q)) (ht : Rs z l) (e : nxo l = some n) : mm_a 26000 28 (rt_ l) s = some (rt_ n) := by
  cases l with
  | leaf => cases e
  | inner k i v l nx =>
    cases e
    exact Rs_n h ht
set_option maxRecDepth 8000 in
set_option maxHeartbeats 1000000 in
theorem r_enter (d : Nat) (rb : Nat → tr_) (r at0 : Int32) (many : Nat) (hrb : ∀ j, j < 3100 → z 72 j = rt_ (rb j) ∧ Rs z (rb j)) (h : RR z s (td, vs, fr, q)) (hf : fr.length ≤ 100) (hb : td.length + 27000 ≤ 620000 ∧ vs.length + 2 ≤ 300000) : wq_ z (en_ z rb r at0 many td vs fr q) (mE (d + 3) 106 [vr_ (some 0), vi_ r, vi_ at0, vi_ (nI many)] s) := by
  obtain ⟨hb1, hb2⟩ := hb
  rw [me_enter]
  unfold en_
  refine w_burn h (fun s1 h1 => ?_) (fun s1 q1 h1 => ?_)
  · rw [if_pos rfl]; exact w_ok h1
  rw [if_neg (c := (1 : Int32) = 0) (by decide), h1.2.2.1.2.2]
  simp only [neq1_ 100 (show fr.length < 2 ^ 31 by omega) (by decide)]
  refine w_ite (fun h100 => ?_) (fun h100 => ?_)
  · exact w_err h1 (fun s2 h2 => w_ok h2)
  rw [mm_a_z h1 (fun i => by unfold zf_; omega)]
  cases e70 : mm_a 3100 70 r z with
  | none => exact w_none
  | some mx =>
    rw [Option.bind_some, Option.bind_some]
    refine w_limit h1 (fun li => ?_)
    refine w_ite (fun hli => ?_) (fun hli => ?_)
    · exact w_err h1 (fun s2 h2 => w_ok h2)
    by_cases hm : many ≤ vs.length
    case neg => rw [if_neg hm]; exact w_none
    rw [if_pos hm, RR_qq h1 (f := 0) (i := 96) (by unfold qf_; omega), h1.2.2.1.2.1, nsb_ hm]
    refine w_w h1 zf98 (fun s2 q2 h2 => ?_)
    refine w_w h2 zf98 (fun s3 q3 h3 => ?_)
    obtain ⟨hr0, hr1, _⟩ := mm_a_ge e70
    obtain ⟨e71, hr2⟩ := clamp_nI r hr0
    rw [show mm_a 3100 71 r z = some (z 71 r.toNatClampNeg) by
      conv => lhs; rw [e71]
      exact mm_a_n (by omega) (by decide), Option.bind_some]
    have hp := r_enter_72 (z := z) (td := td) (vs := vs) (fr := fr) (d + 1) (rb := rb) (r := r) (at0 := at0) (many := many) hrb hm (by omega) hf h100 (by omega) hr0 hr1 (z 71 r.toNatClampNeg).toNatClampNeg 0 (vs.take many).reverse s3 q3 h3 (by omega) (by rw [List.length_reverse, List.length_take]; omega) (fun j v1 hj => ?_)
    · exact hp
    · have hj2 := (List.getElem?_eq_some_iff.mp hj).1
      rw [List.length_reverse, List.length_take] at hj2
      rw [List.getElem?_reverse (by rw [List.length_take]; omega), List.getElem?_take_of_lt (by rw [List.length_take]; omega)] at hj
      rw [← VS_at h3.2.2.2.2.1 hj]
      congr 1
      rw [List.length_take]
      omega
set_option maxRecDepth 8000 in
set_option maxHeartbeats 1000000 in
theorem r_call (d : Nat) (rb : Nat → tr_) (LB : Int32 → Nat → Int32 → List tqT → List Int32 → List (Int32 × Int32) → mm_S → Option rs_t) (hrb : ∀ j, j < 3100 → z 72 j = rt_ (rb j) ∧ Rs z (rb j)) (hLB : ∀ (which : Int32) (many : Nat) (at0 : Int32) (td : List tqT) (vs : List Int32) (fr : List (Int32 × Int32)) (s q : mm_S), RR z s (td, vs, fr, q) → fr.length ≤ 100 → td.length + 27000 ≤ 620000 ∧ vs.length + 10 ≤ 300000 → many < 2 ^ 31 → wq_ z (LB which many at0 td vs fr q) (mE (d + 5) 121 [vr_ (some 0), vi_ which, vi_ (nI many), vi_ at0] s)) {k i : Nat} {v} {l nx : tr_} {f y : Int32} (h : RR z s (td, f :: vs, fr, q)) (ht : Rs z (.inner k i v l nx)) (hy : ¬ y < 0) (hf : fr.length ≤ 100) (hb : td.length + 27000 ≤ 620000 ∧ vs.length + 10 ≤ 300000) : wq_ z (cl_ z rb LB f (q 0 96 + z 30 i) y.toNatClampNeg td vs fr q) (mE (d + 6) 107 [vr_ (some 0), vi_ (nI i), vi_ y] s) := by
  obtain ⟨hb1, hb2⟩ := hb
  obtain ⟨ey, hy2⟩ := clamp_nI y hy
  rw [me_call]
  refine w_pop h (by omega) (fun s1 h1 => ?_)
  rw [Rs_f h1 ht (by omega) (by omega), Option.bind_some, RR_qq h1 (f := 0) (i := 96) (by unfold qf_; omega)]
  unfold cl_
  have c47 : ¬ (2000000 ≤ f ∧ f < 2000018) → wq_ z (if 2000000 ≤ f ∧ f < 2000018 then LB (f - 2000000) y.toNatClampNeg (q 0 96 + z 30 i) td vs fr q else if 1000000 ≤ f ∧ f < 1000000 + z 0 69 then en_ z rb (f - 1000000) (q 0 96 + z 30 i) y.toNatClampNeg td vs fr q else some (td, vs, fr, er_ 4 q)) (mJ (d + 5 + 1) 107 47 [vr_ (some 0), vi_ y, vi_ f, vi_ (q 0 96 + z 30 i)] [] s1) := fun hn => by
    rw [if_neg hn, mj_call_47, RR_z h1 (f := 0) (i := 69) (by unfold zf_; omega)]
    by_cases c1 : f < 1000000
    · rw [if_pos c1, if_neg (fun e => absurd e.1 (Int32.not_le.mpr c1))]
      exact w_err h1 (fun s2 h2 => w_ok h2)
    rw [if_neg c1]
    by_cases c2 : f < 1000000 + z 0 69
    · rw [if_pos c2, if_pos ⟨Int32.not_lt.mp c1, c2⟩]
      have := r_enter (d + 2) rb (f - 1000000) (q 0 96 + z 30 i) y.toNatClampNeg hrb h1 hf ⟨hb1, by omega⟩
      rw [← ey] at this
      exact w_bVn this
    · rw [if_neg c2, if_neg (fun e => c2 e.2)]
      exact w_err h1 (fun s2 h2 => w_ok h2)
  by_cases c1 : f < 2000000
  · rw [if_pos c1]
    exact c47 (fun e => absurd e.1 (Int32.not_le.mpr c1))
  rw [if_neg c1]
  by_cases c2 : f < 2000018
  · rw [if_pos c2, if_pos ⟨Int32.not_lt.mp c1, c2⟩]
    have := hLB (f - 2000000) y.toNatClampNeg (q 0 96 + z 30 i) td vs fr s1 q h1 hf ⟨hb1, hb2⟩ hy2
    rw [← ey] at this
    exact w_bVn this
  · rw [if_neg c2]
    exact c47 (fun e => c2 e.2)
set_option maxRecDepth 8000 in
set_option maxHeartbeats 1000000 in
theorem r_returns (d : Nat) {x y : Int32} (h : RR z s (td, vs, fr, q)) (hf : fr.length ≤ 100) (hb : td.length + 27000 ≤ 620000 ∧ vs.length + 10 ≤ 300000) : wq_ z (rv_ x y td vs fr q) (mE (d + 2) 132 [vr_ (some 0), vi_ x, vi_ y] s) := by
  obtain ⟨hb1, hb2⟩ := hb
  rw [me_returns]
  unfold rv_
  refine w_ite (fun h1 => ?_) (fun h1 => ?_)
  · cases vs with
    | nil => exact w_none
    | cons v vs =>
      simp only [List.length_cons] at hb2
      exact w_pop h (by omega) (fun s1 h1 => r_ret_13 d h1 hf (by omega))
  · exact r_ret_13 d h hf (by omega)
set_option maxRecDepth 8000 in
set_option maxHeartbeats 1000000 in
theorem r_perform (d : Nat) (t : tr_) (h : RR z s (td, vs, fr, q)) (ht : Rs z t) (hb : td.length + 27000 ≤ 620000 ∧ vs.length + 10 ≤ 300000) : wq_ z (pf_ z t td vs fr q) (mE (d + 5) 122 [vr_ (some 0), vi_ (rt_ t)] s) := by
  obtain ⟨hb1, hb2⟩ := hb
  cases t with
  | leaf => exact w_none
  | inner k i v l nx =>
    have kk : ∀ c, c < 2 ^ 31 → (nI k = (OfNat.ofNat c : Int32)) = (k = c) := fun c hc => neq1_ c (by have := ht.1.2; omega) hc
    rw [show rt_ (.inner k i v l nx : tr_) = nI i from rfl, me_perform, Rs_k h ht, Option.bind_some, Rs_c h ht, Option.bind_some]
    dsimp only [pf_]
    simp only [kk 37 (by decide), kk 36 (by decide), kk 38 (by decide), kk 39 (by decide), kk 40 (by decide), kk 20 (by decide), kk 21 (by decide), kk 22 (by decide), kk 23 (by decide), kk 24 (by decide), kk 25 (by decide), kk 26 (by decide), kk 27 (by decide), kk 28 (by decide), kk 29 (by decide), kk 30 (by decide), kk 31 (by decide), kk 32 (by decide), kk 33 (by decide), kk 35 (by decide)]
    refine w_ite (fun hk1 => ?_) (fun hk0 => ?_)
    · exact w_ok h
    refine w_ite (fun hk1 => ?_) (fun hk0 => ?_)
    · repeat' first
        | with_reducible exact w_none
        | with_reducible exact w_ok (by assumption)
        | with_reducible refine w_push (by assumption) (by first | omega | (simp only [List.length_cons]; omega)) (fun s1 h1 => ?_)
        | with_reducible refine w_pop (by assumption) (by first | omega | (simp only [List.length_cons]; omega)) (fun s1 h1 => ?_)
        | with_reducible refine w_todoE (by assumption) (nlo_ _) rfl rfl (by first | omega | (simp only [List.length_cons]; omega)) (by decide) (by first | assumption | exact Rs_l (by assumption) | exact Rs_r (by assumption) | trivial) (fun s1 h1 => ?_)
        | with_reducible refine w_todoS (by assumption) (nlo_ _) rfl rfl (by first | omega | (simp only [List.length_cons]; omega)) (by decide) (by first | assumption | exact Rs_l (by assumption) | exact Rs_r (by assumption) | trivial) (by first | assumption | exact Rs_l (by assumption) | exact Rs_r (by assumption) | trivial) (fun s1 h1 => ?_)
        | with_reducible refine w_err (by assumption) (fun s1 h1 => ?_)
        | with_reducible refine w_burn (by assumption) (fun s1 h1 => ?_) (fun s1 q1 h1 => ?_)
        | with_reducible refine w_read (by assumption) (fun v1 s1 q1 h1 => ?_)
        | with_reducible refine w_write (by assumption) (fun s1 q1 h1 => ?_)
        | with_reducible refine w_word (by assumption) (by assumption) (fun w1 => ?_)
        | with_reducible refine w_nx (by assumption) (by first | assumption | exact Rs_l (by assumption) | exact Rs_r (by assumption) | trivial) (fun n1 hn1 => ?_)
        | with_reducible refine w_ch (by assumption) (by first | assumption | exact Rs_l (by assumption) | exact Rs_r (by assumption) | trivial) (fun n1 hn1 => ?_)
        | with_reducible refine w_aq (by assumption) zf98 (fun v1 => ?_)
        | with_reducible refine w_w (by assumption) zf98 (fun s1 q1 h1 => ?_)
        | with_reducible refine w_ite (fun hk1 => ?_) (fun hk0 => ?_)
        | contradiction
        | (exfalso; omega)
        | ((with_reducible refine w_okc (by assumption) ?_); rfl)
        | simp only [nI_1, show ¬ ((1 : Int32) = 0) by decide, show ¬ ((0 : Int32) = 1) by decide, if_true, if_false, eq_self_iff_true, Option.bind_some]
    refine w_ite (fun hk1 => ?_) (fun hk0 => ?_)
    · repeat' first
        | with_reducible exact w_none
        | with_reducible exact w_ok (by assumption)
        | with_reducible refine w_push (by assumption) (by first | omega | (simp only [List.length_cons]; omega)) (fun s1 h1 => ?_)
        | with_reducible refine w_pop (by assumption) (by first | omega | (simp only [List.length_cons]; omega)) (fun s1 h1 => ?_)
        | with_reducible refine w_todoE (by assumption) (nlo_ _) rfl rfl (by first | omega | (simp only [List.length_cons]; omega)) (by decide) (by first | assumption | exact Rs_l (by assumption) | exact Rs_r (by assumption) | trivial) (fun s1 h1 => ?_)
        | with_reducible refine w_todoS (by assumption) (nlo_ _) rfl rfl (by first | omega | (simp only [List.length_cons]; omega)) (by decide) (by first | assumption | exact Rs_l (by assumption) | exact Rs_r (by assumption) | trivial) (by first | assumption | exact Rs_l (by assumption) | exact Rs_r (by assumption) | trivial) (fun s1 h1 => ?_)
        | with_reducible refine w_err (by assumption) (fun s1 h1 => ?_)
        | with_reducible refine w_burn (by assumption) (fun s1 h1 => ?_) (fun s1 q1 h1 => ?_)
        | with_reducible refine w_read (by assumption) (fun v1 s1 q1 h1 => ?_)
        | with_reducible refine w_write (by assumption) (fun s1 q1 h1 => ?_)
        | with_reducible refine w_word (by assumption) (by assumption) (fun w1 => ?_)
        | with_reducible refine w_nx (by assumption) (by first | assumption | exact Rs_l (by assumption) | exact Rs_r (by assumption) | trivial) (fun n1 hn1 => ?_)
        | with_reducible refine w_ch (by assumption) (by first | assumption | exact Rs_l (by assumption) | exact Rs_r (by assumption) | trivial) (fun n1 hn1 => ?_)
        | with_reducible refine w_aq (by assumption) zf98 (fun v1 => ?_)
        | with_reducible refine w_w (by assumption) zf98 (fun s1 q1 h1 => ?_)
        | with_reducible refine w_ite (fun hk1 => ?_) (fun hk0 => ?_)
        | contradiction
        | (exfalso; omega)
        | ((with_reducible refine w_okc (by assumption) ?_); rfl)
        | simp only [nI_1, show ¬ ((1 : Int32) = 0) by decide, show ¬ ((0 : Int32) = 1) by decide, if_true, if_false, eq_self_iff_true, Option.bind_some]
    refine w_ite (fun hk1 => ?_) (fun hk0 => ?_)
    · repeat' first
        | with_reducible exact w_none
        | with_reducible exact w_ok (by assumption)
        | with_reducible refine w_push (by assumption) (by first | omega | (simp only [List.length_cons]; omega)) (fun s1 h1 => ?_)
        | with_reducible refine w_pop (by assumption) (by first | omega | (simp only [List.length_cons]; omega)) (fun s1 h1 => ?_)
        | with_reducible refine w_todoE (by assumption) (nlo_ _) rfl rfl (by first | omega | (simp only [List.length_cons]; omega)) (by decide) (by first | assumption | exact Rs_l (by assumption) | exact Rs_r (by assumption) | trivial) (fun s1 h1 => ?_)
        | with_reducible refine w_todoS (by assumption) (nlo_ _) rfl rfl (by first | omega | (simp only [List.length_cons]; omega)) (by decide) (by first | assumption | exact Rs_l (by assumption) | exact Rs_r (by assumption) | trivial) (by first | assumption | exact Rs_l (by assumption) | exact Rs_r (by assumption) | trivial) (fun s1 h1 => ?_)
        | with_reducible refine w_err (by assumption) (fun s1 h1 => ?_)
        | with_reducible refine w_burn (by assumption) (fun s1 h1 => ?_) (fun s1 q1 h1 => ?_)
        | with_reducible refine w_read (by assumption) (fun v1 s1 q1 h1 => ?_)
        | with_reducible refine w_write (by assumption) (fun s1 q1 h1 => ?_)
        | with_reducible refine w_word (by assumption) (by assumption) (fun w1 => ?_)
        | with_reducible refine w_nx (by assumption) (by first | assumption | exact Rs_l (by assumption) | exact Rs_r (by assumption) | trivial) (fun n1 hn1 => ?_)
        | with_reducible refine w_ch (by assumption) (by first | assumption | exact Rs_l (by assumption) | exact Rs_r (by assumption) | trivial) (fun n1 hn1 => ?_)
        | with_reducible refine w_aq (by assumption) zf98 (fun v1 => ?_)
        | with_reducible refine w_w (by assumption) zf98 (fun s1 q1 h1 => ?_)
        | with_reducible refine w_ite (fun hk1 => ?_) (fun hk0 => ?_)
        | contradiction
        | (exfalso; omega)
        | ((with_reducible refine w_okc (by assumption) ?_); rfl)
        | simp only [nI_1, show ¬ ((1 : Int32) = 0) by decide, show ¬ ((0 : Int32) = 1) by decide, if_true, if_false, eq_self_iff_true, Option.bind_some]
    refine w_ite (fun hk1 => ?_) (fun hk0 => ?_)
    · repeat' first
        | with_reducible exact w_none
        | with_reducible exact w_ok (by assumption)
        | with_reducible refine w_push (by assumption) (by first | omega | (simp only [List.length_cons]; omega)) (fun s1 h1 => ?_)
        | with_reducible refine w_pop (by assumption) (by first | omega | (simp only [List.length_cons]; omega)) (fun s1 h1 => ?_)
        | with_reducible refine w_todoE (by assumption) (nlo_ _) rfl rfl (by first | omega | (simp only [List.length_cons]; omega)) (by decide) (by first | assumption | exact Rs_l (by assumption) | exact Rs_r (by assumption) | trivial) (fun s1 h1 => ?_)
        | with_reducible refine w_todoS (by assumption) (nlo_ _) rfl rfl (by first | omega | (simp only [List.length_cons]; omega)) (by decide) (by first | assumption | exact Rs_l (by assumption) | exact Rs_r (by assumption) | trivial) (by first | assumption | exact Rs_l (by assumption) | exact Rs_r (by assumption) | trivial) (fun s1 h1 => ?_)
        | with_reducible refine w_err (by assumption) (fun s1 h1 => ?_)
        | with_reducible refine w_burn (by assumption) (fun s1 h1 => ?_) (fun s1 q1 h1 => ?_)
        | with_reducible refine w_read (by assumption) (fun v1 s1 q1 h1 => ?_)
        | with_reducible refine w_write (by assumption) (fun s1 q1 h1 => ?_)
        | with_reducible refine w_word (by assumption) (by assumption) (fun w1 => ?_)
        | with_reducible refine w_nx (by assumption) (by first | assumption | exact Rs_l (by assumption) | exact Rs_r (by assumption) | trivial) (fun n1 hn1 => ?_)
        | with_reducible refine w_ch (by assumption) (by first | assumption | exact Rs_l (by assumption) | exact Rs_r (by assumption) | trivial) (fun n1 hn1 => ?_)
        | with_reducible refine w_aq (by assumption) zf98 (fun v1 => ?_)
        | with_reducible refine w_w (by assumption) zf98 (fun s1 q1 h1 => ?_)
        | with_reducible refine w_ite (fun hk1 => ?_) (fun hk0 => ?_)
        | contradiction
        | (exfalso; omega)
        | ((with_reducible refine w_okc (by assumption) ?_); rfl)
        | simp only [nI_1, show ¬ ((1 : Int32) = 0) by decide, show ¬ ((0 : Int32) = 1) by decide, if_true, if_false, eq_self_iff_true, Option.bind_some]
    refine w_burn h (fun s1 h1 => ?_) (fun s1 q1 h1 => ?_)
    · rw [if_pos rfl]; exact w_ok h1
    rw [if_neg (c := (1 : Int32) = 0) (by decide)]
    refine w_ite (fun hk1 => ?_) (fun hk0 => ?_)
    · exact w_bVn (r_assign (d + 1) (.inner k i v l nx) l h1 ht (Rs_l ht) ⟨hb1, hb2⟩)
    refine w_ite (fun hk1 => ?_) (fun hk0 => ?_)
    · repeat' first
        | with_reducible exact w_none
        | with_reducible exact w_ok (by assumption)
        | with_reducible refine w_push (by assumption) (by first | omega | (simp only [List.length_cons]; omega)) (fun s1 h1 => ?_)
        | with_reducible refine w_pop (by assumption) (by first | omega | (simp only [List.length_cons]; omega)) (fun s1 h1 => ?_)
        | with_reducible refine w_todoE (by assumption) (nlo_ _) rfl rfl (by first | omega | (simp only [List.length_cons]; omega)) (by decide) (by first | assumption | exact Rs_l (by assumption) | exact Rs_r (by assumption) | trivial) (fun s1 h1 => ?_)
        | with_reducible refine w_todoS (by assumption) (nlo_ _) rfl rfl (by first | omega | (simp only [List.length_cons]; omega)) (by decide) (by first | assumption | exact Rs_l (by assumption) | exact Rs_r (by assumption) | trivial) (by first | assumption | exact Rs_l (by assumption) | exact Rs_r (by assumption) | trivial) (fun s1 h1 => ?_)
        | with_reducible refine w_err (by assumption) (fun s1 h1 => ?_)
        | with_reducible refine w_burn (by assumption) (fun s1 h1 => ?_) (fun s1 q1 h1 => ?_)
        | with_reducible refine w_read (by assumption) (fun v1 s1 q1 h1 => ?_)
        | with_reducible refine w_write (by assumption) (fun s1 q1 h1 => ?_)
        | with_reducible refine w_word (by assumption) (by assumption) (fun w1 => ?_)
        | with_reducible refine w_nx (by assumption) (by first | assumption | exact Rs_l (by assumption) | exact Rs_r (by assumption) | trivial) (fun n1 hn1 => ?_)
        | with_reducible refine w_ch (by assumption) (by first | assumption | exact Rs_l (by assumption) | exact Rs_r (by assumption) | trivial) (fun n1 hn1 => ?_)
        | with_reducible refine w_aq (by assumption) zf98 (fun v1 => ?_)
        | with_reducible refine w_w (by assumption) zf98 (fun s1 q1 h1 => ?_)
        | with_reducible refine w_ite (fun hk1 => ?_) (fun hk0 => ?_)
        | contradiction
        | (exfalso; omega)
        | ((with_reducible refine w_okc (by assumption) ?_); rfl)
        | simp only [nI_1, show ¬ ((1 : Int32) = 0) by decide, show ¬ ((0 : Int32) = 1) by decide, if_true, if_false, eq_self_iff_true, Option.bind_some]
    refine w_ite (fun hk1 => ?_) (fun hk0 => ?_)
    · repeat' first
        | with_reducible exact w_none
        | with_reducible exact w_ok (by assumption)
        | with_reducible refine w_push (by assumption) (by first | omega | (simp only [List.length_cons]; omega)) (fun s1 h1 => ?_)
        | with_reducible refine w_pop (by assumption) (by first | omega | (simp only [List.length_cons]; omega)) (fun s1 h1 => ?_)
        | with_reducible refine w_todoE (by assumption) (nlo_ _) rfl rfl (by first | omega | (simp only [List.length_cons]; omega)) (by decide) (by first | assumption | exact Rs_l (by assumption) | exact Rs_r (by assumption) | trivial) (fun s1 h1 => ?_)
        | with_reducible refine w_todoS (by assumption) (nlo_ _) rfl rfl (by first | omega | (simp only [List.length_cons]; omega)) (by decide) (by first | assumption | exact Rs_l (by assumption) | exact Rs_r (by assumption) | trivial) (by first | assumption | exact Rs_l (by assumption) | exact Rs_r (by assumption) | trivial) (fun s1 h1 => ?_)
        | with_reducible refine w_err (by assumption) (fun s1 h1 => ?_)
        | with_reducible refine w_burn (by assumption) (fun s1 h1 => ?_) (fun s1 q1 h1 => ?_)
        | with_reducible refine w_read (by assumption) (fun v1 s1 q1 h1 => ?_)
        | with_reducible refine w_write (by assumption) (fun s1 q1 h1 => ?_)
        | with_reducible refine w_word (by assumption) (by assumption) (fun w1 => ?_)
        | with_reducible refine w_nx (by assumption) (by first | assumption | exact Rs_l (by assumption) | exact Rs_r (by assumption) | trivial) (fun n1 hn1 => ?_)
        | with_reducible refine w_ch (by assumption) (by first | assumption | exact Rs_l (by assumption) | exact Rs_r (by assumption) | trivial) (fun n1 hn1 => ?_)
        | with_reducible refine w_aq (by assumption) zf98 (fun v1 => ?_)
        | with_reducible refine w_w (by assumption) zf98 (fun s1 q1 h1 => ?_)
        | with_reducible refine w_ite (fun hk1 => ?_) (fun hk0 => ?_)
        | contradiction
        | (exfalso; omega)
        | ((with_reducible refine w_okc (by assumption) ?_); rfl)
        | simp only [nI_1, show ¬ ((1 : Int32) = 0) by decide, show ¬ ((0 : Int32) = 1) by decide, if_true, if_false, eq_self_iff_true, Option.bind_some]
    refine w_ite (fun hk1 => ?_) (fun hk0 => ?_)
    · repeat' first
        | with_reducible exact w_none
        | with_reducible exact w_ok (by assumption)
        | with_reducible refine w_push (by assumption) (by first | omega | (simp only [List.length_cons]; omega)) (fun s1 h1 => ?_)
        | with_reducible refine w_pop (by assumption) (by first | omega | (simp only [List.length_cons]; omega)) (fun s1 h1 => ?_)
        | with_reducible refine w_todoE (by assumption) (nlo_ _) rfl rfl (by first | omega | (simp only [List.length_cons]; omega)) (by decide) (by first | assumption | exact Rs_l (by assumption) | exact Rs_r (by assumption) | trivial) (fun s1 h1 => ?_)
        | with_reducible refine w_todoS (by assumption) (nlo_ _) rfl rfl (by first | omega | (simp only [List.length_cons]; omega)) (by decide) (by first | assumption | exact Rs_l (by assumption) | exact Rs_r (by assumption) | trivial) (by first | assumption | exact Rs_l (by assumption) | exact Rs_r (by assumption) | trivial) (fun s1 h1 => ?_)
        | with_reducible refine w_err (by assumption) (fun s1 h1 => ?_)
        | with_reducible refine w_burn (by assumption) (fun s1 h1 => ?_) (fun s1 q1 h1 => ?_)
        | with_reducible refine w_read (by assumption) (fun v1 s1 q1 h1 => ?_)
        | with_reducible refine w_write (by assumption) (fun s1 q1 h1 => ?_)
        | with_reducible refine w_word (by assumption) (by assumption) (fun w1 => ?_)
        | with_reducible refine w_nx (by assumption) (by first | assumption | exact Rs_l (by assumption) | exact Rs_r (by assumption) | trivial) (fun n1 hn1 => ?_)
        | with_reducible refine w_ch (by assumption) (by first | assumption | exact Rs_l (by assumption) | exact Rs_r (by assumption) | trivial) (fun n1 hn1 => ?_)
        | with_reducible refine w_aq (by assumption) zf98 (fun v1 => ?_)
        | with_reducible refine w_w (by assumption) zf98 (fun s1 q1 h1 => ?_)
        | with_reducible refine w_ite (fun hk1 => ?_) (fun hk0 => ?_)
        | contradiction
        | (exfalso; omega)
        | ((with_reducible refine w_okc (by assumption) ?_); rfl)
        | simp only [nI_1, show ¬ ((1 : Int32) = 0) by decide, show ¬ ((0 : Int32) = 1) by decide, if_true, if_false, eq_self_iff_true, Option.bind_some]
    refine w_ite (fun hk1 => ?_) (fun hk0 => ?_)
    · repeat' first
        | with_reducible exact w_none
        | with_reducible exact w_ok (by assumption)
        | with_reducible refine w_push (by assumption) (by first | omega | (simp only [List.length_cons]; omega)) (fun s1 h1 => ?_)
        | with_reducible refine w_pop (by assumption) (by first | omega | (simp only [List.length_cons]; omega)) (fun s1 h1 => ?_)
        | with_reducible refine w_todoE (by assumption) (nlo_ _) rfl rfl (by first | omega | (simp only [List.length_cons]; omega)) (by decide) (by first | assumption | exact Rs_l (by assumption) | exact Rs_r (by assumption) | trivial) (fun s1 h1 => ?_)
        | with_reducible refine w_todoS (by assumption) (nlo_ _) rfl rfl (by first | omega | (simp only [List.length_cons]; omega)) (by decide) (by first | assumption | exact Rs_l (by assumption) | exact Rs_r (by assumption) | trivial) (by first | assumption | exact Rs_l (by assumption) | exact Rs_r (by assumption) | trivial) (fun s1 h1 => ?_)
        | with_reducible refine w_err (by assumption) (fun s1 h1 => ?_)
        | with_reducible refine w_burn (by assumption) (fun s1 h1 => ?_) (fun s1 q1 h1 => ?_)
        | with_reducible refine w_read (by assumption) (fun v1 s1 q1 h1 => ?_)
        | with_reducible refine w_write (by assumption) (fun s1 q1 h1 => ?_)
        | with_reducible refine w_word (by assumption) (by assumption) (fun w1 => ?_)
        | with_reducible refine w_nx (by assumption) (by first | assumption | exact Rs_l (by assumption) | exact Rs_r (by assumption) | trivial) (fun n1 hn1 => ?_)
        | with_reducible refine w_ch (by assumption) (by first | assumption | exact Rs_l (by assumption) | exact Rs_r (by assumption) | trivial) (fun n1 hn1 => ?_)
        | with_reducible refine w_aq (by assumption) zf98 (fun v1 => ?_)
        | with_reducible refine w_w (by assumption) zf98 (fun s1 q1 h1 => ?_)
        | with_reducible refine w_ite (fun hk1 => ?_) (fun hk0 => ?_)
        | contradiction
        | (exfalso; omega)
        | ((with_reducible refine w_okc (by assumption) ?_); rfl)
        | simp only [nI_1, show ¬ ((1 : Int32) = 0) by decide, show ¬ ((0 : Int32) = 1) by decide, if_true, if_false, eq_self_iff_true, Option.bind_some]
    refine w_ite (fun hk1 => ?_) (fun hk0 => ?_)
    · repeat' first
        | with_reducible exact w_none
        | with_reducible exact w_ok (by assumption)
        | with_reducible refine w_push (by assumption) (by first | omega | (simp only [List.length_cons]; omega)) (fun s1 h1 => ?_)
        | with_reducible refine w_pop (by assumption) (by first | omega | (simp only [List.length_cons]; omega)) (fun s1 h1 => ?_)
        | with_reducible refine w_todoE (by assumption) (nlo_ _) rfl rfl (by first | omega | (simp only [List.length_cons]; omega)) (by decide) (by first | assumption | exact Rs_l (by assumption) | exact Rs_r (by assumption) | trivial) (fun s1 h1 => ?_)
        | with_reducible refine w_todoS (by assumption) (nlo_ _) rfl rfl (by first | omega | (simp only [List.length_cons]; omega)) (by decide) (by first | assumption | exact Rs_l (by assumption) | exact Rs_r (by assumption) | trivial) (by first | assumption | exact Rs_l (by assumption) | exact Rs_r (by assumption) | trivial) (fun s1 h1 => ?_)
        | with_reducible refine w_err (by assumption) (fun s1 h1 => ?_)
        | with_reducible refine w_burn (by assumption) (fun s1 h1 => ?_) (fun s1 q1 h1 => ?_)
        | with_reducible refine w_read (by assumption) (fun v1 s1 q1 h1 => ?_)
        | with_reducible refine w_write (by assumption) (fun s1 q1 h1 => ?_)
        | with_reducible refine w_word (by assumption) (by assumption) (fun w1 => ?_)
        | with_reducible refine w_nx (by assumption) (by first | assumption | exact Rs_l (by assumption) | exact Rs_r (by assumption) | trivial) (fun n1 hn1 => ?_)
        | with_reducible refine w_ch (by assumption) (by first | assumption | exact Rs_l (by assumption) | exact Rs_r (by assumption) | trivial) (fun n1 hn1 => ?_)
        | with_reducible refine w_aq (by assumption) zf98 (fun v1 => ?_)
        | with_reducible refine w_w (by assumption) zf98 (fun s1 q1 h1 => ?_)
        | with_reducible refine w_ite (fun hk1 => ?_) (fun hk0 => ?_)
        | contradiction
        | (exfalso; omega)
        | ((with_reducible refine w_okc (by assumption) ?_); rfl)
        | simp only [nI_1, show ¬ ((1 : Int32) = 0) by decide, show ¬ ((0 : Int32) = 1) by decide, if_true, if_false, eq_self_iff_true, Option.bind_some]
    refine w_ite (fun hk1 => ?_) (fun hk0 => ?_)
    · repeat' first
        | with_reducible exact w_none
        | with_reducible exact w_ok (by assumption)
        | with_reducible refine w_push (by assumption) (by first | omega | (simp only [List.length_cons]; omega)) (fun s1 h1 => ?_)
        | with_reducible refine w_pop (by assumption) (by first | omega | (simp only [List.length_cons]; omega)) (fun s1 h1 => ?_)
        | with_reducible refine w_todoE (by assumption) (nlo_ _) rfl rfl (by first | omega | (simp only [List.length_cons]; omega)) (by decide) (by first | assumption | exact Rs_l (by assumption) | exact Rs_r (by assumption) | trivial) (fun s1 h1 => ?_)
        | with_reducible refine w_todoS (by assumption) (nlo_ _) rfl rfl (by first | omega | (simp only [List.length_cons]; omega)) (by decide) (by first | assumption | exact Rs_l (by assumption) | exact Rs_r (by assumption) | trivial) (by first | assumption | exact Rs_l (by assumption) | exact Rs_r (by assumption) | trivial) (fun s1 h1 => ?_)
        | with_reducible refine w_err (by assumption) (fun s1 h1 => ?_)
        | with_reducible refine w_burn (by assumption) (fun s1 h1 => ?_) (fun s1 q1 h1 => ?_)
        | with_reducible refine w_read (by assumption) (fun v1 s1 q1 h1 => ?_)
        | with_reducible refine w_write (by assumption) (fun s1 q1 h1 => ?_)
        | with_reducible refine w_word (by assumption) (by assumption) (fun w1 => ?_)
        | with_reducible refine w_nx (by assumption) (by first | assumption | exact Rs_l (by assumption) | exact Rs_r (by assumption) | trivial) (fun n1 hn1 => ?_)
        | with_reducible refine w_ch (by assumption) (by first | assumption | exact Rs_l (by assumption) | exact Rs_r (by assumption) | trivial) (fun n1 hn1 => ?_)
        | with_reducible refine w_aq (by assumption) zf98 (fun v1 => ?_)
        | with_reducible refine w_w (by assumption) zf98 (fun s1 q1 h1 => ?_)
        | with_reducible refine w_ite (fun hk1 => ?_) (fun hk0 => ?_)
        | contradiction
        | (exfalso; omega)
        | ((with_reducible refine w_okc (by assumption) ?_); rfl)
        | simp only [nI_1, show ¬ ((1 : Int32) = 0) by decide, show ¬ ((0 : Int32) = 1) by decide, if_true, if_false, eq_self_iff_true, Option.bind_some]
    refine w_ite (fun hk1 => ?_) (fun hk0 => ?_)
    · refine w_todoE (t := .inner k i v l nx) h1 (nlo_ _) rfl rfl (by omega) (by decide) ht (fun s2 h2 => ?_)
      refine w_nx' h2 (Rs_l ht) (fun a ha ea => ?_)
      refine w_nx' h2 ha (fun b hb' eb => ?_)
      refine w_todoE h2 (nlo_ _) rfl rfl (by simp only [List.length_cons]; omega) (by decide) hb' (fun s3 h3 => ?_)
      rw [nx_rd h3 (Rs_l ht) ea, Option.bind_some]
      exact w_todoE h3 (nlo_ _) rfl rfl (by simp only [List.length_cons]; omega) (by decide) ha (fun s4 h4 => w_okc h4 rfl)
    refine w_ite (fun hk1 => ?_) (fun hk0 => ?_)
    · repeat' first
        | with_reducible exact w_none
        | with_reducible exact w_ok (by assumption)
        | with_reducible refine w_push (by assumption) (by first | omega | (simp only [List.length_cons]; omega)) (fun s1 h1 => ?_)
        | with_reducible refine w_pop (by assumption) (by first | omega | (simp only [List.length_cons]; omega)) (fun s1 h1 => ?_)
        | with_reducible refine w_todoE (by assumption) (nlo_ _) rfl rfl (by first | omega | (simp only [List.length_cons]; omega)) (by decide) (by first | assumption | exact Rs_l (by assumption) | exact Rs_r (by assumption) | trivial) (fun s1 h1 => ?_)
        | with_reducible refine w_todoS (by assumption) (nlo_ _) rfl rfl (by first | omega | (simp only [List.length_cons]; omega)) (by decide) (by first | assumption | exact Rs_l (by assumption) | exact Rs_r (by assumption) | trivial) (by first | assumption | exact Rs_l (by assumption) | exact Rs_r (by assumption) | trivial) (fun s1 h1 => ?_)
        | with_reducible refine w_err (by assumption) (fun s1 h1 => ?_)
        | with_reducible refine w_burn (by assumption) (fun s1 h1 => ?_) (fun s1 q1 h1 => ?_)
        | with_reducible refine w_read (by assumption) (fun v1 s1 q1 h1 => ?_)
        | with_reducible refine w_write (by assumption) (fun s1 q1 h1 => ?_)
        | with_reducible refine w_word (by assumption) (by assumption) (fun w1 => ?_)
        | with_reducible refine w_nx (by assumption) (by first | assumption | exact Rs_l (by assumption) | exact Rs_r (by assumption) | trivial) (fun n1 hn1 => ?_)
        | with_reducible refine w_ch (by assumption) (by first | assumption | exact Rs_l (by assumption) | exact Rs_r (by assumption) | trivial) (fun n1 hn1 => ?_)
        | with_reducible refine w_aq (by assumption) zf98 (fun v1 => ?_)
        | with_reducible refine w_w (by assumption) zf98 (fun s1 q1 h1 => ?_)
        | with_reducible refine w_ite (fun hk1 => ?_) (fun hk0 => ?_)
        | contradiction
        | (exfalso; omega)
        | ((with_reducible refine w_okc (by assumption) ?_); rfl)
        | simp only [nI_1, show ¬ ((1 : Int32) = 0) by decide, show ¬ ((0 : Int32) = 1) by decide, if_true, if_false, eq_self_iff_true, Option.bind_some]
    refine w_ite (fun hk1 => ?_) (fun hk0 => ?_)
    · exact r_brk (d + 4) td h1 (by omega)
    refine w_ite (fun hk1 => ?_) (fun hk0 => ?_)
    · exact r_lop (d + 4) td h1 (by omega)
    refine w_ite (fun hk1 => ?_) (fun hk0 => ?_)
    · exact r_enc (d + 4) td h1 (by omega)
    refine w_ite (fun hk1 => ?_) (fun hk0 => ?_)
    · exact r_rtu (d + 4) td h1 (by omega)
    refine w_ite (fun hk1 => ?_) (fun hk0 => ?_)
    · repeat' first
        | with_reducible exact w_none
        | with_reducible exact w_ok (by assumption)
        | with_reducible refine w_push (by assumption) (by first | omega | (simp only [List.length_cons]; omega)) (fun s1 h1 => ?_)
        | with_reducible refine w_pop (by assumption) (by first | omega | (simp only [List.length_cons]; omega)) (fun s1 h1 => ?_)
        | with_reducible refine w_todoE (by assumption) (nlo_ _) rfl rfl (by first | omega | (simp only [List.length_cons]; omega)) (by decide) (by first | assumption | exact Rs_l (by assumption) | exact Rs_r (by assumption) | trivial) (fun s1 h1 => ?_)
        | with_reducible refine w_todoS (by assumption) (nlo_ _) rfl rfl (by first | omega | (simp only [List.length_cons]; omega)) (by decide) (by first | assumption | exact Rs_l (by assumption) | exact Rs_r (by assumption) | trivial) (by first | assumption | exact Rs_l (by assumption) | exact Rs_r (by assumption) | trivial) (fun s1 h1 => ?_)
        | with_reducible refine w_err (by assumption) (fun s1 h1 => ?_)
        | with_reducible refine w_burn (by assumption) (fun s1 h1 => ?_) (fun s1 q1 h1 => ?_)
        | with_reducible refine w_read (by assumption) (fun v1 s1 q1 h1 => ?_)
        | with_reducible refine w_write (by assumption) (fun s1 q1 h1 => ?_)
        | with_reducible refine w_word (by assumption) (by assumption) (fun w1 => ?_)
        | with_reducible refine w_nx (by assumption) (by first | assumption | exact Rs_l (by assumption) | exact Rs_r (by assumption) | trivial) (fun n1 hn1 => ?_)
        | with_reducible refine w_ch (by assumption) (by first | assumption | exact Rs_l (by assumption) | exact Rs_r (by assumption) | trivial) (fun n1 hn1 => ?_)
        | with_reducible refine w_aq (by assumption) zf98 (fun v1 => ?_)
        | with_reducible refine w_w (by assumption) zf98 (fun s1 q1 h1 => ?_)
        | with_reducible refine w_ite (fun hk1 => ?_) (fun hk0 => ?_)
        | contradiction
        | (exfalso; omega)
        | ((with_reducible refine w_okc (by assumption) ?_); rfl)
        | simp only [nI_1, show ¬ ((1 : Int32) = 0) by decide, show ¬ ((0 : Int32) = 1) by decide, if_true, if_false, eq_self_iff_true, Option.bind_some]
    refine w_ite (fun hk1 => ?_) (fun hk0 => ?_)
    · rw [Rs_f h1 ht (by omega) (by omega), Option.bind_some]
      cases e30 : mm_a 26000 30 (z 31 i) z with
      | none => exact w_none
      | some sec => exact r_gto (d + 4) (z 31 i) sec e30 td h1 (by omega)
    · exact w_ok (RR_q (RR_q (RR_q h1 1 (by unfold qf_; omega)) 0 (by unfold qf_; omega)) 0 (by unfold qf_; omega))
end RRtask4
