/-! ===== switches; what is next is done: by gen/gen_rtask5.py ===== -/
section RRtask5
variable {z s q : mm_S} {td : List tqT} {vs : List Int32} {fr : List (Int32 × Int32)} {r : Option rs_t}
def oi_ : Option tr_ → Int32
  | none => -1
  | some c => rt_ c
def okh (z : mm_S) (h : Option tr_) : Prop := ∀ c, h = some c → (∃ k i v l r, c = .inner k i v l r) ∧ Rs z c
theorem oi_lt {h : Option tr_} (ho : okh z h) : (oi_ h < 0) = (h.isNone = true) := by
  cases h with
  | none => simp [oi_]
  | some c =>
    obtain ⟨⟨k, i, v, l, r, rfl⟩, hc⟩ := ho c rfl
    have := hc.1.1
    simp only [oi_, Option.isNone_some, Bool.false_eq_true, eq_iff_iff, iff_false]
    exact nI_pos (by omega)
theorem r_ch_37 (d : Nat) {n v : Int32} {kc ic : Nat} {vc} {lc rc : tr_} (hc : Rs z (.inner kc ic vc lc rc)) (h : RR z s (td, vs, fr, q)) : ∀ (t : tr_), Rs z t → ∀ hh oo, okh z hh → okh z oo →
    okh z (hc_ z v (.inner kc ic vc lc rc) (fs_ t) hh oo).1 ∧ okh z (hc_ z v (.inner kc ic vc lc rc) (fs_ t) hh oo).2 ∧
    mJ (d + 1) 130 37 [vr_ (some 0), vi_ n, vi_ v, vi_ (oi_ hh), vi_ (oi_ oo), vi_ (nI ic), vi_ (rt_ t)] [] s = mJ (d + 1) 130 37 [vr_ (some 0), vi_ n, vi_ v, vi_ (oi_ (hc_ z v (.inner kc ic vc lc rc) (fs_ t) hh oo).1), vi_ (oi_ (hc_ z v (.inner kc ic vc lc rc) (fs_ t) hh oo).2), vi_ (nI ic), vi_ (-1)] [] s := by
  intro t
  induction t with
  | leaf => intro _ hh oo h1 h2; exact ⟨h1, h2, rfl⟩
  | inner k i v2 l nx _ ih =>
    intro ht hh oo h1 h2
    have kk : ∀ c, c < 2 ^ 31 → (nI k = (OfNat.ofNat c : Int32)) = (k = c) := fun c hc => neq1_ c (by have := ht.1.2; omega) hc
    have hi := ht.1.1
    have e : mJ (d + 1) 130 37 [vr_ (some 0), vi_ n, vi_ v, vi_ (oi_ hh), vi_ (oi_ oo), vi_ (nI ic), vi_ (rt_ (.inner k i v2 l nx : tr_))] [] s = _ := mj_choose_37 d _ _ _ _ _ (nI i) s
    have hcs : okh z (some (.inner kc ic vc lc rc)) := fun c e => by cases e; exact ⟨⟨_, _, _, _, _, rfl⟩, hc⟩
    rw [fs_, hc_]
    have h1' : okh z (if kd_ (.inner k i v2 l nx : tr_) = 43 ∧ na_ z (.inner k i v2 l nx) = v ∧ hh.isNone = true then some (.inner kc ic vc lc rc) else hh) := by split; exact hcs; exact h1
    have h2' : okh z (if kd_ (.inner k i v2 l nx : tr_) = 44 then some (.inner kc ic vc lc rc) else oo) := by split; exact hcs; exact h2
    obtain ⟨g1, g2, g3⟩ := ih (Rs_r ht) _ _ h1' h2'
    refine ⟨g1, g2, ?_⟩
    rw [e, if_neg (show ¬ nI i < 0 from nI_pos (by omega)), Rs_k h ht, Option.bind_some]
    refine Eq.trans ?_ g3
    -- at 72
    have e72 : ∀ (x : Int32), mJ (d + 1) 130 72 [vr_ (some 0), vi_ n, vi_ v, vi_ x, vi_ (oi_ oo), vi_ (nI ic), vi_ (nI i)] [] s = mJ (d + 1) 130 37 [vr_ (some 0), vi_ n, vi_ v, vi_ x, vi_ (oi_ (if kd_ (.inner k i v2 l nx : tr_) = 44 then some (.inner kc ic vc lc rc) else oo)), vi_ (nI ic), vi_ (rt_ nx)] [] s := fun x => by
      rw [mj_choose_72, Rs_k h ht, Option.bind_some, Rs_n h ht, Option.bind_some]
      simp only [kk 44 (by decide)]
      show (if k = 44 then _ else _) = mJ (d + 1) 130 37 [vr_ (some 0), vi_ n, vi_ v, vi_ x, vi_ (oi_ (if k = 44 then _ else oo)), vi_ (nI ic), vi_ (rt_ nx)] [] s
      by_cases h44 : k = 44
      · rw [if_pos h44, if_pos h44]; rfl
      · rw [if_neg h44, if_neg h44]; rfl
    simp only [kk 43 (by decide), e72, Rs_f h ht (show 25 ≤ 29 by omega) (show 29 ≤ 35 by omega), Option.bind_some]
    show _ = mJ (d + 1) 130 37 [vr_ (some 0), vi_ n, vi_ v, vi_ (oi_ (if k = 43 ∧ z 29 i = v ∧ hh.isNone = true then _ else hh)), _, vi_ (nI ic), vi_ (rt_ nx)] [] s
    simp only [oi_lt h1]
    by_cases h43 : k = 43
    · rw [if_pos h43]
      by_cases hv : z 29 i = v
      · rw [if_pos hv]
        by_cases hn : hh.isNone = true
        · rw [if_pos hn, if_pos (c := k = 43 ∧ z 29 i = v ∧ hh.isNone = true) ⟨h43, hv, hn⟩]; rfl
        · rw [if_neg hn, if_neg (c := k = 43 ∧ z 29 i = v ∧ hh.isNone = true) (fun e => hn e.2.2)]
      · rw [if_neg hv, if_neg (c := k = 43 ∧ z 29 i = v ∧ hh.isNone = true) (fun e => hv e.2.1)]
    · rw [if_neg h43, if_neg (c := k = 43 ∧ z 29 i = v ∧ hh.isNone = true) (fun e => h43 e.1)]
theorem r_ch_23 (d : Nat) {k0 i0 : Nat} {v0} {l0 r0 : tr_} {v : Int32} (ht0 : Rs z (.inner k0 i0 v0 l0 r0)) (h : RR z s (td, vs, fr, q)) (hl : td.length < 620000) : ∀ (t : tr_), Rs z t → ∀ hh oo, okh z hh → okh z oo →
    wq_ z (match ho_ z v (fs_ t) hh oo with
      | (some c, _) => some ((17, .inner k0 i0 v0 l0 r0, c, 0, 0) :: td, vs, fr, q)
      | (none, some c) => some ((17, .inner k0 i0 v0 l0 r0, c, 0, 0) :: td, vs, fr, q)
      | (none, none) => some (td, vs, fr, q)) (mJ (d + 1 + 1) 130 23 [vr_ (some 0), vi_ (nI i0), vi_ v, vi_ (oi_ hh), vi_ (oi_ oo), vi_ (rt_ t)] [] s) := by
  intro t
  induction t with
  | leaf =>
    intro _ hh oo h1 h2
    have e : mJ (d + 1 + 1) 130 23 [vr_ (some 0), vi_ (nI i0), vi_ v, vi_ (oi_ hh), vi_ (oi_ oo), vi_ (rt_ (.leaf : tr_))] [] s = _ := mj_choose_23 (d + 1) _ _ _ _ _ s
    rw [e, if_pos (show rt_ (.leaf : tr_) < 0 by decide)]
    simp only [oi_lt h1, oi_lt h2, fs_, ho_]
    match hh, oo, h1, h2 with
    | some c, oo, h1, h2 =>
      simp only [Option.isNone_some, Bool.false_eq_true, if_false]
      exact w_todoS (t := .inner k0 i0 v0 l0 r0) (u := c) h (nlo_ _) rfl rfl hl (by decide) ht0 (h1 c rfl).2 (fun s1 h1 => w_ok h1)
    | none, some c, h1, h2 =>
      simp only [Option.isNone_none, Option.isNone_some, Bool.false_eq_true, if_true, if_false]
      exact w_todoS (t := .inner k0 i0 v0 l0 r0) (u := c) h (nlo_ _) rfl rfl hl (by decide) ht0 (h2 c rfl).2 (fun s1 h1 => w_ok h1)
    | none, none, h1, h2 =>
      simp only [Option.isNone_none, if_true]
      exact w_ok h
  | inner k i v2 l nx _ ih =>
    intro ht hh oo h1 h2
    have hi := ht.1.1
    have e : mJ (d + 1 + 1) 130 23 [vr_ (some 0), vi_ (nI i0), vi_ v, vi_ (oi_ hh), vi_ (oi_ oo), vi_ (rt_ (.inner k i v2 l nx : tr_))] [] s = _ := mj_choose_23 (d + 1) _ _ _ _ (nI i) s
    obtain ⟨g1, g2, g3⟩ := r_ch_37 (d + 1) (n := nI i0) (v := v) ht h l (Rs_l ht) hh oo h1 h2
    rw [e, if_neg (show ¬ nI i < 0 from nI_pos (by omega)), Rs_c h ht, Option.bind_some, g3, mj_choose_37, if_pos (by decide), Rs_n h ht, Option.bind_some, fs_, ho_]
    exact ih (Rs_r ht) _ _ g1 g2
theorem r_choose (d : Nat) (t : tr_) {x : Int32} (h : RR z s (td, x :: vs, fr, q)) (ht : Rs z t) (hl : td.length < 620000) (hv : vs.length < 300000) : wq_ z (cs_ z t x td vs fr q) (mE (d + 2) 130 [vr_ (some 0), vi_ (rt_ t)] s) := by
  cases t with
  | leaf => exact w_none
  | inner k i v l nx =>
    rw [show rt_ (.inner k i v l nx : tr_) = nI i from rfl, me_choose]
    refine w_pop h hv (fun s1 h1 => ?_)
    rw [Rs_c h1 ht, Option.bind_some]
    show wq_ z ((nxo l).bind fun n => _) _
    refine w_nx h1 (Rs_l ht) (fun n hn => ?_)
    exact r_ch_23 d ht h1 hl n hn none none (fun c e => by cases e) (fun c e => by cases e)
/-- IF, UNLESS, TEST behind what was asked -/
theorem r_if (d : Nat) (t : tr_) (v : Int32) (h : RR z s (td, vs, fr, q)) (ht : Rs z t) (hl : td.length < 620000) :
    wq_ z ((cho t).bind fun l => (nxo l).bind fun c =>
      if kd_ t = 24 then (if v = 0 then ((nxo c).bind fun e => some (xC_ e :: td, vs, fr, q)) else some (xC_ c :: td, vs, fr, q))
      else if decide (v ≠ 0) = decide (kd_ t = 22) then some (xC_ c :: td, vs, fr, q) else some (td, vs, fr, q)) (mJ (d + 1 + 1) 131 299 [vr_ (some 0), vi_ (rt_ t)] [vi_ (if v = 0 then 0 else 1)] s) := by
  cases t with
  | leaf => exact w_none
  | inner k i vv l nx =>
    have kk : ∀ c, c < 2 ^ 31 → (nI k = (OfNat.ofNat c : Int32)) = (k = c) := fun c hc => neq1_ c (by have := ht.1.2; omega) hc
    rw [show rt_ (.inner k i vv l nx : tr_) = nI i from rfl, mj_doNext_299, Rs_c h ht, Option.bind_some]
    show wq_ z ((nxo l).bind fun c => _) _
    refine w_nx h (Rs_l ht) (fun c hc => ?_)
    rw [Rs_k h ht, Option.bind_some, Option.bind_some]
    simp only [kk 24 (by decide), kk 22 (by decide), show kd_ (.inner k i vv l nx : tr_) = k from rfl]
    have go : wq_ z (some (xC_ c :: td, vs, fr, q)) (mm_bV (mE (d + 1) 92 [vr_ (some 0), vi_ 10, vi_ (rt_ c), vi_ 0] s) fun s3 => some (none, s3)) := w_todoE h (nlo_ _) rfl rfl hl (by decide) hc (fun s4 h4 => w_okc h4 rfl)
    by_cases h0 : v = 0
    · simp only [h0, if_true, ne_eq, not_true_eq_false, decide_false, show ¬ ((0 : Int32) = 1) by decide, if_false]
      refine w_ite (fun h24 => ?_) (fun h24 => ?_)
      · refine w_nx h hc (fun e he => ?_)
        exact w_todoE h (nlo_ _) rfl rfl hl (by decide) he (fun s4 h4 => w_okc h4 rfl)
      by_cases h22 : k = 22
      · simp only [h22, if_true, decide_true, Bool.false_eq_true, if_false]
        exact w_ok h
      · simp only [h22, if_false, decide_false, if_true]
        exact go
    · simp only [h0, if_false, ne_eq, not_false_eq_true, decide_true, show ¬ ((1 : Int32) = 0) by decide, if_true]
      refine w_ite (fun h24 => go) (fun h24 => ?_)
      by_cases h22 : k = 22
      · simp only [h22, if_true, decide_true]
        exact go
      · simp only [h22, if_false, decide_false, Bool.true_eq_false]
        exact w_ok h
theorem r_res (d : Nat) {v : Int32} : ∀ (td : List tqT) {s : mm_S}, RR z s (td, vs, fr, q) → td.length < 620000 → vs.length < 299999 → wq_ z (rr_ v vs fr q td) (mJ (d + 1 + 1) 131 557 [vr_ (some 0), vi_ v] [] s)
  | [], s, h, hl, hv => w_none
  | (xk, xt, xu, xx, xy) :: td, s, h, hl, hv => by
    simp only [List.length_cons] at hl
    obtain ⟨e1, e2, e3⟩ := r_topk h (by omega)
    have e2 : mm_a 620000 88 (nI td.length) s = some (nI xk) := e2
    have e3 : xk < 100 := e3
    rw [mj_doNext_557, e1, e2, Option.bind_some]
    simp only [neq1_ 8 (show xk < 2 ^ 31 by omega) (by decide)]
    unfold rr_
    dsimp only
    by_cases hx : xk = 8
    · obtain ⟨⟨c1, c2, c3⟩, c4, c5, c6⟩ := h.2.2.2.1.1
      have c3 : s 90 td.length = (if xk = 17 ∨ xk = 11 then rt_ xu else xy) := c3
      rw [if_neg (by omega)] at c3
      rw [if_pos hx, if_pos hx, mm_a_n (by omega) (by decide), Option.bind_some, c3]
      by_cases hy : xy.toNatClampNeg ≤ vs.length ∧ xy = nI xy.toNatClampNeg
      case neg => rw [if_neg hy]; exact w_none
      rw [if_pos hy]
      obtain ⟨hy1, hy2⟩ := hy
      have hd := RR_vs (vs' := vs.drop (vs.length - xy.toNatClampNeg)) h (VS_drop _ h.2.2.2.2.1)
      rw [List.length_drop, show vs.length - (vs.length - xy.toNatClampNeg) = xy.toNatClampNeg by omega, ← hy2] at hd
      exact w_push (RR_pop hd) (by rw [List.length_drop]; omega) (fun s4 h4 => w_ok h4)
    · rw [if_neg hx, if_neg hx]
      exact r_res d td (RR_pop h) (by omega) hv
set_option maxRecDepth 8000 in
set_option maxHeartbeats 1000000 in
theorem r_doNext (d D : Nat) (hD : D ≤ d + 8) (rb : Nat → tr_) (LB : Int32 → Nat → Int32 → List tqT → List Int32 → List (Int32 × Int32) → mm_S → Option rs_t) (hrb : ∀ j, j < 3100 → z 72 j = rt_ (rb j) ∧ Rs z (rb j)) (hLB : ∀ (which : Int32) (many : Nat) (at0 : Int32) (td : List tqT) (vs : List Int32) (fr : List (Int32 × Int32)) (s q : mm_S), RR z s (td, vs, fr, q) → fr.length ≤ 100 → td.length + 27000 ≤ 620000 ∧ vs.length + 10 ≤ 300000 → many < 2 ^ 31 → ∀ d, D ≤ d → wq_ z (LB which many at0 td vs fr q) (mE d 121 [vr_ (some 0), vi_ which, vi_ (nI many), vi_ at0] s)) {x : tqT} (h : RR z s (x :: td, vs, fr, q)) (hf : fr.length ≤ 100) (hb : td.length + 27000 ≤ 620000 ∧ vs.length + 10 ≤ 300000) : wq_ z (dn_ z rb LB x td vs fr q) (mE (d + 10) 131 [vr_ (some 0)] s) := by
  obtain ⟨hb1, hb2⟩ := hb
  obtain ⟨g, t, u, x, y⟩ := x
  have hk := h.2.2.2.1.1
  obtain ⟨⟨c88, c89, c90⟩, hg, ht, hu⟩ := hk
  have c88 : s 88 td.length = nI g := c88
  have c89 : s 89 td.length = (if g = 18 ∨ g = 23 then x else rt_ t) := c89
  have c90 : s 90 td.length = (if g = 17 ∨ g = 11 then rt_ u else y) := c90
  have hg : g < 100 := hg
  have ht : Rs z t := ht
  have hu : Rs z u := hu
  have h1 := RR_pop h
  have kk : ∀ c, c < 2 ^ 31 → (nI g = (OfNat.ofNat c : Int32)) = (g = c) := fun c hc => neq1_ c (by omega) hc
  rw [me_doNext, show s 0 87 = nI (td.length + 1) from h.2.2.1.1, show (nI (td.length + 1) - 1 : Int32) = nI td.length from nI_pred _, mm_a_n (by omega) (by decide), Option.bind_some, mm_a_n (by omega) (by decide), Option.bind_some, mm_a_n (by omega) (by decide), Option.bind_some, mu_n (by omega), mu_n (by omega), mu_n (by omega), c88, c89, c90]
  generalize mm_u s 0 87 (nI td.length) = s1 at h1 ⊢
  unfold dn_
  dsimp only
  simp only [kk 1 (by decide), kk 2 (by decide), kk 3 (by decide), kk 4 (by decide), kk 9 (by decide), kk 5 (by decide), kk 6 (by decide), kk 7 (by decide), kk 8 (by decide), kk 10 (by decide), kk 11 (by decide), kk 12 (by decide), kk 13 (by decide), kk 14 (by decide), kk 15 (by decide), kk 16 (by decide), kk 17 (by decide), kk 18 (by decide), kk 19 (by decide), kk 20 (by decide), kk 21 (by decide), kk 23 (by decide)]
  refine w_ite (fun hk1 => ?_) (fun hk0 => ?_)
  · rw [if_neg (c := g = 18 ∨ g = 23) (by omega)]
    try rw [if_neg (c := g = 17 ∨ g = 11) (by omega)]
    exact w_bVn (r_evaluate (d + 3) t h1 ht ⟨hb1, hb2⟩)
  refine w_ite (fun hk1 => ?_) (fun hk0 => ?_)
  · rw [if_neg (c := g = 18 ∨ g = 23) (by omega)]
    try rw [if_neg (c := g = 17 ∨ g = 11) (by omega)]
    match vs, t, h1, ht, hb2 with
    | [], _, _, _, _ => exact w_none
    | [_], _, _, _, _ => exact w_none
    | _ :: _ :: _, .leaf, _, _, _ => exact w_none
    | b :: a :: vs, .inner k i v l nx, h1, ht, hb2 =>
      simp only [List.length_cons] at hb2
      exact w_bVn (r_bin (d + 5) h1 ht ⟨hb1, by omega⟩)
  refine w_ite (fun hk1 => ?_) (fun hk0 => ?_)
  · rw [if_neg (c := g = 18 ∨ g = 23) (by omega)]
    try rw [if_neg (c := g = 17 ∨ g = 11) (by omega)]
    match vs, t, h1, ht, hb2 with
    | [], _, _, _, _ => exact w_none
    | _ :: _, .leaf, _, _, _ => exact w_none
    | v1 :: vs, .inner k i v l nx, h1, ht, hb2 =>
      simp only [List.length_cons] at hb2
      rw [show rt_ (.inner k i v l nx : tr_) = nI i from rfl, Rs_f h1 ht (by omega) (by omega), Option.bind_some]
      refine w_pop h1 (by omega) (fun s2 h2 => ?_)
      rw [show d + 9 = d + 8 + 1 from rfl, r_signed, bI_s]
      exact w_push h2 (by omega) (fun s3 h3 => w_ok h3)
  refine w_ite (fun hk1 => ?_) (fun hk0 => ?_)
  · match vs, h1, hb2 with
    | [], _, _ => exact w_none
    | v1 :: vs, h1, hb2 =>
      simp only [List.length_cons] at hb2
      refine w_pop h1 (by omega) (fun s2 h2 => ?_)
      refine w_read h2 (fun v3 s3 q3 h3 => ?_)
      exact w_push h3 (by omega) (fun s3 h3 => w_ok h3)
  refine w_ite (fun hk1 => ?_) (fun hk0 => ?_)
  · match vs, h1, hb2 with
    | [], _, _ => exact w_none
    | [_], _, _ => exact w_none
    | b :: a :: vs, h1, hb2 =>
      simp only [List.length_cons] at hb2
      refine w_pop h1 (by simp only [List.length_cons]; omega) (fun s2 h2 => ?_)
      refine w_pop h2 (by omega) (fun s3 h3 => ?_)
      exact w_push h3 (by omega) (fun s3 h3 => w_ok h3)
  refine w_ite (fun hk1 => ?_) (fun hk0 => ?_)
  · rw [if_neg (c := g = 18 ∨ g = 23) (by omega)]
    try rw [if_neg (c := g = 17 ∨ g = 11) (by omega)]
    match vs, h1, hb2 with
    | [], _, _ => exact w_none
    | v1 :: vs, h1, hb2 =>
      simp only [List.length_cons] at hb2
      refine w_ch h1 ht (fun l hl => ?_)
      refine w_nx h1 hl (fun c hc => ?_)
      refine w_pop h1 (by omega) (fun s2 h2 => ?_)
      refine w_ite (fun h0 => ?_) (fun h0 => ?_)
      · refine w_nx h2 hc (fun e he => ?_)
        exact w_todoE h2 (nlo_ _) rfl rfl (by omega) (by decide) he (fun s4 h4 => w_okc h4 rfl)
      · exact w_todoE h2 (nlo_ _) rfl rfl (by omega) (by decide) hc (fun s4 h4 => w_okc h4 rfl)
  refine w_ite (fun hk1 => ?_) (fun hk0 => ?_)
  · rw [if_neg (c := g = 18 ∨ g = 23) (by omega)]
    try rw [if_neg (c := g = 17 ∨ g = 11) (by omega)]
    by_cases hy : y = 0
    · cases t with
      | leaf =>
        rw [if_neg (fun e => absurd e.2 (by decide)), if_pos hy]
        exact w_none
      | inner k i v l nx =>
        by_cases h0 : kd_ (.inner k i v l nx : tr_) = 0
        · rw [if_neg (fun e => e.2 h0), if_pos hy]; exact w_none
        rw [if_pos ⟨hy, h0⟩, hy]
        exact w_bVn (r_rel0 (d + 5) h1 ht ⟨hb1, hb2⟩)
    rw [if_neg (fun e => hy e.1), if_neg hy]
    match vs, t, h1, ht, hb2 with
    | [], _, _, _, _ => exact w_none
    | [_], _, _, _, _ => exact w_none
    | _ :: _ :: _, .leaf, _, _, _ => exact w_none
    | b :: a :: vs, .inner k i v l nx, h1, ht, hb2 =>
      simp only [List.length_cons] at hb2
      exact w_bVn (r_rel1 (d + 5) hy h1 ht ⟨hb1, by omega⟩)
  refine w_ite (fun hk1 => ?_) (fun hk0 => ?_)
  · rw [if_neg (c := g = 18 ∨ g = 23) (by omega)]
    try rw [if_neg (c := g = 17 ∨ g = 11) (by omega)]
    match vs, t, h1, ht, hb2 with
    | [], _, _, _, _ => exact w_none
    | _ :: _, .leaf, _, _, _ => exact w_none
    | f :: vs, .inner k i v l nx, h1, ht, hb2 =>
      simp only [List.length_cons] at hb2
      dsimp only
      by_cases hy : y < 0
      · rw [if_pos hy]; exact w_none
      rw [if_neg hy]
      exact w_bVn (r_call (d + 3) rb LB hrb (fun wh mn at0 td vs fr s q a b c e => hLB wh mn at0 td vs fr s q a b c e _ (by omega)) h1 ht hy hf ⟨hb1, by omega⟩)
  refine w_ite (fun hk1 => ?_) (fun hk0 => ?_)
  · exact w_push h1 (by omega) (fun s3 h3 => w_ok h3)
  refine w_ite (fun hk1 => ?_) (fun hk0 => ?_)
  · rw [if_neg (c := g = 18 ∨ g = 23) (by omega)]
    try rw [if_neg (c := g = 17 ∨ g = 11) (by omega)]
    exact w_bVn (r_perform (d + 4) t h1 ht ⟨hb1, hb2⟩)
  refine w_ite (fun hk1 => ?_) (fun hk0 => ?_)
  · rw [if_neg (c := g = 18 ∨ g = 23) (by omega)]
    rw [if_pos (c := g = 17 ∨ g = 11) (by omega)]
    exact w_bVn (r_assign (d + 6) t u h1 ht hu ⟨hb1, hb2⟩)
  refine w_ite (fun hk1 => ?_) (fun hk0 => ?_)
  · rw [if_neg (c := g = 18 ∨ g = 23) (by omega)]
    try rw [if_neg (c := g = 17 ∨ g = 11) (by omega)]
    exact w_bVn (r_stores (d + 5) t h1 ht ⟨hb1, hb2⟩)
  refine w_ite (fun hk1 => ?_) (fun hk0 => ?_)
  · match vs, h1, hb2 with
    | [], _, _ => exact w_none
    | v1 :: vs, h1, hb2 =>
      simp only [List.length_cons] at hb2
      exact w_pop h1 (by omega) (fun s2 h2 => w_ok h2)
  refine w_ite (fun hk1 => ?_) (fun hk0 => ?_)
  · rw [if_neg (c := g = 18 ∨ g = 23) (by omega)]
    try rw [if_neg (c := g = 17 ∨ g = 11) (by omega)]
    match vs, h1, hb2 with
    | [], _, _ => exact w_none
    | v1 :: vs, h1, hb2 =>
      simp only [List.length_cons] at hb2
      refine w_pop h1 (by omega) (fun s2 h2 => ?_)
      have key := r_if (d + 8) t v1 h2 ht (by omega)
      by_cases h0 : v1 = 0
      · rw [if_pos h0]; simp only [h0, if_true] at key ⊢; exact key
      · rw [if_neg h0]; simp only [h0, if_false] at key ⊢; exact key
  refine w_ite (fun hk1 => ?_) (fun hk0 => ?_)
  · rw [if_neg (c := g = 18 ∨ g = 23) (by omega)]
    try rw [if_neg (c := g = 17 ∨ g = 11) (by omega)]
    exact w_bVn (r_loop (d + 5) t y h1 ht ⟨hb1, hb2⟩)
  refine w_ite (fun hk1 => ?_) (fun hk0 => ?_)
  · rw [if_neg (c := g = 18 ∨ g = 23) (by omega)]
    try rw [if_neg (c := g = 17 ∨ g = 11) (by omega)]
    match vs, h1, hb2 with
    | [], _, _ => exact w_none
    | v1 :: vs, h1, hb2 =>
      simp only [List.length_cons] at hb2
      exact w_bVn (r_asked (d + 6) t h1 ht ⟨hb1, by omega⟩)
  refine w_ite (fun hk1 => ?_) (fun hk0 => ?_)
  · rw [if_neg (c := g = 18 ∨ g = 23) (by omega)]
    rw [if_pos (c := g = 17 ∨ g = 11) (by omega)]
    exact w_bVn (r_section (d + 5) t u h1 ht hu ⟨hb1, hb2⟩)
  refine w_ite (fun hk1 => ?_) (fun hk0 => ?_)
  · rw [if_pos (c := g = 18 ∨ g = 23) (by omega)]
    rw [if_neg (c := g = 17 ∨ g = 11) (by omega)]
    exact w_bVn (r_returns (d + 7) h1 hf ⟨hb1, hb2⟩)
  refine w_ite (fun hk1 => ?_) (fun hk0 => ?_)
  · rw [if_neg (c := g = 18 ∨ g = 23) (by omega)]
    try rw [if_neg (c := g = 17 ∨ g = 11) (by omega)]
    exact w_bVn (r_variables (d + 7) t h1 ht ⟨hb1, hb2⟩)
  refine w_ite (fun hk1 => ?_) (fun hk0 => ?_)
  · rw [if_neg (c := g = 18 ∨ g = 23) (by omega)]
    try rw [if_neg (c := g = 17 ∨ g = 11) (by omega)]
    match vs, t, h1, ht, hb2 with
    | [], _, _, _, _ => exact w_none
    | [_], _, _, _, _ => exact w_none
    | _ :: _ :: _, .leaf, _, _, _ => exact w_none
    | e :: v1 :: vs, .inner k i v l nx, h1, ht, hb2 =>
      simp only [List.length_cons] at hb2
      refine w_pop h1 (by simp only [List.length_cons]; omega) (fun s2 h2 => ?_)
      rw [show rt_ (.inner k i v l nx : tr_) = nI i from rfl, Rs_f h2 ht (by omega) (by omega), Option.bind_some, RR_qq h2 (f := 0) (i := 96) (by unfold qf_; omega)]
      refine w_pop h2 (by omega) (fun s3 h3 => ?_)
      refine w_w h3 zf98 (fun s4 q4 h4 => ?_)
      rw [Rs_f h4 ht (by omega) (by omega), Option.bind_some, RR_qq h4 (f := 0) (i := 96) (by unfold qf_; omega)]
      refine w_w h4 zf98 (fun s5 q5 h5 => ?_)
      exact w_todoE (t := .inner k i v l nx) h5 (nlo_ _) rfl rfl (by omega) (by decide) ht (fun s6 h6 => w_okc h6 rfl)
  refine w_ite (fun hk1 => ?_) (fun hk0 => ?_)
  · rw [if_neg (c := g = 18 ∨ g = 23) (by omega)]
    try rw [if_neg (c := g = 17 ∨ g = 11) (by omega)]
    match vs, h1, hb2 with
    | [], _, _ => exact w_none
    | v1 :: vs, h1, hb2 =>
      simp only [List.length_cons] at hb2
      exact w_bVn (r_choose (d + 7) t h1 ht (by omega) (by omega))
  refine w_ite (fun hk1 => ?_) (fun hk0 => ?_)
  · rw [if_pos (c := g = 18 ∨ g = 23) (by omega)]
    rw [if_neg (c := g = 17 ∨ g = 11) (by omega)]
    exact w_bVn (hLB x 2 y td vs fr _ q h1 hf ⟨hb1, hb2⟩ (by decide) _ (by omega))
  by_cases h22 : g = 22
  · rw [if_pos h22]
    match vs, h1, hb2 with
    | [], _, _ => exact w_none
    | v1 :: vs, h1, hb2 =>
      simp only [List.length_cons] at hb2
      refine w_pop h1 (by omega) (fun s2 h2 => ?_)
      exact r_res (d + 8) td h2 (by omega) (by omega)
  · rw [if_neg h22]; exact w_none
end RRtask5
