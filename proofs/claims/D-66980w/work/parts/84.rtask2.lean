/-! ===== calls, commands, loops, sections: by gen/gen_rtask2.py ===== -/
section RRtask2
variable {z s q : mm_S} {td : List tqT} {vs : List Int32} {fr : List (Int32 × Int32)} {r : Option rs_t}
theorem w_limit {d : Nat} {F : Int32 → Option rs_t} {k : Int32 → mm_S → mm_O} (h : RR z s (td, vs, fr, q)) (hk : ∀ v, wq_ z (F v) (k v s)) : wq_ z ((lm_ z q).bind F) (mm_bI (mE (d + 1) 105 [vr_ (some 0)] s) k) := by
  rw [me_limit, RR_qq h (f := 0) (i := 106) (by unfold qf_; omega), RR_z h (f := 0) (i := 99) (by unfold zf_; omega)]
  unfold lm_
  by_cases hc : 0 < q 0 106
  · rw [if_pos hc, if_pos hc, mm_a_q h (fun i => by unfold qf_; omega)]
    cases mm_a 100 107 (q 0 106 - 1) q with
    | none => exact w_none
    | some v => exact hk v
  · rw [if_neg hc, if_neg hc]
    exact hk _
theorem VS_drop {s : mm_S} : ∀ (m : Nat) {vs : List Int32}, VS s vs → VS s (vs.drop m)
  | 0, _, h => h
  | _ + 1, [], _ => trivial
  | m + 1, _ :: _, h => VS_drop m h.2
theorem VS_at {s : mm_S} : ∀ {vs : List Int32} {j : Nat} {v : Int32}, VS s vs → vs[j]? = some v → s 92 (vs.length - 1 - j) = v
  | [], j, v, _, h => by simp at h
  | y :: r, 0, v, h, hx => by
    simp at hx
    subst hx
    have := h.1
    simpa using this
  | y :: r, j + 1, v, h, hx => by
    have := VS_at h.2 (by simpa using hx)
    rw [List.length_cons, show r.length + 1 - 1 - (j + 1) = r.length - 1 - j by omega]
    exact this
theorem clamp_nI (x : Int32) (h : ¬ x < 0) : x = nI x.toNatClampNeg ∧ x.toNatClampNeg < 2 ^ 31 := by
  obtain ⟨j, hj, rfl⟩ := nI_of h
  rw [nI_clamp hj]
  exact ⟨rfl, hj⟩
theorem mm_a_ge {n f : Nat} {x v : Int32} {s : mm_S} (h : mm_a n f x s = some v) : ¬ x < 0 ∧ x.toNatClampNeg < n ∧ s f x.toNatClampNeg = v := by
  unfold mm_a at h
  split at h
  · rename_i hi
    unfold mm_in at hi
    simp only [Bool.and_eq_true, decide_eq_true_eq] at hi
    cases h
    refine ⟨fun hl => ?_, hi.2, rfl⟩
    exact absurd hi.1 (Int32.not_le.mpr hl)
  · cases h
theorem clamp_neg {x : Int32} (h : x < 0) : x.toNatClampNeg = 0 := by
  show x.toInt.toNat = 0
  have : x.toInt < 0 := by
    have := Int32.lt_iff_toInt_lt.mp h
    simpa using this
  omega
theorem Rs_dr : ∀ (m : Nat) {t : tr_}, Rs z t → Rs z (dr_r m t)
  | 0, _, h => h
  | _ + 1, .leaf, _ => trivial
  | m + 1, .inner _ _ _ _ _, h => Rs_dr m (Rs_r h)
theorem Rs_ls : ∀ {t : tr_}, Rs z t → Rs z (ls_r t)
  | .leaf, _ => trivial
  | .inner _ _ _ _ .leaf, h => h
  | .inner _ _ _ _ (.inner k i v l r), h => Rs_ls (t := .inner k i v l r) (Rs_r h)
theorem w_step {d k i : Nat} {v} {l nx : tr_} {y : Int32} {F : mm_S → Option rs_t} {kk : Int32 → mm_S → mm_O} (h : RR z s (td, vs, fr, q)) (ht : Rs z (.inner k i v l nx)) (hk100 : k < 2 ^ 31) (hk : ∀ s1 q1, RR z s1 (td, vs, fr, q1) → wq_ z (F q1) (kk 1 s1)) :
    wq_ z ((if k = 27 ∧ y = 1 then (mm_a 65536 98 (q 0 96 + z 31 i) q).bind fun x => mm_w 65536 98 (q 0 96 + z 31 i) (x + z 30 i) q else some q).bind F) (mm_bI (mE (d + 1) 126 [vr_ (some 0), vi_ (nI k), vi_ (nI i), vi_ y] s) kk) := by
  rw [me_isStep]
  simp only [neq1_ 27 hk100 (by decide)]
  by_cases h1 : k = 27
  · rw [if_pos h1]
    by_cases h2 : y = 1
    · rw [if_pos h2, if_pos ⟨h1, h2⟩, Rs_f h ht (by omega) (by omega), Option.bind_some, RR_qq h (f := 0) (i := 96) (by unfold qf_; omega), mm_a_q h zf98]
      cases mm_a 65536 98 (q 0 96 + z 31 i) q with
      | none => exact w_none
      | some x =>
        rw [Option.bind_some, Option.bind_some, Rs_f h ht (by omega) (by omega), Option.bind_some]
        have e : ∀ o : Option mm_S, mm_bI (o.bind fun s4 => some (some (vi_ 1), s4)) kk = o.bind fun s4 => kk 1 s4 := fun o => by cases o <;> rfl
        rw [e]
        exact w_w h zf98 hk
    · rw [if_neg h2, if_neg (fun e => h2 e.2)]
      exact hk s q h
  · rw [if_neg h1, if_neg (fun e => h1 e.1)]
    exact hk s q h
set_option maxRecDepth 8000 in
set_option maxHeartbeats 1000000 in
theorem r_assign (d : Nat) (n u : tr_) (h : RR z s (td, vs, fr, q)) (hn : Rs z n) (hu : Rs z u) (hb : td.length + 27000 ≤ 620000 ∧ vs.length + 10 ≤ 300000) : wq_ z (as_p z n u td vs fr q) (mE (d + 3) 123 [vr_ (some 0), vi_ (rt_ n), vi_ (rt_ u)] s) := by
  obtain ⟨hb1, hb2⟩ := hb
  match n, u, hn, hu with
  | .leaf, _, _, _ => exact w_none
  | .inner _ _ _ .leaf _, _, _, _ => exact w_none
  | .inner _ _ _ (.inner _ _ _ _ _) _, .leaf, _, _ => exact w_none
  | .inner kn i vn (.inner k0 j0 v0 l0 r0) rn, .inner k j v c r, hn, hu =>
    have kk : ∀ c, c < 2 ^ 31 → (nI k = (OfNat.ofNat c : Int32)) = (k = c) := fun c hc => neq1_ c (by have := hu.1.2; omega) hc
    have hl := Rs_l hn
    rw [show rt_ (.inner kn i vn (.inner k0 j0 v0 l0 r0) rn : tr_) = nI i from rfl, show rt_ (.inner k j v c r : tr_) = nI j from rfl, me_assign, Rs_c h hn, Option.bind_some, show rt_ (.inner k0 j0 v0 l0 r0 : tr_) = nI j0 from rfl, Rs_f h hl (by omega) (by omega), Option.bind_some]
    dsimp only [as_p]
    refine w_ite (fun hk1 => w_ok h) (fun hk0 => ?_)
    by_cases hp : z 32 j = rt_ (dr_r (z 29 i).toNatClampNeg (.inner k j v c r))
    case neg => rw [if_neg hp]; exact w_none
    rw [if_pos hp, Rs_n h hu, Option.bind_some]
    have hdr := Rs_dr (z 29 i).toNatClampNeg hu
    refine w_todoS (t := .inner kn i vn (.inner k0 j0 v0 l0 r0) rn) h (nlo_ _) rfl rfl (by omega) (by decide) hn (Rs_r hu) (fun s1 h1 => ?_)
    refine w_todoE (t := .inner k j v c r) h1 (nlo_ _) rfl rfl (by simp only [List.length_cons]; omega) (by decide) hu (fun s2 h2 => ?_)
    rw [Rs_k h2 hu, Option.bind_some, Option.bind_some]
    simp only [kk 9 (by decide), kk 7 (by decide)]
    refine w_ite (fun hk1 => ?_) (fun hk0 => ?_)
    · rw [Rs_c h2 hu, Option.bind_some]
      refine w_nx h2 (Rs_l hu) (fun n2 hn2 => ?_)
      refine w_todoE h2 (nlo_ _) rfl rfl (by simp only [List.length_cons]; omega) (by decide) hn2 (fun s3 h3 => ?_)
      rw [Rs_c h3 hu, Option.bind_some]
      refine w_todoE h3 (nlo_ _) rfl rfl (by simp only [List.length_cons]; omega) (by decide) (Rs_l hu) (fun s4 h4 => ?_)
      rw [Rs_f h4 hu (by omega) (by omega), Option.bind_some, hp]
      exact w_todoE h4 (nlo_ _) rfl rfl (by simp only [List.length_cons]; omega) (by decide) hdr (fun s5 h5 => w_okc h5 rfl)
    refine w_ite (fun hk1 => ?_) (fun hk0 => ?_)
    · rw [Rs_c h2 hu, Option.bind_some]
      refine w_todoE h2 (nlo_ _) rfl rfl (by simp only [List.length_cons]; omega) (by decide) (Rs_l hu) (fun s4 h4 => ?_)
      rw [Rs_f h4 hu (by omega) (by omega), Option.bind_some, hp]
      exact w_todoE h4 (nlo_ _) rfl rfl (by simp only [List.length_cons]; omega) (by decide) hdr (fun s5 h5 => w_okc h5 rfl)
    · rw [Rs_f h2 hu (by omega) (by omega), Option.bind_some, hp]
      exact w_todoE h2 (nlo_ _) rfl rfl (by simp only [List.length_cons]; omega) (by decide) hdr (fun s5 h5 => w_okc h5 rfl)
set_option maxRecDepth 8000 in
set_option maxHeartbeats 1000000 in
theorem r_stores (d : Nat) (t : tr_) (h : RR z s (td, vs, fr, q)) (ht : Rs z t) (hb : td.length + 27000 ≤ 620000 ∧ vs.length + 10 ≤ 300000) : wq_ z (so_ z t td vs fr q) (mE (d + 4) 124 [vr_ (some 0), vi_ (rt_ t)] s) := by
  obtain ⟨hb1, hb2⟩ := hb
  cases t with
  | leaf => exact w_none
  | inner k i v l nx =>
    have kk : ∀ c, c < 2 ^ 31 → (nI k = (OfNat.ofNat c : Int32)) = (k = c) := fun c hc => neq1_ c (by have := ht.1.2; omega) hc
    rw [show rt_ (.inner k i v l nx : tr_) = nI i from rfl, me_stores, Rs_k h ht, Option.bind_some, Option.bind_some]
    dsimp only [so_]
    simp only [kk 1 (by decide), kk 7 (by decide)]
    refine w_ite (fun hk1 => ?_) (fun hk0 => ?_)
    · match vs, h, hb2 with
      | [], h, hb2 => exact w_none
      | v1 :: vs, h, hb2 =>
        simp only [List.length_cons] at hb2
        refine w_word h ht (fun w1 => ?_)
        refine w_pop h (by omega) (fun s1 h1 => ?_)
        exact w_w h1 zf98 (fun s2 q2 h2 => w_ok h2)
    refine w_ite (fun hk1 => ?_) (fun hk0 => ?_)
    · match vs, h, hb2 with
      | [], h, hb2 => exact w_none
      | [_], h, hb2 => exact w_none
      | a :: v1 :: vs, h, hb2 =>
        simp only [List.length_cons] at hb2
        refine w_pop h (by simp only [List.length_cons]; omega) (fun s1 h1 => ?_)
        refine w_pop h1 (by omega) (fun s2 h2 => ?_)
        exact w_write h2 (fun s3 q3 h3 => w_ok h3)
    · match vs, h, hb2 with
      | [], h, hb2 => exact w_none
      | [_], h, hb2 => exact w_none
      | [_, _], h, hb2 => exact w_none
      | b :: a :: v1 :: vs, h, hb2 =>
        simp only [List.length_cons] at hb2
        refine w_pop h (by simp only [List.length_cons]; omega) (fun s1 h1 => ?_)
        refine w_pop h1 (by simp only [List.length_cons]; omega) (fun s2 h2 => ?_)
        refine w_pop h2 (by omega) (fun s3 h3 => ?_)
        rw [Rs_f h3 ht (by omega) (by omega), Option.bind_some]
        refine w_ite (fun hk1 => ?_) (fun hk0 => ?_)
        · exact w_write h3 (fun s3 q3 h3 => w_ok h3)
        · refine w_read h3 (fun w4 s4 q4 h4 => ?_)
          exact w_write h4 (fun s3 q3 h3 => w_ok h3)
set_option maxRecDepth 8000 in
set_option maxHeartbeats 1000000 in
theorem r_loop (d : Nat) (t : tr_) (y : Int32) (h : RR z s (td, vs, fr, q)) (ht : Rs z t) (hb : td.length + 27000 ≤ 620000 ∧ vs.length + 10 ≤ 300000) : wq_ z (lo_ z t y td vs fr q) (mE (d + 4) 125 [vr_ (some 0), vi_ (rt_ t), vi_ y] s) := by
  obtain ⟨hb1, hb2⟩ := hb
  cases t with
  | leaf => exact w_none
  | inner k i v l nx =>
    have kk : ∀ c, c < 2 ^ 31 → (nI k = (OfNat.ofNat c : Int32)) = (k = c) := fun c hc => neq1_ c (by have := ht.1.2; omega) hc
    rw [show rt_ (.inner k i v l nx : tr_) = nI i from rfl, me_loop, Rs_k h ht, Option.bind_some, Rs_c h ht, Option.bind_some]
    dsimp only [lo_]
    refine w_step h ht (by have := ht.1.2; omega) (fun s1 q1 h1 => ?_)
    rw [if_neg (c := (1 : Int32) = 0) (by decide)]
    refine w_burn h1 (fun s2 h2 => ?_) (fun s2 q2 h2 => ?_)
    · rw [if_pos rfl]
      exact w_ok h2
    rw [if_neg (c := (1 : Int32) = 0) (by decide)]
    simp only [kk 25 (by decide), kk 26 (by decide), kk 38 (by decide), kk 27 (by decide), mj_loop_45]
    by_cases h25 : k = 25 ∨ k = 26
    · rw [if_pos h25]
      have e : ∀ A B : mm_O, (if k = 25 then A else if k = 26 then A else B) = A := fun A B => by
        rcases h25 with e | e
        · rw [if_pos e]
        · rw [if_neg (by omega), if_pos e]
      rw [e]
      repeat' first
        | with_reducible exact w_none
        | with_reducible exact w_ok (by assumption)
        | with_reducible refine w_push (by assumption) (by first | omega | (simp only [List.length_cons]; omega)) (fun s1 h1 => ?_)
        | with_reducible refine w_pop (by assumption) (by first | omega | (simp only [List.length_cons]; omega)) (fun s1 h1 => ?_)
        | with_reducible refine w_todoE (by assumption) (nlo_ _) rfl rfl (by first | omega | (simp only [List.length_cons]; omega)) (by decide) (by first | assumption | exact Rs_l (by assumption) | exact Rs_r (by assumption) | trivial) (fun s1 h1 => ?_)
        | with_reducible refine w_todoS (by assumption) (nlo_ _) rfl rfl (by first | omega | (simp only [List.length_cons]; omega)) (by decide) (by first | assumption | exact Rs_l (by assumption) | exact Rs_r (by assumption) | trivial) (by first | assumption | exact Rs_l (by assumption) | exact Rs_r (by assumption) | trivial) (fun s1 h1 => ?_)
        | with_reducible refine w_err (by assumption) (fun s1 h1 => ?_)
        | with_reducible refine w_burn (by assumption) (fun s1 h1 => ?_) (fun s1 q1 h1 => ?_)
        | with_reducible refine w_read (by assumption) (fun v1 s1 q1 h1 => ?_)
        | with_reducible refine w_write (by assumption) (fun s1 q1 h1 => ?_)
        | with_reducible refine w_word (by assumption) (by assumption) (fun w1 => ?_)
        | with_reducible refine w_nx (by assumption) (by first | assumption | exact Rs_l (by assumption) | exact Rs_r (by assumption) | trivial) (fun n1 hn1 => ?_)
        | with_reducible refine w_ch (by assumption) (by first | assumption | exact Rs_l (by assumption) | exact Rs_r (by assumption) | trivial) (fun n1 hn1 => ?_)
        | with_reducible refine w_aq (by assumption) zf98 (fun v1 => ?_)
        | with_reducible refine w_w (by assumption) zf98 (fun s1 q1 h1 => ?_)
        | with_reducible refine w_ite (fun hk1 => ?_) (fun hk0 => ?_)
        | contradiction
        | (exfalso; omega)
        | ((with_reducible refine w_okc (by assumption) ?_); rfl)
        | simp only [nI_1, show ¬ ((1 : Int32) = 0) by decide, show ¬ ((0 : Int32) = 1) by decide, if_true, if_false, eq_self_iff_true, Option.bind_some]
    rw [if_neg h25, if_neg (fun e => h25 (Or.inl e)), if_neg (fun e => h25 (Or.inr e))]
    refine w_ite (fun hk1 => ?_) (fun hk0 => ?_)
    · repeat' first
        | with_reducible exact w_none
        | with_reducible exact w_ok (by assumption)
        | with_reducible refine w_push (by assumption) (by first | omega | (simp only [List.length_cons]; omega)) (fun s1 h1 => ?_)
        | with_reducible refine w_pop (by assumption) (by first | omega | (simp only [List.length_cons]; omega)) (fun s1 h1 => ?_)
        | with_reducible refine w_todoE (by assumption) (nlo_ _) rfl rfl (by first | omega | (simp only [List.length_cons]; omega)) (by decide) (by first | assumption | exact Rs_l (by assumption) | exact Rs_r (by assumption) | trivial) (fun s1 h1 => ?_)
        | with_reducible refine w_todoS (by assumption) (nlo_ _) rfl rfl (by first | omega | (simp only [List.length_cons]; omega)) (by decide) (by first | assumption | exact Rs_l (by assumption) | exact Rs_r (by assumption) | trivial) (by first | assumption | exact Rs_l (by assumption) | exact Rs_r (by assumption) | trivial) (fun s1 h1 => ?_)
        | with_reducible refine w_err (by assumption) (fun s1 h1 => ?_)
        | with_reducible refine w_burn (by assumption) (fun s1 h1 => ?_) (fun s1 q1 h1 => ?_)
        | with_reducible refine w_read (by assumption) (fun v1 s1 q1 h1 => ?_)
        | with_reducible refine w_write (by assumption) (fun s1 q1 h1 => ?_)
        | with_reducible refine w_word (by assumption) (by assumption) (fun w1 => ?_)
        | with_reducible refine w_nx (by assumption) (by first | assumption | exact Rs_l (by assumption) | exact Rs_r (by assumption) | trivial) (fun n1 hn1 => ?_)
        | with_reducible refine w_ch (by assumption) (by first | assumption | exact Rs_l (by assumption) | exact Rs_r (by assumption) | trivial) (fun n1 hn1 => ?_)
        | with_reducible refine w_aq (by assumption) zf98 (fun v1 => ?_)
        | with_reducible refine w_w (by assumption) zf98 (fun s1 q1 h1 => ?_)
        | with_reducible refine w_ite (fun hk1 => ?_) (fun hk0 => ?_)
        | contradiction
        | (exfalso; omega)
        | ((with_reducible refine w_okc (by assumption) ?_); rfl)
        | simp only [nI_1, show ¬ ((1 : Int32) = 0) by decide, show ¬ ((0 : Int32) = 1) by decide, if_true, if_false, eq_self_iff_true, Option.bind_some]
    refine w_ite (fun hk1 => ?_) (fun hk0 => ?_)
    · rw [Rs_f h2 ht (by omega) (by omega), Option.bind_some, RR_qq h2 (f := 0) (i := 96) (by unfold qf_; omega)]
      refine w_aq h2 zf98 (fun x1 => ?_)
      rw [Option.bind_some]
      refine w_aq h2 zf98 (fun x2 => ?_)
      rw [Rs_f h2 ht (by omega) (by omega), Option.bind_some]
      have fin : wq_ z (if z 29 i = rt_ (ls_r l) then some (xC_ (ls_r l) :: xT_ 15 (.inner k i v l nx) 1 :: td, vs, fr, q2) else none) (mJ (d + 3 + 1) 125 169 [vr_ (some 0), vi_ (nI i)] [] s2) := by
        by_cases hp : z 29 i = rt_ (ls_r l)
        case neg => rw [if_neg hp]; exact w_none
        rw [if_pos hp, mj_loop_169]
        refine w_todoE (t := .inner k i v l nx) h2 (nlo_ _) rfl rfl (by omega) (by decide) ht (fun s3 h3 => ?_)
        rw [Rs_f h3 ht (by omega) (by omega), Option.bind_some, hp]
        exact w_todoE h3 (nlo_ _) rfl rfl (by simp only [List.length_cons]; omega) (by decide) (Rs_ls (Rs_l ht)) (fun s4 h4 => w_okc h4 rfl)
      by_cases hn : z 30 i < 0
      · simp only [if_pos hn, decide_eq_true_eq]
        exact w_ite (fun _ => w_ok h2) (fun _ => fin)
      · simp only [if_neg hn, decide_eq_true_eq]
        exact w_ite (fun _ => w_ok h2) (fun _ => fin)
    · repeat' first
        | with_reducible exact w_none
        | with_reducible exact w_ok (by assumption)
        | with_reducible refine w_push (by assumption) (by first | omega | (simp only [List.length_cons]; omega)) (fun s1 h1 => ?_)
        | with_reducible refine w_pop (by assumption) (by first | omega | (simp only [List.length_cons]; omega)) (fun s1 h1 => ?_)
        | with_reducible refine w_todoE (by assumption) (nlo_ _) rfl rfl (by first | omega | (simp only [List.length_cons]; omega)) (by decide) (by first | assumption | exact Rs_l (by assumption) | exact Rs_r (by assumption) | trivial) (fun s1 h1 => ?_)
        | with_reducible refine w_todoS (by assumption) (nlo_ _) rfl rfl (by first | omega | (simp only [List.length_cons]; omega)) (by decide) (by first | assumption | exact Rs_l (by assumption) | exact Rs_r (by assumption) | trivial) (by first | assumption | exact Rs_l (by assumption) | exact Rs_r (by assumption) | trivial) (fun s1 h1 => ?_)
        | with_reducible refine w_err (by assumption) (fun s1 h1 => ?_)
        | with_reducible refine w_burn (by assumption) (fun s1 h1 => ?_) (fun s1 q1 h1 => ?_)
        | with_reducible refine w_read (by assumption) (fun v1 s1 q1 h1 => ?_)
        | with_reducible refine w_write (by assumption) (fun s1 q1 h1 => ?_)
        | with_reducible refine w_word (by assumption) (by assumption) (fun w1 => ?_)
        | with_reducible refine w_nx (by assumption) (by first | assumption | exact Rs_l (by assumption) | exact Rs_r (by assumption) | trivial) (fun n1 hn1 => ?_)
        | with_reducible refine w_ch (by assumption) (by first | assumption | exact Rs_l (by assumption) | exact Rs_r (by assumption) | trivial) (fun n1 hn1 => ?_)
        | with_reducible refine w_aq (by assumption) zf98 (fun v1 => ?_)
        | with_reducible refine w_w (by assumption) zf98 (fun s1 q1 h1 => ?_)
        | with_reducible refine w_ite (fun hk1 => ?_) (fun hk0 => ?_)
        | contradiction
        | (exfalso; omega)
        | ((with_reducible refine w_okc (by assumption) ?_); rfl)
        | simp only [nI_1, show ¬ ((1 : Int32) = 0) by decide, show ¬ ((0 : Int32) = 1) by decide, if_true, if_false, eq_self_iff_true, Option.bind_some]
set_option maxRecDepth 8000 in
set_option maxHeartbeats 1000000 in
theorem r_asked (d : Nat) (t : tr_) {x : Int32} (h : RR z s (td, x :: vs, fr, q)) (ht : Rs z t) (hb : td.length + 27000 ≤ 620000 ∧ vs.length + 10 ≤ 300000) : wq_ z (ak_ t x td vs fr q) (mE (d + 3) 127 [vr_ (some 0), vi_ (rt_ t)] s) := by
  obtain ⟨hb1, hb2⟩ := hb
  cases t with
  | leaf => exact w_none
  | inner k i v l nx =>
    have kk : ∀ c, c < 2 ^ 31 → (nI k = (OfNat.ofNat c : Int32)) = (k = c) := fun c hc => neq1_ c (by have := ht.1.2; omega) hc
    rw [show rt_ (.inner k i v l nx : tr_) = nI i from rfl, me_asked]
    refine w_pop h (by omega) (fun s1 h1 => ?_)
    simp only [mj_asked_12, Rs_k h1 ht, Option.bind_some, kk 25 (by decide), kk 26 (by decide), kk 39 (by decide), mj_asked_44, mj_asked_91]
    dsimp only [ak_]
    have pop1 : wq_ z (tl_o td vs fr q) (some (none, mm_u s1 0 87 (s1 0 87 - 1))) := by
      cases td with
      | nil => exact w_none
      | cons y td =>
        rw [show s1 0 87 = nI (td.length + 1) from h1.2.2.1.1, show (nI (td.length + 1) - 1 : Int32) = nI td.length from nI_pred _]
        exact w_ok (RR_td h1 h1.2.2.2.1.2)
    have goC : wq_ z ((nxo l).bind fun n => some (xC_ n :: td, vs, fr, q)) ((mm_a 26000 27 (nI i) s1).bind fun v1 => (mm_a 26000 28 v1 s1).bind fun v2 => mm_bV (mE (d + 2) 92 [vr_ (some 0), vi_ 10, vi_ v2, vi_ 0] s1) fun s3 => some (none, s3)) := by
      rw [Rs_c h1 ht, Option.bind_some]
      refine w_nx h1 (Rs_l ht) (fun n hn => ?_)
      exact w_todoE h1 (nlo_ _) rfl rfl (by omega) (by decide) hn (fun s4 h4 => w_okc h4 rfl)
    have goR : wq_ z (some (xC_ l :: xT_ 15 (.inner k i v l nx) 0 :: td, vs, fr, q)) (mm_bV (mE (d + 2) 92 [vr_ (some 0), vi_ 15, vi_ (nI i), vi_ 0] s1) fun s1 => (mm_a 26000 27 (nI i) s1).bind fun v2 => mm_bV (mE (d + 2) 92 [vr_ (some 0), vi_ 10, vi_ v2, vi_ 0] s1) fun s3 => some (none, s3)) := by
      refine w_todoE (t := .inner k i v l nx) h1 (nlo_ _) rfl rfl (by omega) (by decide) ht (fun s3 h3 => ?_)
      rw [Rs_c h3 ht, Option.bind_some]
      exact w_todoE h3 (nlo_ _) rfl rfl (by simp only [List.length_cons]; omega) (by decide) (Rs_l ht) (fun s4 h4 => w_okc h4 rfl)
    by_cases hx : x = 0
    · subst hx
      by_cases h25 : k = 25
      · subst h25
        simp only [true_or, or_true, if_true, if_false, decide_true, decide_false, Bool.false_eq_true, Bool.true_eq_false, ne_eq, not_true_eq_false, not_false_eq_true, show ¬ ((0 : Int32) = 1) by decide, show ¬ ((1 : Int32) = 0) by decide, show ¬ (26 = 25) by decide, show ¬ (39 = 25) by decide, show ¬ (39 = 26) by decide, show ¬ (25 = 26) by decide, or_self, eq_self_iff_true]
        exact pop1
      · by_cases h26 : k = 26
        · subst h26
          simp only [true_or, or_true, if_true, if_false, decide_true, decide_false, Bool.false_eq_true, Bool.true_eq_false, ne_eq, not_true_eq_false, not_false_eq_true, show ¬ ((0 : Int32) = 1) by decide, show ¬ ((1 : Int32) = 0) by decide, show ¬ (26 = 25) by decide, show ¬ (39 = 25) by decide, show ¬ (39 = 26) by decide, show ¬ (25 = 26) by decide, or_self, eq_self_iff_true]
          exact goC
        · by_cases h39 : k = 39
          · subst h39
            simp only [true_or, or_true, if_true, if_false, decide_true, decide_false, Bool.false_eq_true, Bool.true_eq_false, ne_eq, not_true_eq_false, not_false_eq_true, show ¬ ((0 : Int32) = 1) by decide, show ¬ ((1 : Int32) = 0) by decide, show ¬ (26 = 25) by decide, show ¬ (39 = 25) by decide, show ¬ (39 = 26) by decide, show ¬ (25 = 26) by decide, or_self, eq_self_iff_true]
            exact w_ok h1
          · simp only [h25, h26, h39, or_self, if_true, if_false, decide_false, ne_eq, not_true_eq_false]
            exact goR
    · by_cases h25 : k = 25
      · subst h25
        simp only [hx, true_or, or_true, if_true, if_false, decide_true, decide_false, Bool.false_eq_true, Bool.true_eq_false, ne_eq, not_true_eq_false, not_false_eq_true, show ¬ ((0 : Int32) = 1) by decide, show ¬ ((1 : Int32) = 0) by decide, show ¬ (26 = 25) by decide, show ¬ (39 = 25) by decide, show ¬ (39 = 26) by decide, show ¬ (25 = 26) by decide, or_self, eq_self_iff_true]
        exact goC
      · by_cases h26 : k = 26
        · subst h26
          simp only [hx, true_or, or_true, if_true, if_false, decide_true, decide_false, Bool.false_eq_true, Bool.true_eq_false, ne_eq, not_true_eq_false, not_false_eq_true, show ¬ ((0 : Int32) = 1) by decide, show ¬ ((1 : Int32) = 0) by decide, show ¬ (26 = 25) by decide, show ¬ (39 = 25) by decide, show ¬ (39 = 26) by decide, show ¬ (25 = 26) by decide, or_self, eq_self_iff_true]
          exact pop1
        · by_cases h39 : k = 39
          · subst h39
            simp only [hx, true_or, or_true, if_true, if_false, decide_true, decide_false, Bool.false_eq_true, Bool.true_eq_false, ne_eq, not_true_eq_false, not_false_eq_true, show ¬ ((0 : Int32) = 1) by decide, show ¬ ((1 : Int32) = 0) by decide, show ¬ (26 = 25) by decide, show ¬ (39 = 25) by decide, show ¬ (39 = 26) by decide, show ¬ (25 = 26) by decide, or_self, eq_self_iff_true]
            exact goR
          · simp only [hx, h25, h26, h39, or_self, if_true, if_false, decide_false, decide_true, ne_eq, not_false_eq_true, Bool.true_eq_false, show ¬ ((1 : Int32) = 0) by decide]
            exact w_ok h1
end RRtask2
