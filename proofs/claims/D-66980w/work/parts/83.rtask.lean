/-! ===== the reference's tasks, one by one: by gen/gen_rtask.py ===== -/
section RRtask
variable {z s q : mm_S} {td : List tqT} {vs : List Int32} {fr : List (Int32 × Int32)} {r : Option rs_t}
theorem w_okc {σ σ' : rs_t} (h : RR z s σ') (e : σ' = σ) : wq_ z (some σ) (some (none, s)) := e ▸ w_ok h
theorem w_todoE {d : Nat} {k : mm_S → mm_O} {x1 x2 y : Int32} {g : Nat} {t : tr_} {y' : Int32} (h : RR z s (td, vs, fr, q)) (e1 : x1 = nI g) (e2 : x2 = rt_ t) (e3 : y = y') (hl : td.length < 620000) (hg : g < 100 ∧ g ≠ 18 ∧ g ≠ 23 ∧ g ≠ 17 ∧ g ≠ 11) (ht : Rs z t)
    (hk : ∀ s1, RR z s1 (xT_ g t y' :: td, vs, fr, q) → wq_ z r (k s1)) : wq_ z r (mm_bV (mE (d + 1) 92 [vr_ (some 0), vi_ x1, vi_ x2, vi_ y] s) k) :=
  w_todo (u := .leaf) (x := 0) h e1 (by rw [if_neg (by omega)]; exact e2) (by rw [if_neg (by omega)]; exact e3) hl hg.1 ht trivial hk
theorem w_todoS {d : Nat} {k : mm_S → mm_O} {x1 x2 x3 : Int32} {g : Nat} {t u : tr_} (h : RR z s (td, vs, fr, q)) (e1 : x1 = nI g) (e2 : x2 = rt_ t) (e3 : x3 = rt_ u) (hl : td.length < 620000) (hg : g = 17 ∨ g = 11) (ht : Rs z t) (hu : Rs z u)
    (hk : ∀ s1, RR z s1 ((g, t, u, 0, 0) :: td, vs, fr, q) → wq_ z r (k s1)) : wq_ z r (mm_bV (mE (d + 1) 92 [vr_ (some 0), vi_ x1, vi_ x2, vi_ x3] s) k) :=
  w_todo h e1 (by rw [if_neg (by omega)]; exact e2) (by rw [if_pos hg]; exact e3) hl (by omega) ht hu hk
theorem w_nx {t : tr_} {F : tr_ → Option rs_t} {k : Int32 → mm_O} (h : RR z s (td, vs, fr, q)) (ht : Rs z t) (hk : ∀ n, Rs z n → wq_ z (F n) (k (rt_ n))) : wq_ z ((nxo t).bind F) ((mm_a 26000 28 (rt_ t) s).bind k) := by
  cases t with
  | leaf => exact w_none
  | inner kd i v l nx =>
    rw [show rt_ (.inner kd i v l nx : tr_) = nI i from rfl, Rs_n h ht]
    exact hk nx (Rs_r ht)
theorem w_nx' {t : tr_} {F : tr_ → Option rs_t} {k : Int32 → mm_O} (h : RR z s (td, vs, fr, q)) (ht : Rs z t) (hk : ∀ n, Rs z n → nxo t = some n → wq_ z (F n) (k (rt_ n))) : wq_ z ((nxo t).bind F) ((mm_a 26000 28 (rt_ t) s).bind k) := by
  cases t with
  | leaf => exact w_none
  | inner kd i v l nx =>
    rw [show rt_ (.inner kd i v l nx : tr_) = nI i from rfl, Rs_n h ht]
    exact hk nx (Rs_r ht) rfl
theorem w_ch {t : tr_} {F : tr_ → Option rs_t} {k : Int32 → mm_O} (h : RR z s (td, vs, fr, q)) (ht : Rs z t) (hk : ∀ n, Rs z n → wq_ z (F n) (k (rt_ n))) : wq_ z ((cho t).bind F) ((mm_a 26000 27 (rt_ t) s).bind k) := by
  cases t with
  | leaf => exact w_none
  | inner kd i v l nx =>
    rw [show rt_ (.inner kd i v l nx : tr_) = nI i from rfl, Rs_c h ht]
    exact hk l (Rs_l ht)
theorem w_aq {n f : Nat} {x : Int32} {F : Int32 → Option rs_t} {k : Int32 → mm_O} (h : RR z s (td, vs, fr, q)) (hf : ∀ i, qf_ f i) (hk : ∀ v, wq_ z (F v) (k v)) : wq_ z ((mm_a n f x q).bind F) ((mm_a n f x s).bind k) := by
  rw [mm_a_q h hf]
  cases mm_a n f x q with
  | none => exact w_none
  | some v => exact hk v
theorem w_turn0 {d : Nat} {k : mm_S → mm_O} (h : RR z s (td, vs, fr, q)) (hl : td.length < 620000) (hk : ∀ s1, RR z s1 (td, vs, fr, q) → wq_ z r (k s1)) : wq_ z r (mm_bV (mE (d + 1) 101 [vr_ (some 0), vi_ (nI td.length)] s) k) := by
  rw [me_turnTodo, h.2.2.1.1]
  have e : mJ (d + 1) 101 9 [vr_ (some 0), vi_ (nI td.length), vi_ (nI td.length - 1)] [] s = some (none, s) := by
    rw [mj_turnTodo_9, if_neg ?_]
    cases hn : td.length with
    | zero => decide
    | succ n =>
      rw [show (nI (n + 1) - 1 : Int32) = nI n from nI_pred _]
      exact nI_nlt (by omega) (by omega)
  rw [e]
  exact hk s h
theorem w_bVn {o : mm_O} (h : wq_ z r o) : wq_ z r (mm_bV o fun s => some (none, s)) := by
  unfold wq_ at h ⊢
  split
  · trivial
  · obtain ⟨s', rfl, h⟩ := h; exact ⟨s', rfl, h⟩
theorem fs_nx (l n : tr_) (h : nxo l = some n) : (fs_ n).length < (fs_ l).length := by
  cases l with
  | leaf => cases h
  | inner k i v l r =>
    cases h
    simp [fs_]
theorem rt_neg (t : tr_) (z : mm_S) (ht : Rs z t) : (rt_ t < 0) = (fs_ t = []) := by
  cases t with
  | leaf => simp [rt_, fs_]
  | inner k i v l r =>
    have := ht.1.1
    simp only [fs_, List.cons_ne_nil, eq_iff_iff, iff_false]
    exact nI_pos (by omega)
/-- arguments of a call, one behind another; then the routine, the call; all turned -/
theorem r_ev_230 (d : Nat) {k i : Nat} {v} {l nx : tr_} : ∀ (t : tr_) (xs : List tqT) (m : Nat) (s : mm_S), RR z s (xs ++ td, vs, fr, q) → Rs z (.inner k i v l nx) → Rs z t → xs.length + (fs_ t).length + td.length + 10 ≤ 620000 → vs.length + 10 ≤ 300000 → m = xs.length →
    wq_ z (some (xs.reverse ++ ((fs_ t).map xE_ ++ (xE_ l :: xT_ 7 (.inner k i v l nx) (nI (m + (fs_ t).length)) :: td)), vs, fr, q)) (mJ (d + 1 + 1) 100 230 [vr_ (some 0), vi_ (nI i), vi_ (nI td.length), vi_ (nI m), vi_ (rt_ t)] [] s) := by
  intro t
  induction t with
  | leaf =>
    intro xs m s h ht hc hl hv hm
    have e : mJ (d + 1 + 1) 100 230 [vr_ (some 0), vi_ (nI i), vi_ (nI td.length), vi_ (nI m), vi_ (rt_ (.leaf : tr_))] [] s = _ := mj_evaluate_230 (d + 1) _ _ _ _ s
    rw [e, if_pos (by decide), Rs_c h ht, Option.bind_some]
    simp only [fs_, List.length_nil, List.map_nil, List.nil_append, Nat.add_zero] at hl ⊢
    refine w_todoE h (nlo_ _) rfl rfl (by simp only [List.length_append]; omega) (by decide) (Rs_l ht) (fun s1 h1 => ?_)
    refine w_todoE h1 (nlo_ _) rfl rfl (by simp only [List.length_cons, List.length_append]; omega) (by decide) ht (fun s2 h2 => ?_)
    have h2 : RR z s2 ((xT_ 7 (.inner k i v l nx) (nI m) :: xT_ 1 l 0 :: xs) ++ td, vs, fr, q) := h2
    refine w_turn (n := 0) h2 rfl (by simp only [List.length_cons]; omega) (by simp) (fun s3 h3 => ?_)
    refine w_okc h3 ?_
    simp [xE_, xT_]
  | inner k2 i2 v2 l2 r2 _ ih =>
    intro xs m s h ht hc hl hv hm
    have e : mJ (d + 1 + 1) 100 230 [vr_ (some 0), vi_ (nI i), vi_ (nI td.length), vi_ (nI m), vi_ (rt_ (.inner k2 i2 v2 l2 r2 : tr_))] [] s = _ := mj_evaluate_230 (d + 1) _ _ _ (nI i2) s
    have hi2 := hc.1.1
    rw [e, if_neg (show ¬ nI i2 < 0 from nI_pos (by omega))]
    simp only [fs_, List.length_cons, List.map_cons] at hl ⊢
    refine w_todoE (t := .inner k2 i2 v2 l2 r2) h (nlo_ _) rfl rfl (by simp only [List.length_append]; omega) (by decide) hc (fun s1 h1 => ?_)
    rw [Rs_n h1 hc, Option.bind_some, nI_1]
    have h1 : RR z s1 ((xT_ 1 (.inner k2 i2 v2 l2 r2) 0 :: xs) ++ td, vs, fr, q) := h1
    have := ih (xT_ 1 (.inner k2 i2 v2 l2 r2) 0 :: xs) (m + 1) s1 h1 ht (Rs_r hc) (by simp only [List.length_cons]; omega) hv (by simp only [List.length_cons]; omega)
    simp only [List.reverse_cons, List.append_assoc, List.singleton_append] at this
    rw [show m + ((fs_ r2).length + 1) = m + 1 + (fs_ r2).length by omega]
    exact this
theorem r_ev_327 (d : Nat) : ∀ (t : tr_) (xs : List tqT) (s : mm_S), RR z s (xs ++ td, vs, fr, q) → Rs z t → xs.length + (fs_ t).length + td.length + 10 ≤ 620000 → vs.length + 10 ≤ 300000 →
    wq_ z (some (xs.reverse ++ ((fs_ t).map xE_ ++ td), vs, fr, q)) (mJ (d + 1 + 1) 100 327 [vr_ (some 0), vi_ (nI td.length), vi_ (rt_ t)] [] s) := by
  intro t
  induction t with
  | leaf =>
    intro xs s h hc hl hv
    have e : mJ (d + 1 + 1) 100 327 [vr_ (some 0), vi_ (nI td.length), vi_ (rt_ (.leaf : tr_))] [] s = _ := mj_evaluate_327 (d + 1) _ _ s
    rw [e, if_pos (by decide)]
    simp only [fs_, List.length_nil, List.map_nil, List.nil_append] at hl ⊢
    cases xs with
    | nil => 
      have h : RR z s (td, vs, fr, q) := h
      exact w_turn0 h (by omega) (fun s3 h3 => w_okc h3 (by simp))
    | cons x xs => exact w_turn (n := 0) h rfl (by omega) (by simp) (fun s3 h3 => w_ok h3)
  | inner k2 i2 v2 l2 r2 _ ih =>
    intro xs s h hc hl hv
    have e : mJ (d + 1 + 1) 100 327 [vr_ (some 0), vi_ (nI td.length), vi_ (rt_ (.inner k2 i2 v2 l2 r2 : tr_))] [] s = _ := mj_evaluate_327 (d + 1) _ (nI i2) s
    have hi2 := hc.1.1
    rw [e, if_neg (show ¬ nI i2 < 0 from nI_pos (by omega))]
    simp only [fs_, List.length_cons, List.map_cons] at hl ⊢
    refine w_todoE (t := .inner k2 i2 v2 l2 r2) h (nlo_ _) rfl rfl (by simp only [List.length_append]; omega) (by decide) hc (fun s1 h1 => ?_)
    rw [Rs_n h1 hc, Option.bind_some]
    have h1 : RR z s1 ((xT_ 1 (.inner k2 i2 v2 l2 r2) 0 :: xs) ++ td, vs, fr, q) := h1
    have := ih (xT_ 1 (.inner k2 i2 v2 l2 r2) 0 :: xs) s1 h1 (Rs_r hc) (by simp only [List.length_cons]; omega) hv
    simp only [List.reverse_cons, List.append_assoc, List.singleton_append] at this
    exact this
set_option maxRecDepth 8000 in
set_option maxHeartbeats 1000000 in
theorem r_address (d : Nat) (t : tr_) (h : RR z s (td, vs, fr, q)) (ht : Rs z t) (hb : td.length + 27000 ≤ 620000 ∧ vs.length + 10 ≤ 300000) : wq_ z (ad_ z t td vs fr q) (mE (d + 4) 102 [vr_ (some 0), vi_ (rt_ t)] s) := by
  obtain ⟨hb1, hb2⟩ := hb
  cases t with
  | leaf => exact w_none
  | inner k i v l nx =>
    have kk : ∀ c, c < 2 ^ 31 → (nI k = (OfNat.ofNat c : Int32)) = (k = c) := fun c hc => neq1_ c (by have := ht.1.2; omega) hc
    rw [show rt_ (.inner k i v l nx : tr_) = nI i from rfl, me_address, Rs_k h ht, Option.bind_some]
    dsimp only [ad_]
    simp only [kk 1 (by decide), kk 7 (by decide)]
    refine w_ite (fun hk1 => ?_) (fun hk0 => ?_)
    · repeat' first
        | with_reducible exact w_none
        | with_reducible exact w_ok (by assumption)
        | with_reducible refine w_push (by assumption) (by first | omega | (simp only [List.length_cons]; omega)) (fun s1 h1 => ?_)
        | with_reducible refine w_pop (by assumption) (by first | omega | (simp only [List.length_cons]; omega)) (fun s1 h1 => ?_)
        | with_reducible refine w_todoE (by assumption) (nlo_ _) rfl rfl (by first | omega | (simp only [List.length_cons]; omega)) (by decide) (by first | assumption | exact Rs_l (by assumption) | exact Rs_r (by assumption) | trivial) (fun s1 h1 => ?_)
        | with_reducible refine w_todoS (by assumption) (nlo_ _) rfl rfl (by first | omega | (simp only [List.length_cons]; omega)) (by decide) (by first | assumption | exact Rs_l (by assumption) | exact Rs_r (by assumption) | trivial) (by first | assumption | exact Rs_l (by assumption) | exact Rs_r (by assumption) | trivial) (fun s1 h1 => ?_)
        | with_reducible refine w_err (by assumption) (fun s1 h1 => ?_)
        | with_reducible refine w_burn (by assumption) (fun s1 h1 => ?_) (fun s1 q1 h1 => ?_)
        | with_reducible refine w_read (by assumption) (fun v1 s1 q1 h1 => ?_)
        | with_reducible refine w_write (by assumption) (fun s1 q1 h1 => ?_)
        | with_reducible refine w_word (by assumption) (by assumption) (fun w1 => ?_)
        | with_reducible refine w_nx (by assumption) (by first | assumption | exact Rs_l (by assumption) | exact Rs_r (by assumption) | trivial) (fun n1 hn1 => ?_)
        | with_reducible refine w_ch (by assumption) (by first | assumption | exact Rs_l (by assumption) | exact Rs_r (by assumption) | trivial) (fun n1 hn1 => ?_)
        | with_reducible refine w_aq (by assumption) zf98 (fun v1 => ?_)
        | with_reducible refine w_w (by assumption) zf98 (fun s1 q1 h1 => ?_)
        | with_reducible refine w_ite (fun hk1 => ?_) (fun hk0 => ?_)
        | contradiction
        | (exfalso; omega)
        | ((with_reducible refine w_okc (by assumption) ?_); rfl)
        | simp only [nI_1, show ¬ ((1 : Int32) = 0) by decide, show ¬ ((0 : Int32) = 1) by decide, if_true, if_false, eq_self_iff_true, Option.bind_some]
    refine w_ite (fun hk1 => ?_) (fun hk0 => ?_)
    · rw [Rs_c h ht, Option.bind_some]
      repeat' first
        | with_reducible exact w_none
        | with_reducible exact w_ok (by assumption)
        | with_reducible refine w_push (by assumption) (by first | omega | (simp only [List.length_cons]; omega)) (fun s1 h1 => ?_)
        | with_reducible refine w_pop (by assumption) (by first | omega | (simp only [List.length_cons]; omega)) (fun s1 h1 => ?_)
        | with_reducible refine w_todoE (by assumption) (nlo_ _) rfl rfl (by first | omega | (simp only [List.length_cons]; omega)) (by decide) (by first | assumption | exact Rs_l (by assumption) | exact Rs_r (by assumption) | trivial) (fun s1 h1 => ?_)
        | with_reducible refine w_todoS (by assumption) (nlo_ _) rfl rfl (by first | omega | (simp only [List.length_cons]; omega)) (by decide) (by first | assumption | exact Rs_l (by assumption) | exact Rs_r (by assumption) | trivial) (by first | assumption | exact Rs_l (by assumption) | exact Rs_r (by assumption) | trivial) (fun s1 h1 => ?_)
        | with_reducible refine w_err (by assumption) (fun s1 h1 => ?_)
        | with_reducible refine w_burn (by assumption) (fun s1 h1 => ?_) (fun s1 q1 h1 => ?_)
        | with_reducible refine w_read (by assumption) (fun v1 s1 q1 h1 => ?_)
        | with_reducible refine w_write (by assumption) (fun s1 q1 h1 => ?_)
        | with_reducible refine w_word (by assumption) (by assumption) (fun w1 => ?_)
        | with_reducible refine w_nx (by assumption) (by first | assumption | exact Rs_l (by assumption) | exact Rs_r (by assumption) | trivial) (fun n1 hn1 => ?_)
        | with_reducible refine w_ch (by assumption) (by first | assumption | exact Rs_l (by assumption) | exact Rs_r (by assumption) | trivial) (fun n1 hn1 => ?_)
        | with_reducible refine w_aq (by assumption) zf98 (fun v1 => ?_)
        | with_reducible refine w_w (by assumption) zf98 (fun s1 q1 h1 => ?_)
        | with_reducible refine w_ite (fun hk1 => ?_) (fun hk0 => ?_)
        | contradiction
        | (exfalso; omega)
        | ((with_reducible refine w_okc (by assumption) ?_); rfl)
        | simp only [nI_1, show ¬ ((1 : Int32) = 0) by decide, show ¬ ((0 : Int32) = 1) by decide, if_true, if_false, eq_self_iff_true, Option.bind_some]
    · repeat' first
        | with_reducible exact w_none
        | with_reducible exact w_ok (by assumption)
        | with_reducible refine w_push (by assumption) (by first | omega | (simp only [List.length_cons]; omega)) (fun s1 h1 => ?_)
        | with_reducible refine w_pop (by assumption) (by first | omega | (simp only [List.length_cons]; omega)) (fun s1 h1 => ?_)
        | with_reducible refine w_todoE (by assumption) (nlo_ _) rfl rfl (by first | omega | (simp only [List.length_cons]; omega)) (by decide) (by first | assumption | exact Rs_l (by assumption) | exact Rs_r (by assumption) | trivial) (fun s1 h1 => ?_)
        | with_reducible refine w_todoS (by assumption) (nlo_ _) rfl rfl (by first | omega | (simp only [List.length_cons]; omega)) (by decide) (by first | assumption | exact Rs_l (by assumption) | exact Rs_r (by assumption) | trivial) (by first | assumption | exact Rs_l (by assumption) | exact Rs_r (by assumption) | trivial) (fun s1 h1 => ?_)
        | with_reducible refine w_err (by assumption) (fun s1 h1 => ?_)
        | with_reducible refine w_burn (by assumption) (fun s1 h1 => ?_) (fun s1 q1 h1 => ?_)
        | with_reducible refine w_read (by assumption) (fun v1 s1 q1 h1 => ?_)
        | with_reducible refine w_write (by assumption) (fun s1 q1 h1 => ?_)
        | with_reducible refine w_word (by assumption) (by assumption) (fun w1 => ?_)
        | with_reducible refine w_nx (by assumption) (by first | assumption | exact Rs_l (by assumption) | exact Rs_r (by assumption) | trivial) (fun n1 hn1 => ?_)
        | with_reducible refine w_ch (by assumption) (by first | assumption | exact Rs_l (by assumption) | exact Rs_r (by assumption) | trivial) (fun n1 hn1 => ?_)
        | with_reducible refine w_aq (by assumption) zf98 (fun v1 => ?_)
        | with_reducible refine w_w (by assumption) zf98 (fun s1 q1 h1 => ?_)
        | rw [Rs_c h1 ht, Option.bind_some]
        | with_reducible refine w_ite (fun hk1 => ?_) (fun hk0 => ?_)
        | contradiction
        | (exfalso; omega)
        | ((with_reducible refine w_okc (by assumption) ?_); rfl)
        | simp only [nI_1, show ¬ ((1 : Int32) = 0) by decide, show ¬ ((0 : Int32) = 1) by decide, if_true, if_false, eq_self_iff_true, Option.bind_some]
set_option maxRecDepth 8000 in
set_option maxHeartbeats 1000000 in
theorem r_evaluate (d : Nat) (t : tr_) (h : RR z s (td, vs, fr, q)) (ht : Rs z t) (hb : td.length + 27000 ≤ 620000 ∧ vs.length + 10 ≤ 300000) : wq_ z (ev_ z t td vs fr q) (mE (d + 6) 100 [vr_ (some 0), vi_ (rt_ t)] s) := by
  obtain ⟨hb1, hb2⟩ := hb
  cases t with
  | leaf => exact w_none
  | inner k i v l nx =>
    have kk : ∀ c, c < 2 ^ 31 → (nI k = (OfNat.ofNat c : Int32)) = (k = c) := fun c hc => neq1_ c (by have := ht.1.2; omega) hc
    rw [show rt_ (.inner k i v l nx : tr_) = nI i from rfl, me_evaluate, Rs_k h ht, Option.bind_some]
    dsimp only [ev_]
    simp only [kk 2 (by decide), kk 3 (by decide), kk 5 (by decide), kk 1 (by decide), kk 4 (by decide), kk 8 (by decide), kk 12 (by decide), kk 11 (by decide), kk 6 (by decide), kk 9 (by decide), kk 10 (by decide)]
    refine w_ite (fun hk1 => ?_) (fun hk0 => ?_)
    · rw [Rs_f h ht (by omega) (by omega), Option.bind_some]
      repeat' first
        | with_reducible exact w_none
        | with_reducible exact w_ok (by assumption)
        | with_reducible refine w_push (by assumption) (by first | omega | (simp only [List.length_cons]; omega)) (fun s1 h1 => ?_)
        | with_reducible refine w_pop (by assumption) (by first | omega | (simp only [List.length_cons]; omega)) (fun s1 h1 => ?_)
        | with_reducible refine w_todoE (by assumption) (nlo_ _) rfl rfl (by first | omega | (simp only [List.length_cons]; omega)) (by decide) (by first | assumption | exact Rs_l (by assumption) | exact Rs_r (by assumption) | trivial) (fun s1 h1 => ?_)
        | with_reducible refine w_todoS (by assumption) (nlo_ _) rfl rfl (by first | omega | (simp only [List.length_cons]; omega)) (by decide) (by first | assumption | exact Rs_l (by assumption) | exact Rs_r (by assumption) | trivial) (by first | assumption | exact Rs_l (by assumption) | exact Rs_r (by assumption) | trivial) (fun s1 h1 => ?_)
        | with_reducible refine w_err (by assumption) (fun s1 h1 => ?_)
        | with_reducible refine w_burn (by assumption) (fun s1 h1 => ?_) (fun s1 q1 h1 => ?_)
        | with_reducible refine w_read (by assumption) (fun v1 s1 q1 h1 => ?_)
        | with_reducible refine w_write (by assumption) (fun s1 q1 h1 => ?_)
        | with_reducible refine w_word (by assumption) (by assumption) (fun w1 => ?_)
        | with_reducible refine w_nx (by assumption) (by first | assumption | exact Rs_l (by assumption) | exact Rs_r (by assumption) | trivial) (fun n1 hn1 => ?_)
        | with_reducible refine w_ch (by assumption) (by first | assumption | exact Rs_l (by assumption) | exact Rs_r (by assumption) | trivial) (fun n1 hn1 => ?_)
        | with_reducible refine w_aq (by assumption) zf98 (fun v1 => ?_)
        | with_reducible refine w_w (by assumption) zf98 (fun s1 q1 h1 => ?_)
        | with_reducible refine w_ite (fun hk1 => ?_) (fun hk0 => ?_)
        | contradiction
        | (exfalso; omega)
        | ((with_reducible refine w_okc (by assumption) ?_); rfl)
        | simp only [nI_1, show ¬ ((1 : Int32) = 0) by decide, show ¬ ((0 : Int32) = 1) by decide, if_true, if_false, eq_self_iff_true, Option.bind_some]
    refine w_ite (fun hk1 => ?_) (fun hk0 => ?_)
    · rw [Rs_f h ht (by omega) (by omega), Option.bind_some]
      repeat' first
        | with_reducible exact w_none
        | with_reducible exact w_ok (by assumption)
        | with_reducible refine w_push (by assumption) (by first | omega | (simp only [List.length_cons]; omega)) (fun s1 h1 => ?_)
        | with_reducible refine w_pop (by assumption) (by first | omega | (simp only [List.length_cons]; omega)) (fun s1 h1 => ?_)
        | with_reducible refine w_todoE (by assumption) (nlo_ _) rfl rfl (by first | omega | (simp only [List.length_cons]; omega)) (by decide) (by first | assumption | exact Rs_l (by assumption) | exact Rs_r (by assumption) | trivial) (fun s1 h1 => ?_)
        | with_reducible refine w_todoS (by assumption) (nlo_ _) rfl rfl (by first | omega | (simp only [List.length_cons]; omega)) (by decide) (by first | assumption | exact Rs_l (by assumption) | exact Rs_r (by assumption) | trivial) (by first | assumption | exact Rs_l (by assumption) | exact Rs_r (by assumption) | trivial) (fun s1 h1 => ?_)
        | with_reducible refine w_err (by assumption) (fun s1 h1 => ?_)
        | with_reducible refine w_burn (by assumption) (fun s1 h1 => ?_) (fun s1 q1 h1 => ?_)
        | with_reducible refine w_read (by assumption) (fun v1 s1 q1 h1 => ?_)
        | with_reducible refine w_write (by assumption) (fun s1 q1 h1 => ?_)
        | with_reducible refine w_word (by assumption) (by assumption) (fun w1 => ?_)
        | with_reducible refine w_nx (by assumption) (by first | assumption | exact Rs_l (by assumption) | exact Rs_r (by assumption) | trivial) (fun n1 hn1 => ?_)
        | with_reducible refine w_ch (by assumption) (by first | assumption | exact Rs_l (by assumption) | exact Rs_r (by assumption) | trivial) (fun n1 hn1 => ?_)
        | with_reducible refine w_aq (by assumption) zf98 (fun v1 => ?_)
        | with_reducible refine w_w (by assumption) zf98 (fun s1 q1 h1 => ?_)
        | with_reducible refine w_ite (fun hk1 => ?_) (fun hk0 => ?_)
        | contradiction
        | (exfalso; omega)
        | ((with_reducible refine w_okc (by assumption) ?_); rfl)
        | simp only [nI_1, show ¬ ((1 : Int32) = 0) by decide, show ¬ ((0 : Int32) = 1) by decide, if_true, if_false, eq_self_iff_true, Option.bind_some]
    refine w_ite (fun hk1 => ?_) (fun hk0 => ?_)
    · rw [Rs_f h ht (by omega) (by omega), Option.bind_some]
      repeat' first
        | with_reducible exact w_none
        | with_reducible exact w_ok (by assumption)
        | with_reducible refine w_push (by assumption) (by first | omega | (simp only [List.length_cons]; omega)) (fun s1 h1 => ?_)
        | with_reducible refine w_pop (by assumption) (by first | omega | (simp only [List.length_cons]; omega)) (fun s1 h1 => ?_)
        | with_reducible refine w_todoE (by assumption) (nlo_ _) rfl rfl (by first | omega | (simp only [List.length_cons]; omega)) (by decide) (by first | assumption | exact Rs_l (by assumption) | exact Rs_r (by assumption) | trivial) (fun s1 h1 => ?_)
        | with_reducible refine w_todoS (by assumption) (nlo_ _) rfl rfl (by first | omega | (simp only [List.length_cons]; omega)) (by decide) (by first | assumption | exact Rs_l (by assumption) | exact Rs_r (by assumption) | trivial) (by first | assumption | exact Rs_l (by assumption) | exact Rs_r (by assumption) | trivial) (fun s1 h1 => ?_)
        | with_reducible refine w_err (by assumption) (fun s1 h1 => ?_)
        | with_reducible refine w_burn (by assumption) (fun s1 h1 => ?_) (fun s1 q1 h1 => ?_)
        | with_reducible refine w_read (by assumption) (fun v1 s1 q1 h1 => ?_)
        | with_reducible refine w_write (by assumption) (fun s1 q1 h1 => ?_)
        | with_reducible refine w_word (by assumption) (by assumption) (fun w1 => ?_)
        | with_reducible refine w_nx (by assumption) (by first | assumption | exact Rs_l (by assumption) | exact Rs_r (by assumption) | trivial) (fun n1 hn1 => ?_)
        | with_reducible refine w_ch (by assumption) (by first | assumption | exact Rs_l (by assumption) | exact Rs_r (by assumption) | trivial) (fun n1 hn1 => ?_)
        | with_reducible refine w_aq (by assumption) zf98 (fun v1 => ?_)
        | with_reducible refine w_w (by assumption) zf98 (fun s1 q1 h1 => ?_)
        | with_reducible refine w_ite (fun hk1 => ?_) (fun hk0 => ?_)
        | contradiction
        | (exfalso; omega)
        | ((with_reducible refine w_okc (by assumption) ?_); rfl)
        | simp only [nI_1, show ¬ ((1 : Int32) = 0) by decide, show ¬ ((0 : Int32) = 1) by decide, if_true, if_false, eq_self_iff_true, Option.bind_some]
    refine w_ite (fun hk1 => ?_) (fun hk0 => ?_)
    · refine w_word h ht (fun w1 => ?_)
      repeat' first
        | with_reducible exact w_none
        | with_reducible exact w_ok (by assumption)
        | with_reducible refine w_push (by assumption) (by first | omega | (simp only [List.length_cons]; omega)) (fun s1 h1 => ?_)
        | with_reducible refine w_pop (by assumption) (by first | omega | (simp only [List.length_cons]; omega)) (fun s1 h1 => ?_)
        | with_reducible refine w_todoE (by assumption) (nlo_ _) rfl rfl (by first | omega | (simp only [List.length_cons]; omega)) (by decide) (by first | assumption | exact Rs_l (by assumption) | exact Rs_r (by assumption) | trivial) (fun s1 h1 => ?_)
        | with_reducible refine w_todoS (by assumption) (nlo_ _) rfl rfl (by first | omega | (simp only [List.length_cons]; omega)) (by decide) (by first | assumption | exact Rs_l (by assumption) | exact Rs_r (by assumption) | trivial) (by first | assumption | exact Rs_l (by assumption) | exact Rs_r (by assumption) | trivial) (fun s1 h1 => ?_)
        | with_reducible refine w_err (by assumption) (fun s1 h1 => ?_)
        | with_reducible refine w_burn (by assumption) (fun s1 h1 => ?_) (fun s1 q1 h1 => ?_)
        | with_reducible refine w_read (by assumption) (fun v1 s1 q1 h1 => ?_)
        | with_reducible refine w_write (by assumption) (fun s1 q1 h1 => ?_)
        | with_reducible refine w_word (by assumption) (by assumption) (fun w1 => ?_)
        | with_reducible refine w_nx (by assumption) (by first | assumption | exact Rs_l (by assumption) | exact Rs_r (by assumption) | trivial) (fun n1 hn1 => ?_)
        | with_reducible refine w_ch (by assumption) (by first | assumption | exact Rs_l (by assumption) | exact Rs_r (by assumption) | trivial) (fun n1 hn1 => ?_)
        | with_reducible refine w_aq (by assumption) zf98 (fun v1 => ?_)
        | with_reducible refine w_w (by assumption) zf98 (fun s1 q1 h1 => ?_)
        | rw [Rs_f h ht (by omega) (by omega), Option.bind_some]
        | with_reducible refine w_ite (fun hk1 => ?_) (fun hk0 => ?_)
        | contradiction
        | (exfalso; omega)
        | ((with_reducible refine w_okc (by assumption) ?_); rfl)
        | simp only [nI_1, show ¬ ((1 : Int32) = 0) by decide, show ¬ ((0 : Int32) = 1) by decide, if_true, if_false, eq_self_iff_true, Option.bind_some]
    refine w_ite (fun hk1 => ?_) (fun hk0 => ?_)
    · rw [h.2.2.1.2.1]
      repeat' first
        | with_reducible exact w_none
        | with_reducible exact w_ok (by assumption)
        | with_reducible refine w_push (by assumption) (by first | omega | (simp only [List.length_cons]; omega)) (fun s1 h1 => ?_)
        | with_reducible refine w_pop (by assumption) (by first | omega | (simp only [List.length_cons]; omega)) (fun s1 h1 => ?_)
        | with_reducible refine w_todoE (by assumption) (nlo_ _) rfl rfl (by first | omega | (simp only [List.length_cons]; omega)) (by decide) (by first | assumption | exact Rs_l (by assumption) | exact Rs_r (by assumption) | trivial) (fun s1 h1 => ?_)
        | with_reducible refine w_todoS (by assumption) (nlo_ _) rfl rfl (by first | omega | (simp only [List.length_cons]; omega)) (by decide) (by first | assumption | exact Rs_l (by assumption) | exact Rs_r (by assumption) | trivial) (by first | assumption | exact Rs_l (by assumption) | exact Rs_r (by assumption) | trivial) (fun s1 h1 => ?_)
        | with_reducible refine w_err (by assumption) (fun s1 h1 => ?_)
        | with_reducible refine w_burn (by assumption) (fun s1 h1 => ?_) (fun s1 q1 h1 => ?_)
        | with_reducible refine w_read (by assumption) (fun v1 s1 q1 h1 => ?_)
        | with_reducible refine w_write (by assumption) (fun s1 q1 h1 => ?_)
        | with_reducible refine w_word (by assumption) (by assumption) (fun w1 => ?_)
        | with_reducible refine w_nx (by assumption) (by first | assumption | exact Rs_l (by assumption) | exact Rs_r (by assumption) | trivial) (fun n1 hn1 => ?_)
        | with_reducible refine w_ch (by assumption) (by first | assumption | exact Rs_l (by assumption) | exact Rs_r (by assumption) | trivial) (fun n1 hn1 => ?_)
        | with_reducible refine w_aq (by assumption) zf98 (fun v1 => ?_)
        | with_reducible refine w_w (by assumption) zf98 (fun s1 q1 h1 => ?_)
        | rw [Rs_c h1 ht, Option.bind_some]
        | with_reducible refine w_ite (fun hk1 => ?_) (fun hk0 => ?_)
        | contradiction
        | (exfalso; omega)
        | ((with_reducible refine w_okc (by assumption) ?_); rfl)
        | simp only [nI_1, show ¬ ((1 : Int32) = 0) by decide, show ¬ ((0 : Int32) = 1) by decide, if_true, if_false, eq_self_iff_true, Option.bind_some]
    refine w_ite (fun hk1 => ?_) (fun hk0 => ?_)
    · rw [Rs_c h ht, Option.bind_some]
      exact w_bVn (r_address (d + 1) l h (Rs_l ht) ⟨hb1, hb2⟩)
    refine w_ite (fun hk1 => ?_) (fun hk0 => ?_)
    · 
      repeat' first
        | with_reducible exact w_none
        | with_reducible exact w_ok (by assumption)
        | with_reducible refine w_push (by assumption) (by first | omega | (simp only [List.length_cons]; omega)) (fun s1 h1 => ?_)
        | with_reducible refine w_pop (by assumption) (by first | omega | (simp only [List.length_cons]; omega)) (fun s1 h1 => ?_)
        | with_reducible refine w_todoE (by assumption) (nlo_ _) rfl rfl (by first | omega | (simp only [List.length_cons]; omega)) (by decide) (by first | assumption | exact Rs_l (by assumption) | exact Rs_r (by assumption) | trivial) (fun s1 h1 => ?_)
        | with_reducible refine w_todoS (by assumption) (nlo_ _) rfl rfl (by first | omega | (simp only [List.length_cons]; omega)) (by decide) (by first | assumption | exact Rs_l (by assumption) | exact Rs_r (by assumption) | trivial) (by first | assumption | exact Rs_l (by assumption) | exact Rs_r (by assumption) | trivial) (fun s1 h1 => ?_)
        | with_reducible refine w_err (by assumption) (fun s1 h1 => ?_)
        | with_reducible refine w_burn (by assumption) (fun s1 h1 => ?_) (fun s1 q1 h1 => ?_)
        | with_reducible refine w_read (by assumption) (fun v1 s1 q1 h1 => ?_)
        | with_reducible refine w_write (by assumption) (fun s1 q1 h1 => ?_)
        | with_reducible refine w_word (by assumption) (by assumption) (fun w1 => ?_)
        | with_reducible refine w_nx (by assumption) (by first | assumption | exact Rs_l (by assumption) | exact Rs_r (by assumption) | trivial) (fun n1 hn1 => ?_)
        | with_reducible refine w_ch (by assumption) (by first | assumption | exact Rs_l (by assumption) | exact Rs_r (by assumption) | trivial) (fun n1 hn1 => ?_)
        | with_reducible refine w_aq (by assumption) zf98 (fun v1 => ?_)
        | with_reducible refine w_w (by assumption) zf98 (fun s1 q1 h1 => ?_)
        | rw [Rs_c h1 ht, Option.bind_some]
        | with_reducible refine w_ite (fun hk1 => ?_) (fun hk0 => ?_)
        | contradiction
        | (exfalso; omega)
        | ((with_reducible refine w_okc (by assumption) ?_); rfl)
        | simp only [nI_1, show ¬ ((1 : Int32) = 0) by decide, show ¬ ((0 : Int32) = 1) by decide, if_true, if_false, eq_self_iff_true, Option.bind_some]
    refine w_ite (fun hk1 => ?_) (fun hk0 => ?_)
    · rw [Rs_c h ht, Option.bind_some]
      repeat' first
        | with_reducible exact w_none
        | with_reducible exact w_ok (by assumption)
        | with_reducible refine w_push (by assumption) (by first | omega | (simp only [List.length_cons]; omega)) (fun s1 h1 => ?_)
        | with_reducible refine w_pop (by assumption) (by first | omega | (simp only [List.length_cons]; omega)) (fun s1 h1 => ?_)
        | with_reducible refine w_todoE (by assumption) (nlo_ _) rfl rfl (by first | omega | (simp only [List.length_cons]; omega)) (by decide) (by first | assumption | exact Rs_l (by assumption) | exact Rs_r (by assumption) | trivial) (fun s1 h1 => ?_)
        | with_reducible refine w_todoS (by assumption) (nlo_ _) rfl rfl (by first | omega | (simp only [List.length_cons]; omega)) (by decide) (by first | assumption | exact Rs_l (by assumption) | exact Rs_r (by assumption) | trivial) (by first | assumption | exact Rs_l (by assumption) | exact Rs_r (by assumption) | trivial) (fun s1 h1 => ?_)
        | with_reducible refine w_err (by assumption) (fun s1 h1 => ?_)
        | with_reducible refine w_burn (by assumption) (fun s1 h1 => ?_) (fun s1 q1 h1 => ?_)
        | with_reducible refine w_read (by assumption) (fun v1 s1 q1 h1 => ?_)
        | with_reducible refine w_write (by assumption) (fun s1 q1 h1 => ?_)
        | with_reducible refine w_word (by assumption) (by assumption) (fun w1 => ?_)
        | with_reducible refine w_nx (by assumption) (by first | assumption | exact Rs_l (by assumption) | exact Rs_r (by assumption) | trivial) (fun n1 hn1 => ?_)
        | with_reducible refine w_ch (by assumption) (by first | assumption | exact Rs_l (by assumption) | exact Rs_r (by assumption) | trivial) (fun n1 hn1 => ?_)
        | with_reducible refine w_aq (by assumption) zf98 (fun v1 => ?_)
        | with_reducible refine w_w (by assumption) zf98 (fun s1 q1 h1 => ?_)
        | rw [Rs_c h1 ht, Option.bind_some]
        | with_reducible refine w_ite (fun hk1 => ?_) (fun hk0 => ?_)
        | contradiction
        | (exfalso; omega)
        | ((with_reducible refine w_okc (by assumption) ?_); rfl)
        | simp only [nI_1, show ¬ ((1 : Int32) = 0) by decide, show ¬ ((0 : Int32) = 1) by decide, if_true, if_false, eq_self_iff_true, Option.bind_some]
    by_cases hfl : (fs_ l).length ≤ 26000
    case neg => rw [if_neg hfl]; exact w_none
    rw [if_pos hfl]
    refine w_ite (fun hk1 => ?_) (fun hk0 => ?_)
    · rw [Rs_c h ht, Option.bind_some, h.2.2.1.1]
      refine w_nx' h (Rs_l ht) (fun n1 hn1 e1 => ?_)
      have hfl2 := fs_nx l n1 e1
      have := r_ev_230 (d + 4) (xs := []) n1 0 s h ht hn1 (by simp only [List.length_nil]; omega) (by omega) rfl
      simp only [List.reverse_nil, List.nil_append, Nat.zero_add] at this
      exact this
    by_cases h9 : k = 9
    · rw [if_pos h9, if_pos h9]
      refine w_todoE h (nlo_ _) rfl rfl (by omega) (by decide) ht (fun s1 h1 => ?_)
      rw [Rs_c h1 ht, Option.bind_some, h1.2.2.1.1]
      have := r_ev_327 (d + 4) l [] s1 h1 (Rs_l ht) (by simp only [List.length_nil, List.length_cons]; omega) (by omega)
      simp only [List.reverse_nil, List.nil_append] at this
      exact this
    rw [if_neg h9, if_neg h9]
    by_cases h10 : k = 10
    · rw [if_pos h10, if_pos h10]
      refine w_todoE h (nlo_ _) rfl rfl (by omega) (by decide) ht (fun s1 h1 => ?_)
      rw [Rs_c h1 ht, Option.bind_some, h1.2.2.1.1]
      have := r_ev_327 (d + 4) l [] s1 h1 (Rs_l ht) (by simp only [List.length_nil, List.length_cons]; omega) (by omega)
      simp only [List.reverse_nil, List.nil_append] at this
      exact this
    rw [if_neg h10, if_neg h10]
    refine w_todoE h (nlo_ _) rfl rfl (by omega) (by decide) ht (fun s1 h1 => ?_)
    rw [Rs_c h1 ht, Option.bind_some, h1.2.2.1.1]
    have := r_ev_327 (d + 4) l [] s1 h1 (Rs_l ht) (by simp only [List.length_nil, List.length_cons]; omega) (by omega)
    simp only [List.reverse_nil, List.nil_append] at this
    exact this
theorem itc {α : Type} {P : Prop} [Decidable P] {a b c e : α} (h1 : a = c) (h2 : b = e) : (if P then a else b) = if P then c else e := by rw [h1, h2]
theorem itb {α β : Type} {P : Prop} [Decidable P] {a b : Option α} {k : α → Option β} : (if P then a else b).bind k = if P then a.bind k else b.bind k := by split <;> rfl
theorem r_shifted (d : Nat) (a b : Int32) (l : Bool) (s : mm_S) : mE (d + 1) 53 [vi_ a, vi_ b, vi_ (zb_ l)] s = some (some (vi_ (sf_r a b l)), s) := by
  rw [me_shifted]
  unfold sf_r
  by_cases h1 : b < 0
  · rw [if_pos h1, if_pos h1]
  · rw [if_neg h1, if_neg h1]
    by_cases h2 : 31 < b
    · rw [if_pos h2, if_pos h2]
    · rw [if_neg h2, if_neg h2]
      cases l <;> rfl
theorem r_worked (d : Nat) (sg a b : Int32) (s : mm_S) : mE (d + 2) 56 [vi_ sg, vi_ a, vi_ b] s = (wk_ sg a b).bind fun v => some (some (vi_ v), s) := by
  have e1 : mE (d + 1) 53 [vi_ a, vi_ b, vi_ 1] s = _ := r_shifted d a b true s
  have e0 : mE (d + 1) 53 [vi_ a, vi_ b, vi_ 0] s = _ := r_shifted d a b false s
  rw [me_worked]
  simp only [me_quotient, me_remainder, e1, e0, bI_s]
  unfold wk_
  simp only [itb, Option.bind_some]
  refine itc rfl (itc rfl (itc rfl (itc ?_ (itc ?_ (itc rfl (itc rfl (itc rfl (itc rfl ?_))))))))
  · by_cases h : b = -1
    · rw [if_pos h]; rfl
    · rw [if_neg h]
      cases pj_div a b <;> rfl
  · by_cases h : b = -1
    · rw [if_pos h]; rfl
    · rw [if_neg h]
      cases pj_rem a b <;> rfl
  · by_cases h : sg = 31
    · rw [if_pos h]; simp [h]
    · rw [if_neg h]; simp [h]
theorem r_related (d : Nat) (sg a b : Int32) (s : mm_S) : mE (d + 1) 57 [vi_ sg, vi_ a, vi_ b] s = some (some (vi_ (zb_ (rl_ sg a b))), s) := by
  rw [me_related]
  unfold rl_
  by_cases h1 : sg = 25
  · rw [if_pos h1, if_pos h1]; by_cases h : a = b <;> simp [h, zb_]
  rw [if_neg h1, if_neg h1]
  by_cases h1 : sg = 26
  · rw [if_pos h1, if_pos h1]; by_cases h : a = b <;> simp [h, zb_]
  rw [if_neg h1, if_neg h1]
  by_cases h1 : sg = 27
  · rw [if_pos h1, if_pos h1]; by_cases h : a < b <;> simp [h, zb_]
  rw [if_neg h1, if_neg h1]
  by_cases h1 : sg = 28
  · rw [if_pos h1, if_pos h1]; by_cases h : b < a <;> simp [h, zb_]
  rw [if_neg h1, if_neg h1]
  by_cases h1 : sg = 29
  · rw [if_pos h1, if_pos h1]; by_cases h : b < a <;> simp [h, zb_]
  rw [if_neg h1, if_neg h1]
  by_cases h : a < b <;> simp [h, zb_]
theorem r_signed (d : Nat) (sg a : Int32) (s : mm_S) : mE (d + 1) 58 [vi_ sg, vi_ a] s = some (some (vi_ (sg_n sg a)), s) := by
  rw [me_signed]
  unfold sg_n
  by_cases h1 : sg = 22
  · rw [if_pos h1, if_pos h1]
  rw [if_neg h1, if_neg h1]
  by_cases h1 : sg = 33
  · rw [if_pos h1, if_pos h1]
  rw [if_neg h1, if_neg h1]
theorem w_worked {d : Nat} {sg a b : Int32} {F : Int32 → Option rs_t} {k : Int32 → mm_S → mm_O} (hk : ∀ v, wq_ z (F v) (k v s)) : wq_ z ((wk_ sg a b).bind F) (mm_bI (mE (d + 2) 56 [vi_ sg, vi_ a, vi_ b] s) k) := by
  rw [r_worked]
  cases wk_ sg a b with
  | none => exact w_none
  | some v => exact hk v
set_option maxRecDepth 8000 in
set_option maxHeartbeats 1000000 in
theorem r_bin (d : Nat) {k i : Nat} {v} {l nx : tr_} {a b : Int32} (h : RR z s (td, b :: a :: vs, fr, q)) (ht : Rs z (.inner k i v l nx)) (hb : td.length + 27000 ≤ 620000 ∧ vs.length + 10 ≤ 300000) : wq_ z (bi_ z (z 29 i) a b td vs fr q) (mE (d + 4) 103 [vr_ (some 0), vi_ (nI i)] s) := by
  obtain ⟨hb1, hb2⟩ := hb
  rw [me_bin]
  refine w_pop h (by simp only [List.length_cons]; omega) (fun s1 h1 => ?_)
  refine w_pop h1 (by omega) (fun s2 h2 => ?_)
  rw [Rs_f h2 ht (by omega) (by omega), Option.bind_some]
  unfold bi_
  refine w_ite (fun hk1 => ?_) (fun hk0 => ?_)
  · repeat' first
      | with_reducible exact w_none
      | with_reducible exact w_ok (by assumption)
      | with_reducible refine w_push (by assumption) (by first | omega | (simp only [List.length_cons]; omega)) (fun s1 h1 => ?_)
      | with_reducible refine w_pop (by assumption) (by first | omega | (simp only [List.length_cons]; omega)) (fun s1 h1 => ?_)
      | with_reducible refine w_todoE (by assumption) (nlo_ _) rfl rfl (by first | omega | (simp only [List.length_cons]; omega)) (by decide) (by first | assumption | exact Rs_l (by assumption) | exact Rs_r (by assumption) | trivial) (fun s1 h1 => ?_)
      | with_reducible refine w_todoS (by assumption) (nlo_ _) rfl rfl (by first | omega | (simp only [List.length_cons]; omega)) (by decide) (by first | assumption | exact Rs_l (by assumption) | exact Rs_r (by assumption) | trivial) (by first | assumption | exact Rs_l (by assumption) | exact Rs_r (by assumption) | trivial) (fun s1 h1 => ?_)
      | with_reducible refine w_err (by assumption) (fun s1 h1 => ?_)
      | with_reducible refine w_burn (by assumption) (fun s1 h1 => ?_) (fun s1 q1 h1 => ?_)
      | with_reducible refine w_read (by assumption) (fun v1 s1 q1 h1 => ?_)
      | with_reducible refine w_write (by assumption) (fun s1 q1 h1 => ?_)
      | with_reducible refine w_word (by assumption) (by assumption) (fun w1 => ?_)
      | with_reducible refine w_nx (by assumption) (by first | assumption | exact Rs_l (by assumption) | exact Rs_r (by assumption) | trivial) (fun n1 hn1 => ?_)
      | with_reducible refine w_ch (by assumption) (by first | assumption | exact Rs_l (by assumption) | exact Rs_r (by assumption) | trivial) (fun n1 hn1 => ?_)
      | with_reducible refine w_aq (by assumption) zf98 (fun v1 => ?_)
      | with_reducible refine w_w (by assumption) zf98 (fun s1 q1 h1 => ?_)
      | with_reducible refine w_ite (fun hk1 => ?_) (fun hk0 => ?_)
      | contradiction
      | (exfalso; omega)
      | ((with_reducible refine w_okc (by assumption) ?_); rfl)
      | simp only [nI_1, show ¬ ((1 : Int32) = 0) by decide, show ¬ ((0 : Int32) = 1) by decide, if_true, if_false, eq_self_iff_true, Option.bind_some]
  refine w_ite (fun hk1 => ?_) (fun hk0 => ?_)
  · repeat' first
      | with_reducible exact w_none
      | with_reducible exact w_ok (by assumption)
      | with_reducible refine w_push (by assumption) (by first | omega | (simp only [List.length_cons]; omega)) (fun s1 h1 => ?_)
      | with_reducible refine w_pop (by assumption) (by first | omega | (simp only [List.length_cons]; omega)) (fun s1 h1 => ?_)
      | with_reducible refine w_todoE (by assumption) (nlo_ _) rfl rfl (by first | omega | (simp only [List.length_cons]; omega)) (by decide) (by first | assumption | exact Rs_l (by assumption) | exact Rs_r (by assumption) | trivial) (fun s1 h1 => ?_)
      | with_reducible refine w_todoS (by assumption) (nlo_ _) rfl rfl (by first | omega | (simp only [List.length_cons]; omega)) (by decide) (by first | assumption | exact Rs_l (by assumption) | exact Rs_r (by assumption) | trivial) (by first | assumption | exact Rs_l (by assumption) | exact Rs_r (by assumption) | trivial) (fun s1 h1 => ?_)
      | with_reducible refine w_err (by assumption) (fun s1 h1 => ?_)
      | with_reducible refine w_burn (by assumption) (fun s1 h1 => ?_) (fun s1 q1 h1 => ?_)
      | with_reducible refine w_read (by assumption) (fun v1 s1 q1 h1 => ?_)
      | with_reducible refine w_write (by assumption) (fun s1 q1 h1 => ?_)
      | with_reducible refine w_word (by assumption) (by assumption) (fun w1 => ?_)
      | with_reducible refine w_nx (by assumption) (by first | assumption | exact Rs_l (by assumption) | exact Rs_r (by assumption) | trivial) (fun n1 hn1 => ?_)
      | with_reducible refine w_ch (by assumption) (by first | assumption | exact Rs_l (by assumption) | exact Rs_r (by assumption) | trivial) (fun n1 hn1 => ?_)
      | with_reducible refine w_aq (by assumption) zf98 (fun v1 => ?_)
      | with_reducible refine w_w (by assumption) zf98 (fun s1 q1 h1 => ?_)
      | with_reducible refine w_ite (fun hk1 => ?_) (fun hk0 => ?_)
      | contradiction
      | (exfalso; omega)
      | ((with_reducible refine w_okc (by assumption) ?_); rfl)
      | simp only [nI_1, show ¬ ((1 : Int32) = 0) by decide, show ¬ ((0 : Int32) = 1) by decide, if_true, if_false, eq_self_iff_true, Option.bind_some]
  by_cases h24 : z 29 i = 24
  · rw [if_pos h24]
    by_cases h0 : b = 0
    · rw [if_pos h0, if_pos ⟨Or.inl h24, h0⟩]
      repeat' first
        | with_reducible exact w_none
        | with_reducible exact w_ok (by assumption)
        | with_reducible refine w_push (by assumption) (by first | omega | (simp only [List.length_cons]; omega)) (fun s1 h1 => ?_)
        | with_reducible refine w_pop (by assumption) (by first | omega | (simp only [List.length_cons]; omega)) (fun s1 h1 => ?_)
        | with_reducible refine w_todoE (by assumption) (nlo_ _) rfl rfl (by first | omega | (simp only [List.length_cons]; omega)) (by decide) (by first | assumption | exact Rs_l (by assumption) | exact Rs_r (by assumption) | trivial) (fun s1 h1 => ?_)
        | with_reducible refine w_todoS (by assumption) (nlo_ _) rfl rfl (by first | omega | (simp only [List.length_cons]; omega)) (by decide) (by first | assumption | exact Rs_l (by assumption) | exact Rs_r (by assumption) | trivial) (by first | assumption | exact Rs_l (by assumption) | exact Rs_r (by assumption) | trivial) (fun s1 h1 => ?_)
        | with_reducible refine w_err (by assumption) (fun s1 h1 => ?_)
        | with_reducible refine w_burn (by assumption) (fun s1 h1 => ?_) (fun s1 q1 h1 => ?_)
        | with_reducible refine w_read (by assumption) (fun v1 s1 q1 h1 => ?_)
        | with_reducible refine w_write (by assumption) (fun s1 q1 h1 => ?_)
        | with_reducible refine w_word (by assumption) (by assumption) (fun w1 => ?_)
        | with_reducible refine w_nx (by assumption) (by first | assumption | exact Rs_l (by assumption) | exact Rs_r (by assumption) | trivial) (fun n1 hn1 => ?_)
        | with_reducible refine w_ch (by assumption) (by first | assumption | exact Rs_l (by assumption) | exact Rs_r (by assumption) | trivial) (fun n1 hn1 => ?_)
        | with_reducible refine w_aq (by assumption) zf98 (fun v1 => ?_)
        | with_reducible refine w_w (by assumption) zf98 (fun s1 q1 h1 => ?_)
        | with_reducible refine w_ite (fun hk1 => ?_) (fun hk0 => ?_)
        | contradiction
        | (exfalso; omega)
        | ((with_reducible refine w_okc (by assumption) ?_); rfl)
        | simp only [nI_1, show ¬ ((1 : Int32) = 0) by decide, show ¬ ((0 : Int32) = 1) by decide, if_true, if_false, eq_self_iff_true, Option.bind_some]
    · rw [if_neg h0, if_neg (fun e => h0 e.2), h24]
      repeat' first
        | with_reducible exact w_none
        | with_reducible exact w_ok (by assumption)
        | with_reducible refine w_push (by assumption) (by first | omega | (simp only [List.length_cons]; omega)) (fun s1 h1 => ?_)
        | with_reducible refine w_pop (by assumption) (by first | omega | (simp only [List.length_cons]; omega)) (fun s1 h1 => ?_)
        | with_reducible refine w_todoE (by assumption) (nlo_ _) rfl rfl (by first | omega | (simp only [List.length_cons]; omega)) (by decide) (by first | assumption | exact Rs_l (by assumption) | exact Rs_r (by assumption) | trivial) (fun s1 h1 => ?_)
        | with_reducible refine w_todoS (by assumption) (nlo_ _) rfl rfl (by first | omega | (simp only [List.length_cons]; omega)) (by decide) (by first | assumption | exact Rs_l (by assumption) | exact Rs_r (by assumption) | trivial) (by first | assumption | exact Rs_l (by assumption) | exact Rs_r (by assumption) | trivial) (fun s1 h1 => ?_)
        | with_reducible refine w_err (by assumption) (fun s1 h1 => ?_)
        | with_reducible refine w_burn (by assumption) (fun s1 h1 => ?_) (fun s1 q1 h1 => ?_)
        | with_reducible refine w_read (by assumption) (fun v1 s1 q1 h1 => ?_)
        | with_reducible refine w_write (by assumption) (fun s1 q1 h1 => ?_)
        | with_reducible refine w_word (by assumption) (by assumption) (fun w1 => ?_)
        | with_reducible refine w_nx (by assumption) (by first | assumption | exact Rs_l (by assumption) | exact Rs_r (by assumption) | trivial) (fun n1 hn1 => ?_)
        | with_reducible refine w_ch (by assumption) (by first | assumption | exact Rs_l (by assumption) | exact Rs_r (by assumption) | trivial) (fun n1 hn1 => ?_)
        | with_reducible refine w_aq (by assumption) zf98 (fun v1 => ?_)
        | with_reducible refine w_w (by assumption) zf98 (fun s1 q1 h1 => ?_)
        | with_reducible refine w_worked (fun v1 => ?_)
        | with_reducible refine w_ite (fun hk1 => ?_) (fun hk0 => ?_)
        | contradiction
        | (exfalso; omega)
        | ((with_reducible refine w_okc (by assumption) ?_); rfl)
        | simp only [nI_1, show ¬ ((1 : Int32) = 0) by decide, show ¬ ((0 : Int32) = 1) by decide, if_true, if_false, eq_self_iff_true, Option.bind_some]
  rw [if_neg h24]
  by_cases h73 : z 29 i = 73
  · rw [if_pos h73]
    by_cases h0 : b = 0
    · rw [if_pos h0, if_pos ⟨Or.inr h73, h0⟩]
      repeat' first
        | with_reducible exact w_none
        | with_reducible exact w_ok (by assumption)
        | with_reducible refine w_push (by assumption) (by first | omega | (simp only [List.length_cons]; omega)) (fun s1 h1 => ?_)
        | with_reducible refine w_pop (by assumption) (by first | omega | (simp only [List.length_cons]; omega)) (fun s1 h1 => ?_)
        | with_reducible refine w_todoE (by assumption) (nlo_ _) rfl rfl (by first | omega | (simp only [List.length_cons]; omega)) (by decide) (by first | assumption | exact Rs_l (by assumption) | exact Rs_r (by assumption) | trivial) (fun s1 h1 => ?_)
        | with_reducible refine w_todoS (by assumption) (nlo_ _) rfl rfl (by first | omega | (simp only [List.length_cons]; omega)) (by decide) (by first | assumption | exact Rs_l (by assumption) | exact Rs_r (by assumption) | trivial) (by first | assumption | exact Rs_l (by assumption) | exact Rs_r (by assumption) | trivial) (fun s1 h1 => ?_)
        | with_reducible refine w_err (by assumption) (fun s1 h1 => ?_)
        | with_reducible refine w_burn (by assumption) (fun s1 h1 => ?_) (fun s1 q1 h1 => ?_)
        | with_reducible refine w_read (by assumption) (fun v1 s1 q1 h1 => ?_)
        | with_reducible refine w_write (by assumption) (fun s1 q1 h1 => ?_)
        | with_reducible refine w_word (by assumption) (by assumption) (fun w1 => ?_)
        | with_reducible refine w_nx (by assumption) (by first | assumption | exact Rs_l (by assumption) | exact Rs_r (by assumption) | trivial) (fun n1 hn1 => ?_)
        | with_reducible refine w_ch (by assumption) (by first | assumption | exact Rs_l (by assumption) | exact Rs_r (by assumption) | trivial) (fun n1 hn1 => ?_)
        | with_reducible refine w_aq (by assumption) zf98 (fun v1 => ?_)
        | with_reducible refine w_w (by assumption) zf98 (fun s1 q1 h1 => ?_)
        | with_reducible refine w_ite (fun hk1 => ?_) (fun hk0 => ?_)
        | contradiction
        | (exfalso; omega)
        | ((with_reducible refine w_okc (by assumption) ?_); rfl)
        | simp only [nI_1, show ¬ ((1 : Int32) = 0) by decide, show ¬ ((0 : Int32) = 1) by decide, if_true, if_false, eq_self_iff_true, Option.bind_some]
    · rw [if_neg h0, if_neg (fun e => h0 e.2), h73]
      repeat' first
        | with_reducible exact w_none
        | with_reducible exact w_ok (by assumption)
        | with_reducible refine w_push (by assumption) (by first | omega | (simp only [List.length_cons]; omega)) (fun s1 h1 => ?_)
        | with_reducible refine w_pop (by assumption) (by first | omega | (simp only [List.length_cons]; omega)) (fun s1 h1 => ?_)
        | with_reducible refine w_todoE (by assumption) (nlo_ _) rfl rfl (by first | omega | (simp only [List.length_cons]; omega)) (by decide) (by first | assumption | exact Rs_l (by assumption) | exact Rs_r (by assumption) | trivial) (fun s1 h1 => ?_)
        | with_reducible refine w_todoS (by assumption) (nlo_ _) rfl rfl (by first | omega | (simp only [List.length_cons]; omega)) (by decide) (by first | assumption | exact Rs_l (by assumption) | exact Rs_r (by assumption) | trivial) (by first | assumption | exact Rs_l (by assumption) | exact Rs_r (by assumption) | trivial) (fun s1 h1 => ?_)
        | with_reducible refine w_err (by assumption) (fun s1 h1 => ?_)
        | with_reducible refine w_burn (by assumption) (fun s1 h1 => ?_) (fun s1 q1 h1 => ?_)
        | with_reducible refine w_read (by assumption) (fun v1 s1 q1 h1 => ?_)
        | with_reducible refine w_write (by assumption) (fun s1 q1 h1 => ?_)
        | with_reducible refine w_word (by assumption) (by assumption) (fun w1 => ?_)
        | with_reducible refine w_nx (by assumption) (by first | assumption | exact Rs_l (by assumption) | exact Rs_r (by assumption) | trivial) (fun n1 hn1 => ?_)
        | with_reducible refine w_ch (by assumption) (by first | assumption | exact Rs_l (by assumption) | exact Rs_r (by assumption) | trivial) (fun n1 hn1 => ?_)
        | with_reducible refine w_aq (by assumption) zf98 (fun v1 => ?_)
        | with_reducible refine w_w (by assumption) zf98 (fun s1 q1 h1 => ?_)
        | with_reducible refine w_worked (fun v1 => ?_)
        | with_reducible refine w_ite (fun hk1 => ?_) (fun hk0 => ?_)
        | contradiction
        | (exfalso; omega)
        | ((with_reducible refine w_okc (by assumption) ?_); rfl)
        | simp only [nI_1, show ¬ ((1 : Int32) = 0) by decide, show ¬ ((0 : Int32) = 1) by decide, if_true, if_false, eq_self_iff_true, Option.bind_some]
  rw [if_neg h73, if_neg (fun e => e.1.elim h24 h73)]
  repeat' first
    | with_reducible exact w_none
    | with_reducible exact w_ok (by assumption)
    | with_reducible refine w_push (by assumption) (by first | omega | (simp only [List.length_cons]; omega)) (fun s1 h1 => ?_)
    | with_reducible refine w_pop (by assumption) (by first | omega | (simp only [List.length_cons]; omega)) (fun s1 h1 => ?_)
    | with_reducible refine w_todoE (by assumption) (nlo_ _) rfl rfl (by first | omega | (simp only [List.length_cons]; omega)) (by decide) (by first | assumption | exact Rs_l (by assumption) | exact Rs_r (by assumption) | trivial) (fun s1 h1 => ?_)
    | with_reducible refine w_todoS (by assumption) (nlo_ _) rfl rfl (by first | omega | (simp only [List.length_cons]; omega)) (by decide) (by first | assumption | exact Rs_l (by assumption) | exact Rs_r (by assumption) | trivial) (by first | assumption | exact Rs_l (by assumption) | exact Rs_r (by assumption) | trivial) (fun s1 h1 => ?_)
    | with_reducible refine w_err (by assumption) (fun s1 h1 => ?_)
    | with_reducible refine w_burn (by assumption) (fun s1 h1 => ?_) (fun s1 q1 h1 => ?_)
    | with_reducible refine w_read (by assumption) (fun v1 s1 q1 h1 => ?_)
    | with_reducible refine w_write (by assumption) (fun s1 q1 h1 => ?_)
    | with_reducible refine w_word (by assumption) (by assumption) (fun w1 => ?_)
    | with_reducible refine w_nx (by assumption) (by first | assumption | exact Rs_l (by assumption) | exact Rs_r (by assumption) | trivial) (fun n1 hn1 => ?_)
    | with_reducible refine w_ch (by assumption) (by first | assumption | exact Rs_l (by assumption) | exact Rs_r (by assumption) | trivial) (fun n1 hn1 => ?_)
    | with_reducible refine w_aq (by assumption) zf98 (fun v1 => ?_)
    | with_reducible refine w_w (by assumption) zf98 (fun s1 q1 h1 => ?_)
    | with_reducible refine w_worked (fun v1 => ?_)
    | with_reducible refine w_ite (fun hk1 => ?_) (fun hk0 => ?_)
    | contradiction
    | (exfalso; omega)
    | ((with_reducible refine w_okc (by assumption) ?_); rfl)
    | simp only [nI_1, show ¬ ((1 : Int32) = 0) by decide, show ¬ ((0 : Int32) = 1) by decide, if_true, if_false, eq_self_iff_true, Option.bind_some]
theorem r_rel0 (d : Nat) {k i : Nat} {v} {l nx : tr_} (h : RR z s (td, vs, fr, q)) (ht : Rs z (.inner k i v l nx)) (hb : td.length + 27000 ≤ 620000 ∧ vs.length + 10 ≤ 300000) : wq_ z (some (xE_ (.inner k i v l nx) :: xT_ 6 (.inner k i v l nx) 1 :: td, vs, fr, q)) (mE (d + 4) 104 [vr_ (some 0), vi_ (nI i), vi_ 0] s) := by
  obtain ⟨hb1, hb2⟩ := hb
  rw [me_rel, if_pos rfl]
  refine w_todoE (t := .inner k i v l nx) h (nlo_ _) rfl rfl (by omega) (by decide) ht (fun s1 h1 => ?_)
  refine w_todoE (t := .inner k i v l nx) h1 (nlo_ _) rfl rfl (by simp only [List.length_cons]; omega) (by decide) ht (fun s2 h2 => w_okc h2 rfl)
theorem r_rel1 (d : Nat) {k i : Nat} {v} {l nx : tr_} {a b y : Int32} (hy : ¬ y = 0) (h : RR z s (td, b :: a :: vs, fr, q)) (ht : Rs z (.inner k i v l nx)) (hb : td.length + 27000 ≤ 620000 ∧ vs.length + 10 ≤ 300000) : wq_ z (rq_ (rl_ (z 33 i) a b) nx b td vs fr q) (mE (d + 4) 104 [vr_ (some 0), vi_ (nI i), vi_ y] s) := by
  obtain ⟨hb1, hb2⟩ := hb
  rw [me_rel, if_neg hy]
  refine w_pop h (by simp only [List.length_cons]; omega) (fun s1 h1 => ?_)
  refine w_pop h1 (by omega) (fun s2 h2 => ?_)
  rw [Rs_f h2 ht (by omega) (by omega), Option.bind_some, show d + 3 = d + 2 + 1 from rfl, r_related, bI_s]
  simp only [zb_0]
  cases hr : rl_ (z 33 i) a b with
  | false =>
    simp only [if_true]
    cases nx <;> exact w_push h2 (by omega) (fun s3 h3 => w_okc h3 rfl)
  | true =>
    simp only [Bool.true_eq_false, if_false]
    rw [Rs_n h2 ht, Option.bind_some]
    cases nx with
    | leaf =>
      rw [if_pos (by decide)]
      exact w_push h2 (by omega) (fun s3 h3 => w_okc h3 rfl)
    | inner k2 j w2 l2 r2 =>
      have hj := (Rs_r ht).1.1
      rw [if_neg (show ¬ rt_ (.inner k2 j w2 l2 r2 : tr_) < 0 from nI_pos (by omega))]
      refine w_push h2 (by omega) (fun s3 h3 => ?_)
      rw [Rs_n h3 ht, Option.bind_some]
      refine w_todoE h3 (nlo_ _) rfl rfl (by omega) (by decide) (Rs_r ht) (fun s4 h4 => ?_)
      rw [Rs_n h4 ht, Option.bind_some]
      exact w_todoE h4 (nlo_ _) rfl rfl (by simp only [List.length_cons]; omega) (by decide) (Rs_r ht) (fun s5 h5 => w_okc h5 rfl)
end RRtask
