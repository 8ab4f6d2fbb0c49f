/-! ===== sections, variables, switches, calls: by gen/gen_rtask3.py ===== -/
section RRtask3
variable {z s q : mm_S} {td : List tqT} {vs : List Int32} {fr : List (Int32 × Int32)} {r : Option rs_t}
theorem w_w' {n f : Nat} {x y : Int32} {F : mm_S → Option rs_t} {k : mm_S → mm_O} (h : RR z s (td, vs, fr, q)) (hf : ∀ i, qf_ f i) (hk : ∀ s1 q1, RR z s1 (td, vs, fr, q1) → (∀ f' j, f' ≠ f → s1 f' j = s f' j) → wq_ z (F q1) (k s1)) : wq_ z ((mm_w n f x y q).bind F) ((mm_w n f x y s).bind k) := by
  unfold mm_w
  split
  · exact hk _ _ (RR_q h _ (hf _)) (fun f' j h => mu_n (fun e => h e.1))
  · exact w_none
theorem r_sec_36' (d : Nat) : ∀ (t : tr_), RR z s (td, vs, fr, q) → Rs z t → t ≠ .leaf → td.length < 620000 → wq_ z (some (xC_ (ls_r t) :: td, vs, fr, q)) (mJ (d + 1 + 1) 128 36 [vr_ (some 0), vi_ (rt_ t)] [] s)
  | .leaf, h, ht, h0, hl => absurd rfl h0
  | .inner k i v l .leaf, h, ht, h0, hl => by
    have e : mJ (d + 1 + 1) 128 36 [vr_ (some 0), vi_ (rt_ (.inner k i v l .leaf : tr_))] [] s = _ := mj_section_36 (d + 1) (nI i) s
    rw [e, Rs_n h ht, Option.bind_some, if_pos (show rt_ (.leaf : tr_) < 0 by decide)]
    exact w_todoE (t := .inner k i v l .leaf) h (nlo_ _) rfl rfl hl (by decide) ht (fun s1 h1 => w_okc h1 rfl)
  | .inner k i v l (.inner k2 i2 v2 l2 r2), h, ht, h0, hl => by
    have e : mJ (d + 1 + 1) 128 36 [vr_ (some 0), vi_ (rt_ (.inner k i v l (.inner k2 i2 v2 l2 r2) : tr_))] [] s = _ := mj_section_36 (d + 1) (nI i) s
    have hr := Rs_r ht
    have hi2 := hr.1.1
    rw [e, Rs_n h ht, Option.bind_some, if_neg (show ¬ rt_ (.inner k2 i2 v2 l2 r2 : tr_) < 0 from nI_pos (by omega)), Option.bind_some]
    exact r_sec_36' d (.inner k2 i2 v2 l2 r2) h hr (by simp) hl
theorem r_sec_36 (d : Nat) (t : tr_) (h : RR z s (td, vs, fr, q)) (ht : Rs z t) (h0 : ¬ kd_ t = 0) (hl : td.length < 620000) : wq_ z (some (xC_ (ls_r t) :: td, vs, fr, q)) (mJ (d + 1 + 1) 128 36 [vr_ (some 0), vi_ (rt_ t)] [] s) :=
  r_sec_36' d t h ht (fun e => h0 (by rw [e]; rfl)) hl
theorem fv_eq {k i : Nat} {v} {l r : tr_} : fv_ (.inner k i v l r) = (decide (k ≠ 58) && decide (k ≠ 59)) := rfl
theorem r_sec_128 (d : Nat) : ∀ (t : tr_) (xs : List tqT) (s : mm_S), RR z s (xs ++ td, vs, fr, q) → Rs z t → xs.length + (fs_ t).length + td.length + 10 ≤ 620000 → vs.length + 10 ≤ 300000 →
    wq_ z (some (xs.reverse ++ (((fs_ t).filter fv_).map xE_ ++ td), vs, fr, q)) (mJ (d + 1 + 1) 128 128 [vr_ (some 0), vi_ (nI td.length), vi_ (rt_ t)] [] s) := by
  intro t
  induction t with
  | leaf =>
    intro xs s h hc hl hv
    have e : mJ (d + 1 + 1) 128 128 [vr_ (some 0), vi_ (nI td.length), vi_ (rt_ (.leaf : tr_))] [] s = _ := mj_section_128 (d + 1) _ _ s
    rw [e, if_pos (show rt_ (.leaf : tr_) < 0 by decide)]
    simp only [fs_, List.length_nil, List.filter_nil, List.map_nil, List.nil_append] at hl ⊢
    cases xs with
    | nil =>
      have h : RR z s (td, vs, fr, q) := h
      exact w_turn0 h (by omega) (fun s3 h3 => w_okc h3 (by simp))
    | cons x xs => exact w_turn (n := 0) h rfl (by omega) (by simp) (fun s3 h3 => w_ok h3)
  | inner k2 i2 v2 l2 r2 _ ih =>
    intro xs s h hc hl hv
    have e : mJ (d + 1 + 1) 128 128 [vr_ (some 0), vi_ (nI td.length), vi_ (rt_ (.inner k2 i2 v2 l2 r2 : tr_))] [] s = _ := mj_section_128 (d + 1) _ (nI i2) s
    have hi2 := hc.1.1
    have kk : ∀ c, c < 2 ^ 31 → (nI k2 = (OfNat.ofNat c : Int32)) = (k2 = c) := fun c hc2 => neq1_ c (by have := hc.1.2; omega) hc2
    rw [e, if_neg (show ¬ nI i2 < 0 from nI_pos (by omega)), Rs_k h hc, Option.bind_some, Option.bind_some, Rs_n h hc, Option.bind_some]
    simp only [kk 58 (by decide), kk 59 (by decide)]
    simp only [fs_, List.length_cons] at hl
    by_cases h58 : k2 = 58
    · rw [if_pos h58]
      have : (fs_ (.inner k2 i2 v2 l2 r2 : tr_)).filter fv_ = (fs_ r2).filter fv_ := by
        rw [fs_, List.filter_cons_of_neg (by rw [fv_eq]; simp [h58])]
      rw [this]
      exact ih xs s h (Rs_r hc) (by omega) hv
    rw [if_neg h58]
    by_cases h59 : k2 = 59
    · rw [if_pos h59]
      have : (fs_ (.inner k2 i2 v2 l2 r2 : tr_)).filter fv_ = (fs_ r2).filter fv_ := by
        rw [fs_, List.filter_cons_of_neg (by rw [fv_eq]; simp [h59])]
      rw [this]
      exact ih xs s h (Rs_r hc) (by omega) hv
    rw [if_neg h59]
    have : (fs_ (.inner k2 i2 v2 l2 r2 : tr_)).filter fv_ = .inner k2 i2 v2 l2 r2 :: (fs_ r2).filter fv_ := by
      rw [fs_, List.filter_cons_of_pos (by rw [fv_eq]; simp [h58, h59])]
    rw [this]
    refine w_todoE (t := .inner k2 i2 v2 l2 r2) h (nlo_ _) rfl rfl (by simp only [List.length_append]; omega) (by decide) hc (fun s1 h1 => ?_)
    rw [Rs_n h1 hc, Option.bind_some]
    have h1 : RR z s1 ((xT_ 1 (.inner k2 i2 v2 l2 r2) 0 :: xs) ++ td, vs, fr, q) := h1
    have := ih (xT_ 1 (.inner k2 i2 v2 l2 r2) 0 :: xs) s1 h1 (Rs_r hc) (by simp only [List.length_cons]; omega) hv
    simp only [List.reverse_cons, List.append_assoc, List.singleton_append] at this
    exact this
/-- how many of a row are worked values -/
theorem r_var_12 (d : Nat) {i : Nat} (h : RR z s (td, vs, fr, q)) : ∀ (t : tr_), Rs z t → ∀ a b, ∃ m, mJ (d + 1) 129 12 [vr_ (some 0), vi_ (nI i), vi_ (nI a), vi_ (nI b), vi_ (rt_ t)] [] s = mJ (d + 1) 129 12 [vr_ (some 0), vi_ (nI i), vi_ (nI m), vi_ (nI (b + ((fs_ t).filter fv_).length)), vi_ (-1)] [] s := by
  intro t
  induction t with
  | leaf => intro _ a b; exact ⟨a, rfl⟩
  | inner k2 i2 v2 l2 r2 _ ih =>
    intro hc a b
    have e : mJ (d + 1) 129 12 [vr_ (some 0), vi_ (nI i), vi_ (nI a), vi_ (nI b), vi_ (rt_ (.inner k2 i2 v2 l2 r2 : tr_))] [] s = _ := mj_variables_12 d _ _ _ (nI i2) s
    have hi2 := hc.1.1
    have kk : ∀ c, c < 2 ^ 31 → (nI k2 = (OfNat.ofNat c : Int32)) = (k2 = c) := fun c hc2 => neq1_ c (by have := hc.1.2; omega) hc2
    rw [e, if_neg (show ¬ nI i2 < 0 from nI_pos (by omega)), Rs_k h hc, Option.bind_some, Option.bind_some, Rs_n h hc, Option.bind_some, nI_1, nI_1]
    simp only [kk 58 (by decide), kk 59 (by decide)]
    by_cases h58 : k2 = 58
    · rw [if_pos h58]
      have : (fs_ (.inner k2 i2 v2 l2 r2 : tr_)).filter fv_ = (fs_ r2).filter fv_ := by
        rw [fs_, List.filter_cons_of_neg (by rw [fv_eq]; simp [h58])]
      rw [this]
      exact ih (Rs_r hc) (a + 1) b
    rw [if_neg h58]
    by_cases h59 : k2 = 59
    · rw [if_pos h59]
      have : (fs_ (.inner k2 i2 v2 l2 r2 : tr_)).filter fv_ = (fs_ r2).filter fv_ := by
        rw [fs_, List.filter_cons_of_neg (by rw [fv_eq]; simp [h59])]
      rw [this]
      exact ih (Rs_r hc) a b
    rw [if_neg h59]
    have : ((fs_ (.inner k2 i2 v2 l2 r2 : tr_)).filter fv_).length = ((fs_ r2).filter fv_).length + 1 := by
      rw [fs_, List.filter_cons_of_pos (by rw [fv_eq]; simp [h58, h59]), List.length_cons]
    rw [this, show b + (((fs_ r2).filter fv_).length + 1) = b + 1 + ((fs_ r2).filter fv_).length by omega]
    exact ih (Rs_r hc) a (b + 1)
theorem r_var_91 (d : Nat) {w : Nat} (hw : w ≤ vs.length) (hv : vs.length < 300000) : ∀ (t : tr_) (as : List Int32) (p : Nat) (at0 : Int32) (s q : mm_S), RR z s (td, vs, fr, q) → Rs z t → p + as.length ≤ vs.length → (∀ j v, as[j]? = some v → s 92 (p + j) = v) →
    wq_ z ((vb_ z (fs_ t) at0 as q).bind fun q => some (td, vs.drop w, fr, q)) (mJ (d + 1) 129 91 [vr_ (some 0), vi_ (nI w), vi_ (nI p), vi_ at0, vi_ (rt_ t)] [] s) := by
  intro t
  induction t with
  | leaf =>
    intro as p at0 s q h _ hp ha
    have e : mJ (d + 1) 129 91 [vr_ (some 0), vi_ (nI w), vi_ (nI p), vi_ at0, vi_ (rt_ (.leaf : tr_))] [] s = _ := mj_variables_91 d _ _ _ _ s
    rw [e, if_pos (show rt_ (.leaf : tr_) < 0 by decide), h.2.2.1.2.1, nsb_ hw]
    have := RR_vs (vs' := vs.drop w) h (VS_drop w h.2.2.2.2.1)
    rw [List.length_drop] at this
    exact w_ok this
  | inner k2 i2 v2 l2 r2 _ ih =>
    intro as p at0 s q h hc hp ha
    have e : mJ (d + 1) 129 91 [vr_ (some 0), vi_ (nI w), vi_ (nI p), vi_ at0, vi_ (rt_ (.inner k2 i2 v2 l2 r2 : tr_))] [] s = _ := mj_variables_91 d _ _ _ (nI i2) s
    have hi2 := hc.1.1
    have kk : ∀ c, c < 2 ^ 31 → (nI k2 = (OfNat.ofNat c : Int32)) = (k2 = c) := fun c hc2 => neq1_ c (by have := hc.1.2; omega) hc2
    rw [e, if_neg (show ¬ nI i2 < 0 from nI_pos (by omega)), Rs_k h hc, Option.bind_some, Option.bind_some, Rs_n h hc, Option.bind_some, nI_1]
    simp only [kk 58 (by decide), kk 59 (by decide)]
    rw [fs_]
    unfold vb_
    rw [show kd_ (.inner k2 i2 v2 l2 r2 : tr_) = k2 from rfl, show rt_ (.inner k2 i2 v2 l2 r2 : tr_) = nI i2 from rfl]
    by_cases h58 : k2 = 58
    · rw [if_pos h58, if_pos h58]
      exact ih as p at0 s q h (Rs_r hc) hp ha
    rw [if_neg h58, if_neg h58]
    by_cases h59 : k2 = 59
    · rw [if_pos h59, if_pos h59, Rs_f h hc (by omega) (by omega), mm_a_n hc.1.1 (by decide), Option.bind_some, Option.bind_some, RR_qq h (f := 0) (i := 96) (by unfold qf_; omega)]
      rw [Option.bind_assoc]
      refine w_w' h zf98 (fun s1 q1 h1 f1 => ?_)
      rw [Rs_n h1 hc, Option.bind_some]
      exact ih as p (at0 + 1) s1 q1 h1 (Rs_r hc) hp (fun j v hj => (f1 _ _ (by decide)).trans (ha j v hj))
    rw [if_neg h59, if_neg h59]
    cases as with
    | nil => exact w_none
    | cons v as =>
      simp only [List.length_cons] at hp
      rw [mm_a_n (by omega) (by decide), Option.bind_some, show s 92 p = v from ha 0 v (by simp)]
      dsimp only
      rw [Option.bind_assoc]
      refine w_w' h zf98 (fun s1 q1 h1 f1 => ?_)
      rw [Rs_n h1 hc, Option.bind_some]
      refine ih as (p + 1) (at0 + 1) s1 q1 h1 (Rs_r hc) (by omega) (fun j v hj => ?_)
      rw [f1 _ _ (by decide), ← ha (j + 1) v (by simpa using hj)]
      congr 1
      omega
set_option maxRecDepth 8000 in
set_option maxHeartbeats 1000000 in
theorem r_section (d : Nat) (t u : tr_) (h : RR z s (td, vs, fr, q)) (ht : Rs z t) (hu : Rs z u) (hb : td.length + 27000 ≤ 620000 ∧ vs.length + 10 ≤ 300000) : wq_ z (se_ t u td vs fr q) (mE (d + 4) 128 [vr_ (some 0), vi_ (rt_ t), vi_ (rt_ u)] s) := by
  obtain ⟨hb1, hb2⟩ := hb
  cases u with
  | leaf =>
    rw [me_section, if_pos (show rt_ (.leaf : tr_) < 0 by decide)]
    exact w_ok h
  | inner k i v l nx =>
    have kk : ∀ c, c < 2 ^ 31 → (nI k = (OfNat.ofNat c : Int32)) = (k = c) := fun c hc => neq1_ c (by have := hu.1.2; omega) hc
    have hi := hu.1.1
    rw [show rt_ (.inner k i v l nx : tr_) = nI i from rfl, me_section, if_neg (nI_pos (by omega)), Rs_n h hu, Option.bind_some]
    dsimp only [se_]
    by_cases h41 : k = 41
    · rw [if_pos h41]
      by_cases h0 : kd_ l = 0
      · rw [if_pos h0]; exact w_none
      rw [if_neg h0]
      refine w_todoS h (nlo_ _) rfl rfl (by omega) (by decide) ht (Rs_r hu) (fun s1 h1 => ?_)
      rw [Rs_k h1 hu, Option.bind_some, if_pos (show nI k = 41 by rw [h41]; rfl), Rs_c h1 hu, Option.bind_some]
      exact r_sec_36 (d + 2) l h1 (Rs_l hu) h0 (by simp only [List.length_cons]; omega)
    rw [if_neg h41]
    by_cases h53 : k = 53
    · rw [if_pos h53]
      cases l with
      | leaf => exact w_none
      | inner k2 i2 v2 l2 r2 =>
        have hl := Rs_l hu
        have kk2 : ∀ c, c < 2 ^ 31 → (nI k2 = (OfNat.ofNat c : Int32)) = (k2 = c) := fun c hc => neq1_ c (by have := hl.1.2; omega) hc
        refine w_todoS h (nlo_ _) rfl rfl (by omega) (by decide) ht (Rs_r hu) (fun s1 h1 => ?_)
        rw [Rs_k h1 hu, Option.bind_some, if_neg (show ¬ nI k = 41 by rw [kk 41 (by decide)]; exact h41), Option.bind_some, if_pos (show nI k = 53 by rw [h53]; rfl), Rs_c h1 hu, Option.bind_some, show rt_ (.inner k2 i2 v2 l2 r2 : tr_) = nI i2 from rfl, Rs_k h1 hl, Option.bind_some]
        simp only [kk2 55 (by decide)]
        refine w_ite (fun h55 => ?_) (fun h55 => w_ok h1)
        refine w_burn h1 (fun s2 h2 => ?_) (fun s2 q2 h2 => ?_)
        · rw [if_pos rfl]; exact w_ok h2
        rw [if_neg (c := (1 : Int32) = 0) (by decide), Rs_c h2 hu, Option.bind_some]
        by_cases hfl : (fs_ l2).length ≤ 26000
        case neg => rw [if_neg hfl]; exact w_none
        rw [if_pos hfl]
        refine w_todoE (t := .inner k2 i2 v2 l2 r2) h2 (nlo_ _) rfl rfl (by simp only [List.length_cons]; omega) (by decide) hl (fun s3 h3 => ?_)
        rw [show rt_ (.inner k2 i2 v2 l2 r2 : tr_) = nI i2 from rfl, Rs_c h3 hl, Option.bind_some, h3.2.2.1.1]
        have := r_sec_128 (d + 2) l2 [] s3 h3 (Rs_l hl) (by simp only [List.length_nil, List.length_cons]; omega) (by omega)
        simp only [List.reverse_nil, List.nil_append] at this
        exact this
    rw [if_neg h53]
    refine w_todoS h (nlo_ _) rfl rfl (by omega) (by decide) ht (Rs_r hu) (fun s1 h1 => ?_)
    rw [Rs_k h1 hu, Option.bind_some, if_neg (show ¬ nI k = 41 by rw [kk 41 (by decide)]; exact h41), Option.bind_some, if_neg (show ¬ nI k = 53 by rw [kk 53 (by decide)]; exact h53)]
    exact w_ok h1
set_option maxRecDepth 8000 in
set_option maxHeartbeats 1000000 in
theorem r_variables (d : Nat) (t : tr_) (h : RR z s (td, vs, fr, q)) (ht : Rs z t) (hb : td.length + 27000 ≤ 620000 ∧ vs.length + 10 ≤ 300000) : wq_ z (va_r z t td vs fr q) (mE (d + 2) 129 [vr_ (some 0), vi_ (rt_ t)] s) := by
  obtain ⟨hb1, hb2⟩ := hb
  cases t with
  | leaf => exact w_none
  | inner k i v l nx =>
    rw [show rt_ (.inner k i v l nx : tr_) = nI i from rfl, me_variables, Rs_c h ht, Option.bind_some]
    dsimp only [va_r]
    by_cases hw : ((fs_ l).filter fv_).length ≤ vs.length
    case neg => rw [if_neg hw]; exact w_none
    rw [if_pos hw]
    obtain ⟨m, e⟩ := r_var_12 (d + 1) (i := i) h l (Rs_l ht) 0 0
    rw [show mJ (d + 1 + 1) 129 12 [vr_ (some 0), vi_ (nI i), vi_ 0, vi_ 0, vi_ (rt_ l)] [] s = _ from e, Nat.zero_add, mj_variables_12, if_pos (by decide), Rs_f h ht (by omega) (by omega), Option.bind_some, Rs_c h ht, Option.bind_some, h.2.2.1.2.1, nsb_ hw, RR_qq h (f := 0) (i := 96) (by unfold qf_; omega)]
    refine r_var_91 (d + 1) (w := ((fs_ l).filter fv_).length) hw (by omega) l (vs.take ((fs_ l).filter fv_).length).reverse (vs.length - ((fs_ l).filter fv_).length) (q 0 96 + z 30 i) s q h (Rs_l ht) (by rw [List.length_reverse, List.length_take]; omega) (fun j v1 hj => ?_)
    have hj2 := (List.getElem?_eq_some_iff.mp hj).1
    rw [List.length_reverse, List.length_take] at hj2
    rw [List.getElem?_reverse (by rw [List.length_take]; omega), List.getElem?_take_of_lt (by rw [List.length_take]; omega)] at hj
    rw [← VS_at h.2.2.2.2.1 hj]
    congr 1
    rw [List.length_take]
    omega
end RRtask3
