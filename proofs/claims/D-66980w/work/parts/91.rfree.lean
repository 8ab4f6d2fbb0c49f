/-! ===== a vector is given back; the library's calls; a run ===== -/
section RRfree
variable {z s q : mm_S} {td : List tqT} {vs : List Int32} {fr : List (Int32 × Int32)} {r : Option rs_t}
theorem m_fv_55 (d : Nat) {n : Nat} (hn : n < 100) : ∀ m j (s : mm_S), j + m = n → s 0 106 = nI n →
    ∃ s', mJ (d + 1) 119 55 [vr_ (some 0), vi_ (nI j)] [] s = some (none, s') ∧ (∀ f i, ¬ (f = 107 ∨ f = 108) → s' f i = s f i) ∧ (∀ f i, f = 107 ∨ f = 108 → (i < j ∨ n ≤ i) → s' f i = s f i) ∧ (∀ f i, f = 107 ∨ f = 108 → j ≤ i → i < n → s' f i = s f (i + 1)) := by
  intro m
  induction m with
  | zero =>
    intro j s hj h106
    rw [mj_freeVector_55, h106, if_neg (nI_nlt (by omega) (by omega))]
    exact ⟨s, rfl, fun _ _ _ => rfl, fun _ _ _ _ => rfl, fun f i _ _ _ => by omega⟩
  | succ m ih =>
    intro j s hj h106
    rw [mj_freeVector_55, h106, if_pos (nI_lt (by omega) (by omega)), nI_1, mm_a_n (by omega) (by decide), Option.bind_some, mm_w_n (by omega) (by decide), Option.bind_some, mm_a_n (by omega) (by decide), Option.bind_some, mm_w_n (by omega) (by decide), Option.bind_some]
    obtain ⟨s', g1, g2, g3, g4⟩ := ih (j + 1) (mm_u (mm_u s 107 j (s 107 (j + 1))) 108 j (mm_u s 107 j (s 107 (j + 1)) 108 (j + 1))) (by omega) (by rw [mu_n (by omega), mu_n (by omega), h106])
    refine ⟨s', g1, fun f i h1 => ?_, fun f i h1 h2 => ?_, fun f i h1 h2 h3 => ?_⟩
    · rw [g2 f i h1, mu_n (by omega), mu_n (by omega)]
    · rw [g3 f i h1 (by omega), mu_n (by omega), mu_n (by omega)]
    · by_cases hij : i = j
      · subst hij
        rw [g3 f i h1 (by omega)]
        rcases h1 with rfl | rfl
        · rw [mu_n (by omega), mu_s]
        · rw [mu_s, mu_n (by omega)]
      · rw [g4 f i h1 (by omega) h3, mu_n (by omega), mu_n (by omega)]
theorem m_fv_7 (d : Nat) {n : Nat} {v : Int32} (hn : n ≤ 100) (h106 : s 0 106 = nI n) : ∀ (l : List (Int32 × Int32)) (j : Nat), j + l.length = n → (∀ i x, l[i]? = some x → s 107 (j + i) = x.1) → mJ (d + 1) 119 7 [vr_ (some 0), vi_ v, vi_ (nI j)] [] s = mJ (d + 1) 119 31 [vr_ (some 0), vi_ (nI (j + ix_g v l))] [] s := by
  intro l
  induction l with
  | nil =>
    intro j hj _
    simp at hj
    subst hj
    rw [mj_freeVector_7, h106, if_neg (nI_nlt (Nat.le_refl _) (by omega))]
    rfl
  | cons x l ih =>
    intro j hj hx
    simp only [List.length_cons] at hj
    have h0 : s 107 j = x.1 := hx 0 x (by simp)
    rw [mj_freeVector_7, h106, if_pos (nI_lt (by omega) (by omega)), mm_a_n (by omega) (by decide), Option.bind_some, h0]
    unfold ix_g
    by_cases hc : x.1 = v
    · rw [if_pos hc, if_pos hc]; rfl
    · rw [if_neg hc, if_neg hc, nI_1, ih (j + 1) (by omega) (fun i y hy => by rw [show j + 1 + i = j + (i + 1) by omega]; exact hx (i + 1) y (by simpa using hy))]
      rw [show j + 1 + ix_g v l = j + (ix_g v l + 1) by omega]
theorem ix_le (v : Int32) : ∀ l : List (Int32 × Int32), ix_g v l ≤ l.length
  | [] => Nat.le_refl _
  | x :: l => by
    unfold ix_g
    have := ix_le v l
    split <;> simp <;> omega
theorem w_fv (d : Nat) {a : Int32} {G : mm_S → Option rs_t} {k : mm_S → mm_O} (h : RR z s (td, vs, fr, q)) (hk : ∀ s1 q1, RR z s1 (td, vs, fr, q1) → wq_ z (G q1) (k s1)) : wq_ z ((fv_r a q).bind G) (mm_bV (mE (d + 1 + 1) 119 [vr_ (some 0), vi_ a] s) k) := by
  have e106 := RR_qq h (f := 0) (i := 106) (by unfold qf_; omega)
  rw [me_freeVector]
  unfold fv_r
  by_cases h1 : a = 0
  · rw [if_pos h1, if_pos h1]; exact hk s q h
  rw [if_neg h1, if_neg h1]
  by_cases h3 : q 0 106 < 0
  · rw [if_pos h3]; exact w_none
  rw [if_neg h3]
  by_cases h4 : 100 < q 0 106
  · rw [if_pos h4]; exact w_none
  rw [if_neg h4]
  obtain ⟨en, en2⟩ := clamp_nI _ h3
  have hn : (q 0 106).toNatClampNeg ≤ 100 := by
    generalize (q 0 106).toNatClampNeg = n at en en2
    rw [en, show (100 : Int32) = nI 100 from rfl, nlt_ (by decide) en2] at h4
    omega
  generalize (q 0 106).toNatClampNeg = n at en en2 hn
  obtain ⟨gl, ga⟩ := gs_at en hn
  have s106 : s 0 106 = nI n := e106.trans en
  have hil := ix_le a (gs_ q)
  have e7 := m_fv_7 (d + 1) (v := a) hn s106 (gs_ q) 0 (by omega) (fun i x hx => by
    have hi : i < n := by have := (List.getElem?_eq_some_iff.mp hx).1; omega
    rw [ga i hi] at hx
    cases hx
    rw [Nat.zero_add]
    exact RR_qq h (qf_a (by omega) (by omega) _))
  have e7 : mJ (d + 1 + 1) 119 7 [vr_ (some 0), vi_ a, vi_ 0] [] s = _ := e7
  rw [e7, Nat.zero_add, mj_freeVector_31, s106]
  simp only [neq_ (show ix_g a (gs_ q) < 2 ^ 31 by omega) (show n < 2 ^ 31 by omega), gl]
  by_cases hc : ix_g a (gs_ q) = n
  · rw [if_pos hc, if_pos hc, bV_as]
    exact w_err h (fun s1 h1 => hk _ _ h1)
  · rw [if_neg hc, if_neg hc]
    have ej : (nI n - 1 : Int32) = nI (n - 1) := nsb_ (a := n) (b := 1) (by omega)
    obtain ⟨s', g1, g2, g3, g4⟩ := m_fv_55 (d + 1) (n := n - 1) (by omega) (n - 1 - ix_g a (gs_ q)) (ix_g a (gs_ q)) (mm_u s 0 106 (nI (n - 1))) (by omega) mu_s
    rw [ej, g1]
    generalize hp : ix_g a (gs_ q) = p at *
    have hel : ((gs_ q).eraseIdx p).length = n - 1 := by rw [List.length_eraseIdx_of_lt (by omega), gl]
    refine hk s' _ (RR_gs h s' (fun f i a1 a2 => ?_) ?_ (fun i => ?_) (fun i => ?_))
    · rw [g2 f i a1, mu_n a2]
    · rw [g2 _ _ (by decide), mu_s, hel]
    all_goals
      by_cases h1 : i < p
      · rw [g3 _ i (by decide) (Or.inl h1), mu_n (by omega), List.getElem?_eraseIdx_of_lt h1, ga i (by omega), RR_qq h (qf_a (by omega) (by omega) _)]
      · by_cases h2 : i < n - 1
        · rw [g4 _ i (by decide) (by omega) h2, mu_n (by omega), List.getElem?_eraseIdx_of_ge (by omega), ga (i + 1) (by omega), RR_qq h (qf_a (by omega) (by omega) _)]
        · rw [g3 _ i (by decide) (Or.inr (by omega)), mu_n (by omega), List.getElem?_eq_none (by omega), RR_qq h (qf_a (by omega) (by omega) _)]
theorem w_toV (d : Nat) (rb : Nat → tr_) (hrb : ∀ j, j < 3100 → z 72 j = rt_ (rb j) ∧ Rs z (rb j)) {f n at0 : Int32} (h : RR z s (td, vs, fr, q)) (hf : fr.length ≤ 100) (hb : td.length + 27000 ≤ 620000 ∧ vs.length + 10 ≤ 300000) : wq_ z (tv_ z rb f n at0 td vs fr q) (mE (d + 4) 120 [vr_ (some 0), vi_ f, vi_ n, vi_ at0] s) := by
  obtain ⟨hb1, hb2⟩ := hb
  rw [me_toVector]
  have c51 : ∀ (y : Bool), y = decide (2000000 ≤ f ∧ f < 2000018) → (y = true ∨ (1000000 ≤ f ∧ f < 1000000 + z 0 69)) → wq_ z (tv_ z rb f n at0 td vs fr q) (mJ (d + 3 + 1) 120 51 [vr_ (some 0), vi_ f, vi_ n, vi_ at0, vi_ (zb_ y)] [] s) := fun y hy hy2 => by
    rw [mj_toVector_51, RR_z h (f := 0) (i := 99) (by unfold zf_; omega)]
    unfold tv_
    rw [if_neg (by
      rintro ⟨a, b⟩
      rcases hy2 with e | e
      · rw [e] at hy; exact a (of_decide_eq_true hy.symm)
      · exact b e)]
    by_cases h1 : n < 0
    · rw [if_pos h1, if_pos h1]
      exact w_err h (fun s1 h1 => w_ok h1)
    rw [if_neg h1, if_neg h1]
    by_cases h2 : n < z 0 99
    · rw [if_pos h2, if_pos h2]
      refine w_push h (by omega) (fun s1 h1 => ?_)
      refine w_push h1 (by simp only [List.length_cons]; omega) (fun s2 h2 => ?_)
      simp only [zb_0]
      cases y with
      | false =>
        rw [if_neg (of_decide_eq_false hy.symm), if_pos rfl]
        exact w_bVn (r_enter d rb (f - 1000000) (at0 + n + 1) 2 hrb h2 hf ⟨hb1, by simp only [List.length_cons]; omega⟩)
      | true =>
        rw [if_pos (of_decide_eq_true hy.symm), if_neg (by decide)]
        refine w_limit h2 (fun li => ?_)
        by_cases h3 : li < at0 + n + 1
        · rw [if_pos h3, if_pos h3]
          exact w_err h2 (fun s1 h1 => w_ok h1)
        · rw [if_neg h3, if_neg h3]
          exact w_todo (g := 23) (t := .leaf) (u := .leaf) (x := f - 2000000) (y := at0 + n + 1) h2 rfl rfl rfl (by omega) (by decide) trivial trivial (fun s4 h4 => w_ok h4)
    · rw [if_neg h2, if_neg h2]
      exact w_err h (fun s1 h1 => w_ok h1)
  have c19 : ¬ (2000000 ≤ f ∧ f < 2000018) → wq_ z (tv_ z rb f n at0 td vs fr q) (mJ (d + 3 + 1) 120 19 [vr_ (some 0), vi_ f, vi_ n, vi_ at0] [vi_ 0] s) := fun hn => by
    rw [mj_toVector_19, if_pos rfl, RR_z h (f := 0) (i := 69) (by unfold zf_; omega)]
    have bad : ¬ (1000000 ≤ f ∧ f < 1000000 + z 0 69) → wq_ z (tv_ z rb f n at0 td vs fr q) (mm_bV (mE (d + 3) 93 [vr_ (some 0), vi_ 4] s) fun s1 => some (none, s1)) := fun hb => by
      unfold tv_
      rw [if_pos ⟨hn, hb⟩]
      exact w_err h (fun s1 h1 => w_ok h1)
    by_cases c1 : f < 1000000
    · rw [if_pos c1]
      exact bad (fun e => absurd e.1 (Int32.not_le.mpr c1))
    rw [if_neg c1]
    by_cases c2 : f < 1000000 + z 0 69
    · rw [if_pos c2]
      exact c51 false (by simp only [hn, decide_false]) (Or.inr ⟨Int32.not_lt.mp c1, c2⟩)
    · rw [if_neg c2]
      exact bad (fun e => c2 e.2)
  by_cases c1 : f < 2000000
  · rw [if_pos c1]
    exact c19 (fun e => absurd e.1 (Int32.not_le.mpr c1))
  rw [if_neg c1]
  by_cases c2 : f < 2000018
  · rw [if_pos c2, mj_toVector_19, if_neg (by decide)]
    exact c51 true (by rw [decide_eq_true ⟨Int32.not_lt.mp c1, c2⟩]) (Or.inl rfl)
  · rw [if_neg c2]
    exact c19 (fun e => c2 e.2)
theorem r_arg (d k many : Nat) (h : RR z s (td, vs, fr, q)) (hk : k < 2 ^ 31) (hm : many ≤ vs.length) (hv : vs.length ≤ 300000) : mE (d + 1) 108 [vr_ (some 0), vi_ (nI k), vi_ (nI many)] s = some (some (vi_ (ag_ k many vs)), s) := by
  rw [me_arg]
  simp only [nlt_ hk (show many < 2 ^ 31 by omega)]
  unfold ag_
  by_cases hc : k < many
  · have hlt : many - 1 - k < vs.length := by omega
    rw [if_pos hc, if_pos hc, h.2.2.1.2.1, nsb_ hm, nI_add, mm_a_n (by omega) (by decide), Option.bind_some, List.getElem?_eq_getElem hlt]
    have := VS_at h.2.2.2.2.1 (List.getElem?_eq_getElem hlt)
    rw [Option.getD_some, show vs.length - many + k = vs.length - 1 - (many - 1 - k) by omega, this]
  · rw [if_neg hc, if_neg hc]
theorem RR_drop (h : RR z s (td, vs, fr, q)) {many : Nat} (hm : many ≤ vs.length) : RR z (mm_u s 0 91 (s 0 91 - nI many)) (td, vs.drop many, fr, q) := by
  rw [h.2.2.1.2.1, nsb_ hm]
  have := RR_vs (vs' := vs.drop many) h (VS_drop many h.2.2.2.2.1)
  rw [List.length_drop] at this
  exact this
theorem nI_and255 (x : Int32) : ¬ (x &&& 255) < 0 ∧ (x &&& 255).toNatClampNeg < 256 := by
  have h : (x &&& 255).toBitVec.toNat < 256 := by
    have : (x &&& 255).toBitVec = x.toBitVec &&& 255#32 := rfl
    rw [this, BitVec.toNat_and]
    exact Nat.lt_of_le_of_lt Nat.and_le_right (by decide)
  have hi : (x &&& 255).toInt = ((x &&& 255).toBitVec.toNat : Int) := by
    show (x &&& 255).toBitVec.toInt = _
    rw [BitVec.toInt_eq_toNat_cond, if_pos (by omega)]
  refine ⟨fun hc => ?_, ?_⟩
  · have := Int32.lt_iff_toInt_lt.mp hc
    rw [hi] at this
    simp at this
    omega
  · show (x &&& 255).toInt.toNat < 256
    rw [hi]
    omega
set_option maxRecDepth 8000 in
theorem r_lib (d : Nat) (rb : Nat → tr_) (hrb : ∀ j, j < 3100 → z 72 j = rt_ (rb j) ∧ Rs z (rb j)) (f : Int32) (many : Nat) (at0 : Int32) (h : RR z s (td, vs, fr, q)) (hf : fr.length ≤ 100) (hb : td.length + 27000 ≤ 620000 ∧ vs.length + 10 ≤ 300000) (hm31 : many < 2 ^ 31) : wq_ z (lb_r z rb f many at0 td vs fr q) (mE (d + 5) 121 [vr_ (some 0), vi_ f, vi_ (nI many), vi_ at0] s) := by
  obtain ⟨hb1, hb2⟩ := hb
  unfold lb_r
  by_cases hm : many ≤ vs.length
  case neg => rw [if_neg hm]; exact w_none
  rw [if_pos hm]
  dsimp only
  have e0 : mE (d + 4) 108 [vr_ (some 0), vi_ 0, vi_ (nI many)] s = _ := r_arg (d + 3) 0 many h (by decide) hm (by omega)
  have e1 : mE (d + 4) 108 [vr_ (some 0), vi_ 1, vi_ (nI many)] s = _ := r_arg (d + 3) 1 many h (by decide) hm (by omega)
  have e2 : mE (d + 4) 108 [vr_ (some 0), vi_ 2, vi_ (nI many)] s = _ := r_arg (d + 3) 2 many h (by decide) hm (by omega)
  rw [me_libraryCall, e0, bI_s, e1, bI_s, e2, bI_s]
  have h1 := RR_drop h hm
  have hdl : (vs.drop many).length + 10 ≤ 300000 := by rw [List.length_drop]; omega
  generalize ag_ 0 many vs = a
  generalize ag_ 1 many vs = b
  generalize ag_ 2 many vs = c
  have e114 := RR_qq h (f := 0) (i := 114) (by unfold qf_; omega)
  rw [e114]
  generalize mm_u s 0 91 (s 0 91 - nI many) = s1 at h1 ⊢
  generalize vs.drop many = ws at h1 hdl ⊢
  have pu : ∀ (v : Int32) (s2 q2 : mm_S), RR z s2 (td, ws, fr, q2) → wq_ z (some (td, v :: ws, fr, q2)) (mm_bV (mE (d + 4) 95 [vr_ (some 0), vi_ v] s2) fun s => some (none, s)) := fun v s2 q2 h2 => w_push h2 (by omega) (fun s3 h3 => w_ok h3)
  refine w_ite (fun _ => ?_) (fun _ => ?_)
  · exact w_dec (d + 2) (by decide) h1 (fun s2 q2 h2 => pu 0 s2 q2 h2)
  refine w_ite (fun _ => ?_) (fun _ => ?_)
  · by_cases hc : 100 < b
    · rw [if_pos hc, if_pos hc]
      exact w_dec (d + 2) (by decide) h1 (fun s2 q2 h2 => pu 0 s2 q2 h2)
    · rw [if_neg hc, if_neg hc]
      refine w_dec (d + 2) ?_ h1 (fun s2 q2 h2 => pu 0 s2 q2 h2)
      by_cases hn : b < 0
      · rw [clamp_neg hn]; omega
      · obtain ⟨en, en2⟩ := clamp_nI b hn
        generalize b.toNatClampNeg = n at en en2 ⊢
        rw [en, show (100 : Int32) = nI 100 from rfl, nlt_ (by decide) en2] at hc
        omega
  refine w_ite (fun _ => ?_) (fun _ => ?_)
  · by_cases h1b : b < 1
    · rw [if_pos h1b, if_pos h1b]
      exact w_obs134 (d + 3) (fun s2 q2 h2 => pu 0 s2 q2 h2) 1 s1 q h1 (by decide)
    · rw [if_neg h1b, if_neg h1b]
      by_cases h8 : 8 < b
      · rw [if_pos h8, if_pos h8]
        exact w_obs134 (d + 3) (fun s2 q2 h2 => pu 0 s2 q2 h2) 8 s1 q h1 (by decide)
      · rw [if_neg h8, if_neg h8]
        have hn : ¬ b < 0 := fun hc => h1b (Int32.lt_trans hc (by decide))
        obtain ⟨en, en2⟩ := clamp_nI b hn
        have := w_obs134 (d + 3) (v := a) (fun s2 q2 h2 => pu 0 s2 q2 h2) b.toNatClampNeg s1 q h1 (by
          generalize b.toNatClampNeg = n at en en2 ⊢
          rw [en, show (8 : Int32) = nI 8 from rfl, nlt_ (by decide) en2] at h8
          omega)
        rw [← en] at this
        exact this
  refine w_ite (fun _ => ?_) (fun _ => ?_)
  · rw [me_writeString, RR_z h1 (f := 0) (i := 99) (by unfold zf_; omega)]
    have er : wq_ z (some (td, 0 :: ws, fr, er_ 2 q)) (mm_bV (mm_bV (mE (d + 3) 93 [vr_ (some 0), vi_ 2] s1) fun s1 => some (none, s1)) fun s13 => mm_bV (mE (d + 4) 95 [vr_ (some 0), vi_ 0] s13) fun s14 => some (none, s14)) := by
      rw [bV_as]
      exact w_err h1 (fun s2 h2 => pu 0 s2 _ h2)
    by_cases ha : a < 0
    · rw [if_pos ha, if_pos ha]; exact er
    rw [if_neg ha, if_neg ha]
    by_cases hz : a < z 0 99
    · rw [if_pos hz, if_pos hz, mm_a_q h1 zf98]
      cases mm_a 65536 98 a q with
      | none => exact w_none
      | some w =>
        obtain ⟨w1, w2⟩ := nI_and255 w
        obtain ⟨en, en2⟩ := clamp_nI _ w1
        generalize hwn : (w &&& 255).toNatClampNeg = n at en en2 w2 ⊢
        rw [Option.bind_some, Option.bind_some, en, show pj_div (nI n) 4 = some (nI (n / 4)) from pj_div_n n 4 (by omega) (by decide) (by decide), Option.bind_some, nI_clamp en2]
        by_cases hl : lg_cmp (a.toInt64 + (nI (n / 4)).toInt64) (z 0 99).toInt64 < 0
        · rw [if_pos hl, if_pos hl]
          have hb' : ∀ (o : Option Int32) (A B : mm_O) (k : mm_S → mm_O), mm_bV (o.bind fun v1 => if v1 = 4096 then A else B) k = o.bind fun v1 => if v1 = 4096 then mm_bV A k else mm_bV B k := fun o A B k => by
            cases o with
            | none => rfl
            | some x =>
              show mm_bV (if x = 4096 then A else B) k = if x = 4096 then mm_bV A k else mm_bV B k
              split <;> rfl
          rw [hb']
          refine w_full h1 ?_ ?_
          · exact pu 0 s1 q h1
          · exact w_sb (d + 2) w2 (fun s2 q2 h2 => pu 0 s2 q2 h2) n 1 s1 q h1 (by omega)
        · rw [if_neg hl, if_neg hl]; exact er
    · rw [if_neg hz, if_neg hz]; exact er
  refine w_ite (fun _ => ?_) (fun _ => ?_)
  · exact w_ob h1 (fun s2 q2 h2 _ => pu 0 s2 q2 h2)
  refine w_ite (fun _ => ?_) (fun _ => ?_)
  · exact w_ob h1 (fun s2 q2 h2 _ => pu 0 s2 q2 h2)
  refine w_ite (fun _ => ?_) (fun _ => ?_)
  · exact w_nb (d + 3) h1 (fun v s2 q2 h2 _ => pu v s2 q2 h2)
  refine w_ite (fun _ => ?_) (fun _ => ?_)
  · exact pu 0 _ _ (RR_q (RR_q (RR_q h1 1 (by unfold qf_; omega)) 6 (by unfold qf_; omega)) a (by unfold qf_; omega))
  refine w_ite (fun _ => ?_) (fun _ => ?_)
  · by_cases ha : a < 0
    · rw [if_pos ha, if_pos ha]; exact pu _ _ _ h1
    · rw [if_neg ha, if_neg ha]; exact pu _ _ _ h1
  refine w_ite (fun _ => ?_) (fun _ => ?_)
  · rw [mm_a_q h1 (qf_a (by omega) (by omega))]
    cases mm_a 4 113 (q 0 114) q with
    | none => exact w_none
    | some p =>
      simp only [Option.bind_some]
      refine w_ite (fun _ => ?_) (fun _ => ?_)
      · exact w_w h1 (qf_a (by omega) (by omega)) (fun s2 q2 h2 => pu _ _ _ h2)
      · exact pu _ _ _ h1
  refine w_ite (fun _ => ?_) (fun _ => ?_)
  · refine w_ite (fun _ => pu _ _ _ h1) (fun _ => ?_)
    refine w_ite (fun _ => pu _ _ _ h1) (fun _ => ?_)
    exact pu _ _ _ (RR_q h1 a (by unfold qf_; omega))
  refine w_ite (fun _ => ?_) (fun _ => ?_)
  · refine w_ite (fun _ => pu _ _ _ (RR_q h1 a (by unfold qf_; omega))) (fun _ => ?_)
    refine w_ite (fun _ => pu _ _ _ (RR_q h1 a (by unfold qf_; omega))) (fun _ => ?_)
    exact pu _ _ _ h1
  refine w_ite (fun _ => ?_) (fun _ => ?_)
  · exact w_w h1 (qf_a (by omega) (by omega)) (fun s2 q2 h2 => pu _ _ _ h2)
  refine w_ite (fun _ => ?_) (fun _ => ?_)
  · exact w_gv (d + 2) h1 (fun v s2 q2 h2 => pu v s2 q2 h2)
  refine w_ite (fun _ => ?_) (fun _ => ?_)
  · exact w_fv (d + 2) h1 (fun s2 q2 h2 => pu 0 s2 q2 h2)
  refine w_ite (fun _ => ?_) (fun _ => ?_)
  · refine w_ite (fun _ => ?_) (fun _ => ?_)
    · exact w_err h1 (fun s2 h2 => pu 0 s2 _ h2)
    · cases pj_ldiv (a.toInt64 * b.toInt64) c.toInt64 with
      | none => exact w_none
      | some w => exact pu _ _ _ h1
  refine w_ite (fun _ => ?_) (fun _ => ?_)
  · exact w_rN (d + 2) h1 (fun v s2 q2 h2 => pu v s2 q2 h2)
  · exact w_bVn (w_toV d rb hrb h1 hf ⟨hb1, by omega⟩)
end RRfree
