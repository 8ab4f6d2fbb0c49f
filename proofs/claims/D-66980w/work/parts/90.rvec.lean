/-! ===== vectors; the library's calls ===== -/
section RRvec
variable {z s q : mm_S} {td : List tqT} {vs : List Int32} {fr : List (Int32 × Int32)} {r : Option rs_t}
theorem gs_at {n : Nat} (e : q 0 106 = nI n) (hn : n ≤ 100) : (gs_ q).length = n ∧ ∀ j, j < n → (gs_ q)[j]? = some (q 107 j, q 108 j) := by
  unfold gs_
  rw [e, nI_clamp (by omega)]
  refine ⟨by simp, fun j hj => ?_⟩
  rw [List.getElem?_map, List.getElem?_range hj]
  rfl
/-- the world behind new vectors -/
theorem RR_gs {l : List (Int32 × Int32)} (h : RR z s (td, vs, fr, q)) (s' : mm_S) (hf : ∀ f i, ¬ (f = 107 ∨ f = 108) → ¬ (f = 0 ∧ i = 106) → s' f i = s f i) (h106 : s' 0 106 = nI l.length) (h7 : ∀ i, s' 107 i = (match l[i]? with | some x => x.1 | none => q 107 i)) (h8 : ∀ i, s' 108 i = (match l[i]? with | some x => x.2 | none => q 108 i)) : RR z s' (td, vs, fr, sg_s l q) := by
  obtain ⟨a, b, ⟨c1, c2, c3⟩, e, g, k⟩ := h
  refine ⟨fun f i hz => ?_, fun f i hq => ?_, ⟨(hf _ _ (by omega) (by omega)).trans c1, (hf _ _ (by omega) (by omega)).trans c2, (hf _ _ (by omega) (by omega)).trans c3⟩, TD_fr (fun f j x y _ => hf _ _ (by omega) (by omega)) e, VS_fr (fun j _ => hf _ _ (by omega) (by omega)) g, FS_fr (fun f j x y _ => hf _ _ (by omega) (by omega)) k⟩
  · have : ¬ (f = 107 ∨ f = 108) ∧ ¬ (f = 0 ∧ i = 106) := by unfold zf_ at hz; omega
    rw [hf _ _ this.1 this.2]; exact a f i hz
  · unfold sg_s
    by_cases h1 : f = 0 ∧ i = 106
    · obtain ⟨rfl, rfl⟩ := h1
      rw [if_pos ⟨rfl, rfl⟩]; exact h106
    rw [if_neg h1]
    by_cases h2 : f = 107
    · subst h2
      rw [if_pos rfl]; exact h7 i
    rw [if_neg h2]
    by_cases h3 : f = 108
    · subst h3
      rw [if_pos rfl]; exact h8 i
    rw [if_neg h3, hf _ _ (by omega) h1]
    exact b f i hq
/-- entries from p on move up by one -/
theorem m_lay_16 (d : Nat) {at0 many : Int64} {n p : Nat} (hn : n < 100) : ∀ m j (s : mm_S), p + m = j → j ≤ n → s 0 106 = nI n →
    ∃ s', mJ (d + 1) 118 16 [vr_ (some 0), vi_ (nI p), vl_ at0, vl_ many, vi_ (nI j)] [] s = some (some (vi_ at0.toInt32), s') ∧ (∀ f i, ¬ (f = 107 ∨ f = 108) → ¬ (f = 0 ∧ i = 106) → s' f i = s f i) ∧ s' 0 106 = nI (n + 1) ∧
      (∀ f i, f = 107 ∨ f = 108 → (i < p ∨ j < i) → s' f i = s f i) ∧ (∀ f i, f = 107 ∨ f = 108 → p < i → i ≤ j → s' f i = s f (i - 1)) ∧ s' 107 p = at0.toInt32 ∧ s' 108 p = many.toInt32 := by
  intro m
  induction m with
  | zero =>
    intro j s hp hj h106
    obtain rfl : j = p := by omega
    rw [mj_layVector_16, if_neg (nI_nlt (Nat.le_refl _) (by omega)), mm_w_n (by omega) (by decide), Option.bind_some, mm_w_n (by omega) (by decide), Option.bind_some]
    have e : mm_u (mm_u s 107 j at0.toInt32) 108 j many.toInt32 0 106 = nI n := by rw [mu_n (by omega), mu_n (by omega), h106]
    rw [e, nI_1]
    refine ⟨_, rfl, fun f i h1 h2 => ?_, mu_s, fun f i h1 h2 => ?_, fun f i h1 h2 h3 => by omega, ?_, ?_⟩
    · rw [mu_n h2, mu_n (by omega), mu_n (by omega)]
    · rw [mu_n (by omega), mu_n (by omega), mu_n (by omega)]
    · rw [mu_n (by omega), mu_n (by omega), mu_s]
    · rw [mu_n (by omega), mu_s]
  | succ m ih =>
    intro j s hp hj h106
    have ej : (nI j - 1 : Int32) = nI (j - 1) := nsb_ (a := j) (b := 1) (by omega)
    rw [mj_layVector_16, if_pos (nI_lt (by omega) (by omega)), ej, mm_a_n (by omega) (by decide), Option.bind_some, mm_w_n (by omega) (by decide), Option.bind_some, mm_a_n (by omega) (by decide), Option.bind_some, mm_w_n (by omega) (by decide), Option.bind_some, show (nI j + -1 : Int32) = nI j - 1 by grind, ej]
    obtain ⟨s', g1, g2, g3, g4, g5, g6, g7⟩ := ih (j - 1) (mm_u (mm_u s 107 j (s 107 (j - 1))) 108 j (mm_u s 107 j (s 107 (j - 1)) 108 (j - 1))) (by omega) (by omega) (by rw [mu_n (by omega), mu_n (by omega), h106])
    refine ⟨s', g1, fun f i h1 h2 => ?_, g3, fun f i h1 h2 => ?_, fun f i h1 h2 h3 => ?_, g6, g7⟩
    · rw [g2 f i h1 h2, mu_n (by omega), mu_n (by omega)]
    · rw [g4 f i h1 (by omega), mu_n (by omega), mu_n (by omega)]
    · by_cases hij : i = j
      · subst hij
        rw [g4 f i h1 (by omega)]
        rcases h1 with rfl | rfl
        · rw [mu_n (by omega), mu_s]
        · rw [mu_s, mu_n (by omega)]
      · rw [g5 f i h1 h2 (by omega), mu_n (by omega), mu_n (by omega)]
theorem w_gv46 (d : Nat) {many : Int64} {fl : Int32} {n : Nat} {F : Int32 × mm_S → Option rs_t} {k : Int32 → mm_S → mm_O} (h : RR z s (td, vs, fr, q)) (e106 : q 0 106 = nI n) (hn : n < 100) (hk : ∀ v s1 q1, RR z s1 (td, vs, fr, q1) → wq_ z (F (v, q1)) (k v s1)) : ∀ (l : List (Int32 × Int32)) (j : Nat) (e : Int64), (gs_ q).drop j = l → j ≤ n →
    wq_ z (F (if lg_cmp ((fp_ many l e j).2 - many) fl.toInt64 < 0 then (0, q) else (((fp_ many l e j).2 - many).toInt32, sg_s ((gs_ q).take (fp_ many l e j).1 ++ (((fp_ many l e j).2 - many).toInt32, many.toInt32) :: (gs_ q).drop (fp_ many l e j).1) q))) (mm_bI (mJ (d + 1 + 1) 117 46 [vr_ (some 0), vl_ many, vi_ fl, vl_ e, vi_ (nI j)] [] s) k) := by
  obtain ⟨gl, ga⟩ := gs_at e106 (by omega)
  have s106 : s 0 106 = nI n := (RR_qq h (f := 0) (i := 106) (by unfold qf_; omega)).trans e106
  -- laying at a place
  have lay : ∀ (p : Nat) (e : Int64), p ≤ n → wq_ z (F (if lg_cmp (e - many) fl.toInt64 < 0 then (0, q) else ((e - many).toInt32, sg_s ((gs_ q).take p ++ ((e - many).toInt32, many.toInt32) :: (gs_ q).drop p) q))) (mm_bI (mm_bI (mE (d + 1) 118 [vr_ (some 0), vi_ (nI p), vl_ (e - many), vl_ many, vi_ fl] s) fun v5 s4 => some (some (vi_ v5), s4)) k) := fun p e hp => by
    rw [me_layVector]
    by_cases hc : lg_cmp (e - many) fl.toInt64 < 0
    · rw [if_pos hc, if_pos hc]
      exact hk 0 s q h
    · rw [if_neg hc, if_neg hc, s106]
      obtain ⟨s', g1, g2, g3, g4, g5, g6, g7⟩ := m_lay_16 d (at0 := e - many) (many := many) (n := n) (p := p) hn (n - p) n s (by omega) (Nat.le_refl _) s106
      rw [g1]
      refine hk _ s' _ (RR_gs h s' g2 ?_ (fun i => ?_) (fun i => ?_))
      · rw [g3]
        congr 1
        simp [gl]
        omega
      all_goals
        by_cases h1 : i < p
        · rw [List.getElem?_append_left (by rw [List.length_take, gl]; omega), List.getElem?_take_of_lt h1, ga i (by omega), g4 _ i (by decide) (Or.inl h1), RR_qq h (qf_a (by omega) (by omega) _)]
        · by_cases h2 : i = p
          · subst h2
            rw [List.getElem?_append_right (by rw [List.length_take, gl]; omega), List.length_take, gl, show i - min i n = 0 by omega]
            first | exact g6 | exact g7
          · rw [List.getElem?_append_right (by rw [List.length_take, gl]; omega), List.length_take, gl, show i - min p n = (i - p - 1) + 1 by omega, List.getElem?_cons_succ, List.getElem?_drop, show p + (i - p - 1) = i - 1 by omega]
            by_cases h3 : i ≤ n
            · rw [ga (i - 1) (by omega), g5 _ i (by decide) (by omega) h3, RR_qq h (qf_a (by omega) (by omega) _)]
            · rw [List.getElem?_eq_none (by rw [gl]; omega), g4 _ i (by decide) (Or.inr (by omega)), RR_qq h (qf_a (by omega) (by omega) _)]
  intro l
  induction l with
  | nil =>
    intro j e hl hj
    have hjn : j = n := by
      have := congrArg List.length hl
      rw [List.length_drop, gl] at this
      simp at this
      omega
    subst hjn
    rw [mj_getVector_46, s106, if_neg (nI_nlt (Nat.le_refl _) (by omega))]
    exact lay j e (Nat.le_refl _)
  | cons x l ih =>
    intro j e hl hj
    have hjn : j < n := by
      have := congrArg List.length hl
      rw [List.length_drop, gl] at this
      simp at this
      omega
    have hx : x = (q 107 j, q 108 j) := by
      have h1 : ((gs_ q).drop j)[0]? = some x := by rw [hl]; rfl
      rw [List.getElem?_drop, Nat.add_zero, ga j hjn] at h1
      cases h1
      rfl
    subst hx
    have hl2 : (gs_ q).drop (j + 1) = l := by rw [← List.drop_drop, hl]; rfl
    rw [mj_getVector_46, s106, if_pos (nI_lt hjn (by omega)), mm_a_n (by omega) (by decide), Option.bind_some, mm_a_n (by omega) (by decide), Option.bind_some, RR_qq h (f := 107) (qf_a (by omega) (by omega) _), RR_qq h (f := 108) (qf_a (by omega) (by omega) _), Option.bind_some, nI_1]
    unfold fp_
    by_cases hc : lg_cmp (e - many) ((q 107 j).toInt64 + (q 108 j).toInt64) < 0
    · rw [if_pos hc, if_pos hc]
      exact ih (j + 1) _ hl2 (by omega)
    · rw [if_neg hc, if_neg hc]
      exact lay j e (by omega)
theorem w_gv (d : Nat) {a : Int32} {F : Int32 × mm_S → Option rs_t} {k : Int32 → mm_S → mm_O} (h : RR z s (td, vs, fr, q)) (hk : ∀ v s1 q1, RR z s1 (td, vs, fr, q1) → wq_ z (F (v, q1)) (k v s1)) : wq_ z ((gv_ z a q).bind F) (mm_bI (mE (d + 1 + 1) 117 [vr_ (some 0), vi_ a] s) k) := by
  have e106 := RR_qq h (f := 0) (i := 106) (by unfold qf_; omega)
  rw [me_getVector, e106, RR_qq h (f := 0) (i := 97) (by unfold qf_; omega), RR_qq h (f := 0) (i := 96) (by unfold qf_; omega), RR_z h (f := 0) (i := 99) (by unfold zf_; omega)]
  unfold gv_
  by_cases h1 : a < 0
  · rw [if_pos h1, if_pos h1]; exact hk 0 s q h
  rw [if_neg h1, if_neg h1]
  by_cases h2 : q 0 106 = 100
  · rw [if_pos h2, if_pos h2]; exact hk 0 s q h
  rw [if_neg h2, if_neg h2]
  by_cases h3 : q 0 106 < 0
  · rw [if_pos h3]; exact w_none
  rw [if_neg h3]
  by_cases h4 : 100 < q 0 106
  · rw [if_pos h4]; exact w_none
  rw [if_neg h4, mm_a_z h (fun i => by unfold zf_; omega)]
  obtain ⟨en, en2⟩ := clamp_nI _ h3
  have hn : (q 0 106).toNatClampNeg < 100 := by
    generalize (q 0 106).toNatClampNeg = n at en en2
    rw [en, show (100 : Int32) = nI 100 from rfl, nlt_ (by decide) en2] at h4
    rw [en, show (100 : Int32) = nI 100 from rfl, neq_ en2 (by decide)] at h2
    omega
  cases mm_a 3100 70 (q 0 97) z with
  | none => exact w_none
  | some mx =>
    simp only [Option.bind_some]
    have := w_gv46 d (many := a.toInt64 + 1) (fl := q 0 96 + mx) h en hn hk (gs_ q) 0 (z 0 99).toInt64 rfl (Nat.zero_le _)
    rw [← apply_ite some, Option.bind_some]
    exact this
end RRvec
