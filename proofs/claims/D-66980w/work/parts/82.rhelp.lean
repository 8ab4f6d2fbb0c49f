/-! ===== small methods of a run: reading, writing, words of names, rows of tasks ===== -/
section RRhelp
variable {z s q : mm_S} {td : List tqT} {vs : List Int32} {fr : List (Int32 × Int32)} {r : Option rs_t}
theorem RR_z (h : RR z s (td, vs, fr, q)) {f i : Nat} (hz : zf_ f i) : s f i = z f i := h.1 f i hz
theorem RR_qq (h : RR z s (td, vs, fr, q)) {f i : Nat} (hz : qf_ f i) : s f i = q f i := h.2.1 f i hz
theorem zf98 : ∀ i, qf_ 98 i := fun i => by unfold qf_; omega
theorem w_read {d : Nat} {k : Int32 → mm_S → mm_O} {a : Int64} {F : Int32 × mm_S → Option rs_t} (h : RR z s (td, vs, fr, q)) (hk : ∀ v s1 q1, RR z s1 (td, vs, fr, q1) → wq_ z (F (v, q1)) (k v s1)) : wq_ z ((rd_ z a q).bind F) (mm_bI (mE (d + 2) 97 [vr_ (some 0), vl_ a] s) k) := by
  have e : ∀ o : mm_O, mm_bI (mm_bV o fun s1 => some (some (vi_ 0), s1)) k = mm_bV o fun s1 => k 0 s1 := fun o => by
    unfold mm_bV
    cases o with
    | none => rfl
    | some x =>
      obtain ⟨a, b⟩ := x
      cases a <;> rfl
  rw [me_read, RR_z h (f := 0) (i := 99) (by unfold zf_; omega)]
  unfold rd_
  by_cases h1 : lg_cmp a 0 < 0
  · rw [if_pos h1, if_pos h1, e]
    exact w_err h fun s1 h1 => hk _ _ _ h1
  · rw [if_neg h1, if_neg h1]
    by_cases h2 : lg_cmp a (z 0 99).toInt64 < 0
    · rw [if_pos h2, if_pos h2, mm_a_q h zf98]
      cases mm_a 65536 98 a.toInt32 q with
      | none => exact w_none
      | some v => exact hk v s q h
    · rw [if_neg h2, if_neg h2, e]
      exact w_err h fun s1 h1 => hk _ _ _ h1
theorem w_write {d : Nat} {k : mm_S → mm_O} {a : Int64} {v : Int32} {F : mm_S → Option rs_t} (h : RR z s (td, vs, fr, q)) (hk : ∀ s1 q1, RR z s1 (td, vs, fr, q1) → wq_ z (F q1) (k s1)) : wq_ z ((wr_ z a v q).bind F) (mm_bV (mE (d + 2) 98 [vr_ (some 0), vl_ a, vi_ v] s) k) := by
  have e : ∀ o : mm_O, mm_bV (mm_bV o fun s1 => some (none, s1)) k = mm_bV o fun s1 => k s1 := fun o => by
    unfold mm_bV
    cases o with
    | none => rfl
    | some x =>
      obtain ⟨a, b⟩ := x
      cases a <;> rfl
  rw [me_write, RR_z h (f := 0) (i := 99) (by unfold zf_; omega)]
  unfold wr_
  by_cases h1 : lg_cmp a 0 < 0
  · rw [if_pos h1, if_pos h1, e]
    exact w_err h fun s1 h1 => hk _ _ h1
  · rw [if_neg h1, if_neg h1]
    by_cases h2 : lg_cmp a (z 0 99).toInt64 < 0
    · rw [if_pos h2, if_pos h2]
      unfold mm_w
      split
      · exact hk _ _ (RR_q h _ (zf98 _))
      · exact w_none
    · rw [if_neg h2, if_neg h2, e]
      exact w_err h fun s1 h1 => hk _ _ h1
theorem zfa {f : Nat} (h1 : 25 ≤ f) (h2 : f ≤ 35) : ∀ i, zf_ f i := fun i => by unfold zf_; omega
/-- what a node is, out of the rows -/
theorem Rs_k {k i : Nat} {v} {l nx : tr_} (h : RR z s (td, vs, fr, q)) (ht : Rs z (.inner k i v l nx)) : mm_a 26000 25 (nI i) s = some (nI k) := by
  rw [mm_a_n ht.1.1 (by decide), RR_z h (zfa (by omega) (by omega) _), ht.2.1.1]
theorem Rs_c {k i : Nat} {v} {l nx : tr_} (h : RR z s (td, vs, fr, q)) (ht : Rs z (.inner k i v l nx)) : mm_a 26000 27 (nI i) s = some (rt_ l) := by
  rw [mm_a_n ht.1.1 (by decide), RR_z h (zfa (by omega) (by omega) _), ht.2.1.2.1]
theorem Rs_n {k i : Nat} {v} {l nx : tr_} (h : RR z s (td, vs, fr, q)) (ht : Rs z (.inner k i v l nx)) : mm_a 26000 28 (nI i) s = some (rt_ nx) := by
  rw [mm_a_n ht.1.1 (by decide), RR_z h (zfa (by omega) (by omega) _), ht.2.1.2.2]
theorem Rs_f {f k i : Nat} {v} {l nx : tr_} (h : RR z s (td, vs, fr, q)) (ht : Rs z (.inner k i v l nx)) (h1 : 25 ≤ f) (h2 : f ≤ 35) : mm_a 26000 f (nI i) s = some (z f i) := by
  rw [mm_a_n ht.1.1 (by decide), RR_z h (zfa h1 h2 _)]
theorem Rs_l {k i : Nat} {v} {l nx : tr_} (ht : Rs z (.inner k i v l nx)) : Rs z l := ht.2.2.1
theorem Rs_r {k i : Nat} {v} {l nx : tr_} (ht : Rs z (.inner k i v l nx)) : Rs z nx := ht.2.2.2
theorem Rs_nx : ∀ {t : tr_}, Rs z t → Rs z (nx_r t)
  | .leaf, _ => trivial
  | .inner _ _ _ _ _, h => Rs_r h
theorem Rs_ch : ∀ {t : tr_}, Rs z t → Rs z (ch_r t)
  | .leaf, _ => trivial
  | .inner _ _ _ _ _, h => Rs_l h
theorem w_word {d : Nat} {k : Int32 → mm_S → mm_O} {kd i : Nat} {v} {l nx : tr_} {F : Int32 → Option rs_t} (h : RR z s (td, vs, fr, q)) (ht : Rs z (.inner kd i v l nx)) (hk : ∀ w, wq_ z (F w) (k w s)) : wq_ z ((wo_ z i q).bind F) (mm_bI (mE (d + 1) 99 [vr_ (some 0), vi_ (nI i)] s) k) := by
  rw [me_wordOf, Rs_f h ht (by omega) (by omega), Option.bind_some]
  simp only [Rs_f h ht (show 25 ≤ 30 by omega) (show 30 ≤ 35 by omega), Rs_f h ht (show 25 ≤ 31 by omega) (show 31 ≤ 35 by omega), Option.bind_some]
  unfold wo_
  by_cases h1 : z 30 i = 1
  · rw [if_pos h1, if_pos h1]; exact hk _
  · rw [if_neg h1, if_neg h1]
    by_cases h2 : z 30 i = 3
    · rw [if_pos h2, if_pos h2, mm_a_z h (zfa (by omega) (by omega))]
      cases mm_a 26000 31 (z 31 i) z with
      | none => exact w_none
      | some v => exact hk v
    · rw [if_neg h2, if_neg h2]
      by_cases h3 : z 30 i = 4
      · rw [if_pos h3, if_pos h3, RR_qq h (f := 0) (i := 96) (by unfold qf_; omega)]; exact hk _
      · rw [if_neg h3, if_neg h3]; exact hk _
/-! rows of tasks, turned -/
theorem TD_at : ∀ {td : List tqT} {j : Nat} {x : tqT}, TD z s td → td[j]? = some x → tc_ z s (td.length - 1 - j) x
  | [], j, x, _, h => by simp at h
  | y :: r, 0, x, h, hx => by
    simp at hx
    subst hx
    have := h.1
    simpa using this
  | y :: r, j + 1, x, h, hx => by
    have := TD_at h.2 (by simpa using hx)
    rw [List.length_cons, show r.length + 1 - 1 - (j + 1) = r.length - 1 - j by omega]
    exact this
theorem TD_of : ∀ {td : List tqT}, (∀ j x, td[j]? = some x → tc_ z s (td.length - 1 - j) x) → TD z s td
  | [], _ => trivial
  | y :: r, h => by
    refine ⟨?_, TD_of fun j x hx => ?_⟩
    · have := h 0 y (by simp)
      simpa using this
    · have := h (j + 1) x (by simpa using hx)
      rw [List.length_cons, show r.length + 1 - 1 - (j + 1) = r.length - 1 - j by omega] at this
      exact this
theorem m_turn_9 (d : Nat) : ∀ m a b (s : mm_S), b < 620000 → a ≤ 700000 → b + 1 ≤ a + m → ∃ s', mJ (d + 1) 101 9 [vr_ (some 0), vi_ (nI a), vi_ (nI b)] [] s = some (none, s') ∧ (∀ f j, ¬ (88 ≤ f ∧ f ≤ 90 ∧ a ≤ j ∧ j ≤ b) → s' f j = s f j) ∧ (∀ f j, 88 ≤ f → f ≤ 90 → a ≤ j → j ≤ b → s' f j = s f (a + b - j)) := by
  intro m
  induction m with
  | zero =>
    intro a b s hb ha hm
    rw [mj_turnTodo_9, if_neg (nI_nlt (by omega) (by omega))]
    exact ⟨s, rfl, fun _ _ _ => rfl, fun f j _ _ h1 h2 => by omega⟩
  | succ m ih =>
    intro a b s hb ha hm
    by_cases hab : a < b
    · rw [mj_turnTodo_9, if_pos (nI_lt hab (by omega))]
      have e1 : (nI b + -1 : Int32) = nI (b - 1) := by
        rw [show (nI b + -1 : Int32) = nI b - 1 by grind]
        exact nsb_ (a := b) (b := 1) (by omega)
      simp only [mm_a_n (show a < 620000 by omega) (show 620000 < 2 ^ 31 by decide), mm_a_n hb (show 620000 < 2 ^ 31 by decide), mm_w_n (show a < 620000 by omega) (show 620000 < 2 ^ 31 by decide), mm_w_n hb (show 620000 < 2 ^ 31 by decide), Option.bind_some, nI_1, e1]
      obtain ⟨s', w1, w2, w3⟩ := ih (a + 1) (b - 1) _ (by omega) (by omega) (by omega)
      refine ⟨s', w1, fun f j hh => ?_, fun f j h1 h2 h3 h4 => ?_⟩
      · rw [w2 f j (by omega), mu_n (by omega), mu_n (by omega), mu_n (by omega), mu_n (by omega), mu_n (by omega), mu_n (by omega)]
      · by_cases hj1 : j = a
        · subst hj1
          rw [w2 f j (by omega), show j + b - j = b by omega]
          have : f = 88 ∨ f = 89 ∨ f = 90 := by omega
          rcases this with rfl | rfl | rfl <;> simp [mm_u, show ¬ j = b by omega, show ¬ b = j by omega]
        · by_cases hj2 : j = b
          · subst hj2
            rw [w2 f j (by omega), show a + j - j = a by omega]
            have : f = 88 ∨ f = 89 ∨ f = 90 := by omega
            rcases this with rfl | rfl | rfl <;> simp [mm_u, show ¬ j = a by omega, show ¬ a = j by omega]
          · rw [w3 f j h1 h2 (by omega) (by omega), mu_n (by omega), mu_n (by omega), mu_n (by omega), mu_n (by omega), mu_n (by omega), mu_n (by omega)]
            congr 1
            omega
    · rw [mj_turnTodo_9, if_neg (nI_nlt (by omega) (by omega))]
      exact ⟨s, rfl, fun _ _ _ => rfl, fun f j _ _ h1 h2 => by congr 1; omega⟩
theorem w_turn {d n : Nat} {k : mm_S → mm_O} {x1 : Int32} {xs : List tqT} (h : RR z s (xs ++ td, vs, fr, q)) (e1 : x1 = nI td.length) (hl : xs.length + td.length < 620000) (hx : 0 < xs.length) (hk : ∀ s1, RR z s1 (xs.reverse ++ td, vs, fr, q) → wq_ z r (k s1)) : wq_ z r (mm_bV (mE (d + 1) 101 [vr_ (some 0), vi_ x1] s) k) := by
  subst e1
  have c1 : s 0 87 = nI (xs.length + td.length) := by rw [h.2.2.1.1, List.length_append]
  obtain ⟨s', w1, w2, w3⟩ := m_turn_9 d (xs.length + td.length) td.length (xs.length + td.length - 1) s (by omega) (by omega) (by omega)
  have e : (nI (xs.length + td.length) - 1 : Int32) = nI (xs.length + td.length - 1) := nsb_ (a := xs.length + td.length) (b := 1) (by omega)
  rw [me_turnTodo, c1, e]
  have w1 : mJ (d + 1) 101 9 [vr_ (some 0), vi_ (nI td.length), vi_ (nI (xs.length + td.length - 1))] [] s = _ := w1
  rw [w1]
  obtain ⟨a, b, ⟨c1, c2, c3⟩, e, g', k'⟩ := h
  refine hk s' ⟨fun f i hz => ?_, fun f i hq => ?_, ⟨?_, ?_, ?_⟩, ?_, VS_fr (fun j _ => w2 _ _ (by omega)) g', FS_fr (fun f j _ _ _ => w2 _ _ (by omega)) k'⟩
  · have := zf_lt hz; rw [w2 _ _ (by omega)]; exact a f i hz
  · have := qf_lt hq; rw [w2 _ _ (by omega)]; exact b f i hq
  · rw [w2 _ _ (by omega), c1]; simp
  · rw [w2 _ _ (by omega), c2]
  · rw [w2 _ _ (by omega), c3]
  · apply TD_of
    intro j x hx
    have hlen : (xs.reverse ++ td).length = xs.length + td.length := by simp
    rw [hlen]
    by_cases hj : j < xs.length
    · rw [List.getElem?_append_left (by simpa using hj), List.getElem?_reverse hj] at hx
      have := TD_at e (j := xs.length - 1 - j) (x := x) (by rw [List.getElem?_append_left (by omega)]; exact hx)
      rw [List.length_append] at this
      have e2 : ∀ f, 88 ≤ f → f ≤ 90 → s' f (xs.length + td.length - 1 - j) = s f (xs.length + td.length - 1 - (xs.length - 1 - j)) := fun f h1 h2 => by
        rw [w3 f _ h1 h2 (by omega) (by omega)]
        congr 1
        omega
      obtain ⟨⟨t1, t2, t3⟩, t4⟩ := this
      exact ⟨⟨(e2 _ (by omega) (by omega)).trans t1, (e2 _ (by omega) (by omega)).trans t2, (e2 _ (by omega) (by omega)).trans t3⟩, t4⟩
    · rw [List.getElem?_append_right (by simpa using hj), List.length_reverse] at hx
      have := TD_at e (j := j) (x := x) (by rw [List.getElem?_append_right (by omega)]; exact hx)
      rw [List.length_append] at this
      have hjl := (List.getElem?_eq_some_iff.mp hx).1
      exact tc_fr (w2 _ _ (by omega)) (w2 _ _ (by omega)) (w2 _ _ (by omega)) this
end RRhelp
