/-! ===== the checker's small ones ===== -/
section CRhelp
variable {z s q : mm_S} {ts : List ctk} {es : List enT} {sv : List Int32} {r : Option ct_t}
def kcT (z s : mm_S) (j : Nat) (x : ctk) : Prop := (s 64 j = nI x.1 ∧ s 65 j = (if x.1 = 9 ∨ x.1 = 10 then 0 else rt_ x.2.1) ∧ s 66 j = x.2.2) ∧ x.1 < 100 ∧ Rc z x.2.1
theorem kc_fr {s s' : mm_S} {j : Nat} {x : ctk} (h88 : s' 64 j = s 64 j) (h89 : s' 65 j = s 65 j) (h90 : s' 66 j = s 66 j) (h : kcT z s j x) : kcT z s' j x := by
  obtain ⟨⟨a, b, c⟩, e⟩ := h
  exact ⟨⟨h88.trans a, h89.trans b, h90.trans c⟩, e⟩
theorem KT_at : ∀ {td : List ctk} {j : Nat} {x : ctk}, KT z s td → td[j]? = some x → kcT z s (td.length - 1 - j) x
  | [], j, x, _, h => by simp at h
  | y :: r, 0, x, h, hx => by
    simp at hx
    subst hx
    have : kcT z s r.length y := h.1
    simpa using this
  | y :: r, j + 1, x, h, hx => by
    have := KT_at h.2 (by simpa using hx)
    rw [List.length_cons, show r.length + 1 - 1 - (j + 1) = r.length - 1 - j by omega]
    exact this
theorem KT_of : ∀ {td : List ctk}, (∀ j x, td[j]? = some x → kcT z s (td.length - 1 - j) x) → KT z s td
  | [], _ => trivial
  | y :: r, h => by
    refine ⟨?_, KT_of fun j x hx => ?_⟩
    · have := h 0 y (by simp)
      have h2 : kcT z s r.length y := by simpa using this
      exact h2
    · have := h (j + 1) x (by simpa using hx)
      rw [List.length_cons, show r.length + 1 - 1 - (j + 1) = r.length - 1 - j by omega] at this
      exact this
theorem mk_turn_9 (d : Nat) : ∀ m a b (s : mm_S), b < 26000 → a ≤ 30000 → b + 1 ≤ a + m → ∃ s', mJ (d + 1) 66 9 [vr_ (some 0), vi_ (nI a), vi_ (nI b)] [] s = some (none, s') ∧ (∀ f j, ¬ (64 ≤ f ∧ f ≤ 66 ∧ a ≤ j ∧ j ≤ b) → s' f j = s f j) ∧ (∀ f j, 64 ≤ f → f ≤ 66 → a ≤ j → j ≤ b → s' f j = s f (a + b - j)) := by
  intro m
  induction m with
  | zero =>
    intro a b s hb ha hm
    rw [mj_turn_9, if_neg (nI_nlt (by omega) (by omega))]
    exact ⟨s, rfl, fun _ _ _ => rfl, fun f j _ _ h1 h2 => by omega⟩
  | succ m ih =>
    intro a b s hb ha hm
    by_cases hab : a < b
    · rw [mj_turn_9, if_pos (nI_lt hab (by omega))]
      have e1 : (nI b + -1 : Int32) = nI (b - 1) := by
        rw [show (nI b + -1 : Int32) = nI b - 1 by grind]
        exact nsb_ (a := b) (b := 1) (by omega)
      simp only [mm_a_n (show a < 26000 by omega) (show 26000 < 2 ^ 31 by decide), mm_a_n hb (show 26000 < 2 ^ 31 by decide), mm_w_n (show a < 26000 by omega) (show 26000 < 2 ^ 31 by decide), mm_w_n hb (show 26000 < 2 ^ 31 by decide), Option.bind_some, nI_1, e1]
      obtain ⟨s', w1, w2, w3⟩ := ih (a + 1) (b - 1) _ (by omega) (by omega) (by omega)
      refine ⟨s', w1, fun f j hh => ?_, fun f j h1 h2 h3 h4 => ?_⟩
      · rw [w2 f j (by omega), mu_n (by omega), mu_n (by omega), mu_n (by omega), mu_n (by omega), mu_n (by omega), mu_n (by omega)]
      · by_cases hj1 : j = a
        · subst hj1
          rw [w2 f j (by omega), show j + b - j = b by omega]
          have : f = 64 ∨ f = 65 ∨ f = 66 := by omega
          rcases this with rfl | rfl | rfl <;> simp [mm_u, show ¬ j = b by omega, show ¬ b = j by omega]
        · by_cases hj2 : j = b
          · subst hj2
            rw [w2 f j (by omega), show a + j - j = a by omega]
            have : f = 64 ∨ f = 65 ∨ f = 66 := by omega
            rcases this with rfl | rfl | rfl <;> simp [mm_u, show ¬ j = a by omega, show ¬ a = j by omega]
          · rw [w3 f j h1 h2 (by omega) (by omega), mu_n (by omega), mu_n (by omega), mu_n (by omega), mu_n (by omega), mu_n (by omega), mu_n (by omega)]
            congr 1
            omega
    · rw [mj_turn_9, if_neg (nI_nlt (by omega) (by omega))]
      exact ⟨s, rfl, fun _ _ _ => rfl, fun f j _ _ h1 h2 => by congr 1; omega⟩
theorem k_turn {d : Nat} {K : mm_S → mm_O} {x1 : Int32} {xs : List ctk} (h : CR z s (xs ++ ts, es, sv, q)) (e1 : x1 = nI ts.length) (hk : ∀ s1, CR z s1 (xs.reverse ++ ts, es, sv, q) → kq_ z r (K s1)) : kq_ z r (mm_bV (mE (d + 1) 66 [vr_ (some 0), vi_ x1] s) K) := by
  subst e1
  have c1 : s 0 63 = nI (xs.length + ts.length) := by rw [h.2.2.1.1, List.length_append]
  have hl : xs.length + ts.length ≤ 26000 := by have := h.2.2.2.2.2.2.1; rw [List.length_append] at this; exact this
  by_cases hx0 : xs = []
  · subst hx0
    rw [me_turn, c1, mj_turn_9]
    have : ¬ (nI ts.length < nI (0 + ts.length) - 1) := by
      rw [Nat.zero_add]
      rcases Nat.eq_zero_or_pos ts.length with h0 | h0
      · rw [h0]; decide
      · rw [show (nI ts.length - 1 : Int32) = nI (ts.length - 1) from nsb_ (a := ts.length) (b := 1) (by omega)]
        exact nI_nlt (by omega) (by omega)
    simp only [List.length_nil] at *
    rw [if_neg this]
    exact hk s h
  have hx : 0 < xs.length := List.length_pos_iff.mpr hx0
  obtain ⟨s', w1, w2, w3⟩ := mk_turn_9 d (xs.length + ts.length) ts.length (xs.length + ts.length - 1) s (by omega) (by omega) (by omega)
  have e : (nI (xs.length + ts.length) - 1 : Int32) = nI (xs.length + ts.length - 1) := nsb_ (a := xs.length + ts.length) (b := 1) (by omega)
  rw [me_turn, c1, e]
  have w1 : mJ (d + 1) 66 9 [vr_ (some 0), vi_ (nI ts.length), vi_ (nI (xs.length + ts.length - 1))] [] s = _ := w1
  rw [w1]
  obtain ⟨a, b, ⟨c1, c2, c3⟩, e, g', k', l1, l2, l3⟩ := h
  have hlen : (xs.reverse ++ ts).length = xs.length + ts.length := by simp
  refine hk s' ⟨fun f i hz hd => ?_, fun f i hq => ?_, ⟨?_, ?_, ?_⟩, ?_, KE_fr (fun f j _ _ _ => w2 _ _ (by omega)) g', KV_fr (fun j _ => w2 _ _ (by omega)) k', by omega, l2, l3⟩
  · rw [w2 _ _ (by unfold kS at hz; omega)]; exact a f i hz hd
  · rw [w2 _ _ (by unfold kD at hq; omega)]; exact b f i hq
  · rw [w2 _ _ (by omega), c1]; simp
  · rw [w2 _ _ (by omega), c2]
  · rw [w2 _ _ (by omega), c3]
  · apply KT_of
    intro j x hx
    rw [hlen]
    by_cases hj : j < xs.length
    · rw [List.getElem?_append_left (by simpa using hj), List.getElem?_reverse hj] at hx
      have := KT_at e (j := xs.length - 1 - j) (x := x) (by rw [List.getElem?_append_left (by omega)]; exact hx)
      rw [List.length_append] at this
      have e2 : ∀ f, 64 ≤ f → f ≤ 66 → s' f (xs.length + ts.length - 1 - j) = s f (xs.length + ts.length - 1 - (xs.length - 1 - j)) := fun f h1 h2 => by
        rw [w3 f _ h1 h2 (by omega) (by omega)]
        congr 1
        omega
      obtain ⟨⟨t1, t2, t3⟩, t4⟩ := this
      exact ⟨⟨(e2 _ (by omega) (by omega)).trans t1, (e2 _ (by omega) (by omega)).trans t2, (e2 _ (by omega) (by omega)).trans t3⟩, t4⟩
    · rw [List.getElem?_append_right (by simpa using hj), List.length_reverse] at hx
      have := KT_at e (j := j) (x := x) (by rw [List.getElem?_append_right (by omega)]; exact hx)
      rw [List.length_append] at this
      have hjl := (List.getElem?_eq_some_iff.mp hx).1
      exact kc_fr (w2 _ _ (by omega)) (w2 _ _ (by omega)) (w2 _ _ (by omega)) this
theorem k_task {d : Nat} {K : mm_S → mm_O} {x1 x2 x3 : Int32} (g : Nat) (t : tr_) (h : CR z s (ts, es, sv, q)) (hl : ts.length < 26000) (e1 : x1 = nI g) (e2 : x2 = (if g = 9 ∨ g = 10 then 0 else rt_ t)) (hg : g < 100) (ht : Rc z t) (hk : ∀ s1, CR z s1 ((g, t, x3) :: ts, es, sv, q) → kq_ z r (K s1)) : kq_ z r (mm_bV (mE (d + 1) 61 [vr_ (some 0), vi_ x1, vi_ x2, vi_ x3] s) K) := by
  obtain ⟨a, b, ⟨c1, c2, c3⟩, e, g', k', l1, l2, l3⟩ := h
  rw [me_task, c1, mm_w_n hl (by decide), Option.bind_some]
  have f1 : mm_u s 64 ts.length x1 0 63 = nI ts.length := (mu_n (by omega)).trans c1
  rw [f1, mm_w_n hl (by decide), Option.bind_some]
  have f2 : mm_u (mm_u s 64 ts.length x1) 65 ts.length x2 0 63 = nI ts.length := (mu_n (by omega)).trans f1
  rw [f2, mm_w_n hl (by decide), Option.bind_some]
  have f3 : mm_u (mm_u (mm_u s 64 ts.length x1) 65 ts.length x2) 66 ts.length x3 0 63 = nI ts.length := (mu_n (by omega)).trans f2
  rw [f3, nI_1]
  have go : ∀ f j, ¬ (64 ≤ f ∧ f ≤ 66 ∧ j = ts.length) → ¬ (f = 0 ∧ j = 63) → mm_u (mm_u (mm_u (mm_u s 64 ts.length x1) 65 ts.length x2) 66 ts.length x3) 0 63 (nI (ts.length + 1)) f j = s f j := fun f j h1 h2 => by
    rw [mu_n h2, mu_n (by omega), mu_n (by omega), mu_n (by omega)]
  refine hk _ ⟨fun f i hz hd => ?_, fun f i hq => ?_, ⟨mu_s, ?_, ?_⟩, ⟨⟨⟨?_, ?_, ?_⟩, hg, ht⟩, KT_fr (fun f j _ _ _ => go _ _ (by omega) (by omega)) e⟩, KE_fr (fun f j _ _ _ => go _ _ (by omega) (by omega)) g', KV_fr (fun j _ => go _ _ (by omega) (by omega)) k', by simp; omega, l2, l3⟩
  · rw [go _ _ (by unfold kS at hz; omega) (by unfold kS at hz; omega)]; exact a f i hz hd
  · rw [go _ _ (by unfold kD at hq; omega) (by unfold kD at hq; omega)]; exact b f i hq
  · exact (go _ _ (by omega) (by omega)).trans c2
  · exact (go _ _ (by omega) (by omega)).trans c3
  · rw [mu_n (by omega), mu_n (by omega), mu_n (by omega), mu_s]; exact e1
  · rw [mu_n (by omega), mu_n (by omega), mu_s]; exact e2
  · rw [mu_n (by omega), mu_s]
theorem k_put {d : Nat} {K : mm_S → mm_O} {x : Int32} (h : CR z s (ts, es, sv, q)) (hl : sv.length < 60000) (hk : ∀ s1, CR z s1 (ts, es, x :: sv, q) → kq_ z r (K s1)) : kq_ z r (mm_bV (mE (d + 1) 62 [vr_ (some 0), vi_ x] s) K) := by
  obtain ⟨a, b, ⟨c1, c2, c3⟩, e, g', k', l1, l2, l3⟩ := h
  rw [me_put, c3, mm_w_n hl (by decide), Option.bind_some]
  have f1 : mm_u s 68 sv.length x 0 67 = nI sv.length := (mu_n (by omega)).trans c3
  rw [f1, nI_1]
  have go : ∀ f j, ¬ (f = 68 ∧ j = sv.length) → ¬ (f = 0 ∧ j = 67) → mm_u (mm_u s 68 sv.length x) 0 67 (nI (sv.length + 1)) f j = s f j := fun f j h1 h2 => by rw [mu_n h2, mu_n h1]
  refine hk _ ⟨fun f i hz hd => ?_, fun f i hq => ?_, ⟨?_, ?_, mu_s⟩, KT_fr (fun f j _ _ _ => go _ _ (by omega) (by omega)) e, KE_fr (fun f j _ _ _ => go _ _ (by omega) (by omega)) g', ⟨?_, KV_fr (fun j _ => go _ _ (by omega) (by omega)) k'⟩, l1, l2, by simp; omega⟩
  · rw [go _ _ (by unfold kS at hz; omega) (by unfold kS at hz; omega)]; exact a f i hz hd
  · rw [go _ _ (by unfold kD at hq; omega) (by unfold kD at hq; omega)]; exact b f i hq
  · exact (go _ _ (by omega) (by omega)).trans c1
  · exact (go _ _ (by omega) (by omega)).trans c2
  · rw [mu_n (by omega), mu_s]
theorem k_pull {d : Nat} {K : Int32 → mm_S → mm_O} {x : Int32} (h : CR z s (ts, es, x :: sv, q)) (hk : ∀ s1, CR z s1 (ts, es, sv, q) → kq_ z r (K x s1)) : kq_ z r (mm_bI (mE (d + 1) 63 [vr_ (some 0)] s) K) := by
  obtain ⟨a, b, ⟨c1, c2, c3⟩, e, g', k', l1, l2, l3⟩ := h
  have l4 : sv.length < 60000 := by simp at l3; omega
  have c3' : s 0 67 = nI (sv.length + 1) := c3
  rw [me_pull, c3', show (nI (sv.length + 1) - 1 : Int32) = nI sv.length from nI_pred _, mm_a_n l4 (by decide), Option.bind_some, mu_n (by omega), k'.1]
  have go : ∀ f j, ¬ (f = 0 ∧ j = 67) → mm_u s 0 67 (nI sv.length) f j = s f j := fun f j h => mu_n h
  refine hk _ ⟨fun f i hz hd => ?_, fun f i hq => ?_, ⟨?_, ?_, mu_s⟩, KT_fr (fun f j _ _ _ => go _ _ (by omega)) e, KE_fr (fun f j _ _ _ => go _ _ (by omega)) g', KV_fr (fun j _ => go _ _ (by omega)) k'.2, l1, l2, by omega⟩
  · rw [go _ _ (by unfold kS at hz; omega)]; exact a f i hz hd
  · rw [go _ _ (by unfold kD at hq; omega)]; exact b f i hq
  · exact (go _ _ (by omega)).trans c1
  · exact (go _ _ (by omega)).trans c2
theorem k_const {d : Nat} {K : mm_S → mm_O} {t : tr_} {F : mm_S → Option ct_t} (h : CR z s (ts, es, sv, q)) (ht : Rc z t) (hk : ∀ s1 q1, CR z s1 (ts, es, sv, q1) → kq_ z (F q1) (K s1)) : kq_ z ((cn_ z es t q).bind F) (mm_bV (mE (d + 4) 59 [vr_ (some 0), vi_ (rt_ t)] s) K) := by
  cases hf : cn_ z es t q with
  | none => exact k_none
  | some q' =>
    obtain ⟨s1, e, g⟩ := m_constant d h ht hf
    rw [e]
    exact hk s1 q' g
end CRhelp
