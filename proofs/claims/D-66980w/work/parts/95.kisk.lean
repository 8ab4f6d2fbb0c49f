/-! ===== isK ===== -/
section KisK
variable {z s q : mm_S} {ts : List (Nat × tr_ × Int32)} {es : List enT} {sv : List Int32} {r : Option ct_t}
theorem m_kn_68 (h : CR z s (ts, es, sv, q)) (d : Nat) {nm : Int32} {j : Nat} {e : enT} (hm : mn_k nm es = some (j, e)) : mJ (d + 1) 52 68 [vr_ (some 0), vi_ (nI j)] [] s = some (some (vi_ (zb_ (if e.2.1 = 2 then decide (e.2.2.2.1 = 2) else false))), s) := by
  obtain ⟨hj, _, a2, _, a4, _⟩ := KE_mn h.2.2.2.2.1 hm
  have hl := h.2.2.2.2.2.2.2.1
  rw [mj_isKName_68, if_neg (by rw [nlt1_ 0 (by omega) (by decide)]; omega), mm_a_n (by omega) (by decide), Option.bind_some, a2]
  by_cases c : e.2.1 = 2
  · rw [if_pos c, if_pos c, mm_a_n (by omega) (by decide), Option.bind_some, a4]
    by_cases c2 : e.2.2.2.1 = 2
    · rw [if_pos c2, decide_eq_true c2]; rfl
    · rw [if_neg c2, decide_eq_false c2]; rfl
  · rw [if_neg c, if_neg c]; rfl
theorem m_isKName (h : CR z s (ts, es, sv, q)) (d : Nat) {i : Nat} {tok : Int32} {g : Bool} {q' : mm_S} (hi : i < 26000) (ht : z 26 i = tok) (hk : kn_ z es i tok q = some (g, q')) : ∃ s1, mE (d + 2) 52 [vr_ (some 0), vi_ (nI i)] s = some (some (vi_ (zb_ g)), s1) ∧ CR z s1 (ts, es, sv, q') ∧ ∀ f j, f ≠ 0 → s1 f j = s f j := by
  have h29 : s 29 i = q 29 i := h.2.1 29 i (by unfold kD; omega)
  have h26 : s 26 i = tok := (h.1 26 i (by unfold kS; omega) (by unfold kD; omega)).trans ht
  have hl := h.2.2.2.2.2.2.2.1
  have bI : ∀ (v : Int32) (s : mm_S) (K : Int32 → mm_S → mm_O), mm_bI (some (some (vi_ v), s)) K = K v s := fun _ _ _ => rfl
  rw [me_isKName, mm_a_n hi (by decide), Option.bind_some, h29, m_means h, bI]
  unfold kn_ at hk
  cases hm : mn_k (q 29 i) es with
  | none =>
    rw [hm] at hk
    dsimp only at hk ⊢
    rw [if_pos (by decide), mm_a_n hi (by decide), Option.bind_some, h26]
    cases hf : ft_ z 3 tok q with
    | none => rw [hf] at hk; exact nomatch hk
    | some q1 =>
      rw [hf] at hk
      cases hk
      obtain ⟨s1, e1, e2, e3⟩ := m_ft h d 3 tok _ hf
      refine ⟨s1, e1.trans ?_, e2, e3⟩
      rw [mj_isKName_68, if_pos (by decide)]
      rfl
  | some w =>
    obtain ⟨j, e⟩ := w
    rw [hm] at hk
    dsimp only at hk ⊢
    obtain ⟨hj, _, a2, _, a4, _⟩ := KE_mn h.2.2.2.2.1 hm
    rw [if_neg (by rw [nlt1_ 0 (by omega) (by decide)]; omega), mm_a_n (by omega) (by decide), Option.bind_some, a2]
    by_cases c : e.2.1 = 2
    · rw [if_pos c] at hk ⊢
      rw [mm_a_n (by omega) (by decide), Option.bind_some, a4]
      by_cases c2 : e.2.2.2.1 = 0
      · rw [if_pos c2] at hk ⊢
        rw [mm_a_n hi (by decide), Option.bind_some, h26]
        cases hf : ft_ z 6 tok q with
        | none => rw [hf] at hk; exact nomatch hk
        | some q1 =>
          rw [hf] at hk
          cases hk
          obtain ⟨s1, e1, e2, e3⟩ := m_ft h d 6 tok _ hf
          refine ⟨s1, e1.trans ?_, e2, e3⟩
          rw [m_kn_68 e2 (d + 1) hm, if_pos c, decide_eq_false (by rw [c2]; decide)]
      · rw [if_neg c2] at hk ⊢
        cases hk
        refine ⟨s, ?_, h, fun _ _ _ => rfl⟩
        rw [m_kn_68 h (d + 1) hm, if_pos c]
    · rw [if_neg c] at hk ⊢
      rw [mm_a_n hi (by decide), Option.bind_some, h26]
      cases hf : ft_ z 6 tok q with
      | none => rw [hf] at hk; exact nomatch hk
      | some q1 =>
        rw [hf] at hk
        cases hk
        obtain ⟨s1, e1, e2, e3⟩ := m_ft h d 6 tok _ hf
        refine ⟨s1, e1.trans ?_, e2, e3⟩
        rw [m_kn_68 e2 (d + 1) hm, if_neg c]
def WK (s : mm_S) : Nat → tr_ → Prop
  | _, .leaf => True
  | n, .inner _ i _ _ r => s 60 n = nI i ∧ WK s (n + 1) r
theorem WK_fr {s s' : mm_S} : ∀ {t : tr_} {n : Nat}, (∀ j, n ≤ j → s' 60 j = s 60 j) → WK s n t → WK s' n t
  | .leaf, _, _, _ => trivial
  | .inner _ i _ _ r, n, hf, h => ⟨(hf n (by omega)).trans h.1, WK_fr (fun j hj => hf j (by omega)) h.2⟩
theorem kbF_len {es : List enT} : ∀ {t : tr_} {n : Nat} {x y : Bool × mm_S}, kbF z es t n x = some y → t ≠ .leaf → n + (rs_r t).length ≤ 26000
  | .leaf, _, _, _, _, h => absurd rfl h
  | .inner k i v l r, n, x, y, h, _ => by
    unfold kbF at h
    by_cases c : n < 26000
    · rw [if_pos c] at h
      cases r with
      | leaf => simp [rs_r]; omega
      | inner k2 i2 v2 l2 r2 =>
        cases hr : kbF z es (.inner k2 i2 v2 l2 r2) (n + 1) x with
        | none => rw [hr] at h; exact nomatch h
        | some w =>
          have := kbF_len hr (by simp)
          simp [rs_r] at this ⊢
          omega
    · rw [if_neg c] at h
      exact nomatch h
theorem m_isK_179 (d : Nat) (g : Int32) : ∀ (t : tr_) (n : Nat) (s : mm_S), CR z s (ts, es, sv, q) → Rc z t → (t ≠ .leaf → n + (rs_r t).length ≤ 26000) → ∃ s', mJ (d + 3) 51 179 [vr_ (some 0), vi_ g, vi_ (nI n), vi_ (rt_ t)] [] s = mJ (d + 3) 51 11 [vr_ (some 0), vi_ g, vi_ (nI (n + (rs_r t).length))] [] s' ∧ CR z s' (ts, es, sv, q) ∧ WK s' n t ∧ ∀ j, j < n → s' 60 j = s 60 j
  | .leaf, n, s, h, _, _ => by
    refine ⟨s, ?_, h, trivial, fun _ _ => rfl⟩
    rw [mj_isK_179, if_pos (by unfold rt_; decide)]
    rfl
  | .inner k i v l r, n, s, h, ht, hl => by
    have hn := hl (by simp)
    simp only [rs_r, List.length_cons] at hn
    obtain ⟨⟨hi, _⟩, ⟨_, _, _, e28, _⟩, _, hr⟩ := ht
    rw [show rt_ (.inner k i v l r : tr_) = nI i from rfl, mj_isK_179]
    rw [if_neg (by rw [nlt1_ 0 (by omega) (by decide)]; omega), mm_w_n (by omega) (by decide), Option.bind_some, mm_a_n hi (by decide), Option.bind_some]
    have h1 := CR_w h (f := 60) (i := n) (nI i) (by omega)
    rw [h1.1 28 i (by unfold kS; omega) (by unfold kD; omega), e28, nI_1]
    obtain ⟨s', a, b, c, e⟩ := m_isK_179 d g r (n + 1) _ h1 hr (fun _ => by omega)
    refine ⟨s', ?_, b, ⟨?_, c⟩, fun j hj => (e j (by omega)).trans (mu_n (by omega))⟩
    · rw [a]
      simp only [rs_r, List.length_cons]
      rw [show n + 1 + (rs_r r).length = n + ((rs_r r).length + 1) by omega]
    · exact (e n (by omega)).trans mu_s
theorem kbd_110 (d : Nat) {k : Nat} (hk : k < 100) {A : mm_O} {J : Int32 → mm_O} {a : Int32} (h1 : kbd k a = true → A = J 1) (h0 : kbd k a = false → A = J 0) : A = J (zb_ (kbd k a)) := by
  cases h : kbd k a with
  | true => exact h1 h
  | false => exact h0 h
/-- one node is looked at -/
theorem m_isK_11 (d : Nat) {k i : Nat} {v : Nat × Int32 × Nat × Nat × Bool} {l r : tr_} {n : Nat} {s : mm_S} {g g' : Bool} {q q' : mm_S} (h : CR z s (ts, es, sv, q)) (ht : Rc z (.inner k i v l r)) (hn : n < 26000) (hw : s 60 n = nI i) (hk : kbO z es k i (nI v.1) (g, q) = some (g', q')) : ∃ s', mJ (d + 3) 51 11 [vr_ (some 0), vi_ (zb_ g), vi_ (nI (n + 1))] [] s = (if k = 4 then mJ (d + 3) 51 11 [vr_ (some 0), vi_ (zb_ g'), vi_ (nI n)] [] s' else mJ (d + 3) 51 179 [vr_ (some 0), vi_ (zb_ g'), vi_ (nI n), vi_ (rt_ l)] [] s') ∧ CR z s' (ts, es, sv, q') ∧ ∀ f j, f ≠ 0 → s' f j = s f j := by
  obtain ⟨⟨hi, hk1⟩, ⟨e25, e26, e27, e28, _⟩, hl, hr⟩ := ht
  have bI : ∀ (v : Int32) (s : mm_S) (K : Int32 → mm_S → mm_O), mm_bI (some (some (vi_ v), s)) K = K v s := fun _ _ _ => rfl
  have h25 : s 25 i = nI k := (h.1 25 i (by unfold kS; omega) (by unfold kD; omega)).trans e25
  have h26 : s 26 i = nI v.1 := (h.1 26 i (by unfold kS; omega) (by unfold kD; omega)).trans e26
  have h29 : s 29 i = q 29 i := h.2.1 29 i (by unfold kD; omega)
  have E : ∀ m : Nat, m < 2 ^ 31 → (nI k = OfNat.ofNat m) = (k = m) := fun m hm => neq1_ m (by omega) hm
  have s1 : mJ (d + 3) 51 11 [vr_ (some 0), vi_ (zb_ g), vi_ (nI (n + 1))] [] s = mJ (d + 3) 51 110 [vr_ (some 0), vi_ (zb_ g), vi_ (nI n), vi_ (nI i), vi_ (nI k)] [vi_ (zb_ (kbd k (q 29 i)))] s := by
    rw [mj_isK_11, if_pos (by rw [nlt2_ 0 (by omega) (by omega)]; omega), show (nI (n + 1) + -1 : Int32) = nI n from (Int32.sub_eq_add_neg _ _).symm.trans (nI_pred _), mm_a_n hn (by decide), Option.bind_some, hw, mm_a_n hi (by decide), Option.bind_some, h25, mm_a_n hi (by decide), Option.bind_some, Option.bind_some, h29]
    unfold kbd
    simp only [E 6 (by decide), E 7 (by decide), E 8 (by decide), E 4 (by decide), E 5 (by decide), E 3 (by decide), E 9 (by decide)]
    by_cases c6 : k = 6
    · rw [if_pos c6, if_pos c6]; rfl
    rw [if_neg c6, if_neg c6]
    by_cases c7 : k = 7
    · rw [if_pos c7, if_pos c7]; rfl
    rw [if_neg c7, if_neg c7]
    by_cases c8 : k = 8
    · rw [if_pos c8, if_pos c8]; rfl
    rw [if_neg c8, if_neg c8]
    by_cases c4 : k = 4
    · rw [if_pos c4, if_pos c4]; rfl
    rw [if_neg c4, if_neg c4]
    by_cases c5 : k = 5
    · rw [if_pos c5, if_pos c5]; rfl
    rw [if_neg c5, if_neg c5]
    by_cases c3 : k = 3
    · rw [if_pos c3, if_pos c3]; rfl
    rw [if_neg c3, if_neg c3]
    by_cases c9 : k = 9
    · rw [if_pos c9, if_pos c9]
      by_cases a1 : q 29 i = 18
      · rw [if_pos a1, if_pos a1]; rfl
      rw [if_neg a1, if_neg a1]
      by_cases a2 : q 29 i = 19
      · rw [if_pos a2, if_pos a2]; rfl
      rw [if_neg a2, if_neg a2]; rfl
    rw [if_neg c9, if_neg c9]; rfl
  rw [s1]
  clear s1
  -- behind the first fault
  have two : ∀ (s : mm_S) (g g' : Bool) (q : mm_S), CR z s (ts, es, sv, q) → (if k = 1 then (kn_ z es i (nI v.1) q).bind fun w => some (w.1 && g, w.2) else some (g, q)) = some (g', q') → ∃ s', mJ (d + 3) 51 136 [vr_ (some 0), vi_ (zb_ g), vi_ (nI n), vi_ (nI i), vi_ (nI k)] [] s = (if k = 4 then mJ (d + 3) 51 11 [vr_ (some 0), vi_ (zb_ g'), vi_ (nI n)] [] s' else mJ (d + 3) 51 179 [vr_ (some 0), vi_ (zb_ g'), vi_ (nI n), vi_ (rt_ l)] [] s') ∧ CR z s' (ts, es, sv, q') ∧ ∀ f j, f ≠ 0 → s' f j = s f j := by
    intro s g g' q h hk
    have h27 : ∀ s1, CR z s1 (ts, es, sv, q') → s1 27 i = rt_ l := fun s1 h => (h.1 27 i (by unfold kS; omega) (by unfold kD; omega)).trans e27
    rw [mj_isK_136]
    simp only [E 1 (by decide), E 4 (by decide)]
    by_cases c1 : k = 1
    · rw [if_pos c1] at hk ⊢
      have c4 : ¬ k = 4 := by omega
      cases hn : kn_ z es i (nI v.1) q with
      | none => rw [hn] at hk; exact nomatch hk
      | some w =>
        obtain ⟨g1, q1⟩ := w
        rw [hn] at hk
        cases hk
        obtain ⟨s1, a, b, c⟩ := m_isKName h d hi e26 hn
        rw [a, bI]
        simp only [if_neg c4]
        refine ⟨s1, ?_, b, c⟩
        have z0 : (zb_ false = 0) := rfl
        have z1 : ¬ (zb_ true = 0) := by decide
        cases g1 with
        | false =>
          rw [if_pos z0, mm_a_n hi (by decide), Option.bind_some, h27 s1 b]
          rfl
        | true =>
          rw [if_neg z1]
          cases g with
          | false => rw [if_pos z0, mm_a_n hi (by decide), Option.bind_some, h27 s1 b]; rfl
          | true => rw [if_neg z1, mm_a_n hi (by decide), Option.bind_some, h27 s1 b]; rfl
    · rw [if_neg c1] at hk ⊢
      cases hk
      refine ⟨s, ?_, h, fun _ _ _ => rfl⟩
      rw [mm_a_n hi (by decide), Option.bind_some, h27 s h]
  unfold kbO at hk
  rw [mj_isK_110]
  cases hb : kbd k (q 29 i) with
  | false =>
    rw [hb] at hk
    rw [if_pos (by rfl)]
    exact two s g g' q h hk
  | true =>
    rw [hb] at hk
    rw [if_neg (by decide), mm_a_n hi (by decide), Option.bind_some, h26]
    simp only [if_pos] at hk
    cases hf : ft_ z 6 (nI v.1) q with
    | none => rw [hf] at hk; exact nomatch hk
    | some q1 =>
      rw [hf] at hk
      obtain ⟨s2, a, b, c⟩ := m_ft h (d + 1) 6 (nI v.1) (fun s4 => mJ (d + 3) 51 136 [vr_ (some 0), vi_ 0, vi_ (nI n), vi_ (nI i), vi_ (nI k)] [] s4) hf
      obtain ⟨s3, a3, b3, c3⟩ := two s2 false g' q1 b hk
      exact ⟨s3, a.trans a3, b3, fun f j hf => (c3 f j hf).trans (c f j hf)⟩
theorem m_isK_F (d : Nat) : ∀ (t : tr_) (n : Nat) (s : mm_S) (g g' : Bool) (q q' : mm_S), CR z s (ts, es, sv, q) → Rc z t → WK s n t → kbF z es t n (g, q) = some (g', q') → ∃ s', mJ (d + 3) 51 11 [vr_ (some 0), vi_ (zb_ g), vi_ (nI (n + (rs_r t).length))] [] s = mJ (d + 3) 51 11 [vr_ (some 0), vi_ (zb_ g'), vi_ (nI n)] [] s' ∧ CR z s' (ts, es, sv, q') ∧ ∀ j, j < n → s' 60 j = s 60 j
  | .leaf, n, s, g, g', q, q', h, _, _, hk => by
    unfold kbF at hk
    cases hk
    exact ⟨s, rfl, h, fun _ _ => rfl⟩
  | .inner k i v l r, n, s, g, g', q, q', h, ht, hw, hk => by
    unfold kbF at hk
    by_cases c : n < 26000
    · rw [if_pos c] at hk
      cases h1 : kbF z es r (n + 1) (g, q) with
      | none => rw [h1] at hk; exact nomatch hk
      | some y =>
        rw [h1, Option.bind_some] at hk
        obtain ⟨g1, q1⟩ := y
        cases h2 : kbO z es k i (nI v.1) (g1, q1) with
        | none => rw [h2] at hk; exact nomatch hk
        | some w =>
          rw [h2, Option.bind_some] at hk
          obtain ⟨g2, q2⟩ := w
          obtain ⟨s1, a1, b1, c1⟩ := m_isK_F d r (n + 1) s g g1 q q1 h ht.2.2.2 hw.2 h1
          obtain ⟨s2, a2, b2, c2⟩ := m_isK_11 d b1 ht c ((c1 n (by omega)).trans hw.1) h2
          have a0 : mJ (d + 3) 51 11 [vr_ (some 0), vi_ (zb_ g), vi_ (nI (n + (rs_r (.inner k i v l r : tr_)).length))] [] s = mJ (d + 3) 51 11 [vr_ (some 0), vi_ (zb_ g1), vi_ (nI (n + 1))] [] s1 := by
            rw [← a1]
            simp only [rs_r, List.length_cons]
            rw [show n + 1 + (rs_r r).length = n + ((rs_r r).length + 1) by omega]
          rw [a0, a2]
          by_cases c4 : k = 4
          · rw [if_pos c4] at hk ⊢
            cases hk
            exact ⟨s2, rfl, b2, fun j hj => (c2 60 j (by decide)).trans (c1 j (by omega))⟩
          · rw [if_neg c4] at hk ⊢
            obtain ⟨s3, a3, b3, w3, c3⟩ := m_isK_179 d (zb_ g2) l n s2 b2 ht.2.2.1 (fun hl => kbF_len hk hl)
            obtain ⟨s4, a4, b4, c4'⟩ := m_isK_F d l n s3 g2 g' q2 q' b3 ht.2.2.1 w3 hk
            exact ⟨s4, a3.trans a4, b4, fun j hj => (c4' j hj).trans ((c3 j hj).trans ((c2 60 j (by decide)).trans (c1 j (by omega))))⟩
    · rw [if_neg c] at hk
      exact nomatch hk
theorem m_isK (d : Nat) {t : tr_} {g' : Bool} {q' : mm_S} (h : CR z s (ts, es, sv, q)) (ht : Rc z t) (hk : kb1 z es t (true, q) = some (g', q')) : ∃ s', mE (d + 3) 51 [vr_ (some 0), vi_ (rt_ t)] s = some (some (vi_ (zb_ g')), s') ∧ CR z s' (ts, es, sv, q') := by
  cases t with
  | leaf => exact nomatch hk
  | inner k i v l r =>
    dsimp only [kb1] at hk
    cases h2 : kbO z es k i (nI v.1) (true, q) with
    | none => rw [h2] at hk; exact nomatch hk
    | some w =>
      rw [h2, Option.bind_some] at hk
      obtain ⟨g2, q2⟩ := w
      rw [show rt_ (.inner k i v l r : tr_) = nI i from rfl, me_isK, show (mm_w 26000 60 0 (nI i) s) = some (mm_u s 60 0 (nI i)) from mm_w_n (n := 0) (by decide) (by decide), Option.bind_some]
      have h1 := CR_w h (f := 60) (i := 0) (nI i) (by omega)
      obtain ⟨s2, a2, b2, c2⟩ := m_isK_11 d (n := 0) (g := true) h1 ht (by decide) mu_s h2
      have fin : ∀ s, mJ (d + 3) 51 11 [vr_ (some 0), vi_ (zb_ g'), vi_ (nI 0)] [] s = some (some (vi_ (zb_ g')), s) := fun s => by
        rw [mj_isK_11, if_neg (by decide)]
        cases g' <;> rfl
      suffices H : ∃ s', (if k = 4 then mJ (d + 3) 51 11 [vr_ (some 0), vi_ (zb_ g2), vi_ (nI 0)] [] s2 else mJ (d + 3) 51 179 [vr_ (some 0), vi_ (zb_ g2), vi_ (nI 0), vi_ (rt_ l)] [] s2) = some (some (vi_ (zb_ g')), s') ∧ CR z s' (ts, es, sv, q') from H.elim fun s' hs => ⟨s', a2.trans hs.1, hs.2⟩
      by_cases c4 : k = 4
      · rw [if_pos c4] at hk ⊢
        cases hk
        exact ⟨s2, fin s2, b2⟩
      · rw [if_neg c4] at hk ⊢
        obtain ⟨s3, a3, b3, w3, c3⟩ := m_isK_179 d (zb_ g2) l 0 s2 b2 ht.2.2.1 (fun hl => kbF_len hk hl)
        obtain ⟨s4, a4, b4, c4'⟩ := m_isK_F d l 0 s3 g2 g' q2 q' b3 ht.2.2.1 w3 hk
        exact ⟨s4, (a3.trans a4).trans (fin s4), b4⟩
end KisK
