/-! ===== nodes are made: leaf, shut ===== -/
section PRshut
variable {K : Nat → Nat} {V : Nat → Int32} {N : Nat} {lx : Bool} {s : mm_S} {gs : List gl_} {os : List tr_} {p dp n : Nat} {sc : List (Int32 × Nat)} {r : pe_}
theorem m_node (d k tok : Nat) (a : Int32) (h : s 0 24 = nI n) (hn : n < 26000) (hk : k < 100) : ∃ s', mE (d + 1) 20 [vr_ (some 0), vi_ (nI k), vi_ (nI tok), vi_ a] s = some (some (vi_ (nI n)), s') ∧ (∀ f j, ¬ (f = 0 ∧ j = 24) → ¬ (25 ≤ f ∧ f ≤ 35 ∧ j = n) → s' f j = s f j) ∧
    s' 0 24 = nI (n + 1) ∧ s' 25 n = nI k ∧ s' 26 n = nI tok ∧ s' 27 n = -1 ∧ s' 28 n = -1 ∧ s' 29 n = a ∧ s' 33 n = 0 ∧ s' 34 n = nI tok ∧ s' 35 n = 0 := by
  rw [me_node, h, nI_1]
  have e8 : ((nI k).toInt8.toInt32).toInt8.toInt32 = nI k := by rw [i8_i8]; exact by_128 k (by omega)
  simp only [mm_w_n hn (show 26000 < 2 ^ 31 by decide), Option.bind_some, e8]
  refine ⟨_, rfl, ?_, ?_, ?_, ?_, ?_, ?_, ?_, ?_, ?_, ?_⟩
  · intro f j h1 h2
    rw [mu_n (by omega), mu_n (by omega), mu_n (by omega), mu_n (by omega), mu_n (by omega), mu_n (by omega), mu_n (by omega), mu_n (by omega), mu_n (by omega), mu_n (by omega), mu_n (by omega)]
  all_goals simp [mm_u]
theorem q_leaf {d : Nat} {kk : mm_S → mm_O} (k tok : Nat) (a : Int32) (h : PR K V N lx s (gs, os, p, dp, sc, n)) (hn : n < 26000) (hk : k < 100 ∧ k ≠ 20) (ht : tok < 2 ^ 31) (hc : ∀ s1, PR K V N lx s1 (gs, lf_ k tok a n :: os, p, dp, sc, n + 1) → pq_ K V N lx r (kk s1)) : pq_ K V N lx r (mm_bV (mE (d + 2) 21 [vr_ (some 0), vi_ (nI k), vi_ (nI tok), vi_ a] s) kk) := by
  obtain ⟨t, ⟨a1, a2, a3, a4, a5, a6⟩, b, hG, c, o⟩ := h
  obtain ⟨s', e, fr, f24, f25, f26, f27, f28, f29, f33, f34, f35⟩ := m_node d k tok a a6 hn hk.1
  have hol := PO_len o
  rw [me_leaf, e]
  simp only [mm_bI, a2]
  rw [mm_w_n (by omega) (by decide), Option.bind_some]
  have e2 : mm_u s' 36 os.length (nI n) 0 37 = nI os.length := by rw [mu_n (by omega), fr _ _ (by omega) (by omega), a2]
  rw [e2, nI_1]
  have go : ∀ f j, ¬ (f = 0 ∧ (j = 24 ∨ j = 37)) → ¬ (25 ≤ f ∧ f ≤ 35 ∧ j = n) → ¬ (f = 36 ∧ j = os.length) → mm_u (mm_u s' 36 os.length (nI n)) 0 37 (nI (os.length + 1)) f j = s f j := fun f j h1 h2 h3 => by
    rw [mu_n (by omega), mu_n h3, fr _ _ (by omega) h2]
  refine hc _ ⟨PT_fr t (go _ _ (by omega) (by omega) (by omega)) (go _ _ (by omega) (by omega) (by omega)) (funext fun j => go _ _ (by omega) (by omega) (by omega)) (funext fun j => go _ _ (by omega) (by omega) (by omega)), ⟨?_, mu_s, ?_, ?_, ?_, ?_⟩, b, PG_fr (fun f j _ _ _ => go _ _ (by omega) (by omega) (by omega)) hG, PX_fr (fun f j _ _ _ => go _ _ (by omega) (by omega) (by omega)) c, n, by omega, ?_, ⟨k, n, (tok, a, 0, tok, false), .leaf, rfl⟩, ?_, by simp [ix_, lf_], PO_fr (fun j hj => go _ _ (by omega) (by omega) (by omega)) (fun f j _ _ hj => go _ _ (by omega) (by omega) (by omega)) o⟩
  · exact (go _ _ (by omega) (by omega) (by omega)).trans a1
  · exact (go _ _ (by omega) (by omega) (by omega)).trans a3
  · exact (go _ _ (by omega) (by omega) (by omega)).trans a4
  · exact (go _ _ (by omega) (by omega) (by omega)).trans a5
  · rw [mu_n (by omega), mu_n (by omega), f24]
  · rw [mu_n (by omega), mu_s]; rfl
  · have g : ∀ f, 25 ≤ f → f ≤ 35 → mm_u (mm_u s' 36 os.length (nI n)) 0 37 (nI (os.length + 1)) f n = s' f n := fun f h1 h2 => by rw [mu_n (by omega), mu_n (by omega)]
    refine ⟨⟨Nat.le_refl _, by omega⟩, ⟨hk.1, ht, show (0 : Nat) < 2 ^ 31 by decide, ht⟩, ⟨?_, ?_, ?_, ?_, ?_, ?_, ?_, ?_⟩, fun e => absurd e hk.2, trivial, trivial⟩
    · exact (g _ (by omega) (by omega)).trans f25
    · exact (g _ (by omega) (by omega)).trans f26
    · exact (g _ (by omega) (by omega)).trans f27
    · exact (g _ (by omega) (by omega)).trans f28
    · exact (g _ (by omega) (by omega)).trans f29
    · exact (g _ (by omega) (by omega)).trans f33
    · exact (g _ (by omega) (by omega)).trans f34
    · exact (g _ (by omega) (by omega)).trans f35
/-- nodes that wait, the first one first -/
def QO (s : mm_S) : Nat → List tr_ → Nat → Nat → Prop
  | _, [], lo, hi => lo ≤ hi
  | j, t :: r, lo, hi => ∃ mid, lo < mid ∧ s 36 j = rt_ t ∧ sg_r t ∧ Rp s lo mid t ∧ (ix_ t).Nodup ∧ QO s (j + 1) r mid hi
theorem QO_le {s : mm_S} : ∀ {x : List tr_} {j lo hi : Nat}, QO s j x lo hi → lo ≤ hi
  | [], _, _, _, h => h
  | t :: x, j, lo, hi, h => by
    obtain ⟨m, a, _, _, _, _, h⟩ := h
    have := QO_le h
    omega
theorem QO_app {s : mm_S} {t : tr_} {mid hi : Nat} (h1 : mid < hi) (h3 : sg_r t) (h4 : Rp s mid hi t) (h5 : (ix_ t).Nodup) : ∀ {x : List tr_} {j lo : Nat}, QO s j x lo mid → s 36 (j + x.length) = rt_ t → QO s j (x ++ [t]) lo hi
  | [], j, lo, h, h2 => ⟨hi, Nat.lt_of_le_of_lt h h1, by simpa using h2, h3, Rp_wd h (Nat.le_refl _) h4, h5, Nat.le_refl _⟩
  | u :: x, j, lo, h, h2 => by
    obtain ⟨m, a, b, c, e, f, h⟩ := h
    exact ⟨m, a, b, c, e, f, QO_app h1 h3 h4 h5 h (by rw [← h2]; congr 1; simp; omega)⟩
theorem PO_split {s : mm_S} {rest : List tr_} : ∀ {a : List tr_} {n : Nat}, PO s (a ++ rest) n → ∃ lo, QO s rest.length a.reverse lo n ∧ PO s rest lo
  | [], n, h => ⟨n, Nat.le_refl _, h⟩
  | t :: a, n, h => by
    obtain ⟨lo1, h1, h2, h3, h4, h5, h⟩ := h
    obtain ⟨lo, q, po⟩ := PO_split h
    refine ⟨lo, ?_, po⟩
    rw [List.reverse_cons]
    refine QO_app h1 h3 h4 h5 q ?_
    rw [← h2]
    congr 1
    simp
    omega
theorem QO_fr {s s' : mm_S} : ∀ {x : List tr_} {j lo hi : Nat}, (∀ i, s' 36 i = s 36 i) → (∀ f i, 25 ≤ f → f ≤ 35 → lo ≤ i → i < hi → s' f i = s f i) → QO s j x lo hi → QO s' j x lo hi
  | [], _, _, _, _, _, h => h
  | t :: x, j, lo, hi, h36, hf, h => by
    obtain ⟨m, a, b, c, e, f, h⟩ := h
    have := QO_le h
    exact ⟨m, a, by rw [h36, b], c, Rp_fr (fun f i x y z => hf f i x y (Rp_ix e i z).1 (by have := (Rp_ix e i z).2; omega)) e, f, QO_fr h36 (fun f i x y z w => hf f i x y (by omega) w) h⟩
theorem lk_app (t : tr_) : ∀ x : List tr_, lkT (x ++ [t]) = sn_ (lkT x) t
  | [] => by
    show sn_ t .leaf = t
    induction t with
    | leaf => rfl
    | inner k i v l r _ ih => simp only [sn_, ih]
  | u :: x => by
    show sn_ u (lkT (x ++ [t])) = sn_ (sn_ u (lkT x)) t
    rw [lk_app t x]
    generalize lkT x = y
    induction u with
    | leaf => rfl
    | inner k i v l r _ ih => simp only [sn_, ih]
theorem fm_app (t : tr_) : ∀ (x : List tr_) (m : Nat), fm_ m (x ++ [t]) = if fi_ t < fm_ m x then fi_ t else fm_ m x
  | [], m => rfl
  | u :: x, m => fm_app t x _
theorem la_sn {k i : Nat} {v} {l : tr_} : ∀ t : tr_, la_ (sn_ t (.inner k i v l .leaf)) = i
  | .leaf => rfl
  | .inner _ _ _ _ .leaf => rfl
  | .inner a b c e (.inner a' b' c' e' r) => by
    show la_ (.inner a b c e (.inner a' b' c' e' (sn_ r (.inner k i v l .leaf)))) = i
    exact la_sn (.inner a' b' c' e' r)
theorem fm_lt {m : Nat} : ∀ {x : List tr_} {b : Nat}, m < b → (∀ t, t ∈ x → fi_ t < b) → fm_ m x < b
  | [], _, h, _ => h
  | t :: x, b, h, hx => by
    unfold fm_
    refine fm_lt ?_ (fun u hu => hx u (List.mem_cons_of_mem _ hu))
    split
    · exact hx t (by simp)
    · exact h
/-- the loop of shut -/
theorem m_shut_loop (d : Nat) {base tok lo0 : Nat} (ht : tok < 2 ^ 31) (hn : n < 26000) : ∀ (todo done : List tr_) (s : mm_S) (mid : Nat), s 0 37 = nI (base + done.length + todo.length) → base + done.length + todo.length ≤ n →
    QO s (base + done.length) todo mid n → lo0 ≤ mid → Rp s lo0 mid (lkT done) → (ix_ (lkT done)).Nodup → (∀ t, t ∈ done → sg_r t) → (done ≠ [] → s 36 (base + done.length - 1) = nI (la_ (lkT done)) ∧ lkT done ≠ .leaf) → s 27 n = rt_ (lkT done) → s 34 n = nI (fm_ tok done) → fm_ tok done < 2 ^ 31 →
    ∃ s', mJ (d + 1) 22 13 [vr_ (some 0), vi_ (nI base), vi_ (nI n), vi_ (nI (base + done.length))] [] s = some (some (vi_ (nI n)), s') ∧
      (∀ f j, ¬ (f = 0 ∧ j = 37) → ¬ (f = 36 ∧ j = base) → ¬ (f = 27 ∧ j = n) → ¬ (f = 34 ∧ j = n) → ¬ (f = 28 ∧ lo0 ≤ j ∧ j < n) → s' f j = s f j) ∧ s' 0 37 = nI (base + 1) ∧ s' 36 base = nI n ∧
      Rp s' lo0 n (lkT (done ++ todo)) ∧ (ix_ (lkT (done ++ todo))).Nodup ∧ s' 27 n = rt_ (lkT (done ++ todo)) ∧ s' 34 n = nI (fm_ tok (done ++ todo)) ∧ fm_ tok (done ++ todo) < 2 ^ 31 := by
  intro todo
  induction todo with
  | nil =>
    intro done s mid h37 hbn hQ hlo hR hN hsg hlast h27 h34 hfm
    simp only [List.length_nil, Nat.add_zero] at h37 hbn
    rw [mj_shut_13, h37, if_neg (nI_nlt (Nat.le_refl _) (by omega)), mm_w_n (by omega) (by decide), Option.bind_some]
    have e : mm_u (mm_u s 0 37 (nI base)) 36 base (nI n) 0 37 = nI base := by rw [mu_n (by omega), mu_s]
    rw [e, nI_1]
    have go : ∀ f j, ¬ (f = 0 ∧ j = 37) → ¬ (f = 36 ∧ j = base) → mm_u (mm_u (mm_u s 0 37 (nI base)) 36 base (nI n)) 0 37 (nI (base + 1)) f j = s f j := fun f j h1 h2 => by rw [mu_n h1, mu_n h2, mu_n h1]
    rw [List.append_nil]
    refine ⟨_, rfl, fun f j h1 h2 _ _ _ => go f j h1 h2, mu_s, ?_, Rp_wd (Nat.le_refl _) (QO_le hQ) (Rp_fr (fun f i _ _ _ => go f i (by omega) (by omega)) hR), hN, ?_, ?_, hfm⟩
    · rw [mu_n (by omega), mu_s]
    · rw [go _ _ (by omega) (by omega), h27]
    · rw [go _ _ (by omega) (by omega), h34]
  | cons t todo ih =>
    intro done s mid h37 hbn hQ hlo hR hN hsg hlast h27 h34 hfm
    obtain ⟨mid2, q1, q2, ⟨tk, ti, tv, tl, rfl⟩, q4, q5, q6⟩ := hQ
    simp only [List.length_cons] at h37 hbn
    have hmn := QO_le q6
    have ti2 : mid ≤ ti ∧ ti < mid2 := q4.1
    have q2 : s 36 (base + done.length) = nI ti := q2
    have hfi : fi_ (.inner tk ti tv tl .leaf : tr_) < 2 ^ 31 := q4.2.1.2.2.2
    have hf34 : s 34 ti = nI (fi_ (.inner tk ti tv tl .leaf : tr_)) := q4.2.2.1.2.2.2.2.2.2.1
    have hap : done ++ (.inner tk ti tv tl .leaf : tr_) :: todo = (done ++ [(.inner tk ti tv tl .leaf : tr_)]) ++ todo := by simp
    rw [mj_shut_13, h37, if_pos (nI_lt (by omega) (by omega))]
    -- behind the link
    have key : ∀ s1 : mm_S, (∀ f j, ¬ (f = 27 ∧ j = n) → ¬ (f = 28 ∧ lo0 ≤ j ∧ j < n) → s1 f j = s f j) → Rp s1 lo0 mid2 (lkT (done ++ [(.inner tk ti tv tl .leaf : tr_)])) → (ix_ (lkT (done ++ [(.inner tk ti tv tl .leaf : tr_)]))).Nodup → s1 27 n = rt_ (lkT (done ++ [(.inner tk ti tv tl .leaf : tr_)])) → (∀ j, mid2 ≤ j → s1 28 j = s 28 j) →
        ∃ s', mJ (d + 1) 22 66 [vr_ (some 0), vi_ (nI base), vi_ (nI n), vi_ (nI (base + done.length))] [] s1 = some (some (vi_ (nI n)), s') ∧
      (∀ f j, ¬ (f = 0 ∧ j = 37) → ¬ (f = 36 ∧ j = base) → ¬ (f = 27 ∧ j = n) → ¬ (f = 34 ∧ j = n) → ¬ (f = 28 ∧ lo0 ≤ j ∧ j < n) → s' f j = s f j) ∧ s' 0 37 = nI (base + 1) ∧ s' 36 base = nI n ∧
      Rp s' lo0 n (lkT (done ++ (.inner tk ti tv tl .leaf : tr_) :: todo)) ∧ (ix_ (lkT (done ++ (.inner tk ti tv tl .leaf : tr_) :: todo))).Nodup ∧ s' 27 n = rt_ (lkT (done ++ (.inner tk ti tv tl .leaf : tr_) :: todo)) ∧ s' 34 n = nI (fm_ tok (done ++ (.inner tk ti tv tl .leaf : tr_) :: todo)) ∧ fm_ tok (done ++ (.inner tk ti tv tl .leaf : tr_) :: todo) < 2 ^ 31 := by
      intro s1 f1 r1 n1 c1 g28
      have w36 : s1 36 (base + done.length) = nI ti := by rw [f1 _ _ (by omega) (by omega), q2]
      have w34 : s1 34 ti = nI (fi_ (.inner tk ti tv tl .leaf : tr_)) := by rw [f1 _ _ (by omega) (by omega), hf34]
      have w34n : s1 34 n = nI (fm_ tok done) := by rw [f1 _ _ (by omega) (by omega), h34]
      have fin : ∀ s2 : mm_S, (∀ f j, ¬ (f = 34 ∧ j = n) → s2 f j = s1 f j) → s2 34 n = nI (fm_ tok (done ++ [(.inner tk ti tv tl .leaf : tr_)])) → fm_ tok (done ++ [(.inner tk ti tv tl .leaf : tr_)]) < 2 ^ 31 →
          ∃ s', mJ (d + 1) 22 13 [vr_ (some 0), vi_ (nI base), vi_ (nI n), vi_ (nI (base + done.length + 1))] [] s2 = some (some (vi_ (nI n)), s') ∧
      (∀ f j, ¬ (f = 0 ∧ j = 37) → ¬ (f = 36 ∧ j = base) → ¬ (f = 27 ∧ j = n) → ¬ (f = 34 ∧ j = n) → ¬ (f = 28 ∧ lo0 ≤ j ∧ j < n) → s' f j = s f j) ∧ s' 0 37 = nI (base + 1) ∧ s' 36 base = nI n ∧
      Rp s' lo0 n (lkT (done ++ (.inner tk ti tv tl .leaf : tr_) :: todo)) ∧ (ix_ (lkT (done ++ (.inner tk ti tv tl .leaf : tr_) :: todo))).Nodup ∧ s' 27 n = rt_ (lkT (done ++ (.inner tk ti tv tl .leaf : tr_) :: todo)) ∧ s' 34 n = nI (fm_ tok (done ++ (.inner tk ti tv tl .leaf : tr_) :: todo)) ∧ fm_ tok (done ++ (.inner tk ti tv tl .leaf : tr_) :: todo) < 2 ^ 31 := by
        intro s2 f2 m2 b2
        have hl : base + (done ++ [(.inner tk ti tv tl .leaf : tr_)]).length = base + done.length + 1 := by simp; omega
        have ff : ∀ f j, ¬ (f = 27 ∧ j = n) → ¬ (f = 28 ∧ lo0 ≤ j ∧ j < n) → ¬ (f = 34 ∧ j = n) → s2 f j = s f j := fun f j a b c => (f2 f j c).trans (f1 f j a b)
        obtain ⟨s', w1, w2, w3⟩ := ih (done ++ [(.inner tk ti tv tl .leaf : tr_)]) s2 mid2 (by rw [ff _ _ (by omega) (by omega) (by omega), h37]; congr 1; omega) (by omega)
          (by
            rw [hl]
            refine QO_fr (s := s) (fun i => ff _ _ (by omega) (by omega) (by omega)) (fun f i x y z w => ?_) q6
            by_cases h28 : f = 28
            · subst h28; rw [f2 _ _ (by omega), g28 _ z]
            · exact ff _ _ (by omega) (by omega) (by omega)) (by omega)
          (Rp_fr (fun f i _ _ z => f2 _ _ (by have := (Rp_ix r1 i z).2; omega)) r1) n1
          (fun t ht => by
            rcases List.mem_append.mp ht with h | h
            · exact hsg t h
            · rw [List.mem_singleton.mp h]; exact ⟨_, _, _, _, rfl⟩)
          (fun _ => by
            rw [lk_app]
            refine ⟨?_, ?_⟩
            · rw [la_sn, show base + (done ++ [(.inner tk ti tv tl .leaf : tr_)]).length - 1 = base + done.length by simp, ff _ _ (by omega) (by omega) (by omega), q2]
            · cases lkT done <;> simp [sn_])
          (by rw [f2 _ _ (by omega), c1]) m2 b2
        rw [hl] at w1
        rw [hap]
        exact ⟨s', w1, fun f j a b c e g => (w2 f j a b c e g).trans (ff f j c g e), w3⟩
      rw [mj_shut_66, mm_a_n (by omega) (by decide), Option.bind_some, w36, mm_a_n (by omega) (by decide), Option.bind_some, mm_a_n (by omega) (by decide), Option.bind_some, w34, w34n, nI_1]
      simp only [nlt_ hfi hfm]
      by_cases hlt : fi_ (.inner tk ti tv tl .leaf : tr_) < fm_ tok done
      · rw [if_pos hlt, Option.bind_some, mm_a_n (by omega) (by decide), Option.bind_some, w34, mm_w_n (by omega) (by decide), Option.bind_some]
        refine fin _ (fun f j h => mu_n h) ?_ ?_
        · rw [mu_s, fm_app, if_pos hlt]
        · rw [fm_app, if_pos hlt]; exact hfi
      · rw [if_neg hlt]
        refine fin _ (fun f j h => rfl) ?_ ?_
        · rw [w34n, fm_app, if_neg hlt]
        · rw [fm_app, if_neg hlt]; exact hfm
    by_cases hd : done = []
    · subst hd
      have e0 : lkT ([] ++ [(.inner tk ti tv tl .leaf : tr_)]) = (.inner tk ti tv tl .leaf : tr_) := rfl
      have q2' : s 36 base = nI ti := q2
      simp only [List.length_nil, Nat.add_zero] at key ⊢
      rw [if_pos trivial, mm_a_n (by omega) (by decide), Option.bind_some, q2', mm_w_n (by omega) (by decide), Option.bind_some]
      refine key _ (fun f j h1 h2 => mu_n (by omega)) ?_ ?_ ?_ (fun j _ => mu_n (by omega))
      · rw [e0]
        exact Rp_wd hlo (Nat.le_refl _) (Rp_fr (fun f i _ _ z => mu_n (by have := (Rp_ix q4 i z).2; omega)) q4)
      · rw [e0]; exact q5
      · rw [mu_s, e0]; rfl
    · have hdl : 0 < done.length := List.length_pos_iff.mpr hd
      have hne : ¬ (nI (base + done.length) = nI base) := by rw [nI_eq (by omega) (by omega)]; omega
      obtain ⟨z1, z2⟩ := hlast hd
      have lai := Rp_ix hR _ (la_ix z2)
      rw [if_neg hne, show (nI (base + done.length) - 1 : Int32) = nI (base + done.length - 1) from nsb_ (a := base + done.length) (b := 1) (by omega), mm_a_n (by omega) (by decide), Option.bind_some, z1, mm_a_n (by omega) (by decide), Option.bind_some, q2, mm_w_n (by omega) (by decide), Option.bind_some]
      refine key _ (fun f j h1 h2 => mu_n (by omega)) ?_ ?_ ?_ (fun j _ => mu_n (by omega))
      · rw [lk_app]
        exact Rp_sn q4 hlo (by omega) z2 hR hN
      · rw [lk_app]
        refine (ix_sn _ _).nodup_iff.mpr (List.nodup_append.mpr ⟨hN, q5, fun a ha b hb => ?_⟩)
        have := Rp_ix hR a ha
        have := Rp_ix q4 b hb
        omega
      · rw [mu_n (by omega), h27, lk_app, rt_sn _ _ z2]
theorem m_shut (d k tok base : Nat) (a : Int32) (h : PR K V N lx s (gs, os, p, dp, sc, n)) (hn : n < 26000) (hk : k < 100) (ht : tok < 2 ^ 31) (hb : base ≤ os.length) :
    ∃ s' lo0, mE (d + 2) 22 [vr_ (some 0), vi_ (nI k), vi_ (nI tok), vi_ (nI base), vi_ a] s = some (some (vi_ (nI n)), s') ∧ (∀ f j, ¬ (25 ≤ f ∧ f ≤ 36) → ¬ (f = 0 ∧ (j = 24 ∨ j = 37)) → s' f j = s f j) ∧ s' 0 24 = nI (n + 1) ∧ s' 0 37 = nI (base + 1) ∧ s' 36 base = nI n ∧
      PO s' (os.drop (os.length - base)) lo0 ∧ lo0 ≤ n ∧ Rp s' lo0 n (lkT (os.take (os.length - base)).reverse) ∧ (ix_ (lkT (os.take (os.length - base)).reverse)).Nodup ∧
      s' 25 n = nI k ∧ s' 26 n = nI tok ∧ s' 27 n = rt_ (lkT (os.take (os.length - base)).reverse) ∧ s' 28 n = -1 ∧ s' 29 n = a ∧ s' 33 n = 0 ∧ s' 34 n = nI (fm_ tok (os.take (os.length - base)).reverse) ∧ s' 35 n = 0 ∧ fm_ tok (os.take (os.length - base)).reverse < 2 ^ 31 := by
  obtain ⟨t, ⟨a1, a2, a3, a4, a5, a6⟩, b, hG, c, o⟩ := h
  obtain ⟨s1, e, fr, f24, f25, f26, f27, f28, f29, f33, f34, f35⟩ := m_node (d + 0) k tok a a6 hn hk
  have hol := PO_len o
  rw [← List.take_append_drop (os.length - base) os] at o
  obtain ⟨lo0, q, po⟩ := PO_split o
  have hdl : (os.drop (os.length - base)).length = base := by rw [List.length_drop]; omega
  have htl : (os.take (os.length - base)).reverse.length = os.length - base := by rw [List.length_reverse, List.length_take]; omega
  rw [hdl] at q
  have hlo := QO_le q
  have q' : QO s1 base (os.take (os.length - base)).reverse lo0 n := QO_fr (fun i => fr _ _ (by omega) (by omega)) (fun f i _ _ _ _ => fr _ _ (by omega) (by omega)) q
  have po' : PO s1 (os.drop (os.length - base)) lo0 := PO_fr (fun j _ => fr _ _ (by omega) (by omega)) (fun f i _ _ _ => fr _ _ (by omega) (by omega)) po
  obtain ⟨s', w1, w2, w3, w4, w5, w6, w7, w8, w9⟩ := m_shut_loop (n := n) (d + 1) (base := base) (tok := tok) (lo0 := lo0) ht hn (os.take (os.length - base)).reverse [] s1 lo0
    (by rw [fr _ _ (by omega) (by omega), a2]; congr 1; rw [htl]; simp; omega) (by rw [htl]; simp; omega) (by simpa using q') (Nat.le_refl _) trivial (by simp [lkT, ix_]) (by simp) (fun h => absurd rfl h) (by rw [f27]; rfl) (by rw [f34]; rfl) (by exact ht)
  simp only [List.nil_append] at w5 w6 w7 w8 w9
  refine ⟨s', lo0, ?_, ?_, ?_, w3, w4, PO_fr (fun j hj => w2 _ _ (by omega) (by omega) (by omega) (by omega) (by omega)) (fun f i _ _ _ => w2 _ _ (by omega) (by omega) (by omega) (by omega) (by omega)) po', hlo, w5, w6, ?_, ?_, w7, ?_, ?_, ?_, w8, ?_, w9⟩
  · rw [me_shut]
    show mm_bI (mE (d + 1) 20 _ s) _ = _
    rw [e]
    exact w1
  · intro f j h1 h2
    rw [w2 _ _ (by omega) (by omega) (by omega) (by omega) (by omega), fr _ _ (by omega) (by omega)]
  · rw [w2 _ _ (by omega) (by omega) (by omega) (by omega) (by omega), f24]
  · rw [w2 _ _ (by omega) (by omega) (by omega) (by omega) (by omega), f25]
  · rw [w2 _ _ (by omega) (by omega) (by omega) (by omega) (by omega), f26]
  · rw [w2 _ _ (by omega) (by omega) (by omega) (by omega) (by omega), f28]
  · rw [w2 _ _ (by omega) (by omega) (by omega) (by omega) (by omega), f29]
  · rw [w2 _ _ (by omega) (by omega) (by omega) (by omega) (by omega), f33]
  · rw [w2 _ _ (by omega) (by omega) (by omega) (by omega) (by omega), f35]
theorem q_shut {d : Nat} {kk : Int32 → mm_S → mm_O} (k tok base : Nat) (a : Int32) (h : PR K V N lx s (gs, os, p, dp, sc, n)) (hn : n < 26000) (hk : k < 100 ∧ k ≠ 20) (ht : tok < 2 ^ 31) (hb : base ≤ os.length)
    (hc : ∀ s1, PR K V N lx s1 (sh_ k tok base a (gs, os, p, dp, sc, n)) → s1 29 n = a → pq_ K V N lx r (kk (nI n) s1)) : pq_ K V N lx r (mm_bI (mE (d + 2) 22 [vr_ (some 0), vi_ (nI k), vi_ (nI tok), vi_ (nI base), vi_ a] s) kk) := by
  obtain ⟨s', lo0, e, fr, f24, f37, f36, po, hlo, rp, nd, f25, f26, f27, f28, f29, f33, f34, f35, hfm⟩ := m_shut d k tok base a h hn hk.1 ht hb
  obtain ⟨t, ⟨a1, a2, a3, a4, a5, a6⟩, b, hG, c, o⟩ := h
  have hol := PO_len o
  have hdl : (os.drop (os.length - base)).length = base := by rw [List.length_drop]; omega
  rw [e]
  refine hc s' ⟨PT_fr t (fr _ _ (by omega) (by omega)) (fr _ _ (by omega) (by omega)) (funext fun j => fr _ _ (by omega) (by omega)) (funext fun j => fr _ _ (by omega) (by omega)), ⟨?_, ?_, ?_, ?_, ?_, f24⟩, b, PG_fr (fun f j _ _ _ => fr _ _ (by omega) (by omega)) hG, PX_fr (fun f j _ _ _ => fr _ _ (by omega) (by omega)) c, lo0, by omega, ?_, ⟨_, _, _, _, rfl⟩, ?_, ?_, po⟩ f29
  · exact (fr _ _ (by omega) (by omega)).trans a1
  · rw [f37, List.length_cons, hdl]
  · exact (fr _ _ (by omega) (by omega)).trans a3
  · exact (fr _ _ (by omega) (by omega)).trans a4
  · exact (fr _ _ (by omega) (by omega)).trans a5
  · rw [hdl, f36]; rfl
  · exact ⟨⟨hlo, by omega⟩, ⟨hk.1, ht, show (0 : Nat) < 2 ^ 31 by decide, hfm⟩, ⟨f25, f26, f27, f28, f29, f33, f34, f35⟩, fun e => absurd e hk.2, Rp_wd (Nat.le_refl _) (by omega) rp, trivial⟩
  · show (n :: (ix_ (lkT (os.take (os.length - base)).reverse) ++ [])).Nodup
    rw [List.append_nil, List.nodup_cons]
    exact ⟨fun hc => by have := (Rp_ix rp n hc).2; omega, nd⟩
end PRshut
